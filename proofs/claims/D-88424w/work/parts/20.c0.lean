set_option maxRecDepth 100000
set_option maxHeartbeats 4000000
def MX3_init (Γ : eb_C) (st : eb_S) (a0 : Nat) (K : eb_S → Prop) : Prop :=
  K st
abbrev rmX3_init : Room := { frames := 2, cells := 0, slots := 0, locals := 40 }
theorem nX3_init : eb_ar yX3_init 0 := by decide +kernel
theorem dX3_init_0 : eb_dc cX3_init 0 (.aload_n 0) 1 1 := by decide +kernel
theorem dX3_init_1 : eb_dc cX3_init 1 (.invokespecial 3) 3 4 := by decide +kernel
theorem dX3_init_4 : eb_dc cX3_init 4 (.return_) 1 5 := by decide +kernel
theorem ctX3_init {l : Launch} {Γ : eb_C} {st : eb_S} {a0 : Nat} {K : eb_S → Prop} (h : MX3_init Γ st a0 K) : eb_Ct l Γ yX3_init cX3_init 1 (none) rmX3_init [.ref a0] st (eb_oV K) := by
  refine eb_of (by decide) (Nat.le_of_ble_eq_true rfl) (fun X P hP hX0 => ?_)
  replace hX0 := hX0 rfl
  show eb_G l Γ P X cX3_init RX3 1 (none) rmX3_init 0 [(0, .ref a0)] [] st 0 0
  refine eg_aload_n 0 dX3_init_0 rfl rfl ?_
  refine eg_objInit q271 q104 q105 dX3_init_1 (Nat.le_of_ble_eq_true rfl) (Nat.le_of_ble_eq_true rfl) ?_
  exact eg_vret dX3_init_4 (Nat.zero_le _) (Nat.zero_le _) (hP _ _ ⟨rfl, h⟩)
def MX7_init (Γ : eb_C) (st : eb_S) (a0 : Nat) (a1 : Nat) (K : eb_S → Prop) : Prop :=
  MX3_init Γ st a0 (fun g2 => eb_pt g2 a0 6 0 (.ref a1) (fun g5 => K g5))
abbrev rmX7_init : Room := { frames := 3, cells := 0, slots := 0, locals := 60 }
theorem nX7_init : eb_ar yX7_init 1 := by decide +kernel
theorem dX7_init_0 : eb_dc cX7_init 0 (.aload_n 0) 1 1 := by decide +kernel
theorem dX7_init_1 : eb_dc cX7_init 1 (.invokespecial 1) 3 4 := by decide +kernel
theorem dX7_init_4 : eb_dc cX7_init 4 (.aload_n 0) 1 5 := by decide +kernel
theorem dX7_init_5 : eb_dc cX7_init 5 (.aload_n 1) 1 6 := by decide +kernel
theorem dX7_init_6 : eb_dc cX7_init 6 (.putfield 7) 3 9 := by decide +kernel
theorem dX7_init_9 : eb_dc cX7_init 9 (.return_) 1 10 := by decide +kernel
theorem ctX7_init {l : Launch} {Γ : eb_C} {st : eb_S} {a0 : Nat} {a1 : Nat} {K : eb_S → Prop} (h : MX7_init Γ st a0 a1 K) : eb_Ct l Γ yX7_init cX7_init 2 (none) rmX7_init [.ref a0, .ref a1] st (eb_oV K) := by
  refine eb_of (by decide) (Nat.le_of_ble_eq_true rfl) (fun X P hP hX0 => ?_)
  replace hX0 := hX0 rfl
  show eb_G l Γ P X cX7_init RX7 2 (none) rmX7_init 0 [(0, .ref a0), (1, .ref a1)] [] st 0 0
  refine eg_aload_n 0 dX7_init_0 rfl rfl ?_
  have hM0 := h
  clear h
  refine ec_INVw (rest := []) (ctX3_init hM0) q270 (List.mem_of_getElem? (i := 8) rfl) q79 q269 rfl nX3_init ⟨Nat.le_of_ble_eq_true rfl, Nat.le_of_ble_eq_true rfl⟩ ⟨rfl, rfl⟩ ⟨Nat.zero_le _, Nat.zero_le _⟩ rfl rfl (Nat.le_of_ble_eq_true rfl) dX7_init_1 (fun g2 h => ?_)
  clear hM0
  refine eg_aload_n 0 dX7_init_4 rfl rfl ?_
  refine eg_aload_n 1 dX7_init_5 rfl rfl ?_
  obtain ⟨fs, he, hlen, h⟩ := h
  refine eh_putF 0 in_X7 he rfl (Nat.le_of_ble_eq_true rfl) tyX7 tyX7_ok nmX7 q306 rfl rfl hX0 rfl rfl rfl hlen dX7_init_6 (fun g5 eg5 => ?_)
  replace h := h g5 eg5
  exact eg_vret dX7_init_9 (Nat.zero_le _) (Nat.zero_le _) (hP _ _ ⟨rfl, h⟩)
def MX7_is (Γ : eb_C) (st : eb_S) (a0 : Nat) (a1 : Int32) (a2 : Int32) (a3 : Int32) (K : Int32 → Prop) : Prop :=
  eb_gr st a0 6 0 (fun v1 => eb_nn v1 (fun p2 => eb_ln Γ st p2 0 (fun v3 => eb_gr st a0 6 0 (fun v4 => eb_nn v4 (fun p5 => eb_li Γ st p5 0 0 (fun v6 => eb_jp1 (fun (s7 : Int32) => eb_jp1 (fun (s8 : Int32) => eb_br (s7 = 0) (eb_br (s8 = 0) (K 0) (K 1)) (K 1)) (fun k11 => eb_br (v3 = 2) (eb_gr st a0 6 0 (fun v24 => eb_nn v24 (fun p25 => eb_li Γ st p25 0 0 (fun v26 => eb_br (v26 = a2) (eb_gr st a0 6 0 (fun v27 => eb_nn v27 (fun p28 => eb_li Γ st p28 0 1 (fun v29 => eb_br (v29 = a1) (k11 1) (k11 0))))) (k11 0))))) (eb_gr st a0 6 0 (fun v12 => eb_nn v12 (fun p13 => eb_li Γ st p13 0 0 (fun v14 => eb_br (v14 = a3) (eb_gr st a0 6 0 (fun v15 => eb_nn v15 (fun p16 => eb_li Γ st p16 0 1 (fun v17 => eb_br (v17 = a2) (eb_gr st a0 6 0 (fun v18 => eb_nn v18 (fun p19 => eb_li Γ st p19 0 2 (fun v20 => eb_br (v20 = a1) (k11 1) (k11 0))))) (k11 0))))) (k11 0))))))) (fun k33 => eb_br (v6 = a1) (eb_gr st a0 6 0 (fun v34 => eb_nn v34 (fun p35 => eb_li Γ st p35 0 1 (fun v36 => eb_br (v36 = a2) (eb_br (v3 = 2) (k33 1) (eb_gr st a0 6 0 (fun v37 => eb_nn v37 (fun p38 => eb_li Γ st p38 0 2 (fun v39 => eb_br (v39 = a3) (k33 1) (k33 0)))))) (k33 0))))) (k33 0))))))))
abbrev rmX7_is : Room := { frames := 1, cells := 0, slots := 0, locals := 12 }
theorem nX7_is : eb_ar yX7_is 3 := by decide +kernel
theorem dX7_is_0 : eb_dc cX7_is 0 (.aload_n 0) 1 1 := by decide +kernel
theorem dX7_is_1 : eb_dc cX7_is 1 (.getfield 7) 3 4 := by decide +kernel
theorem dX7_is_4 : eb_dc cX7_is 4 (.arraylength) 1 5 := by decide +kernel
theorem dX7_is_5 : eb_dc cX7_is 5 (.istore 4) 2 7 := by decide +kernel
theorem dX7_is_7 : eb_dc cX7_is 7 (.aload_n 0) 1 8 := by decide +kernel
theorem dX7_is_8 : eb_dc cX7_is 8 (.getfield 7) 3 11 := by decide +kernel
theorem dX7_is_11 : eb_dc cX7_is 11 (.iconst 0) 1 12 := by decide +kernel
theorem dX7_is_12 : eb_dc cX7_is 12 (.iaload) 1 13 := by decide +kernel
theorem dX7_is_13 : eb_dc cX7_is 13 (.iload_n 1) 1 14 := by decide +kernel
theorem dX7_is_14 : eb_dj cX7_is 14 (.if_icmp .ne 33) 33 17 47 := by decide +kernel
theorem dX7_is_17 : eb_dc cX7_is 17 (.aload_n 0) 1 18 := by decide +kernel
theorem dX7_is_18 : eb_dc cX7_is 18 (.getfield 7) 3 21 := by decide +kernel
theorem dX7_is_21 : eb_dc cX7_is 21 (.iconst 1) 1 22 := by decide +kernel
theorem dX7_is_22 : eb_dc cX7_is 22 (.iaload) 1 23 := by decide +kernel
theorem dX7_is_23 : eb_dc cX7_is 23 (.iload_n 2) 1 24 := by decide +kernel
theorem dX7_is_24 : eb_dj cX7_is 24 (.if_icmp .ne 23) 23 27 47 := by decide +kernel
theorem dX7_is_27 : eb_dc cX7_is 27 (.iload 4) 2 29 := by decide +kernel
theorem dX7_is_29 : eb_dc cX7_is 29 (.iconst 2) 1 30 := by decide +kernel
theorem dX7_is_30 : eb_dj cX7_is 30 (.if_icmp .eq 13) 13 33 43 := by decide +kernel
theorem dX7_is_33 : eb_dc cX7_is 33 (.aload_n 0) 1 34 := by decide +kernel
theorem dX7_is_34 : eb_dc cX7_is 34 (.getfield 7) 3 37 := by decide +kernel
theorem dX7_is_37 : eb_dc cX7_is 37 (.iconst 2) 1 38 := by decide +kernel
theorem dX7_is_38 : eb_dc cX7_is 38 (.iaload) 1 39 := by decide +kernel
theorem dX7_is_39 : eb_dc cX7_is 39 (.iload_n 3) 1 40 := by decide +kernel
theorem dX7_is_40 : eb_dj cX7_is 40 (.if_icmp .ne 7) 7 43 47 := by decide +kernel
theorem dX7_is_43 : eb_dc cX7_is 43 (.iconst 1) 1 44 := by decide +kernel
theorem dX7_is_44 : eb_dj cX7_is 44 (.goto 4) 4 47 48 := by decide +kernel
theorem dX7_is_47 : eb_dc cX7_is 47 (.iconst 0) 1 48 := by decide +kernel
theorem dX7_is_48 : eb_dc cX7_is 48 (.istore 5) 2 50 := by decide +kernel
theorem dX7_is_50 : eb_dc cX7_is 50 (.iload 4) 2 52 := by decide +kernel
theorem dX7_is_52 : eb_dc cX7_is 52 (.iconst 2) 1 53 := by decide +kernel
theorem dX7_is_53 : eb_dj cX7_is 53 (.if_icmp .ne 31) 31 56 84 := by decide +kernel
theorem dX7_is_56 : eb_dc cX7_is 56 (.aload_n 0) 1 57 := by decide +kernel
theorem dX7_is_57 : eb_dc cX7_is 57 (.getfield 7) 3 60 := by decide +kernel
theorem dX7_is_60 : eb_dc cX7_is 60 (.iconst 0) 1 61 := by decide +kernel
theorem dX7_is_61 : eb_dc cX7_is 61 (.iaload) 1 62 := by decide +kernel
theorem dX7_is_62 : eb_dc cX7_is 62 (.iload_n 2) 1 63 := by decide +kernel
theorem dX7_is_63 : eb_dj cX7_is 63 (.if_icmp .ne 17) 17 66 80 := by decide +kernel
theorem dX7_is_66 : eb_dc cX7_is 66 (.aload_n 0) 1 67 := by decide +kernel
theorem dX7_is_67 : eb_dc cX7_is 67 (.getfield 7) 3 70 := by decide +kernel
theorem dX7_is_70 : eb_dc cX7_is 70 (.iconst 1) 1 71 := by decide +kernel
theorem dX7_is_71 : eb_dc cX7_is 71 (.iaload) 1 72 := by decide +kernel
theorem dX7_is_72 : eb_dc cX7_is 72 (.iload_n 1) 1 73 := by decide +kernel
theorem dX7_is_73 : eb_dj cX7_is 73 (.if_icmp .ne 7) 7 76 80 := by decide +kernel
theorem dX7_is_76 : eb_dc cX7_is 76 (.iconst 1) 1 77 := by decide +kernel
theorem dX7_is_77 : eb_dj cX7_is 77 (.goto 42) 42 80 119 := by decide +kernel
theorem dX7_is_80 : eb_dc cX7_is 80 (.iconst 0) 1 81 := by decide +kernel
theorem dX7_is_81 : eb_dj cX7_is 81 (.goto 38) 38 84 119 := by decide +kernel
theorem dX7_is_84 : eb_dc cX7_is 84 (.aload_n 0) 1 85 := by decide +kernel
theorem dX7_is_85 : eb_dc cX7_is 85 (.getfield 7) 3 88 := by decide +kernel
theorem dX7_is_88 : eb_dc cX7_is 88 (.iconst 0) 1 89 := by decide +kernel
theorem dX7_is_89 : eb_dc cX7_is 89 (.iaload) 1 90 := by decide +kernel
theorem dX7_is_90 : eb_dc cX7_is 90 (.iload_n 3) 1 91 := by decide +kernel
theorem dX7_is_91 : eb_dj cX7_is 91 (.if_icmp .ne 27) 27 94 118 := by decide +kernel
theorem dX7_is_94 : eb_dc cX7_is 94 (.aload_n 0) 1 95 := by decide +kernel
theorem dX7_is_95 : eb_dc cX7_is 95 (.getfield 7) 3 98 := by decide +kernel
theorem dX7_is_98 : eb_dc cX7_is 98 (.iconst 1) 1 99 := by decide +kernel
theorem dX7_is_99 : eb_dc cX7_is 99 (.iaload) 1 100 := by decide +kernel
theorem dX7_is_100 : eb_dc cX7_is 100 (.iload_n 2) 1 101 := by decide +kernel
theorem dX7_is_101 : eb_dj cX7_is 101 (.if_icmp .ne 17) 17 104 118 := by decide +kernel
theorem dX7_is_104 : eb_dc cX7_is 104 (.aload_n 0) 1 105 := by decide +kernel
theorem dX7_is_105 : eb_dc cX7_is 105 (.getfield 7) 3 108 := by decide +kernel
theorem dX7_is_108 : eb_dc cX7_is 108 (.iconst 2) 1 109 := by decide +kernel
theorem dX7_is_109 : eb_dc cX7_is 109 (.iaload) 1 110 := by decide +kernel
theorem dX7_is_110 : eb_dc cX7_is 110 (.iload_n 1) 1 111 := by decide +kernel
theorem dX7_is_111 : eb_dj cX7_is 111 (.if_icmp .ne 7) 7 114 118 := by decide +kernel
theorem dX7_is_114 : eb_dc cX7_is 114 (.iconst 1) 1 115 := by decide +kernel
theorem dX7_is_115 : eb_dj cX7_is 115 (.goto 4) 4 118 119 := by decide +kernel
theorem dX7_is_118 : eb_dc cX7_is 118 (.iconst 0) 1 119 := by decide +kernel
theorem dX7_is_119 : eb_dc cX7_is 119 (.istore 6) 2 121 := by decide +kernel
theorem dX7_is_121 : eb_dc cX7_is 121 (.iload 5) 2 123 := by decide +kernel
theorem dX7_is_123 : eb_dj cX7_is 123 (.ifCond .ne 8) 8 126 131 := by decide +kernel
theorem dX7_is_126 : eb_dc cX7_is 126 (.iload 6) 2 128 := by decide +kernel
theorem dX7_is_128 : eb_dj cX7_is 128 (.ifCond .eq 7) 7 131 135 := by decide +kernel
theorem dX7_is_131 : eb_dc cX7_is 131 (.iconst 1) 1 132 := by decide +kernel
theorem dX7_is_132 : eb_dj cX7_is 132 (.goto 4) 4 135 136 := by decide +kernel
theorem dX7_is_135 : eb_dc cX7_is 135 (.iconst 0) 1 136 := by decide +kernel
theorem dX7_is_136 : eb_dc cX7_is 136 (.ireturn) 1 137 := by decide +kernel
theorem ctX7_is {l : Launch} {Γ : eb_C} {st : eb_S} {a0 : Nat} {a1 : Int32} {a2 : Int32} {a3 : Int32} {K : Int32 → Prop} (h : MX7_is Γ st a0 a1 a2 a3 K) : eb_Ct l Γ yX7_is cX7_is 7 (some .boolean) rmX7_is [.ref a0, .int a1, .int a2, .int a3] st (eb_pI st K) := by
  refine eb_of (by decide) (Nat.le_of_ble_eq_true rfl) (fun X P hP hX0 => ?_)
  show eb_G l Γ P X cX7_is RX7 7 (some .boolean) rmX7_is 0 [(0, .ref a0), (1, .int a1), (2, .int a2), (3, .int a3)] [] st 0 0
  refine eg_aload_n 0 dX7_is_0 rfl rfl ?_
  obtain ⟨fs, v1, he, hv, h⟩ := h
  refine eg_get 0 in_X7 he rfl (Nat.le_of_ble_eq_true rfl) q306 rfl hv dX7_is_1 ?_
  obtain ⟨p2, rfl, h⟩ := h
  obtain ⟨xA, he, h⟩ := h
  refine eh_alen (t := 0) (ty := .int) he rfl dX7_is_4 ?_
  generalize Int32.ofNat xA.1 = v3 at h ⊢
  refine eg_istore (lv' := [(4, .int v3), (0, .ref a0), (1, .int a1), (2, .int a2), (3, .int a3)]) dX7_is_5 (Nat.le_of_ble_eq_true rfl) rfl ?_
  refine eg_aload_n 1 dX7_is_7 rfl rfl ?_
  obtain ⟨fs, v4, he, hv, h⟩ := h
  refine eg_get 0 in_X7 he rfl (Nat.le_of_ble_eq_true rfl) q306 rfl hv dX7_is_8 ?_
  refine eg_iconst dX7_is_11 kc_0 ?_
  obtain ⟨p5, rfl, h⟩ := h
  obtain ⟨nA, fA, he, hb, h⟩ := h
  refine eh_iald he hb dX7_is_12 (fun v6 ev6 => ?_)
  replace h := h v6 ev6
  refine eg_iload_n 2 dX7_is_13 rfl rfl ?_
  refine eb_jp1_e (J := fun (s7 : Int32) => eb_G l Γ P X cX7_is RX7 7 (some .boolean) rmX7_is 48 [(0, .ref a0), (1, .int a1), (2, .int a2), (3, .int a3), (4, .int v3)] [.int s7] st 0 0) h ?_ ?_
  · clear h
    intro s7 h
    refine eg_istore (lv' := [(5, .int s7), (0, .ref a0), (1, .int a1), (2, .int a2), (3, .int a3), (4, .int v3)]) dX7_is_48 (Nat.le_of_ble_eq_true rfl) rfl ?_
    refine eg_iload 5 dX7_is_50 rfl ?_
    refine eg_iconst dX7_is_52 kc_2 ?_
    refine eb_jp1_e (J := fun (s8 : Int32) => eb_G l Γ P X cX7_is RX7 7 (some .boolean) rmX7_is 119 [(5, .int s7)] [.int s8] st 0 0) h ?_ ?_
    · clear h
      intro s8 h
      refine eg_istore (lv' := [(6, .int s8), (5, .int s7)]) dX7_is_119 (Nat.le_of_ble_eq_true rfl) rfl ?_
      refine eg_iload 1 dX7_is_121 rfl ?_
      refine eg_if_ne dX7_is_123 (fun c10 => ?_) (fun c10 => ?_)
      · replace h := h.2 c10
        refine eg_iconst dX7_is_131 kc_1 ?_
        refine eg_goto dX7_is_132 ?_
        exact eg_zret dX7_is_136 rfl (Nat.zero_le _) (Nat.zero_le _) (hP _ _ ⟨_, rfl, rfl, h⟩)
      · replace h := h.1 c10
        refine eg_iload 0 dX7_is_126 rfl ?_
        refine eg_if_eq dX7_is_128 (fun c9 => ?_) (fun c9 => ?_)
        · replace h := h.1 c9
          refine eg_iconst dX7_is_135 kc_0 ?_
          exact eg_zret dX7_is_136 rfl (Nat.zero_le _) (Nat.zero_le _) (hP _ _ ⟨_, rfl, rfl, h⟩)
        · replace h := h.2 c9
          refine eg_iconst dX7_is_131 kc_1 ?_
          refine eg_goto dX7_is_132 ?_
          exact eg_zret dX7_is_136 rfl (Nat.zero_le _) (Nat.zero_le _) (hP _ _ ⟨_, rfl, rfl, h⟩)
    · clear h
      intro k11 hk11 h
      refine eg_icmp_ne dX7_is_53 (fun c32 => ?_) (fun c32 => ?_)
      · replace h := h.2 c32
        refine eg_aload_n 1 dX7_is_84 rfl rfl ?_
        obtain ⟨fs, v12, he, hv, h⟩ := h
        refine eg_get 0 in_X7 he rfl (Nat.le_of_ble_eq_true rfl) q306 rfl hv dX7_is_85 ?_
        refine eg_iconst dX7_is_88 kc_0 ?_
        obtain ⟨p13, rfl, h⟩ := h
        obtain ⟨nA, fA, he, hb, h⟩ := h
        refine eh_iald he hb dX7_is_89 (fun v14 ev14 => ?_)
        replace h := h v14 ev14
        refine eg_iload_n 4 dX7_is_90 rfl rfl ?_
        refine eg_icmp_ne dX7_is_91 (fun c23 => ?_) (fun c23 => ?_)
        · replace h := h.2 c23
          refine eg_iconst dX7_is_118 kc_0 ?_
          exact eg_sub [0] rfl (hk11 0 h)
        · replace h := h.1 c23
          refine eg_aload_n 1 dX7_is_94 rfl rfl ?_
          obtain ⟨fs, v15, he, hv, h⟩ := h
          refine eg_get 0 in_X7 he rfl (Nat.le_of_ble_eq_true rfl) q306 rfl hv dX7_is_95 ?_
          refine eg_iconst dX7_is_98 kc_1 ?_
          obtain ⟨p16, rfl, h⟩ := h
          obtain ⟨nA, fA, he, hb, h⟩ := h
          refine eh_iald he hb dX7_is_99 (fun v17 ev17 => ?_)
          replace h := h v17 ev17
          refine eg_iload_n 3 dX7_is_100 rfl rfl ?_
          refine eg_icmp_ne dX7_is_101 (fun c22 => ?_) (fun c22 => ?_)
          · replace h := h.2 c22
            refine eg_iconst dX7_is_118 kc_0 ?_
            exact eg_sub [0] rfl (hk11 0 h)
          · replace h := h.1 c22
            refine eg_aload_n 1 dX7_is_104 rfl rfl ?_
            obtain ⟨fs, v18, he, hv, h⟩ := h
            refine eg_get 0 in_X7 he rfl (Nat.le_of_ble_eq_true rfl) q306 rfl hv dX7_is_105 ?_
            refine eg_iconst dX7_is_108 kc_2 ?_
            obtain ⟨p19, rfl, h⟩ := h
            obtain ⟨nA, fA, he, hb, h⟩ := h
            refine eh_iald he hb dX7_is_109 (fun v20 ev20 => ?_)
            replace h := h v20 ev20
            refine eg_iload_n 2 dX7_is_110 rfl rfl ?_
            refine eg_icmp_ne dX7_is_111 (fun c21 => ?_) (fun c21 => ?_)
            · replace h := h.2 c21
              refine eg_iconst dX7_is_118 kc_0 ?_
              exact eg_sub [0] rfl (hk11 0 h)
            · replace h := h.1 c21
              refine eg_iconst dX7_is_114 kc_1 ?_
              refine eg_goto dX7_is_115 ?_
              exact eg_sub [0] rfl (hk11 1 h)
      · replace h := h.1 c32
        refine eg_aload_n 1 dX7_is_56 rfl rfl ?_
        obtain ⟨fs, v24, he, hv, h⟩ := h
        refine eg_get 0 in_X7 he rfl (Nat.le_of_ble_eq_true rfl) q306 rfl hv dX7_is_57 ?_
        refine eg_iconst dX7_is_60 kc_0 ?_
        obtain ⟨p25, rfl, h⟩ := h
        obtain ⟨nA, fA, he, hb, h⟩ := h
        refine eh_iald he hb dX7_is_61 (fun v26 ev26 => ?_)
        replace h := h v26 ev26
        refine eg_iload_n 3 dX7_is_62 rfl rfl ?_
        refine eg_icmp_ne dX7_is_63 (fun c31 => ?_) (fun c31 => ?_)
        · replace h := h.2 c31
          refine eg_iconst dX7_is_80 kc_0 ?_
          refine eg_goto dX7_is_81 ?_
          exact eg_sub [0] rfl (hk11 0 h)
        · replace h := h.1 c31
          refine eg_aload_n 1 dX7_is_66 rfl rfl ?_
          obtain ⟨fs, v27, he, hv, h⟩ := h
          refine eg_get 0 in_X7 he rfl (Nat.le_of_ble_eq_true rfl) q306 rfl hv dX7_is_67 ?_
          refine eg_iconst dX7_is_70 kc_1 ?_
          obtain ⟨p28, rfl, h⟩ := h
          obtain ⟨nA, fA, he, hb, h⟩ := h
          refine eh_iald he hb dX7_is_71 (fun v29 ev29 => ?_)
          replace h := h v29 ev29
          refine eg_iload_n 2 dX7_is_72 rfl rfl ?_
          refine eg_icmp_ne dX7_is_73 (fun c30 => ?_) (fun c30 => ?_)
          · replace h := h.2 c30
            refine eg_iconst dX7_is_80 kc_0 ?_
            refine eg_goto dX7_is_81 ?_
            exact eg_sub [0] rfl (hk11 0 h)
          · replace h := h.1 c30
            refine eg_iconst dX7_is_76 kc_1 ?_
            refine eg_goto dX7_is_77 ?_
            exact eg_sub [0] rfl (hk11 1 h)
  · clear h
    intro k33 hk33 h
    refine eg_icmp_ne dX7_is_14 (fun c43 => ?_) (fun c43 => ?_)
    · replace h := h.2 c43
      refine eg_iconst dX7_is_47 kc_0 ?_
      exact eg_sub [1, 2, 3, 4, 0] rfl (hk33 0 h)
    · replace h := h.1 c43
      refine eg_aload_n 1 dX7_is_17 rfl rfl ?_
      obtain ⟨fs, v34, he, hv, h⟩ := h
      refine eg_get 0 in_X7 he rfl (Nat.le_of_ble_eq_true rfl) q306 rfl hv dX7_is_18 ?_
      refine eg_iconst dX7_is_21 kc_1 ?_
      obtain ⟨p35, rfl, h⟩ := h
      obtain ⟨nA, fA, he, hb, h⟩ := h
      refine eh_iald he hb dX7_is_22 (fun v36 ev36 => ?_)
      replace h := h v36 ev36
      refine eg_iload_n 3 dX7_is_23 rfl rfl ?_
      refine eg_icmp_ne dX7_is_24 (fun c42 => ?_) (fun c42 => ?_)
      · replace h := h.2 c42
        refine eg_iconst dX7_is_47 kc_0 ?_
        exact eg_sub [1, 2, 3, 4, 0] rfl (hk33 0 h)
      · replace h := h.1 c42
        refine eg_iload 0 dX7_is_27 rfl ?_
        refine eg_iconst dX7_is_29 kc_2 ?_
        refine eg_icmp_eq dX7_is_30 (fun c41 => ?_) (fun c41 => ?_)
        · replace h := h.1 c41
          refine eg_iconst dX7_is_43 kc_1 ?_
          refine eg_goto dX7_is_44 ?_
          exact eg_sub [1, 2, 3, 4, 0] rfl (hk33 1 h)
        · replace h := h.2 c41
          refine eg_aload_n 1 dX7_is_33 rfl rfl ?_
          obtain ⟨fs, v37, he, hv, h⟩ := h
          refine eg_get 0 in_X7 he rfl (Nat.le_of_ble_eq_true rfl) q306 rfl hv dX7_is_34 ?_
          refine eg_iconst dX7_is_37 kc_2 ?_
          obtain ⟨p38, rfl, h⟩ := h
          obtain ⟨nA, fA, he, hb, h⟩ := h
          refine eh_iald he hb dX7_is_38 (fun v39 ev39 => ?_)
          replace h := h v39 ev39
          refine eg_iload_n 4 dX7_is_39 rfl rfl ?_
          refine eg_icmp_ne dX7_is_40 (fun c40 => ?_) (fun c40 => ?_)
          · replace h := h.2 c40
            refine eg_iconst dX7_is_47 kc_0 ?_
            exact eg_sub [1, 2, 3, 4, 0] rfl (hk33 0 h)
          · replace h := h.1 c40
            refine eg_iconst dX7_is_43 kc_1 ?_
            refine eg_goto dX7_is_44 ?_
            exact eg_sub [1, 2, 3, 4, 0] rfl (hk33 1 h)
def MX7_size (Γ : eb_C) (st : eb_S) (a0 : Nat) (K : Int32 → Prop) : Prop :=
  eb_gr st a0 6 0 (fun v1 => eb_nn v1 (fun p2 => eb_ln Γ st p2 0 (fun v3 => eb_br (v3 = 2) (eb_cs st a0 [6] ∧ MX7_is Γ st a0 3 3 0 (fun v24 => eb_br (v24 = 0) (eb_cs st a0 [6] ∧ MX7_is Γ st a0 3 4 0 (fun v28 => eb_br (v28 = 0) (eb_cs st a0 [6] ∧ MX7_is Γ st a0 3 5 0 (fun v32 => eb_br (v32 = 0) (K 0) (K 120))) (K 48))) (K 24))) (eb_cs st a0 [6] ∧ MX7_is Γ st a0 3 3 3 (fun v4 => eb_br (v4 = 0) (eb_cs st a0 [6] ∧ MX7_is Γ st a0 3 3 4 (fun v8 => eb_br (v8 = 0) (eb_cs st a0 [6] ∧ MX7_is Γ st a0 3 4 3 (fun v12 => eb_br (v12 = 0) (eb_cs st a0 [6] ∧ MX7_is Γ st a0 3 3 5 (fun v16 => eb_br (v16 = 0) (K 0) (K 14400))) (K 1152))) (K 384))) (K 120))))))
abbrev rmX7_size : Room := { frames := 2, cells := 0, slots := 0, locals := 38 }
theorem nX7_size : eb_ar yX7_size 0 := by decide +kernel
theorem dX7_size_0 : eb_dc cX7_size 0 (.aload_n 0) 1 1 := by decide +kernel
theorem dX7_size_1 : eb_dc cX7_size 1 (.getfield 7) 3 4 := by decide +kernel
theorem dX7_size_4 : eb_dc cX7_size 4 (.arraylength) 1 5 := by decide +kernel
theorem dX7_size_5 : eb_dc cX7_size 5 (.iconst 2) 1 6 := by decide +kernel
theorem dX7_size_6 : eb_dj cX7_size 6 (.if_icmp .ne 50) 50 9 56 := by decide +kernel
theorem dX7_size_9 : eb_dc cX7_size 9 (.aload_n 0) 1 10 := by decide +kernel
theorem dX7_size_10 : eb_dc cX7_size 10 (.iconst 3) 1 11 := by decide +kernel
theorem dX7_size_11 : eb_dc cX7_size 11 (.iconst 3) 1 12 := by decide +kernel
theorem dX7_size_12 : eb_dc cX7_size 12 (.iconst 0) 1 13 := by decide +kernel
theorem dX7_size_13 : eb_dc cX7_size 13 (.invokevirtual 13) 3 16 := by decide +kernel
theorem dX7_size_16 : eb_dj cX7_size 16 (.ifCond .eq 8) 8 19 24 := by decide +kernel
theorem dX7_size_19 : eb_dc cX7_size 19 (.bipush 24) 2 21 := by decide +kernel
theorem dX7_size_21 : eb_dj cX7_size 21 (.goto 34) 34 24 55 := by decide +kernel
theorem dX7_size_24 : eb_dc cX7_size 24 (.aload_n 0) 1 25 := by decide +kernel
theorem dX7_size_25 : eb_dc cX7_size 25 (.iconst 3) 1 26 := by decide +kernel
theorem dX7_size_26 : eb_dc cX7_size 26 (.iconst 4) 1 27 := by decide +kernel
theorem dX7_size_27 : eb_dc cX7_size 27 (.iconst 0) 1 28 := by decide +kernel
theorem dX7_size_28 : eb_dc cX7_size 28 (.invokevirtual 13) 3 31 := by decide +kernel
theorem dX7_size_31 : eb_dj cX7_size 31 (.ifCond .eq 8) 8 34 39 := by decide +kernel
theorem dX7_size_34 : eb_dc cX7_size 34 (.bipush 48) 2 36 := by decide +kernel
theorem dX7_size_36 : eb_dj cX7_size 36 (.goto 19) 19 39 55 := by decide +kernel
theorem dX7_size_39 : eb_dc cX7_size 39 (.aload_n 0) 1 40 := by decide +kernel
theorem dX7_size_40 : eb_dc cX7_size 40 (.iconst 3) 1 41 := by decide +kernel
theorem dX7_size_41 : eb_dc cX7_size 41 (.iconst 5) 1 42 := by decide +kernel
theorem dX7_size_42 : eb_dc cX7_size 42 (.iconst 0) 1 43 := by decide +kernel
theorem dX7_size_43 : eb_dc cX7_size 43 (.invokevirtual 13) 3 46 := by decide +kernel
theorem dX7_size_46 : eb_dj cX7_size 46 (.ifCond .eq 8) 8 49 54 := by decide +kernel
theorem dX7_size_49 : eb_dc cX7_size 49 (.bipush 120) 2 51 := by decide +kernel
theorem dX7_size_51 : eb_dj cX7_size 51 (.goto 4) 4 54 55 := by decide +kernel
theorem dX7_size_54 : eb_dc cX7_size 54 (.iconst 0) 1 55 := by decide +kernel
theorem dX7_size_55 : eb_dc cX7_size 55 (.ireturn) 1 56 := by decide +kernel
theorem dX7_size_56 : eb_dc cX7_size 56 (.aload_n 0) 1 57 := by decide +kernel
theorem dX7_size_57 : eb_dc cX7_size 57 (.iconst 3) 1 58 := by decide +kernel
theorem dX7_size_58 : eb_dc cX7_size 58 (.iconst 3) 1 59 := by decide +kernel
theorem dX7_size_59 : eb_dc cX7_size 59 (.iconst 3) 1 60 := by decide +kernel
theorem dX7_size_60 : eb_dc cX7_size 60 (.invokevirtual 13) 3 63 := by decide +kernel
theorem dX7_size_63 : eb_dj cX7_size 63 (.ifCond .eq 8) 8 66 71 := by decide +kernel
theorem dX7_size_66 : eb_dc cX7_size 66 (.bipush 120) 2 68 := by decide +kernel
theorem dX7_size_68 : eb_dj cX7_size 68 (.goto 52) 52 71 120 := by decide +kernel
theorem dX7_size_71 : eb_dc cX7_size 71 (.aload_n 0) 1 72 := by decide +kernel
theorem dX7_size_72 : eb_dc cX7_size 72 (.iconst 3) 1 73 := by decide +kernel
theorem dX7_size_73 : eb_dc cX7_size 73 (.iconst 3) 1 74 := by decide +kernel
theorem dX7_size_74 : eb_dc cX7_size 74 (.iconst 4) 1 75 := by decide +kernel
theorem dX7_size_75 : eb_dc cX7_size 75 (.invokevirtual 13) 3 78 := by decide +kernel
theorem dX7_size_78 : eb_dj cX7_size 78 (.ifCond .eq 9) 9 81 87 := by decide +kernel
theorem dX7_size_81 : eb_dc cX7_size 81 (.sipush 384) 3 84 := by decide +kernel
theorem dX7_size_84 : eb_dj cX7_size 84 (.goto 36) 36 87 120 := by decide +kernel
theorem dX7_size_87 : eb_dc cX7_size 87 (.aload_n 0) 1 88 := by decide +kernel
theorem dX7_size_88 : eb_dc cX7_size 88 (.iconst 3) 1 89 := by decide +kernel
theorem dX7_size_89 : eb_dc cX7_size 89 (.iconst 4) 1 90 := by decide +kernel
theorem dX7_size_90 : eb_dc cX7_size 90 (.iconst 3) 1 91 := by decide +kernel
theorem dX7_size_91 : eb_dc cX7_size 91 (.invokevirtual 13) 3 94 := by decide +kernel
theorem dX7_size_94 : eb_dj cX7_size 94 (.ifCond .eq 9) 9 97 103 := by decide +kernel
theorem dX7_size_97 : eb_dc cX7_size 97 (.sipush 1152) 3 100 := by decide +kernel
theorem dX7_size_100 : eb_dj cX7_size 100 (.goto 20) 20 103 120 := by decide +kernel
theorem dX7_size_103 : eb_dc cX7_size 103 (.aload_n 0) 1 104 := by decide +kernel
theorem dX7_size_104 : eb_dc cX7_size 104 (.iconst 3) 1 105 := by decide +kernel
theorem dX7_size_105 : eb_dc cX7_size 105 (.iconst 3) 1 106 := by decide +kernel
theorem dX7_size_106 : eb_dc cX7_size 106 (.iconst 5) 1 107 := by decide +kernel
theorem dX7_size_107 : eb_dc cX7_size 107 (.invokevirtual 13) 3 110 := by decide +kernel
theorem dX7_size_110 : eb_dj cX7_size 110 (.ifCond .eq 9) 9 113 119 := by decide +kernel
theorem dX7_size_113 : eb_dc cX7_size 113 (.sipush 14400) 3 116 := by decide +kernel
theorem dX7_size_116 : eb_dj cX7_size 116 (.goto 4) 4 119 120 := by decide +kernel
theorem dX7_size_119 : eb_dc cX7_size 119 (.iconst 0) 1 120 := by decide +kernel
theorem dX7_size_120 : eb_dc cX7_size 120 (.ireturn) 1 121 := by decide +kernel
theorem ctX7_size {l : Launch} {Γ : eb_C} {st : eb_S} {a0 : Nat} {K : Int32 → Prop} (h : MX7_size Γ st a0 K) : eb_Ct l Γ yX7_size cX7_size 1 (some .int) rmX7_size [.ref a0] st (eb_pI st K) := by
  refine eb_of (by decide) (Nat.le_of_ble_eq_true rfl) (fun X P hP hX0 => ?_)
  show eb_G l Γ P X cX7_size RX7 1 (some .int) rmX7_size 0 [(0, .ref a0)] [] st 0 0
  refine eg_aload_n 0 dX7_size_0 rfl rfl ?_
  obtain ⟨fs, v1, he, hv, h⟩ := h
  refine eg_get 0 in_X7 he rfl (Nat.le_of_ble_eq_true rfl) q306 rfl hv dX7_size_1 ?_
  obtain ⟨p2, rfl, h⟩ := h
  obtain ⟨xA, he, h⟩ := h
  refine eh_alen (t := 0) (ty := .int) he rfl dX7_size_4 ?_
  generalize Int32.ofNat xA.1 = v3 at h ⊢
  refine eg_iconst dX7_size_5 kc_2 ?_
  refine eg_icmp_ne dX7_size_6 (fun c39 => ?_) (fun c39 => ?_)
  · replace h := h.2 c39
    refine eg_aload_n 0 dX7_size_56 rfl rfl ?_
    refine eg_iconst dX7_size_57 kc_3 ?_
    refine eg_iconst dX7_size_58 kc_3 ?_
    refine eg_iconst dX7_size_59 kc_3 ?_
    obtain ⟨hcs, h⟩ := h
    have hM0 := h
    clear h
    refine ec_VIp (rest := []) (ctX7_is hM0) (lw_V q319 q321 qs2 q83 q322) rfl rfl hcs nX7_is ⟨Nat.le_of_ble_eq_true rfl, Nat.le_of_ble_eq_true rfl⟩ ⟨rfl, rfl⟩ ⟨Nat.zero_le _, Nat.zero_le _⟩ rfl rfl (Nat.le_of_ble_eq_true rfl) dX7_size_60 (fun v4 h => ?_)
    clear hM0
    refine eg_if_eq dX7_size_63 (fun c23 => ?_) (fun c23 => ?_)
    · replace h := h.1 c23
      refine eg_aload_n 0 dX7_size_71 rfl rfl ?_
      refine eg_iconst dX7_size_72 kc_3 ?_
      refine eg_iconst dX7_size_73 kc_3 ?_
      refine eg_iconst dX7_size_74 kc_4 ?_
      obtain ⟨hcs, h⟩ := h
      have hM0 := h
      clear h
      refine ec_VIp (rest := []) (ctX7_is hM0) (lw_V q319 q321 qs2 q83 q322) rfl rfl hcs nX7_is ⟨Nat.le_of_ble_eq_true rfl, Nat.le_of_ble_eq_true rfl⟩ ⟨rfl, rfl⟩ ⟨Nat.zero_le _, Nat.zero_le _⟩ rfl rfl (Nat.le_of_ble_eq_true rfl) dX7_size_75 (fun v8 h => ?_)
      clear hM0
      refine eg_if_eq dX7_size_78 (fun c22 => ?_) (fun c22 => ?_)
      · replace h := h.1 c22
        refine eg_aload_n 0 dX7_size_87 rfl rfl ?_
        refine eg_iconst dX7_size_88 kc_3 ?_
        refine eg_iconst dX7_size_89 kc_4 ?_
        refine eg_iconst dX7_size_90 kc_3 ?_
        obtain ⟨hcs, h⟩ := h
        have hM0 := h
        clear h
        refine ec_VIp (rest := []) (ctX7_is hM0) (lw_V q319 q321 qs2 q83 q322) rfl rfl hcs nX7_is ⟨Nat.le_of_ble_eq_true rfl, Nat.le_of_ble_eq_true rfl⟩ ⟨rfl, rfl⟩ ⟨Nat.zero_le _, Nat.zero_le _⟩ rfl rfl (Nat.le_of_ble_eq_true rfl) dX7_size_91 (fun v12 h => ?_)
        clear hM0
        refine eg_if_eq dX7_size_94 (fun c21 => ?_) (fun c21 => ?_)
        · replace h := h.1 c21
          refine eg_aload_n 0 dX7_size_103 rfl rfl ?_
          refine eg_iconst dX7_size_104 kc_3 ?_
          refine eg_iconst dX7_size_105 kc_3 ?_
          refine eg_iconst dX7_size_106 kc_5 ?_
          obtain ⟨hcs, h⟩ := h
          have hM0 := h
          clear h
          refine ec_VIp (rest := []) (ctX7_is hM0) (lw_V q319 q321 qs2 q83 q322) rfl rfl hcs nX7_is ⟨Nat.le_of_ble_eq_true rfl, Nat.le_of_ble_eq_true rfl⟩ ⟨rfl, rfl⟩ ⟨Nat.zero_le _, Nat.zero_le _⟩ rfl rfl (Nat.le_of_ble_eq_true rfl) dX7_size_107 (fun v16 h => ?_)
          clear hM0
          refine eg_if_eq dX7_size_110 (fun c20 => ?_) (fun c20 => ?_)
          · replace h := h.1 c20
            refine eg_iconst dX7_size_119 kc_0 ?_
            exact eg_iret dX7_size_120 (Nat.zero_le _) (Nat.zero_le _) (hP _ _ ⟨_, rfl, rfl, h⟩)
          · replace h := h.2 c20
            refine eg_sipush dX7_size_113 ks_14400 ?_
            refine eg_goto dX7_size_116 ?_
            exact eg_iret dX7_size_120 (Nat.zero_le _) (Nat.zero_le _) (hP _ _ ⟨_, rfl, rfl, h⟩)
        · replace h := h.2 c21
          refine eg_sipush dX7_size_97 ks_1152 ?_
          refine eg_goto dX7_size_100 ?_
          exact eg_iret dX7_size_120 (Nat.zero_le _) (Nat.zero_le _) (hP _ _ ⟨_, rfl, rfl, h⟩)
      · replace h := h.2 c22
        refine eg_sipush dX7_size_81 ks_384 ?_
        refine eg_goto dX7_size_84 ?_
        exact eg_iret dX7_size_120 (Nat.zero_le _) (Nat.zero_le _) (hP _ _ ⟨_, rfl, rfl, h⟩)
    · replace h := h.2 c23
      refine eg_bipush dX7_size_66 kb_120 ?_
      refine eg_goto dX7_size_68 ?_
      exact eg_iret dX7_size_120 (Nat.zero_le _) (Nat.zero_le _) (hP _ _ ⟨_, rfl, rfl, h⟩)
  · replace h := h.1 c39
    refine eg_aload_n 0 dX7_size_9 rfl rfl ?_
    refine eg_iconst dX7_size_10 kc_3 ?_
    refine eg_iconst dX7_size_11 kc_3 ?_
    refine eg_iconst dX7_size_12 kc_0 ?_
    obtain ⟨hcs, h⟩ := h
    have hM0 := h
    clear h
    refine ec_VIp (rest := []) (ctX7_is hM0) (lw_V q319 q321 qs2 q83 q322) rfl rfl hcs nX7_is ⟨Nat.le_of_ble_eq_true rfl, Nat.le_of_ble_eq_true rfl⟩ ⟨rfl, rfl⟩ ⟨Nat.zero_le _, Nat.zero_le _⟩ rfl rfl (Nat.le_of_ble_eq_true rfl) dX7_size_13 (fun v24 h => ?_)
    clear hM0
    refine eg_if_eq dX7_size_16 (fun c38 => ?_) (fun c38 => ?_)
    · replace h := h.1 c38
      refine eg_aload_n 0 dX7_size_24 rfl rfl ?_
      refine eg_iconst dX7_size_25 kc_3 ?_
      refine eg_iconst dX7_size_26 kc_4 ?_
      refine eg_iconst dX7_size_27 kc_0 ?_
      obtain ⟨hcs, h⟩ := h
      have hM0 := h
      clear h
      refine ec_VIp (rest := []) (ctX7_is hM0) (lw_V q319 q321 qs2 q83 q322) rfl rfl hcs nX7_is ⟨Nat.le_of_ble_eq_true rfl, Nat.le_of_ble_eq_true rfl⟩ ⟨rfl, rfl⟩ ⟨Nat.zero_le _, Nat.zero_le _⟩ rfl rfl (Nat.le_of_ble_eq_true rfl) dX7_size_28 (fun v28 h => ?_)
      clear hM0
      refine eg_if_eq dX7_size_31 (fun c37 => ?_) (fun c37 => ?_)
      · replace h := h.1 c37
        refine eg_aload_n 0 dX7_size_39 rfl rfl ?_
        refine eg_iconst dX7_size_40 kc_3 ?_
        refine eg_iconst dX7_size_41 kc_5 ?_
        refine eg_iconst dX7_size_42 kc_0 ?_
        obtain ⟨hcs, h⟩ := h
        have hM0 := h
        clear h
        refine ec_VIp (rest := []) (ctX7_is hM0) (lw_V q319 q321 qs2 q83 q322) rfl rfl hcs nX7_is ⟨Nat.le_of_ble_eq_true rfl, Nat.le_of_ble_eq_true rfl⟩ ⟨rfl, rfl⟩ ⟨Nat.zero_le _, Nat.zero_le _⟩ rfl rfl (Nat.le_of_ble_eq_true rfl) dX7_size_43 (fun v32 h => ?_)
        clear hM0
        refine eg_if_eq dX7_size_46 (fun c36 => ?_) (fun c36 => ?_)
        · replace h := h.1 c36
          refine eg_iconst dX7_size_54 kc_0 ?_
          exact eg_iret dX7_size_55 (Nat.zero_le _) (Nat.zero_le _) (hP _ _ ⟨_, rfl, rfl, h⟩)
        · replace h := h.2 c36
          refine eg_bipush dX7_size_49 kb_120 ?_
          refine eg_goto dX7_size_51 ?_
          exact eg_iret dX7_size_55 (Nat.zero_le _) (Nat.zero_le _) (hP _ _ ⟨_, rfl, rfl, h⟩)
      · replace h := h.2 c37
        refine eg_bipush dX7_size_34 kb_48 ?_
        refine eg_goto dX7_size_36 ?_
        exact eg_iret dX7_size_55 (Nat.zero_le _) (Nat.zero_le _) (hP _ _ ⟨_, rfl, rfl, h⟩)
    · replace h := h.2 c38
      refine eg_bipush dX7_size_19 kb_24 ?_
      refine eg_goto dX7_size_21 ?_
      exact eg_iret dX7_size_55 (Nat.zero_le _) (Nat.zero_le _) (hP _ _ ⟨_, rfl, rfl, h⟩)
def MJ1_lowestOneBit (a0 : Int32) (K : Int32 → Prop) : Prop :=
  K ((a0 &&& (-a0)))
abbrev rmJ1_lowestOneBit : Room := { frames := 1, cells := 0, slots := 0, locals := 12 }
theorem nJ1_lowestOneBit : eb_ar yJ1_lowestOneBit 1 := by decide +kernel
theorem dJ1_lowestOneBit_0 : eb_dc cJ1_lowestOneBit 0 (.iload_n 0) 1 1 := by decide +kernel
theorem dJ1_lowestOneBit_1 : eb_dc cJ1_lowestOneBit 1 (.iload_n 0) 1 2 := by decide +kernel
theorem dJ1_lowestOneBit_2 : eb_dc cJ1_lowestOneBit 2 (.ineg) 1 3 := by decide +kernel
theorem dJ1_lowestOneBit_3 : eb_dc cJ1_lowestOneBit 3 (.iand) 1 4 := by decide +kernel
theorem dJ1_lowestOneBit_4 : eb_dc cJ1_lowestOneBit 4 (.ireturn) 1 5 := by decide +kernel
theorem ctJ1_lowestOneBit {l : Launch} {Γ : eb_C} {st : eb_S} {a0 : Int32} {K : Int32 → Prop} (h : MJ1_lowestOneBit a0 K) : eb_Ct l Γ yJ1_lowestOneBit cJ1_lowestOneBit 1 (some .int) rmJ1_lowestOneBit [.int a0] st (eb_pI st K) := by
  refine eb_of (by decide) (Nat.le_of_ble_eq_true rfl) (fun X P hP hX0 => ?_)
  show eb_G l Γ P X cJ1_lowestOneBit RJ1 1 (some .int) rmJ1_lowestOneBit 0 [(0, .int a0)] [] st 0 0
  refine eg_iload_n 0 dJ1_lowestOneBit_0 rfl rfl ?_
  refine eg_iload_n 0 dJ1_lowestOneBit_1 rfl rfl ?_
  refine eg_ineg dJ1_lowestOneBit_2 ?_
  refine eg_iand dJ1_lowestOneBit_3 ?_
  exact eg_iret dJ1_lowestOneBit_4 (Nat.zero_le _) (Nat.zero_le _) (hP _ _ ⟨_, rfl, rfl, h⟩)
def MJ1_bitCount (a0 : Int32) (K : Int32 → Prop) : Prop :=
  eb_let ((((a0 - ((eb_ushr a0 1) &&& 1431655765)) &&& 858993459) + ((eb_ushr ((a0 - ((eb_ushr a0 1) &&& 1431655765))) 2) &&& 858993459))) (fun v1 => eb_let ((((v1 + (eb_ushr v1 4)) &&& 252645135) + (eb_ushr (((v1 + (eb_ushr v1 4)) &&& 252645135)) 8))) (fun v2 => K (((v2 + (eb_ushr v2 16)) &&& 63))))
abbrev rmJ1_bitCount : Room := { frames := 1, cells := 0, slots := 0, locals := 12 }
theorem nJ1_bitCount : eb_ar yJ1_bitCount 1 := by decide +kernel
theorem dJ1_bitCount_0 : eb_dc cJ1_bitCount 0 (.iload_n 0) 1 1 := by decide +kernel
theorem dJ1_bitCount_1 : eb_dc cJ1_bitCount 1 (.iload_n 0) 1 2 := by decide +kernel
theorem dJ1_bitCount_2 : eb_dc cJ1_bitCount 2 (.iconst 1) 1 3 := by decide +kernel
theorem dJ1_bitCount_3 : eb_dc cJ1_bitCount 3 (.iushr) 1 4 := by decide +kernel
theorem dJ1_bitCount_4 : eb_dc cJ1_bitCount 4 (.ldc_w 265) 3 7 := by decide +kernel
theorem dJ1_bitCount_7 : eb_dc cJ1_bitCount 7 (.iand) 1 8 := by decide +kernel
theorem dJ1_bitCount_8 : eb_dc cJ1_bitCount 8 (.isub) 1 9 := by decide +kernel
theorem dJ1_bitCount_9 : eb_dc cJ1_bitCount 9 (.istore_n 0) 1 10 := by decide +kernel
theorem dJ1_bitCount_10 : eb_dc cJ1_bitCount 10 (.iload_n 0) 1 11 := by decide +kernel
theorem dJ1_bitCount_11 : eb_dc cJ1_bitCount 11 (.ldc_w 266) 3 14 := by decide +kernel
theorem dJ1_bitCount_14 : eb_dc cJ1_bitCount 14 (.iand) 1 15 := by decide +kernel
theorem dJ1_bitCount_15 : eb_dc cJ1_bitCount 15 (.iload_n 0) 1 16 := by decide +kernel
theorem dJ1_bitCount_16 : eb_dc cJ1_bitCount 16 (.iconst 2) 1 17 := by decide +kernel
theorem dJ1_bitCount_17 : eb_dc cJ1_bitCount 17 (.iushr) 1 18 := by decide +kernel
theorem dJ1_bitCount_18 : eb_dc cJ1_bitCount 18 (.ldc_w 266) 3 21 := by decide +kernel
theorem dJ1_bitCount_21 : eb_dc cJ1_bitCount 21 (.iand) 1 22 := by decide +kernel
theorem dJ1_bitCount_22 : eb_dc cJ1_bitCount 22 (.iadd) 1 23 := by decide +kernel
theorem dJ1_bitCount_23 : eb_dc cJ1_bitCount 23 (.istore_n 0) 1 24 := by decide +kernel
theorem dJ1_bitCount_24 : eb_dc cJ1_bitCount 24 (.iload_n 0) 1 25 := by decide +kernel
theorem dJ1_bitCount_25 : eb_dc cJ1_bitCount 25 (.iload_n 0) 1 26 := by decide +kernel
theorem dJ1_bitCount_26 : eb_dc cJ1_bitCount 26 (.iconst 4) 1 27 := by decide +kernel
theorem dJ1_bitCount_27 : eb_dc cJ1_bitCount 27 (.iushr) 1 28 := by decide +kernel
theorem dJ1_bitCount_28 : eb_dc cJ1_bitCount 28 (.iadd) 1 29 := by decide +kernel
theorem dJ1_bitCount_29 : eb_dc cJ1_bitCount 29 (.ldc_w 267) 3 32 := by decide +kernel
theorem dJ1_bitCount_32 : eb_dc cJ1_bitCount 32 (.iand) 1 33 := by decide +kernel
theorem dJ1_bitCount_33 : eb_dc cJ1_bitCount 33 (.istore_n 0) 1 34 := by decide +kernel
theorem dJ1_bitCount_34 : eb_dc cJ1_bitCount 34 (.iload_n 0) 1 35 := by decide +kernel
theorem dJ1_bitCount_35 : eb_dc cJ1_bitCount 35 (.iload_n 0) 1 36 := by decide +kernel
theorem dJ1_bitCount_36 : eb_dc cJ1_bitCount 36 (.bipush 8) 2 38 := by decide +kernel
theorem dJ1_bitCount_38 : eb_dc cJ1_bitCount 38 (.iushr) 1 39 := by decide +kernel
theorem dJ1_bitCount_39 : eb_dc cJ1_bitCount 39 (.iadd) 1 40 := by decide +kernel
theorem dJ1_bitCount_40 : eb_dc cJ1_bitCount 40 (.istore_n 0) 1 41 := by decide +kernel
theorem dJ1_bitCount_41 : eb_dc cJ1_bitCount 41 (.iload_n 0) 1 42 := by decide +kernel
theorem dJ1_bitCount_42 : eb_dc cJ1_bitCount 42 (.iload_n 0) 1 43 := by decide +kernel
theorem dJ1_bitCount_43 : eb_dc cJ1_bitCount 43 (.bipush 16) 2 45 := by decide +kernel
theorem dJ1_bitCount_45 : eb_dc cJ1_bitCount 45 (.iushr) 1 46 := by decide +kernel
theorem dJ1_bitCount_46 : eb_dc cJ1_bitCount 46 (.iadd) 1 47 := by decide +kernel
theorem dJ1_bitCount_47 : eb_dc cJ1_bitCount 47 (.istore_n 0) 1 48 := by decide +kernel
theorem dJ1_bitCount_48 : eb_dc cJ1_bitCount 48 (.iload_n 0) 1 49 := by decide +kernel
theorem dJ1_bitCount_49 : eb_dc cJ1_bitCount 49 (.bipush 63) 2 51 := by decide +kernel
theorem dJ1_bitCount_51 : eb_dc cJ1_bitCount 51 (.iand) 1 52 := by decide +kernel
theorem dJ1_bitCount_52 : eb_dc cJ1_bitCount 52 (.ireturn) 1 53 := by decide +kernel
theorem ctJ1_bitCount {l : Launch} {Γ : eb_C} {st : eb_S} {a0 : Int32} {K : Int32 → Prop} (h : MJ1_bitCount a0 K) : eb_Ct l Γ yJ1_bitCount cJ1_bitCount 1 (some .int) rmJ1_bitCount [.int a0] st (eb_pI st K) := by
  refine eb_of (by decide) (Nat.le_of_ble_eq_true rfl) (fun X P hP hX0 => ?_)
  show eb_G l Γ P X cJ1_bitCount RJ1 1 (some .int) rmJ1_bitCount 0 [(0, .int a0)] [] st 0 0
  refine eg_iload_n 0 dJ1_bitCount_0 rfl rfl ?_
  refine eg_iload_n 0 dJ1_bitCount_1 rfl rfl ?_
  refine eg_iconst dJ1_bitCount_2 kc_1 ?_
  refine eg_iushr dJ1_bitCount_3 ?_
  refine eg_ldcw dJ1_bitCount_4 q260 ?_
  refine eg_iand dJ1_bitCount_7 ?_
  refine eg_isub dJ1_bitCount_8 ?_
  refine eg_istore_n (lv' := [(0, .int (a0 - ((eb_ushr a0 1) &&& 1431655765)))]) dJ1_bitCount_9 rfl (Nat.le_of_ble_eq_true rfl) rfl ?_
  refine eg_iload_n 0 dJ1_bitCount_10 rfl rfl ?_
  refine eg_ldcw dJ1_bitCount_11 q261 ?_
  refine eg_iand dJ1_bitCount_14 ?_
  refine eg_iload_n 0 dJ1_bitCount_15 rfl rfl ?_
  refine eg_iconst dJ1_bitCount_16 kc_2 ?_
  refine eg_iushr dJ1_bitCount_17 ?_
  refine eg_ldcw dJ1_bitCount_18 q261 ?_
  refine eg_iand dJ1_bitCount_21 ?_
  refine eg_iadd dJ1_bitCount_22 ?_
  refine eg_leti (fun v1 ev1 => ?_)
  replace h := h v1 ev1
  refine eg_istore_n (lv' := [(0, .int v1)]) dJ1_bitCount_23 rfl (Nat.le_of_ble_eq_true rfl) rfl ?_
  refine eg_iload_n 0 dJ1_bitCount_24 rfl rfl ?_
  refine eg_iload_n 0 dJ1_bitCount_25 rfl rfl ?_
  refine eg_iconst dJ1_bitCount_26 kc_4 ?_
  refine eg_iushr dJ1_bitCount_27 ?_
  refine eg_iadd dJ1_bitCount_28 ?_
  refine eg_ldcw dJ1_bitCount_29 q262 ?_
  refine eg_iand dJ1_bitCount_32 ?_
  refine eg_istore_n (lv' := [(0, .int ((v1 + (eb_ushr v1 4)) &&& 252645135))]) dJ1_bitCount_33 rfl (Nat.le_of_ble_eq_true rfl) rfl ?_
  refine eg_iload_n 0 dJ1_bitCount_34 rfl rfl ?_
  refine eg_iload_n 0 dJ1_bitCount_35 rfl rfl ?_
  refine eg_bipush dJ1_bitCount_36 kb_8 ?_
  refine eg_iushr dJ1_bitCount_38 ?_
  refine eg_iadd dJ1_bitCount_39 ?_
  refine eg_leti (fun v2 ev2 => ?_)
  replace h := h v2 ev2
  refine eg_istore_n (lv' := [(0, .int v2)]) dJ1_bitCount_40 rfl (Nat.le_of_ble_eq_true rfl) rfl ?_
  refine eg_iload_n 0 dJ1_bitCount_41 rfl rfl ?_
  refine eg_iload_n 0 dJ1_bitCount_42 rfl rfl ?_
  refine eg_bipush dJ1_bitCount_43 kb_16 ?_
  refine eg_iushr dJ1_bitCount_45 ?_
  refine eg_iadd dJ1_bitCount_46 ?_
  refine eg_istore_n (lv' := [(0, .int (v2 + (eb_ushr v2 16)))]) dJ1_bitCount_47 rfl (Nat.le_of_ble_eq_true rfl) rfl ?_
  refine eg_iload_n 0 dJ1_bitCount_48 rfl rfl ?_
  refine eg_bipush dJ1_bitCount_49 kb_63 ?_
  refine eg_iand dJ1_bitCount_51 ?_
  exact eg_iret dJ1_bitCount_52 (Nat.zero_le _) (Nat.zero_le _) (hP _ _ ⟨_, rfl, rfl, h⟩)
def MJ1_numberOfTrailingZeros (a0 : Int32) (K : Int32 → Prop) : Prop :=
  eb_br (0 < ((a0 ^^^ (-1)) &&& (a0 - 1))) (eb_jp2 (fun (x0_1 : Int32) (x1_2 : Int32) => eb_jp2 (fun (x0_3 : Int32) (x1_4 : Int32) => eb_jp2 (fun (x0_5 : Int32) (x1_6 : Int32) => eb_jp2 (fun (x0_7 : Int32) (x1_8 : Int32) => K ((x1_8 + (eb_ushr x0_7 1)))) (fun k9 => eb_br (x0_5 ≤ 4) (k9 x0_5 x1_6) (k9 (eb_ushr x0_5 2) (x1_6 + 2)))) (fun k11 => eb_br (x0_3 ≤ 16) (k11 x0_3 x1_4) (k11 (eb_ushr x0_3 4) (x1_4 + 4)))) (fun k13 => eb_br (x0_1 ≤ 256) (k13 x0_1 x1_2) (k13 (eb_ushr x0_1 8) (x1_2 + 8)))) (fun k15 => eb_br (((a0 ^^^ (-1)) &&& (a0 - 1)) ≤ 65536) (k15 (((a0 ^^^ (-1)) &&& (a0 - 1))) 1) (eb_let ((eb_ushr (((a0 ^^^ (-1)) &&& (a0 - 1))) 16)) (fun v16 => k15 v16 (1 + 16))))) (K ((((a0 ^^^ (-1)) &&& (a0 - 1)) &&& 32)))
abbrev rmJ1_numberOfTrailingZeros : Room := { frames := 1, cells := 0, slots := 0, locals := 12 }
theorem nJ1_numberOfTrailingZeros : eb_ar yJ1_numberOfTrailingZeros 1 := by decide +kernel
theorem dJ1_numberOfTrailingZeros_0 : eb_dc cJ1_numberOfTrailingZeros 0 (.iload_n 0) 1 1 := by decide +kernel
theorem dJ1_numberOfTrailingZeros_1 : eb_dc cJ1_numberOfTrailingZeros 1 (.iconst (-1)) 1 2 := by decide +kernel
theorem dJ1_numberOfTrailingZeros_2 : eb_dc cJ1_numberOfTrailingZeros 2 (.ixor) 1 3 := by decide +kernel
theorem dJ1_numberOfTrailingZeros_3 : eb_dc cJ1_numberOfTrailingZeros 3 (.iload_n 0) 1 4 := by decide +kernel
theorem dJ1_numberOfTrailingZeros_4 : eb_dc cJ1_numberOfTrailingZeros 4 (.iconst 1) 1 5 := by decide +kernel
theorem dJ1_numberOfTrailingZeros_5 : eb_dc cJ1_numberOfTrailingZeros 5 (.isub) 1 6 := by decide +kernel
theorem dJ1_numberOfTrailingZeros_6 : eb_dc cJ1_numberOfTrailingZeros 6 (.iand) 1 7 := by decide +kernel
theorem dJ1_numberOfTrailingZeros_7 : eb_dc cJ1_numberOfTrailingZeros 7 (.istore_n 0) 1 8 := by decide +kernel
theorem dJ1_numberOfTrailingZeros_8 : eb_dc cJ1_numberOfTrailingZeros 8 (.iload_n 0) 1 9 := by decide +kernel
theorem dJ1_numberOfTrailingZeros_9 : eb_dj cJ1_numberOfTrailingZeros 9 (.ifCond .gt 8) 8 12 17 := by decide +kernel
theorem dJ1_numberOfTrailingZeros_12 : eb_dc cJ1_numberOfTrailingZeros 12 (.iload_n 0) 1 13 := by decide +kernel
theorem dJ1_numberOfTrailingZeros_13 : eb_dc cJ1_numberOfTrailingZeros 13 (.bipush 32) 2 15 := by decide +kernel
theorem dJ1_numberOfTrailingZeros_15 : eb_dc cJ1_numberOfTrailingZeros 15 (.iand) 1 16 := by decide +kernel
theorem dJ1_numberOfTrailingZeros_16 : eb_dc cJ1_numberOfTrailingZeros 16 (.ireturn) 1 17 := by decide +kernel
theorem dJ1_numberOfTrailingZeros_17 : eb_dc cJ1_numberOfTrailingZeros 17 (.iconst 1) 1 18 := by decide +kernel
theorem dJ1_numberOfTrailingZeros_18 : eb_dc cJ1_numberOfTrailingZeros 18 (.istore_n 1) 1 19 := by decide +kernel
theorem dJ1_numberOfTrailingZeros_19 : eb_dc cJ1_numberOfTrailingZeros 19 (.iload_n 0) 1 20 := by decide +kernel
theorem dJ1_numberOfTrailingZeros_20 : eb_dc cJ1_numberOfTrailingZeros 20 (.ldc_w 264) 3 23 := by decide +kernel
theorem dJ1_numberOfTrailingZeros_23 : eb_dj cJ1_numberOfTrailingZeros 23 (.if_icmp .le 11) 11 26 34 := by decide +kernel
theorem dJ1_numberOfTrailingZeros_26 : eb_dc cJ1_numberOfTrailingZeros 26 (.iinc 1 16) 3 29 := by decide +kernel
theorem dJ1_numberOfTrailingZeros_29 : eb_dc cJ1_numberOfTrailingZeros 29 (.iload_n 0) 1 30 := by decide +kernel
theorem dJ1_numberOfTrailingZeros_30 : eb_dc cJ1_numberOfTrailingZeros 30 (.bipush 16) 2 32 := by decide +kernel
theorem dJ1_numberOfTrailingZeros_32 : eb_dc cJ1_numberOfTrailingZeros 32 (.iushr) 1 33 := by decide +kernel
theorem dJ1_numberOfTrailingZeros_33 : eb_dc cJ1_numberOfTrailingZeros 33 (.istore_n 0) 1 34 := by decide +kernel
theorem dJ1_numberOfTrailingZeros_34 : eb_dc cJ1_numberOfTrailingZeros 34 (.iload_n 0) 1 35 := by decide +kernel
theorem dJ1_numberOfTrailingZeros_35 : eb_dc cJ1_numberOfTrailingZeros 35 (.sipush 256) 3 38 := by decide +kernel
theorem dJ1_numberOfTrailingZeros_38 : eb_dj cJ1_numberOfTrailingZeros 38 (.if_icmp .le 11) 11 41 49 := by decide +kernel
theorem dJ1_numberOfTrailingZeros_41 : eb_dc cJ1_numberOfTrailingZeros 41 (.iinc 1 8) 3 44 := by decide +kernel
theorem dJ1_numberOfTrailingZeros_44 : eb_dc cJ1_numberOfTrailingZeros 44 (.iload_n 0) 1 45 := by decide +kernel
theorem dJ1_numberOfTrailingZeros_45 : eb_dc cJ1_numberOfTrailingZeros 45 (.bipush 8) 2 47 := by decide +kernel
theorem dJ1_numberOfTrailingZeros_47 : eb_dc cJ1_numberOfTrailingZeros 47 (.iushr) 1 48 := by decide +kernel
theorem dJ1_numberOfTrailingZeros_48 : eb_dc cJ1_numberOfTrailingZeros 48 (.istore_n 0) 1 49 := by decide +kernel
theorem dJ1_numberOfTrailingZeros_49 : eb_dc cJ1_numberOfTrailingZeros 49 (.iload_n 0) 1 50 := by decide +kernel
theorem dJ1_numberOfTrailingZeros_50 : eb_dc cJ1_numberOfTrailingZeros 50 (.bipush 16) 2 52 := by decide +kernel
theorem dJ1_numberOfTrailingZeros_52 : eb_dj cJ1_numberOfTrailingZeros 52 (.if_icmp .le 10) 10 55 62 := by decide +kernel
theorem dJ1_numberOfTrailingZeros_55 : eb_dc cJ1_numberOfTrailingZeros 55 (.iinc 1 4) 3 58 := by decide +kernel
theorem dJ1_numberOfTrailingZeros_58 : eb_dc cJ1_numberOfTrailingZeros 58 (.iload_n 0) 1 59 := by decide +kernel
theorem dJ1_numberOfTrailingZeros_59 : eb_dc cJ1_numberOfTrailingZeros 59 (.iconst 4) 1 60 := by decide +kernel
theorem dJ1_numberOfTrailingZeros_60 : eb_dc cJ1_numberOfTrailingZeros 60 (.iushr) 1 61 := by decide +kernel
theorem dJ1_numberOfTrailingZeros_61 : eb_dc cJ1_numberOfTrailingZeros 61 (.istore_n 0) 1 62 := by decide +kernel
theorem dJ1_numberOfTrailingZeros_62 : eb_dc cJ1_numberOfTrailingZeros 62 (.iload_n 0) 1 63 := by decide +kernel
theorem dJ1_numberOfTrailingZeros_63 : eb_dc cJ1_numberOfTrailingZeros 63 (.iconst 4) 1 64 := by decide +kernel
theorem dJ1_numberOfTrailingZeros_64 : eb_dj cJ1_numberOfTrailingZeros 64 (.if_icmp .le 10) 10 67 74 := by decide +kernel
theorem dJ1_numberOfTrailingZeros_67 : eb_dc cJ1_numberOfTrailingZeros 67 (.iinc 1 2) 3 70 := by decide +kernel
theorem dJ1_numberOfTrailingZeros_70 : eb_dc cJ1_numberOfTrailingZeros 70 (.iload_n 0) 1 71 := by decide +kernel
theorem dJ1_numberOfTrailingZeros_71 : eb_dc cJ1_numberOfTrailingZeros 71 (.iconst 2) 1 72 := by decide +kernel
theorem dJ1_numberOfTrailingZeros_72 : eb_dc cJ1_numberOfTrailingZeros 72 (.iushr) 1 73 := by decide +kernel
theorem dJ1_numberOfTrailingZeros_73 : eb_dc cJ1_numberOfTrailingZeros 73 (.istore_n 0) 1 74 := by decide +kernel
theorem dJ1_numberOfTrailingZeros_74 : eb_dc cJ1_numberOfTrailingZeros 74 (.iload_n 1) 1 75 := by decide +kernel
theorem dJ1_numberOfTrailingZeros_75 : eb_dc cJ1_numberOfTrailingZeros 75 (.iload_n 0) 1 76 := by decide +kernel
theorem dJ1_numberOfTrailingZeros_76 : eb_dc cJ1_numberOfTrailingZeros 76 (.iconst 1) 1 77 := by decide +kernel
theorem dJ1_numberOfTrailingZeros_77 : eb_dc cJ1_numberOfTrailingZeros 77 (.iushr) 1 78 := by decide +kernel
theorem dJ1_numberOfTrailingZeros_78 : eb_dc cJ1_numberOfTrailingZeros 78 (.iadd) 1 79 := by decide +kernel
theorem dJ1_numberOfTrailingZeros_79 : eb_dc cJ1_numberOfTrailingZeros 79 (.ireturn) 1 80 := by decide +kernel
theorem ctJ1_numberOfTrailingZeros {l : Launch} {Γ : eb_C} {st : eb_S} {a0 : Int32} {K : Int32 → Prop} (h : MJ1_numberOfTrailingZeros a0 K) : eb_Ct l Γ yJ1_numberOfTrailingZeros cJ1_numberOfTrailingZeros 2 (some .int) rmJ1_numberOfTrailingZeros [.int a0] st (eb_pI st K) := by
  refine eb_of (by decide) (Nat.le_of_ble_eq_true rfl) (fun X P hP hX0 => ?_)
  show eb_G l Γ P X cJ1_numberOfTrailingZeros RJ1 2 (some .int) rmJ1_numberOfTrailingZeros 0 [(0, .int a0)] [] st 0 0
  refine eg_iload_n 0 dJ1_numberOfTrailingZeros_0 rfl rfl ?_
  refine eg_iconst dJ1_numberOfTrailingZeros_1 kc_m1 ?_
  refine eg_ixor dJ1_numberOfTrailingZeros_2 ?_
  refine eg_iload_n 0 dJ1_numberOfTrailingZeros_3 rfl rfl ?_
  refine eg_iconst dJ1_numberOfTrailingZeros_4 kc_1 ?_
  refine eg_isub dJ1_numberOfTrailingZeros_5 ?_
  refine eg_iand dJ1_numberOfTrailingZeros_6 ?_
  refine eg_istore_n (lv' := [(0, .int ((a0 ^^^ (-1)) &&& (a0 - 1)))]) dJ1_numberOfTrailingZeros_7 rfl (Nat.le_of_ble_eq_true rfl) rfl ?_
  refine eg_iload_n 0 dJ1_numberOfTrailingZeros_8 rfl rfl ?_
  refine eg_if_gt dJ1_numberOfTrailingZeros_9 (fun c18 => ?_) (fun c18 => ?_)
  · replace h := h.1 c18
    refine eg_iconst dJ1_numberOfTrailingZeros_17 kc_1 ?_
    refine eg_istore_n (lv' := [(1, .int 1), (0, .int ((a0 ^^^ (-1)) &&& (a0 - 1)))]) dJ1_numberOfTrailingZeros_18 rfl (Nat.le_of_ble_eq_true rfl) rfl ?_
    refine eg_iload_n 1 dJ1_numberOfTrailingZeros_19 rfl rfl ?_
    refine eg_ldcw dJ1_numberOfTrailingZeros_20 q298 ?_
    refine eb_jp2_e (J := fun (x0_1 : Int32) (x1_2 : Int32) => eb_G l Γ P X cJ1_numberOfTrailingZeros RJ1 2 (some .int) rmJ1_numberOfTrailingZeros 34 [(0, .int x0_1), (1, .int x1_2)] [] st 0 0) h ?_ ?_
    · clear h
      intro x0_1 x1_2 h
      refine eg_iload_n 0 dJ1_numberOfTrailingZeros_34 rfl rfl ?_
      refine eg_sipush dJ1_numberOfTrailingZeros_35 ks_256 ?_
      refine eb_jp2_e (J := fun (x0_3 : Int32) (x1_4 : Int32) => eb_G l Γ P X cJ1_numberOfTrailingZeros RJ1 2 (some .int) rmJ1_numberOfTrailingZeros 49 [(0, .int x0_3), (1, .int x1_4)] [] st 0 0) h ?_ ?_
      · clear h
        intro x0_3 x1_4 h
        refine eg_iload_n 0 dJ1_numberOfTrailingZeros_49 rfl rfl ?_
        refine eg_bipush dJ1_numberOfTrailingZeros_50 kb_16 ?_
        refine eb_jp2_e (J := fun (x0_5 : Int32) (x1_6 : Int32) => eb_G l Γ P X cJ1_numberOfTrailingZeros RJ1 2 (some .int) rmJ1_numberOfTrailingZeros 62 [(0, .int x0_5), (1, .int x1_6)] [] st 0 0) h ?_ ?_
        · clear h
          intro x0_5 x1_6 h
          refine eg_iload_n 0 dJ1_numberOfTrailingZeros_62 rfl rfl ?_
          refine eg_iconst dJ1_numberOfTrailingZeros_63 kc_4 ?_
          refine eb_jp2_e (J := fun (x0_7 : Int32) (x1_8 : Int32) => eb_G l Γ P X cJ1_numberOfTrailingZeros RJ1 2 (some .int) rmJ1_numberOfTrailingZeros 74 [(0, .int x0_7), (1, .int x1_8)] [] st 0 0) h ?_ ?_
          · clear h
            intro x0_7 x1_8 h
            refine eg_iload_n 1 dJ1_numberOfTrailingZeros_74 rfl rfl ?_
            refine eg_iload_n 0 dJ1_numberOfTrailingZeros_75 rfl rfl ?_
            refine eg_iconst dJ1_numberOfTrailingZeros_76 kc_1 ?_
            refine eg_iushr dJ1_numberOfTrailingZeros_77 ?_
            refine eg_iadd dJ1_numberOfTrailingZeros_78 ?_
            exact eg_iret dJ1_numberOfTrailingZeros_79 (Nat.zero_le _) (Nat.zero_le _) (hP _ _ ⟨_, rfl, rfl, h⟩)
          · clear h
            intro k9 hk9 h
            refine eg_icmp_le dJ1_numberOfTrailingZeros_64 (fun c10 => ?_) (fun c10 => ?_)
            · replace h := h.1 c10
              exact hk9 x0_5 x1_6 h
            · replace h := h.2 c10
              refine eg_iinc (j := 1) (lv' := [(1, .int (x1_6 + 2)), (0, .int x0_5)]) dJ1_numberOfTrailingZeros_67 rfl (by rw [kc_2]) (Nat.le_of_ble_eq_true rfl) rfl ?_
              refine eg_iload_n 1 dJ1_numberOfTrailingZeros_70 rfl rfl ?_
              refine eg_iconst dJ1_numberOfTrailingZeros_71 kc_2 ?_
              refine eg_iushr dJ1_numberOfTrailingZeros_72 ?_
              refine eg_istore_n (lv' := [(0, .int (eb_ushr x0_5 2)), (1, .int (x1_6 + 2))]) dJ1_numberOfTrailingZeros_73 rfl (Nat.le_of_ble_eq_true rfl) rfl ?_
              exact hk9 (eb_ushr x0_5 2) (x1_6 + 2) h
        · clear h
          intro k11 hk11 h
          refine eg_icmp_le dJ1_numberOfTrailingZeros_52 (fun c12 => ?_) (fun c12 => ?_)
          · replace h := h.1 c12
            exact hk11 x0_3 x1_4 h
          · replace h := h.2 c12
            refine eg_iinc (j := 1) (lv' := [(1, .int (x1_4 + 4)), (0, .int x0_3)]) dJ1_numberOfTrailingZeros_55 rfl (by rw [kc_4]) (Nat.le_of_ble_eq_true rfl) rfl ?_
            refine eg_iload_n 1 dJ1_numberOfTrailingZeros_58 rfl rfl ?_
            refine eg_iconst dJ1_numberOfTrailingZeros_59 kc_4 ?_
            refine eg_iushr dJ1_numberOfTrailingZeros_60 ?_
            refine eg_istore_n (lv' := [(0, .int (eb_ushr x0_3 4)), (1, .int (x1_4 + 4))]) dJ1_numberOfTrailingZeros_61 rfl (Nat.le_of_ble_eq_true rfl) rfl ?_
            exact hk11 (eb_ushr x0_3 4) (x1_4 + 4) h
      · clear h
        intro k13 hk13 h
        refine eg_icmp_le dJ1_numberOfTrailingZeros_38 (fun c14 => ?_) (fun c14 => ?_)
        · replace h := h.1 c14
          exact hk13 x0_1 x1_2 h
        · replace h := h.2 c14
          refine eg_iinc (j := 1) (lv' := [(1, .int (x1_2 + 8)), (0, .int x0_1)]) dJ1_numberOfTrailingZeros_41 rfl (by rw [kc_8]) (Nat.le_of_ble_eq_true rfl) rfl ?_
          refine eg_iload_n 1 dJ1_numberOfTrailingZeros_44 rfl rfl ?_
          refine eg_bipush dJ1_numberOfTrailingZeros_45 kb_8 ?_
          refine eg_iushr dJ1_numberOfTrailingZeros_47 ?_
          refine eg_istore_n (lv' := [(0, .int (eb_ushr x0_1 8)), (1, .int (x1_2 + 8))]) dJ1_numberOfTrailingZeros_48 rfl (Nat.le_of_ble_eq_true rfl) rfl ?_
          exact hk13 (eb_ushr x0_1 8) (x1_2 + 8) h
    · clear h
      intro k15 hk15 h
      refine eg_icmp_le dJ1_numberOfTrailingZeros_23 (fun c17 => ?_) (fun c17 => ?_)
      · replace h := h.1 c17
        exact eg_sub [1, 0] rfl (hk15 (((a0 ^^^ (-1)) &&& (a0 - 1))) 1 h)
      · replace h := h.2 c17
        refine eg_iinc (j := 0) (lv' := [(1, .int (1 + 16)), (0, .int ((a0 ^^^ (-1)) &&& (a0 - 1)))]) dJ1_numberOfTrailingZeros_26 rfl (by rw [kc_16]) (Nat.le_of_ble_eq_true rfl) rfl ?_
        refine eg_iload_n 1 dJ1_numberOfTrailingZeros_29 rfl rfl ?_
        refine eg_bipush dJ1_numberOfTrailingZeros_30 kb_16 ?_
        refine eg_iushr dJ1_numberOfTrailingZeros_32 ?_
        refine eg_leti (fun v16 ev16 => ?_)
        replace h := h v16 ev16
        refine eg_istore_n (lv' := [(0, .int v16), (1, .int (1 + 16))]) dJ1_numberOfTrailingZeros_33 rfl (Nat.le_of_ble_eq_true rfl) rfl ?_
        exact hk15 v16 (1 + 16) h
  · replace h := h.2 c18
    refine eg_iload_n 0 dJ1_numberOfTrailingZeros_12 rfl rfl ?_
    refine eg_bipush dJ1_numberOfTrailingZeros_13 kb_32 ?_
    refine eg_iand dJ1_numberOfTrailingZeros_15 ?_
    exact eg_iret dJ1_numberOfTrailingZeros_16 (Nat.zero_le _) (Nat.zero_le _) (hP _ _ ⟨_, rfl, rfl, h⟩)
def MX1_angle (Γ : eb_C) (st : eb_S) (a0 : Nat) (a1 : Int32) (a2 : Int32) (K : Int32 → Prop) : Prop :=
  eb_gr st a0 1 1 (fun v1 => eb_nn v1 (fun p2 => eb_li Γ st p2 0 (((4 * a1) + a2)) (fun v3 => K v3)))
abbrev rmX1_angle : Room := { frames := 1, cells := 0, slots := 0, locals := 12 }
theorem nX1_angle : eb_ar yX1_angle 2 := by decide +kernel
theorem dX1_angle_0 : eb_dc cX1_angle 0 (.aload_n 0) 1 1 := by decide +kernel
theorem dX1_angle_1 : eb_dc cX1_angle 1 (.getfield 9) 3 4 := by decide +kernel
theorem dX1_angle_4 : eb_dc cX1_angle 4 (.iconst 4) 1 5 := by decide +kernel
theorem dX1_angle_5 : eb_dc cX1_angle 5 (.iload_n 1) 1 6 := by decide +kernel
theorem dX1_angle_6 : eb_dc cX1_angle 6 (.imul) 1 7 := by decide +kernel
theorem dX1_angle_7 : eb_dc cX1_angle 7 (.iload_n 2) 1 8 := by decide +kernel
theorem dX1_angle_8 : eb_dc cX1_angle 8 (.iadd) 1 9 := by decide +kernel
theorem dX1_angle_9 : eb_dc cX1_angle 9 (.iaload) 1 10 := by decide +kernel
theorem dX1_angle_10 : eb_dc cX1_angle 10 (.ireturn) 1 11 := by decide +kernel
theorem ctX1_angle {l : Launch} {Γ : eb_C} {st : eb_S} {a0 : Nat} {a1 : Int32} {a2 : Int32} {K : Int32 → Prop} (h : MX1_angle Γ st a0 a1 a2 K) : eb_Ct l Γ yX1_angle cX1_angle 3 (some .int) rmX1_angle [.ref a0, .int a1, .int a2] st (eb_pI st K) := by
  refine eb_of (by decide) (Nat.le_of_ble_eq_true rfl) (fun X P hP hX0 => ?_)
  show eb_G l Γ P X cX1_angle RX1 3 (some .int) rmX1_angle 0 [(0, .ref a0), (1, .int a1), (2, .int a2)] [] st 0 0
  refine eg_aload_n 0 dX1_angle_0 rfl rfl ?_
  obtain ⟨fs, v1, he, hv, h⟩ := h
  refine eg_get 1 in_X1 he rfl (Nat.le_of_ble_eq_true rfl) q123 rfl hv dX1_angle_1 ?_
  refine eg_iconst dX1_angle_4 kc_4 ?_
  refine eg_iload_n 1 dX1_angle_5 rfl rfl ?_
  refine eg_imul dX1_angle_6 ?_
  refine eg_iload_n 2 dX1_angle_7 rfl rfl ?_
  refine eg_iadd dX1_angle_8 ?_
  obtain ⟨p2, rfl, h⟩ := h
  obtain ⟨nA, fA, he, hb, h⟩ := h
  refine eh_iald he hb dX1_angle_9 (fun v3 ev3 => ?_)
  replace h := h v3 ev3
  exact eg_iret dX1_angle_10 (Nat.zero_le _) (Nat.zero_le _) (hP _ _ ⟨_, rfl, rfl, h⟩)
def MJ0_fill (Γ : eb_C) (st : eb_S) (a0 : Nat) (a1 : Int32) (K : eb_S → Prop) : Prop :=
  eb_ln Γ st a0 0 (fun v1 => eb_loop2 (fun r4 (x2_2 : Int32) (g3 : eb_S) => eb_br (v1 ≤ x2_2) (K g3) (eb_wi Γ g3 a0 0 x2_2 a1 (fun g5 => r4 (x2_2 + 1) g5))) 0 st)
abbrev rmJ0_fill : Room := { frames := 1, cells := 0, slots := 0, locals := 12 }
theorem nJ0_fill : eb_ar yJ0_fill 2 := by decide +kernel
theorem dJ0_fill_0 : eb_dc cJ0_fill 0 (.iconst 0) 1 1 := by decide +kernel
theorem dJ0_fill_1 : eb_dc cJ0_fill 1 (.istore_n 2) 1 2 := by decide +kernel
theorem dJ0_fill_2 : eb_dc cJ0_fill 2 (.aload_n 0) 1 3 := by decide +kernel
theorem dJ0_fill_3 : eb_dc cJ0_fill 3 (.arraylength) 1 4 := by decide +kernel
theorem dJ0_fill_4 : eb_dc cJ0_fill 4 (.istore_n 3) 1 5 := by decide +kernel
theorem dJ0_fill_5 : eb_dc cJ0_fill 5 (.iload_n 2) 1 6 := by decide +kernel
theorem dJ0_fill_6 : eb_dc cJ0_fill 6 (.iload_n 3) 1 7 := by decide +kernel
theorem dJ0_fill_7 : eb_dj cJ0_fill 7 (.if_icmp .ge 13) 13 10 20 := by decide +kernel
theorem dJ0_fill_10 : eb_dc cJ0_fill 10 (.aload_n 0) 1 11 := by decide +kernel
theorem dJ0_fill_11 : eb_dc cJ0_fill 11 (.iload_n 2) 1 12 := by decide +kernel
theorem dJ0_fill_12 : eb_dc cJ0_fill 12 (.iload_n 1) 1 13 := by decide +kernel
theorem dJ0_fill_13 : eb_dc cJ0_fill 13 (.iastore) 1 14 := by decide +kernel
theorem dJ0_fill_14 : eb_dc cJ0_fill 14 (.iinc 2 1) 3 17 := by decide +kernel
theorem dJ0_fill_17 : eb_dj cJ0_fill 17 (.goto (-12)) (-12) 20 5 := by decide +kernel
theorem dJ0_fill_20 : eb_dc cJ0_fill 20 (.return_) 1 21 := by decide +kernel
theorem ctJ0_fill {l : Launch} {Γ : eb_C} {st : eb_S} {a0 : Nat} {a1 : Int32} {K : eb_S → Prop} (h : MJ0_fill Γ st a0 a1 K) : eb_Ct l Γ yJ0_fill cJ0_fill 4 (none) rmJ0_fill [.ref a0, .int a1] st (eb_oV K) := by
  refine eb_of (by decide) (Nat.le_of_ble_eq_true rfl) (fun X P hP hX0 => ?_)
  show eb_G l Γ P X cJ0_fill RJ0 4 (none) rmJ0_fill 0 [(0, .ref a0), (1, .int a1)] [] st 0 0
  refine eg_iconst dJ0_fill_0 kc_0 ?_
  refine eg_istore_n (lv' := [(2, .int 0), (0, .ref a0), (1, .int a1)]) dJ0_fill_1 rfl (Nat.le_of_ble_eq_true rfl) rfl ?_
  refine eg_aload_n 1 dJ0_fill_2 rfl rfl ?_
  obtain ⟨xA, he, h⟩ := h
  refine eh_alen (t := 0) (ty := .int) he rfl dJ0_fill_3 ?_
  generalize Int32.ofNat xA.1 = v1 at h ⊢
  refine eg_istore_n (lv' := [(3, .int v1), (2, .int 0), (0, .ref a0), (1, .int a1)]) dJ0_fill_4 rfl (Nat.le_of_ble_eq_true rfl) rfl ?_
  refine eg_sub [2, 3, 1, 0] rfl ?_
  refine eb_loop2_e (J := fun (x2_2 : Int32) (g3 : eb_S) => eb_G l Γ P X cJ0_fill RJ0 4 (none) rmJ0_fill 5 [(0, .ref a0), (1, .int a1), (2, .int x2_2), (3, .int v1)] [] g3 0 0) h ?_
  clear h
  intro r4 hr4 x2_2 g3 h
  refine eg_iload_n 2 dJ0_fill_5 rfl rfl ?_
  refine eg_iload_n 3 dJ0_fill_6 rfl rfl ?_
  refine eg_icmp_ge dJ0_fill_7 (fun c6 => ?_) (fun c6 => ?_)
  · replace h := h.1 c6
    exact eg_vret dJ0_fill_20 (Nat.zero_le _) (Nat.zero_le _) (hP _ _ ⟨rfl, h⟩)
  · replace h := h.2 c6
    refine eg_aload_n 0 dJ0_fill_10 rfl rfl ?_
    refine eg_iload_n 2 dJ0_fill_11 rfl rfl ?_
    refine eg_iload_n 1 dJ0_fill_12 rfl rfl ?_
    obtain ⟨nA, fA, he, hb, h⟩ := h
    refine eh_iast he hb dJ0_fill_13 (fun g5 eg5 => ?_)
    replace h := h g5 eg5
    refine eg_iinc (j := 2) (lv' := [(2, .int (x2_2 + 1)), (0, .ref a0), (1, .int a1), (3, .int v1)]) dJ0_fill_14 rfl (by rw [kc_1]) (Nat.le_of_ble_eq_true rfl) rfl ?_
    refine eg_goto dJ0_fill_17 ?_
    exact eg_sub [1, 2, 0, 3] rfl (hr4 (x2_2 + 1) g5 h)
def MX6_init (Γ : eb_C) (st : eb_S) (a0 : Nat) (a1 : Nat) (a2 : Int32) (K : eb_S → Prop) : Prop :=
  MX3_init Γ st a0 (fun g2 => eb_jp1 (fun (x3_5 : Int32) => eb_zb x3_5 ∧ (eb_pt g2 a0 5 0 (.int x3_5) (fun g6 => K g6))) (fun k7 => eb_loop2 (fun r10 (x3_8 : Int32) (x4_9 : Int32) => eb_br (4 ≤ x4_9) (k7 x3_8) (eb_jp1 (fun (s11 : Int32) => r10 s11 (x4_9 + 1)) (fun k12 => eb_br (x3_8 = 0) (k12 0) (eb_br (x4_9 = a2) (k12 1) (eb_cs g2 a1 [1] ∧ MX1_angle Γ g2 a1 a2 x4_9 (fun v13 => eb_br (v13 = 3) (k12 1) (k12 0))))))) 1 0))
abbrev rmX6_init : Room := { frames := 3, cells := 0, slots := 0, locals := 60 }
theorem nX6_init : eb_ar yX6_init 2 := by decide +kernel
theorem dX6_init_0 : eb_dc cX6_init 0 (.aload_n 0) 1 1 := by decide +kernel
theorem dX6_init_1 : eb_dc cX6_init 1 (.invokespecial 3) 3 4 := by decide +kernel
theorem dX6_init_4 : eb_dc cX6_init 4 (.iconst 1) 1 5 := by decide +kernel
theorem dX6_init_5 : eb_dc cX6_init 5 (.istore_n 3) 1 6 := by decide +kernel
theorem dX6_init_6 : eb_dc cX6_init 6 (.iconst 0) 1 7 := by decide +kernel
theorem dX6_init_7 : eb_dc cX6_init 7 (.istore 4) 2 9 := by decide +kernel
theorem dX6_init_9 : eb_dc cX6_init 9 (.iload 4) 2 11 := by decide +kernel
theorem dX6_init_11 : eb_dc cX6_init 11 (.iconst 4) 1 12 := by decide +kernel
theorem dX6_init_12 : eb_dj cX6_init 12 (.if_icmp .ge 36) 36 15 48 := by decide +kernel
theorem dX6_init_15 : eb_dc cX6_init 15 (.iload_n 3) 1 16 := by decide +kernel
theorem dX6_init_16 : eb_dj cX6_init 16 (.ifCond .eq 24) 24 19 40 := by decide +kernel
theorem dX6_init_19 : eb_dc cX6_init 19 (.iload 4) 2 21 := by decide +kernel
theorem dX6_init_21 : eb_dc cX6_init 21 (.iload_n 2) 1 22 := by decide +kernel
theorem dX6_init_22 : eb_dj cX6_init 22 (.if_icmp .eq 14) 14 25 36 := by decide +kernel
theorem dX6_init_25 : eb_dc cX6_init 25 (.aload_n 1) 1 26 := by decide +kernel
theorem dX6_init_26 : eb_dc cX6_init 26 (.iload_n 2) 1 27 := by decide +kernel
theorem dX6_init_27 : eb_dc cX6_init 27 (.iload 4) 2 29 := by decide +kernel
theorem dX6_init_29 : eb_dc cX6_init 29 (.invokevirtual 9) 3 32 := by decide +kernel
theorem dX6_init_32 : eb_dc cX6_init 32 (.iconst 3) 1 33 := by decide +kernel
theorem dX6_init_33 : eb_dj cX6_init 33 (.if_icmp .ne 7) 7 36 40 := by decide +kernel
theorem dX6_init_36 : eb_dc cX6_init 36 (.iconst 1) 1 37 := by decide +kernel
theorem dX6_init_37 : eb_dj cX6_init 37 (.goto 4) 4 40 41 := by decide +kernel
theorem dX6_init_40 : eb_dc cX6_init 40 (.iconst 0) 1 41 := by decide +kernel
theorem dX6_init_41 : eb_dc cX6_init 41 (.istore_n 3) 1 42 := by decide +kernel
theorem dX6_init_42 : eb_dc cX6_init 42 (.iinc 4 1) 3 45 := by decide +kernel
theorem dX6_init_45 : eb_dj cX6_init 45 (.goto (-36)) (-36) 48 9 := by decide +kernel
theorem dX6_init_48 : eb_dc cX6_init 48 (.aload_n 0) 1 49 := by decide +kernel
theorem dX6_init_49 : eb_dc cX6_init 49 (.iload_n 3) 1 50 := by decide +kernel
theorem dX6_init_50 : eb_dc cX6_init 50 (.putfield 15) 3 53 := by decide +kernel
theorem dX6_init_53 : eb_dc cX6_init 53 (.return_) 1 54 := by decide +kernel
theorem ctX6_init {l : Launch} {Γ : eb_C} {st : eb_S} {a0 : Nat} {a1 : Nat} {a2 : Int32} {K : eb_S → Prop} (h : MX6_init Γ st a0 a1 a2 K) : eb_Ct l Γ yX6_init cX6_init 5 (none) rmX6_init [.ref a0, .ref a1, .int a2] st (eb_oV K) := by
  refine eb_of (by decide) (Nat.le_of_ble_eq_true rfl) (fun X P hP hX0 => ?_)
  replace hX0 := hX0 rfl
  show eb_G l Γ P X cX6_init RX6 5 (none) rmX6_init 0 [(0, .ref a0), (1, .ref a1), (2, .int a2)] [] st 0 0
  refine eg_aload_n 0 dX6_init_0 rfl rfl ?_
  have hM0 := h
  clear h
  refine ec_INVw (rest := []) (ctX3_init hM0) q270 (List.mem_of_getElem? (i := 7) rfl) q79 q269 rfl nX3_init ⟨Nat.le_of_ble_eq_true rfl, Nat.le_of_ble_eq_true rfl⟩ ⟨rfl, rfl⟩ ⟨Nat.zero_le _, Nat.zero_le _⟩ rfl rfl (Nat.le_of_ble_eq_true rfl) dX6_init_1 (fun g2 h => ?_)
  clear hM0
  refine eg_iconst dX6_init_4 kc_1 ?_
  refine eg_istore_n (lv' := [(3, .int 1), (0, .ref a0), (1, .ref a1), (2, .int a2)]) dX6_init_5 rfl (Nat.le_of_ble_eq_true rfl) rfl ?_
  refine eg_iconst dX6_init_6 kc_0 ?_
  refine eg_istore (lv' := [(4, .int 0), (3, .int 1), (0, .ref a0), (1, .ref a1), (2, .int a2)]) dX6_init_7 (Nat.le_of_ble_eq_true rfl) rfl ?_
  refine eb_jp1_e (J := fun (x3_5 : Int32) => eb_G l Γ P X cX6_init RX6 5 (none) rmX6_init 48 [(0, .ref a0), (3, .int x3_5)] [] g2 0 0) h ?_ ?_
  · clear h
    intro x3_5 h
    refine eg_aload_n 0 dX6_init_48 rfl rfl ?_
    refine eg_iload_n 1 dX6_init_49 rfl rfl ?_
    obtain ⟨hzb, h⟩ := h
    obtain ⟨fs, he, hlen, h⟩ := h
    refine eh_putF 0 in_X6 he rfl (Nat.le_of_ble_eq_true rfl) tyX6 tyX6_ok nmX6 q291 rfl rfl hX0 rfl hzb.nar (eb_zbF hzb) hlen dX6_init_50 (fun g6 eg6 => ?_)
    replace h := h g6 eg6
    exact eg_vret dX6_init_53 (Nat.zero_le _) (Nat.zero_le _) (hP _ _ ⟨rfl, h⟩)
  · clear h
    intro k7 hk7 h
    refine eg_sub [2, 3, 4, 1, 0] rfl ?_
    refine eb_loop2_e (J := fun (x3_8 : Int32) (x4_9 : Int32) => eb_G l Γ P X cX6_init RX6 5 (none) rmX6_init 9 [(0, .ref a0), (1, .ref a1), (2, .int a2), (3, .int x3_8), (4, .int x4_9)] [] g2 0 0) h ?_
    clear h
    intro r10 hr10 x3_8 x4_9 h
    refine eg_iload 4 dX6_init_9 rfl ?_
    refine eg_iconst dX6_init_11 kc_4 ?_
    refine eg_icmp_ge dX6_init_12 (fun c20 => ?_) (fun c20 => ?_)
    · replace h := h.1 c20
      exact eg_sub [0, 3] rfl (hk7 x3_8 h)
    · replace h := h.2 c20
      refine eg_iload_n 3 dX6_init_15 rfl rfl ?_
      refine eb_jp1_e (J := fun (s11 : Int32) => eb_G l Γ P X cX6_init RX6 5 (none) rmX6_init 41 [(0, .ref a0), (1, .ref a1), (2, .int a2), (4, .int x4_9)] [.int s11] g2 0 0) h ?_ ?_
      · clear h
        intro s11 h
        refine eg_istore_n (lv' := [(3, .int s11), (0, .ref a0), (1, .ref a1), (2, .int a2), (4, .int x4_9)]) dX6_init_41 rfl (Nat.le_of_ble_eq_true rfl) rfl ?_
        refine eg_iinc (j := 4) (lv' := [(4, .int (x4_9 + 1)), (3, .int s11), (0, .ref a0), (1, .ref a1), (2, .int a2)]) dX6_init_42 rfl (by rw [kc_1]) (Nat.le_of_ble_eq_true rfl) rfl ?_
        refine eg_goto dX6_init_45 ?_
        exact eg_sub [2, 3, 4, 1, 0] rfl (hr10 s11 (x4_9 + 1) h)
      · clear h
        intro k12 hk12 h
        refine eg_if_eq dX6_init_16 (fun c19 => ?_) (fun c19 => ?_)
        · replace h := h.1 c19
          refine eg_iconst dX6_init_40 kc_0 ?_
          exact eg_sub [0, 1, 2, 4] rfl (hk12 0 h)
        · replace h := h.2 c19
          refine eg_iload 4 dX6_init_19 rfl ?_
          refine eg_iload_n 2 dX6_init_21 rfl rfl ?_
          refine eg_icmp_eq dX6_init_22 (fun c18 => ?_) (fun c18 => ?_)
          · replace h := h.1 c18
            refine eg_iconst dX6_init_36 kc_1 ?_
            refine eg_goto dX6_init_37 ?_
            exact eg_sub [0, 1, 2, 4] rfl (hk12 1 h)
          · replace h := h.2 c18
            refine eg_aload_n 1 dX6_init_25 rfl rfl ?_
            refine eg_iload_n 2 dX6_init_26 rfl rfl ?_
            refine eg_iload 4 dX6_init_27 rfl ?_
            obtain ⟨hcs, h⟩ := h
            have hM0 := h
            clear h
            refine ec_VIp (rest := []) (ctX1_angle hM0) (lw_V q290 q201 q202 q75 q203) rfl rfl hcs nX1_angle ⟨Nat.le_of_ble_eq_true rfl, Nat.le_of_ble_eq_true rfl⟩ ⟨rfl, rfl⟩ ⟨Nat.zero_le _, Nat.zero_le _⟩ rfl rfl (Nat.le_of_ble_eq_true rfl) dX6_init_29 (fun v13 h => ?_)
            clear hM0
            refine eg_iconst dX6_init_32 kc_3 ?_
            refine eg_icmp_ne dX6_init_33 (fun c17 => ?_) (fun c17 => ?_)
            · replace h := h.2 c17
              refine eg_iconst dX6_init_40 kc_0 ?_
              exact eg_sub [0, 1, 2, 4] rfl (hk12 0 h)
            · replace h := h.1 c17
              refine eg_iconst dX6_init_36 kc_1 ?_
              refine eg_goto dX6_init_37 ?_
              exact eg_sub [0, 1, 2, 4] rfl (hk12 1 h)
def MX6_size (Γ : eb_C) (st : eb_S) (a0 : Nat) (K : Int32 → Prop) : Prop :=
  eb_gi st a0 5 0 (fun v1 => eb_br (v1 = 0) (K 0) (K 192))
abbrev rmX6_size : Room := { frames := 1, cells := 0, slots := 0, locals := 12 }
theorem nX6_size : eb_ar yX6_size 0 := by decide +kernel
theorem dX6_size_0 : eb_dc cX6_size 0 (.aload_n 0) 1 1 := by decide +kernel
theorem dX6_size_1 : eb_dc cX6_size 1 (.getfield 15) 3 4 := by decide +kernel
theorem dX6_size_4 : eb_dj cX6_size 4 (.ifCond .eq 9) 9 7 13 := by decide +kernel
theorem dX6_size_7 : eb_dc cX6_size 7 (.sipush 192) 3 10 := by decide +kernel
theorem dX6_size_10 : eb_dj cX6_size 10 (.goto 4) 4 13 14 := by decide +kernel
theorem dX6_size_13 : eb_dc cX6_size 13 (.iconst 0) 1 14 := by decide +kernel
theorem dX6_size_14 : eb_dc cX6_size 14 (.ireturn) 1 15 := by decide +kernel
theorem ctX6_size {l : Launch} {Γ : eb_C} {st : eb_S} {a0 : Nat} {K : Int32 → Prop} (h : MX6_size Γ st a0 K) : eb_Ct l Γ yX6_size cX6_size 1 (some .int) rmX6_size [.ref a0] st (eb_pI st K) := by
  refine eb_of (by decide) (Nat.le_of_ble_eq_true rfl) (fun X P hP hX0 => ?_)
  show eb_G l Γ P X cX6_size RX6 1 (some .int) rmX6_size 0 [(0, .ref a0)] [] st 0 0
  refine eg_aload_n 0 dX6_size_0 rfl rfl ?_
  obtain ⟨fs, v1, he, hv, h⟩ := h
  refine eg_get 0 in_X6 he rfl (Nat.le_of_ble_eq_true rfl) q291 rfl hv dX6_size_1 ?_
  refine eg_if_eq dX6_size_4 (fun c2 => ?_) (fun c2 => ?_)
  · replace h := h.1 c2
    refine eg_iconst dX6_size_13 kc_0 ?_
    exact eg_iret dX6_size_14 (Nat.zero_le _) (Nat.zero_le _) (hP _ _ ⟨_, rfl, rfl, h⟩)
  · replace h := h.2 c2
    refine eg_sipush dX6_size_7 ks_192 ?_
    refine eg_goto dX6_size_10 ?_
    exact eg_iret dX6_size_14 (Nat.zero_le _) (Nat.zero_le _) (hP _ _ ⟨_, rfl, rfl, h⟩)
def MJ0_fill_2 (Γ : eb_C) (st : eb_S) (a0 : Nat) (K : eb_S → Prop) : Prop :=
  eb_ln Γ st a0 6 (fun v1 => eb_loop2 (fun r4 (x2_2 : Int32) (g3 : eb_S) => eb_br (v1 ≤ x2_2) (K g3) (eb_wr Γ g3 a0 6 x2_2 none (fun g5 => r4 (x2_2 + 1) g5))) 0 st)
abbrev rmJ0_fill_2 : Room := { frames := 1, cells := 0, slots := 0, locals := 12 }
theorem nJ0_fill_2 : eb_ar yJ0_fill_2 2 := by decide +kernel
theorem dJ0_fill_2_0 : eb_dc cJ0_fill_2 0 (.iconst 0) 1 1 := by decide +kernel
theorem dJ0_fill_2_1 : eb_dc cJ0_fill_2 1 (.istore_n 2) 1 2 := by decide +kernel
theorem dJ0_fill_2_2 : eb_dc cJ0_fill_2 2 (.aload_n 0) 1 3 := by decide +kernel
theorem dJ0_fill_2_3 : eb_dc cJ0_fill_2 3 (.arraylength) 1 4 := by decide +kernel
theorem dJ0_fill_2_4 : eb_dc cJ0_fill_2 4 (.istore_n 3) 1 5 := by decide +kernel
theorem dJ0_fill_2_5 : eb_dc cJ0_fill_2 5 (.iload_n 2) 1 6 := by decide +kernel
theorem dJ0_fill_2_6 : eb_dc cJ0_fill_2 6 (.iload_n 3) 1 7 := by decide +kernel
theorem dJ0_fill_2_7 : eb_dj cJ0_fill_2 7 (.if_icmp .ge 13) 13 10 20 := by decide +kernel
theorem dJ0_fill_2_10 : eb_dc cJ0_fill_2 10 (.aload_n 0) 1 11 := by decide +kernel
theorem dJ0_fill_2_11 : eb_dc cJ0_fill_2 11 (.iload_n 2) 1 12 := by decide +kernel
theorem dJ0_fill_2_12 : eb_dc cJ0_fill_2 12 (.aload_n 1) 1 13 := by decide +kernel
theorem dJ0_fill_2_13 : eb_dc cJ0_fill_2 13 (.aastore) 1 14 := by decide +kernel
theorem dJ0_fill_2_14 : eb_dc cJ0_fill_2 14 (.iinc 2 1) 3 17 := by decide +kernel
theorem dJ0_fill_2_17 : eb_dj cJ0_fill_2 17 (.goto (-12)) (-12) 20 5 := by decide +kernel
theorem dJ0_fill_2_20 : eb_dc cJ0_fill_2 20 (.return_) 1 21 := by decide +kernel
theorem ctJ0_fill_2 {l : Launch} {Γ : eb_C} {st : eb_S} {a0 : Nat} {K : eb_S → Prop} (h : MJ0_fill_2 Γ st a0 K) : eb_Ct l Γ yJ0_fill_2 cJ0_fill_2 4 (none) rmJ0_fill_2 [.ref a0, .null] st (eb_oV K) := by
  refine eb_of (by decide) (Nat.le_of_ble_eq_true rfl) (fun X P hP hX0 => ?_)
  show eb_G l Γ P X cJ0_fill_2 RJ0 4 (none) rmJ0_fill_2 0 [(0, .ref a0), (1, .null)] [] st 0 0
  refine eg_iconst dJ0_fill_2_0 kc_0 ?_
  refine eg_istore_n (lv' := [(2, .int 0), (0, .ref a0), (1, .null)]) dJ0_fill_2_1 rfl (Nat.le_of_ble_eq_true rfl) rfl ?_
  refine eg_aload_n 1 dJ0_fill_2_2 rfl rfl ?_
  obtain ⟨xA, he, h⟩ := h
  refine eh_alen (t := 6) (ty := .array .short) he rfl dJ0_fill_2_3 ?_
  generalize Int32.ofNat xA.1 = v1 at h ⊢
  refine eg_istore_n (lv' := [(3, .int v1), (2, .int 0), (0, .ref a0), (1, .null)]) dJ0_fill_2_4 rfl (Nat.le_of_ble_eq_true rfl) rfl ?_
  refine eg_sub [2, 3, 1, 0] rfl ?_
  refine eb_loop2_e (J := fun (x2_2 : Int32) (g3 : eb_S) => eb_G l Γ P X cJ0_fill_2 RJ0 4 (none) rmJ0_fill_2 5 [(0, .ref a0), (1, .null), (2, .int x2_2), (3, .int v1)] [] g3 0 0) h ?_
  clear h
  intro r4 hr4 x2_2 g3 h
  refine eg_iload_n 2 dJ0_fill_2_5 rfl rfl ?_
  refine eg_iload_n 3 dJ0_fill_2_6 rfl rfl ?_
  refine eg_icmp_ge dJ0_fill_2_7 (fun c6 => ?_) (fun c6 => ?_)
  · replace h := h.1 c6
    exact eg_vret dJ0_fill_2_20 (Nat.zero_le _) (Nat.zero_le _) (hP _ _ ⟨rfl, h⟩)
  · replace h := h.2 c6
    refine eg_aload_n 0 dJ0_fill_2_10 rfl rfl ?_
    refine eg_iload_n 2 dJ0_fill_2_11 rfl rfl ?_
    refine eh_aload_n (v := none) 1 dJ0_fill_2_12 rfl rfl ?_
    obtain ⟨nA, fA, he, hb, h⟩ := h
    refine eg_astNA (t := 6) rfl he hb dJ0_fill_2_13 ?_
    replace h := h _ rfl
    generalize eb_up _ _ _ = g5 at h ⊢
    refine eg_iinc (j := 2) (lv' := [(2, .int (x2_2 + 1)), (0, .ref a0), (1, .null), (3, .int v1)]) dJ0_fill_2_14 rfl (by rw [kc_1]) (Nat.le_of_ble_eq_true rfl) rfl ?_
    refine eg_goto dJ0_fill_2_17 ?_
    exact eg_sub [1, 2, 0, 3] rfl (hr4 (x2_2 + 1) g5 h)
def MJ0_fill_3 (Γ : eb_C) (st : eb_S) (a0 : Nat) (a1 : Int32) (K : eb_S → Prop) : Prop :=
  eb_ln Γ st a0 3 (fun v1 => eb_loop2 (fun r4 (x2_2 : Int32) (g3 : eb_S) => eb_br (v1 ≤ x2_2) (K g3) (eb_wi Γ g3 a0 3 x2_2 (vp_nar .short a1) (fun g5 => r4 (x2_2 + 1) g5))) 0 st)
abbrev rmJ0_fill_3 : Room := { frames := 1, cells := 0, slots := 0, locals := 12 }
theorem nJ0_fill_3 : eb_ar yJ0_fill_3 2 := by decide +kernel
theorem dJ0_fill_3_0 : eb_dc cJ0_fill_3 0 (.iconst 0) 1 1 := by decide +kernel
theorem dJ0_fill_3_1 : eb_dc cJ0_fill_3 1 (.istore_n 2) 1 2 := by decide +kernel
theorem dJ0_fill_3_2 : eb_dc cJ0_fill_3 2 (.aload_n 0) 1 3 := by decide +kernel
theorem dJ0_fill_3_3 : eb_dc cJ0_fill_3 3 (.arraylength) 1 4 := by decide +kernel
theorem dJ0_fill_3_4 : eb_dc cJ0_fill_3 4 (.istore_n 3) 1 5 := by decide +kernel
theorem dJ0_fill_3_5 : eb_dc cJ0_fill_3 5 (.iload_n 2) 1 6 := by decide +kernel
theorem dJ0_fill_3_6 : eb_dc cJ0_fill_3 6 (.iload_n 3) 1 7 := by decide +kernel
theorem dJ0_fill_3_7 : eb_dj cJ0_fill_3 7 (.if_icmp .ge 13) 13 10 20 := by decide +kernel
theorem dJ0_fill_3_10 : eb_dc cJ0_fill_3 10 (.aload_n 0) 1 11 := by decide +kernel
theorem dJ0_fill_3_11 : eb_dc cJ0_fill_3 11 (.iload_n 2) 1 12 := by decide +kernel
theorem dJ0_fill_3_12 : eb_dc cJ0_fill_3 12 (.iload_n 1) 1 13 := by decide +kernel
theorem dJ0_fill_3_13 : eb_dc cJ0_fill_3 13 (.sastore) 1 14 := by decide +kernel
theorem dJ0_fill_3_14 : eb_dc cJ0_fill_3 14 (.iinc 2 1) 3 17 := by decide +kernel
theorem dJ0_fill_3_17 : eb_dj cJ0_fill_3 17 (.goto (-12)) (-12) 20 5 := by decide +kernel
theorem dJ0_fill_3_20 : eb_dc cJ0_fill_3 20 (.return_) 1 21 := by decide +kernel
theorem ctJ0_fill_3 {l : Launch} {Γ : eb_C} {st : eb_S} {a0 : Nat} {a1 : Int32} {K : eb_S → Prop} (h : MJ0_fill_3 Γ st a0 a1 K) : eb_Ct l Γ yJ0_fill_3 cJ0_fill_3 4 (none) rmJ0_fill_3 [.ref a0, .int a1] st (eb_oV K) := by
  refine eb_of (by decide) (Nat.le_of_ble_eq_true rfl) (fun X P hP hX0 => ?_)
  show eb_G l Γ P X cJ0_fill_3 RJ0 4 (none) rmJ0_fill_3 0 [(0, .ref a0), (1, .int a1)] [] st 0 0
  refine eg_iconst dJ0_fill_3_0 kc_0 ?_
  refine eg_istore_n (lv' := [(2, .int 0), (0, .ref a0), (1, .int a1)]) dJ0_fill_3_1 rfl (Nat.le_of_ble_eq_true rfl) rfl ?_
  refine eg_aload_n 1 dJ0_fill_3_2 rfl rfl ?_
  obtain ⟨xA, he, h⟩ := h
  refine eh_alen (t := 3) (ty := .short) he rfl dJ0_fill_3_3 ?_
  generalize Int32.ofNat xA.1 = v1 at h ⊢
  refine eg_istore_n (lv' := [(3, .int v1), (2, .int 0), (0, .ref a0), (1, .int a1)]) dJ0_fill_3_4 rfl (Nat.le_of_ble_eq_true rfl) rfl ?_
  refine eg_sub [2, 3, 1, 0] rfl ?_
  refine eb_loop2_e (J := fun (x2_2 : Int32) (g3 : eb_S) => eb_G l Γ P X cJ0_fill_3 RJ0 4 (none) rmJ0_fill_3 5 [(0, .ref a0), (1, .int a1), (2, .int x2_2), (3, .int v1)] [] g3 0 0) h ?_
  clear h
  intro r4 hr4 x2_2 g3 h
  refine eg_iload_n 2 dJ0_fill_3_5 rfl rfl ?_
  refine eg_iload_n 3 dJ0_fill_3_6 rfl rfl ?_
  refine eg_icmp_ge dJ0_fill_3_7 (fun c6 => ?_) (fun c6 => ?_)
  · replace h := h.1 c6
    exact eg_vret dJ0_fill_3_20 (Nat.zero_le _) (Nat.zero_le _) (hP _ _ ⟨rfl, h⟩)
  · replace h := h.2 c6
    refine eg_aload_n 0 dJ0_fill_3_10 rfl rfl ?_
    refine eg_iload_n 2 dJ0_fill_3_11 rfl rfl ?_
    refine eg_iload_n 1 dJ0_fill_3_12 rfl rfl ?_
    obtain ⟨nA, fA, he, hb, h⟩ := h
    refine eh_sast he hb dJ0_fill_3_13 (fun g5 eg5 => ?_)
    replace h := h g5 eg5
    refine eg_iinc (j := 2) (lv' := [(2, .int (x2_2 + 1)), (0, .ref a0), (1, .int a1), (3, .int v1)]) dJ0_fill_3_14 rfl (by rw [kc_1]) (Nat.le_of_ble_eq_true rfl) rfl ?_
    refine eg_goto dJ0_fill_3_17 ?_
    exact eg_sub [1, 2, 0, 3] rfl (hr4 (x2_2 + 1) g5 h)
def MJ0_fill_4 (Γ : eb_C) (st : eb_S) (a0 : Nat) (a1 : Int32) (K : eb_S → Prop) : Prop :=
  eb_ln Γ st a0 1 (fun v1 => eb_loop2 (fun r4 (x2_2 : Int32) (g3 : eb_S) => eb_br (v1 ≤ x2_2) (K g3) (eb_wi Γ g3 a0 1 x2_2 (vp_nar .boolean a1) (fun g5 => r4 (x2_2 + 1) g5))) 0 st)
abbrev rmJ0_fill_4 : Room := { frames := 1, cells := 0, slots := 0, locals := 12 }
theorem nJ0_fill_4 : eb_ar yJ0_fill_4 2 := by decide +kernel
theorem dJ0_fill_4_0 : eb_dc cJ0_fill_4 0 (.iconst 0) 1 1 := by decide +kernel
theorem dJ0_fill_4_1 : eb_dc cJ0_fill_4 1 (.istore_n 2) 1 2 := by decide +kernel
theorem dJ0_fill_4_2 : eb_dc cJ0_fill_4 2 (.aload_n 0) 1 3 := by decide +kernel
theorem dJ0_fill_4_3 : eb_dc cJ0_fill_4 3 (.arraylength) 1 4 := by decide +kernel
theorem dJ0_fill_4_4 : eb_dc cJ0_fill_4 4 (.istore_n 3) 1 5 := by decide +kernel
theorem dJ0_fill_4_5 : eb_dc cJ0_fill_4 5 (.iload_n 2) 1 6 := by decide +kernel
theorem dJ0_fill_4_6 : eb_dc cJ0_fill_4 6 (.iload_n 3) 1 7 := by decide +kernel
theorem dJ0_fill_4_7 : eb_dj cJ0_fill_4 7 (.if_icmp .ge 13) 13 10 20 := by decide +kernel
theorem dJ0_fill_4_10 : eb_dc cJ0_fill_4 10 (.aload_n 0) 1 11 := by decide +kernel
theorem dJ0_fill_4_11 : eb_dc cJ0_fill_4 11 (.iload_n 2) 1 12 := by decide +kernel
theorem dJ0_fill_4_12 : eb_dc cJ0_fill_4 12 (.iload_n 1) 1 13 := by decide +kernel
theorem dJ0_fill_4_13 : eb_dc cJ0_fill_4 13 (.bastore) 1 14 := by decide +kernel
theorem dJ0_fill_4_14 : eb_dc cJ0_fill_4 14 (.iinc 2 1) 3 17 := by decide +kernel
theorem dJ0_fill_4_17 : eb_dj cJ0_fill_4 17 (.goto (-12)) (-12) 20 5 := by decide +kernel
theorem dJ0_fill_4_20 : eb_dc cJ0_fill_4 20 (.return_) 1 21 := by decide +kernel
theorem ctJ0_fill_4 {l : Launch} {Γ : eb_C} {st : eb_S} {a0 : Nat} {a1 : Int32} {K : eb_S → Prop} (h : MJ0_fill_4 Γ st a0 a1 K) : eb_Ct l Γ yJ0_fill_4 cJ0_fill_4 4 (none) rmJ0_fill_4 [.ref a0, .int a1] st (eb_oV K) := by
  refine eb_of (by decide) (Nat.le_of_ble_eq_true rfl) (fun X P hP hX0 => ?_)
  show eb_G l Γ P X cJ0_fill_4 RJ0 4 (none) rmJ0_fill_4 0 [(0, .ref a0), (1, .int a1)] [] st 0 0
  refine eg_iconst dJ0_fill_4_0 kc_0 ?_
  refine eg_istore_n (lv' := [(2, .int 0), (0, .ref a0), (1, .int a1)]) dJ0_fill_4_1 rfl (Nat.le_of_ble_eq_true rfl) rfl ?_
  refine eg_aload_n 1 dJ0_fill_4_2 rfl rfl ?_
  obtain ⟨xA, he, h⟩ := h
  refine eh_alen (t := 1) (ty := .boolean) he rfl dJ0_fill_4_3 ?_
  generalize Int32.ofNat xA.1 = v1 at h ⊢
  refine eg_istore_n (lv' := [(3, .int v1), (2, .int 0), (0, .ref a0), (1, .int a1)]) dJ0_fill_4_4 rfl (Nat.le_of_ble_eq_true rfl) rfl ?_
  refine eg_sub [2, 3, 1, 0] rfl ?_
  refine eb_loop2_e (J := fun (x2_2 : Int32) (g3 : eb_S) => eb_G l Γ P X cJ0_fill_4 RJ0 4 (none) rmJ0_fill_4 5 [(0, .ref a0), (1, .int a1), (2, .int x2_2), (3, .int v1)] [] g3 0 0) h ?_
  clear h
  intro r4 hr4 x2_2 g3 h
  refine eg_iload_n 2 dJ0_fill_4_5 rfl rfl ?_
  refine eg_iload_n 3 dJ0_fill_4_6 rfl rfl ?_
  refine eg_icmp_ge dJ0_fill_4_7 (fun c6 => ?_) (fun c6 => ?_)
  · replace h := h.1 c6
    exact eg_vret dJ0_fill_4_20 (Nat.zero_le _) (Nat.zero_le _) (hP _ _ ⟨rfl, h⟩)
  · replace h := h.2 c6
    refine eg_aload_n 0 dJ0_fill_4_10 rfl rfl ?_
    refine eg_iload_n 2 dJ0_fill_4_11 rfl rfl ?_
    refine eg_iload_n 1 dJ0_fill_4_12 rfl rfl ?_
    obtain ⟨nA, fA, he, hb, h⟩ := h
    refine eh_zast he hb dJ0_fill_4_13 (fun g5 eg5 => ?_)
    replace h := h g5 eg5
    refine eg_iinc (j := 2) (lv' := [(2, .int (x2_2 + 1)), (0, .ref a0), (1, .int a1), (3, .int v1)]) dJ0_fill_4_14 rfl (by rw [kc_1]) (Nat.le_of_ble_eq_true rfl) rfl ?_
    refine eg_goto dJ0_fill_4_17 ?_
    exact eg_sub [1, 2, 0, 3] rfl (hr4 (x2_2 + 1) g5 h)
def MX4_init (Γ : eb_C) (st : eb_S) (a0 : Nat) (a1 : Int32) (K : eb_S → Prop) : Prop :=
  MX3_init Γ st a0 (fun g2 => eb_pt g2 a0 3 0 (.int a1) (fun g5 => K g5))
abbrev rmX4_init : Room := { frames := 3, cells := 0, slots := 0, locals := 60 }
theorem nX4_init : eb_ar yX4_init 1 := by decide +kernel
theorem dX4_init_0 : eb_dc cX4_init 0 (.aload_n 0) 1 1 := by decide +kernel
theorem dX4_init_1 : eb_dc cX4_init 1 (.invokespecial 1) 3 4 := by decide +kernel
theorem dX4_init_4 : eb_dc cX4_init 4 (.aload_n 0) 1 5 := by decide +kernel
theorem dX4_init_5 : eb_dc cX4_init 5 (.iload_n 1) 1 6 := by decide +kernel
theorem dX4_init_6 : eb_dc cX4_init 6 (.putfield 7) 3 9 := by decide +kernel
theorem dX4_init_9 : eb_dc cX4_init 9 (.return_) 1 10 := by decide +kernel
theorem ctX4_init {l : Launch} {Γ : eb_C} {st : eb_S} {a0 : Nat} {a1 : Int32} {K : eb_S → Prop} (h : MX4_init Γ st a0 a1 K) : eb_Ct l Γ yX4_init cX4_init 2 (none) rmX4_init [.ref a0, .int a1] st (eb_oV K) := by
  refine eb_of (by decide) (Nat.le_of_ble_eq_true rfl) (fun X P hP hX0 => ?_)
  replace hX0 := hX0 rfl
  show eb_G l Γ P X cX4_init RX4 2 (none) rmX4_init 0 [(0, .ref a0), (1, .int a1)] [] st 0 0
  refine eg_aload_n 0 dX4_init_0 rfl rfl ?_
  have hM0 := h
  clear h
  refine ec_INVw (rest := []) (ctX3_init hM0) q270 (List.mem_of_getElem? (i := 5) rfl) q79 q269 rfl nX3_init ⟨Nat.le_of_ble_eq_true rfl, Nat.le_of_ble_eq_true rfl⟩ ⟨rfl, rfl⟩ ⟨Nat.zero_le _, Nat.zero_le _⟩ rfl rfl (Nat.le_of_ble_eq_true rfl) dX4_init_1 (fun g2 h => ?_)
  clear hM0
  refine eg_aload_n 0 dX4_init_4 rfl rfl ?_
  refine eg_iload_n 1 dX4_init_5 rfl rfl ?_
  obtain ⟨fs, he, hlen, h⟩ := h
  refine eh_putF 0 in_X4 he rfl (Nat.le_of_ble_eq_true rfl) tyX4 tyX4_ok nmX4 q272 rfl rfl hX0 rfl rfl rfl hlen dX4_init_6 (fun g5 eg5 => ?_)
  replace h := h g5 eg5
  exact eg_vret dX4_init_9 (Nat.zero_le _) (Nat.zero_le _) (hP _ _ ⟨rfl, h⟩)
def MX4_size (Γ : eb_C) (st : eb_S) (a0 : Nat) (K : Int32 → Prop) : Prop :=
  eb_gi st a0 3 0 (fun v1 => K (2 * v1))
abbrev rmX4_size : Room := { frames := 1, cells := 0, slots := 0, locals := 12 }
theorem nX4_size : eb_ar yX4_size 0 := by decide +kernel
theorem dX4_size_0 : eb_dc cX4_size 0 (.iconst 2) 1 1 := by decide +kernel
theorem dX4_size_1 : eb_dc cX4_size 1 (.aload_n 0) 1 2 := by decide +kernel
theorem dX4_size_2 : eb_dc cX4_size 2 (.getfield 7) 3 5 := by decide +kernel
theorem dX4_size_5 : eb_dc cX4_size 5 (.imul) 1 6 := by decide +kernel
theorem dX4_size_6 : eb_dc cX4_size 6 (.ireturn) 1 7 := by decide +kernel
theorem ctX4_size {l : Launch} {Γ : eb_C} {st : eb_S} {a0 : Nat} {K : Int32 → Prop} (h : MX4_size Γ st a0 K) : eb_Ct l Γ yX4_size cX4_size 1 (some .int) rmX4_size [.ref a0] st (eb_pI st K) := by
  refine eb_of (by decide) (Nat.le_of_ble_eq_true rfl) (fun X P hP hX0 => ?_)
  show eb_G l Γ P X cX4_size RX4 1 (some .int) rmX4_size 0 [(0, .ref a0)] [] st 0 0
  refine eg_iconst dX4_size_0 kc_2 ?_
  refine eg_aload_n 0 dX4_size_1 rfl rfl ?_
  obtain ⟨fs, v1, he, hv, h⟩ := h
  refine eg_get 0 in_X4 he rfl (Nat.le_of_ble_eq_true rfl) q272 rfl hv dX4_size_2 ?_
  refine eg_imul dX4_size_5 ?_
  exact eg_iret dX4_size_6 (Nat.zero_le _) (Nat.zero_le _) (hP _ _ ⟨_, rfl, rfl, h⟩)
def MX5_init (Γ : eb_C) (st : eb_S) (a0 : Nat) (K : eb_S → Prop) : Prop :=
  MX3_init Γ st a0 (fun g2 => K g2)
abbrev rmX5_init : Room := { frames := 3, cells := 0, slots := 0, locals := 60 }
theorem nX5_init : eb_ar yX5_init 0 := by decide +kernel
theorem dX5_init_0 : eb_dc cX5_init 0 (.aload_n 0) 1 1 := by decide +kernel
theorem dX5_init_1 : eb_dc cX5_init 1 (.invokespecial 1) 3 4 := by decide +kernel
theorem dX5_init_4 : eb_dc cX5_init 4 (.return_) 1 5 := by decide +kernel
theorem ctX5_init {l : Launch} {Γ : eb_C} {st : eb_S} {a0 : Nat} {K : eb_S → Prop} (h : MX5_init Γ st a0 K) : eb_Ct l Γ yX5_init cX5_init 1 (none) rmX5_init [.ref a0] st (eb_oV K) := by
  refine eb_of (by decide) (Nat.le_of_ble_eq_true rfl) (fun X P hP hX0 => ?_)
  replace hX0 := hX0 rfl
  show eb_G l Γ P X cX5_init RX5 1 (none) rmX5_init 0 [(0, .ref a0)] [] st 0 0
  refine eg_aload_n 0 dX5_init_0 rfl rfl ?_
  have hM0 := h
  clear h
  refine ec_INVw (rest := []) (ctX3_init hM0) q270 (List.mem_of_getElem? (i := 6) rfl) q79 q269 rfl nX3_init ⟨Nat.le_of_ble_eq_true rfl, Nat.le_of_ble_eq_true rfl⟩ ⟨rfl, rfl⟩ ⟨Nat.zero_le _, Nat.zero_le _⟩ rfl rfl (Nat.le_of_ble_eq_true rfl) dX5_init_1 (fun g2 h => ?_)
  clear hM0
  exact eg_vret dX5_init_4 (Nat.zero_le _) (Nat.zero_le _) (hP _ _ ⟨rfl, h⟩)
def MX5_size (Γ : eb_C) (st : eb_S) (a0 : Nat) (K : Int32 → Prop) : Prop :=
  K 0
abbrev rmX5_size : Room := { frames := 1, cells := 0, slots := 0, locals := 12 }
theorem nX5_size : eb_ar yX5_size 0 := by decide +kernel
theorem dX5_size_0 : eb_dc cX5_size 0 (.iconst 0) 1 1 := by decide +kernel
theorem dX5_size_1 : eb_dc cX5_size 1 (.ireturn) 1 2 := by decide +kernel
theorem ctX5_size {l : Launch} {Γ : eb_C} {st : eb_S} {a0 : Nat} {K : Int32 → Prop} (h : MX5_size Γ st a0 K) : eb_Ct l Γ yX5_size cX5_size 1 (some .int) rmX5_size [.ref a0] st (eb_pI st K) := by
  refine eb_of (by decide) (Nat.le_of_ble_eq_true rfl) (fun X P hP hX0 => ?_)
  show eb_G l Γ P X cX5_size RX5 1 (some .int) rmX5_size 0 [(0, .ref a0)] [] st 0 0
  refine eg_iconst dX5_size_0 kc_0 ?_
  exact eg_iret dX5_size_1 (Nat.zero_le _) (Nat.zero_le _) (hP _ _ ⟨_, rfl, rfl, h⟩)
def MJ2_floorMod (a0 : Int32) (a1 : Int32) (K : Int32 → Prop) : Prop :=
  (¬ a1 = 0) ∧ (eb_br (0 ≤ (a0 ^^^ a1)) (K (eb_rem a0 a1)) (eb_br ((eb_rem a0 a1) = 0) (K (eb_rem a0 a1)) (K (((eb_rem a0 a1) + a1)))))
abbrev rmJ2_floorMod : Room := { frames := 1, cells := 0, slots := 0, locals := 12 }
theorem nJ2_floorMod : eb_ar yJ2_floorMod 2 := by decide +kernel
theorem dJ2_floorMod_0 : eb_dc cJ2_floorMod 0 (.iload_n 0) 1 1 := by decide +kernel
theorem dJ2_floorMod_1 : eb_dc cJ2_floorMod 1 (.iload_n 1) 1 2 := by decide +kernel
theorem dJ2_floorMod_2 : eb_dc cJ2_floorMod 2 (.irem) 1 3 := by decide +kernel
theorem dJ2_floorMod_3 : eb_dc cJ2_floorMod 3 (.istore_n 2) 1 4 := by decide +kernel
theorem dJ2_floorMod_4 : eb_dc cJ2_floorMod 4 (.iload_n 0) 1 5 := by decide +kernel
theorem dJ2_floorMod_5 : eb_dc cJ2_floorMod 5 (.iload_n 1) 1 6 := by decide +kernel
theorem dJ2_floorMod_6 : eb_dc cJ2_floorMod 6 (.ixor) 1 7 := by decide +kernel
theorem dJ2_floorMod_7 : eb_dj cJ2_floorMod 7 (.ifCond .ge 11) 11 10 18 := by decide +kernel
theorem dJ2_floorMod_10 : eb_dc cJ2_floorMod 10 (.iload_n 2) 1 11 := by decide +kernel
theorem dJ2_floorMod_11 : eb_dj cJ2_floorMod 11 (.ifCond .eq 7) 7 14 18 := by decide +kernel
theorem dJ2_floorMod_14 : eb_dc cJ2_floorMod 14 (.iload_n 2) 1 15 := by decide +kernel
theorem dJ2_floorMod_15 : eb_dc cJ2_floorMod 15 (.iload_n 1) 1 16 := by decide +kernel
theorem dJ2_floorMod_16 : eb_dc cJ2_floorMod 16 (.iadd) 1 17 := by decide +kernel
theorem dJ2_floorMod_17 : eb_dc cJ2_floorMod 17 (.ireturn) 1 18 := by decide +kernel
theorem dJ2_floorMod_18 : eb_dc cJ2_floorMod 18 (.iload_n 2) 1 19 := by decide +kernel
theorem dJ2_floorMod_19 : eb_dc cJ2_floorMod 19 (.ireturn) 1 20 := by decide +kernel
theorem ctJ2_floorMod {l : Launch} {Γ : eb_C} {st : eb_S} {a0 : Int32} {a1 : Int32} {K : Int32 → Prop} (h : MJ2_floorMod a0 a1 K) : eb_Ct l Γ yJ2_floorMod cJ2_floorMod 3 (some .int) rmJ2_floorMod [.int a0, .int a1] st (eb_pI st K) := by
  refine eb_ofF (by decide +kernel) (Nat.le_of_ble_eq_true rfl) (fun X P hP hX0 => ?_)
  show eb_G l Γ P X cJ2_floorMod RJ2 3 (some .int) rmJ2_floorMod 0 [(0, .int a0), (1, .int a1)] [] st 0 0
  refine eg_iload_n 0 dJ2_floorMod_0 rfl rfl ?_
  refine eg_iload_n 1 dJ2_floorMod_1 rfl rfl ?_
  obtain ⟨hne, h⟩ := h
  refine eg_irem dJ2_floorMod_2 hne ?_
  refine eg_istore_n (lv' := [(2, .int (eb_rem a0 a1)), (0, .int a0), (1, .int a1)]) dJ2_floorMod_3 rfl (Nat.le_of_ble_eq_true rfl) rfl ?_
  refine eg_iload_n 1 dJ2_floorMod_4 rfl rfl ?_
  refine eg_iload_n 2 dJ2_floorMod_5 rfl rfl ?_
  refine eg_ixor dJ2_floorMod_6 ?_
  refine eg_if_ge dJ2_floorMod_7 (fun c2 => ?_) (fun c2 => ?_)
  · replace h := h.1 c2
    refine eg_iload_n 0 dJ2_floorMod_18 rfl rfl ?_
    exact eg_iret dJ2_floorMod_19 (Nat.zero_le _) (Nat.zero_le _) (hP _ _ ⟨_, rfl, rfl, h⟩)
  · replace h := h.2 c2
    refine eg_iload_n 0 dJ2_floorMod_10 rfl rfl ?_
    refine eg_if_eq dJ2_floorMod_11 (fun c1 => ?_) (fun c1 => ?_)
    · replace h := h.1 c1
      refine eg_iload_n 0 dJ2_floorMod_18 rfl rfl ?_
      exact eg_iret dJ2_floorMod_19 (Nat.zero_le _) (Nat.zero_le _) (hP _ _ ⟨_, rfl, rfl, h⟩)
    · replace h := h.2 c1
      refine eg_iload_n 0 dJ2_floorMod_14 rfl rfl ?_
      refine eg_iload_n 2 dJ2_floorMod_15 rfl rfl ?_
      refine eg_iadd dJ2_floorMod_16 ?_
      exact eg_iret dJ2_floorMod_17 (Nat.zero_le _) (Nat.zero_le _) (hP _ _ ⟨_, rfl, rfl, h⟩)
def MJ2_max (a0 : Int32) (a1 : Int32) (K : Int32 → Prop) : Prop :=
  eb_br (a0 < a1) (K a1) (K a0)
abbrev rmJ2_max : Room := { frames := 1, cells := 0, slots := 0, locals := 12 }
theorem nJ2_max : eb_ar yJ2_max 2 := by decide +kernel
theorem dJ2_max_0 : eb_dc cJ2_max 0 (.iload_n 0) 1 1 := by decide +kernel
theorem dJ2_max_1 : eb_dc cJ2_max 1 (.iload_n 1) 1 2 := by decide +kernel
theorem dJ2_max_2 : eb_dj cJ2_max 2 (.if_icmp .lt 7) 7 5 9 := by decide +kernel
theorem dJ2_max_5 : eb_dc cJ2_max 5 (.iload_n 0) 1 6 := by decide +kernel
theorem dJ2_max_6 : eb_dj cJ2_max 6 (.goto 4) 4 9 10 := by decide +kernel
theorem dJ2_max_9 : eb_dc cJ2_max 9 (.iload_n 1) 1 10 := by decide +kernel
theorem dJ2_max_10 : eb_dc cJ2_max 10 (.ireturn) 1 11 := by decide +kernel
theorem ctJ2_max {l : Launch} {Γ : eb_C} {st : eb_S} {a0 : Int32} {a1 : Int32} {K : Int32 → Prop} (h : MJ2_max a0 a1 K) : eb_Ct l Γ yJ2_max cJ2_max 2 (some .int) rmJ2_max [.int a0, .int a1] st (eb_pI st K) := by
  refine eb_ofF (by decide +kernel) (Nat.le_of_ble_eq_true rfl) (fun X P hP hX0 => ?_)
  show eb_G l Γ P X cJ2_max RJ2 2 (some .int) rmJ2_max 0 [(0, .int a0), (1, .int a1)] [] st 0 0
  refine eg_iload_n 0 dJ2_max_0 rfl rfl ?_
  refine eg_iload_n 1 dJ2_max_1 rfl rfl ?_
  refine eg_icmp_lt dJ2_max_2 (fun c1 => ?_) (fun c1 => ?_)
  · replace h := h.1 c1
    refine eg_iload_n 1 dJ2_max_9 rfl rfl ?_
    exact eg_iret dJ2_max_10 (Nat.zero_le _) (Nat.zero_le _) (hP _ _ ⟨_, rfl, rfl, h⟩)
  · replace h := h.2 c1
    refine eg_iload_n 0 dJ2_max_5 rfl rfl ?_
    refine eg_goto dJ2_max_6 ?_
    exact eg_iret dJ2_max_10 (Nat.zero_le _) (Nat.zero_le _) (hP _ _ ⟨_, rfl, rfl, h⟩)
def MJ2_min (a0 : Int32) (a1 : Int32) (K : Int32 → Prop) : Prop :=
  eb_br (a1 < a0) (K a1) (K a0)
abbrev rmJ2_min : Room := { frames := 1, cells := 0, slots := 0, locals := 12 }
theorem nJ2_min : eb_ar yJ2_min 2 := by decide +kernel
theorem dJ2_min_0 : eb_dc cJ2_min 0 (.iload_n 0) 1 1 := by decide +kernel
theorem dJ2_min_1 : eb_dc cJ2_min 1 (.iload_n 1) 1 2 := by decide +kernel
theorem dJ2_min_2 : eb_dj cJ2_min 2 (.if_icmp .gt 7) 7 5 9 := by decide +kernel
theorem dJ2_min_5 : eb_dc cJ2_min 5 (.iload_n 0) 1 6 := by decide +kernel
theorem dJ2_min_6 : eb_dj cJ2_min 6 (.goto 4) 4 9 10 := by decide +kernel
theorem dJ2_min_9 : eb_dc cJ2_min 9 (.iload_n 1) 1 10 := by decide +kernel
theorem dJ2_min_10 : eb_dc cJ2_min 10 (.ireturn) 1 11 := by decide +kernel
theorem ctJ2_min {l : Launch} {Γ : eb_C} {st : eb_S} {a0 : Int32} {a1 : Int32} {K : Int32 → Prop} (h : MJ2_min a0 a1 K) : eb_Ct l Γ yJ2_min cJ2_min 2 (some .int) rmJ2_min [.int a0, .int a1] st (eb_pI st K) := by
  refine eb_ofF (by decide +kernel) (Nat.le_of_ble_eq_true rfl) (fun X P hP hX0 => ?_)
  show eb_G l Γ P X cJ2_min RJ2 2 (some .int) rmJ2_min 0 [(0, .int a0), (1, .int a1)] [] st 0 0
  refine eg_iload_n 0 dJ2_min_0 rfl rfl ?_
  refine eg_iload_n 1 dJ2_min_1 rfl rfl ?_
  refine eg_icmp_gt dJ2_min_2 (fun c1 => ?_) (fun c1 => ?_)
  · replace h := h.1 c1
    refine eg_iload_n 1 dJ2_min_9 rfl rfl ?_
    exact eg_iret dJ2_min_10 (Nat.zero_le _) (Nat.zero_le _) (hP _ _ ⟨_, rfl, rfl, h⟩)
  · replace h := h.2 c1
    refine eg_iload_n 0 dJ2_min_5 rfl rfl ?_
    refine eg_goto dJ2_min_6 ?_
    exact eg_iret dJ2_min_10 (Nat.zero_le _) (Nat.zero_le _) (hP _ _ ⟨_, rfl, rfl, h⟩)
theorem in_X5 : ∀ w ∈ u_ws RX5 eb_T0 0, w ∈ lw_all := by
  intro w h
  exact absurd h (by unfold u_ws; simp)
/-- a piece's size: by the piece's class -/
def eb_ps (Γ : eb_C) (st : eb_S) (a : Nat) (K : Int32 → Prop) : Prop := (eb_cs st a [3] ∧ MX4_size Γ st a K) ∨ (eb_cs st a [4] ∧ MX5_size Γ st a K) ∨ (eb_cs st a [5] ∧ MX6_size Γ st a K) ∨ (eb_cs st a [6] ∧ MX7_size Γ st a K)
section PIECE
variable {l : Launch} {Γ : eb_C} {P : Option Value → eb_S → Prop} {X : eb_X} {cc : ByteArray} {own : String} {nL : Nat} {ret : Option FieldType} {R : Room} {pc pc1 tgt : Nat} {lv lv' : eb_L} {stk : List Value} {st : eb_S} {uc us : Nat}
theorem eg_callA {y : MethodName} {bytes : ByteArray} {maxL n i : Nat} {rt : Option FieldType} {rm : Room} {As rest stk0 : List Value} {K : Option Value → eb_S → Prop} {b : Nat} {x : MethodName} {C : String} {T : u_T} {N ci : Nat} (hct : eb_Ct l Γ y bytes maxL rt rm (.ref b :: As) st K) (hq1 : Cond.methodLink own i x ∈ lw_all) (hq2 : Cond.sameMethod x.cls x.cls x.name x.desc ∈ lw_all) (hq3 : Cond.selects C x y ∈ lw_all) (hq4 : Cond.instanceMethod y ∈ lw_all) (hq5 : Cond.initialized y.cls ∈ lw_all) (hq6 : Cond.code y bytes maxL rt ∈ lw_all) (hq7 : x ∈ eb_nD) (hcl : eb_cl[ci]? = some (C, T, N)) (har : eb_ar x n) (hR : rm.frames + 1 ≤ R.frames ∧ 8 + (maxL + 11) + rm.locals ≤ R.locals) (hc : uc + rm.cells ≤ R.cells ∧ us + rm.slots ≤ R.slots) (hcs : eb_cs st b [ci]) (hn : As.length = n) (hstk : stk0 = As.reverse ++ .ref b :: rest) (hro : (rest.map fun v => v.category).sum ≤ 8) (hd : eb_dc cc pc (.invokevirtual i) 3 pc1) (kk : ∀ (v : Option Value) (st' : eb_S), K v st' → eb_G l Γ P X cc own nL ret R pc1 lv (v.toList ++ rest) st' (uc + rm.cells) (us + rm.slots)) : eb_G l Γ P X cc own nL ret R pc lv stk0 st uc us := by
  obtain ⟨hd, rfl⟩ := hd
  subst hstk
  obtain ⟨c0, fs, hc0, he⟩ := hcs
  cases List.mem_singleton.mp hc0
  obtain ⟨p, e, s, m, args, below, meth, c, A⟩ := X
  intro hX ls H locs hl hP hS
  obtain ⟨hx, hb, hml, hown, hts, hr, hlk, hK, hA⟩ := id hX
  refine eb_callk (st := st) (K := K) (a := (Value.ref b :: As).toArray) ?_ hS (eb_hA hP hS hA) (fun v st' H1 locs1 hk hP1 hS1 => kk v st' hk hX ls H1 locs1 hl (hP.back hP1 (eb_hA hP hS hA)) hS1)
  have hG : GoodIn lw_all (ws_ y bytes maxL rt) := lw_meth hq6
  have hcw : Cond.code y bytes maxL rt ∈ ws_ y bytes maxL rt := List.mem_cons_self
  have cw : va_CU R s args own C x.cls i x y bytes maxL rt (ws_ y bytes maxL rt) rm rm.cells rm.slots n :=
    ⟨⟨rfl, rfl, hR.1, hR.2, pay_in hts hG, hcw⟩, hts _ hq6, hts _ hq5, ⟨har.1, har.2.1⟩, fun sig h => by
      have h2 := har.2.2
      rw [h] at h2
      exact (Option.some.inj h2).symm, hts _ hq1, hts _ hq2, va_Decl.abs (hK.2.1.2.2.1 _ hq7), hts _ hq3, hts _ hq4⟩
  exact va_runU ⟨hx, hb, hml, hown, hts⟩ (hct H.size) cw ⟨eb_blind, va_recv hK.1 (hP.P he) hcl (q0 := 0) rfl, fun U hU hW => ⟨rfl, by rw [hU], by rw [hU]; exact hP.callee hS hA, hK.warm hW⟩⟩ rfl hn hl.1 rfl (lv_room hro) hd hc
abbrev yX3_size : MethodName := ⟨"EvenBodies$Piece", "size", "()I"⟩
theorem eg_psize {a i : Nat} {K : Int32 → Prop} {rest stk0 : List Value} (hq : Cond.methodLink own i yX3_size ∈ lw_all) (h : eb_ps Γ st a K) (hu : uc ≤ R.cells ∧ us ≤ R.slots) (hR : 10 ≤ R.frames ∧ 200 ≤ R.locals) (hstk : stk0 = .ref a :: rest) (hro : (rest.map fun v => v.category).sum ≤ 8) (hd : eb_dc cc pc (.invokevirtual i) 3 pc1) (kk : ∀ r : Int32, K r → eb_G l Γ P X cc own nL ret R pc1 lv (.int r :: rest) st uc us) : eb_G l Γ P X cc own nL ret R pc lv stk0 st uc us := by
  have hm : yX3_size ∈ eb_nD := List.mem_of_getElem? (i := 5) rfl
  rcases h with ⟨hcs, h⟩ | ⟨hcs, h⟩ | ⟨hcs, h⟩ | ⟨hcs, h⟩
  · exact eg_callA (n := 0) (As := []) (rest := rest) (ctX4_size h) hq q312 q323 q324 q80 q325 hm rfl (by decide +kernel) ⟨by show _ ≤ _; have := hR.1; simp; omega, by show _ ≤ _; have := hR.2; simp; omega⟩ hu hcs rfl hstk hro hd (fun v st' hk => by obtain ⟨r, rfl, rfl, hk⟩ := hk; exact kk r hk)
  · exact eg_callA (n := 0) (As := []) (rest := rest) (ctX5_size h) hq q312 q313 q314 q81 q315 hm rfl (by decide +kernel) ⟨by show _ ≤ _; have := hR.1; simp; omega, by show _ ≤ _; have := hR.2; simp; omega⟩ hu hcs rfl hstk hro hd (fun v st' hk => by obtain ⟨r, rfl, rfl, hk⟩ := hk; exact kk r hk)
  · exact eg_callA (n := 0) (As := []) (rest := rest) (ctX6_size h) hq q312 q326 q327 q82 q328 hm rfl (by decide +kernel) ⟨by show _ ≤ _; have := hR.1; simp; omega, by show _ ≤ _; have := hR.2; simp; omega⟩ hu hcs rfl hstk hro hd (fun v st' hk => by obtain ⟨r, rfl, rfl, hk⟩ := hk; exact kk r hk)
  · exact eg_callA (n := 0) (As := []) (rest := rest) (ctX7_size h) hq q312 q316 q317 q83 q318 hm rfl (by decide +kernel) ⟨by show _ ≤ _; have := hR.1; simp; omega, by show _ ≤ _; have := hR.2; simp; omega⟩ hu hcs rfl hstk hro hd (fun v st' hk => by obtain ⟨r, rfl, rfl, hk⟩ := hk; exact kk r hk)
end PIECE

