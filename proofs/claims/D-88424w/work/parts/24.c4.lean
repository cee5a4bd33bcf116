set_option maxRecDepth 100000
set_option maxHeartbeats 4000000
def MX0_element (Γ : eb_C) (bc bs : Nat) (st : eb_S) (a0 : Nat) (a1 : Int32) (a2 : Int32) (K : Int32 → eb_S → Prop) : Prop :=
  MX0_isBody a1 (fun v1 => eb_jp1 (fun (s5 : Int32) => eb_jp2 (fun (x3_6 : Int32) (x4_7 : Int32) => eb_cs st a0 [0] ∧ ∃ c10 s11 : Nat, (0 + c10 ≤ bc ∧ 0 + s11 ≤ bs) ∧ MX0_why Γ c10 s11 st a0 a1 x4_7 (fun v8 g9 => eb_br (v8 = 1) (eb_loop5 (fun r17 (x6_12 : Int32) (x7_13 : Int32) (g14 : eb_S) (u15 : Nat) (w16 : Nat) => eb_br (x7_13 ≤ 0) (K x6_12 g14) (eb_br (a2 ≤ 0) (K x6_12 g14) (eb_gr g14 a0 0 0 (fun v18 => eb_nn v18 (fun p19 => eb_lr Γ g14 p19 7 a1 (fun v20 => eb_nn v20 (fun p21 => eb_cs g14 p21 [1] ∧ ∃ c24 s25 : Nat, (u15 + c24 ≤ bc ∧ w16 + s25 ≤ bs) ∧ MX1_group Γ c24 s25 g14 p21 (fun v22 g23 => (¬ x7_13 = 0) ∧ (eb_nn v22 (fun p26 => eb_cs g23 p26 [7] ∧ MX8_by Γ g23 p26 x6_12 (((eb_rem (a2 / x7_13) 10) - 1)) (fun v27 => r17 v27 (x7_13 / 10) g23 (u15 + c24) (w16 + s25)))))))))))) 0 x3_6 g9 (0 + c10) (0 + s11)) (K v8 g9))) (fun k34 => eb_loop3 (fun r38 (x3_35 : Int32) (x4_36 : Int32) (x5_37 : Int32) => eb_br (x5_37 ≤ 0) (k34 x3_35 x4_36) (eb_br (x4_36 = 0) (k34 x3_35 x4_36) (eb_cs st a0 [0] ∧ MX0_isMirror Γ st a0 a1 (((eb_rem x5_37 10) - 1)) (fun v39 => eb_jp1 (fun (s43 : Int32) => r38 s43 v39 (x5_37 / 10)) (fun k44 => eb_br (x5_37 ≤ 9) (k44 x3_35) (k44 (x3_35 * 10))))))) 1 s5 a2)) (fun k48 => eb_br (v1 = 0) (k48 0) (eb_br (a2 < 0) (k48 0) (k48 1))))
abbrev rmX0_element (bc bs : Nat) : Room := { frames := 14, cells := bc, slots := bs, locals := 306 }
theorem nX0_element : eb_ar yX0_element 2 := by decide +kernel
theorem dX0_element_0 : eb_dc cX0_element 0 (.iconst 1) 1 1 := by decide +kernel
theorem dX0_element_1 : eb_dc cX0_element 1 (.istore_n 3) 1 2 := by decide +kernel
theorem dX0_element_2 : eb_dc cX0_element 2 (.iload_n 1) 1 3 := by decide +kernel
theorem dX0_element_3 : eb_dc cX0_element 3 (.invokestatic 30) 3 6 := by decide +kernel
theorem dX0_element_6 : eb_dj cX0_element 6 (.ifCond .eq 11) 11 9 17 := by decide +kernel
theorem dX0_element_9 : eb_dc cX0_element 9 (.iload_n 2) 1 10 := by decide +kernel
theorem dX0_element_10 : eb_dj cX0_element 10 (.ifCond .lt 7) 7 13 17 := by decide +kernel
theorem dX0_element_13 : eb_dc cX0_element 13 (.iconst 1) 1 14 := by decide +kernel
theorem dX0_element_14 : eb_dj cX0_element 14 (.goto 4) 4 17 18 := by decide +kernel
theorem dX0_element_17 : eb_dc cX0_element 17 (.iconst 0) 1 18 := by decide +kernel
theorem dX0_element_18 : eb_dc cX0_element 18 (.istore 4) 2 20 := by decide +kernel
theorem dX0_element_20 : eb_dc cX0_element 20 (.iload_n 2) 1 21 := by decide +kernel
theorem dX0_element_21 : eb_dc cX0_element 21 (.istore 5) 2 23 := by decide +kernel
theorem dX0_element_23 : eb_dc cX0_element 23 (.iload 5) 2 25 := by decide +kernel
theorem dX0_element_25 : eb_dj cX0_element 25 (.ifCond .le 48) 48 28 73 := by decide +kernel
theorem dX0_element_28 : eb_dc cX0_element 28 (.iload 4) 2 30 := by decide +kernel
theorem dX0_element_30 : eb_dj cX0_element 30 (.ifCond .eq 43) 43 33 73 := by decide +kernel
theorem dX0_element_33 : eb_dc cX0_element 33 (.aload_n 0) 1 34 := by decide +kernel
theorem dX0_element_34 : eb_dc cX0_element 34 (.iload_n 1) 1 35 := by decide +kernel
theorem dX0_element_35 : eb_dc cX0_element 35 (.iload 5) 2 37 := by decide +kernel
theorem dX0_element_37 : eb_dc cX0_element 37 (.bipush 10) 2 39 := by decide +kernel
theorem dX0_element_39 : eb_dc cX0_element 39 (.irem) 1 40 := by decide +kernel
theorem dX0_element_40 : eb_dc cX0_element 40 (.iconst 1) 1 41 := by decide +kernel
theorem dX0_element_41 : eb_dc cX0_element 41 (.isub) 1 42 := by decide +kernel
theorem dX0_element_42 : eb_dc cX0_element 42 (.invokevirtual 38) 3 45 := by decide +kernel
theorem dX0_element_45 : eb_dc cX0_element 45 (.istore 4) 2 47 := by decide +kernel
theorem dX0_element_47 : eb_dc cX0_element 47 (.iload 5) 2 49 := by decide +kernel
theorem dX0_element_49 : eb_dc cX0_element 49 (.bipush 9) 2 51 := by decide +kernel
theorem dX0_element_51 : eb_dj cX0_element 51 (.if_icmp .le 10) 10 54 61 := by decide +kernel
theorem dX0_element_54 : eb_dc cX0_element 54 (.iload_n 3) 1 55 := by decide +kernel
theorem dX0_element_55 : eb_dc cX0_element 55 (.bipush 10) 2 57 := by decide +kernel
theorem dX0_element_57 : eb_dc cX0_element 57 (.imul) 1 58 := by decide +kernel
theorem dX0_element_58 : eb_dj cX0_element 58 (.goto 4) 4 61 62 := by decide +kernel
theorem dX0_element_61 : eb_dc cX0_element 61 (.iload_n 3) 1 62 := by decide +kernel
theorem dX0_element_62 : eb_dc cX0_element 62 (.istore_n 3) 1 63 := by decide +kernel
theorem dX0_element_63 : eb_dc cX0_element 63 (.iload 5) 2 65 := by decide +kernel
theorem dX0_element_65 : eb_dc cX0_element 65 (.bipush 10) 2 67 := by decide +kernel
theorem dX0_element_67 : eb_dc cX0_element 67 (.idiv) 1 68 := by decide +kernel
theorem dX0_element_68 : eb_dc cX0_element 68 (.istore 5) 2 70 := by decide +kernel
theorem dX0_element_70 : eb_dj cX0_element 70 (.goto (-47)) (-47) 73 23 := by decide +kernel
theorem dX0_element_73 : eb_dc cX0_element 73 (.aload_n 0) 1 74 := by decide +kernel
theorem dX0_element_74 : eb_dc cX0_element 74 (.iload_n 1) 1 75 := by decide +kernel
theorem dX0_element_75 : eb_dc cX0_element 75 (.iload 4) 2 77 := by decide +kernel
theorem dX0_element_77 : eb_dc cX0_element 77 (.invokevirtual 75) 3 80 := by decide +kernel
theorem dX0_element_80 : eb_dc cX0_element 80 (.istore 5) 2 82 := by decide +kernel
theorem dX0_element_82 : eb_dc cX0_element 82 (.iload 5) 2 84 := by decide +kernel
theorem dX0_element_84 : eb_dc cX0_element 84 (.iconst 1) 1 85 := by decide +kernel
theorem dX0_element_85 : eb_dj cX0_element 85 (.if_icmp .eq 6) 6 88 91 := by decide +kernel
theorem dX0_element_88 : eb_dc cX0_element 88 (.iload 5) 2 90 := by decide +kernel
theorem dX0_element_90 : eb_dc cX0_element 90 (.ireturn) 1 91 := by decide +kernel
theorem dX0_element_91 : eb_dc cX0_element 91 (.iconst 0) 1 92 := by decide +kernel
theorem dX0_element_92 : eb_dc cX0_element 92 (.istore 6) 2 94 := by decide +kernel
theorem dX0_element_94 : eb_dc cX0_element 94 (.iload_n 3) 1 95 := by decide +kernel
theorem dX0_element_95 : eb_dc cX0_element 95 (.istore 7) 2 97 := by decide +kernel
theorem dX0_element_97 : eb_dc cX0_element 97 (.iload 7) 2 99 := by decide +kernel
theorem dX0_element_99 : eb_dj cX0_element 99 (.ifCond .le 42) 42 102 141 := by decide +kernel
theorem dX0_element_102 : eb_dc cX0_element 102 (.iload_n 2) 1 103 := by decide +kernel
theorem dX0_element_103 : eb_dj cX0_element 103 (.ifCond .le 38) 38 106 141 := by decide +kernel
theorem dX0_element_106 : eb_dc cX0_element 106 (.aload_n 0) 1 107 := by decide +kernel
theorem dX0_element_107 : eb_dc cX0_element 107 (.getfield 15) 3 110 := by decide +kernel
theorem dX0_element_110 : eb_dc cX0_element 110 (.iload_n 1) 1 111 := by decide +kernel
theorem dX0_element_111 : eb_dc cX0_element 111 (.aaload) 1 112 := by decide +kernel
theorem dX0_element_112 : eb_dc cX0_element 112 (.invokevirtual 66) 3 115 := by decide +kernel
theorem dX0_element_115 : eb_dc cX0_element 115 (.iload 6) 2 117 := by decide +kernel
theorem dX0_element_117 : eb_dc cX0_element 117 (.iload_n 2) 1 118 := by decide +kernel
theorem dX0_element_118 : eb_dc cX0_element 118 (.iload 7) 2 120 := by decide +kernel
theorem dX0_element_120 : eb_dc cX0_element 120 (.idiv) 1 121 := by decide +kernel
theorem dX0_element_121 : eb_dc cX0_element 121 (.bipush 10) 2 123 := by decide +kernel
theorem dX0_element_123 : eb_dc cX0_element 123 (.irem) 1 124 := by decide +kernel
theorem dX0_element_124 : eb_dc cX0_element 124 (.iconst 1) 1 125 := by decide +kernel
theorem dX0_element_125 : eb_dc cX0_element 125 (.isub) 1 126 := by decide +kernel
theorem dX0_element_126 : eb_dc cX0_element 126 (.invokevirtual 89) 3 129 := by decide +kernel
theorem dX0_element_129 : eb_dc cX0_element 129 (.istore 6) 2 131 := by decide +kernel
theorem dX0_element_131 : eb_dc cX0_element 131 (.iload 7) 2 133 := by decide +kernel
theorem dX0_element_133 : eb_dc cX0_element 133 (.bipush 10) 2 135 := by decide +kernel
theorem dX0_element_135 : eb_dc cX0_element 135 (.idiv) 1 136 := by decide +kernel
theorem dX0_element_136 : eb_dc cX0_element 136 (.istore 7) 2 138 := by decide +kernel
theorem dX0_element_138 : eb_dj cX0_element 138 (.goto (-41)) (-41) 141 97 := by decide +kernel
theorem dX0_element_141 : eb_dc cX0_element 141 (.iload 6) 2 143 := by decide +kernel
theorem dX0_element_143 : eb_dc cX0_element 143 (.ireturn) 1 144 := by decide +kernel
theorem ctX0_element {l : Launch} {Γ : eb_C} {bc bs : Nat} {st : eb_S} {a0 : Nat} {a1 : Int32} {a2 : Int32} {K : Int32 → eb_S → Prop} (h : MX0_element Γ bc bs st a0 a1 a2 K) : eb_Ct l Γ yX0_element cX0_element 8 (some .int) (rmX0_element bc bs) [.ref a0, .int a1, .int a2] st (eb_oI K) := by
  refine eb_of (by decide) (Nat.le_of_ble_eq_true rfl) (fun X P hP hX0 => ?_)
  suffices hgo : (0 ≤ bc ∧ 0 ≤ bs) → eb_G l Γ P X cX0_element RX0 8 (some .int) (rmX0_element bc bs) 0 [(0, .ref a0), (1, .int a1), (2, .int a2)] [] st 0 0 from hgo ⟨Nat.zero_le _, Nat.zero_le _⟩
  intro hu
  refine eg_iconst dX0_element_0 kc_1 ?_
  refine eg_istore_n (lv' := [(3, .int 1), (0, .ref a0), (1, .int a1), (2, .int a2)]) dX0_element_1 rfl (Nat.le_of_ble_eq_true rfl) rfl ?_
  refine eg_iload_n 2 dX0_element_2 rfl rfl ?_
  have hM0 := h
  clear h
  refine ec_SIp (rest := []) (ctX0_isBody hM0) (lw_S q182 q183 q74 q184) nX0_isBody ⟨Nat.le_of_ble_eq_true rfl, Nat.le_of_ble_eq_true rfl⟩ ⟨rfl, rfl⟩ hu rfl rfl (Nat.le_of_ble_eq_true rfl) dX0_element_3 (fun v1 h => ?_)
  clear hM0
  refine eb_jp1_e (J := fun (s5 : Int32) => (0 ≤ bc ∧ 0 ≤ bs) → eb_G l Γ P X cX0_element RX0 8 (some .int) (rmX0_element bc bs) 18 [(0, .ref a0), (1, .int a1), (2, .int a2), (3, .int 1)] [.int s5] st 0 0) h ?_ ?_
  · clear h
    intro s5 h hu
    refine eg_istore (lv' := [(4, .int s5), (0, .ref a0), (1, .int a1), (2, .int a2), (3, .int 1)]) dX0_element_18 (Nat.le_of_ble_eq_true rfl) rfl ?_
    refine eg_iload_n 3 dX0_element_20 rfl rfl ?_
    refine eg_istore (lv' := [(5, .int a2), (4, .int s5), (0, .ref a0), (1, .int a1), (2, .int a2), (3, .int 1)]) dX0_element_21 (Nat.le_of_ble_eq_true rfl) rfl ?_
    refine eb_jp2_e (J := fun (x3_6 : Int32) (x4_7 : Int32) => (0 ≤ bc ∧ 0 ≤ bs) → eb_G l Γ P X cX0_element RX0 8 (some .int) (rmX0_element bc bs) 73 [(0, .ref a0), (1, .int a1), (2, .int a2), (3, .int x3_6), (4, .int x4_7)] [] st 0 0) h ?_ ?_
    · clear h
      intro x3_6 x4_7 h hu
      refine eg_aload_n 0 dX0_element_73 rfl rfl ?_
      refine eg_iload_n 1 dX0_element_74 rfl rfl ?_
      refine eg_iload 4 dX0_element_75 rfl ?_
      obtain ⟨hcs, h⟩ := h
      obtain ⟨c10, s11, hca, h⟩ := h
      have hM0 := h
      clear h
      refine ec_VIa (rest := []) (ctX0_why hM0) (lw_V q237 q239 qs1 q74 q240) rfl rfl hcs nX0_why ⟨Nat.le_of_ble_eq_true rfl, Nat.le_of_ble_eq_true rfl⟩ ⟨rfl, rfl⟩ hca rfl rfl (Nat.le_of_ble_eq_true rfl) dX0_element_77 (fun v8 g9 h => ?_)
      clear hM0
      replace hu := hca
      refine eg_istore (lv' := [(5, .int v8), (0, .ref a0), (1, .int a1), (2, .int a2), (3, .int x3_6), (4, .int x4_7)]) dX0_element_80 (Nat.le_of_ble_eq_true rfl) rfl ?_
      refine eg_iload 0 dX0_element_82 rfl ?_
      refine eg_iconst dX0_element_84 kc_1 ?_
      refine eg_icmp_eq dX0_element_85 (fun c33 => ?_) (fun c33 => ?_)
      · replace h := h.1 c33
        refine eg_iconst dX0_element_91 kc_0 ?_
        refine eg_istore (lv' := [(6, .int 0), (5, .int v8), (0, .ref a0), (1, .int a1), (2, .int a2), (3, .int x3_6), (4, .int x4_7)]) dX0_element_92 (Nat.le_of_ble_eq_true rfl) rfl ?_
        refine eg_iload_n 5 dX0_element_94 rfl rfl ?_
        refine eg_istore (lv' := [(7, .int x3_6), (6, .int 0), (5, .int v8), (0, .ref a0), (1, .int a1), (2, .int a2), (3, .int x3_6), (4, .int x4_7)]) dX0_element_95 (Nat.le_of_ble_eq_true rfl) rfl ?_
        refine eg_sub [3, 4, 5, 1, 0] rfl ?_
        refine eb_loop5_e (J := fun (x6_12 : Int32) (x7_13 : Int32) (g14 : eb_S) (u15 : Nat) (w16 : Nat) => (u15 ≤ bc ∧ w16 ≤ bs) → eb_G l Γ P X cX0_element RX0 8 (some .int) (rmX0_element bc bs) 97 [(0, .ref a0), (1, .int a1), (2, .int a2), (6, .int x6_12), (7, .int x7_13)] [] g14 u15 w16) h ?_ hu
        clear h
        clear hu
        intro r17 hr17 x6_12 x7_13 g14 u15 w16 h hu
        refine eg_iload 4 dX0_element_97 rfl ?_
        refine eg_if_le dX0_element_99 (fun c32 => ?_) (fun c32 => ?_)
        · replace h := h.1 c32
          refine eg_iload 3 dX0_element_141 rfl ?_
          exact eg_iret dX0_element_143 hu.1 hu.2 (hP _ _ ⟨_, rfl, h⟩)
        · replace h := h.2 c32
          refine eg_iload_n 2 dX0_element_102 rfl rfl ?_
          refine eg_if_le dX0_element_103 (fun c31 => ?_) (fun c31 => ?_)
          · replace h := h.1 c31
            refine eg_iload 3 dX0_element_141 rfl ?_
            exact eg_iret dX0_element_143 hu.1 hu.2 (hP _ _ ⟨_, rfl, h⟩)
          · replace h := h.2 c31
            refine eg_aload_n 0 dX0_element_106 rfl rfl ?_
            obtain ⟨fs, v18, he, hv, h⟩ := h
            refine eg_get 0 in_X0 he rfl (Nat.le_of_ble_eq_true rfl) q159 rfl hv dX0_element_107 ?_
            refine eg_iload_n 1 dX0_element_110 rfl rfl ?_
            obtain ⟨p19, rfl, h⟩ := h
            obtain ⟨nA, fA, he, hb, h⟩ := h
            refine eg_aald (t := 7) (ty := .object "EvenBodies$Body") rfl rfl he hb dX0_element_111 (fun v20 ev20 => ?_)
            replace h := h v20 ev20
            obtain ⟨p21, rfl, h⟩ := h
            obtain ⟨hcs, h⟩ := h
            obtain ⟨c24, s25, hca, h⟩ := h
            have hM0 := h
            clear h
            refine ec_VRa (rest := []) (ctX1_group hM0) (lw_V q241 q242 q243 q75 q244) rfl rfl hcs nX1_group ⟨Nat.le_of_ble_eq_true rfl, Nat.le_of_ble_eq_true rfl⟩ ⟨rfl, rfl⟩ hca rfl rfl (Nat.le_of_ble_eq_true rfl) dX0_element_112 (fun v22 g23 h => ?_)
            clear hM0
            replace hu := hca
            refine eg_iload 3 dX0_element_115 rfl ?_
            refine eg_iload_n 2 dX0_element_117 rfl rfl ?_
            refine eg_iload 4 dX0_element_118 rfl ?_
            obtain ⟨hne, h⟩ := h
            refine eg_idiv dX0_element_120 hne ?_
            refine eg_bipush dX0_element_121 kb_10 ?_
            refine eg_irem dX0_element_123 (by decide) ?_
            refine eg_iconst dX0_element_124 kc_1 ?_
            refine eg_isub dX0_element_125 ?_
            obtain ⟨p26, rfl, h⟩ := h
            obtain ⟨hcs, h⟩ := h
            have hM0 := h
            clear h
            refine ec_VIp (rest := []) (ctX8_by hM0) (lw_V q435 q436 q437 q84 q438) rfl rfl hcs nX8_by ⟨Nat.le_of_ble_eq_true rfl, Nat.le_of_ble_eq_true rfl⟩ ⟨rfl, rfl⟩ hu rfl rfl (Nat.le_of_ble_eq_true rfl) dX0_element_126 (fun v27 h => ?_)
            clear hM0
            refine eg_istore (lv' := [(6, .int v27), (0, .ref a0), (1, .int a1), (2, .int a2), (7, .int x7_13)]) dX0_element_129 (Nat.le_of_ble_eq_true rfl) rfl ?_
            refine eg_iload 4 dX0_element_131 rfl ?_
            refine eg_bipush dX0_element_133 kb_10 ?_
            refine eg_idiv dX0_element_135 (by decide) ?_
            refine eg_istore (lv' := [(7, .int (x7_13 / 10)), (6, .int v27), (0, .ref a0), (1, .int a1), (2, .int a2)]) dX0_element_136 (Nat.le_of_ble_eq_true rfl) rfl ?_
            refine eg_goto dX0_element_138 ?_
            exact eg_sub [2, 3, 4, 1, 0] rfl (hr17 v27 (x7_13 / 10) g23 (u15 + c24) (w16 + s25) h hu)
      · replace h := h.2 c33
        refine eg_iload 0 dX0_element_88 rfl ?_
        exact eg_iret dX0_element_90 hu.1 hu.2 (hP _ _ ⟨_, rfl, h⟩)
    · clear h
      intro k34 hk34 h
      refine eg_sub [2, 3, 4, 5, 1, 0] rfl ?_
      refine eb_loop3_e (J := fun (x3_35 : Int32) (x4_36 : Int32) (x5_37 : Int32) => (0 ≤ bc ∧ 0 ≤ bs) → eb_G l Γ P X cX0_element RX0 8 (some .int) (rmX0_element bc bs) 23 [(0, .ref a0), (1, .int a1), (2, .int a2), (3, .int x3_35), (4, .int x4_36), (5, .int x5_37)] [] st 0 0) h ?_ hu
      clear h
      clear hu
      intro r38 hr38 x3_35 x4_36 x5_37 h hu
      refine eg_iload 5 dX0_element_23 rfl ?_
      refine eg_if_le dX0_element_25 (fun c47 => ?_) (fun c47 => ?_)
      · replace h := h.1 c47
        exact eg_sub [0, 1, 2, 3, 4] rfl (hk34 x3_35 x4_36 h hu)
      · replace h := h.2 c47
        refine eg_iload 4 dX0_element_28 rfl ?_
        refine eg_if_eq dX0_element_30 (fun c46 => ?_) (fun c46 => ?_)
        · replace h := h.1 c46
          exact eg_sub [0, 1, 2, 3, 4] rfl (hk34 x3_35 x4_36 h hu)
        · replace h := h.2 c46
          refine eg_aload_n 0 dX0_element_33 rfl rfl ?_
          refine eg_iload_n 1 dX0_element_34 rfl rfl ?_
          refine eg_iload 5 dX0_element_35 rfl ?_
          refine eg_bipush dX0_element_37 kb_10 ?_
          refine eg_irem dX0_element_39 (by decide) ?_
          refine eg_iconst dX0_element_40 kc_1 ?_
          refine eg_isub dX0_element_41 ?_
          obtain ⟨hcs, h⟩ := h
          have hM0 := h
          clear h
          refine ec_VIp (rest := []) (ctX0_isMirror hM0) (lw_V q192 q194 qs0 q74 q195) rfl rfl hcs nX0_isMirror ⟨Nat.le_of_ble_eq_true rfl, Nat.le_of_ble_eq_true rfl⟩ ⟨rfl, rfl⟩ hu rfl rfl (Nat.le_of_ble_eq_true rfl) dX0_element_42 (fun v39 h => ?_)
          clear hM0
          refine eg_istore (lv' := [(4, .int v39), (0, .ref a0), (1, .int a1), (2, .int a2), (3, .int x3_35), (5, .int x5_37)]) dX0_element_45 (Nat.le_of_ble_eq_true rfl) rfl ?_
          refine eg_iload 5 dX0_element_47 rfl ?_
          refine eg_bipush dX0_element_49 kb_9 ?_
          refine eb_jp1_e (J := fun (s43 : Int32) => (0 ≤ bc ∧ 0 ≤ bs) → eb_G l Γ P X cX0_element RX0 8 (some .int) (rmX0_element bc bs) 62 [(0, .ref a0), (1, .int a1), (2, .int a2), (4, .int v39), (5, .int x5_37)] [.int s43] st 0 0) h ?_ ?_
          · clear h
            intro s43 h hu
            refine eg_istore_n (lv' := [(3, .int s43), (0, .ref a0), (1, .int a1), (2, .int a2), (4, .int v39), (5, .int x5_37)]) dX0_element_62 rfl (Nat.le_of_ble_eq_true rfl) rfl ?_
            refine eg_iload 5 dX0_element_63 rfl ?_
            refine eg_bipush dX0_element_65 kb_10 ?_
            refine eg_idiv dX0_element_67 (by decide) ?_
            refine eg_istore (lv' := [(5, .int (x5_37 / 10)), (3, .int s43), (0, .ref a0), (1, .int a1), (2, .int a2), (4, .int v39)]) dX0_element_68 (Nat.le_of_ble_eq_true rfl) rfl ?_
            refine eg_goto dX0_element_70 ?_
            exact eg_sub [2, 3, 4, 1, 5, 0] rfl (hr38 s43 v39 (x5_37 / 10) h hu)
          · clear h
            intro k44 hk44 h
            refine eg_icmp_le dX0_element_51 (fun c45 => ?_) (fun c45 => ?_)
            · replace h := h.1 c45
              refine eg_iload_n 4 dX0_element_61 rfl rfl ?_
              exact eg_sub [1, 2, 3, 0, 5] rfl (hk44 x3_35 h hu)
            · replace h := h.2 c45
              refine eg_iload_n 4 dX0_element_54 rfl rfl ?_
              refine eg_bipush dX0_element_55 kb_10 ?_
              refine eg_imul dX0_element_57 ?_
              refine eg_goto dX0_element_58 ?_
              exact eg_sub [1, 2, 3, 0, 5] rfl (hk44 (x3_35 * 10) h hu)
  · clear h
    intro k48 hk48 h
    refine eg_if_eq dX0_element_6 (fun c50 => ?_) (fun c50 => ?_)
    · replace h := h.1 c50
      refine eg_iconst dX0_element_17 kc_0 ?_
      exact eg_sub [1, 2, 3, 0] rfl (hk48 0 h hu)
    · replace h := h.2 c50
      refine eg_iload_n 3 dX0_element_9 rfl rfl ?_
      refine eg_if_lt dX0_element_10 (fun c49 => ?_) (fun c49 => ?_)
      · replace h := h.1 c49
        refine eg_iconst dX0_element_17 kc_0 ?_
        exact eg_sub [1, 2, 3, 0] rfl (hk48 0 h hu)
      · replace h := h.2 c49
        refine eg_iconst dX0_element_13 kc_1 ?_
        refine eg_goto dX0_element_14 ?_
        exact eg_sub [1, 2, 3, 0] rfl (hk48 1 h hu)
def MX0_product (Γ : eb_C) (bc bs : Nat) (st : eb_S) (a0 : Nat) (a1 : Int32) (a2 : Int32) (a3 : Int32) (K : Int32 → eb_S → Prop) : Prop :=
  eb_cs st a0 [0] ∧ ∃ c3 s4 : Nat, (0 + c3 ≤ bc ∧ 0 + s4 ≤ bs) ∧ MX0_isElement Γ c3 s4 st a0 a1 a2 (fun v1 g2 => eb_jp4 (fun (s5 : Int32) (g6 : eb_S) (u7 : Nat) (w8 : Nat) => eb_cs g6 a0 [0] ∧ ∃ c11 s12 : Nat, (u7 + c11 ≤ bc ∧ w8 + s12 ≤ bs) ∧ MX0_why Γ c11 s12 g6 a0 a1 s5 (fun v9 g10 => eb_br (v9 = 1) (eb_gr g10 a0 0 0 (fun v13 => eb_nn v13 (fun p14 => eb_lr Γ g10 p14 7 a1 (fun v15 => eb_nn v15 (fun p16 => eb_cs g10 p16 [1] ∧ ∃ c19 s20 : Nat, ((u7 + c11) + c19 ≤ bc ∧ (w8 + s12) + s20 ≤ bs) ∧ MX1_group Γ c19 s20 g10 p16 (fun v17 g18 => eb_nn v17 (fun p21 => eb_cs g18 p21 [7] ∧ MX8_product Γ 20 g18 p21 a2 a3 (fun v22 => K v22 g18)))))))) (K v9 g10))) (fun k27 => eb_br (v1 = 0) (k27 0 g2 (0 + c3) (0 + s4)) (eb_cs g2 a0 [0] ∧ ∃ c30 s31 : Nat, ((0 + c3) + c30 ≤ bc ∧ (0 + s4) + s31 ≤ bs) ∧ MX0_isElement Γ c30 s31 g2 a0 a1 a3 (fun v28 g29 => eb_br (v28 = 0) (k27 0 g29 (((0 + c3) + c30)) (((0 + s4) + s31))) (k27 1 g29 (((0 + c3) + c30)) (((0 + s4) + s31)))))))
abbrev rmX0_product (bc bs : Nat) : Room := { frames := 23, cells := bc, slots := bs, locals := 496 }
theorem nX0_product : eb_ar yX0_product 3 := by decide +kernel
theorem dX0_product_0 : eb_dc cX0_product 0 (.aload_n 0) 1 1 := by decide +kernel
theorem dX0_product_1 : eb_dc cX0_product 1 (.iload_n 1) 1 2 := by decide +kernel
theorem dX0_product_2 : eb_dc cX0_product 2 (.aload_n 0) 1 3 := by decide +kernel
theorem dX0_product_3 : eb_dc cX0_product 3 (.iload_n 1) 1 4 := by decide +kernel
theorem dX0_product_4 : eb_dc cX0_product 4 (.iload_n 2) 1 5 := by decide +kernel
theorem dX0_product_5 : eb_dc cX0_product 5 (.invokevirtual 79) 3 8 := by decide +kernel
theorem dX0_product_8 : eb_dj cX0_product 8 (.ifCond .eq 16) 16 11 24 := by decide +kernel
theorem dX0_product_11 : eb_dc cX0_product 11 (.aload_n 0) 1 12 := by decide +kernel
theorem dX0_product_12 : eb_dc cX0_product 12 (.iload_n 1) 1 13 := by decide +kernel
theorem dX0_product_13 : eb_dc cX0_product 13 (.iload_n 3) 1 14 := by decide +kernel
theorem dX0_product_14 : eb_dc cX0_product 14 (.invokevirtual 79) 3 17 := by decide +kernel
theorem dX0_product_17 : eb_dj cX0_product 17 (.ifCond .eq 7) 7 20 24 := by decide +kernel
theorem dX0_product_20 : eb_dc cX0_product 20 (.iconst 1) 1 21 := by decide +kernel
theorem dX0_product_21 : eb_dj cX0_product 21 (.goto 4) 4 24 25 := by decide +kernel
theorem dX0_product_24 : eb_dc cX0_product 24 (.iconst 0) 1 25 := by decide +kernel
theorem dX0_product_25 : eb_dc cX0_product 25 (.invokevirtual 75) 3 28 := by decide +kernel
theorem dX0_product_28 : eb_dc cX0_product 28 (.istore 4) 2 30 := by decide +kernel
theorem dX0_product_30 : eb_dc cX0_product 30 (.iload 4) 2 32 := by decide +kernel
theorem dX0_product_32 : eb_dc cX0_product 32 (.iconst 1) 1 33 := by decide +kernel
theorem dX0_product_33 : eb_dj cX0_product 33 (.if_icmp .eq 8) 8 36 41 := by decide +kernel
theorem dX0_product_36 : eb_dc cX0_product 36 (.iload 4) 2 38 := by decide +kernel
theorem dX0_product_38 : eb_dj cX0_product 38 (.goto 17) 17 41 55 := by decide +kernel
theorem dX0_product_41 : eb_dc cX0_product 41 (.aload_n 0) 1 42 := by decide +kernel
theorem dX0_product_42 : eb_dc cX0_product 42 (.getfield 15) 3 45 := by decide +kernel
theorem dX0_product_45 : eb_dc cX0_product 45 (.iload_n 1) 1 46 := by decide +kernel
theorem dX0_product_46 : eb_dc cX0_product 46 (.aaload) 1 47 := by decide +kernel
theorem dX0_product_47 : eb_dc cX0_product 47 (.invokevirtual 66) 3 50 := by decide +kernel
theorem dX0_product_50 : eb_dc cX0_product 50 (.iload_n 2) 1 51 := by decide +kernel
theorem dX0_product_51 : eb_dc cX0_product 51 (.iload_n 3) 1 52 := by decide +kernel
theorem dX0_product_52 : eb_dc cX0_product 52 (.invokevirtual 92) 3 55 := by decide +kernel
theorem dX0_product_55 : eb_dc cX0_product 55 (.ireturn) 1 56 := by decide +kernel
theorem ctX0_product {l : Launch} {Γ : eb_C} {bc bs : Nat} {st : eb_S} {a0 : Nat} {a1 : Int32} {a2 : Int32} {a3 : Int32} {K : Int32 → eb_S → Prop} (h : MX0_product Γ bc bs st a0 a1 a2 a3 K) : eb_Ct l Γ yX0_product cX0_product 5 (some .int) (rmX0_product bc bs) [.ref a0, .int a1, .int a2, .int a3] st (eb_oI K) := by
  refine eb_of (by decide) (Nat.le_of_ble_eq_true rfl) (fun X P hP hX0 => ?_)
  suffices hgo : (0 ≤ bc ∧ 0 ≤ bs) → eb_G l Γ P X cX0_product RX0 5 (some .int) (rmX0_product bc bs) 0 [(0, .ref a0), (1, .int a1), (2, .int a2), (3, .int a3)] [] st 0 0 from hgo ⟨Nat.zero_le _, Nat.zero_le _⟩
  intro hu
  refine eg_aload_n 0 dX0_product_0 rfl rfl ?_
  refine eg_iload_n 1 dX0_product_1 rfl rfl ?_
  refine eg_aload_n 0 dX0_product_2 rfl rfl ?_
  refine eg_iload_n 1 dX0_product_3 rfl rfl ?_
  refine eg_iload_n 2 dX0_product_4 rfl rfl ?_
  obtain ⟨hcs, h⟩ := h
  obtain ⟨c3, s4, hca, h⟩ := h
  have hM0 := h
  clear h
  refine ec_VIa (rest := [.int a1, .ref a0]) (ctX0_isElement hM0) (lw_V q419 q421 qs5 q74 q422) rfl rfl hcs nX0_isElement ⟨Nat.le_of_ble_eq_true rfl, Nat.le_of_ble_eq_true rfl⟩ ⟨rfl, rfl⟩ hca rfl rfl (Nat.le_of_ble_eq_true rfl) dX0_product_5 (fun v1 g2 h => ?_)
  clear hM0
  replace hu := hca
  refine eb_jp4_e (J := fun (s5 : Int32) (g6 : eb_S) (u7 : Nat) (w8 : Nat) => (u7 ≤ bc ∧ w8 ≤ bs) → eb_G l Γ P X cX0_product RX0 5 (some .int) (rmX0_product bc bs) 25 [(0, .ref a0), (1, .int a1), (2, .int a2), (3, .int a3)] [.int s5, .int a1, .ref a0] g6 u7 w8) h ?_ ?_
  · clear h
    intro s5 g6 u7 w8 h hu
    obtain ⟨hcs, h⟩ := h
    obtain ⟨c11, s12, hca, h⟩ := h
    have hM0 := h
    clear h
    refine ec_VIa (rest := []) (ctX0_why hM0) (lw_V q237 q239 qs1 q74 q240) rfl rfl hcs nX0_why ⟨Nat.le_of_ble_eq_true rfl, Nat.le_of_ble_eq_true rfl⟩ ⟨rfl, rfl⟩ hca rfl rfl (Nat.le_of_ble_eq_true rfl) dX0_product_25 (fun v9 g10 h => ?_)
    clear hM0
    replace hu := hca
    refine eg_istore (lv' := [(4, .int v9), (0, .ref a0), (1, .int a1), (2, .int a2), (3, .int a3)]) dX0_product_28 (Nat.le_of_ble_eq_true rfl) rfl ?_
    refine eg_iload 0 dX0_product_30 rfl ?_
    refine eg_iconst dX0_product_32 kc_1 ?_
    refine eg_icmp_eq dX0_product_33 (fun c26 => ?_) (fun c26 => ?_)
    · replace h := h.1 c26
      refine eg_aload_n 1 dX0_product_41 rfl rfl ?_
      obtain ⟨fs, v13, he, hv, h⟩ := h
      refine eg_get 0 in_X0 he rfl (Nat.le_of_ble_eq_true rfl) q159 rfl hv dX0_product_42 ?_
      refine eg_iload_n 2 dX0_product_45 rfl rfl ?_
      obtain ⟨p14, rfl, h⟩ := h
      obtain ⟨nA, fA, he, hb, h⟩ := h
      refine eg_aald (t := 7) (ty := .object "EvenBodies$Body") rfl rfl he hb dX0_product_46 (fun v15 ev15 => ?_)
      replace h := h v15 ev15
      obtain ⟨p16, rfl, h⟩ := h
      obtain ⟨hcs, h⟩ := h
      obtain ⟨c19, s20, hca, h⟩ := h
      have hM0 := h
      clear h
      refine ec_VRa (rest := []) (ctX1_group hM0) (lw_V q241 q242 q243 q75 q244) rfl rfl hcs nX1_group ⟨Nat.le_of_ble_eq_true rfl, Nat.le_of_ble_eq_true rfl⟩ ⟨rfl, rfl⟩ hca rfl rfl (Nat.le_of_ble_eq_true rfl) dX0_product_47 (fun v17 g18 h => ?_)
      clear hM0
      replace hu := hca
      refine eg_iload_n 3 dX0_product_50 rfl rfl ?_
      refine eg_iload_n 4 dX0_product_51 rfl rfl ?_
      obtain ⟨p21, rfl, h⟩ := h
      obtain ⟨hcs, h⟩ := h
      have hM0 := h
      clear h
      refine ec_VIp (rest := []) (ctX8_product 20 hM0) (lw_V q443 q444 q445 q84 q446) rfl rfl hcs nX8_product ⟨by show _ ≤ _; simp [rmX8_product]; try omega, by show _ ≤ _; simp [rmX8_product]; try omega⟩ ⟨rfl, rfl⟩ hu rfl rfl (Nat.le_of_ble_eq_true rfl) dX0_product_52 (fun v22 h => ?_)
      clear hM0
      exact eg_iret dX0_product_55 hu.1 hu.2 (hP _ _ ⟨_, rfl, h⟩)
    · replace h := h.2 c26
      refine eg_iload 0 dX0_product_36 rfl ?_
      refine eg_goto dX0_product_38 ?_
      exact eg_iret dX0_product_55 hu.1 hu.2 (hP _ _ ⟨_, rfl, h⟩)
  · clear h
    intro k27 hk27 h
    refine eg_if_eq dX0_product_8 (fun c33 => ?_) (fun c33 => ?_)
    · replace h := h.1 c33
      refine eg_iconst dX0_product_24 kc_0 ?_
      exact hk27 0 g2 (0 + c3) (0 + s4) h hu
    · replace h := h.2 c33
      refine eg_aload_n 0 dX0_product_11 rfl rfl ?_
      refine eg_iload_n 1 dX0_product_12 rfl rfl ?_
      refine eg_iload_n 3 dX0_product_13 rfl rfl ?_
      obtain ⟨hcs, h⟩ := h
      obtain ⟨c30, s31, hca, h⟩ := h
      have hM0 := h
      clear h
      refine ec_VIa (rest := [.int a1, .ref a0]) (ctX0_isElement hM0) (lw_V q419 q421 qs5 q74 q422) rfl rfl hcs nX0_isElement ⟨Nat.le_of_ble_eq_true rfl, Nat.le_of_ble_eq_true rfl⟩ ⟨rfl, rfl⟩ hca rfl rfl (Nat.le_of_ble_eq_true rfl) dX0_product_14 (fun v28 g29 h => ?_)
      clear hM0
      replace hu := hca
      refine eg_if_eq dX0_product_17 (fun c32 => ?_) (fun c32 => ?_)
      · replace h := h.1 c32
        refine eg_iconst dX0_product_24 kc_0 ?_
        exact hk27 0 g29 (((0 + c3) + c30)) (((0 + s4) + s31)) h hu
      · replace h := h.2 c32
        refine eg_iconst dX0_product_20 kc_1 ?_
        refine eg_goto dX0_product_21 ?_
        exact hk27 1 g29 (((0 + c3) + c30)) (((0 + s4) + s31)) h hu
def MX0_inverse (Γ : eb_C) (bc bs : Nat) (st : eb_S) (a0 : Nat) (a1 : Int32) (a2 : Int32) (K : Int32 → eb_S → Prop) : Prop :=
  eb_cs st a0 [0] ∧ ∃ c3 s4 : Nat, (0 + c3 ≤ bc ∧ 0 + s4 ≤ bs) ∧ MX0_isElement Γ c3 s4 st a0 a1 a2 (fun v1 g2 => eb_cs g2 a0 [0] ∧ ∃ c7 s8 : Nat, ((0 + c3) + c7 ≤ bc ∧ (0 + s4) + s8 ≤ bs) ∧ MX0_why Γ c7 s8 g2 a0 a1 v1 (fun v5 g6 => eb_br (v5 = 1) (eb_gr g6 a0 0 0 (fun v9 => eb_nn v9 (fun p10 => eb_lr Γ g6 p10 7 a1 (fun v11 => eb_nn v11 (fun p12 => eb_cs g6 p12 [1] ∧ ∃ c15 s16 : Nat, ((((0 + c3) + c7)) + c15 ≤ bc ∧ (((0 + s4) + s8)) + s16 ≤ bs) ∧ MX1_group Γ c15 s16 g6 p12 (fun v13 g14 => eb_nn v13 (fun p17 => eb_cs g14 p17 [7] ∧ MX8_inverse Γ g14 p17 a2 (fun v18 => K v18 g14)))))))) (K v5 g6)))
abbrev rmX0_inverse (bc bs : Nat) : Room := { frames := 14, cells := bc, slots := bs, locals := 306 }
theorem nX0_inverse : eb_ar yX0_inverse 2 := by decide +kernel
theorem dX0_inverse_0 : eb_dc cX0_inverse 0 (.aload_n 0) 1 1 := by decide +kernel
theorem dX0_inverse_1 : eb_dc cX0_inverse 1 (.iload_n 1) 1 2 := by decide +kernel
theorem dX0_inverse_2 : eb_dc cX0_inverse 2 (.aload_n 0) 1 3 := by decide +kernel
theorem dX0_inverse_3 : eb_dc cX0_inverse 3 (.iload_n 1) 1 4 := by decide +kernel
theorem dX0_inverse_4 : eb_dc cX0_inverse 4 (.iload_n 2) 1 5 := by decide +kernel
theorem dX0_inverse_5 : eb_dc cX0_inverse 5 (.invokevirtual 79) 3 8 := by decide +kernel
theorem dX0_inverse_8 : eb_dc cX0_inverse 8 (.invokevirtual 75) 3 11 := by decide +kernel
theorem dX0_inverse_11 : eb_dc cX0_inverse 11 (.istore_n 3) 1 12 := by decide +kernel
theorem dX0_inverse_12 : eb_dc cX0_inverse 12 (.iload_n 3) 1 13 := by decide +kernel
theorem dX0_inverse_13 : eb_dc cX0_inverse 13 (.iconst 1) 1 14 := by decide +kernel
theorem dX0_inverse_14 : eb_dj cX0_inverse 14 (.if_icmp .eq 7) 7 17 21 := by decide +kernel
theorem dX0_inverse_17 : eb_dc cX0_inverse 17 (.iload_n 3) 1 18 := by decide +kernel
theorem dX0_inverse_18 : eb_dj cX0_inverse 18 (.goto 16) 16 21 34 := by decide +kernel
theorem dX0_inverse_21 : eb_dc cX0_inverse 21 (.aload_n 0) 1 22 := by decide +kernel
theorem dX0_inverse_22 : eb_dc cX0_inverse 22 (.getfield 15) 3 25 := by decide +kernel
theorem dX0_inverse_25 : eb_dc cX0_inverse 25 (.iload_n 1) 1 26 := by decide +kernel
theorem dX0_inverse_26 : eb_dc cX0_inverse 26 (.aaload) 1 27 := by decide +kernel
theorem dX0_inverse_27 : eb_dc cX0_inverse 27 (.invokevirtual 66) 3 30 := by decide +kernel
theorem dX0_inverse_30 : eb_dc cX0_inverse 30 (.iload_n 2) 1 31 := by decide +kernel
theorem dX0_inverse_31 : eb_dc cX0_inverse 31 (.invokevirtual 95) 3 34 := by decide +kernel
theorem dX0_inverse_34 : eb_dc cX0_inverse 34 (.ireturn) 1 35 := by decide +kernel
theorem ctX0_inverse {l : Launch} {Γ : eb_C} {bc bs : Nat} {st : eb_S} {a0 : Nat} {a1 : Int32} {a2 : Int32} {K : Int32 → eb_S → Prop} (h : MX0_inverse Γ bc bs st a0 a1 a2 K) : eb_Ct l Γ yX0_inverse cX0_inverse 4 (some .int) (rmX0_inverse bc bs) [.ref a0, .int a1, .int a2] st (eb_oI K) := by
  refine eb_of (by decide) (Nat.le_of_ble_eq_true rfl) (fun X P hP hX0 => ?_)
  suffices hgo : (0 ≤ bc ∧ 0 ≤ bs) → eb_G l Γ P X cX0_inverse RX0 4 (some .int) (rmX0_inverse bc bs) 0 [(0, .ref a0), (1, .int a1), (2, .int a2)] [] st 0 0 from hgo ⟨Nat.zero_le _, Nat.zero_le _⟩
  intro hu
  refine eg_aload_n 0 dX0_inverse_0 rfl rfl ?_
  refine eg_iload_n 1 dX0_inverse_1 rfl rfl ?_
  refine eg_aload_n 0 dX0_inverse_2 rfl rfl ?_
  refine eg_iload_n 1 dX0_inverse_3 rfl rfl ?_
  refine eg_iload_n 2 dX0_inverse_4 rfl rfl ?_
  obtain ⟨hcs, h⟩ := h
  obtain ⟨c3, s4, hca, h⟩ := h
  have hM0 := h
  clear h
  refine ec_VIa (rest := [.int a1, .ref a0]) (ctX0_isElement hM0) (lw_V q419 q421 qs5 q74 q422) rfl rfl hcs nX0_isElement ⟨Nat.le_of_ble_eq_true rfl, Nat.le_of_ble_eq_true rfl⟩ ⟨rfl, rfl⟩ hca rfl rfl (Nat.le_of_ble_eq_true rfl) dX0_inverse_5 (fun v1 g2 h => ?_)
  clear hM0
  replace hu := hca
  obtain ⟨hcs, h⟩ := h
  obtain ⟨c7, s8, hca, h⟩ := h
  have hM0 := h
  clear h
  refine ec_VIa (rest := []) (ctX0_why hM0) (lw_V q237 q239 qs1 q74 q240) rfl rfl hcs nX0_why ⟨Nat.le_of_ble_eq_true rfl, Nat.le_of_ble_eq_true rfl⟩ ⟨rfl, rfl⟩ hca rfl rfl (Nat.le_of_ble_eq_true rfl) dX0_inverse_8 (fun v5 g6 h => ?_)
  clear hM0
  replace hu := hca
  refine eg_istore_n (lv' := [(3, .int v5), (0, .ref a0), (1, .int a1), (2, .int a2)]) dX0_inverse_11 rfl (Nat.le_of_ble_eq_true rfl) rfl ?_
  refine eg_iload_n 0 dX0_inverse_12 rfl rfl ?_
  refine eg_iconst dX0_inverse_13 kc_1 ?_
  refine eg_icmp_eq dX0_inverse_14 (fun c22 => ?_) (fun c22 => ?_)
  · replace h := h.1 c22
    refine eg_aload_n 1 dX0_inverse_21 rfl rfl ?_
    obtain ⟨fs, v9, he, hv, h⟩ := h
    refine eg_get 0 in_X0 he rfl (Nat.le_of_ble_eq_true rfl) q159 rfl hv dX0_inverse_22 ?_
    refine eg_iload_n 2 dX0_inverse_25 rfl rfl ?_
    obtain ⟨p10, rfl, h⟩ := h
    obtain ⟨nA, fA, he, hb, h⟩ := h
    refine eg_aald (t := 7) (ty := .object "EvenBodies$Body") rfl rfl he hb dX0_inverse_26 (fun v11 ev11 => ?_)
    replace h := h v11 ev11
    obtain ⟨p12, rfl, h⟩ := h
    obtain ⟨hcs, h⟩ := h
    obtain ⟨c15, s16, hca, h⟩ := h
    have hM0 := h
    clear h
    refine ec_VRa (rest := []) (ctX1_group hM0) (lw_V q241 q242 q243 q75 q244) rfl rfl hcs nX1_group ⟨Nat.le_of_ble_eq_true rfl, Nat.le_of_ble_eq_true rfl⟩ ⟨rfl, rfl⟩ hca rfl rfl (Nat.le_of_ble_eq_true rfl) dX0_inverse_27 (fun v13 g14 h => ?_)
    clear hM0
    replace hu := hca
    refine eg_iload_n 3 dX0_inverse_30 rfl rfl ?_
    obtain ⟨p17, rfl, h⟩ := h
    obtain ⟨hcs, h⟩ := h
    have hM0 := h
    clear h
    refine ec_VIp (rest := []) (ctX8_inverse hM0) (lw_V q453 q454 q455 q84 q456) rfl rfl hcs nX8_inverse ⟨Nat.le_of_ble_eq_true rfl, Nat.le_of_ble_eq_true rfl⟩ ⟨rfl, rfl⟩ hu rfl rfl (Nat.le_of_ble_eq_true rfl) dX0_inverse_31 (fun v18 h => ?_)
    clear hM0
    exact eg_iret dX0_inverse_34 hu.1 hu.2 (hP _ _ ⟨_, rfl, h⟩)
  · replace h := h.2 c22
    refine eg_iload_n 0 dX0_inverse_17 rfl rfl ?_
    refine eg_goto dX0_inverse_18 ?_
    exact eg_iret dX0_inverse_34 hu.1 hu.2 (hP _ _ ⟨_, rfl, h⟩)
def MX0_turns (Γ : eb_C) (bc bs : Nat) (st : eb_S) (a0 : Nat) (a1 : Int32) (a2 : Int32) (K : Int32 → eb_S → Prop) : Prop :=
  eb_cs st a0 [0] ∧ ∃ c3 s4 : Nat, (0 + c3 ≤ bc ∧ 0 + s4 ≤ bs) ∧ MX0_isElement Γ c3 s4 st a0 a1 a2 (fun v1 g2 => eb_cs g2 a0 [0] ∧ ∃ c7 s8 : Nat, ((0 + c3) + c7 ≤ bc ∧ (0 + s4) + s8 ≤ bs) ∧ MX0_why Γ c7 s8 g2 a0 a1 v1 (fun v5 g6 => eb_br (v5 = 1) (eb_gr g6 a0 0 0 (fun v9 => eb_nn v9 (fun p10 => eb_lr Γ g6 p10 7 a1 (fun v11 => eb_nn v11 (fun p12 => eb_cs g6 p12 [1] ∧ ∃ c15 s16 : Nat, ((((0 + c3) + c7)) + c15 ≤ bc ∧ (((0 + s4) + s8)) + s16 ≤ bs) ∧ MX1_group Γ c15 s16 g6 p12 (fun v13 g14 => eb_nn v13 (fun p17 => eb_cs g14 p17 [7] ∧ MX8_turns Γ g14 p17 a2 (fun v18 => K v18 g14)))))))) (K v5 g6)))
abbrev rmX0_turns (bc bs : Nat) : Room := { frames := 24, cells := bc, slots := bs, locals := 519 }
theorem nX0_turns : eb_ar yX0_turns 2 := by decide +kernel
theorem dX0_turns_0 : eb_dc cX0_turns 0 (.aload_n 0) 1 1 := by decide +kernel
theorem dX0_turns_1 : eb_dc cX0_turns 1 (.iload_n 1) 1 2 := by decide +kernel
theorem dX0_turns_2 : eb_dc cX0_turns 2 (.aload_n 0) 1 3 := by decide +kernel
theorem dX0_turns_3 : eb_dc cX0_turns 3 (.iload_n 1) 1 4 := by decide +kernel
theorem dX0_turns_4 : eb_dc cX0_turns 4 (.iload_n 2) 1 5 := by decide +kernel
theorem dX0_turns_5 : eb_dc cX0_turns 5 (.invokevirtual 79) 3 8 := by decide +kernel
theorem dX0_turns_8 : eb_dc cX0_turns 8 (.invokevirtual 75) 3 11 := by decide +kernel
theorem dX0_turns_11 : eb_dc cX0_turns 11 (.istore_n 3) 1 12 := by decide +kernel
theorem dX0_turns_12 : eb_dc cX0_turns 12 (.iload_n 3) 1 13 := by decide +kernel
theorem dX0_turns_13 : eb_dc cX0_turns 13 (.iconst 1) 1 14 := by decide +kernel
theorem dX0_turns_14 : eb_dj cX0_turns 14 (.if_icmp .eq 7) 7 17 21 := by decide +kernel
theorem dX0_turns_17 : eb_dc cX0_turns 17 (.iload_n 3) 1 18 := by decide +kernel
theorem dX0_turns_18 : eb_dj cX0_turns 18 (.goto 16) 16 21 34 := by decide +kernel
theorem dX0_turns_21 : eb_dc cX0_turns 21 (.aload_n 0) 1 22 := by decide +kernel
theorem dX0_turns_22 : eb_dc cX0_turns 22 (.getfield 15) 3 25 := by decide +kernel
theorem dX0_turns_25 : eb_dc cX0_turns 25 (.iload_n 1) 1 26 := by decide +kernel
theorem dX0_turns_26 : eb_dc cX0_turns 26 (.aaload) 1 27 := by decide +kernel
theorem dX0_turns_27 : eb_dc cX0_turns 27 (.invokevirtual 66) 3 30 := by decide +kernel
theorem dX0_turns_30 : eb_dc cX0_turns 30 (.iload_n 2) 1 31 := by decide +kernel
theorem dX0_turns_31 : eb_dc cX0_turns 31 (.invokevirtual 98) 3 34 := by decide +kernel
theorem dX0_turns_34 : eb_dc cX0_turns 34 (.ireturn) 1 35 := by decide +kernel
theorem ctX0_turns {l : Launch} {Γ : eb_C} {bc bs : Nat} {st : eb_S} {a0 : Nat} {a1 : Int32} {a2 : Int32} {K : Int32 → eb_S → Prop} (h : MX0_turns Γ bc bs st a0 a1 a2 K) : eb_Ct l Γ yX0_turns cX0_turns 4 (some .int) (rmX0_turns bc bs) [.ref a0, .int a1, .int a2] st (eb_oI K) := by
  refine eb_of (by decide) (Nat.le_of_ble_eq_true rfl) (fun X P hP hX0 => ?_)
  suffices hgo : (0 ≤ bc ∧ 0 ≤ bs) → eb_G l Γ P X cX0_turns RX0 4 (some .int) (rmX0_turns bc bs) 0 [(0, .ref a0), (1, .int a1), (2, .int a2)] [] st 0 0 from hgo ⟨Nat.zero_le _, Nat.zero_le _⟩
  intro hu
  refine eg_aload_n 0 dX0_turns_0 rfl rfl ?_
  refine eg_iload_n 1 dX0_turns_1 rfl rfl ?_
  refine eg_aload_n 0 dX0_turns_2 rfl rfl ?_
  refine eg_iload_n 1 dX0_turns_3 rfl rfl ?_
  refine eg_iload_n 2 dX0_turns_4 rfl rfl ?_
  obtain ⟨hcs, h⟩ := h
  obtain ⟨c3, s4, hca, h⟩ := h
  have hM0 := h
  clear h
  refine ec_VIa (rest := [.int a1, .ref a0]) (ctX0_isElement hM0) (lw_V q419 q421 qs5 q74 q422) rfl rfl hcs nX0_isElement ⟨Nat.le_of_ble_eq_true rfl, Nat.le_of_ble_eq_true rfl⟩ ⟨rfl, rfl⟩ hca rfl rfl (Nat.le_of_ble_eq_true rfl) dX0_turns_5 (fun v1 g2 h => ?_)
  clear hM0
  replace hu := hca
  obtain ⟨hcs, h⟩ := h
  obtain ⟨c7, s8, hca, h⟩ := h
  have hM0 := h
  clear h
  refine ec_VIa (rest := []) (ctX0_why hM0) (lw_V q237 q239 qs1 q74 q240) rfl rfl hcs nX0_why ⟨Nat.le_of_ble_eq_true rfl, Nat.le_of_ble_eq_true rfl⟩ ⟨rfl, rfl⟩ hca rfl rfl (Nat.le_of_ble_eq_true rfl) dX0_turns_8 (fun v5 g6 h => ?_)
  clear hM0
  replace hu := hca
  refine eg_istore_n (lv' := [(3, .int v5), (0, .ref a0), (1, .int a1), (2, .int a2)]) dX0_turns_11 rfl (Nat.le_of_ble_eq_true rfl) rfl ?_
  refine eg_iload_n 0 dX0_turns_12 rfl rfl ?_
  refine eg_iconst dX0_turns_13 kc_1 ?_
  refine eg_icmp_eq dX0_turns_14 (fun c22 => ?_) (fun c22 => ?_)
  · replace h := h.1 c22
    refine eg_aload_n 1 dX0_turns_21 rfl rfl ?_
    obtain ⟨fs, v9, he, hv, h⟩ := h
    refine eg_get 0 in_X0 he rfl (Nat.le_of_ble_eq_true rfl) q159 rfl hv dX0_turns_22 ?_
    refine eg_iload_n 2 dX0_turns_25 rfl rfl ?_
    obtain ⟨p10, rfl, h⟩ := h
    obtain ⟨nA, fA, he, hb, h⟩ := h
    refine eg_aald (t := 7) (ty := .object "EvenBodies$Body") rfl rfl he hb dX0_turns_26 (fun v11 ev11 => ?_)
    replace h := h v11 ev11
    obtain ⟨p12, rfl, h⟩ := h
    obtain ⟨hcs, h⟩ := h
    obtain ⟨c15, s16, hca, h⟩ := h
    have hM0 := h
    clear h
    refine ec_VRa (rest := []) (ctX1_group hM0) (lw_V q241 q242 q243 q75 q244) rfl rfl hcs nX1_group ⟨Nat.le_of_ble_eq_true rfl, Nat.le_of_ble_eq_true rfl⟩ ⟨rfl, rfl⟩ hca rfl rfl (Nat.le_of_ble_eq_true rfl) dX0_turns_27 (fun v13 g14 h => ?_)
    clear hM0
    replace hu := hca
    refine eg_iload_n 3 dX0_turns_30 rfl rfl ?_
    obtain ⟨p17, rfl, h⟩ := h
    obtain ⟨hcs, h⟩ := h
    have hM0 := h
    clear h
    refine ec_VIp (rest := []) (ctX8_turns hM0) (lw_V q461 q462 q463 q84 q464) rfl rfl hcs nX8_turns ⟨Nat.le_of_ble_eq_true rfl, Nat.le_of_ble_eq_true rfl⟩ ⟨rfl, rfl⟩ hu rfl rfl (Nat.le_of_ble_eq_true rfl) dX0_turns_31 (fun v18 h => ?_)
    clear hM0
    exact eg_iret dX0_turns_34 hu.1 hu.2 (hP _ _ ⟨_, rfl, h⟩)
  · replace h := h.2 c22
    refine eg_iload_n 0 dX0_turns_17 rfl rfl ?_
    refine eg_goto dX0_turns_18 ?_
    exact eg_iret dX0_turns_34 hu.1 hu.2 (hP _ _ ⟨_, rfl, h⟩)
def MX0_many (Γ : eb_C) (st : eb_S) (a0 : Nat) (K : Int32 → Prop) : Prop :=
  eb_ln Γ st a0 1 (fun v1 => eb_loop2 (fun r4 (x1_2 : Int32) (x4_3 : Int32) => eb_br (v1 ≤ x4_3) (K x1_2) (eb_li Γ st a0 1 x4_3 (fun v5 => eb_jp1 (fun (s6 : Int32) => r4 (x1_2 + s6) (x4_3 + 1)) (fun k7 => eb_br (v5 = 0) (k7 0) (k7 1))))) 0 0)
abbrev rmX0_many : Room := { frames := 1, cells := 0, slots := 0, locals := 12 }
theorem nX0_many : eb_ar yX0_many 1 := by decide +kernel
theorem dX0_many_0 : eb_dc cX0_many 0 (.iconst 0) 1 1 := by decide +kernel
theorem dX0_many_1 : eb_dc cX0_many 1 (.istore_n 1) 1 2 := by decide +kernel
theorem dX0_many_2 : eb_dc cX0_many 2 (.aload_n 0) 1 3 := by decide +kernel
theorem dX0_many_3 : eb_dc cX0_many 3 (.astore_n 2) 1 4 := by decide +kernel
theorem dX0_many_4 : eb_dc cX0_many 4 (.aload_n 2) 1 5 := by decide +kernel
theorem dX0_many_5 : eb_dc cX0_many 5 (.arraylength) 1 6 := by decide +kernel
theorem dX0_many_6 : eb_dc cX0_many 6 (.istore_n 3) 1 7 := by decide +kernel
theorem dX0_many_7 : eb_dc cX0_many 7 (.iconst 0) 1 8 := by decide +kernel
theorem dX0_many_8 : eb_dc cX0_many 8 (.istore 4) 2 10 := by decide +kernel
theorem dX0_many_10 : eb_dc cX0_many 10 (.iload 4) 2 12 := by decide +kernel
theorem dX0_many_12 : eb_dc cX0_many 12 (.iload_n 3) 1 13 := by decide +kernel
theorem dX0_many_13 : eb_dj cX0_many 13 (.if_icmp .ge 28) 28 16 41 := by decide +kernel
theorem dX0_many_16 : eb_dc cX0_many 16 (.aload_n 2) 1 17 := by decide +kernel
theorem dX0_many_17 : eb_dc cX0_many 17 (.iload 4) 2 19 := by decide +kernel
theorem dX0_many_19 : eb_dc cX0_many 19 (.baload) 1 20 := by decide +kernel
theorem dX0_many_20 : eb_dc cX0_many 20 (.istore 5) 2 22 := by decide +kernel
theorem dX0_many_22 : eb_dc cX0_many 22 (.iload_n 1) 1 23 := by decide +kernel
theorem dX0_many_23 : eb_dc cX0_many 23 (.iload 5) 2 25 := by decide +kernel
theorem dX0_many_25 : eb_dj cX0_many 25 (.ifCond .eq 7) 7 28 32 := by decide +kernel
theorem dX0_many_28 : eb_dc cX0_many 28 (.iconst 1) 1 29 := by decide +kernel
theorem dX0_many_29 : eb_dj cX0_many 29 (.goto 4) 4 32 33 := by decide +kernel
theorem dX0_many_32 : eb_dc cX0_many 32 (.iconst 0) 1 33 := by decide +kernel
theorem dX0_many_33 : eb_dc cX0_many 33 (.iadd) 1 34 := by decide +kernel
theorem dX0_many_34 : eb_dc cX0_many 34 (.istore_n 1) 1 35 := by decide +kernel
theorem dX0_many_35 : eb_dc cX0_many 35 (.iinc 4 1) 3 38 := by decide +kernel
theorem dX0_many_38 : eb_dj cX0_many 38 (.goto (-28)) (-28) 41 10 := by decide +kernel
theorem dX0_many_41 : eb_dc cX0_many 41 (.iload_n 1) 1 42 := by decide +kernel
theorem dX0_many_42 : eb_dc cX0_many 42 (.ireturn) 1 43 := by decide +kernel
theorem ctX0_many {l : Launch} {Γ : eb_C} {st : eb_S} {a0 : Nat} {K : Int32 → Prop} (h : MX0_many Γ st a0 K) : eb_Ct l Γ yX0_many cX0_many 6 (some .int) rmX0_many [.ref a0] st (eb_pI st K) := by
  refine eb_of (by decide) (Nat.le_of_ble_eq_true rfl) (fun X P hP hX0 => ?_)
  show eb_G l Γ P X cX0_many RX0 6 (some .int) rmX0_many 0 [(0, .ref a0)] [] st 0 0
  refine eg_iconst dX0_many_0 kc_0 ?_
  refine eg_istore_n (lv' := [(1, .int 0), (0, .ref a0)]) dX0_many_1 rfl (Nat.le_of_ble_eq_true rfl) rfl ?_
  refine eg_aload_n 1 dX0_many_2 rfl rfl ?_
  refine eg_astore_n (i := 2) (lv' := [(2, .ref a0), (1, .int 0), (0, .ref a0)]) dX0_many_3 rfl (Nat.le_of_ble_eq_true rfl) rfl ?_
  refine eg_aload_n 0 dX0_many_4 rfl rfl ?_
  obtain ⟨xA, he, h⟩ := h
  refine eh_alen (t := 1) (ty := .boolean) he rfl dX0_many_5 ?_
  generalize Int32.ofNat xA.1 = v1 at h ⊢
  refine eg_istore_n (lv' := [(3, .int v1), (2, .ref a0), (1, .int 0), (0, .ref a0)]) dX0_many_6 rfl (Nat.le_of_ble_eq_true rfl) rfl ?_
  refine eg_iconst dX0_many_7 kc_0 ?_
  refine eg_istore (lv' := [(4, .int 0), (3, .int v1), (2, .ref a0), (1, .int 0), (0, .ref a0)]) dX0_many_8 (Nat.le_of_ble_eq_true rfl) rfl ?_
  refine eg_sub [3, 2, 1, 0] rfl ?_
  refine eb_loop2_e (J := fun (x1_2 : Int32) (x4_3 : Int32) => eb_G l Γ P X cX0_many RX0 6 (some .int) rmX0_many 10 [(1, .int x1_2), (2, .ref a0), (3, .int v1), (4, .int x4_3)] [] st 0 0) h ?_
  clear h
  intro r4 hr4 x1_2 x4_3 h
  refine eg_iload 3 dX0_many_10 rfl ?_
  refine eg_iload_n 2 dX0_many_12 rfl rfl ?_
  refine eg_icmp_ge dX0_many_13 (fun c9 => ?_) (fun c9 => ?_)
  · replace h := h.1 c9
    refine eg_iload_n 0 dX0_many_41 rfl rfl ?_
    exact eg_iret dX0_many_42 (Nat.zero_le _) (Nat.zero_le _) (hP _ _ ⟨_, rfl, rfl, h⟩)
  · replace h := h.2 c9
    refine eg_aload_n 1 dX0_many_16 rfl rfl ?_
    refine eg_iload 3 dX0_many_17 rfl ?_
    obtain ⟨nA, fA, he, hb, h⟩ := h
    refine eh_zald he hb dX0_many_19 (fun v5 ev5 => ?_)
    replace h := h v5 ev5
    refine eg_istore (lv' := [(5, .int v5), (1, .int x1_2), (2, .ref a0), (3, .int v1), (4, .int x4_3)]) dX0_many_20 (Nat.le_of_ble_eq_true rfl) rfl ?_
    refine eg_iload_n 1 dX0_many_22 rfl rfl ?_
    refine eg_iload 0 dX0_many_23 rfl ?_
    refine eb_jp1_e (J := fun (s6 : Int32) => eb_G l Γ P X cX0_many RX0 6 (some .int) rmX0_many 33 [(2, .ref a0), (3, .int v1), (4, .int x4_3)] [.int s6, .int x1_2] st 0 0) h ?_ ?_
    · clear h
      intro s6 h
      refine eg_iadd dX0_many_33 ?_
      refine eg_istore_n (lv' := [(1, .int (x1_2 + s6)), (2, .ref a0), (3, .int v1), (4, .int x4_3)]) dX0_many_34 rfl (Nat.le_of_ble_eq_true rfl) rfl ?_
      refine eg_iinc (j := 3) (lv' := [(4, .int (x4_3 + 1)), (1, .int (x1_2 + s6)), (2, .ref a0), (3, .int v1)]) dX0_many_35 rfl (by rw [kc_1]) (Nat.le_of_ble_eq_true rfl) rfl ?_
      refine eg_goto dX0_many_38 ?_
      exact eg_sub [1, 2, 3, 0] rfl (hr4 (x1_2 + s6) (x4_3 + 1) h)
    · clear h
      intro k7 hk7 h
      refine eg_if_eq dX0_many_25 (fun c8 => ?_) (fun c8 => ?_)
      · replace h := h.1 c8
        refine eg_iconst dX0_many_32 kc_0 ?_
        exact eg_sub [2, 3, 4] rfl (hk7 0 h)
      · replace h := h.2 c8
        refine eg_iconst dX0_many_28 kc_1 ?_
        refine eg_goto dX0_many_29 ?_
        exact eg_sub [2, 3, 4] rfl (hk7 1 h)
def MX0_classSize (Γ : eb_C) (bc bs : Nat) (st : eb_S) (a0 : Nat) (a1 : Int32) (a2 : Int32) (K : Int32 → eb_S → Prop) : Prop :=
  eb_cs st a0 [0] ∧ ∃ c3 s4 : Nat, (0 + c3 ≤ bc ∧ 0 + s4 ≤ bs) ∧ MX0_isElement Γ c3 s4 st a0 a1 a2 (fun v1 g2 => eb_cs g2 a0 [0] ∧ ∃ c7 s8 : Nat, ((0 + c3) + c7 ≤ bc ∧ (0 + s4) + s8 ≤ bs) ∧ MX0_why Γ c7 s8 g2 a0 a1 v1 (fun v5 g6 => eb_br (v5 = 1) (eb_gr g6 a0 0 0 (fun v9 => eb_nn v9 (fun p10 => eb_lr Γ g6 p10 7 a1 (fun v11 => eb_nn v11 (fun p12 => eb_cs g6 p12 [1] ∧ ∃ c15 s16 : Nat, ((((0 + c3) + c7)) + c15 ≤ bc ∧ (((0 + s4) + s8)) + s16 ≤ bs) ∧ MX1_group Γ c15 s16 g6 p12 (fun v13 g14 => eb_nn v13 (fun p17 => eb_gi g14 p17 7 1 (fun v18 => eb_ok1 v18 ∧ (eb_mk g14 (eb_ia Γ 1 (v18.toNatClampNeg) (fun _ => 0)) (v18.toNatClampNeg) bc bs ((((0 + c3) + c7) + c15)) ((((0 + s4) + s8) + s16)) (fun p19 g20 => eb_jp1 (fun (g21 : eb_S) => MX0_many Γ g21 p19 (fun v22 => K v22 g21)) (fun k26 => eb_loop2 (fun r29 (x6_27 : Int32) (g28 : eb_S) => eb_gi g28 p17 7 1 (fun v30 => eb_br (v30 ≤ x6_27) (k26 g28) (eb_cs g28 p17 [7] ∧ MX8_product Γ 20 g28 p17 x6_27 a2 (fun v31 => eb_cs g28 p17 [7] ∧ MX8_inverse Γ g28 p17 x6_27 (fun v35 => eb_cs g28 p17 [7] ∧ MX8_product Γ 20 g28 p17 v31 v35 (fun v39 => eb_wi Γ g28 p19 1 v39 (vp_nar .boolean 1) (fun g43 => r29 (x6_27 + 1) g43))))))) 0 g20))))))))))) (K v5 g6)))
abbrev rmX0_classSize (bc bs : Nat) : Room := { frames := 23, cells := bc, slots := bs, locals := 496 }
theorem nX0_classSize : eb_ar yX0_classSize 2 := by decide +kernel
theorem dX0_classSize_0 : eb_dc cX0_classSize 0 (.aload_n 0) 1 1 := by decide +kernel
theorem dX0_classSize_1 : eb_dc cX0_classSize 1 (.iload_n 1) 1 2 := by decide +kernel
theorem dX0_classSize_2 : eb_dc cX0_classSize 2 (.aload_n 0) 1 3 := by decide +kernel
theorem dX0_classSize_3 : eb_dc cX0_classSize 3 (.iload_n 1) 1 4 := by decide +kernel
theorem dX0_classSize_4 : eb_dc cX0_classSize 4 (.iload_n 2) 1 5 := by decide +kernel
theorem dX0_classSize_5 : eb_dc cX0_classSize 5 (.invokevirtual 79) 3 8 := by decide +kernel
theorem dX0_classSize_8 : eb_dc cX0_classSize 8 (.invokevirtual 75) 3 11 := by decide +kernel
theorem dX0_classSize_11 : eb_dc cX0_classSize 11 (.istore_n 3) 1 12 := by decide +kernel
theorem dX0_classSize_12 : eb_dc cX0_classSize 12 (.iload_n 3) 1 13 := by decide +kernel
theorem dX0_classSize_13 : eb_dc cX0_classSize 13 (.iconst 1) 1 14 := by decide +kernel
theorem dX0_classSize_14 : eb_dj cX0_classSize 14 (.if_icmp .eq 5) 5 17 19 := by decide +kernel
theorem dX0_classSize_17 : eb_dc cX0_classSize 17 (.iload_n 3) 1 18 := by decide +kernel
theorem dX0_classSize_18 : eb_dc cX0_classSize 18 (.ireturn) 1 19 := by decide +kernel
theorem dX0_classSize_19 : eb_dc cX0_classSize 19 (.aload_n 0) 1 20 := by decide +kernel
theorem dX0_classSize_20 : eb_dc cX0_classSize 20 (.getfield 15) 3 23 := by decide +kernel
theorem dX0_classSize_23 : eb_dc cX0_classSize 23 (.iload_n 1) 1 24 := by decide +kernel
theorem dX0_classSize_24 : eb_dc cX0_classSize 24 (.aaload) 1 25 := by decide +kernel
theorem dX0_classSize_25 : eb_dc cX0_classSize 25 (.invokevirtual 66) 3 28 := by decide +kernel
theorem dX0_classSize_28 : eb_dc cX0_classSize 28 (.astore 4) 2 30 := by decide +kernel
theorem dX0_classSize_30 : eb_dc cX0_classSize 30 (.aload 4) 2 32 := by decide +kernel
theorem dX0_classSize_32 : eb_dc cX0_classSize 32 (.getfield 70) 3 35 := by decide +kernel
theorem dX0_classSize_35 : eb_dc cX0_classSize 35 (.newarray .boolean) 2 37 := by decide +kernel
theorem dX0_classSize_37 : eb_dc cX0_classSize 37 (.astore 5) 2 39 := by decide +kernel
theorem dX0_classSize_39 : eb_dc cX0_classSize 39 (.iconst 0) 1 40 := by decide +kernel
theorem dX0_classSize_40 : eb_dc cX0_classSize 40 (.istore 6) 2 42 := by decide +kernel
theorem dX0_classSize_42 : eb_dc cX0_classSize 42 (.iload 6) 2 44 := by decide +kernel
theorem dX0_classSize_44 : eb_dc cX0_classSize 44 (.aload 4) 2 46 := by decide +kernel
theorem dX0_classSize_46 : eb_dc cX0_classSize 46 (.getfield 70) 3 49 := by decide +kernel
theorem dX0_classSize_49 : eb_dj cX0_classSize 49 (.if_icmp .ge 33) 33 52 82 := by decide +kernel
theorem dX0_classSize_52 : eb_dc cX0_classSize 52 (.aload 5) 2 54 := by decide +kernel
theorem dX0_classSize_54 : eb_dc cX0_classSize 54 (.aload 4) 2 56 := by decide +kernel
theorem dX0_classSize_56 : eb_dc cX0_classSize 56 (.aload 4) 2 58 := by decide +kernel
theorem dX0_classSize_58 : eb_dc cX0_classSize 58 (.iload 6) 2 60 := by decide +kernel
theorem dX0_classSize_60 : eb_dc cX0_classSize 60 (.iload_n 2) 1 61 := by decide +kernel
theorem dX0_classSize_61 : eb_dc cX0_classSize 61 (.invokevirtual 92) 3 64 := by decide +kernel
theorem dX0_classSize_64 : eb_dc cX0_classSize 64 (.aload 4) 2 66 := by decide +kernel
theorem dX0_classSize_66 : eb_dc cX0_classSize 66 (.iload 6) 2 68 := by decide +kernel
theorem dX0_classSize_68 : eb_dc cX0_classSize 68 (.invokevirtual 95) 3 71 := by decide +kernel
theorem dX0_classSize_71 : eb_dc cX0_classSize 71 (.invokevirtual 92) 3 74 := by decide +kernel
theorem dX0_classSize_74 : eb_dc cX0_classSize 74 (.iconst 1) 1 75 := by decide +kernel
theorem dX0_classSize_75 : eb_dc cX0_classSize 75 (.bastore) 1 76 := by decide +kernel
theorem dX0_classSize_76 : eb_dc cX0_classSize 76 (.iinc 6 1) 3 79 := by decide +kernel
theorem dX0_classSize_79 : eb_dj cX0_classSize 79 (.goto (-37)) (-37) 82 42 := by decide +kernel
theorem dX0_classSize_82 : eb_dc cX0_classSize 82 (.aload 5) 2 84 := by decide +kernel
theorem dX0_classSize_84 : eb_dc cX0_classSize 84 (.invokestatic 100) 3 87 := by decide +kernel
theorem dX0_classSize_87 : eb_dc cX0_classSize 87 (.ireturn) 1 88 := by decide +kernel
theorem ctX0_classSize {l : Launch} {Γ : eb_C} {bc bs : Nat} {st : eb_S} {a0 : Nat} {a1 : Int32} {a2 : Int32} {K : Int32 → eb_S → Prop} (h : MX0_classSize Γ bc bs st a0 a1 a2 K) : eb_Ct l Γ yX0_classSize cX0_classSize 7 (some .int) (rmX0_classSize bc bs) [.ref a0, .int a1, .int a2] st (eb_oI K) := by
  refine eb_of (by decide) (Nat.le_of_ble_eq_true rfl) (fun X P hP hX0 => ?_)
  suffices hgo : (0 ≤ bc ∧ 0 ≤ bs) → eb_G l Γ P X cX0_classSize RX0 7 (some .int) (rmX0_classSize bc bs) 0 [(0, .ref a0), (1, .int a1), (2, .int a2)] [] st 0 0 from hgo ⟨Nat.zero_le _, Nat.zero_le _⟩
  intro hu
  refine eg_aload_n 0 dX0_classSize_0 rfl rfl ?_
  refine eg_iload_n 1 dX0_classSize_1 rfl rfl ?_
  refine eg_aload_n 0 dX0_classSize_2 rfl rfl ?_
  refine eg_iload_n 1 dX0_classSize_3 rfl rfl ?_
  refine eg_iload_n 2 dX0_classSize_4 rfl rfl ?_
  obtain ⟨hcs, h⟩ := h
  obtain ⟨c3, s4, hca, h⟩ := h
  have hM0 := h
  clear h
  refine ec_VIa (rest := [.int a1, .ref a0]) (ctX0_isElement hM0) (lw_V q419 q421 qs5 q74 q422) rfl rfl hcs nX0_isElement ⟨Nat.le_of_ble_eq_true rfl, Nat.le_of_ble_eq_true rfl⟩ ⟨rfl, rfl⟩ hca rfl rfl (Nat.le_of_ble_eq_true rfl) dX0_classSize_5 (fun v1 g2 h => ?_)
  clear hM0
  replace hu := hca
  obtain ⟨hcs, h⟩ := h
  obtain ⟨c7, s8, hca, h⟩ := h
  have hM0 := h
  clear h
  refine ec_VIa (rest := []) (ctX0_why hM0) (lw_V q237 q239 qs1 q74 q240) rfl rfl hcs nX0_why ⟨Nat.le_of_ble_eq_true rfl, Nat.le_of_ble_eq_true rfl⟩ ⟨rfl, rfl⟩ hca rfl rfl (Nat.le_of_ble_eq_true rfl) dX0_classSize_8 (fun v5 g6 h => ?_)
  clear hM0
  replace hu := hca
  refine eg_istore_n (lv' := [(3, .int v5), (0, .ref a0), (1, .int a1), (2, .int a2)]) dX0_classSize_11 rfl (Nat.le_of_ble_eq_true rfl) rfl ?_
  refine eg_iload_n 0 dX0_classSize_12 rfl rfl ?_
  refine eg_iconst dX0_classSize_13 kc_1 ?_
  refine eg_icmp_eq dX0_classSize_14 (fun c45 => ?_) (fun c45 => ?_)
  · replace h := h.1 c45
    refine eg_aload_n 1 dX0_classSize_19 rfl rfl ?_
    obtain ⟨fs, v9, he, hv, h⟩ := h
    refine eg_get 0 in_X0 he rfl (Nat.le_of_ble_eq_true rfl) q159 rfl hv dX0_classSize_20 ?_
    refine eg_iload_n 2 dX0_classSize_23 rfl rfl ?_
    obtain ⟨p10, rfl, h⟩ := h
    obtain ⟨nA, fA, he, hb, h⟩ := h
    refine eg_aald (t := 7) (ty := .object "EvenBodies$Body") rfl rfl he hb dX0_classSize_24 (fun v11 ev11 => ?_)
    replace h := h v11 ev11
    obtain ⟨p12, rfl, h⟩ := h
    obtain ⟨hcs, h⟩ := h
    obtain ⟨c15, s16, hca, h⟩ := h
    have hM0 := h
    clear h
    refine ec_VRa (rest := []) (ctX1_group hM0) (lw_V q241 q242 q243 q75 q244) rfl rfl hcs nX1_group ⟨Nat.le_of_ble_eq_true rfl, Nat.le_of_ble_eq_true rfl⟩ ⟨rfl, rfl⟩ hca rfl rfl (Nat.le_of_ble_eq_true rfl) dX0_classSize_25 (fun v13 g14 h => ?_)
    clear hM0
    replace hu := hca
    refine eh_astore (i := 4) (v := v13) (lv' := [(4, va_rf v13), (3, .int v5), (0, .ref a0), (1, .int a1), (2, .int a2)]) dX0_classSize_28 (Nat.le_of_ble_eq_true rfl) rfl ?_
    refine eh_aload (v := v13) 0 dX0_classSize_30 rfl ?_
    obtain ⟨p17, rfl, h⟩ := h
    obtain ⟨fs, v18, he, hv, h⟩ := h
    refine eg_getN 1 in_X8 he rfl (Nat.le_of_ble_eq_true rfl) (List.mem_of_getElem? (i := 7) rfl) rfl hv dX0_classSize_32 ?_
    obtain ⟨hok, h⟩ := h
    obtain ⟨hc1, hs1, h⟩ := h
    refine eh_new_z q472 rfl hok hc1 hs1 dX0_classSize_35 (fun p19 qp19 g20 eg20 => ?_)
    replace h := h p19 qp19 g20 eg20
    replace hu := And.intro hc1 hs1
    refine eg_astore (i := 5) (lv' := [(5, .ref p19), (4, .ref p17), (3, .int v5), (0, .ref a0), (1, .int a1), (2, .int a2)]) dX0_classSize_37 (Nat.le_of_ble_eq_true rfl) rfl ?_
    refine eg_iconst dX0_classSize_39 kc_0 ?_
    refine eg_istore (lv' := [(6, .int 0), (5, .ref p19), (4, .ref p17), (3, .int v5), (0, .ref a0), (1, .int a1), (2, .int a2)]) dX0_classSize_40 (Nat.le_of_ble_eq_true rfl) rfl ?_
    refine eb_jp1_e (J := fun (g21 : eb_S) => (((((0 + c3) + c7) + c15) + 1) ≤ bc ∧ ((((0 + s4) + s8) + s16) + (v18.toNatClampNeg)) ≤ bs) → eb_G l Γ P X cX0_classSize RX0 7 (some .int) (rmX0_classSize bc bs) 82 [(5, .ref p19)] [] g21 ((((0 + c3) + c7) + c15) + 1) ((((0 + s4) + s8) + s16) + (v18.toNatClampNeg))) h ?_ ?_
    · clear h
      intro g21 h hu
      refine eg_aload 0 dX0_classSize_82 rfl ?_
      have hM0 := h
      clear h
      refine ec_SIp (rest := []) (ctX0_many hM0) (lw_S q469 q470 q74 q471) nX0_many ⟨Nat.le_of_ble_eq_true rfl, Nat.le_of_ble_eq_true rfl⟩ ⟨rfl, rfl⟩ hu rfl rfl (Nat.le_of_ble_eq_true rfl) dX0_classSize_84 (fun v22 h => ?_)
      clear hM0
      exact eg_iret dX0_classSize_87 hu.1 hu.2 (hP _ _ ⟨_, rfl, h⟩)
    · clear h
      intro k26 hk26 h
      refine eg_sub [6, 2, 1, 0] rfl ?_
      refine eb_loop2_e (J := fun (x6_27 : Int32) (g28 : eb_S) => (((((0 + c3) + c7) + c15) + 1) ≤ bc ∧ ((((0 + s4) + s8) + s16) + (v18.toNatClampNeg)) ≤ bs) → eb_G l Γ P X cX0_classSize RX0 7 (some .int) (rmX0_classSize bc bs) 42 [(2, .int a2), (4, .ref p17), (5, .ref p19), (6, .int x6_27)] [] g28 ((((0 + c3) + c7) + c15) + 1) ((((0 + s4) + s8) + s16) + (v18.toNatClampNeg))) h ?_ hu
      clear h
      clear hu
      intro r29 hr29 x6_27 g28 h hu
      refine eg_iload 3 dX0_classSize_42 rfl ?_
      refine eg_aload 1 dX0_classSize_44 rfl ?_
      obtain ⟨fs, v30, he, hv, h⟩ := h
      refine eg_getN 1 in_X8 he rfl (Nat.le_of_ble_eq_true rfl) (List.mem_of_getElem? (i := 7) rfl) rfl hv dX0_classSize_46 ?_
      refine eg_icmp_ge dX0_classSize_49 (fun c44 => ?_) (fun c44 => ?_)
      · replace h := h.1 c44
        exact eg_sub [2] rfl (hk26 g28 h hu)
      · replace h := h.2 c44
        refine eg_aload 2 dX0_classSize_52 rfl ?_
        refine eg_aload 1 dX0_classSize_54 rfl ?_
        refine eg_aload 1 dX0_classSize_56 rfl ?_
        refine eg_iload 3 dX0_classSize_58 rfl ?_
        refine eg_iload_n 0 dX0_classSize_60 rfl rfl ?_
        obtain ⟨hcs, h⟩ := h
        have hM0 := h
        clear h
        refine ec_VIp (rest := [.ref p17, .ref p19]) (ctX8_product 20 hM0) (lw_V q443 q444 q445 q84 q446) rfl rfl hcs nX8_product ⟨by show _ ≤ _; simp [rmX8_product]; try omega, by show _ ≤ _; simp [rmX8_product]; try omega⟩ ⟨rfl, rfl⟩ hu rfl rfl (Nat.le_of_ble_eq_true rfl) dX0_classSize_61 (fun v31 h => ?_)
        clear hM0
        refine eg_aload 1 dX0_classSize_64 rfl ?_
        refine eg_iload 3 dX0_classSize_66 rfl ?_
        obtain ⟨hcs, h⟩ := h
        have hM0 := h
        clear h
        refine ec_VIp (rest := [.int v31, .ref p17, .ref p19]) (ctX8_inverse hM0) (lw_V q453 q454 q455 q84 q456) rfl rfl hcs nX8_inverse ⟨Nat.le_of_ble_eq_true rfl, Nat.le_of_ble_eq_true rfl⟩ ⟨rfl, rfl⟩ hu rfl rfl (Nat.le_of_ble_eq_true rfl) dX0_classSize_68 (fun v35 h => ?_)
        clear hM0
        obtain ⟨hcs, h⟩ := h
        have hM0 := h
        clear h
        refine ec_VIp (rest := [.ref p19]) (ctX8_product 20 hM0) (lw_V q443 q444 q445 q84 q446) rfl rfl hcs nX8_product ⟨by show _ ≤ _; simp [rmX8_product]; try omega, by show _ ≤ _; simp [rmX8_product]; try omega⟩ ⟨rfl, rfl⟩ hu rfl rfl (Nat.le_of_ble_eq_true rfl) dX0_classSize_71 (fun v39 h => ?_)
        clear hM0
        refine eg_iconst dX0_classSize_74 kc_1 ?_
        obtain ⟨nA, fA, he, hb, h⟩ := h
        refine eh_zast he hb dX0_classSize_75 (fun g43 eg43 => ?_)
        replace h := h g43 eg43
        refine eg_iinc (j := 3) (lv' := [(6, .int (x6_27 + 1)), (2, .int a2), (4, .ref p17), (5, .ref p19)]) dX0_classSize_76 rfl (by rw [kc_1]) (Nat.le_of_ble_eq_true rfl) rfl ?_
        refine eg_goto dX0_classSize_79 ?_
        exact eg_sub [1, 2, 3, 0] rfl (hr29 (x6_27 + 1) g43 h hu)
  · replace h := h.2 c45
    refine eg_iload_n 0 dX0_classSize_17 rfl rfl ?_
    exact eg_iret dX0_classSize_18 hu.1 hu.2 (hP _ _ ⟨_, rfl, h⟩)
def MX0_ofLength (Γ : eb_C) (bc bs : Nat) (st : eb_S) (a0 : Nat) (a1 : Int32) (a2 : Int32) (K : Int32 → eb_S → Prop) : Prop :=
  eb_jp1 (fun (s1 : Int32) => eb_cs st a0 [0] ∧ ∃ c4 s5 : Nat, (0 + c4 ≤ bc ∧ 0 + s5 ≤ bs) ∧ MX0_why Γ c4 s5 st a0 a1 s1 (fun v2 g3 => eb_br (v2 = 1) (eb_gr g3 a0 0 0 (fun v6 => eb_nn v6 (fun p7 => eb_lr Γ g3 p7 7 a1 (fun v8 => eb_nn v8 (fun p9 => eb_cs g3 p9 [1] ∧ ∃ c12 s13 : Nat, ((0 + c4) + c12 ≤ bc ∧ (0 + s5) + s13 ≤ bs) ∧ MX1_group Γ c12 s13 g3 p9 (fun v10 g11 => eb_loop2 (fun r16 (x5_14 : Int32) (x6_15 : Int32) => eb_nn v10 (fun p17 => eb_gi g11 p17 7 1 (fun v18 => eb_br (v18 ≤ x6_15) (K x5_14 g11) (eb_gr g11 p17 7 5 (fun v19 => eb_nn v19 (fun p20 => eb_li Γ g11 p20 4 x6_15 (fun v21 => eb_jp1 (fun (s22 : Int32) => r16 (x5_14 + s22) (x6_15 + 1)) (fun k23 => eb_br (v21 = a2) (k23 1) (k23 0))))))))) 0 0)))))) (K v2 g3))) (fun k27 => eb_br (a2 < 0) (k27 0) (k27 1))
abbrev rmX0_ofLength (bc bs : Nat) : Room := { frames := 14, cells := bc, slots := bs, locals := 306 }
theorem nX0_ofLength : eb_ar yX0_ofLength 2 := by decide +kernel
theorem dX0_ofLength_0 : eb_dc cX0_ofLength 0 (.aload_n 0) 1 1 := by decide +kernel
theorem dX0_ofLength_1 : eb_dc cX0_ofLength 1 (.iload_n 1) 1 2 := by decide +kernel
theorem dX0_ofLength_2 : eb_dc cX0_ofLength 2 (.iload_n 2) 1 3 := by decide +kernel
theorem dX0_ofLength_3 : eb_dj cX0_ofLength 3 (.ifCond .lt 7) 7 6 10 := by decide +kernel
theorem dX0_ofLength_6 : eb_dc cX0_ofLength 6 (.iconst 1) 1 7 := by decide +kernel
theorem dX0_ofLength_7 : eb_dj cX0_ofLength 7 (.goto 4) 4 10 11 := by decide +kernel
theorem dX0_ofLength_10 : eb_dc cX0_ofLength 10 (.iconst 0) 1 11 := by decide +kernel
theorem dX0_ofLength_11 : eb_dc cX0_ofLength 11 (.invokevirtual 75) 3 14 := by decide +kernel
theorem dX0_ofLength_14 : eb_dc cX0_ofLength 14 (.istore_n 3) 1 15 := by decide +kernel
theorem dX0_ofLength_15 : eb_dc cX0_ofLength 15 (.iload_n 3) 1 16 := by decide +kernel
theorem dX0_ofLength_16 : eb_dc cX0_ofLength 16 (.iconst 1) 1 17 := by decide +kernel
theorem dX0_ofLength_17 : eb_dj cX0_ofLength 17 (.if_icmp .eq 5) 5 20 22 := by decide +kernel
theorem dX0_ofLength_20 : eb_dc cX0_ofLength 20 (.iload_n 3) 1 21 := by decide +kernel
theorem dX0_ofLength_21 : eb_dc cX0_ofLength 21 (.ireturn) 1 22 := by decide +kernel
theorem dX0_ofLength_22 : eb_dc cX0_ofLength 22 (.aload_n 0) 1 23 := by decide +kernel
theorem dX0_ofLength_23 : eb_dc cX0_ofLength 23 (.getfield 15) 3 26 := by decide +kernel
theorem dX0_ofLength_26 : eb_dc cX0_ofLength 26 (.iload_n 1) 1 27 := by decide +kernel
theorem dX0_ofLength_27 : eb_dc cX0_ofLength 27 (.aaload) 1 28 := by decide +kernel
theorem dX0_ofLength_28 : eb_dc cX0_ofLength 28 (.invokevirtual 66) 3 31 := by decide +kernel
theorem dX0_ofLength_31 : eb_dc cX0_ofLength 31 (.astore 4) 2 33 := by decide +kernel
theorem dX0_ofLength_33 : eb_dc cX0_ofLength 33 (.iconst 0) 1 34 := by decide +kernel
theorem dX0_ofLength_34 : eb_dc cX0_ofLength 34 (.istore 5) 2 36 := by decide +kernel
theorem dX0_ofLength_36 : eb_dc cX0_ofLength 36 (.iconst 0) 1 37 := by decide +kernel
theorem dX0_ofLength_37 : eb_dc cX0_ofLength 37 (.istore 6) 2 39 := by decide +kernel
theorem dX0_ofLength_39 : eb_dc cX0_ofLength 39 (.iload 6) 2 41 := by decide +kernel
theorem dX0_ofLength_41 : eb_dc cX0_ofLength 41 (.aload 4) 2 43 := by decide +kernel
theorem dX0_ofLength_43 : eb_dc cX0_ofLength 43 (.getfield 70) 3 46 := by decide +kernel
theorem dX0_ofLength_46 : eb_dj cX0_ofLength 46 (.if_icmp .ge 31) 31 49 77 := by decide +kernel
theorem dX0_ofLength_49 : eb_dc cX0_ofLength 49 (.iload 5) 2 51 := by decide +kernel
theorem dX0_ofLength_51 : eb_dc cX0_ofLength 51 (.aload 4) 2 53 := by decide +kernel
theorem dX0_ofLength_53 : eb_dc cX0_ofLength 53 (.getfield 82) 3 56 := by decide +kernel
theorem dX0_ofLength_56 : eb_dc cX0_ofLength 56 (.iload 6) 2 58 := by decide +kernel
theorem dX0_ofLength_58 : eb_dc cX0_ofLength 58 (.baload) 1 59 := by decide +kernel
theorem dX0_ofLength_59 : eb_dc cX0_ofLength 59 (.iload_n 2) 1 60 := by decide +kernel
theorem dX0_ofLength_60 : eb_dj cX0_ofLength 60 (.if_icmp .ne 7) 7 63 67 := by decide +kernel
theorem dX0_ofLength_63 : eb_dc cX0_ofLength 63 (.iconst 1) 1 64 := by decide +kernel
theorem dX0_ofLength_64 : eb_dj cX0_ofLength 64 (.goto 4) 4 67 68 := by decide +kernel
theorem dX0_ofLength_67 : eb_dc cX0_ofLength 67 (.iconst 0) 1 68 := by decide +kernel
theorem dX0_ofLength_68 : eb_dc cX0_ofLength 68 (.iadd) 1 69 := by decide +kernel
theorem dX0_ofLength_69 : eb_dc cX0_ofLength 69 (.istore 5) 2 71 := by decide +kernel
theorem dX0_ofLength_71 : eb_dc cX0_ofLength 71 (.iinc 6 1) 3 74 := by decide +kernel
theorem dX0_ofLength_74 : eb_dj cX0_ofLength 74 (.goto (-35)) (-35) 77 39 := by decide +kernel
theorem dX0_ofLength_77 : eb_dc cX0_ofLength 77 (.iload 5) 2 79 := by decide +kernel
theorem dX0_ofLength_79 : eb_dc cX0_ofLength 79 (.ireturn) 1 80 := by decide +kernel
theorem ctX0_ofLength {l : Launch} {Γ : eb_C} {bc bs : Nat} {st : eb_S} {a0 : Nat} {a1 : Int32} {a2 : Int32} {K : Int32 → eb_S → Prop} (h : MX0_ofLength Γ bc bs st a0 a1 a2 K) : eb_Ct l Γ yX0_ofLength cX0_ofLength 7 (some .int) (rmX0_ofLength bc bs) [.ref a0, .int a1, .int a2] st (eb_oI K) := by
  refine eb_of (by decide) (Nat.le_of_ble_eq_true rfl) (fun X P hP hX0 => ?_)
  suffices hgo : (0 ≤ bc ∧ 0 ≤ bs) → eb_G l Γ P X cX0_ofLength RX0 7 (some .int) (rmX0_ofLength bc bs) 0 [(0, .ref a0), (1, .int a1), (2, .int a2)] [] st 0 0 from hgo ⟨Nat.zero_le _, Nat.zero_le _⟩
  intro hu
  refine eg_aload_n 0 dX0_ofLength_0 rfl rfl ?_
  refine eg_iload_n 1 dX0_ofLength_1 rfl rfl ?_
  refine eg_iload_n 2 dX0_ofLength_2 rfl rfl ?_
  refine eb_jp1_e (J := fun (s1 : Int32) => (0 ≤ bc ∧ 0 ≤ bs) → eb_G l Γ P X cX0_ofLength RX0 7 (some .int) (rmX0_ofLength bc bs) 11 [(0, .ref a0), (1, .int a1), (2, .int a2)] [.int s1, .int a1, .ref a0] st 0 0) h ?_ ?_
  · clear h
    intro s1 h hu
    obtain ⟨hcs, h⟩ := h
    obtain ⟨c4, s5, hca, h⟩ := h
    have hM0 := h
    clear h
    refine ec_VIa (rest := []) (ctX0_why hM0) (lw_V q237 q239 qs1 q74 q240) rfl rfl hcs nX0_why ⟨Nat.le_of_ble_eq_true rfl, Nat.le_of_ble_eq_true rfl⟩ ⟨rfl, rfl⟩ hca rfl rfl (Nat.le_of_ble_eq_true rfl) dX0_ofLength_11 (fun v2 g3 h => ?_)
    clear hM0
    replace hu := hca
    refine eg_istore_n (lv' := [(3, .int v2), (0, .ref a0), (1, .int a1), (2, .int a2)]) dX0_ofLength_14 rfl (Nat.le_of_ble_eq_true rfl) rfl ?_
    refine eg_iload_n 0 dX0_ofLength_15 rfl rfl ?_
    refine eg_iconst dX0_ofLength_16 kc_1 ?_
    refine eg_icmp_eq dX0_ofLength_17 (fun c26 => ?_) (fun c26 => ?_)
    · replace h := h.1 c26
      refine eg_aload_n 1 dX0_ofLength_22 rfl rfl ?_
      obtain ⟨fs, v6, he, hv, h⟩ := h
      refine eg_get 0 in_X0 he rfl (Nat.le_of_ble_eq_true rfl) q159 rfl hv dX0_ofLength_23 ?_
      refine eg_iload_n 2 dX0_ofLength_26 rfl rfl ?_
      obtain ⟨p7, rfl, h⟩ := h
      obtain ⟨nA, fA, he, hb, h⟩ := h
      refine eg_aald (t := 7) (ty := .object "EvenBodies$Body") rfl rfl he hb dX0_ofLength_27 (fun v8 ev8 => ?_)
      replace h := h v8 ev8
      obtain ⟨p9, rfl, h⟩ := h
      obtain ⟨hcs, h⟩ := h
      obtain ⟨c12, s13, hca, h⟩ := h
      have hM0 := h
      clear h
      refine ec_VRa (rest := []) (ctX1_group hM0) (lw_V q241 q242 q243 q75 q244) rfl rfl hcs nX1_group ⟨Nat.le_of_ble_eq_true rfl, Nat.le_of_ble_eq_true rfl⟩ ⟨rfl, rfl⟩ hca rfl rfl (Nat.le_of_ble_eq_true rfl) dX0_ofLength_28 (fun v10 g11 h => ?_)
      clear hM0
      replace hu := hca
      refine eh_astore (i := 4) (v := v10) (lv' := [(4, va_rf v10), (3, .int v2), (0, .ref a0), (1, .int a1), (2, .int a2)]) dX0_ofLength_31 (Nat.le_of_ble_eq_true rfl) rfl ?_
      refine eg_iconst dX0_ofLength_33 kc_0 ?_
      refine eg_istore (i := 5) (lv' := [(5, .int 0), (4, va_rf v10), (3, .int v2), (0, .ref a0), (1, .int a1), (2, .int a2)]) dX0_ofLength_34 (Nat.le_of_ble_eq_true rfl) (by simp [List.filter_cons, eb_rfc]) ?_
      refine eg_iconst dX0_ofLength_36 kc_0 ?_
      refine eg_istore (lv' := [(6, .int 0), (5, .int 0), (4, va_rf v10), (3, .int v2), (0, .ref a0), (1, .int a1), (2, .int a2)]) dX0_ofLength_37 (Nat.le_of_ble_eq_true rfl) rfl ?_
      refine eg_sub [6, 2, 1, 0] rfl ?_
      refine eb_loop2_e (J := fun (x5_14 : Int32) (x6_15 : Int32) => (((0 + c4) + c12) ≤ bc ∧ ((0 + s5) + s13) ≤ bs) → eb_G l Γ P X cX0_ofLength RX0 7 (some .int) (rmX0_ofLength bc bs) 39 [(2, .int a2), (4, va_rf v10), (5, .int x5_14), (6, .int x6_15)] [] g11 ((0 + c4) + c12) ((0 + s5) + s13)) h ?_ hu
      clear h
      clear hu
      intro r16 hr16 x5_14 x6_15 h hu
      refine eg_iload 3 dX0_ofLength_39 rfl ?_
      refine eh_aload (v := v10) 1 dX0_ofLength_41 rfl ?_
      obtain ⟨p17, rfl, h⟩ := h
      obtain ⟨fs, v18, he, hv, h⟩ := h
      refine eg_getN 1 in_X8 he rfl (Nat.le_of_ble_eq_true rfl) (List.mem_of_getElem? (i := 7) rfl) rfl hv dX0_ofLength_43 ?_
      refine eg_icmp_ge dX0_ofLength_46 (fun c25 => ?_) (fun c25 => ?_)
      · replace h := h.1 c25
        refine eg_iload 2 dX0_ofLength_77 rfl ?_
        exact eg_iret dX0_ofLength_79 hu.1 hu.2 (hP _ _ ⟨_, rfl, h⟩)
      · replace h := h.2 c25
        refine eg_iload 2 dX0_ofLength_49 rfl ?_
        refine eg_aload 1 dX0_ofLength_51 rfl ?_
        obtain ⟨fs, v19, he, hv, h⟩ := h
        refine eg_getN 5 in_X8 he rfl (Nat.le_of_ble_eq_true rfl) (List.mem_of_getElem? (i := 8) rfl) rfl hv dX0_ofLength_53 ?_
        refine eg_iload 3 dX0_ofLength_56 rfl ?_
        obtain ⟨p20, rfl, h⟩ := h
        obtain ⟨nA, fA, he, hb, h⟩ := h
        refine eh_bald he hb dX0_ofLength_58 (fun v21 ev21 => ?_)
        replace h := h v21 ev21
        refine eg_iload_n 0 dX0_ofLength_59 rfl rfl ?_
        refine eb_jp1_e (J := fun (s22 : Int32) => (((0 + c4) + c12) ≤ bc ∧ ((0 + s5) + s13) ≤ bs) → eb_G l Γ P X cX0_ofLength RX0 7 (some .int) (rmX0_ofLength bc bs) 68 [(2, .int a2), (4, .ref p17), (6, .int x6_15)] [.int s22, .int x5_14] g11 ((0 + c4) + c12) ((0 + s5) + s13)) h ?_ ?_
        · clear h
          intro s22 h hu
          refine eg_iadd dX0_ofLength_68 ?_
          refine eg_istore (lv' := [(5, .int (x5_14 + s22)), (2, .int a2), (4, .ref p17), (6, .int x6_15)]) dX0_ofLength_69 (Nat.le_of_ble_eq_true rfl) rfl ?_
          refine eg_iinc (j := 3) (lv' := [(6, .int (x6_15 + 1)), (5, .int (x5_14 + s22)), (2, .int a2), (4, .ref p17)]) dX0_ofLength_71 rfl (by rw [kc_1]) (Nat.le_of_ble_eq_true rfl) rfl ?_
          refine eg_goto dX0_ofLength_74 ?_
          exact eg_sub [2, 3, 1, 0] rfl (hr16 (x5_14 + s22) (x6_15 + 1) h hu)
        · clear h
          intro k23 hk23 h
          refine eg_icmp_ne dX0_ofLength_60 (fun c24 => ?_) (fun c24 => ?_)
          · replace h := h.2 c24
            refine eg_iconst dX0_ofLength_67 kc_0 ?_
            exact eg_sub [0, 1, 3] rfl (hk23 0 h hu)
          · replace h := h.1 c24
            refine eg_iconst dX0_ofLength_63 kc_1 ?_
            refine eg_goto dX0_ofLength_64 ?_
            exact eg_sub [0, 1, 3] rfl (hk23 1 h hu)
    · replace h := h.2 c26
      refine eg_iload_n 0 dX0_ofLength_20 rfl rfl ?_
      exact eg_iret dX0_ofLength_21 hu.1 hu.2 (hP _ _ ⟨_, rfl, h⟩)
  · clear h
    intro k27 hk27 h
    refine eg_if_lt dX0_ofLength_3 (fun c28 => ?_) (fun c28 => ?_)
    · replace h := h.1 c28
      refine eg_iconst dX0_ofLength_10 kc_0 ?_
      exact hk27 0 h hu
    · replace h := h.2 c28
      refine eg_iconst dX0_ofLength_6 kc_1 ?_
      refine eg_goto dX0_ofLength_7 ?_
      exact hk27 1 h hu
def MX0_mirrors (Γ : eb_C) (bc bs : Nat) (st : eb_S) (a0 : Nat) (a1 : Int32) (K : Int32 → eb_S → Prop) : Prop :=
  eb_cs st a0 [0] ∧ ∃ c3 s4 : Nat, (0 + c3 ≤ bc ∧ 0 + s4 ≤ bs) ∧ MX0_why Γ c3 s4 st a0 a1 1 (fun v1 g2 => eb_br (v1 = 1) (eb_gr g2 a0 0 0 (fun v5 => eb_nn v5 (fun p6 => eb_lr Γ g2 p6 7 a1 (fun v7 => eb_nn v7 (fun p8 => eb_cs g2 p8 [1] ∧ ∃ c11 s12 : Nat, ((0 + c3) + c11 ≤ bc ∧ (0 + s4) + s12 ≤ bs) ∧ MX1_group Γ c11 s12 g2 p8 (fun v9 g10 => eb_nn v9 (fun p13 => eb_gi g10 p13 7 1 (fun v14 => eb_ok1 v14 ∧ (eb_mk g10 (eb_ia Γ 1 (v14.toNatClampNeg) (fun _ => 0)) (v14.toNatClampNeg) bc bs (((0 + c3) + c11)) (((0 + s4) + s12)) (fun p15 g16 => eb_jp1 (fun (g17 : eb_S) => MX0_many Γ g17 p15 (fun v18 => K v18 g17)) (fun k22 => eb_loop2 (fun r25 (x5_23 : Int32) (g24 : eb_S) => eb_gi g24 p13 7 1 (fun v26 => eb_br (v26 ≤ x5_23) (k22 g24) (eb_jp1 (fun (g27 : eb_S) => r25 (x5_23 + 1) g27) (fun k28 => eb_loop2 (fun r31 (x6_29 : Int32) (g30 : eb_S) => eb_gi g30 p13 7 0 (fun v32 => eb_br (v32 ≤ x6_29) (k28 g30) (eb_cs g30 p13 [7] ∧ MX8_by Γ g30 p13 x5_23 x6_29 (fun v33 => eb_cs g30 p13 [7] ∧ MX8_inverse Γ g30 p13 x5_23 (fun v37 => eb_cs g30 p13 [7] ∧ MX8_product Γ 20 g30 p13 v33 v37 (fun v41 => eb_wi Γ g30 p15 1 v41 (vp_nar .boolean 1) (fun g45 => r31 (x6_29 + 1) g45))))))) 0 g24)))) 0 g16))))))))))) (K v1 g2))
abbrev rmX0_mirrors (bc bs : Nat) : Room := { frames := 23, cells := bc, slots := bs, locals := 496 }
theorem nX0_mirrors : eb_ar yX0_mirrors 1 := by decide +kernel
theorem dX0_mirrors_0 : eb_dc cX0_mirrors 0 (.aload_n 0) 1 1 := by decide +kernel
theorem dX0_mirrors_1 : eb_dc cX0_mirrors 1 (.iload_n 1) 1 2 := by decide +kernel
theorem dX0_mirrors_2 : eb_dc cX0_mirrors 2 (.iconst 1) 1 3 := by decide +kernel
theorem dX0_mirrors_3 : eb_dc cX0_mirrors 3 (.invokevirtual 75) 3 6 := by decide +kernel
theorem dX0_mirrors_6 : eb_dc cX0_mirrors 6 (.istore_n 2) 1 7 := by decide +kernel
theorem dX0_mirrors_7 : eb_dc cX0_mirrors 7 (.iload_n 2) 1 8 := by decide +kernel
theorem dX0_mirrors_8 : eb_dc cX0_mirrors 8 (.iconst 1) 1 9 := by decide +kernel
theorem dX0_mirrors_9 : eb_dj cX0_mirrors 9 (.if_icmp .eq 5) 5 12 14 := by decide +kernel
theorem dX0_mirrors_12 : eb_dc cX0_mirrors 12 (.iload_n 2) 1 13 := by decide +kernel
theorem dX0_mirrors_13 : eb_dc cX0_mirrors 13 (.ireturn) 1 14 := by decide +kernel
theorem dX0_mirrors_14 : eb_dc cX0_mirrors 14 (.aload_n 0) 1 15 := by decide +kernel
theorem dX0_mirrors_15 : eb_dc cX0_mirrors 15 (.getfield 15) 3 18 := by decide +kernel
theorem dX0_mirrors_18 : eb_dc cX0_mirrors 18 (.iload_n 1) 1 19 := by decide +kernel
theorem dX0_mirrors_19 : eb_dc cX0_mirrors 19 (.aaload) 1 20 := by decide +kernel
theorem dX0_mirrors_20 : eb_dc cX0_mirrors 20 (.invokevirtual 66) 3 23 := by decide +kernel
theorem dX0_mirrors_23 : eb_dc cX0_mirrors 23 (.astore_n 3) 1 24 := by decide +kernel
theorem dX0_mirrors_24 : eb_dc cX0_mirrors 24 (.aload_n 3) 1 25 := by decide +kernel
theorem dX0_mirrors_25 : eb_dc cX0_mirrors 25 (.getfield 70) 3 28 := by decide +kernel
theorem dX0_mirrors_28 : eb_dc cX0_mirrors 28 (.newarray .boolean) 2 30 := by decide +kernel
theorem dX0_mirrors_30 : eb_dc cX0_mirrors 30 (.astore 4) 2 32 := by decide +kernel
theorem dX0_mirrors_32 : eb_dc cX0_mirrors 32 (.iconst 0) 1 33 := by decide +kernel
theorem dX0_mirrors_33 : eb_dc cX0_mirrors 33 (.istore 5) 2 35 := by decide +kernel
theorem dX0_mirrors_35 : eb_dc cX0_mirrors 35 (.iload 5) 2 37 := by decide +kernel
theorem dX0_mirrors_37 : eb_dc cX0_mirrors 37 (.aload_n 3) 1 38 := by decide +kernel
theorem dX0_mirrors_38 : eb_dc cX0_mirrors 38 (.getfield 70) 3 41 := by decide +kernel
theorem dX0_mirrors_41 : eb_dj cX0_mirrors 41 (.if_icmp .ge 49) 49 44 90 := by decide +kernel
theorem dX0_mirrors_44 : eb_dc cX0_mirrors 44 (.iconst 0) 1 45 := by decide +kernel
theorem dX0_mirrors_45 : eb_dc cX0_mirrors 45 (.istore 6) 2 47 := by decide +kernel
theorem dX0_mirrors_47 : eb_dc cX0_mirrors 47 (.iload 6) 2 49 := by decide +kernel
theorem dX0_mirrors_49 : eb_dc cX0_mirrors 49 (.aload_n 3) 1 50 := by decide +kernel
theorem dX0_mirrors_50 : eb_dc cX0_mirrors 50 (.getfield 104) 3 53 := by decide +kernel
theorem dX0_mirrors_53 : eb_dj cX0_mirrors 53 (.if_icmp .ge 31) 31 56 84 := by decide +kernel
theorem dX0_mirrors_56 : eb_dc cX0_mirrors 56 (.aload 4) 2 58 := by decide +kernel
theorem dX0_mirrors_58 : eb_dc cX0_mirrors 58 (.aload_n 3) 1 59 := by decide +kernel
theorem dX0_mirrors_59 : eb_dc cX0_mirrors 59 (.aload_n 3) 1 60 := by decide +kernel
theorem dX0_mirrors_60 : eb_dc cX0_mirrors 60 (.iload 5) 2 62 := by decide +kernel
theorem dX0_mirrors_62 : eb_dc cX0_mirrors 62 (.iload 6) 2 64 := by decide +kernel
theorem dX0_mirrors_64 : eb_dc cX0_mirrors 64 (.invokevirtual 89) 3 67 := by decide +kernel
theorem dX0_mirrors_67 : eb_dc cX0_mirrors 67 (.aload_n 3) 1 68 := by decide +kernel
theorem dX0_mirrors_68 : eb_dc cX0_mirrors 68 (.iload 5) 2 70 := by decide +kernel
theorem dX0_mirrors_70 : eb_dc cX0_mirrors 70 (.invokevirtual 95) 3 73 := by decide +kernel
theorem dX0_mirrors_73 : eb_dc cX0_mirrors 73 (.invokevirtual 92) 3 76 := by decide +kernel
theorem dX0_mirrors_76 : eb_dc cX0_mirrors 76 (.iconst 1) 1 77 := by decide +kernel
theorem dX0_mirrors_77 : eb_dc cX0_mirrors 77 (.bastore) 1 78 := by decide +kernel
theorem dX0_mirrors_78 : eb_dc cX0_mirrors 78 (.iinc 6 1) 3 81 := by decide +kernel
theorem dX0_mirrors_81 : eb_dj cX0_mirrors 81 (.goto (-34)) (-34) 84 47 := by decide +kernel
theorem dX0_mirrors_84 : eb_dc cX0_mirrors 84 (.iinc 5 1) 3 87 := by decide +kernel
theorem dX0_mirrors_87 : eb_dj cX0_mirrors 87 (.goto (-52)) (-52) 90 35 := by decide +kernel
theorem dX0_mirrors_90 : eb_dc cX0_mirrors 90 (.aload 4) 2 92 := by decide +kernel
theorem dX0_mirrors_92 : eb_dc cX0_mirrors 92 (.invokestatic 100) 3 95 := by decide +kernel
theorem dX0_mirrors_95 : eb_dc cX0_mirrors 95 (.ireturn) 1 96 := by decide +kernel
theorem ctX0_mirrors {l : Launch} {Γ : eb_C} {bc bs : Nat} {st : eb_S} {a0 : Nat} {a1 : Int32} {K : Int32 → eb_S → Prop} (h : MX0_mirrors Γ bc bs st a0 a1 K) : eb_Ct l Γ yX0_mirrors cX0_mirrors 7 (some .int) (rmX0_mirrors bc bs) [.ref a0, .int a1] st (eb_oI K) := by
  refine eb_of (by decide) (Nat.le_of_ble_eq_true rfl) (fun X P hP hX0 => ?_)
  suffices hgo : (0 ≤ bc ∧ 0 ≤ bs) → eb_G l Γ P X cX0_mirrors RX0 7 (some .int) (rmX0_mirrors bc bs) 0 [(0, .ref a0), (1, .int a1)] [] st 0 0 from hgo ⟨Nat.zero_le _, Nat.zero_le _⟩
  intro hu
  refine eg_aload_n 0 dX0_mirrors_0 rfl rfl ?_
  refine eg_iload_n 1 dX0_mirrors_1 rfl rfl ?_
  refine eg_iconst dX0_mirrors_2 kc_1 ?_
  obtain ⟨hcs, h⟩ := h
  obtain ⟨c3, s4, hca, h⟩ := h
  have hM0 := h
  clear h
  refine ec_VIa (rest := []) (ctX0_why hM0) (lw_V q237 q239 qs1 q74 q240) rfl rfl hcs nX0_why ⟨Nat.le_of_ble_eq_true rfl, Nat.le_of_ble_eq_true rfl⟩ ⟨rfl, rfl⟩ hca rfl rfl (Nat.le_of_ble_eq_true rfl) dX0_mirrors_3 (fun v1 g2 h => ?_)
  clear hM0
  replace hu := hca
  refine eg_istore_n (lv' := [(2, .int v1), (0, .ref a0), (1, .int a1)]) dX0_mirrors_6 rfl (Nat.le_of_ble_eq_true rfl) rfl ?_
  refine eg_iload_n 0 dX0_mirrors_7 rfl rfl ?_
  refine eg_iconst dX0_mirrors_8 kc_1 ?_
  refine eg_icmp_eq dX0_mirrors_9 (fun c48 => ?_) (fun c48 => ?_)
  · replace h := h.1 c48
    refine eg_aload_n 1 dX0_mirrors_14 rfl rfl ?_
    obtain ⟨fs, v5, he, hv, h⟩ := h
    refine eg_get 0 in_X0 he rfl (Nat.le_of_ble_eq_true rfl) q159 rfl hv dX0_mirrors_15 ?_
    refine eg_iload_n 2 dX0_mirrors_18 rfl rfl ?_
    obtain ⟨p6, rfl, h⟩ := h
    obtain ⟨nA, fA, he, hb, h⟩ := h
    refine eg_aald (t := 7) (ty := .object "EvenBodies$Body") rfl rfl he hb dX0_mirrors_19 (fun v7 ev7 => ?_)
    replace h := h v7 ev7
    obtain ⟨p8, rfl, h⟩ := h
    obtain ⟨hcs, h⟩ := h
    obtain ⟨c11, s12, hca, h⟩ := h
    have hM0 := h
    clear h
    refine ec_VRa (rest := []) (ctX1_group hM0) (lw_V q241 q242 q243 q75 q244) rfl rfl hcs nX1_group ⟨Nat.le_of_ble_eq_true rfl, Nat.le_of_ble_eq_true rfl⟩ ⟨rfl, rfl⟩ hca rfl rfl (Nat.le_of_ble_eq_true rfl) dX0_mirrors_20 (fun v9 g10 h => ?_)
    clear hM0
    replace hu := hca
    refine eh_astore_n (i := 3) (v := v9) (lv' := [(3, va_rf v9), (2, .int v1), (0, .ref a0), (1, .int a1)]) dX0_mirrors_23 rfl (Nat.le_of_ble_eq_true rfl) rfl ?_
    refine eh_aload_n (v := v9) 0 dX0_mirrors_24 rfl rfl ?_
    obtain ⟨p13, rfl, h⟩ := h
    obtain ⟨fs, v14, he, hv, h⟩ := h
    refine eg_getN 1 in_X8 he rfl (Nat.le_of_ble_eq_true rfl) (List.mem_of_getElem? (i := 7) rfl) rfl hv dX0_mirrors_25 ?_
    obtain ⟨hok, h⟩ := h
    obtain ⟨hc1, hs1, h⟩ := h
    refine eh_new_z q472 rfl hok hc1 hs1 dX0_mirrors_28 (fun p15 qp15 g16 eg16 => ?_)
    replace h := h p15 qp15 g16 eg16
    replace hu := And.intro hc1 hs1
    refine eg_astore (i := 4) (lv' := [(4, .ref p15), (3, .ref p13), (2, .int v1), (0, .ref a0), (1, .int a1)]) dX0_mirrors_30 (Nat.le_of_ble_eq_true rfl) rfl ?_
    refine eg_iconst dX0_mirrors_32 kc_0 ?_
    refine eg_istore (lv' := [(5, .int 0), (4, .ref p15), (3, .ref p13), (2, .int v1), (0, .ref a0), (1, .int a1)]) dX0_mirrors_33 (Nat.le_of_ble_eq_true rfl) rfl ?_
    refine eb_jp1_e (J := fun (g17 : eb_S) => ((((0 + c3) + c11) + 1) ≤ bc ∧ (((0 + s4) + s12) + (v14.toNatClampNeg)) ≤ bs) → eb_G l Γ P X cX0_mirrors RX0 7 (some .int) (rmX0_mirrors bc bs) 90 [(4, .ref p15)] [] g17 (((0 + c3) + c11) + 1) (((0 + s4) + s12) + (v14.toNatClampNeg))) h ?_ ?_
    · clear h
      intro g17 h hu
      refine eg_aload 0 dX0_mirrors_90 rfl ?_
      have hM0 := h
      clear h
      refine ec_SIp (rest := []) (ctX0_many hM0) (lw_S q469 q470 q74 q471) nX0_many ⟨Nat.le_of_ble_eq_true rfl, Nat.le_of_ble_eq_true rfl⟩ ⟨rfl, rfl⟩ hu rfl rfl (Nat.le_of_ble_eq_true rfl) dX0_mirrors_92 (fun v18 h => ?_)
      clear hM0
      exact eg_iret dX0_mirrors_95 hu.1 hu.2 (hP _ _ ⟨_, rfl, h⟩)
    · clear h
      intro k22 hk22 h
      refine eg_sub [2, 1, 0] rfl ?_
      refine eb_loop2_e (J := fun (x5_23 : Int32) (g24 : eb_S) => ((((0 + c3) + c11) + 1) ≤ bc ∧ (((0 + s4) + s12) + (v14.toNatClampNeg)) ≤ bs) → eb_G l Γ P X cX0_mirrors RX0 7 (some .int) (rmX0_mirrors bc bs) 35 [(3, .ref p13), (4, .ref p15), (5, .int x5_23)] [] g24 (((0 + c3) + c11) + 1) (((0 + s4) + s12) + (v14.toNatClampNeg))) h ?_ hu
      clear h
      clear hu
      intro r25 hr25 x5_23 g24 h hu
      refine eg_iload 2 dX0_mirrors_35 rfl ?_
      refine eg_aload_n 0 dX0_mirrors_37 rfl rfl ?_
      obtain ⟨fs, v26, he, hv, h⟩ := h
      refine eg_getN 1 in_X8 he rfl (Nat.le_of_ble_eq_true rfl) (List.mem_of_getElem? (i := 7) rfl) rfl hv dX0_mirrors_38 ?_
      refine eg_icmp_ge dX0_mirrors_41 (fun c47 => ?_) (fun c47 => ?_)
      · replace h := h.1 c47
        exact eg_sub [1] rfl (hk22 g24 h hu)
      · replace h := h.2 c47
        refine eg_iconst dX0_mirrors_44 kc_0 ?_
        refine eg_istore (lv' := [(6, .int 0), (3, .ref p13), (4, .ref p15), (5, .int x5_23)]) dX0_mirrors_45 (Nat.le_of_ble_eq_true rfl) rfl ?_
        refine eb_jp1_e (J := fun (g27 : eb_S) => ((((0 + c3) + c11) + 1) ≤ bc ∧ (((0 + s4) + s12) + (v14.toNatClampNeg)) ≤ bs) → eb_G l Γ P X cX0_mirrors RX0 7 (some .int) (rmX0_mirrors bc bs) 84 [(3, .ref p13), (4, .ref p15), (5, .int x5_23)] [] g27 (((0 + c3) + c11) + 1) (((0 + s4) + s12) + (v14.toNatClampNeg))) h ?_ ?_
        · clear h
          intro g27 h hu
          refine eg_iinc (j := 2) (lv' := [(5, .int (x5_23 + 1)), (3, .ref p13), (4, .ref p15)]) dX0_mirrors_84 rfl (by rw [kc_1]) (Nat.le_of_ble_eq_true rfl) rfl ?_
          refine eg_goto dX0_mirrors_87 ?_
          exact eg_sub [1, 2, 0] rfl (hr25 (x5_23 + 1) g27 h hu)
        · clear h
          intro k28 hk28 h
          refine eg_sub [1, 2, 3, 0] rfl ?_
          refine eb_loop2_e (J := fun (x6_29 : Int32) (g30 : eb_S) => ((((0 + c3) + c11) + 1) ≤ bc ∧ (((0 + s4) + s12) + (v14.toNatClampNeg)) ≤ bs) → eb_G l Γ P X cX0_mirrors RX0 7 (some .int) (rmX0_mirrors bc bs) 47 [(3, .ref p13), (4, .ref p15), (5, .int x5_23), (6, .int x6_29)] [] g30 (((0 + c3) + c11) + 1) (((0 + s4) + s12) + (v14.toNatClampNeg))) h ?_ hu
          clear h
          clear hu
          intro r31 hr31 x6_29 g30 h hu
          refine eg_iload 3 dX0_mirrors_47 rfl ?_
          refine eg_aload_n 0 dX0_mirrors_49 rfl rfl ?_
          obtain ⟨fs, v32, he, hv, h⟩ := h
          refine eg_getN 0 in_X8 he rfl (Nat.le_of_ble_eq_true rfl) (List.mem_of_getElem? (i := 6) rfl) rfl hv dX0_mirrors_50 ?_
          refine eg_icmp_ge dX0_mirrors_53 (fun c46 => ?_) (fun c46 => ?_)
          · replace h := h.1 c46
            exact eg_sub [0, 1, 2] rfl (hk28 g30 h hu)
          · replace h := h.2 c46
            refine eg_aload 1 dX0_mirrors_56 rfl ?_
            refine eg_aload_n 0 dX0_mirrors_58 rfl rfl ?_
            refine eg_aload_n 0 dX0_mirrors_59 rfl rfl ?_
            refine eg_iload 2 dX0_mirrors_60 rfl ?_
            refine eg_iload 3 dX0_mirrors_62 rfl ?_
            obtain ⟨hcs, h⟩ := h
            have hM0 := h
            clear h
            refine ec_VIp (rest := [.ref p13, .ref p15]) (ctX8_by hM0) (lw_V q435 q436 q437 q84 q438) rfl rfl hcs nX8_by ⟨Nat.le_of_ble_eq_true rfl, Nat.le_of_ble_eq_true rfl⟩ ⟨rfl, rfl⟩ hu rfl rfl (Nat.le_of_ble_eq_true rfl) dX0_mirrors_64 (fun v33 h => ?_)
            clear hM0
            refine eg_aload_n 0 dX0_mirrors_67 rfl rfl ?_
            refine eg_iload 2 dX0_mirrors_68 rfl ?_
            obtain ⟨hcs, h⟩ := h
            have hM0 := h
            clear h
            refine ec_VIp (rest := [.int v33, .ref p13, .ref p15]) (ctX8_inverse hM0) (lw_V q453 q454 q455 q84 q456) rfl rfl hcs nX8_inverse ⟨Nat.le_of_ble_eq_true rfl, Nat.le_of_ble_eq_true rfl⟩ ⟨rfl, rfl⟩ hu rfl rfl (Nat.le_of_ble_eq_true rfl) dX0_mirrors_70 (fun v37 h => ?_)
            clear hM0
            obtain ⟨hcs, h⟩ := h
            have hM0 := h
            clear h
            refine ec_VIp (rest := [.ref p15]) (ctX8_product 20 hM0) (lw_V q443 q444 q445 q84 q446) rfl rfl hcs nX8_product ⟨by show _ ≤ _; simp [rmX8_product]; try omega, by show _ ≤ _; simp [rmX8_product]; try omega⟩ ⟨rfl, rfl⟩ hu rfl rfl (Nat.le_of_ble_eq_true rfl) dX0_mirrors_73 (fun v41 h => ?_)
            clear hM0
            refine eg_iconst dX0_mirrors_76 kc_1 ?_
            obtain ⟨nA, fA, he, hb, h⟩ := h
            refine eh_zast he hb dX0_mirrors_77 (fun g45 eg45 => ?_)
            replace h := h g45 eg45
            refine eg_iinc (j := 3) (lv' := [(6, .int (x6_29 + 1)), (3, .ref p13), (4, .ref p15), (5, .int x5_23)]) dX0_mirrors_78 rfl (by rw [kc_1]) (Nat.le_of_ble_eq_true rfl) rfl ?_
            refine eg_goto dX0_mirrors_81 ?_
            exact eg_sub [1, 2, 3, 0] rfl (hr31 (x6_29 + 1) g45 h hu)
  · replace h := h.2 c48
    refine eg_iload_n 0 dX0_mirrors_12 rfl rfl ?_
    exact eg_iret dX0_mirrors_13 hu.1 hu.2 (hP _ _ ⟨_, rfl, h⟩)
def MX0_isWidth (Γ : eb_C) (st : eb_S) (a0 : Nat) (a1 : Int32) (a2 : Int32) (K : Int32 → Prop) : Prop :=
  MX0_isBody a1 (fun v1 => eb_br (v1 = 0) (K 0) (eb_gr st a0 0 0 (fun v5 => eb_nn v5 (fun p6 => eb_lr Γ st p6 7 a1 (fun v7 => eb_nn v7 (fun p8 => eb_gi st p8 1 0 (fun v9 => MX0_in a2 0 v9 (fun v10 => eb_br (v10 = 0) (K 0) (K 1)))))))))
abbrev rmX0_isWidth : Room := { frames := 3, cells := 0, slots := 0, locals := 54 }
theorem nX0_isWidth : eb_ar yX0_isWidth 2 := by decide +kernel
theorem dX0_isWidth_0 : eb_dc cX0_isWidth 0 (.iload_n 1) 1 1 := by decide +kernel
theorem dX0_isWidth_1 : eb_dc cX0_isWidth 1 (.invokestatic 30) 3 4 := by decide +kernel
theorem dX0_isWidth_4 : eb_dj cX0_isWidth 4 (.ifCond .eq 24) 24 7 28 := by decide +kernel
theorem dX0_isWidth_7 : eb_dc cX0_isWidth 7 (.iload_n 2) 1 8 := by decide +kernel
theorem dX0_isWidth_8 : eb_dc cX0_isWidth 8 (.iconst 0) 1 9 := by decide +kernel
theorem dX0_isWidth_9 : eb_dc cX0_isWidth 9 (.aload_n 0) 1 10 := by decide +kernel
theorem dX0_isWidth_10 : eb_dc cX0_isWidth 10 (.getfield 15) 3 13 := by decide +kernel
theorem dX0_isWidth_13 : eb_dc cX0_isWidth 13 (.iload_n 1) 1 14 := by decide +kernel
theorem dX0_isWidth_14 : eb_dc cX0_isWidth 14 (.aaload) 1 15 := by decide +kernel
theorem dX0_isWidth_15 : eb_dc cX0_isWidth 15 (.getfield 34) 3 18 := by decide +kernel
theorem dX0_isWidth_18 : eb_dc cX0_isWidth 18 (.invokestatic 26) 3 21 := by decide +kernel
theorem dX0_isWidth_21 : eb_dj cX0_isWidth 21 (.ifCond .eq 7) 7 24 28 := by decide +kernel
theorem dX0_isWidth_24 : eb_dc cX0_isWidth 24 (.iconst 1) 1 25 := by decide +kernel
theorem dX0_isWidth_25 : eb_dj cX0_isWidth 25 (.goto 4) 4 28 29 := by decide +kernel
theorem dX0_isWidth_28 : eb_dc cX0_isWidth 28 (.iconst 0) 1 29 := by decide +kernel
theorem dX0_isWidth_29 : eb_dc cX0_isWidth 29 (.ireturn) 1 30 := by decide +kernel
theorem ctX0_isWidth {l : Launch} {Γ : eb_C} {st : eb_S} {a0 : Nat} {a1 : Int32} {a2 : Int32} {K : Int32 → Prop} (h : MX0_isWidth Γ st a0 a1 a2 K) : eb_Ct l Γ yX0_isWidth cX0_isWidth 3 (some .boolean) rmX0_isWidth [.ref a0, .int a1, .int a2] st (eb_pI st K) := by
  refine eb_of (by decide) (Nat.le_of_ble_eq_true rfl) (fun X P hP hX0 => ?_)
  show eb_G l Γ P X cX0_isWidth RX0 3 (some .boolean) rmX0_isWidth 0 [(0, .ref a0), (1, .int a1), (2, .int a2)] [] st 0 0
  refine eg_iload_n 1 dX0_isWidth_0 rfl rfl ?_
  have hM0 := h
  clear h
  refine ec_SIp (rest := []) (ctX0_isBody hM0) (lw_S q182 q183 q74 q184) nX0_isBody ⟨Nat.le_of_ble_eq_true rfl, Nat.le_of_ble_eq_true rfl⟩ ⟨rfl, rfl⟩ ⟨Nat.zero_le _, Nat.zero_le _⟩ rfl rfl (Nat.le_of_ble_eq_true rfl) dX0_isWidth_1 (fun v1 h => ?_)
  clear hM0
  refine eg_if_eq dX0_isWidth_4 (fun c15 => ?_) (fun c15 => ?_)
  · replace h := h.1 c15
    refine eg_iconst dX0_isWidth_28 kc_0 ?_
    exact eg_zret dX0_isWidth_29 rfl (Nat.zero_le _) (Nat.zero_le _) (hP _ _ ⟨_, rfl, rfl, h⟩)
  · replace h := h.2 c15
    refine eg_iload_n 2 dX0_isWidth_7 rfl rfl ?_
    refine eg_iconst dX0_isWidth_8 kc_0 ?_
    refine eg_aload_n 0 dX0_isWidth_9 rfl rfl ?_
    obtain ⟨fs, v5, he, hv, h⟩ := h
    refine eg_get 0 in_X0 he rfl (Nat.le_of_ble_eq_true rfl) q159 rfl hv dX0_isWidth_10 ?_
    refine eg_iload_n 1 dX0_isWidth_13 rfl rfl ?_
    obtain ⟨p6, rfl, h⟩ := h
    obtain ⟨nA, fA, he, hb, h⟩ := h
    refine eg_aald (t := 7) (ty := .object "EvenBodies$Body") rfl rfl he hb dX0_isWidth_14 (fun v7 ev7 => ?_)
    replace h := h v7 ev7
    obtain ⟨p8, rfl, h⟩ := h
    obtain ⟨fs, v9, he, hv, h⟩ := h
    refine eg_getN 0 in_X1 he rfl (Nat.le_of_ble_eq_true rfl) (List.mem_of_getElem? (i := 1) rfl) rfl hv dX0_isWidth_15 ?_
    have hM0 := h
    clear h
    refine ec_SIp (rest := []) (ctX0_in hM0) (lw_S q185 q186 q74 q187) nX0_in ⟨Nat.le_of_ble_eq_true rfl, Nat.le_of_ble_eq_true rfl⟩ ⟨rfl, rfl⟩ ⟨Nat.zero_le _, Nat.zero_le _⟩ rfl rfl (Nat.le_of_ble_eq_true rfl) dX0_isWidth_18 (fun v10 h => ?_)
    clear hM0
    refine eg_if_eq dX0_isWidth_21 (fun c14 => ?_) (fun c14 => ?_)
    · replace h := h.1 c14
      refine eg_iconst dX0_isWidth_28 kc_0 ?_
      exact eg_zret dX0_isWidth_29 rfl (Nat.zero_le _) (Nat.zero_le _) (hP _ _ ⟨_, rfl, rfl, h⟩)
    · replace h := h.2 c14
      refine eg_iconst dX0_isWidth_24 kc_1 ?_
      refine eg_goto dX0_isWidth_25 ?_
      exact eg_zret dX0_isWidth_29 rfl (Nat.zero_le _) (Nat.zero_le _) (hP _ _ ⟨_, rfl, rfl, h⟩)
def MX1_isKind (Γ : eb_C) (st : eb_S) (a0 : Nat) (a1 : Int32) (K : Int32 → Prop) : Prop :=
  eb_gi st a0 1 2 (fun v1 => eb_cs st a0 [1] ∧ MX1_reached Γ st a0 v1 a1 (fun v2 => eb_br (v2 = a1) (K 1) (K 0)))
abbrev rmX1_isKind : Room := { frames := 4, cells := 0, slots := 0, locals := 82 }
theorem nX1_isKind : eb_ar yX1_isKind 1 := by decide +kernel
theorem dX1_isKind_0 : eb_dc cX1_isKind 0 (.aload_n 0) 1 1 := by decide +kernel
theorem dX1_isKind_1 : eb_dc cX1_isKind 1 (.aload_n 0) 1 2 := by decide +kernel
theorem dX1_isKind_2 : eb_dc cX1_isKind 2 (.getfield 15) 3 5 := by decide +kernel
theorem dX1_isKind_5 : eb_dc cX1_isKind 5 (.iload_n 1) 1 6 := by decide +kernel
theorem dX1_isKind_6 : eb_dc cX1_isKind 6 (.invokevirtual 81) 3 9 := by decide +kernel
theorem dX1_isKind_9 : eb_dc cX1_isKind 9 (.iload_n 1) 1 10 := by decide +kernel
theorem dX1_isKind_10 : eb_dj cX1_isKind 10 (.if_icmp .ne 7) 7 13 17 := by decide +kernel
theorem dX1_isKind_13 : eb_dc cX1_isKind 13 (.iconst 1) 1 14 := by decide +kernel
theorem dX1_isKind_14 : eb_dj cX1_isKind 14 (.goto 4) 4 17 18 := by decide +kernel
theorem dX1_isKind_17 : eb_dc cX1_isKind 17 (.iconst 0) 1 18 := by decide +kernel
theorem dX1_isKind_18 : eb_dc cX1_isKind 18 (.ireturn) 1 19 := by decide +kernel
theorem ctX1_isKind {l : Launch} {Γ : eb_C} {st : eb_S} {a0 : Nat} {a1 : Int32} {K : Int32 → Prop} (h : MX1_isKind Γ st a0 a1 K) : eb_Ct l Γ yX1_isKind cX1_isKind 2 (some .boolean) rmX1_isKind [.ref a0, .int a1] st (eb_pI st K) := by
  refine eb_of (by decide) (Nat.le_of_ble_eq_true rfl) (fun X P hP hX0 => ?_)
  show eb_G l Γ P X cX1_isKind RX1 2 (some .boolean) rmX1_isKind 0 [(0, .ref a0), (1, .int a1)] [] st 0 0
  refine eg_aload_n 0 dX1_isKind_0 rfl rfl ?_
  refine eg_aload_n 0 dX1_isKind_1 rfl rfl ?_
  obtain ⟨fs, v1, he, hv, h⟩ := h
  refine eg_get 2 in_X1 he rfl (Nat.le_of_ble_eq_true rfl) q125 rfl hv dX1_isKind_2 ?_
  refine eg_iload_n 1 dX1_isKind_5 rfl rfl ?_
  obtain ⟨hcs, h⟩ := h
  have hM0 := h
  clear h
  refine ec_VIp (rest := []) (ctX1_reached hM0) (lw_V q249 q250 q251 q75 q252) rfl rfl hcs nX1_reached ⟨Nat.le_of_ble_eq_true rfl, Nat.le_of_ble_eq_true rfl⟩ ⟨rfl, rfl⟩ ⟨Nat.zero_le _, Nat.zero_le _⟩ rfl rfl (Nat.le_of_ble_eq_true rfl) dX1_isKind_6 (fun v2 h => ?_)
  clear hM0
  refine eg_iload_n 1 dX1_isKind_9 rfl rfl ?_
  refine eg_icmp_ne dX1_isKind_10 (fun c6 => ?_) (fun c6 => ?_)
  · replace h := h.2 c6
    refine eg_iconst dX1_isKind_17 kc_0 ?_
    exact eg_zret dX1_isKind_18 rfl (Nat.zero_le _) (Nat.zero_le _) (hP _ _ ⟨_, rfl, rfl, h⟩)
  · replace h := h.1 c6
    refine eg_iconst dX1_isKind_13 kc_1 ?_
    refine eg_goto dX1_isKind_14 ?_
    exact eg_zret dX1_isKind_18 rfl (Nat.zero_le _) (Nat.zero_le _) (hP _ _ ⟨_, rfl, rfl, h⟩)
def MX0_kindOf (Γ : eb_C) (st : eb_S) (a0 : Nat) (a1 : Nat) (a2 : Int32) (a3 : Int32) (K : Int32 → Prop) : Prop :=
  eb_loop2 (fun r3 (x4_1 : Int32) (x5_2 : Int32) => eb_cs st a1 [1] ∧ MX1_all Γ st a1 (fun v4 => eb_br (v4 < x5_2) (K (-1)) (MJ1_bitCount x5_2 (fun v8 => eb_jp1 (fun (x4_12 : Int32) => r3 x4_12 (x5_2 + 1)) (fun k13 => eb_br (v8 = a2) (eb_cs st a1 [1] ∧ MX1_isKind Γ st a1 x5_2 (fun v14 => eb_br (v14 = 0) (k13 x4_1) (eb_br (x4_1 = a3) (K x5_2) (k13 (x4_1 + 1))))) (k13 x4_1)))))) 0 0
abbrev rmX0_kindOf : Room := { frames := 5, cells := 0, slots := 0, locals := 103 }
theorem nX0_kindOf : eb_ar yX0_kindOf 3 := by decide +kernel
theorem dX0_kindOf_0 : eb_dc cX0_kindOf 0 (.iconst 0) 1 1 := by decide +kernel
theorem dX0_kindOf_1 : eb_dc cX0_kindOf 1 (.istore 4) 2 3 := by decide +kernel
theorem dX0_kindOf_3 : eb_dc cX0_kindOf 3 (.iconst 0) 1 4 := by decide +kernel
theorem dX0_kindOf_4 : eb_dc cX0_kindOf 4 (.istore 5) 2 6 := by decide +kernel
theorem dX0_kindOf_6 : eb_dc cX0_kindOf 6 (.iload 5) 2 8 := by decide +kernel
theorem dX0_kindOf_8 : eb_dc cX0_kindOf 8 (.aload_n 1) 1 9 := by decide +kernel
theorem dX0_kindOf_9 : eb_dc cX0_kindOf 9 (.invokevirtual 46) 3 12 := by decide +kernel
theorem dX0_kindOf_12 : eb_dj cX0_kindOf 12 (.if_icmp .gt 39) 39 15 51 := by decide +kernel
theorem dX0_kindOf_15 : eb_dc cX0_kindOf 15 (.iload 5) 2 17 := by decide +kernel
theorem dX0_kindOf_17 : eb_dc cX0_kindOf 17 (.invokestatic 105) 3 20 := by decide +kernel
theorem dX0_kindOf_20 : eb_dc cX0_kindOf 20 (.iload_n 2) 1 21 := by decide +kernel
theorem dX0_kindOf_21 : eb_dj cX0_kindOf 21 (.if_icmp .ne 24) 24 24 45 := by decide +kernel
theorem dX0_kindOf_24 : eb_dc cX0_kindOf 24 (.aload_n 1) 1 25 := by decide +kernel
theorem dX0_kindOf_25 : eb_dc cX0_kindOf 25 (.iload 5) 2 27 := by decide +kernel
theorem dX0_kindOf_27 : eb_dc cX0_kindOf 27 (.invokevirtual 110) 3 30 := by decide +kernel
theorem dX0_kindOf_30 : eb_dj cX0_kindOf 30 (.ifCond .eq 15) 15 33 45 := by decide +kernel
theorem dX0_kindOf_33 : eb_dc cX0_kindOf 33 (.iload 4) 2 35 := by decide +kernel
theorem dX0_kindOf_35 : eb_dc cX0_kindOf 35 (.iload_n 3) 1 36 := by decide +kernel
theorem dX0_kindOf_36 : eb_dj cX0_kindOf 36 (.if_icmp .ne 6) 6 39 42 := by decide +kernel
theorem dX0_kindOf_39 : eb_dc cX0_kindOf 39 (.iload 5) 2 41 := by decide +kernel
theorem dX0_kindOf_41 : eb_dc cX0_kindOf 41 (.ireturn) 1 42 := by decide +kernel
theorem dX0_kindOf_42 : eb_dc cX0_kindOf 42 (.iinc 4 1) 3 45 := by decide +kernel
theorem dX0_kindOf_45 : eb_dc cX0_kindOf 45 (.iinc 5 1) 3 48 := by decide +kernel
theorem dX0_kindOf_48 : eb_dj cX0_kindOf 48 (.goto (-42)) (-42) 51 6 := by decide +kernel
theorem dX0_kindOf_51 : eb_dc cX0_kindOf 51 (.iconst (-1)) 1 52 := by decide +kernel
theorem dX0_kindOf_52 : eb_dc cX0_kindOf 52 (.ireturn) 1 53 := by decide +kernel
theorem ctX0_kindOf {l : Launch} {Γ : eb_C} {st : eb_S} {a0 : Nat} {a1 : Nat} {a2 : Int32} {a3 : Int32} {K : Int32 → Prop} (h : MX0_kindOf Γ st a0 a1 a2 a3 K) : eb_Ct l Γ yX0_kindOf cX0_kindOf 6 (some .int) rmX0_kindOf [.ref a0, .ref a1, .int a2, .int a3] st (eb_pI st K) := by
  refine eb_of (by decide) (Nat.le_of_ble_eq_true rfl) (fun X P hP hX0 => ?_)
  show eb_G l Γ P X cX0_kindOf RX0 6 (some .int) rmX0_kindOf 0 [(0, .ref a0), (1, .ref a1), (2, .int a2), (3, .int a3)] [] st 0 0
  refine eg_iconst dX0_kindOf_0 kc_0 ?_
  refine eg_istore (lv' := [(4, .int 0), (0, .ref a0), (1, .ref a1), (2, .int a2), (3, .int a3)]) dX0_kindOf_1 (Nat.le_of_ble_eq_true rfl) rfl ?_
  refine eg_iconst dX0_kindOf_3 kc_0 ?_
  refine eg_istore (lv' := [(5, .int 0), (4, .int 0), (0, .ref a0), (1, .ref a1), (2, .int a2), (3, .int a3)]) dX0_kindOf_4 (Nat.le_of_ble_eq_true rfl) rfl ?_
  refine eg_sub [3, 4, 5, 1, 0] rfl ?_
  refine eb_loop2_e (J := fun (x4_1 : Int32) (x5_2 : Int32) => eb_G l Γ P X cX0_kindOf RX0 6 (some .int) rmX0_kindOf 6 [(1, .ref a1), (2, .int a2), (3, .int a3), (4, .int x4_1), (5, .int x5_2)] [] st 0 0) h ?_
  clear h
  intro r3 hr3 x4_1 x5_2 h
  refine eg_iload 4 dX0_kindOf_6 rfl ?_
  refine eg_aload_n 0 dX0_kindOf_8 rfl rfl ?_
  obtain ⟨hcs, h⟩ := h
  have hM0 := h
  clear h
  refine ec_VIp (rest := [.int x5_2]) (ctX1_all hM0) (lw_V q215 q216 q217 q75 q218) rfl rfl hcs nX1_all ⟨Nat.le_of_ble_eq_true rfl, Nat.le_of_ble_eq_true rfl⟩ ⟨rfl, rfl⟩ ⟨Nat.zero_le _, Nat.zero_le _⟩ rfl rfl (Nat.le_of_ble_eq_true rfl) dX0_kindOf_9 (fun v4 h => ?_)
  clear hM0
  refine eg_icmp_gt dX0_kindOf_12 (fun c21 => ?_) (fun c21 => ?_)
  · replace h := h.1 c21
    refine eg_iconst dX0_kindOf_51 kc_m1 ?_
    exact eg_iret dX0_kindOf_52 (Nat.zero_le _) (Nat.zero_le _) (hP _ _ ⟨_, rfl, rfl, h⟩)
  · replace h := h.2 c21
    refine eg_iload 4 dX0_kindOf_15 rfl ?_
    have hM0 := h
    clear h
    refine ec_SIp (rest := []) (ctJ1_bitCount hM0) (lw_S q493 q258 q78 q259) nJ1_bitCount ⟨Nat.le_of_ble_eq_true rfl, Nat.le_of_ble_eq_true rfl⟩ ⟨rfl, rfl⟩ ⟨Nat.zero_le _, Nat.zero_le _⟩ rfl rfl (Nat.le_of_ble_eq_true rfl) dX0_kindOf_17 (fun v8 h => ?_)
    clear hM0
    refine eg_iload_n 1 dX0_kindOf_20 rfl rfl ?_
    refine eb_jp1_e (J := fun (x4_12 : Int32) => eb_G l Γ P X cX0_kindOf RX0 6 (some .int) rmX0_kindOf 45 [(1, .ref a1), (2, .int a2), (3, .int a3), (4, .int x4_12), (5, .int x5_2)] [] st 0 0) h ?_ ?_
    · clear h
      intro x4_12 h
      refine eg_iinc (j := 4) (lv' := [(5, .int (x5_2 + 1)), (1, .ref a1), (2, .int a2), (3, .int a3), (4, .int x4_12)]) dX0_kindOf_45 rfl (by rw [kc_1]) (Nat.le_of_ble_eq_true rfl) rfl ?_
      refine eg_goto dX0_kindOf_48 ?_
      exact eg_sub [1, 2, 3, 4, 0] rfl (hr3 x4_12 (x5_2 + 1) h)
    · clear h
      intro k13 hk13 h
      refine eg_icmp_ne dX0_kindOf_21 (fun c20 => ?_) (fun c20 => ?_)
      · replace h := h.2 c20
        exact hk13 x4_1 h
      · replace h := h.1 c20
        refine eg_aload_n 0 dX0_kindOf_24 rfl rfl ?_
        refine eg_iload 4 dX0_kindOf_25 rfl ?_
        obtain ⟨hcs, h⟩ := h
        have hM0 := h
        clear h
        refine ec_VIp (rest := []) (ctX1_isKind hM0) (lw_V q494 q495 q496 q75 q497) rfl rfl hcs nX1_isKind ⟨Nat.le_of_ble_eq_true rfl, Nat.le_of_ble_eq_true rfl⟩ ⟨rfl, rfl⟩ ⟨Nat.zero_le _, Nat.zero_le _⟩ rfl rfl (Nat.le_of_ble_eq_true rfl) dX0_kindOf_27 (fun v14 h => ?_)
        clear hM0
        refine eg_if_eq dX0_kindOf_30 (fun c19 => ?_) (fun c19 => ?_)
        · replace h := h.1 c19
          exact hk13 x4_1 h
        · replace h := h.2 c19
          refine eg_iload 3 dX0_kindOf_33 rfl ?_
          refine eg_iload_n 2 dX0_kindOf_35 rfl rfl ?_
          refine eg_icmp_ne dX0_kindOf_36 (fun c18 => ?_) (fun c18 => ?_)
          · replace h := h.2 c18
            refine eg_iinc (j := 3) (lv' := [(4, .int (x4_1 + 1)), (1, .ref a1), (2, .int a2), (3, .int a3), (5, .int x5_2)]) dX0_kindOf_42 rfl (by rw [kc_1]) (Nat.le_of_ble_eq_true rfl) rfl ?_
            exact eg_sub [1, 2, 3, 0, 4] rfl (hk13 (x4_1 + 1) h)
          · replace h := h.1 c18
            refine eg_iload 4 dX0_kindOf_39 rfl ?_
            exact eg_iret dX0_kindOf_41 (Nat.zero_le _) (Nat.zero_le _) (hP _ _ ⟨_, rfl, rfl, h⟩)
def MX0_kinds (Γ : eb_C) (st : eb_S) (a0 : Nat) (a1 : Int32) (a2 : Int32) (K : Int32 → Prop) : Prop :=
  eb_cs st a0 [0] ∧ MX0_isWidth Γ st a0 a1 a2 (fun v1 => eb_br (v1 = 0) (K (-2)) (eb_loop1 (fun r6 (x3_5 : Int32) => eb_gr st a0 0 0 (fun v7 => eb_nn v7 (fun p8 => eb_lr Γ st p8 7 a1 (fun v9 => eb_nn v9 (fun p10 => eb_cs st a0 [0] ∧ MX0_kindOf Γ st a0 p10 a2 x3_5 (fun v11 => eb_br (v11 = (-1)) (K x3_5) (r6 (x3_5 + 1)))))))) 0))
abbrev rmX0_kinds : Room := { frames := 6, cells := 0, slots := 0, locals := 128 }
theorem nX0_kinds : eb_ar yX0_kinds 2 := by decide +kernel
theorem dX0_kinds_0 : eb_dc cX0_kinds 0 (.aload_n 0) 1 1 := by decide +kernel
theorem dX0_kinds_1 : eb_dc cX0_kinds 1 (.iload_n 1) 1 2 := by decide +kernel
theorem dX0_kinds_2 : eb_dc cX0_kinds 2 (.iload_n 2) 1 3 := by decide +kernel
theorem dX0_kinds_3 : eb_dc cX0_kinds 3 (.invokevirtual 113) 3 6 := by decide +kernel
theorem dX0_kinds_6 : eb_dj cX0_kinds 6 (.ifCond .ne 6) 6 9 12 := by decide +kernel
theorem dX0_kinds_9 : eb_dc cX0_kinds 9 (.bipush (-2)) 2 11 := by decide +kernel
theorem dX0_kinds_11 : eb_dc cX0_kinds 11 (.ireturn) 1 12 := by decide +kernel
theorem dX0_kinds_12 : eb_dc cX0_kinds 12 (.iconst 0) 1 13 := by decide +kernel
theorem dX0_kinds_13 : eb_dc cX0_kinds 13 (.istore_n 3) 1 14 := by decide +kernel
theorem dX0_kinds_14 : eb_dc cX0_kinds 14 (.aload_n 0) 1 15 := by decide +kernel
theorem dX0_kinds_15 : eb_dc cX0_kinds 15 (.aload_n 0) 1 16 := by decide +kernel
theorem dX0_kinds_16 : eb_dc cX0_kinds 16 (.getfield 15) 3 19 := by decide +kernel
theorem dX0_kinds_19 : eb_dc cX0_kinds 19 (.iload_n 1) 1 20 := by decide +kernel
theorem dX0_kinds_20 : eb_dc cX0_kinds 20 (.aaload) 1 21 := by decide +kernel
theorem dX0_kinds_21 : eb_dc cX0_kinds 21 (.iload_n 2) 1 22 := by decide +kernel
theorem dX0_kinds_22 : eb_dc cX0_kinds 22 (.iload_n 3) 1 23 := by decide +kernel
theorem dX0_kinds_23 : eb_dc cX0_kinds 23 (.invokevirtual 116) 3 26 := by decide +kernel
theorem dX0_kinds_26 : eb_dc cX0_kinds 26 (.iconst (-1)) 1 27 := by decide +kernel
theorem dX0_kinds_27 : eb_dj cX0_kinds 27 (.if_icmp .eq 9) 9 30 36 := by decide +kernel
theorem dX0_kinds_30 : eb_dc cX0_kinds 30 (.iinc 3 1) 3 33 := by decide +kernel
theorem dX0_kinds_33 : eb_dj cX0_kinds 33 (.goto (-19)) (-19) 36 14 := by decide +kernel
theorem dX0_kinds_36 : eb_dc cX0_kinds 36 (.iload_n 3) 1 37 := by decide +kernel
theorem dX0_kinds_37 : eb_dc cX0_kinds 37 (.ireturn) 1 38 := by decide +kernel
theorem ctX0_kinds {l : Launch} {Γ : eb_C} {st : eb_S} {a0 : Nat} {a1 : Int32} {a2 : Int32} {K : Int32 → Prop} (h : MX0_kinds Γ st a0 a1 a2 K) : eb_Ct l Γ yX0_kinds cX0_kinds 4 (some .int) rmX0_kinds [.ref a0, .int a1, .int a2] st (eb_pI st K) := by
  refine eb_of (by decide) (Nat.le_of_ble_eq_true rfl) (fun X P hP hX0 => ?_)
  show eb_G l Γ P X cX0_kinds RX0 4 (some .int) rmX0_kinds 0 [(0, .ref a0), (1, .int a1), (2, .int a2)] [] st 0 0
  refine eg_aload_n 0 dX0_kinds_0 rfl rfl ?_
  refine eg_iload_n 1 dX0_kinds_1 rfl rfl ?_
  refine eg_iload_n 2 dX0_kinds_2 rfl rfl ?_
  obtain ⟨hcs, h⟩ := h
  have hM0 := h
  clear h
  refine ec_VIp (rest := []) (ctX0_isWidth hM0) (lw_V q485 q487 qs6 q74 q488) rfl rfl hcs nX0_isWidth ⟨Nat.le_of_ble_eq_true rfl, Nat.le_of_ble_eq_true rfl⟩ ⟨rfl, rfl⟩ ⟨Nat.zero_le _, Nat.zero_le _⟩ rfl rfl (Nat.le_of_ble_eq_true rfl) dX0_kinds_3 (fun v1 h => ?_)
  clear hM0
  refine eg_if_ne dX0_kinds_6 (fun c16 => ?_) (fun c16 => ?_)
  · replace h := h.2 c16
    refine eg_iconst dX0_kinds_12 kc_0 ?_
    refine eg_istore_n (lv' := [(3, .int 0), (0, .ref a0), (1, .int a1), (2, .int a2)]) dX0_kinds_13 rfl (Nat.le_of_ble_eq_true rfl) rfl ?_
    refine eg_sub [1, 2, 3, 0] rfl ?_
    refine eb_loop1_e (J := fun (x3_5 : Int32) => eb_G l Γ P X cX0_kinds RX0 4 (some .int) rmX0_kinds 14 [(0, .ref a0), (1, .int a1), (2, .int a2), (3, .int x3_5)] [] st 0 0) h ?_
    clear h
    intro r6 hr6 x3_5 h
    refine eg_aload_n 0 dX0_kinds_14 rfl rfl ?_
    refine eg_aload_n 0 dX0_kinds_15 rfl rfl ?_
    obtain ⟨fs, v7, he, hv, h⟩ := h
    refine eg_get 0 in_X0 he rfl (Nat.le_of_ble_eq_true rfl) q159 rfl hv dX0_kinds_16 ?_
    refine eg_iload_n 1 dX0_kinds_19 rfl rfl ?_
    obtain ⟨p8, rfl, h⟩ := h
    obtain ⟨nA, fA, he, hb, h⟩ := h
    refine eg_aald (t := 7) (ty := .object "EvenBodies$Body") rfl rfl he hb dX0_kinds_20 (fun v9 ev9 => ?_)
    replace h := h v9 ev9
    refine eg_iload_n 2 dX0_kinds_21 rfl rfl ?_
    refine eg_iload_n 3 dX0_kinds_22 rfl rfl ?_
    obtain ⟨p10, rfl, h⟩ := h
    obtain ⟨hcs, h⟩ := h
    have hM0 := h
    clear h
    refine ec_VIp (rest := []) (ctX0_kindOf hM0) (lw_V q489 q491 qs7 q74 q492) rfl rfl hcs nX0_kindOf ⟨Nat.le_of_ble_eq_true rfl, Nat.le_of_ble_eq_true rfl⟩ ⟨rfl, rfl⟩ ⟨Nat.zero_le _, Nat.zero_le _⟩ rfl rfl (Nat.le_of_ble_eq_true rfl) dX0_kinds_23 (fun v11 h => ?_)
    clear hM0
    refine eg_iconst dX0_kinds_26 kc_m1 ?_
    refine eg_icmp_eq dX0_kinds_27 (fun c15 => ?_) (fun c15 => ?_)
    · replace h := h.1 c15
      refine eg_iload_n 3 dX0_kinds_36 rfl rfl ?_
      exact eg_iret dX0_kinds_37 (Nat.zero_le _) (Nat.zero_le _) (hP _ _ ⟨_, rfl, rfl, h⟩)
    · replace h := h.2 c15
      refine eg_iinc (j := 3) (lv' := [(3, .int (x3_5 + 1)), (0, .ref a0), (1, .int a1), (2, .int a2)]) dX0_kinds_30 rfl (by rw [kc_1]) (Nat.le_of_ble_eq_true rfl) rfl ?_
      refine eg_goto dX0_kinds_33 ?_
      exact eg_sub [1, 2, 3, 0] rfl (hr6 (x3_5 + 1) h)
  · replace h := h.1 c16
    refine eg_bipush dX0_kinds_9 kb_m2 ?_
    exact eg_iret dX0_kinds_11 (Nat.zero_le _) (Nat.zero_le _) (hP _ _ ⟨_, rfl, rfl, h⟩)
def MX0_kind (Γ : eb_C) (st : eb_S) (a0 : Nat) (a1 : Int32) (a2 : Int32) (a3 : Int32) (K : Int32 → Prop) : Prop :=
  eb_cs st a0 [0] ∧ MX0_isWidth Γ st a0 a1 a2 (fun v1 => eb_jp0 (K (-2)) (fun k5 => eb_br (v1 = 0) (k5) (eb_br (a3 < 0) (k5) (eb_gr st a0 0 0 (fun v6 => eb_nn v6 (fun p7 => eb_lr Γ st p7 7 a1 (fun v8 => eb_nn v8 (fun p9 => eb_cs st a0 [0] ∧ MX0_kindOf Γ st a0 p9 a2 a3 (fun v10 => K v10)))))))))
abbrev rmX0_kind : Room := { frames := 6, cells := 0, slots := 0, locals := 128 }
theorem nX0_kind : eb_ar yX0_kind 3 := by decide +kernel
theorem dX0_kind_0 : eb_dc cX0_kind 0 (.aload_n 0) 1 1 := by decide +kernel
theorem dX0_kind_1 : eb_dc cX0_kind 1 (.iload_n 1) 1 2 := by decide +kernel
theorem dX0_kind_2 : eb_dc cX0_kind 2 (.iload_n 2) 1 3 := by decide +kernel
theorem dX0_kind_3 : eb_dc cX0_kind 3 (.invokevirtual 113) 3 6 := by decide +kernel
theorem dX0_kind_6 : eb_dj cX0_kind 6 (.ifCond .eq 22) 22 9 28 := by decide +kernel
theorem dX0_kind_9 : eb_dc cX0_kind 9 (.iload_n 3) 1 10 := by decide +kernel
theorem dX0_kind_10 : eb_dj cX0_kind 10 (.ifCond .lt 18) 18 13 28 := by decide +kernel
theorem dX0_kind_13 : eb_dc cX0_kind 13 (.aload_n 0) 1 14 := by decide +kernel
theorem dX0_kind_14 : eb_dc cX0_kind 14 (.aload_n 0) 1 15 := by decide +kernel
theorem dX0_kind_15 : eb_dc cX0_kind 15 (.getfield 15) 3 18 := by decide +kernel
theorem dX0_kind_18 : eb_dc cX0_kind 18 (.iload_n 1) 1 19 := by decide +kernel
theorem dX0_kind_19 : eb_dc cX0_kind 19 (.aaload) 1 20 := by decide +kernel
theorem dX0_kind_20 : eb_dc cX0_kind 20 (.iload_n 2) 1 21 := by decide +kernel
theorem dX0_kind_21 : eb_dc cX0_kind 21 (.iload_n 3) 1 22 := by decide +kernel
theorem dX0_kind_22 : eb_dc cX0_kind 22 (.invokevirtual 116) 3 25 := by decide +kernel
theorem dX0_kind_25 : eb_dj cX0_kind 25 (.goto 5) 5 28 30 := by decide +kernel
theorem dX0_kind_28 : eb_dc cX0_kind 28 (.bipush (-2)) 2 30 := by decide +kernel
theorem dX0_kind_30 : eb_dc cX0_kind 30 (.ireturn) 1 31 := by decide +kernel
theorem ctX0_kind {l : Launch} {Γ : eb_C} {st : eb_S} {a0 : Nat} {a1 : Int32} {a2 : Int32} {a3 : Int32} {K : Int32 → Prop} (h : MX0_kind Γ st a0 a1 a2 a3 K) : eb_Ct l Γ yX0_kind cX0_kind 4 (some .int) rmX0_kind [.ref a0, .int a1, .int a2, .int a3] st (eb_pI st K) := by
  refine eb_of (by decide) (Nat.le_of_ble_eq_true rfl) (fun X P hP hX0 => ?_)
  show eb_G l Γ P X cX0_kind RX0 4 (some .int) rmX0_kind 0 [(0, .ref a0), (1, .int a1), (2, .int a2), (3, .int a3)] [] st 0 0
  refine eg_aload_n 0 dX0_kind_0 rfl rfl ?_
  refine eg_iload_n 1 dX0_kind_1 rfl rfl ?_
  refine eg_iload_n 2 dX0_kind_2 rfl rfl ?_
  obtain ⟨hcs, h⟩ := h
  have hM0 := h
  clear h
  refine ec_VIp (rest := []) (ctX0_isWidth hM0) (lw_V q485 q487 qs6 q74 q488) rfl rfl hcs nX0_isWidth ⟨Nat.le_of_ble_eq_true rfl, Nat.le_of_ble_eq_true rfl⟩ ⟨rfl, rfl⟩ ⟨Nat.zero_le _, Nat.zero_le _⟩ rfl rfl (Nat.le_of_ble_eq_true rfl) dX0_kind_3 (fun v1 h => ?_)
  clear hM0
  refine eb_jp0_e (J := eb_G l Γ P X cX0_kind RX0 4 (some .int) rmX0_kind 28 [] [] st 0 0) h ?_ ?_
  · clear h
    intro  h
    refine eg_bipush dX0_kind_28 kb_m2 ?_
    exact eg_iret dX0_kind_30 (Nat.zero_le _) (Nat.zero_le _) (hP _ _ ⟨_, rfl, rfl, h⟩)
  · clear h
    intro k5 hk5 h
    refine eg_if_eq dX0_kind_6 (fun c15 => ?_) (fun c15 => ?_)
    · replace h := h.1 c15
      exact eg_sub [] rfl (hk5 h)
    · replace h := h.2 c15
      refine eg_iload_n 3 dX0_kind_9 rfl rfl ?_
      refine eg_if_lt dX0_kind_10 (fun c14 => ?_) (fun c14 => ?_)
      · replace h := h.1 c14
        exact eg_sub [] rfl (hk5 h)
      · replace h := h.2 c14
        refine eg_aload_n 0 dX0_kind_13 rfl rfl ?_
        refine eg_aload_n 0 dX0_kind_14 rfl rfl ?_
        obtain ⟨fs, v6, he, hv, h⟩ := h
        refine eg_get 0 in_X0 he rfl (Nat.le_of_ble_eq_true rfl) q159 rfl hv dX0_kind_15 ?_
        refine eg_iload_n 1 dX0_kind_18 rfl rfl ?_
        obtain ⟨p7, rfl, h⟩ := h
        obtain ⟨nA, fA, he, hb, h⟩ := h
        refine eg_aald (t := 7) (ty := .object "EvenBodies$Body") rfl rfl he hb dX0_kind_19 (fun v8 ev8 => ?_)
        replace h := h v8 ev8
        refine eg_iload_n 2 dX0_kind_20 rfl rfl ?_
        refine eg_iload_n 3 dX0_kind_21 rfl rfl ?_
        obtain ⟨p9, rfl, h⟩ := h
        obtain ⟨hcs, h⟩ := h
        have hM0 := h
        clear h
        refine ec_VIp (rest := []) (ctX0_kindOf hM0) (lw_V q489 q491 qs7 q74 q492) rfl rfl hcs nX0_kindOf ⟨Nat.le_of_ble_eq_true rfl, Nat.le_of_ble_eq_true rfl⟩ ⟨rfl, rfl⟩ ⟨Nat.zero_le _, Nat.zero_le _⟩ rfl rfl (Nat.le_of_ble_eq_true rfl) dX0_kind_22 (fun v10 h => ?_)
        clear hM0
        refine eg_goto dX0_kind_25 ?_
        exact eg_iret dX0_kind_30 (Nat.zero_le _) (Nat.zero_le _) (hP _ _ ⟨_, rfl, rfl, h⟩)
def MX0_isKind (Γ : eb_C) (st : eb_S) (a0 : Nat) (a1 : Int32) (a2 : Int32) (K : Int32 → Prop) : Prop :=
  MX0_isBody a1 (fun v1 => eb_br (v1 = 0) (K 0) (eb_gr st a0 0 0 (fun v5 => eb_nn v5 (fun p6 => eb_lr Γ st p6 7 a1 (fun v7 => eb_nn v7 (fun p8 => eb_cs st p8 [1] ∧ MX1_all Γ st p8 (fun v9 => MX0_in a2 0 v9 (fun v13 => eb_br (v13 = 0) (K 0) (eb_gr st a0 0 0 (fun v17 => eb_nn v17 (fun p18 => eb_lr Γ st p18 7 a1 (fun v19 => eb_nn v19 (fun p20 => eb_cs st p20 [1] ∧ MX1_isKind Γ st p20 a2 (fun v21 => eb_br (v21 = 0) (K 0) (K 1)))))))))))))))
abbrev rmX0_isKind : Room := { frames := 5, cells := 0, slots := 0, locals := 103 }
theorem nX0_isKind : eb_ar yX0_isKind 2 := by decide +kernel
theorem dX0_isKind_0 : eb_dc cX0_isKind 0 (.iload_n 1) 1 1 := by decide +kernel
theorem dX0_isKind_1 : eb_dc cX0_isKind 1 (.invokestatic 30) 3 4 := by decide +kernel
theorem dX0_isKind_4 : eb_dj cX0_isKind 4 (.ifCond .eq 37) 37 7 41 := by decide +kernel
theorem dX0_isKind_7 : eb_dc cX0_isKind 7 (.iload_n 2) 1 8 := by decide +kernel
theorem dX0_isKind_8 : eb_dc cX0_isKind 8 (.iconst 0) 1 9 := by decide +kernel
theorem dX0_isKind_9 : eb_dc cX0_isKind 9 (.aload_n 0) 1 10 := by decide +kernel
theorem dX0_isKind_10 : eb_dc cX0_isKind 10 (.getfield 15) 3 13 := by decide +kernel
theorem dX0_isKind_13 : eb_dc cX0_isKind 13 (.iload_n 1) 1 14 := by decide +kernel
theorem dX0_isKind_14 : eb_dc cX0_isKind 14 (.aaload) 1 15 := by decide +kernel
theorem dX0_isKind_15 : eb_dc cX0_isKind 15 (.invokevirtual 46) 3 18 := by decide +kernel
theorem dX0_isKind_18 : eb_dc cX0_isKind 18 (.invokestatic 26) 3 21 := by decide +kernel
theorem dX0_isKind_21 : eb_dj cX0_isKind 21 (.ifCond .eq 20) 20 24 41 := by decide +kernel
theorem dX0_isKind_24 : eb_dc cX0_isKind 24 (.aload_n 0) 1 25 := by decide +kernel
theorem dX0_isKind_25 : eb_dc cX0_isKind 25 (.getfield 15) 3 28 := by decide +kernel
theorem dX0_isKind_28 : eb_dc cX0_isKind 28 (.iload_n 1) 1 29 := by decide +kernel
theorem dX0_isKind_29 : eb_dc cX0_isKind 29 (.aaload) 1 30 := by decide +kernel
theorem dX0_isKind_30 : eb_dc cX0_isKind 30 (.iload_n 2) 1 31 := by decide +kernel
theorem dX0_isKind_31 : eb_dc cX0_isKind 31 (.invokevirtual 110) 3 34 := by decide +kernel
theorem dX0_isKind_34 : eb_dj cX0_isKind 34 (.ifCond .eq 7) 7 37 41 := by decide +kernel
theorem dX0_isKind_37 : eb_dc cX0_isKind 37 (.iconst 1) 1 38 := by decide +kernel
theorem dX0_isKind_38 : eb_dj cX0_isKind 38 (.goto 4) 4 41 42 := by decide +kernel
theorem dX0_isKind_41 : eb_dc cX0_isKind 41 (.iconst 0) 1 42 := by decide +kernel
theorem dX0_isKind_42 : eb_dc cX0_isKind 42 (.ireturn) 1 43 := by decide +kernel
theorem ctX0_isKind {l : Launch} {Γ : eb_C} {st : eb_S} {a0 : Nat} {a1 : Int32} {a2 : Int32} {K : Int32 → Prop} (h : MX0_isKind Γ st a0 a1 a2 K) : eb_Ct l Γ yX0_isKind cX0_isKind 3 (some .boolean) rmX0_isKind [.ref a0, .int a1, .int a2] st (eb_pI st K) := by
  refine eb_of (by decide) (Nat.le_of_ble_eq_true rfl) (fun X P hP hX0 => ?_)
  show eb_G l Γ P X cX0_isKind RX0 3 (some .boolean) rmX0_isKind 0 [(0, .ref a0), (1, .int a1), (2, .int a2)] [] st 0 0
  refine eg_iload_n 1 dX0_isKind_0 rfl rfl ?_
  have hM0 := h
  clear h
  refine ec_SIp (rest := []) (ctX0_isBody hM0) (lw_S q182 q183 q74 q184) nX0_isBody ⟨Nat.le_of_ble_eq_true rfl, Nat.le_of_ble_eq_true rfl⟩ ⟨rfl, rfl⟩ ⟨Nat.zero_le _, Nat.zero_le _⟩ rfl rfl (Nat.le_of_ble_eq_true rfl) dX0_isKind_1 (fun v1 h => ?_)
  clear hM0
  refine eg_if_eq dX0_isKind_4 (fun c27 => ?_) (fun c27 => ?_)
  · replace h := h.1 c27
    refine eg_iconst dX0_isKind_41 kc_0 ?_
    exact eg_zret dX0_isKind_42 rfl (Nat.zero_le _) (Nat.zero_le _) (hP _ _ ⟨_, rfl, rfl, h⟩)
  · replace h := h.2 c27
    refine eg_iload_n 2 dX0_isKind_7 rfl rfl ?_
    refine eg_iconst dX0_isKind_8 kc_0 ?_
    refine eg_aload_n 0 dX0_isKind_9 rfl rfl ?_
    obtain ⟨fs, v5, he, hv, h⟩ := h
    refine eg_get 0 in_X0 he rfl (Nat.le_of_ble_eq_true rfl) q159 rfl hv dX0_isKind_10 ?_
    refine eg_iload_n 1 dX0_isKind_13 rfl rfl ?_
    obtain ⟨p6, rfl, h⟩ := h
    obtain ⟨nA, fA, he, hb, h⟩ := h
    refine eg_aald (t := 7) (ty := .object "EvenBodies$Body") rfl rfl he hb dX0_isKind_14 (fun v7 ev7 => ?_)
    replace h := h v7 ev7
    obtain ⟨p8, rfl, h⟩ := h
    obtain ⟨hcs, h⟩ := h
    have hM0 := h
    clear h
    refine ec_VIp (rest := [.int 0, .int a2]) (ctX1_all hM0) (lw_V q215 q216 q217 q75 q218) rfl rfl hcs nX1_all ⟨Nat.le_of_ble_eq_true rfl, Nat.le_of_ble_eq_true rfl⟩ ⟨rfl, rfl⟩ ⟨Nat.zero_le _, Nat.zero_le _⟩ rfl rfl (Nat.le_of_ble_eq_true rfl) dX0_isKind_15 (fun v9 h => ?_)
    clear hM0
    have hM0 := h
    clear h
    refine ec_SIp (rest := []) (ctX0_in hM0) (lw_S q185 q186 q74 q187) nX0_in ⟨Nat.le_of_ble_eq_true rfl, Nat.le_of_ble_eq_true rfl⟩ ⟨rfl, rfl⟩ ⟨Nat.zero_le _, Nat.zero_le _⟩ rfl rfl (Nat.le_of_ble_eq_true rfl) dX0_isKind_18 (fun v13 h => ?_)
    clear hM0
    refine eg_if_eq dX0_isKind_21 (fun c26 => ?_) (fun c26 => ?_)
    · replace h := h.1 c26
      refine eg_iconst dX0_isKind_41 kc_0 ?_
      exact eg_zret dX0_isKind_42 rfl (Nat.zero_le _) (Nat.zero_le _) (hP _ _ ⟨_, rfl, rfl, h⟩)
    · replace h := h.2 c26
      refine eg_aload_n 0 dX0_isKind_24 rfl rfl ?_
      obtain ⟨fs, v17, he, hv, h⟩ := h
      refine eg_get 0 in_X0 he rfl (Nat.le_of_ble_eq_true rfl) q159 rfl hv dX0_isKind_25 ?_
      refine eg_iload_n 1 dX0_isKind_28 rfl rfl ?_
      obtain ⟨p18, rfl, h⟩ := h
      obtain ⟨nA, fA, he, hb, h⟩ := h
      refine eg_aald (t := 7) (ty := .object "EvenBodies$Body") rfl rfl he hb dX0_isKind_29 (fun v19 ev19 => ?_)
      replace h := h v19 ev19
      refine eg_iload_n 2 dX0_isKind_30 rfl rfl ?_
      obtain ⟨p20, rfl, h⟩ := h
      obtain ⟨hcs, h⟩ := h
      have hM0 := h
      clear h
      refine ec_VIp (rest := []) (ctX1_isKind hM0) (lw_V q494 q495 q496 q75 q497) rfl rfl hcs nX1_isKind ⟨Nat.le_of_ble_eq_true rfl, Nat.le_of_ble_eq_true rfl⟩ ⟨rfl, rfl⟩ ⟨Nat.zero_le _, Nat.zero_le _⟩ rfl rfl (Nat.le_of_ble_eq_true rfl) dX0_isKind_31 (fun v21 h => ?_)
      clear hM0
      refine eg_if_eq dX0_isKind_34 (fun c25 => ?_) (fun c25 => ?_)
      · replace h := h.1 c25
        refine eg_iconst dX0_isKind_41 kc_0 ?_
        exact eg_zret dX0_isKind_42 rfl (Nat.zero_le _) (Nat.zero_le _) (hP _ _ ⟨_, rfl, rfl, h⟩)
      · replace h := h.2 c25
        refine eg_iconst dX0_isKind_37 kc_1 ?_
        refine eg_goto dX0_isKind_38 ?_
        exact eg_zret dX0_isKind_42 rfl (Nat.zero_le _) (Nat.zero_le _) (hP _ _ ⟨_, rfl, rfl, h⟩)
