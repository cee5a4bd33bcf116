set_option maxRecDepth 100000
set_option maxHeartbeats 4000000
def MX2_joinsAll (σ : eb_MS) (a1 : Int32) (K : Int32 → Prop) : Prop :=
  eb_loop2 (fun r3 (x2_1 : Int32) (x3_2 : Int32) => eb_br (a1 ≤ x3_2) (K x2_1) (eb_jp1 (fun (x2_4 : Int32) => r3 x2_4 (x3_2 + 1)) (fun k5 => eb_loop2 (fun r8 (x2_6 : Int32) (x4_7 : Int32) => eb_br (x3_2 ≤ x4_7) (k5 x2_6) (eb_rd (σ.2.1 26) 250000 (((500 * x3_2) + x4_7)) (fun v9 => eb_jp1 (fun (s10 : Int32) => r8 (x2_6 + s10) (x4_7 + 1)) (fun k11 => eb_br (v9 = 0) (k11 0) (k11 1))))) x2_1 0))) 0 0
abbrev rmX2_joinsAll : Room := { frames := 1, cells := 0, slots := 0, locals := 12 }
theorem nX2_joinsAll : eb_ar yX2_joinsAll 1 := by decide +kernel
theorem dX2_joinsAll_0 : eb_dc cX2_joinsAll 0 (.iconst 0) 1 1 := by decide +kernel
theorem dX2_joinsAll_1 : eb_dc cX2_joinsAll 1 (.istore_n 2) 1 2 := by decide +kernel
theorem dX2_joinsAll_2 : eb_dc cX2_joinsAll 2 (.iconst 0) 1 3 := by decide +kernel
theorem dX2_joinsAll_3 : eb_dc cX2_joinsAll 3 (.istore_n 3) 1 4 := by decide +kernel
theorem dX2_joinsAll_4 : eb_dc cX2_joinsAll 4 (.iload_n 3) 1 5 := by decide +kernel
theorem dX2_joinsAll_5 : eb_dc cX2_joinsAll 5 (.iload_n 1) 1 6 := by decide +kernel
theorem dX2_joinsAll_6 : eb_dj cX2_joinsAll 6 (.if_icmp .ge 48) 48 9 54 := by decide +kernel
theorem dX2_joinsAll_9 : eb_dc cX2_joinsAll 9 (.iconst 0) 1 10 := by decide +kernel
theorem dX2_joinsAll_10 : eb_dc cX2_joinsAll 10 (.istore 4) 2 12 := by decide +kernel
theorem dX2_joinsAll_12 : eb_dc cX2_joinsAll 12 (.iload 4) 2 14 := by decide +kernel
theorem dX2_joinsAll_14 : eb_dc cX2_joinsAll 14 (.iload_n 3) 1 15 := by decide +kernel
theorem dX2_joinsAll_15 : eb_dj cX2_joinsAll 15 (.if_icmp .ge 33) 33 18 48 := by decide +kernel
theorem dX2_joinsAll_18 : eb_dc cX2_joinsAll 18 (.iload_n 2) 1 19 := by decide +kernel
theorem dX2_joinsAll_19 : eb_dc cX2_joinsAll 19 (.aload_n 0) 1 20 := by decide +kernel
theorem dX2_joinsAll_20 : eb_dc cX2_joinsAll 20 (.getfield 74) 3 23 := by decide +kernel
theorem dX2_joinsAll_23 : eb_dc cX2_joinsAll 23 (.sipush 500) 3 26 := by decide +kernel
theorem dX2_joinsAll_26 : eb_dc cX2_joinsAll 26 (.iload_n 3) 1 27 := by decide +kernel
theorem dX2_joinsAll_27 : eb_dc cX2_joinsAll 27 (.imul) 1 28 := by decide +kernel
theorem dX2_joinsAll_28 : eb_dc cX2_joinsAll 28 (.iload 4) 2 30 := by decide +kernel
theorem dX2_joinsAll_30 : eb_dc cX2_joinsAll 30 (.iadd) 1 31 := by decide +kernel
theorem dX2_joinsAll_31 : eb_dc cX2_joinsAll 31 (.baload) 1 32 := by decide +kernel
theorem dX2_joinsAll_32 : eb_dj cX2_joinsAll 32 (.ifCond .eq 7) 7 35 39 := by decide +kernel
theorem dX2_joinsAll_35 : eb_dc cX2_joinsAll 35 (.iconst 1) 1 36 := by decide +kernel
theorem dX2_joinsAll_36 : eb_dj cX2_joinsAll 36 (.goto 4) 4 39 40 := by decide +kernel
theorem dX2_joinsAll_39 : eb_dc cX2_joinsAll 39 (.iconst 0) 1 40 := by decide +kernel
theorem dX2_joinsAll_40 : eb_dc cX2_joinsAll 40 (.iadd) 1 41 := by decide +kernel
theorem dX2_joinsAll_41 : eb_dc cX2_joinsAll 41 (.istore_n 2) 1 42 := by decide +kernel
theorem dX2_joinsAll_42 : eb_dc cX2_joinsAll 42 (.iinc 4 1) 3 45 := by decide +kernel
theorem dX2_joinsAll_45 : eb_dj cX2_joinsAll 45 (.goto (-33)) (-33) 48 12 := by decide +kernel
theorem dX2_joinsAll_48 : eb_dc cX2_joinsAll 48 (.iinc 3 1) 3 51 := by decide +kernel
theorem dX2_joinsAll_51 : eb_dj cX2_joinsAll 51 (.goto (-47)) (-47) 54 4 := by decide +kernel
theorem dX2_joinsAll_54 : eb_dc cX2_joinsAll 54 (.iload_n 2) 1 55 := by decide +kernel
theorem dX2_joinsAll_55 : eb_dc cX2_joinsAll 55 (.ireturn) 1 56 := by decide +kernel
theorem ctX2_joinsAll {l : Launch} {Γ : eb_C} {ad : Nat → Nat} {ix : Nat → Option Nat} {σ : eb_MS} {a1 : Int32} {K : Int32 → Prop} (hi : ms_inv ad ix) (h : MX2_joinsAll σ a1 K) : eb_Ct l Γ yX2_joinsAll cX2_joinsAll 5 (some .int) rmX2_joinsAll [.ref (ad 0), .int a1] (ms_st Γ ad ix σ) (eb_pI (ms_st Γ ad ix σ) K) := by
  refine eb_of (by decide) (Nat.le_of_ble_eq_true rfl) (fun X P hP _ => ?_)
  show eb_G l Γ P X cX2_joinsAll RX2 5 (some .int) rmX2_joinsAll 0 [(0, .ref (ad 0)), (1, .int a1)] [] (ms_st Γ ad ix σ) 0 0
  refine eg_iconst dX2_joinsAll_0 kc_0 ?_
  refine eg_istore_n (lv' := [(2, .int 0), (0, .ref (ad 0)), (1, .int a1)]) dX2_joinsAll_1 rfl (Nat.le_of_ble_eq_true rfl) rfl ?_
  refine eg_iconst dX2_joinsAll_2 kc_0 ?_
  refine eg_istore_n (lv' := [(3, .int 0), (2, .int 0), (0, .ref (ad 0)), (1, .int a1)]) dX2_joinsAll_3 rfl (Nat.le_of_ble_eq_true rfl) rfl ?_
  refine eg_sub [2, 3, 1, 0] rfl ?_
  refine eb_loop2_e (J := fun (x2_1 : Int32) (x3_2 : Int32) => eb_G l Γ P X cX2_joinsAll RX2 5 (some .int) rmX2_joinsAll 4 [(0, .ref (ad 0)), (1, .int a1), (2, .int x2_1), (3, .int x3_2)] [] (ms_st Γ ad ix σ) 0 0) h ?_
  intro r3 hr3 x2_1 x3_2 h
  refine eg_iload_n 3 dX2_joinsAll_4 rfl rfl ?_
  refine eg_iload_n 1 dX2_joinsAll_5 rfl rfl ?_
  refine eg_icmp_ge dX2_joinsAll_6 (fun c14 => ?_) (fun c14 => ?_)
  · replace h := h.1 c14
    refine eg_iload_n 2 dX2_joinsAll_54 rfl rfl ?_
    exact eg_iret dX2_joinsAll_55 (Nat.zero_le _) (Nat.zero_le _) (hP _ _ ⟨_, rfl, rfl, h⟩)
  · replace h := h.2 c14
    refine eg_iconst dX2_joinsAll_9 kc_0 ?_
    refine eg_istore (lv' := [(4, .int 0), (0, .ref (ad 0)), (1, .int a1), (2, .int x2_1), (3, .int x3_2)]) dX2_joinsAll_10 (Nat.le_of_ble_eq_true rfl) rfl ?_
    refine eb_jp1_e (J := fun (x2_4 : Int32) => eb_G l Γ P X cX2_joinsAll RX2 5 (some .int) rmX2_joinsAll 48 [(0, .ref (ad 0)), (1, .int a1), (2, .int x2_4), (3, .int x3_2)] [] (ms_st Γ ad ix σ) 0 0) h ?_ ?_
    · intro x2_4 h
      refine eg_iinc (j := 3) (lv' := [(3, .int (x3_2 + 1)), (0, .ref (ad 0)), (1, .int a1), (2, .int x2_4)]) dX2_joinsAll_48 rfl (by rw [kc_1]) (Nat.le_of_ble_eq_true rfl) rfl ?_
      refine eg_goto dX2_joinsAll_51 ?_
      exact eg_sub [1, 2, 3, 0] rfl (hr3 x2_4 (x3_2 + 1) h)
    · intro k5 hk5 h
      refine eg_sub [1, 2, 3, 4, 0] rfl ?_
      refine eb_loop2_e (J := fun (x2_6 : Int32) (x4_7 : Int32) => eb_G l Γ P X cX2_joinsAll RX2 5 (some .int) rmX2_joinsAll 12 [(0, .ref (ad 0)), (1, .int a1), (2, .int x2_6), (3, .int x3_2), (4, .int x4_7)] [] (ms_st Γ ad ix σ) 0 0) h ?_
      intro r8 hr8 x2_6 x4_7 h
      refine eg_iload 4 dX2_joinsAll_12 rfl ?_
      refine eg_iload_n 3 dX2_joinsAll_14 rfl rfl ?_
      refine eg_icmp_ge dX2_joinsAll_15 (fun c13 => ?_) (fun c13 => ?_)
      · replace h := h.1 c13
        exact eg_sub [0, 1, 2, 3] rfl (hk5 x2_6 h)
      · replace h := h.2 c13
        refine eg_iload_n 2 dX2_joinsAll_18 rfl rfl ?_
        refine eg_aload_n 0 dX2_joinsAll_19 rfl rfl ?_
        refine em_geta 26 rfl q1168 dX2_joinsAll_20 hi ?_
        refine eg_sipush dX2_joinsAll_23 ks_500 ?_
        refine eg_iload_n 3 dX2_joinsAll_26 rfl rfl ?_
        refine eg_imul dX2_joinsAll_27 ?_
        refine eg_iload 4 dX2_joinsAll_28 rfl ?_
        refine eg_iadd dX2_joinsAll_30 ?_
        obtain ⟨hb, h⟩ := h
        refine em_zald 26 rfl hb dX2_joinsAll_31 hi (fun v9 ev9 => ?_)
        replace h := h v9 ev9
        refine eb_jp1_e (J := fun (s10 : Int32) => eb_G l Γ P X cX2_joinsAll RX2 5 (some .int) rmX2_joinsAll 40 [(0, .ref (ad 0)), (1, .int a1), (3, .int x3_2), (4, .int x4_7)] [.int s10, .int x2_6] (ms_st Γ ad ix σ) 0 0) h ?_ ?_
        · intro s10 h
          refine eg_iadd dX2_joinsAll_40 ?_
          refine eg_istore_n (lv' := [(2, .int (x2_6 + s10)), (0, .ref (ad 0)), (1, .int a1), (3, .int x3_2), (4, .int x4_7)]) dX2_joinsAll_41 rfl (Nat.le_of_ble_eq_true rfl) rfl ?_
          refine eg_iinc (j := 4) (lv' := [(4, .int (x4_7 + 1)), (2, .int (x2_6 + s10)), (0, .ref (ad 0)), (1, .int a1), (3, .int x3_2)]) dX2_joinsAll_42 rfl (by rw [kc_1]) (Nat.le_of_ble_eq_true rfl) rfl ?_
          refine eg_goto dX2_joinsAll_45 ?_
          exact eg_sub [2, 3, 1, 4, 0] rfl (hr8 (x2_6 + s10) (x4_7 + 1) h)
        · intro k11 hk11 h
          refine eg_if_eq dX2_joinsAll_32 (fun c12 => ?_) (fun c12 => ?_)
          · replace h := h.1 c12
            refine eg_iconst dX2_joinsAll_39 kc_0 ?_
            exact eg_sub [0, 1, 3, 4] rfl (hk11 0 h)
          · replace h := h.2 c12
            refine eg_iconst dX2_joinsAll_35 kc_1 ?_
            refine eg_goto dX2_joinsAll_36 ?_
            exact eg_sub [0, 1, 3, 4] rfl (hk11 1 h)
def MX2_snubFacesOf (σ : eb_MS) (a1 : Int32) (K : Int32 → Prop) : Prop :=
  eb_jp1 (fun (s1 : Int32) => eb_loop2 (fun r4 (x2_2 : Int32) (x3_3 : Int32) => eb_br (3 ≤ x3_3) (K x2_2) (eb_jp1 (fun (x2_5 : Int32) => r4 x2_5 (x3_3 + 1)) (fun k6 => eb_loop2 (fun r9 (x2_7 : Int32) (x4_8 : Int32) => eb_br (3 ≤ x4_8) (k6 x2_7) (MX2_angleOf σ (σ.1 5) x3_3 x4_8 (fun v10 => eb_jp1 (fun (s12 : Int32) => r9 (x2_7 + s12) (x4_8 + 1)) (fun k13 => eb_br (v10 ≤ 2) (k13 0) (eb_jp0 ((¬ v10 = 0) ∧ (k13 ((((σ.1 8) / 2) / v10)))) (fun k14 => eb_br (a1 < 0) (k14) (eb_br (a1 = v10) (k14) (k13 0)))))))) x2_2 (x3_3 + 1)))) s1 0) (fun k20 => eb_jp0 (k20 (((σ.1 8) / 2))) (fun k21 => eb_br (a1 < 0) (k21) (eb_br (a1 = 3) (k21) (k20 0))))
abbrev rmX2_snubFacesOf : Room := { frames := 2, cells := 0, slots := 0, locals := 35 }
theorem nX2_snubFacesOf : eb_ar yX2_snubFacesOf 1 := by decide +kernel
theorem dX2_snubFacesOf_0 : eb_dc cX2_snubFacesOf 0 (.iload_n 1) 1 1 := by decide +kernel
theorem dX2_snubFacesOf_1 : eb_dj cX2_snubFacesOf 1 (.ifCond .lt 8) 8 4 9 := by decide +kernel
theorem dX2_snubFacesOf_4 : eb_dc cX2_snubFacesOf 4 (.iload_n 1) 1 5 := by decide +kernel
theorem dX2_snubFacesOf_5 : eb_dc cX2_snubFacesOf 5 (.iconst 3) 1 6 := by decide +kernel
theorem dX2_snubFacesOf_6 : eb_dj cX2_snubFacesOf 6 (.if_icmp .ne 12) 12 9 18 := by decide +kernel
theorem dX2_snubFacesOf_9 : eb_dc cX2_snubFacesOf 9 (.aload_n 0) 1 10 := by decide +kernel
theorem dX2_snubFacesOf_10 : eb_dc cX2_snubFacesOf 10 (.getfield 135) 3 13 := by decide +kernel
theorem dX2_snubFacesOf_13 : eb_dc cX2_snubFacesOf 13 (.iconst 2) 1 14 := by decide +kernel
theorem dX2_snubFacesOf_14 : eb_dc cX2_snubFacesOf 14 (.idiv) 1 15 := by decide +kernel
theorem dX2_snubFacesOf_15 : eb_dj cX2_snubFacesOf 15 (.goto 4) 4 18 19 := by decide +kernel
theorem dX2_snubFacesOf_18 : eb_dc cX2_snubFacesOf 18 (.iconst 0) 1 19 := by decide +kernel
theorem dX2_snubFacesOf_19 : eb_dc cX2_snubFacesOf 19 (.istore_n 2) 1 20 := by decide +kernel
theorem dX2_snubFacesOf_20 : eb_dc cX2_snubFacesOf 20 (.iconst 0) 1 21 := by decide +kernel
theorem dX2_snubFacesOf_21 : eb_dc cX2_snubFacesOf 21 (.istore_n 3) 1 22 := by decide +kernel
theorem dX2_snubFacesOf_22 : eb_dc cX2_snubFacesOf 22 (.iload_n 3) 1 23 := by decide +kernel
theorem dX2_snubFacesOf_23 : eb_dc cX2_snubFacesOf 23 (.iconst 3) 1 24 := by decide +kernel
theorem dX2_snubFacesOf_24 : eb_dj cX2_snubFacesOf 24 (.if_icmp .ge 71) 71 27 95 := by decide +kernel
theorem dX2_snubFacesOf_27 : eb_dc cX2_snubFacesOf 27 (.iload_n 3) 1 28 := by decide +kernel
theorem dX2_snubFacesOf_28 : eb_dc cX2_snubFacesOf 28 (.iconst 1) 1 29 := by decide +kernel
theorem dX2_snubFacesOf_29 : eb_dc cX2_snubFacesOf 29 (.iadd) 1 30 := by decide +kernel
theorem dX2_snubFacesOf_30 : eb_dc cX2_snubFacesOf 30 (.istore 4) 2 32 := by decide +kernel
theorem dX2_snubFacesOf_32 : eb_dc cX2_snubFacesOf 32 (.iload 4) 2 34 := by decide +kernel
theorem dX2_snubFacesOf_34 : eb_dc cX2_snubFacesOf 34 (.iconst 3) 1 35 := by decide +kernel
theorem dX2_snubFacesOf_35 : eb_dj cX2_snubFacesOf 35 (.if_icmp .ge 54) 54 38 89 := by decide +kernel
theorem dX2_snubFacesOf_38 : eb_dc cX2_snubFacesOf 38 (.aload_n 0) 1 39 := by decide +kernel
theorem dX2_snubFacesOf_39 : eb_dc cX2_snubFacesOf 39 (.aload_n 0) 1 40 := by decide +kernel
theorem dX2_snubFacesOf_40 : eb_dc cX2_snubFacesOf 40 (.getfield 22) 3 43 := by decide +kernel
theorem dX2_snubFacesOf_43 : eb_dc cX2_snubFacesOf 43 (.iload_n 3) 1 44 := by decide +kernel
theorem dX2_snubFacesOf_44 : eb_dc cX2_snubFacesOf 44 (.iload 4) 2 46 := by decide +kernel
theorem dX2_snubFacesOf_46 : eb_dc cX2_snubFacesOf 46 (.invokevirtual 121) 3 49 := by decide +kernel
theorem dX2_snubFacesOf_49 : eb_dc cX2_snubFacesOf 49 (.istore 5) 2 51 := by decide +kernel
theorem dX2_snubFacesOf_51 : eb_dc cX2_snubFacesOf 51 (.iload_n 2) 1 52 := by decide +kernel
theorem dX2_snubFacesOf_52 : eb_dc cX2_snubFacesOf 52 (.iload 5) 2 54 := by decide +kernel
theorem dX2_snubFacesOf_54 : eb_dc cX2_snubFacesOf 54 (.iconst 2) 1 55 := by decide +kernel
theorem dX2_snubFacesOf_55 : eb_dj cX2_snubFacesOf 55 (.if_icmp .le 25) 25 58 80 := by decide +kernel
theorem dX2_snubFacesOf_58 : eb_dc cX2_snubFacesOf 58 (.iload_n 1) 1 59 := by decide +kernel
theorem dX2_snubFacesOf_59 : eb_dj cX2_snubFacesOf 59 (.ifCond .lt 9) 9 62 68 := by decide +kernel
theorem dX2_snubFacesOf_62 : eb_dc cX2_snubFacesOf 62 (.iload_n 1) 1 63 := by decide +kernel
theorem dX2_snubFacesOf_63 : eb_dc cX2_snubFacesOf 63 (.iload 5) 2 65 := by decide +kernel
theorem dX2_snubFacesOf_65 : eb_dj cX2_snubFacesOf 65 (.if_icmp .ne 15) 15 68 80 := by decide +kernel
theorem dX2_snubFacesOf_68 : eb_dc cX2_snubFacesOf 68 (.aload_n 0) 1 69 := by decide +kernel
theorem dX2_snubFacesOf_69 : eb_dc cX2_snubFacesOf 69 (.getfield 135) 3 72 := by decide +kernel
theorem dX2_snubFacesOf_72 : eb_dc cX2_snubFacesOf 72 (.iconst 2) 1 73 := by decide +kernel
theorem dX2_snubFacesOf_73 : eb_dc cX2_snubFacesOf 73 (.idiv) 1 74 := by decide +kernel
theorem dX2_snubFacesOf_74 : eb_dc cX2_snubFacesOf 74 (.iload 5) 2 76 := by decide +kernel
theorem dX2_snubFacesOf_76 : eb_dc cX2_snubFacesOf 76 (.idiv) 1 77 := by decide +kernel
theorem dX2_snubFacesOf_77 : eb_dj cX2_snubFacesOf 77 (.goto 4) 4 80 81 := by decide +kernel
theorem dX2_snubFacesOf_80 : eb_dc cX2_snubFacesOf 80 (.iconst 0) 1 81 := by decide +kernel
theorem dX2_snubFacesOf_81 : eb_dc cX2_snubFacesOf 81 (.iadd) 1 82 := by decide +kernel
theorem dX2_snubFacesOf_82 : eb_dc cX2_snubFacesOf 82 (.istore_n 2) 1 83 := by decide +kernel
theorem dX2_snubFacesOf_83 : eb_dc cX2_snubFacesOf 83 (.iinc 4 1) 3 86 := by decide +kernel
theorem dX2_snubFacesOf_86 : eb_dj cX2_snubFacesOf 86 (.goto (-54)) (-54) 89 32 := by decide +kernel
theorem dX2_snubFacesOf_89 : eb_dc cX2_snubFacesOf 89 (.iinc 3 1) 3 92 := by decide +kernel
theorem dX2_snubFacesOf_92 : eb_dj cX2_snubFacesOf 92 (.goto (-70)) (-70) 95 22 := by decide +kernel
theorem dX2_snubFacesOf_95 : eb_dc cX2_snubFacesOf 95 (.iload_n 2) 1 96 := by decide +kernel
theorem dX2_snubFacesOf_96 : eb_dc cX2_snubFacesOf 96 (.ireturn) 1 97 := by decide +kernel
theorem ctX2_snubFacesOf {l : Launch} {Γ : eb_C} {ad : Nat → Nat} {ix : Nat → Option Nat} {σ : eb_MS} {a1 : Int32} {K : Int32 → Prop} (hi : ms_inv ad ix) (h : MX2_snubFacesOf σ a1 K) : eb_Ct l Γ yX2_snubFacesOf cX2_snubFacesOf 6 (some .int) rmX2_snubFacesOf [.ref (ad 0), .int a1] (ms_st Γ ad ix σ) (eb_pI (ms_st Γ ad ix σ) K) := by
  refine eb_of (by decide) (Nat.le_of_ble_eq_true rfl) (fun X P hP _ => ?_)
  show eb_G l Γ P X cX2_snubFacesOf RX2 6 (some .int) rmX2_snubFacesOf 0 [(0, .ref (ad 0)), (1, .int a1)] [] (ms_st Γ ad ix σ) 0 0
  refine eg_iload_n 1 dX2_snubFacesOf_0 rfl rfl ?_
  refine eb_jp1_e (J := fun (s1 : Int32) => eb_G l Γ P X cX2_snubFacesOf RX2 6 (some .int) rmX2_snubFacesOf 19 [(0, .ref (ad 0)), (1, .int a1)] [.int s1] (ms_st Γ ad ix σ) 0 0) h ?_ ?_
  · intro s1 h
    refine eg_istore_n (lv' := [(2, .int s1), (0, .ref (ad 0)), (1, .int a1)]) dX2_snubFacesOf_19 rfl (Nat.le_of_ble_eq_true rfl) rfl ?_
    refine eg_iconst dX2_snubFacesOf_20 kc_0 ?_
    refine eg_istore_n (lv' := [(3, .int 0), (2, .int s1), (0, .ref (ad 0)), (1, .int a1)]) dX2_snubFacesOf_21 rfl (Nat.le_of_ble_eq_true rfl) rfl ?_
    refine eg_sub [2, 3, 1, 0] rfl ?_
    refine eb_loop2_e (J := fun (x2_2 : Int32) (x3_3 : Int32) => eb_G l Γ P X cX2_snubFacesOf RX2 6 (some .int) rmX2_snubFacesOf 22 [(0, .ref (ad 0)), (1, .int a1), (2, .int x2_2), (3, .int x3_3)] [] (ms_st Γ ad ix σ) 0 0) h ?_
    intro r4 hr4 x2_2 x3_3 h
    refine eg_iload_n 3 dX2_snubFacesOf_22 rfl rfl ?_
    refine eg_iconst dX2_snubFacesOf_23 kc_3 ?_
    refine eg_icmp_ge dX2_snubFacesOf_24 (fun c19 => ?_) (fun c19 => ?_)
    · replace h := h.1 c19
      refine eg_iload_n 2 dX2_snubFacesOf_95 rfl rfl ?_
      exact eg_iret dX2_snubFacesOf_96 (Nat.zero_le _) (Nat.zero_le _) (hP _ _ ⟨_, rfl, rfl, h⟩)
    · replace h := h.2 c19
      refine eg_iload_n 3 dX2_snubFacesOf_27 rfl rfl ?_
      refine eg_iconst dX2_snubFacesOf_28 kc_1 ?_
      refine eg_iadd dX2_snubFacesOf_29 ?_
      refine eg_istore (lv' := [(4, .int (x3_3 + 1)), (0, .ref (ad 0)), (1, .int a1), (2, .int x2_2), (3, .int x3_3)]) dX2_snubFacesOf_30 (Nat.le_of_ble_eq_true rfl) rfl ?_
      refine eb_jp1_e (J := fun (x2_5 : Int32) => eb_G l Γ P X cX2_snubFacesOf RX2 6 (some .int) rmX2_snubFacesOf 89 [(0, .ref (ad 0)), (1, .int a1), (2, .int x2_5), (3, .int x3_3)] [] (ms_st Γ ad ix σ) 0 0) h ?_ ?_
      · intro x2_5 h
        refine eg_iinc (j := 3) (lv' := [(3, .int (x3_3 + 1)), (0, .ref (ad 0)), (1, .int a1), (2, .int x2_5)]) dX2_snubFacesOf_89 rfl (by rw [kc_1]) (Nat.le_of_ble_eq_true rfl) rfl ?_
        refine eg_goto dX2_snubFacesOf_92 ?_
        exact eg_sub [1, 2, 3, 0] rfl (hr4 x2_5 (x3_3 + 1) h)
      · intro k6 hk6 h
        refine eg_sub [1, 2, 3, 4, 0] rfl ?_
        refine eb_loop2_e (J := fun (x2_7 : Int32) (x4_8 : Int32) => eb_G l Γ P X cX2_snubFacesOf RX2 6 (some .int) rmX2_snubFacesOf 32 [(0, .ref (ad 0)), (1, .int a1), (2, .int x2_7), (3, .int x3_3), (4, .int x4_8)] [] (ms_st Γ ad ix σ) 0 0) h ?_
        intro r9 hr9 x2_7 x4_8 h
        refine eg_iload 4 dX2_snubFacesOf_32 rfl ?_
        refine eg_iconst dX2_snubFacesOf_34 kc_3 ?_
        refine eg_icmp_ge dX2_snubFacesOf_35 (fun c18 => ?_) (fun c18 => ?_)
        · replace h := h.1 c18
          exact eg_sub [0, 1, 2, 3] rfl (hk6 x2_7 h)
        · replace h := h.2 c18
          refine eg_aload_n 0 dX2_snubFacesOf_38 rfl rfl ?_
          refine eg_aload_n 0 dX2_snubFacesOf_39 rfl rfl ?_
          refine em_gets 5 rfl q1147 dX2_snubFacesOf_40 hi ?_
          refine eg_iload_n 3 dX2_snubFacesOf_43 rfl rfl ?_
          refine eg_iload 4 dX2_snubFacesOf_44 rfl ?_
          refine em_cvp (rest := []) (ctX2_angleOf hi h) hi (lw_V q1266 q1268 qs37 q77 q1269) rfl nX2_angleOf ⟨Nat.le_of_ble_eq_true rfl, Nat.le_of_ble_eq_true rfl⟩ ⟨rfl, rfl⟩ ⟨Nat.zero_le _, Nat.zero_le _⟩ rfl rfl (Nat.le_of_ble_eq_true rfl) dX2_snubFacesOf_46 (fun v10 h => ?_)
          refine eg_istore (lv' := [(5, .int v10), (0, .ref (ad 0)), (1, .int a1), (2, .int x2_7), (3, .int x3_3), (4, .int x4_8)]) dX2_snubFacesOf_49 (Nat.le_of_ble_eq_true rfl) rfl ?_
          refine eg_iload_n 3 dX2_snubFacesOf_51 rfl rfl ?_
          refine eg_iload 0 dX2_snubFacesOf_52 rfl ?_
          refine eg_iconst dX2_snubFacesOf_54 kc_2 ?_
          refine eb_jp1_e (J := fun (s12 : Int32) => eb_G l Γ P X cX2_snubFacesOf RX2 6 (some .int) rmX2_snubFacesOf 81 [(0, .ref (ad 0)), (1, .int a1), (3, .int x3_3), (4, .int x4_8)] [.int s12, .int x2_7] (ms_st Γ ad ix σ) 0 0) h ?_ ?_
          · intro s12 h
            refine eg_iadd dX2_snubFacesOf_81 ?_
            refine eg_istore_n (lv' := [(2, .int (x2_7 + s12)), (0, .ref (ad 0)), (1, .int a1), (3, .int x3_3), (4, .int x4_8)]) dX2_snubFacesOf_82 rfl (Nat.le_of_ble_eq_true rfl) rfl ?_
            refine eg_iinc (j := 4) (lv' := [(4, .int (x4_8 + 1)), (2, .int (x2_7 + s12)), (0, .ref (ad 0)), (1, .int a1), (3, .int x3_3)]) dX2_snubFacesOf_83 rfl (by rw [kc_1]) (Nat.le_of_ble_eq_true rfl) rfl ?_
            refine eg_goto dX2_snubFacesOf_86 ?_
            exact eg_sub [2, 3, 1, 4, 0] rfl (hr9 (x2_7 + s12) (x4_8 + 1) h)
          · intro k13 hk13 h
            refine eg_icmp_le dX2_snubFacesOf_55 (fun c17 => ?_) (fun c17 => ?_)
            · replace h := h.1 c17
              refine eg_iconst dX2_snubFacesOf_80 kc_0 ?_
              exact eg_sub [1, 2, 4, 5] rfl (hk13 0 h)
            · replace h := h.2 c17
              refine eg_iload_n 2 dX2_snubFacesOf_58 rfl rfl ?_
              refine eb_jp0_e (J := eb_G l Γ P X cX2_snubFacesOf RX2 6 (some .int) rmX2_snubFacesOf 68 [(0, .ref (ad 0)), (1, .int a1), (3, .int x3_3), (4, .int x4_8), (5, .int v10)] [.int x2_7] (ms_st Γ ad ix σ) 0 0) h ?_ ?_
              · intro  h
                refine eg_aload_n 0 dX2_snubFacesOf_68 rfl rfl ?_
                refine em_gets 8 rfl q1150 dX2_snubFacesOf_69 hi ?_
                refine eg_iconst dX2_snubFacesOf_72 kc_2 ?_
                refine eg_idiv dX2_snubFacesOf_73 (by decide) ?_
                refine eg_iload 4 dX2_snubFacesOf_74 rfl ?_
                obtain ⟨hne, h⟩ := h
                refine eg_idiv dX2_snubFacesOf_76 hne ?_
                refine eg_goto dX2_snubFacesOf_77 ?_
                exact eg_sub [0, 1, 2, 3] rfl (hk13 ((((σ.1 8) / 2) / v10)) h)
              · intro k14 hk14 h
                refine eg_if_lt dX2_snubFacesOf_59 (fun c16 => ?_) (fun c16 => ?_)
                · replace h := h.1 c16
                  exact eg_sub [1, 2, 4, 5, 0] rfl (hk14 h)
                · replace h := h.2 c16
                  refine eg_iload_n 2 dX2_snubFacesOf_62 rfl rfl ?_
                  refine eg_iload 0 dX2_snubFacesOf_63 rfl ?_
                  refine eg_icmp_ne dX2_snubFacesOf_65 (fun c15 => ?_) (fun c15 => ?_)
                  · replace h := h.2 c15
                    refine eg_iconst dX2_snubFacesOf_80 kc_0 ?_
                    exact eg_sub [1, 2, 4, 5] rfl (hk13 0 h)
                  · replace h := h.1 c15
                    exact eg_sub [1, 2, 4, 5, 0] rfl (hk14 h)
  · intro k20 hk20 h
    refine eb_jp0_e (J := eb_G l Γ P X cX2_snubFacesOf RX2 6 (some .int) rmX2_snubFacesOf 9 [(0, .ref (ad 0)), (1, .int a1)] [] (ms_st Γ ad ix σ) 0 0) h ?_ ?_
    · intro  h
      refine eg_aload_n 0 dX2_snubFacesOf_9 rfl rfl ?_
      refine em_gets 8 rfl q1150 dX2_snubFacesOf_10 hi ?_
      refine eg_iconst dX2_snubFacesOf_13 kc_2 ?_
      refine eg_idiv dX2_snubFacesOf_14 (by decide) ?_
      refine eg_goto dX2_snubFacesOf_15 ?_
      exact hk20 (((σ.1 8) / 2)) h
    · intro k21 hk21 h
      refine eg_if_lt dX2_snubFacesOf_1 (fun c23 => ?_) (fun c23 => ?_)
      · replace h := h.1 c23
        exact hk21 h
      · replace h := h.2 c23
        refine eg_iload_n 1 dX2_snubFacesOf_4 rfl rfl ?_
        refine eg_iconst dX2_snubFacesOf_5 kc_3 ?_
        refine eg_icmp_ne dX2_snubFacesOf_6 (fun c22 => ?_) (fun c22 => ?_)
        · replace h := h.2 c22
          refine eg_iconst dX2_snubFacesOf_18 kc_0 ?_
          exact hk20 0 h
        · replace h := h.1 c22
          exact hk21 h
def MX2_snub (σ : eb_MS) (a1 : Int32) (a2 : Int32) (K : Int32 → eb_MS → Prop) : Prop :=
  ms_ws σ 0 0 (fun g1 => MX2_in a2 0 2 (fun v2 => eb_br (v2 = 0) (K (-2) g1) (MX2_refusesThree g1 a1 (fun v4 g5 => eb_br (0 ≤ v4) (MX2_snubs g5  (fun v6 g7 => eb_br (a2 = 0) (K v6 g7) (eb_br (a2 = 1) (MX2_joinsAll g7 v6 (fun v10 => K v10 g7)) (MX2_snubFacesOf g7 (-1) (fun v8 => K v8 g7))))) (K v4 g5)))))
abbrev rmX2_snub : Room := { frames := 7, cells := 0, slots := 0, locals := 165 }
theorem nX2_snub : eb_ar yX2_snub 2 := by decide +kernel
theorem dX2_snub_0 : eb_dc cX2_snub 0 (.aload_n 0) 1 1 := by decide +kernel
theorem dX2_snub_1 : eb_dc cX2_snub 1 (.iconst 0) 1 2 := by decide +kernel
theorem dX2_snub_2 : eb_dc cX2_snub 2 (.putfield 106) 3 5 := by decide +kernel
theorem dX2_snub_5 : eb_dc cX2_snub 5 (.iload_n 2) 1 6 := by decide +kernel
theorem dX2_snub_6 : eb_dc cX2_snub 6 (.iconst 0) 1 7 := by decide +kernel
theorem dX2_snub_7 : eb_dc cX2_snub 7 (.iconst 2) 1 8 := by decide +kernel
theorem dX2_snub_8 : eb_dc cX2_snub 8 (.invokestatic 109) 3 11 := by decide +kernel
theorem dX2_snub_11 : eb_dj cX2_snub 11 (.ifCond .ne 6) 6 14 17 := by decide +kernel
theorem dX2_snub_14 : eb_dc cX2_snub 14 (.bipush (-2)) 2 16 := by decide +kernel
theorem dX2_snub_16 : eb_dc cX2_snub 16 (.ireturn) 1 17 := by decide +kernel
theorem dX2_snub_17 : eb_dc cX2_snub 17 (.aload_n 0) 1 18 := by decide +kernel
theorem dX2_snub_18 : eb_dc cX2_snub 18 (.iload_n 1) 1 19 := by decide +kernel
theorem dX2_snub_19 : eb_dc cX2_snub 19 (.invokevirtual 235) 3 22 := by decide +kernel
theorem dX2_snub_22 : eb_dc cX2_snub 22 (.istore_n 3) 1 23 := by decide +kernel
theorem dX2_snub_23 : eb_dc cX2_snub 23 (.iload_n 3) 1 24 := by decide +kernel
theorem dX2_snub_24 : eb_dj cX2_snub 24 (.ifCond .ge 5) 5 27 29 := by decide +kernel
theorem dX2_snub_27 : eb_dc cX2_snub 27 (.iload_n 3) 1 28 := by decide +kernel
theorem dX2_snub_28 : eb_dc cX2_snub 28 (.ireturn) 1 29 := by decide +kernel
theorem dX2_snub_29 : eb_dc cX2_snub 29 (.aload_n 0) 1 30 := by decide +kernel
theorem dX2_snub_30 : eb_dc cX2_snub 30 (.invokevirtual 247) 3 33 := by decide +kernel
theorem dX2_snub_33 : eb_dc cX2_snub 33 (.istore 4) 2 35 := by decide +kernel
theorem dX2_snub_35 : eb_dc cX2_snub 35 (.iload_n 2) 1 36 := by decide +kernel
theorem dX2_snub_36 : eb_dj cX2_snub 36 (.ifCond .ne 8) 8 39 44 := by decide +kernel
theorem dX2_snub_39 : eb_dc cX2_snub 39 (.iload 4) 2 41 := by decide +kernel
theorem dX2_snub_41 : eb_dj cX2_snub 41 (.goto 22) 22 44 63 := by decide +kernel
theorem dX2_snub_44 : eb_dc cX2_snub 44 (.iload_n 2) 1 45 := by decide +kernel
theorem dX2_snub_45 : eb_dc cX2_snub 45 (.iconst 1) 1 46 := by decide +kernel
theorem dX2_snub_46 : eb_dj cX2_snub 46 (.if_icmp .ne 12) 12 49 58 := by decide +kernel
theorem dX2_snub_49 : eb_dc cX2_snub 49 (.aload_n 0) 1 50 := by decide +kernel
theorem dX2_snub_50 : eb_dc cX2_snub 50 (.iload 4) 2 52 := by decide +kernel
theorem dX2_snub_52 : eb_dc cX2_snub 52 (.invokevirtual 251) 3 55 := by decide +kernel
theorem dX2_snub_55 : eb_dj cX2_snub 55 (.goto 8) 8 58 63 := by decide +kernel
theorem dX2_snub_58 : eb_dc cX2_snub 58 (.aload_n 0) 1 59 := by decide +kernel
theorem dX2_snub_59 : eb_dc cX2_snub 59 (.iconst (-1)) 1 60 := by decide +kernel
theorem dX2_snub_60 : eb_dc cX2_snub 60 (.invokevirtual 254) 3 63 := by decide +kernel
theorem dX2_snub_63 : eb_dc cX2_snub 63 (.ireturn) 1 64 := by decide +kernel
theorem ctX2_snub {l : Launch} {Γ : eb_C} {ad : Nat → Nat} {ix : Nat → Option Nat} {σ : eb_MS} {a1 : Int32} {a2 : Int32} {K : Int32 → eb_MS → Prop} (hi : ms_inv ad ix) (h : MX2_snub σ a1 a2 K) : eb_Ct l Γ yX2_snub cX2_snub 5 (some .int) rmX2_snub [.ref (ad 0), .int a1, .int a2] (ms_st Γ ad ix σ) (em_I Γ ad ix K) := by
  refine eb_of (by decide) (Nat.le_of_ble_eq_true rfl) (fun X P hP _ => ?_)
  show eb_G l Γ P X cX2_snub RX2 5 (some .int) rmX2_snub 0 [(0, .ref (ad 0)), (1, .int a1), (2, .int a2)] [] (ms_st Γ ad ix σ) 0 0
  refine eg_aload_n 0 dX2_snub_0 rfl rfl ?_
  refine eg_iconst dX2_snub_1 kc_0 ?_
  refine em_puts 0 rfl q1142 dX2_snub_2 hi (fun g1 eg1 => ?_)
  replace h := h g1 eg1
  refine eg_iload_n 2 dX2_snub_5 rfl rfl ?_
  refine eg_iconst dX2_snub_6 kc_0 ?_
  refine eg_iconst dX2_snub_7 kc_2 ?_
  refine eg_csp (rest := []) (ctX2_in h) (lw_S q1255 q1256 q77 q1257) nX2_in ⟨Nat.le_of_ble_eq_true rfl, Nat.le_of_ble_eq_true rfl⟩ ⟨rfl, rfl⟩ ⟨Nat.zero_le _, Nat.zero_le _⟩ rfl rfl (Nat.le_of_ble_eq_true rfl) dX2_snub_8 (fun v2 h => ?_)
  refine eg_if_ne dX2_snub_11 (fun c15 => ?_) (fun c15 => ?_)
  · replace h := h.2 c15
    refine eg_aload_n 0 dX2_snub_17 rfl rfl ?_
    refine eg_iload_n 1 dX2_snub_18 rfl rfl ?_
    refine em_cvi (rest := []) (ctX2_refusesThree hi h) hi (lw_V q1485 q1487 qs59 q77 q1488) rfl nX2_refusesThree ⟨Nat.le_of_ble_eq_true rfl, Nat.le_of_ble_eq_true rfl⟩ ⟨rfl, rfl⟩ ⟨Nat.zero_le _, Nat.zero_le _⟩ rfl rfl (Nat.le_of_ble_eq_true rfl) dX2_snub_19 (fun v4 g5 h => ?_)
    refine eg_istore_n (lv' := [(3, .int v4), (0, .ref (ad 0)), (1, .int a1), (2, .int a2)]) dX2_snub_22 rfl (Nat.le_of_ble_eq_true rfl) rfl ?_
    refine eg_iload_n 0 dX2_snub_23 rfl rfl ?_
    refine eg_if_ge dX2_snub_24 (fun c14 => ?_) (fun c14 => ?_)
    · replace h := h.1 c14
      refine eg_aload_n 1 dX2_snub_29 rfl rfl ?_
      refine em_cvi (rest := []) (ctX2_snubs hi h) hi (lw_V q1537 q1539 qs69 q77 q1540) rfl nX2_snubs ⟨Nat.le_of_ble_eq_true rfl, Nat.le_of_ble_eq_true rfl⟩ ⟨rfl, rfl⟩ ⟨Nat.zero_le _, Nat.zero_le _⟩ rfl rfl (Nat.le_of_ble_eq_true rfl) dX2_snub_30 (fun v6 g7 h => ?_)
      refine eg_istore (lv' := [(4, .int v6), (3, .int v4), (0, .ref (ad 0)), (1, .int a1), (2, .int a2)]) dX2_snub_33 (Nat.le_of_ble_eq_true rfl) rfl ?_
      refine eg_iload_n 4 dX2_snub_35 rfl rfl ?_
      refine eg_if_ne dX2_snub_36 (fun c13 => ?_) (fun c13 => ?_)
      · replace h := h.2 c13
        refine eg_iload_n 4 dX2_snub_44 rfl rfl ?_
        refine eg_iconst dX2_snub_45 kc_1 ?_
        refine eg_icmp_ne dX2_snub_46 (fun c12 => ?_) (fun c12 => ?_)
        · replace h := h.2 c12
          refine eg_aload_n 2 dX2_snub_58 rfl rfl ?_
          refine eg_iconst dX2_snub_59 kc_m1 ?_
          refine em_cvp (rest := []) (ctX2_snubFacesOf hi h) hi (lw_V q1545 q1547 qs71 q77 q1548) rfl nX2_snubFacesOf ⟨Nat.le_of_ble_eq_true rfl, Nat.le_of_ble_eq_true rfl⟩ ⟨rfl, rfl⟩ ⟨Nat.zero_le _, Nat.zero_le _⟩ rfl rfl (Nat.le_of_ble_eq_true rfl) dX2_snub_60 (fun v8 h => ?_)
          exact eg_iret dX2_snub_63 (Nat.zero_le _) (Nat.zero_le _) (hP _ _ ⟨_, _, rfl, rfl, h⟩)
        · replace h := h.1 c12
          refine eg_aload_n 2 dX2_snub_49 rfl rfl ?_
          refine eg_iload 0 dX2_snub_50 rfl ?_
          refine em_cvp (rest := []) (ctX2_joinsAll hi h) hi (lw_V q1541 q1543 qs70 q77 q1544) rfl nX2_joinsAll ⟨Nat.le_of_ble_eq_true rfl, Nat.le_of_ble_eq_true rfl⟩ ⟨rfl, rfl⟩ ⟨Nat.zero_le _, Nat.zero_le _⟩ rfl rfl (Nat.le_of_ble_eq_true rfl) dX2_snub_52 (fun v10 h => ?_)
          refine eg_goto dX2_snub_55 ?_
          exact eg_iret dX2_snub_63 (Nat.zero_le _) (Nat.zero_le _) (hP _ _ ⟨_, _, rfl, rfl, h⟩)
      · replace h := h.1 c13
        refine eg_iload 0 dX2_snub_39 rfl ?_
        refine eg_goto dX2_snub_41 ?_
        exact eg_iret dX2_snub_63 (Nat.zero_le _) (Nat.zero_le _) (hP _ _ ⟨_, _, rfl, rfl, h⟩)
    · replace h := h.2 c14
      refine eg_iload_n 0 dX2_snub_27 rfl rfl ?_
      exact eg_iret dX2_snub_28 (Nat.zero_le _) (Nat.zero_le _) (hP _ _ ⟨_, _, rfl, rfl, h⟩)
  · replace h := h.1 c15
    refine eg_bipush dX2_snub_14 kb_m2 ?_
    exact eg_iret dX2_snub_16 (Nat.zero_le _) (Nat.zero_le _) (hP _ _ ⟨_, _, rfl, rfl, h⟩)
def MX2_snubLaw (σ : eb_MS) (a1 : Int32) (K : Int32 → eb_MS → Prop) : Prop :=
  ms_ws σ 0 0 (fun g1 => MX2_refusesThree g1 a1 (fun v2 g3 => eb_br (0 ≤ v2) (MX2_snubs g3  (fun v4 g5 => MX2_joinsAll g5 v4 (fun v6 => MX2_snubFacesOf g5 (-1) (fun v8 => K (((v4 - v6) + v8)) g5)))) (K v2 g3)))
abbrev rmX2_snubLaw : Room := { frames := 7, cells := 0, slots := 0, locals := 165 }
theorem nX2_snubLaw : eb_ar yX2_snubLaw 1 := by decide +kernel
theorem dX2_snubLaw_0 : eb_dc cX2_snubLaw 0 (.aload_n 0) 1 1 := by decide +kernel
theorem dX2_snubLaw_1 : eb_dc cX2_snubLaw 1 (.iconst 0) 1 2 := by decide +kernel
theorem dX2_snubLaw_2 : eb_dc cX2_snubLaw 2 (.putfield 106) 3 5 := by decide +kernel
theorem dX2_snubLaw_5 : eb_dc cX2_snubLaw 5 (.aload_n 0) 1 6 := by decide +kernel
theorem dX2_snubLaw_6 : eb_dc cX2_snubLaw 6 (.iload_n 1) 1 7 := by decide +kernel
theorem dX2_snubLaw_7 : eb_dc cX2_snubLaw 7 (.invokevirtual 235) 3 10 := by decide +kernel
theorem dX2_snubLaw_10 : eb_dc cX2_snubLaw 10 (.istore_n 2) 1 11 := by decide +kernel
theorem dX2_snubLaw_11 : eb_dc cX2_snubLaw 11 (.iload_n 2) 1 12 := by decide +kernel
theorem dX2_snubLaw_12 : eb_dj cX2_snubLaw 12 (.ifCond .ge 5) 5 15 17 := by decide +kernel
theorem dX2_snubLaw_15 : eb_dc cX2_snubLaw 15 (.iload_n 2) 1 16 := by decide +kernel
theorem dX2_snubLaw_16 : eb_dc cX2_snubLaw 16 (.ireturn) 1 17 := by decide +kernel
theorem dX2_snubLaw_17 : eb_dc cX2_snubLaw 17 (.aload_n 0) 1 18 := by decide +kernel
theorem dX2_snubLaw_18 : eb_dc cX2_snubLaw 18 (.invokevirtual 247) 3 21 := by decide +kernel
theorem dX2_snubLaw_21 : eb_dc cX2_snubLaw 21 (.istore_n 3) 1 22 := by decide +kernel
theorem dX2_snubLaw_22 : eb_dc cX2_snubLaw 22 (.iload_n 3) 1 23 := by decide +kernel
theorem dX2_snubLaw_23 : eb_dc cX2_snubLaw 23 (.aload_n 0) 1 24 := by decide +kernel
theorem dX2_snubLaw_24 : eb_dc cX2_snubLaw 24 (.iload_n 3) 1 25 := by decide +kernel
theorem dX2_snubLaw_25 : eb_dc cX2_snubLaw 25 (.invokevirtual 251) 3 28 := by decide +kernel
theorem dX2_snubLaw_28 : eb_dc cX2_snubLaw 28 (.isub) 1 29 := by decide +kernel
theorem dX2_snubLaw_29 : eb_dc cX2_snubLaw 29 (.aload_n 0) 1 30 := by decide +kernel
theorem dX2_snubLaw_30 : eb_dc cX2_snubLaw 30 (.iconst (-1)) 1 31 := by decide +kernel
theorem dX2_snubLaw_31 : eb_dc cX2_snubLaw 31 (.invokevirtual 254) 3 34 := by decide +kernel
theorem dX2_snubLaw_34 : eb_dc cX2_snubLaw 34 (.iadd) 1 35 := by decide +kernel
theorem dX2_snubLaw_35 : eb_dc cX2_snubLaw 35 (.ireturn) 1 36 := by decide +kernel
theorem ctX2_snubLaw {l : Launch} {Γ : eb_C} {ad : Nat → Nat} {ix : Nat → Option Nat} {σ : eb_MS} {a1 : Int32} {K : Int32 → eb_MS → Prop} (hi : ms_inv ad ix) (h : MX2_snubLaw σ a1 K) : eb_Ct l Γ yX2_snubLaw cX2_snubLaw 4 (some .int) rmX2_snubLaw [.ref (ad 0), .int a1] (ms_st Γ ad ix σ) (em_I Γ ad ix K) := by
  refine eb_of (by decide) (Nat.le_of_ble_eq_true rfl) (fun X P hP _ => ?_)
  show eb_G l Γ P X cX2_snubLaw RX2 4 (some .int) rmX2_snubLaw 0 [(0, .ref (ad 0)), (1, .int a1)] [] (ms_st Γ ad ix σ) 0 0
  refine eg_aload_n 0 dX2_snubLaw_0 rfl rfl ?_
  refine eg_iconst dX2_snubLaw_1 kc_0 ?_
  refine em_puts 0 rfl q1142 dX2_snubLaw_2 hi (fun g1 eg1 => ?_)
  replace h := h g1 eg1
  refine eg_aload_n 0 dX2_snubLaw_5 rfl rfl ?_
  refine eg_iload_n 1 dX2_snubLaw_6 rfl rfl ?_
  refine em_cvi (rest := []) (ctX2_refusesThree hi h) hi (lw_V q1485 q1487 qs59 q77 q1488) rfl nX2_refusesThree ⟨Nat.le_of_ble_eq_true rfl, Nat.le_of_ble_eq_true rfl⟩ ⟨rfl, rfl⟩ ⟨Nat.zero_le _, Nat.zero_le _⟩ rfl rfl (Nat.le_of_ble_eq_true rfl) dX2_snubLaw_7 (fun v2 g3 h => ?_)
  refine eg_istore_n (lv' := [(2, .int v2), (0, .ref (ad 0)), (1, .int a1)]) dX2_snubLaw_10 rfl (Nat.le_of_ble_eq_true rfl) rfl ?_
  refine eg_iload_n 0 dX2_snubLaw_11 rfl rfl ?_
  refine eg_if_ge dX2_snubLaw_12 (fun c10 => ?_) (fun c10 => ?_)
  · replace h := h.1 c10
    refine eg_aload_n 1 dX2_snubLaw_17 rfl rfl ?_
    refine em_cvi (rest := []) (ctX2_snubs hi h) hi (lw_V q1537 q1539 qs69 q77 q1540) rfl nX2_snubs ⟨Nat.le_of_ble_eq_true rfl, Nat.le_of_ble_eq_true rfl⟩ ⟨rfl, rfl⟩ ⟨Nat.zero_le _, Nat.zero_le _⟩ rfl rfl (Nat.le_of_ble_eq_true rfl) dX2_snubLaw_18 (fun v4 g5 h => ?_)
    refine eg_istore_n (lv' := [(3, .int v4), (2, .int v2), (0, .ref (ad 0)), (1, .int a1)]) dX2_snubLaw_21 rfl (Nat.le_of_ble_eq_true rfl) rfl ?_
    refine eg_iload_n 0 dX2_snubLaw_22 rfl rfl ?_
    refine eg_aload_n 2 dX2_snubLaw_23 rfl rfl ?_
    refine eg_iload_n 0 dX2_snubLaw_24 rfl rfl ?_
    refine em_cvp (rest := [.int v4]) (ctX2_joinsAll hi h) hi (lw_V q1541 q1543 qs70 q77 q1544) rfl nX2_joinsAll ⟨Nat.le_of_ble_eq_true rfl, Nat.le_of_ble_eq_true rfl⟩ ⟨rfl, rfl⟩ ⟨Nat.zero_le _, Nat.zero_le _⟩ rfl rfl (Nat.le_of_ble_eq_true rfl) dX2_snubLaw_25 (fun v6 h => ?_)
    refine eg_isub dX2_snubLaw_28 ?_
    refine eg_aload_n 2 dX2_snubLaw_29 rfl rfl ?_
    refine eg_iconst dX2_snubLaw_30 kc_m1 ?_
    refine em_cvp (rest := [.int (v4 - v6)]) (ctX2_snubFacesOf hi h) hi (lw_V q1545 q1547 qs71 q77 q1548) rfl nX2_snubFacesOf ⟨Nat.le_of_ble_eq_true rfl, Nat.le_of_ble_eq_true rfl⟩ ⟨rfl, rfl⟩ ⟨Nat.zero_le _, Nat.zero_le _⟩ rfl rfl (Nat.le_of_ble_eq_true rfl) dX2_snubLaw_31 (fun v8 h => ?_)
    refine eg_iadd dX2_snubLaw_34 ?_
    exact eg_iret dX2_snubLaw_35 (Nat.zero_le _) (Nat.zero_le _) (hP _ _ ⟨_, _, rfl, rfl, h⟩)
  · replace h := h.2 c10
    refine eg_iload_n 0 dX2_snubLaw_15 rfl rfl ?_
    exact eg_iret dX2_snubLaw_16 (Nat.zero_le _) (Nat.zero_le _) (hP _ _ ⟨_, _, rfl, rfl, h⟩)
def MX2_snubDegree (σ : eb_MS) (a1 : Int32) (a2 : Int32) (K : Int32 → eb_MS → Prop) : Prop :=
  ms_ws σ 0 0 (fun g1 => eb_br (0 ≤ a2) (MX2_refusesThree g1 a1 (fun v2 g3 => eb_br (0 ≤ v2) (MX2_snubs g3  (fun v4 g5 => eb_br (v4 ≤ a2) (K (-2) g5) (MX2_degreeOf g5 a2 v4 (fun v6 => K v6 g5)))) (K v2 g3))) (K (-2) g1))
abbrev rmX2_snubDegree : Room := { frames := 7, cells := 0, slots := 0, locals := 165 }
theorem nX2_snubDegree : eb_ar yX2_snubDegree 2 := by decide +kernel
theorem dX2_snubDegree_0 : eb_dc cX2_snubDegree 0 (.aload_n 0) 1 1 := by decide +kernel
theorem dX2_snubDegree_1 : eb_dc cX2_snubDegree 1 (.iconst 0) 1 2 := by decide +kernel
theorem dX2_snubDegree_2 : eb_dc cX2_snubDegree 2 (.putfield 106) 3 5 := by decide +kernel
theorem dX2_snubDegree_5 : eb_dc cX2_snubDegree 5 (.iload_n 2) 1 6 := by decide +kernel
theorem dX2_snubDegree_6 : eb_dj cX2_snubDegree 6 (.ifCond .ge 6) 6 9 12 := by decide +kernel
theorem dX2_snubDegree_9 : eb_dc cX2_snubDegree 9 (.bipush (-2)) 2 11 := by decide +kernel
theorem dX2_snubDegree_11 : eb_dc cX2_snubDegree 11 (.ireturn) 1 12 := by decide +kernel
theorem dX2_snubDegree_12 : eb_dc cX2_snubDegree 12 (.aload_n 0) 1 13 := by decide +kernel
theorem dX2_snubDegree_13 : eb_dc cX2_snubDegree 13 (.iload_n 1) 1 14 := by decide +kernel
theorem dX2_snubDegree_14 : eb_dc cX2_snubDegree 14 (.invokevirtual 235) 3 17 := by decide +kernel
theorem dX2_snubDegree_17 : eb_dc cX2_snubDegree 17 (.istore_n 3) 1 18 := by decide +kernel
theorem dX2_snubDegree_18 : eb_dc cX2_snubDegree 18 (.iload_n 3) 1 19 := by decide +kernel
theorem dX2_snubDegree_19 : eb_dj cX2_snubDegree 19 (.ifCond .ge 5) 5 22 24 := by decide +kernel
theorem dX2_snubDegree_22 : eb_dc cX2_snubDegree 22 (.iload_n 3) 1 23 := by decide +kernel
theorem dX2_snubDegree_23 : eb_dc cX2_snubDegree 23 (.ireturn) 1 24 := by decide +kernel
theorem dX2_snubDegree_24 : eb_dc cX2_snubDegree 24 (.aload_n 0) 1 25 := by decide +kernel
theorem dX2_snubDegree_25 : eb_dc cX2_snubDegree 25 (.invokevirtual 247) 3 28 := by decide +kernel
theorem dX2_snubDegree_28 : eb_dc cX2_snubDegree 28 (.istore 4) 2 30 := by decide +kernel
theorem dX2_snubDegree_30 : eb_dc cX2_snubDegree 30 (.iload_n 2) 1 31 := by decide +kernel
theorem dX2_snubDegree_31 : eb_dc cX2_snubDegree 31 (.iload 4) 2 33 := by decide +kernel
theorem dX2_snubDegree_33 : eb_dj cX2_snubDegree 33 (.if_icmp .ge 13) 13 36 46 := by decide +kernel
theorem dX2_snubDegree_36 : eb_dc cX2_snubDegree 36 (.aload_n 0) 1 37 := by decide +kernel
theorem dX2_snubDegree_37 : eb_dc cX2_snubDegree 37 (.iload_n 2) 1 38 := by decide +kernel
theorem dX2_snubDegree_38 : eb_dc cX2_snubDegree 38 (.iload 4) 2 40 := by decide +kernel
theorem dX2_snubDegree_40 : eb_dc cX2_snubDegree 40 (.invokevirtual 206) 3 43 := by decide +kernel
theorem dX2_snubDegree_43 : eb_dj cX2_snubDegree 43 (.goto 5) 5 46 48 := by decide +kernel
theorem dX2_snubDegree_46 : eb_dc cX2_snubDegree 46 (.bipush (-2)) 2 48 := by decide +kernel
theorem dX2_snubDegree_48 : eb_dc cX2_snubDegree 48 (.ireturn) 1 49 := by decide +kernel
theorem ctX2_snubDegree {l : Launch} {Γ : eb_C} {ad : Nat → Nat} {ix : Nat → Option Nat} {σ : eb_MS} {a1 : Int32} {a2 : Int32} {K : Int32 → eb_MS → Prop} (hi : ms_inv ad ix) (h : MX2_snubDegree σ a1 a2 K) : eb_Ct l Γ yX2_snubDegree cX2_snubDegree 5 (some .int) rmX2_snubDegree [.ref (ad 0), .int a1, .int a2] (ms_st Γ ad ix σ) (em_I Γ ad ix K) := by
  refine eb_of (by decide) (Nat.le_of_ble_eq_true rfl) (fun X P hP _ => ?_)
  show eb_G l Γ P X cX2_snubDegree RX2 5 (some .int) rmX2_snubDegree 0 [(0, .ref (ad 0)), (1, .int a1), (2, .int a2)] [] (ms_st Γ ad ix σ) 0 0
  refine eg_aload_n 0 dX2_snubDegree_0 rfl rfl ?_
  refine eg_iconst dX2_snubDegree_1 kc_0 ?_
  refine em_puts 0 rfl q1142 dX2_snubDegree_2 hi (fun g1 eg1 => ?_)
  replace h := h g1 eg1
  refine eg_iload_n 2 dX2_snubDegree_5 rfl rfl ?_
  refine eg_if_ge dX2_snubDegree_6 (fun c10 => ?_) (fun c10 => ?_)
  · replace h := h.1 c10
    refine eg_aload_n 0 dX2_snubDegree_12 rfl rfl ?_
    refine eg_iload_n 1 dX2_snubDegree_13 rfl rfl ?_
    refine em_cvi (rest := []) (ctX2_refusesThree hi h) hi (lw_V q1485 q1487 qs59 q77 q1488) rfl nX2_refusesThree ⟨Nat.le_of_ble_eq_true rfl, Nat.le_of_ble_eq_true rfl⟩ ⟨rfl, rfl⟩ ⟨Nat.zero_le _, Nat.zero_le _⟩ rfl rfl (Nat.le_of_ble_eq_true rfl) dX2_snubDegree_14 (fun v2 g3 h => ?_)
    refine eg_istore_n (lv' := [(3, .int v2), (0, .ref (ad 0)), (1, .int a1), (2, .int a2)]) dX2_snubDegree_17 rfl (Nat.le_of_ble_eq_true rfl) rfl ?_
    refine eg_iload_n 0 dX2_snubDegree_18 rfl rfl ?_
    refine eg_if_ge dX2_snubDegree_19 (fun c9 => ?_) (fun c9 => ?_)
    · replace h := h.1 c9
      refine eg_aload_n 1 dX2_snubDegree_24 rfl rfl ?_
      refine em_cvi (rest := []) (ctX2_snubs hi h) hi (lw_V q1537 q1539 qs69 q77 q1540) rfl nX2_snubs ⟨Nat.le_of_ble_eq_true rfl, Nat.le_of_ble_eq_true rfl⟩ ⟨rfl, rfl⟩ ⟨Nat.zero_le _, Nat.zero_le _⟩ rfl rfl (Nat.le_of_ble_eq_true rfl) dX2_snubDegree_25 (fun v4 g5 h => ?_)
      refine eg_istore (lv' := [(4, .int v4), (3, .int v2), (0, .ref (ad 0)), (1, .int a1), (2, .int a2)]) dX2_snubDegree_28 (Nat.le_of_ble_eq_true rfl) rfl ?_
      refine eg_iload_n 4 dX2_snubDegree_30 rfl rfl ?_
      refine eg_iload 0 dX2_snubDegree_31 rfl ?_
      refine eg_icmp_ge dX2_snubDegree_33 (fun c8 => ?_) (fun c8 => ?_)
      · replace h := h.1 c8
        refine eg_bipush dX2_snubDegree_46 kb_m2 ?_
        exact eg_iret dX2_snubDegree_48 (Nat.zero_le _) (Nat.zero_le _) (hP _ _ ⟨_, _, rfl, rfl, h⟩)
      · replace h := h.2 c8
        refine eg_aload_n 2 dX2_snubDegree_36 rfl rfl ?_
        refine eg_iload_n 4 dX2_snubDegree_37 rfl rfl ?_
        refine eg_iload 0 dX2_snubDegree_38 rfl ?_
        refine em_cvp (rest := []) (ctX2_degreeOf hi h) hi (lw_V q1456 q1458 qs57 q77 q1459) rfl nX2_degreeOf ⟨Nat.le_of_ble_eq_true rfl, Nat.le_of_ble_eq_true rfl⟩ ⟨rfl, rfl⟩ ⟨Nat.zero_le _, Nat.zero_le _⟩ rfl rfl (Nat.le_of_ble_eq_true rfl) dX2_snubDegree_40 (fun v6 h => ?_)
        refine eg_goto dX2_snubDegree_43 ?_
        exact eg_iret dX2_snubDegree_48 (Nat.zero_le _) (Nat.zero_le _) (hP _ _ ⟨_, _, rfl, rfl, h⟩)
    · replace h := h.2 c9
      refine eg_iload_n 0 dX2_snubDegree_22 rfl rfl ?_
      exact eg_iret dX2_snubDegree_23 (Nat.zero_le _) (Nat.zero_le _) (hP _ _ ⟨_, _, rfl, rfl, h⟩)
  · replace h := h.2 c10
    refine eg_bipush dX2_snubDegree_9 kb_m2 ?_
    exact eg_iret dX2_snubDegree_11 (Nat.zero_le _) (Nat.zero_le _) (hP _ _ ⟨_, _, rfl, rfl, h⟩)
def MX2_snubFar (σ : eb_MS) (a1 : Int32) (a2 : Int32) (a3 : Int32) (K : Int32 → eb_MS → Prop) : Prop :=
  ms_ws σ 0 0 (fun g1 => eb_br (a2 < 0) (K (-2) g1) (eb_br (0 ≤ a3) (MX2_refusesThree g1 a1 (fun v2 g3 => eb_br (0 ≤ v2) (MX2_snubs g3  (fun v4 g5 => eb_br (v4 ≤ a2) (K (-2) g5) (eb_br (a3 < v4) (MX2_walks g5 a2 v4 (fun g7 => eb_rd (g7.2.1 22) 500 a3 (fun v8 => K v8 g7))) (K (-2) g5)))) (K v2 g3))) (K (-2) g1)))
abbrev rmX2_snubFar : Room := { frames := 7, cells := 0, slots := 0, locals := 165 }
theorem nX2_snubFar : eb_ar yX2_snubFar 3 := by decide +kernel
theorem dX2_snubFar_0 : eb_dc cX2_snubFar 0 (.aload_n 0) 1 1 := by decide +kernel
theorem dX2_snubFar_1 : eb_dc cX2_snubFar 1 (.iconst 0) 1 2 := by decide +kernel
theorem dX2_snubFar_2 : eb_dc cX2_snubFar 2 (.putfield 106) 3 5 := by decide +kernel
theorem dX2_snubFar_5 : eb_dc cX2_snubFar 5 (.iload_n 2) 1 6 := by decide +kernel
theorem dX2_snubFar_6 : eb_dj cX2_snubFar 6 (.ifCond .lt 7) 7 9 13 := by decide +kernel
theorem dX2_snubFar_9 : eb_dc cX2_snubFar 9 (.iload_n 3) 1 10 := by decide +kernel
theorem dX2_snubFar_10 : eb_dj cX2_snubFar 10 (.ifCond .ge 6) 6 13 16 := by decide +kernel
theorem dX2_snubFar_13 : eb_dc cX2_snubFar 13 (.bipush (-2)) 2 15 := by decide +kernel
theorem dX2_snubFar_15 : eb_dc cX2_snubFar 15 (.ireturn) 1 16 := by decide +kernel
theorem dX2_snubFar_16 : eb_dc cX2_snubFar 16 (.aload_n 0) 1 17 := by decide +kernel
theorem dX2_snubFar_17 : eb_dc cX2_snubFar 17 (.iload_n 1) 1 18 := by decide +kernel
theorem dX2_snubFar_18 : eb_dc cX2_snubFar 18 (.invokevirtual 235) 3 21 := by decide +kernel
theorem dX2_snubFar_21 : eb_dc cX2_snubFar 21 (.istore 4) 2 23 := by decide +kernel
theorem dX2_snubFar_23 : eb_dc cX2_snubFar 23 (.iload 4) 2 25 := by decide +kernel
theorem dX2_snubFar_25 : eb_dj cX2_snubFar 25 (.ifCond .ge 6) 6 28 31 := by decide +kernel
theorem dX2_snubFar_28 : eb_dc cX2_snubFar 28 (.iload 4) 2 30 := by decide +kernel
theorem dX2_snubFar_30 : eb_dc cX2_snubFar 30 (.ireturn) 1 31 := by decide +kernel
theorem dX2_snubFar_31 : eb_dc cX2_snubFar 31 (.aload_n 0) 1 32 := by decide +kernel
theorem dX2_snubFar_32 : eb_dc cX2_snubFar 32 (.invokevirtual 247) 3 35 := by decide +kernel
theorem dX2_snubFar_35 : eb_dc cX2_snubFar 35 (.istore 5) 2 37 := by decide +kernel
theorem dX2_snubFar_37 : eb_dc cX2_snubFar 37 (.iload_n 2) 1 38 := by decide +kernel
theorem dX2_snubFar_38 : eb_dc cX2_snubFar 38 (.iload 5) 2 40 := by decide +kernel
theorem dX2_snubFar_40 : eb_dj cX2_snubFar 40 (.if_icmp .ge 9) 9 43 49 := by decide +kernel
theorem dX2_snubFar_43 : eb_dc cX2_snubFar 43 (.iload_n 3) 1 44 := by decide +kernel
theorem dX2_snubFar_44 : eb_dc cX2_snubFar 44 (.iload 5) 2 46 := by decide +kernel
theorem dX2_snubFar_46 : eb_dj cX2_snubFar 46 (.if_icmp .lt 6) 6 49 52 := by decide +kernel
theorem dX2_snubFar_49 : eb_dc cX2_snubFar 49 (.bipush (-2)) 2 51 := by decide +kernel
theorem dX2_snubFar_51 : eb_dc cX2_snubFar 51 (.ireturn) 1 52 := by decide +kernel
theorem dX2_snubFar_52 : eb_dc cX2_snubFar 52 (.aload_n 0) 1 53 := by decide +kernel
theorem dX2_snubFar_53 : eb_dc cX2_snubFar 53 (.iload_n 2) 1 54 := by decide +kernel
theorem dX2_snubFar_54 : eb_dc cX2_snubFar 54 (.iload 5) 2 56 := by decide +kernel
theorem dX2_snubFar_56 : eb_dc cX2_snubFar 56 (.invokevirtual 209) 3 59 := by decide +kernel
theorem dX2_snubFar_59 : eb_dc cX2_snubFar 59 (.aload_n 0) 1 60 := by decide +kernel
theorem dX2_snubFar_60 : eb_dc cX2_snubFar 60 (.getfield 59) 3 63 := by decide +kernel
theorem dX2_snubFar_63 : eb_dc cX2_snubFar 63 (.iload_n 3) 1 64 := by decide +kernel
theorem dX2_snubFar_64 : eb_dc cX2_snubFar 64 (.iaload) 1 65 := by decide +kernel
theorem dX2_snubFar_65 : eb_dc cX2_snubFar 65 (.ireturn) 1 66 := by decide +kernel
theorem ctX2_snubFar {l : Launch} {Γ : eb_C} {ad : Nat → Nat} {ix : Nat → Option Nat} {σ : eb_MS} {a1 : Int32} {a2 : Int32} {a3 : Int32} {K : Int32 → eb_MS → Prop} (hi : ms_inv ad ix) (h : MX2_snubFar σ a1 a2 a3 K) : eb_Ct l Γ yX2_snubFar cX2_snubFar 6 (some .int) rmX2_snubFar [.ref (ad 0), .int a1, .int a2, .int a3] (ms_st Γ ad ix σ) (em_I Γ ad ix K) := by
  refine eb_of (by decide) (Nat.le_of_ble_eq_true rfl) (fun X P hP _ => ?_)
  show eb_G l Γ P X cX2_snubFar RX2 6 (some .int) rmX2_snubFar 0 [(0, .ref (ad 0)), (1, .int a1), (2, .int a2), (3, .int a3)] [] (ms_st Γ ad ix σ) 0 0
  refine eg_aload_n 0 dX2_snubFar_0 rfl rfl ?_
  refine eg_iconst dX2_snubFar_1 kc_0 ?_
  refine em_puts 0 rfl q1142 dX2_snubFar_2 hi (fun g1 eg1 => ?_)
  replace h := h g1 eg1
  refine eg_iload_n 2 dX2_snubFar_5 rfl rfl ?_
  refine eg_if_lt dX2_snubFar_6 (fun c13 => ?_) (fun c13 => ?_)
  · replace h := h.1 c13
    refine eg_bipush dX2_snubFar_13 kb_m2 ?_
    exact eg_iret dX2_snubFar_15 (Nat.zero_le _) (Nat.zero_le _) (hP _ _ ⟨_, _, rfl, rfl, h⟩)
  · replace h := h.2 c13
    refine eg_iload_n 3 dX2_snubFar_9 rfl rfl ?_
    refine eg_if_ge dX2_snubFar_10 (fun c12 => ?_) (fun c12 => ?_)
    · replace h := h.1 c12
      refine eg_aload_n 0 dX2_snubFar_16 rfl rfl ?_
      refine eg_iload_n 1 dX2_snubFar_17 rfl rfl ?_
      refine em_cvi (rest := []) (ctX2_refusesThree hi h) hi (lw_V q1485 q1487 qs59 q77 q1488) rfl nX2_refusesThree ⟨Nat.le_of_ble_eq_true rfl, Nat.le_of_ble_eq_true rfl⟩ ⟨rfl, rfl⟩ ⟨Nat.zero_le _, Nat.zero_le _⟩ rfl rfl (Nat.le_of_ble_eq_true rfl) dX2_snubFar_18 (fun v2 g3 h => ?_)
      refine eg_istore (lv' := [(4, .int v2), (0, .ref (ad 0)), (1, .int a1), (2, .int a2), (3, .int a3)]) dX2_snubFar_21 (Nat.le_of_ble_eq_true rfl) rfl ?_
      refine eg_iload 0 dX2_snubFar_23 rfl ?_
      refine eg_if_ge dX2_snubFar_25 (fun c11 => ?_) (fun c11 => ?_)
      · replace h := h.1 c11
        refine eg_aload_n 1 dX2_snubFar_31 rfl rfl ?_
        refine em_cvi (rest := []) (ctX2_snubs hi h) hi (lw_V q1537 q1539 qs69 q77 q1540) rfl nX2_snubs ⟨Nat.le_of_ble_eq_true rfl, Nat.le_of_ble_eq_true rfl⟩ ⟨rfl, rfl⟩ ⟨Nat.zero_le _, Nat.zero_le _⟩ rfl rfl (Nat.le_of_ble_eq_true rfl) dX2_snubFar_32 (fun v4 g5 h => ?_)
        refine eg_istore (lv' := [(5, .int v4), (4, .int v2), (0, .ref (ad 0)), (1, .int a1), (2, .int a2), (3, .int a3)]) dX2_snubFar_35 (Nat.le_of_ble_eq_true rfl) rfl ?_
        refine eg_iload_n 4 dX2_snubFar_37 rfl rfl ?_
        refine eg_iload 0 dX2_snubFar_38 rfl ?_
        refine eg_icmp_ge dX2_snubFar_40 (fun c10 => ?_) (fun c10 => ?_)
        · replace h := h.1 c10
          refine eg_bipush dX2_snubFar_49 kb_m2 ?_
          exact eg_iret dX2_snubFar_51 (Nat.zero_le _) (Nat.zero_le _) (hP _ _ ⟨_, _, rfl, rfl, h⟩)
        · replace h := h.2 c10
          refine eg_iload_n 5 dX2_snubFar_43 rfl rfl ?_
          refine eg_iload 0 dX2_snubFar_44 rfl ?_
          refine eg_icmp_lt dX2_snubFar_46 (fun c9 => ?_) (fun c9 => ?_)
          · replace h := h.1 c9
            refine eg_aload_n 2 dX2_snubFar_52 rfl rfl ?_
            refine eg_iload_n 4 dX2_snubFar_53 rfl rfl ?_
            refine eg_iload 0 dX2_snubFar_54 rfl ?_
            refine em_cvv (rest := []) (ctX2_walks hi h) hi (lw_V q1464 q1466 qs58 q77 q1467) rfl nX2_walks ⟨Nat.le_of_ble_eq_true rfl, Nat.le_of_ble_eq_true rfl⟩ ⟨rfl, rfl⟩ ⟨Nat.zero_le _, Nat.zero_le _⟩ rfl rfl (Nat.le_of_ble_eq_true rfl) dX2_snubFar_56 (fun g7 h => ?_)
            refine eg_aload_n 2 dX2_snubFar_59 rfl rfl ?_
            refine em_geta 22 rfl q1164 dX2_snubFar_60 hi ?_
            refine eg_iload_n 5 dX2_snubFar_63 rfl rfl ?_
            obtain ⟨hb, h⟩ := h
            refine em_iald 22 rfl hb dX2_snubFar_64 hi (fun v8 ev8 => ?_)
            replace h := h v8 ev8
            exact eg_iret dX2_snubFar_65 (Nat.zero_le _) (Nat.zero_le _) (hP _ _ ⟨_, _, rfl, rfl, h⟩)
          · replace h := h.2 c9
            refine eg_bipush dX2_snubFar_49 kb_m2 ?_
            exact eg_iret dX2_snubFar_51 (Nat.zero_le _) (Nat.zero_le _) (hP _ _ ⟨_, _, rfl, rfl, h⟩)
      · replace h := h.2 c11
        refine eg_iload 0 dX2_snubFar_28 rfl ?_
        exact eg_iret dX2_snubFar_30 (Nat.zero_le _) (Nat.zero_le _) (hP _ _ ⟨_, _, rfl, rfl, h⟩)
    · replace h := h.2 c12
      refine eg_bipush dX2_snubFar_13 kb_m2 ?_
      exact eg_iret dX2_snubFar_15 (Nat.zero_le _) (Nat.zero_le _) (hP _ _ ⟨_, _, rfl, rfl, h⟩)
def MX2_snubFaces (σ : eb_MS) (a1 : Int32) (a2 : Int32) (K : Int32 → eb_MS → Prop) : Prop :=
  ms_ws σ 0 0 (fun g1 => eb_br (2 ≤ a2) (MX2_refusesThree g1 a1 (fun v2 g3 => eb_br (0 ≤ v2) (MX2_snubFacesOf g3 a2 (fun v4 => K v4 g3)) (K v2 g3))) (K (-2) g1))
abbrev rmX2_snubFaces : Room := { frames := 7, cells := 0, slots := 0, locals := 165 }
theorem nX2_snubFaces : eb_ar yX2_snubFaces 2 := by decide +kernel
theorem dX2_snubFaces_0 : eb_dc cX2_snubFaces 0 (.aload_n 0) 1 1 := by decide +kernel
theorem dX2_snubFaces_1 : eb_dc cX2_snubFaces 1 (.iconst 0) 1 2 := by decide +kernel
theorem dX2_snubFaces_2 : eb_dc cX2_snubFaces 2 (.putfield 106) 3 5 := by decide +kernel
theorem dX2_snubFaces_5 : eb_dc cX2_snubFaces 5 (.iload_n 2) 1 6 := by decide +kernel
theorem dX2_snubFaces_6 : eb_dc cX2_snubFaces 6 (.iconst 2) 1 7 := by decide +kernel
theorem dX2_snubFaces_7 : eb_dj cX2_snubFaces 7 (.if_icmp .ge 6) 6 10 13 := by decide +kernel
theorem dX2_snubFaces_10 : eb_dc cX2_snubFaces 10 (.bipush (-2)) 2 12 := by decide +kernel
theorem dX2_snubFaces_12 : eb_dc cX2_snubFaces 12 (.ireturn) 1 13 := by decide +kernel
theorem dX2_snubFaces_13 : eb_dc cX2_snubFaces 13 (.aload_n 0) 1 14 := by decide +kernel
theorem dX2_snubFaces_14 : eb_dc cX2_snubFaces 14 (.iload_n 1) 1 15 := by decide +kernel
theorem dX2_snubFaces_15 : eb_dc cX2_snubFaces 15 (.invokevirtual 235) 3 18 := by decide +kernel
theorem dX2_snubFaces_18 : eb_dc cX2_snubFaces 18 (.istore_n 3) 1 19 := by decide +kernel
theorem dX2_snubFaces_19 : eb_dc cX2_snubFaces 19 (.iload_n 3) 1 20 := by decide +kernel
theorem dX2_snubFaces_20 : eb_dj cX2_snubFaces 20 (.ifCond .ge 7) 7 23 27 := by decide +kernel
theorem dX2_snubFaces_23 : eb_dc cX2_snubFaces 23 (.iload_n 3) 1 24 := by decide +kernel
theorem dX2_snubFaces_24 : eb_dj cX2_snubFaces 24 (.goto 8) 8 27 32 := by decide +kernel
theorem dX2_snubFaces_27 : eb_dc cX2_snubFaces 27 (.aload_n 0) 1 28 := by decide +kernel
theorem dX2_snubFaces_28 : eb_dc cX2_snubFaces 28 (.iload_n 2) 1 29 := by decide +kernel
theorem dX2_snubFaces_29 : eb_dc cX2_snubFaces 29 (.invokevirtual 254) 3 32 := by decide +kernel
theorem dX2_snubFaces_32 : eb_dc cX2_snubFaces 32 (.ireturn) 1 33 := by decide +kernel
theorem ctX2_snubFaces {l : Launch} {Γ : eb_C} {ad : Nat → Nat} {ix : Nat → Option Nat} {σ : eb_MS} {a1 : Int32} {a2 : Int32} {K : Int32 → eb_MS → Prop} (hi : ms_inv ad ix) (h : MX2_snubFaces σ a1 a2 K) : eb_Ct l Γ yX2_snubFaces cX2_snubFaces 4 (some .int) rmX2_snubFaces [.ref (ad 0), .int a1, .int a2] (ms_st Γ ad ix σ) (em_I Γ ad ix K) := by
  refine eb_of (by decide) (Nat.le_of_ble_eq_true rfl) (fun X P hP _ => ?_)
  show eb_G l Γ P X cX2_snubFaces RX2 4 (some .int) rmX2_snubFaces 0 [(0, .ref (ad 0)), (1, .int a1), (2, .int a2)] [] (ms_st Γ ad ix σ) 0 0
  refine eg_aload_n 0 dX2_snubFaces_0 rfl rfl ?_
  refine eg_iconst dX2_snubFaces_1 kc_0 ?_
  refine em_puts 0 rfl q1142 dX2_snubFaces_2 hi (fun g1 eg1 => ?_)
  replace h := h g1 eg1
  refine eg_iload_n 2 dX2_snubFaces_5 rfl rfl ?_
  refine eg_iconst dX2_snubFaces_6 kc_2 ?_
  refine eg_icmp_ge dX2_snubFaces_7 (fun c7 => ?_) (fun c7 => ?_)
  · replace h := h.1 c7
    refine eg_aload_n 0 dX2_snubFaces_13 rfl rfl ?_
    refine eg_iload_n 1 dX2_snubFaces_14 rfl rfl ?_
    refine em_cvi (rest := []) (ctX2_refusesThree hi h) hi (lw_V q1485 q1487 qs59 q77 q1488) rfl nX2_refusesThree ⟨Nat.le_of_ble_eq_true rfl, Nat.le_of_ble_eq_true rfl⟩ ⟨rfl, rfl⟩ ⟨Nat.zero_le _, Nat.zero_le _⟩ rfl rfl (Nat.le_of_ble_eq_true rfl) dX2_snubFaces_15 (fun v2 g3 h => ?_)
    refine eg_istore_n (lv' := [(3, .int v2), (0, .ref (ad 0)), (1, .int a1), (2, .int a2)]) dX2_snubFaces_18 rfl (Nat.le_of_ble_eq_true rfl) rfl ?_
    refine eg_iload_n 0 dX2_snubFaces_19 rfl rfl ?_
    refine eg_if_ge dX2_snubFaces_20 (fun c6 => ?_) (fun c6 => ?_)
    · replace h := h.1 c6
      refine eg_aload_n 1 dX2_snubFaces_27 rfl rfl ?_
      refine eg_iload_n 3 dX2_snubFaces_28 rfl rfl ?_
      refine em_cvp (rest := []) (ctX2_snubFacesOf hi h) hi (lw_V q1545 q1547 qs71 q77 q1548) rfl nX2_snubFacesOf ⟨Nat.le_of_ble_eq_true rfl, Nat.le_of_ble_eq_true rfl⟩ ⟨rfl, rfl⟩ ⟨Nat.zero_le _, Nat.zero_le _⟩ rfl rfl (Nat.le_of_ble_eq_true rfl) dX2_snubFaces_29 (fun v4 h => ?_)
      exact eg_iret dX2_snubFaces_32 (Nat.zero_le _) (Nat.zero_le _) (hP _ _ ⟨_, _, rfl, rfl, h⟩)
    · replace h := h.2 c6
      refine eg_iload_n 0 dX2_snubFaces_23 rfl rfl ?_
      refine eg_goto dX2_snubFaces_24 ?_
      exact eg_iret dX2_snubFaces_32 (Nat.zero_le _) (Nat.zero_le _) (hP _ _ ⟨_, _, rfl, rfl, h⟩)
  · replace h := h.2 c7
    refine eg_bipush dX2_snubFaces_10 kb_m2 ?_
    exact eg_iret dX2_snubFaces_12 (Nat.zero_le _) (Nat.zero_le _) (hP _ _ ⟨_, _, rfl, rfl, h⟩)
def MX2_duals (σ : eb_MS) (K : Int32 → eb_MS → Prop) : Prop :=
  MX2_faces σ  (fun g2 => eb_jp1 (fun (g3 : eb_MS) => eb_rd (g3.2.1 29) 3 2 (fun v4 => eb_rd (g3.2.1 29) 3 2 (fun v5 => eb_rd (g3.2.1 29) 3 1 (fun v6 => eb_jp1 (fun (g7 : eb_MS) => eb_rd (g7.2.1 29) 3 0 (fun v8 => K (((v5 + v6) + v8)) g7)) (fun k9 => eb_loop2 (fun r12 (x3_10 : Int32) (g11 : eb_MS) => eb_br ((g11.1 8) ≤ x3_10) (k9 g11) (eb_jp1 (fun (g13 : eb_MS) => r12 (x3_10 + 1) g13) (fun k14 => eb_loop2 (fun r17 (x4_15 : Int32) (g16 : eb_MS) => eb_br (3 ≤ x4_15) (k14 g16) (eb_jp1 (fun (g18 : eb_MS) => r17 (x4_15 + 1) g18) (fun k19 => eb_loop2 (fun r22 (x5_20 : Int32) (g21 : eb_MS) => eb_br ((g21.1 8) ≤ x5_20) (k19 g21) (eb_rd (g21.2.1 27) 1500 (((500 * x4_15) + x3_10)) (fun v23 => eb_br (v23 < 0) (k19 g21) (eb_rd (g21.2.1 27) 1500 (((500 * x4_15) + x3_10)) (fun v24 => eb_rd (g21.2.1 27) 1500 (((500 * x4_15) + x5_20)) (fun v25 => eb_jp1 (fun (g26 : eb_MS) => r22 (x5_20 + 1) g26) (fun k27 => eb_br (v24 = v25) (eb_loop2 (fun r30 (x6_28 : Int32) (g29 : eb_MS) => eb_br (3 ≤ x6_28) (k27 g29) (eb_jp1 (fun (g31 : eb_MS) => r30 (x6_28 + 1) g31) (fun k32 => eb_loop2 (fun r35 (x7_33 : Int32) (g34 : eb_MS) => eb_br (3 ≤ x7_33) (k32 g34) (eb_rd (g34.2.1 28) 1500 (((500 * x6_28) + x3_10)) (fun v36 => eb_rd (g34.2.1 28) 1500 (((500 * x7_33) + x5_20)) (fun v37 => eb_jp1 (fun (g38 : eb_MS) => r35 (x7_33 + 1) g38) (fun k39 => eb_br (x6_28 = x4_15) (k39 g34) (eb_br (x7_33 = x4_15) (k39 g34) (eb_br (v36 < 0) (k39 g34) (eb_br (v37 < 0) (k39 g34) (eb_jp1 (fun (s40 : Int32) => eb_jp1 (fun (s41 : Int32) => eb_jp1 (fun (s42 : Int32) => ms_wr g34 26 250000 (((500 * (v36 + s40)) + (v37 + s41))) (vp_nar .boolean s42) (fun g43 => k39 g43)) (fun k44 => eb_br ((v36 + s40) = (v37 + s41)) (k44 0) (k44 1))) (fun k46 => eb_br (x7_33 = 1) (k46 v4) (eb_br (x7_33 = 0) (k46 (v5 + v6)) (k46 0)))) (fun k49 => eb_br (x6_28 = 1) (k49 v4) (eb_br (x6_28 = 0) (k49 (v5 + v6)) (k49 0)))))))))))) 0 g29))) 0 g21) (k27 g21)))))))) 0 g16))) 0 g11))) 0 g3))))) (fun k63 => eb_loop2 (fun r66 (x1_64 : Int32) (g65 : eb_MS) => eb_br (250000 ≤ x1_64) (k63 g65) (ms_wr g65 26 250000 x1_64 (vp_nar .boolean 0) (fun g67 => r66 (x1_64 + 1) g67))) 0 g2))
abbrev rmX2_duals : Room := { frames := 6, cells := 0, slots := 0, locals := 134 }
theorem nX2_duals : eb_ar yX2_duals 0 := by decide +kernel
theorem dX2_duals_0 : eb_dc cX2_duals 0 (.aload_n 0) 1 1 := by decide +kernel
theorem dX2_duals_1 : eb_dc cX2_duals 1 (.invokevirtual 214) 3 4 := by decide +kernel
theorem dX2_duals_4 : eb_dc cX2_duals 4 (.iconst 0) 1 5 := by decide +kernel
theorem dX2_duals_5 : eb_dc cX2_duals 5 (.istore_n 1) 1 6 := by decide +kernel
theorem dX2_duals_6 : eb_dc cX2_duals 6 (.iload_n 1) 1 7 := by decide +kernel
theorem dX2_duals_7 : eb_dc cX2_duals 7 (.ldc 73) 2 9 := by decide +kernel
theorem dX2_duals_9 : eb_dj cX2_duals 9 (.if_icmp .ge 16) 16 12 25 := by decide +kernel
theorem dX2_duals_12 : eb_dc cX2_duals 12 (.aload_n 0) 1 13 := by decide +kernel
theorem dX2_duals_13 : eb_dc cX2_duals 13 (.getfield 74) 3 16 := by decide +kernel
theorem dX2_duals_16 : eb_dc cX2_duals 16 (.iload_n 1) 1 17 := by decide +kernel
theorem dX2_duals_17 : eb_dc cX2_duals 17 (.iconst 0) 1 18 := by decide +kernel
theorem dX2_duals_18 : eb_dc cX2_duals 18 (.bastore) 1 19 := by decide +kernel
theorem dX2_duals_19 : eb_dc cX2_duals 19 (.iinc 1 1) 3 22 := by decide +kernel
theorem dX2_duals_22 : eb_dj cX2_duals 22 (.goto (-16)) (-16) 25 6 := by decide +kernel
theorem dX2_duals_25 : eb_dc cX2_duals 25 (.aload_n 0) 1 26 := by decide +kernel
theorem dX2_duals_26 : eb_dc cX2_duals 26 (.getfield 83) 3 29 := by decide +kernel
theorem dX2_duals_29 : eb_dc cX2_duals 29 (.iconst 2) 1 30 := by decide +kernel
theorem dX2_duals_30 : eb_dc cX2_duals 30 (.iaload) 1 31 := by decide +kernel
theorem dX2_duals_31 : eb_dc cX2_duals 31 (.istore_n 1) 1 32 := by decide +kernel
theorem dX2_duals_32 : eb_dc cX2_duals 32 (.aload_n 0) 1 33 := by decide +kernel
theorem dX2_duals_33 : eb_dc cX2_duals 33 (.getfield 83) 3 36 := by decide +kernel
theorem dX2_duals_36 : eb_dc cX2_duals 36 (.iconst 2) 1 37 := by decide +kernel
theorem dX2_duals_37 : eb_dc cX2_duals 37 (.iaload) 1 38 := by decide +kernel
theorem dX2_duals_38 : eb_dc cX2_duals 38 (.aload_n 0) 1 39 := by decide +kernel
theorem dX2_duals_39 : eb_dc cX2_duals 39 (.getfield 83) 3 42 := by decide +kernel
theorem dX2_duals_42 : eb_dc cX2_duals 42 (.iconst 1) 1 43 := by decide +kernel
theorem dX2_duals_43 : eb_dc cX2_duals 43 (.iaload) 1 44 := by decide +kernel
theorem dX2_duals_44 : eb_dc cX2_duals 44 (.iadd) 1 45 := by decide +kernel
theorem dX2_duals_45 : eb_dc cX2_duals 45 (.istore_n 2) 1 46 := by decide +kernel
theorem dX2_duals_46 : eb_dc cX2_duals 46 (.iconst 0) 1 47 := by decide +kernel
theorem dX2_duals_47 : eb_dc cX2_duals 47 (.istore_n 3) 1 48 := by decide +kernel
theorem dX2_duals_48 : eb_dc cX2_duals 48 (.iload_n 3) 1 49 := by decide +kernel
theorem dX2_duals_49 : eb_dc cX2_duals 49 (.aload_n 0) 1 50 := by decide +kernel
theorem dX2_duals_50 : eb_dc cX2_duals 50 (.getfield 135) 3 53 := by decide +kernel
theorem dX2_duals_53 : eb_dj cX2_duals 53 (.if_icmp .ge 249) 249 56 302 := by decide +kernel
theorem dX2_duals_56 : eb_dc cX2_duals 56 (.iconst 0) 1 57 := by decide +kernel
theorem dX2_duals_57 : eb_dc cX2_duals 57 (.istore 4) 2 59 := by decide +kernel
theorem dX2_duals_59 : eb_dc cX2_duals 59 (.iload 4) 2 61 := by decide +kernel
theorem dX2_duals_61 : eb_dc cX2_duals 61 (.iconst 3) 1 62 := by decide +kernel
theorem dX2_duals_62 : eb_dj cX2_duals 62 (.if_icmp .ge 234) 234 65 296 := by decide +kernel
theorem dX2_duals_65 : eb_dc cX2_duals 65 (.iconst 0) 1 66 := by decide +kernel
theorem dX2_duals_66 : eb_dc cX2_duals 66 (.istore 5) 2 68 := by decide +kernel
theorem dX2_duals_68 : eb_dc cX2_duals 68 (.iload 5) 2 70 := by decide +kernel
theorem dX2_duals_70 : eb_dc cX2_duals 70 (.aload_n 0) 1 71 := by decide +kernel
theorem dX2_duals_71 : eb_dc cX2_duals 71 (.getfield 135) 3 74 := by decide +kernel
theorem dX2_duals_74 : eb_dj cX2_duals 74 (.if_icmp .ge 216) 216 77 290 := by decide +kernel
theorem dX2_duals_77 : eb_dc cX2_duals 77 (.aload_n 0) 1 78 := by decide +kernel
theorem dX2_duals_78 : eb_dc cX2_duals 78 (.getfield 77) 3 81 := by decide +kernel
theorem dX2_duals_81 : eb_dc cX2_duals 81 (.sipush 500) 3 84 := by decide +kernel
theorem dX2_duals_84 : eb_dc cX2_duals 84 (.iload 4) 2 86 := by decide +kernel
theorem dX2_duals_86 : eb_dc cX2_duals 86 (.imul) 1 87 := by decide +kernel
theorem dX2_duals_87 : eb_dc cX2_duals 87 (.iload_n 3) 1 88 := by decide +kernel
theorem dX2_duals_88 : eb_dc cX2_duals 88 (.iadd) 1 89 := by decide +kernel
theorem dX2_duals_89 : eb_dc cX2_duals 89 (.iaload) 1 90 := by decide +kernel
theorem dX2_duals_90 : eb_dj cX2_duals 90 (.ifCond .lt 200) 200 93 290 := by decide +kernel
theorem dX2_duals_93 : eb_dc cX2_duals 93 (.aload_n 0) 1 94 := by decide +kernel
theorem dX2_duals_94 : eb_dc cX2_duals 94 (.getfield 77) 3 97 := by decide +kernel
theorem dX2_duals_97 : eb_dc cX2_duals 97 (.sipush 500) 3 100 := by decide +kernel
theorem dX2_duals_100 : eb_dc cX2_duals 100 (.iload 4) 2 102 := by decide +kernel
theorem dX2_duals_102 : eb_dc cX2_duals 102 (.imul) 1 103 := by decide +kernel
theorem dX2_duals_103 : eb_dc cX2_duals 103 (.iload_n 3) 1 104 := by decide +kernel
theorem dX2_duals_104 : eb_dc cX2_duals 104 (.iadd) 1 105 := by decide +kernel
theorem dX2_duals_105 : eb_dc cX2_duals 105 (.iaload) 1 106 := by decide +kernel
theorem dX2_duals_106 : eb_dc cX2_duals 106 (.aload_n 0) 1 107 := by decide +kernel
theorem dX2_duals_107 : eb_dc cX2_duals 107 (.getfield 77) 3 110 := by decide +kernel
theorem dX2_duals_110 : eb_dc cX2_duals 110 (.sipush 500) 3 113 := by decide +kernel
theorem dX2_duals_113 : eb_dc cX2_duals 113 (.iload 4) 2 115 := by decide +kernel
theorem dX2_duals_115 : eb_dc cX2_duals 115 (.imul) 1 116 := by decide +kernel
theorem dX2_duals_116 : eb_dc cX2_duals 116 (.iload 5) 2 118 := by decide +kernel
theorem dX2_duals_118 : eb_dc cX2_duals 118 (.iadd) 1 119 := by decide +kernel
theorem dX2_duals_119 : eb_dc cX2_duals 119 (.iaload) 1 120 := by decide +kernel
theorem dX2_duals_120 : eb_dj cX2_duals 120 (.if_icmp .ne 164) 164 123 284 := by decide +kernel
theorem dX2_duals_123 : eb_dc cX2_duals 123 (.iconst 0) 1 124 := by decide +kernel
theorem dX2_duals_124 : eb_dc cX2_duals 124 (.istore 6) 2 126 := by decide +kernel
theorem dX2_duals_126 : eb_dc cX2_duals 126 (.iload 6) 2 128 := by decide +kernel
theorem dX2_duals_128 : eb_dc cX2_duals 128 (.iconst 3) 1 129 := by decide +kernel
theorem dX2_duals_129 : eb_dj cX2_duals 129 (.if_icmp .ge 155) 155 132 284 := by decide +kernel
theorem dX2_duals_132 : eb_dc cX2_duals 132 (.iconst 0) 1 133 := by decide +kernel
theorem dX2_duals_133 : eb_dc cX2_duals 133 (.istore 7) 2 135 := by decide +kernel
theorem dX2_duals_135 : eb_dc cX2_duals 135 (.iload 7) 2 137 := by decide +kernel
theorem dX2_duals_137 : eb_dc cX2_duals 137 (.iconst 3) 1 138 := by decide +kernel
theorem dX2_duals_138 : eb_dj cX2_duals 138 (.if_icmp .ge 140) 140 141 278 := by decide +kernel
theorem dX2_duals_141 : eb_dc cX2_duals 141 (.aload_n 0) 1 142 := by decide +kernel
theorem dX2_duals_142 : eb_dc cX2_duals 142 (.getfield 80) 3 145 := by decide +kernel
theorem dX2_duals_145 : eb_dc cX2_duals 145 (.sipush 500) 3 148 := by decide +kernel
theorem dX2_duals_148 : eb_dc cX2_duals 148 (.iload 6) 2 150 := by decide +kernel
theorem dX2_duals_150 : eb_dc cX2_duals 150 (.imul) 1 151 := by decide +kernel
theorem dX2_duals_151 : eb_dc cX2_duals 151 (.iload_n 3) 1 152 := by decide +kernel
theorem dX2_duals_152 : eb_dc cX2_duals 152 (.iadd) 1 153 := by decide +kernel
theorem dX2_duals_153 : eb_dc cX2_duals 153 (.iaload) 1 154 := by decide +kernel
theorem dX2_duals_154 : eb_dc cX2_duals 154 (.istore 8) 2 156 := by decide +kernel
theorem dX2_duals_156 : eb_dc cX2_duals 156 (.aload_n 0) 1 157 := by decide +kernel
theorem dX2_duals_157 : eb_dc cX2_duals 157 (.getfield 80) 3 160 := by decide +kernel
theorem dX2_duals_160 : eb_dc cX2_duals 160 (.sipush 500) 3 163 := by decide +kernel
theorem dX2_duals_163 : eb_dc cX2_duals 163 (.iload 7) 2 165 := by decide +kernel
theorem dX2_duals_165 : eb_dc cX2_duals 165 (.imul) 1 166 := by decide +kernel
theorem dX2_duals_166 : eb_dc cX2_duals 166 (.iload 5) 2 168 := by decide +kernel
theorem dX2_duals_168 : eb_dc cX2_duals 168 (.iadd) 1 169 := by decide +kernel
theorem dX2_duals_169 : eb_dc cX2_duals 169 (.iaload) 1 170 := by decide +kernel
theorem dX2_duals_170 : eb_dc cX2_duals 170 (.istore 9) 2 172 := by decide +kernel
theorem dX2_duals_172 : eb_dc cX2_duals 172 (.iload 6) 2 174 := by decide +kernel
theorem dX2_duals_174 : eb_dc cX2_duals 174 (.iload 4) 2 176 := by decide +kernel
theorem dX2_duals_176 : eb_dj cX2_duals 176 (.if_icmp .eq 96) 96 179 272 := by decide +kernel
theorem dX2_duals_179 : eb_dc cX2_duals 179 (.iload 7) 2 181 := by decide +kernel
theorem dX2_duals_181 : eb_dc cX2_duals 181 (.iload 4) 2 183 := by decide +kernel
theorem dX2_duals_183 : eb_dj cX2_duals 183 (.if_icmp .eq 89) 89 186 272 := by decide +kernel
theorem dX2_duals_186 : eb_dc cX2_duals 186 (.iload 8) 2 188 := by decide +kernel
theorem dX2_duals_188 : eb_dj cX2_duals 188 (.ifCond .lt 84) 84 191 272 := by decide +kernel
theorem dX2_duals_191 : eb_dc cX2_duals 191 (.iload 9) 2 193 := by decide +kernel
theorem dX2_duals_193 : eb_dj cX2_duals 193 (.ifCond .lt 79) 79 196 272 := by decide +kernel
theorem dX2_duals_196 : eb_dc cX2_duals 196 (.iload 8) 2 198 := by decide +kernel
theorem dX2_duals_198 : eb_dc cX2_duals 198 (.iload 6) 2 200 := by decide +kernel
theorem dX2_duals_200 : eb_dc cX2_duals 200 (.iconst 1) 1 201 := by decide +kernel
theorem dX2_duals_201 : eb_dj cX2_duals 201 (.if_icmp .ne 7) 7 204 208 := by decide +kernel
theorem dX2_duals_204 : eb_dc cX2_duals 204 (.iload_n 1) 1 205 := by decide +kernel
theorem dX2_duals_205 : eb_dj cX2_duals 205 (.goto 13) 13 208 218 := by decide +kernel
theorem dX2_duals_208 : eb_dc cX2_duals 208 (.iload 6) 2 210 := by decide +kernel
theorem dX2_duals_210 : eb_dj cX2_duals 210 (.ifCond .ne 7) 7 213 217 := by decide +kernel
theorem dX2_duals_213 : eb_dc cX2_duals 213 (.iload_n 2) 1 214 := by decide +kernel
theorem dX2_duals_214 : eb_dj cX2_duals 214 (.goto 4) 4 217 218 := by decide +kernel
theorem dX2_duals_217 : eb_dc cX2_duals 217 (.iconst 0) 1 218 := by decide +kernel
theorem dX2_duals_218 : eb_dc cX2_duals 218 (.iadd) 1 219 := by decide +kernel
theorem dX2_duals_219 : eb_dc cX2_duals 219 (.istore 8) 2 221 := by decide +kernel
theorem dX2_duals_221 : eb_dc cX2_duals 221 (.iload 9) 2 223 := by decide +kernel
theorem dX2_duals_223 : eb_dc cX2_duals 223 (.iload 7) 2 225 := by decide +kernel
theorem dX2_duals_225 : eb_dc cX2_duals 225 (.iconst 1) 1 226 := by decide +kernel
theorem dX2_duals_226 : eb_dj cX2_duals 226 (.if_icmp .ne 7) 7 229 233 := by decide +kernel
theorem dX2_duals_229 : eb_dc cX2_duals 229 (.iload_n 1) 1 230 := by decide +kernel
theorem dX2_duals_230 : eb_dj cX2_duals 230 (.goto 13) 13 233 243 := by decide +kernel
theorem dX2_duals_233 : eb_dc cX2_duals 233 (.iload 7) 2 235 := by decide +kernel
theorem dX2_duals_235 : eb_dj cX2_duals 235 (.ifCond .ne 7) 7 238 242 := by decide +kernel
theorem dX2_duals_238 : eb_dc cX2_duals 238 (.iload_n 2) 1 239 := by decide +kernel
theorem dX2_duals_239 : eb_dj cX2_duals 239 (.goto 4) 4 242 243 := by decide +kernel
theorem dX2_duals_242 : eb_dc cX2_duals 242 (.iconst 0) 1 243 := by decide +kernel
theorem dX2_duals_243 : eb_dc cX2_duals 243 (.iadd) 1 244 := by decide +kernel
theorem dX2_duals_244 : eb_dc cX2_duals 244 (.istore 9) 2 246 := by decide +kernel
theorem dX2_duals_246 : eb_dc cX2_duals 246 (.aload_n 0) 1 247 := by decide +kernel
theorem dX2_duals_247 : eb_dc cX2_duals 247 (.getfield 74) 3 250 := by decide +kernel
theorem dX2_duals_250 : eb_dc cX2_duals 250 (.sipush 500) 3 253 := by decide +kernel
theorem dX2_duals_253 : eb_dc cX2_duals 253 (.iload 8) 2 255 := by decide +kernel
theorem dX2_duals_255 : eb_dc cX2_duals 255 (.imul) 1 256 := by decide +kernel
theorem dX2_duals_256 : eb_dc cX2_duals 256 (.iload 9) 2 258 := by decide +kernel
theorem dX2_duals_258 : eb_dc cX2_duals 258 (.iadd) 1 259 := by decide +kernel
theorem dX2_duals_259 : eb_dc cX2_duals 259 (.iload 8) 2 261 := by decide +kernel
theorem dX2_duals_261 : eb_dc cX2_duals 261 (.iload 9) 2 263 := by decide +kernel
theorem dX2_duals_263 : eb_dj cX2_duals 263 (.if_icmp .eq 7) 7 266 270 := by decide +kernel
theorem dX2_duals_266 : eb_dc cX2_duals 266 (.iconst 1) 1 267 := by decide +kernel
theorem dX2_duals_267 : eb_dj cX2_duals 267 (.goto 4) 4 270 271 := by decide +kernel
theorem dX2_duals_270 : eb_dc cX2_duals 270 (.iconst 0) 1 271 := by decide +kernel
theorem dX2_duals_271 : eb_dc cX2_duals 271 (.bastore) 1 272 := by decide +kernel
theorem dX2_duals_272 : eb_dc cX2_duals 272 (.iinc 7 1) 3 275 := by decide +kernel
theorem dX2_duals_275 : eb_dj cX2_duals 275 (.goto (-140)) (-140) 278 135 := by decide +kernel
theorem dX2_duals_278 : eb_dc cX2_duals 278 (.iinc 6 1) 3 281 := by decide +kernel
theorem dX2_duals_281 : eb_dj cX2_duals 281 (.goto (-155)) (-155) 284 126 := by decide +kernel
theorem dX2_duals_284 : eb_dc cX2_duals 284 (.iinc 5 1) 3 287 := by decide +kernel
theorem dX2_duals_287 : eb_dj cX2_duals 287 (.goto (-219)) (-219) 290 68 := by decide +kernel
theorem dX2_duals_290 : eb_dc cX2_duals 290 (.iinc 4 1) 3 293 := by decide +kernel
theorem dX2_duals_293 : eb_dj cX2_duals 293 (.goto (-234)) (-234) 296 59 := by decide +kernel
theorem dX2_duals_296 : eb_dc cX2_duals 296 (.iinc 3 1) 3 299 := by decide +kernel
theorem dX2_duals_299 : eb_dj cX2_duals 299 (.goto (-251)) (-251) 302 48 := by decide +kernel
theorem dX2_duals_302 : eb_dc cX2_duals 302 (.iload_n 2) 1 303 := by decide +kernel
theorem dX2_duals_303 : eb_dc cX2_duals 303 (.aload_n 0) 1 304 := by decide +kernel
theorem dX2_duals_304 : eb_dc cX2_duals 304 (.getfield 83) 3 307 := by decide +kernel
theorem dX2_duals_307 : eb_dc cX2_duals 307 (.iconst 0) 1 308 := by decide +kernel
theorem dX2_duals_308 : eb_dc cX2_duals 308 (.iaload) 1 309 := by decide +kernel
theorem dX2_duals_309 : eb_dc cX2_duals 309 (.iadd) 1 310 := by decide +kernel
theorem dX2_duals_310 : eb_dc cX2_duals 310 (.ireturn) 1 311 := by decide +kernel
theorem ctX2_duals {l : Launch} {Γ : eb_C} {ad : Nat → Nat} {ix : Nat → Option Nat} {σ : eb_MS} {K : Int32 → eb_MS → Prop} (hi : ms_inv ad ix) (h : MX2_duals σ K) : eb_Ct l Γ yX2_duals cX2_duals 10 (some .int) rmX2_duals [.ref (ad 0)] (ms_st Γ ad ix σ) (em_I Γ ad ix K) := by
  refine eb_of (by decide) (Nat.le_of_ble_eq_true rfl) (fun X P hP _ => ?_)
  show eb_G l Γ P X cX2_duals RX2 10 (some .int) rmX2_duals 0 [(0, .ref (ad 0))] [] (ms_st Γ ad ix σ) 0 0
  refine eg_aload_n 0 dX2_duals_0 rfl rfl ?_
  refine em_cvv (rest := []) (ctX2_faces hi h) hi (lw_V q1493 q1495 qs61 q77 q1496) rfl nX2_faces ⟨Nat.le_of_ble_eq_true rfl, Nat.le_of_ble_eq_true rfl⟩ ⟨rfl, rfl⟩ ⟨Nat.zero_le _, Nat.zero_le _⟩ rfl rfl (Nat.le_of_ble_eq_true rfl) dX2_duals_1 (fun g2 h => ?_)
  refine eg_iconst dX2_duals_4 kc_0 ?_
  refine eg_istore_n (lv' := [(1, .int 0), (0, .ref (ad 0))]) dX2_duals_5 rfl (Nat.le_of_ble_eq_true rfl) rfl ?_
  refine eb_jp1_e (J := fun (g3 : eb_MS) => eb_G l Γ P X cX2_duals RX2 10 (some .int) rmX2_duals 25 [(0, .ref (ad 0))] [] (ms_st Γ ad ix g3) 0 0) h ?_ ?_
  · intro g3 h
    refine eg_aload_n 0 dX2_duals_25 rfl rfl ?_
    refine em_geta 29 rfl q1171 dX2_duals_26 hi ?_
    refine eg_iconst dX2_duals_29 kc_2 ?_
    obtain ⟨hb, h⟩ := h
    refine em_iald 29 rfl hb dX2_duals_30 hi (fun v4 ev4 => ?_)
    replace h := h v4 ev4
    refine eg_istore_n (lv' := [(1, .int v4), (0, .ref (ad 0))]) dX2_duals_31 rfl (Nat.le_of_ble_eq_true rfl) rfl ?_
    refine eg_aload_n 1 dX2_duals_32 rfl rfl ?_
    refine em_geta 29 rfl q1171 dX2_duals_33 hi ?_
    refine eg_iconst dX2_duals_36 kc_2 ?_
    obtain ⟨hb, h⟩ := h
    refine em_iald 29 rfl hb dX2_duals_37 hi (fun v5 ev5 => ?_)
    replace h := h v5 ev5
    refine eg_aload_n 1 dX2_duals_38 rfl rfl ?_
    refine em_geta 29 rfl q1171 dX2_duals_39 hi ?_
    refine eg_iconst dX2_duals_42 kc_1 ?_
    obtain ⟨hb, h⟩ := h
    refine em_iald 29 rfl hb dX2_duals_43 hi (fun v6 ev6 => ?_)
    replace h := h v6 ev6
    refine eg_iadd dX2_duals_44 ?_
    refine eg_istore_n (lv' := [(2, .int (v5 + v6)), (1, .int v4), (0, .ref (ad 0))]) dX2_duals_45 rfl (Nat.le_of_ble_eq_true rfl) rfl ?_
    refine eg_iconst dX2_duals_46 kc_0 ?_
    refine eg_istore_n (lv' := [(3, .int 0), (2, .int (v5 + v6)), (1, .int v4), (0, .ref (ad 0))]) dX2_duals_47 rfl (Nat.le_of_ble_eq_true rfl) rfl ?_
    refine eb_jp1_e (J := fun (g7 : eb_MS) => eb_G l Γ P X cX2_duals RX2 10 (some .int) rmX2_duals 302 [(0, .ref (ad 0)), (2, .int (v5 + v6))] [] (ms_st Γ ad ix g7) 0 0) h ?_ ?_
    · intro g7 h
      refine eg_iload_n 1 dX2_duals_302 rfl rfl ?_
      refine eg_aload_n 0 dX2_duals_303 rfl rfl ?_
      refine em_geta 29 rfl q1171 dX2_duals_304 hi ?_
      refine eg_iconst dX2_duals_307 kc_0 ?_
      obtain ⟨hb, h⟩ := h
      refine em_iald 29 rfl hb dX2_duals_308 hi (fun v8 ev8 => ?_)
      replace h := h v8 ev8
      refine eg_iadd dX2_duals_309 ?_
      exact eg_iret dX2_duals_310 (Nat.zero_le _) (Nat.zero_le _) (hP _ _ ⟨_, _, rfl, rfl, h⟩)
    · intro k9 hk9 h
      refine eg_sub [3, 2, 1, 0] rfl ?_
      refine eb_loop2_e (J := fun (x3_10 : Int32) (g11 : eb_MS) => eb_G l Γ P X cX2_duals RX2 10 (some .int) rmX2_duals 48 [(0, .ref (ad 0)), (1, .int v4), (2, .int (v5 + v6)), (3, .int x3_10)] [] (ms_st Γ ad ix g11) 0 0) h ?_
      intro r12 hr12 x3_10 g11 h
      refine eg_iload_n 3 dX2_duals_48 rfl rfl ?_
      refine eg_aload_n 0 dX2_duals_49 rfl rfl ?_
      refine em_gets 8 rfl q1150 dX2_duals_50 hi ?_
      refine eg_icmp_ge dX2_duals_53 (fun c62 => ?_) (fun c62 => ?_)
      · replace h := h.1 c62
        exact eg_sub [0, 2] rfl (hk9 g11 h)
      · replace h := h.2 c62
        refine eg_iconst dX2_duals_56 kc_0 ?_
        refine eg_istore (lv' := [(4, .int 0), (0, .ref (ad 0)), (1, .int v4), (2, .int (v5 + v6)), (3, .int x3_10)]) dX2_duals_57 (Nat.le_of_ble_eq_true rfl) rfl ?_
        refine eb_jp1_e (J := fun (g13 : eb_MS) => eb_G l Γ P X cX2_duals RX2 10 (some .int) rmX2_duals 296 [(0, .ref (ad 0)), (1, .int v4), (2, .int (v5 + v6)), (3, .int x3_10)] [] (ms_st Γ ad ix g13) 0 0) h ?_ ?_
        · intro g13 h
          refine eg_iinc (j := 3) (lv' := [(3, .int (x3_10 + 1)), (0, .ref (ad 0)), (1, .int v4), (2, .int (v5 + v6))]) dX2_duals_296 rfl (by rw [kc_1]) (Nat.le_of_ble_eq_true rfl) rfl ?_
          refine eg_goto dX2_duals_299 ?_
          exact eg_sub [1, 2, 3, 0] rfl (hr12 (x3_10 + 1) g13 h)
        · intro k14 hk14 h
          refine eg_sub [1, 2, 3, 4, 0] rfl ?_
          refine eb_loop2_e (J := fun (x4_15 : Int32) (g16 : eb_MS) => eb_G l Γ P X cX2_duals RX2 10 (some .int) rmX2_duals 59 [(0, .ref (ad 0)), (1, .int v4), (2, .int (v5 + v6)), (3, .int x3_10), (4, .int x4_15)] [] (ms_st Γ ad ix g16) 0 0) h ?_
          intro r17 hr17 x4_15 g16 h
          refine eg_iload 4 dX2_duals_59 rfl ?_
          refine eg_iconst dX2_duals_61 kc_3 ?_
          refine eg_icmp_ge dX2_duals_62 (fun c61 => ?_) (fun c61 => ?_)
          · replace h := h.1 c61
            exact eg_sub [0, 1, 2, 3] rfl (hk14 g16 h)
          · replace h := h.2 c61
            refine eg_iconst dX2_duals_65 kc_0 ?_
            refine eg_istore (lv' := [(5, .int 0), (0, .ref (ad 0)), (1, .int v4), (2, .int (v5 + v6)), (3, .int x3_10), (4, .int x4_15)]) dX2_duals_66 (Nat.le_of_ble_eq_true rfl) rfl ?_
            refine eb_jp1_e (J := fun (g18 : eb_MS) => eb_G l Γ P X cX2_duals RX2 10 (some .int) rmX2_duals 290 [(0, .ref (ad 0)), (1, .int v4), (2, .int (v5 + v6)), (3, .int x3_10), (4, .int x4_15)] [] (ms_st Γ ad ix g18) 0 0) h ?_ ?_
            · intro g18 h
              refine eg_iinc (j := 4) (lv' := [(4, .int (x4_15 + 1)), (0, .ref (ad 0)), (1, .int v4), (2, .int (v5 + v6)), (3, .int x3_10)]) dX2_duals_290 rfl (by rw [kc_1]) (Nat.le_of_ble_eq_true rfl) rfl ?_
              refine eg_goto dX2_duals_293 ?_
              exact eg_sub [1, 2, 3, 4, 0] rfl (hr17 (x4_15 + 1) g18 h)
            · intro k19 hk19 h
              refine eg_sub [1, 2, 3, 4, 5, 0] rfl ?_
              refine eb_loop2_e (J := fun (x5_20 : Int32) (g21 : eb_MS) => eb_G l Γ P X cX2_duals RX2 10 (some .int) rmX2_duals 68 [(0, .ref (ad 0)), (1, .int v4), (2, .int (v5 + v6)), (3, .int x3_10), (4, .int x4_15), (5, .int x5_20)] [] (ms_st Γ ad ix g21) 0 0) h ?_
              intro r22 hr22 x5_20 g21 h
              refine eg_iload 5 dX2_duals_68 rfl ?_
              refine eg_aload_n 0 dX2_duals_70 rfl rfl ?_
              refine em_gets 8 rfl q1150 dX2_duals_71 hi ?_
              refine eg_icmp_ge dX2_duals_74 (fun c60 => ?_) (fun c60 => ?_)
              · replace h := h.1 c60
                exact eg_sub [0, 1, 2, 3, 4] rfl (hk19 g21 h)
              · replace h := h.2 c60
                refine eg_aload_n 0 dX2_duals_77 rfl rfl ?_
                refine em_geta 27 rfl q1169 dX2_duals_78 hi ?_
                refine eg_sipush dX2_duals_81 ks_500 ?_
                refine eg_iload 4 dX2_duals_84 rfl ?_
                refine eg_imul dX2_duals_86 ?_
                refine eg_iload_n 3 dX2_duals_87 rfl rfl ?_
                refine eg_iadd dX2_duals_88 ?_
                obtain ⟨hb, h⟩ := h
                refine em_iald 27 rfl hb dX2_duals_89 hi (fun v23 ev23 => ?_)
                replace h := h v23 ev23
                refine eg_if_lt dX2_duals_90 (fun c59 => ?_) (fun c59 => ?_)
                · replace h := h.1 c59
                  exact eg_sub [0, 1, 2, 3, 4] rfl (hk19 g21 h)
                · replace h := h.2 c59
                  refine eg_aload_n 0 dX2_duals_93 rfl rfl ?_
                  refine em_geta 27 rfl q1169 dX2_duals_94 hi ?_
                  refine eg_sipush dX2_duals_97 ks_500 ?_
                  refine eg_iload 4 dX2_duals_100 rfl ?_
                  refine eg_imul dX2_duals_102 ?_
                  refine eg_iload_n 3 dX2_duals_103 rfl rfl ?_
                  refine eg_iadd dX2_duals_104 ?_
                  obtain ⟨hb, h⟩ := h
                  refine em_iald 27 rfl hb dX2_duals_105 hi (fun v24 ev24 => ?_)
                  replace h := h v24 ev24
                  refine eg_aload_n 0 dX2_duals_106 rfl rfl ?_
                  refine em_geta 27 rfl q1169 dX2_duals_107 hi ?_
                  refine eg_sipush dX2_duals_110 ks_500 ?_
                  refine eg_iload 4 dX2_duals_113 rfl ?_
                  refine eg_imul dX2_duals_115 ?_
                  refine eg_iload 5 dX2_duals_116 rfl ?_
                  refine eg_iadd dX2_duals_118 ?_
                  obtain ⟨hb, h⟩ := h
                  refine em_iald 27 rfl hb dX2_duals_119 hi (fun v25 ev25 => ?_)
                  replace h := h v25 ev25
                  refine eb_jp1_e (J := fun (g26 : eb_MS) => eb_G l Γ P X cX2_duals RX2 10 (some .int) rmX2_duals 284 [(0, .ref (ad 0)), (1, .int v4), (2, .int (v5 + v6)), (3, .int x3_10), (4, .int x4_15), (5, .int x5_20)] [] (ms_st Γ ad ix g26) 0 0) h ?_ ?_
                  · intro g26 h
                    refine eg_iinc (j := 5) (lv' := [(5, .int (x5_20 + 1)), (0, .ref (ad 0)), (1, .int v4), (2, .int (v5 + v6)), (3, .int x3_10), (4, .int x4_15)]) dX2_duals_284 rfl (by rw [kc_1]) (Nat.le_of_ble_eq_true rfl) rfl ?_
                    refine eg_goto dX2_duals_287 ?_
                    exact eg_sub [1, 2, 3, 4, 5, 0] rfl (hr22 (x5_20 + 1) g26 h)
                  · intro k27 hk27 h
                    refine eg_icmp_ne dX2_duals_120 (fun c58 => ?_) (fun c58 => ?_)
                    · replace h := h.2 c58
                      exact hk27 g21 h
                    · replace h := h.1 c58
                      refine eg_iconst dX2_duals_123 kc_0 ?_
                      refine eg_istore (lv' := [(6, .int 0), (0, .ref (ad 0)), (1, .int v4), (2, .int (v5 + v6)), (3, .int x3_10), (4, .int x4_15), (5, .int x5_20)]) dX2_duals_124 (Nat.le_of_ble_eq_true rfl) rfl ?_
                      refine eg_sub [1, 2, 3, 4, 5, 6, 0] rfl ?_
                      refine eb_loop2_e (J := fun (x6_28 : Int32) (g29 : eb_MS) => eb_G l Γ P X cX2_duals RX2 10 (some .int) rmX2_duals 126 [(0, .ref (ad 0)), (1, .int v4), (2, .int (v5 + v6)), (3, .int x3_10), (4, .int x4_15), (5, .int x5_20), (6, .int x6_28)] [] (ms_st Γ ad ix g29) 0 0) h ?_
                      intro r30 hr30 x6_28 g29 h
                      refine eg_iload 6 dX2_duals_126 rfl ?_
                      refine eg_iconst dX2_duals_128 kc_3 ?_
                      refine eg_icmp_ge dX2_duals_129 (fun c57 => ?_) (fun c57 => ?_)
                      · replace h := h.1 c57
                        exact eg_sub [0, 1, 2, 3, 4, 5] rfl (hk27 g29 h)
                      · replace h := h.2 c57
                        refine eg_iconst dX2_duals_132 kc_0 ?_
                        refine eg_istore (lv' := [(7, .int 0), (0, .ref (ad 0)), (1, .int v4), (2, .int (v5 + v6)), (3, .int x3_10), (4, .int x4_15), (5, .int x5_20), (6, .int x6_28)]) dX2_duals_133 (Nat.le_of_ble_eq_true rfl) rfl ?_
                        refine eb_jp1_e (J := fun (g31 : eb_MS) => eb_G l Γ P X cX2_duals RX2 10 (some .int) rmX2_duals 278 [(0, .ref (ad 0)), (1, .int v4), (2, .int (v5 + v6)), (3, .int x3_10), (4, .int x4_15), (5, .int x5_20), (6, .int x6_28)] [] (ms_st Γ ad ix g31) 0 0) h ?_ ?_
                        · intro g31 h
                          refine eg_iinc (j := 6) (lv' := [(6, .int (x6_28 + 1)), (0, .ref (ad 0)), (1, .int v4), (2, .int (v5 + v6)), (3, .int x3_10), (4, .int x4_15), (5, .int x5_20)]) dX2_duals_278 rfl (by rw [kc_1]) (Nat.le_of_ble_eq_true rfl) rfl ?_
                          refine eg_goto dX2_duals_281 ?_
                          exact eg_sub [1, 2, 3, 4, 5, 6, 0] rfl (hr30 (x6_28 + 1) g31 h)
                        · intro k32 hk32 h
                          refine eg_sub [1, 2, 3, 4, 5, 6, 7, 0] rfl ?_
                          refine eb_loop2_e (J := fun (x7_33 : Int32) (g34 : eb_MS) => eb_G l Γ P X cX2_duals RX2 10 (some .int) rmX2_duals 135 [(0, .ref (ad 0)), (1, .int v4), (2, .int (v5 + v6)), (3, .int x3_10), (4, .int x4_15), (5, .int x5_20), (6, .int x6_28), (7, .int x7_33)] [] (ms_st Γ ad ix g34) 0 0) h ?_
                          intro r35 hr35 x7_33 g34 h
                          refine eg_iload 7 dX2_duals_135 rfl ?_
                          refine eg_iconst dX2_duals_137 kc_3 ?_
                          refine eg_icmp_ge dX2_duals_138 (fun c56 => ?_) (fun c56 => ?_)
                          · replace h := h.1 c56
                            exact eg_sub [0, 1, 2, 3, 4, 5, 6] rfl (hk32 g34 h)
                          · replace h := h.2 c56
                            refine eg_aload_n 0 dX2_duals_141 rfl rfl ?_
                            refine em_geta 28 rfl q1170 dX2_duals_142 hi ?_
                            refine eg_sipush dX2_duals_145 ks_500 ?_
                            refine eg_iload 6 dX2_duals_148 rfl ?_
                            refine eg_imul dX2_duals_150 ?_
                            refine eg_iload_n 3 dX2_duals_151 rfl rfl ?_
                            refine eg_iadd dX2_duals_152 ?_
                            obtain ⟨hb, h⟩ := h
                            refine em_iald 28 rfl hb dX2_duals_153 hi (fun v36 ev36 => ?_)
                            replace h := h v36 ev36
                            refine eg_istore (lv' := [(8, .int v36), (0, .ref (ad 0)), (1, .int v4), (2, .int (v5 + v6)), (3, .int x3_10), (4, .int x4_15), (5, .int x5_20), (6, .int x6_28), (7, .int x7_33)]) dX2_duals_154 (Nat.le_of_ble_eq_true rfl) rfl ?_
                            refine eg_aload_n 1 dX2_duals_156 rfl rfl ?_
                            refine em_geta 28 rfl q1170 dX2_duals_157 hi ?_
                            refine eg_sipush dX2_duals_160 ks_500 ?_
                            refine eg_iload 8 dX2_duals_163 rfl ?_
                            refine eg_imul dX2_duals_165 ?_
                            refine eg_iload 6 dX2_duals_166 rfl ?_
                            refine eg_iadd dX2_duals_168 ?_
                            obtain ⟨hb, h⟩ := h
                            refine em_iald 28 rfl hb dX2_duals_169 hi (fun v37 ev37 => ?_)
                            replace h := h v37 ev37
                            refine eg_istore (lv' := [(9, .int v37), (8, .int v36), (0, .ref (ad 0)), (1, .int v4), (2, .int (v5 + v6)), (3, .int x3_10), (4, .int x4_15), (5, .int x5_20), (6, .int x6_28), (7, .int x7_33)]) dX2_duals_170 (Nat.le_of_ble_eq_true rfl) rfl ?_
                            refine eg_iload 8 dX2_duals_172 rfl ?_
                            refine eg_iload 6 dX2_duals_174 rfl ?_
                            refine eb_jp1_e (J := fun (g38 : eb_MS) => eb_G l Γ P X cX2_duals RX2 10 (some .int) rmX2_duals 272 [(0, .ref (ad 0)), (1, .int v4), (2, .int (v5 + v6)), (3, .int x3_10), (4, .int x4_15), (5, .int x5_20), (6, .int x6_28), (7, .int x7_33)] [] (ms_st Γ ad ix g38) 0 0) h ?_ ?_
                            · intro g38 h
                              refine eg_iinc (j := 7) (lv' := [(7, .int (x7_33 + 1)), (0, .ref (ad 0)), (1, .int v4), (2, .int (v5 + v6)), (3, .int x3_10), (4, .int x4_15), (5, .int x5_20), (6, .int x6_28)]) dX2_duals_272 rfl (by rw [kc_1]) (Nat.le_of_ble_eq_true rfl) rfl ?_
                              refine eg_goto dX2_duals_275 ?_
                              exact eg_sub [1, 2, 3, 4, 5, 6, 7, 0] rfl (hr35 (x7_33 + 1) g38 h)
                            · intro k39 hk39 h
                              refine eg_icmp_eq dX2_duals_176 (fun c55 => ?_) (fun c55 => ?_)
                              · replace h := h.1 c55
                                exact eg_sub [2, 3, 4, 5, 6, 7, 8, 9] rfl (hk39 g34 h)
                              · replace h := h.2 c55
                                refine eg_iload 9 dX2_duals_179 rfl ?_
                                refine eg_iload 6 dX2_duals_181 rfl ?_
                                refine eg_icmp_eq dX2_duals_183 (fun c54 => ?_) (fun c54 => ?_)
                                · replace h := h.1 c54
                                  exact eg_sub [2, 3, 4, 5, 6, 7, 8, 9] rfl (hk39 g34 h)
                                · replace h := h.2 c54
                                  refine eg_iload 1 dX2_duals_186 rfl ?_
                                  refine eg_if_lt dX2_duals_188 (fun c53 => ?_) (fun c53 => ?_)
                                  · replace h := h.1 c53
                                    exact eg_sub [2, 3, 4, 5, 6, 7, 8, 9] rfl (hk39 g34 h)
                                  · replace h := h.2 c53
                                    refine eg_iload 0 dX2_duals_191 rfl ?_
                                    refine eg_if_lt dX2_duals_193 (fun c52 => ?_) (fun c52 => ?_)
                                    · replace h := h.1 c52
                                      exact eg_sub [2, 3, 4, 5, 6, 7, 8, 9] rfl (hk39 g34 h)
                                    · replace h := h.2 c52
                                      refine eg_iload 1 dX2_duals_196 rfl ?_
                                      refine eg_iload 8 dX2_duals_198 rfl ?_
                                      refine eg_iconst dX2_duals_200 kc_1 ?_
                                      refine eb_jp1_e (J := fun (s40 : Int32) => eb_G l Γ P X cX2_duals RX2 10 (some .int) rmX2_duals 218 [(0, .ref (ad 0)), (1, .int v4), (2, .int (v5 + v6)), (3, .int x3_10), (4, .int x4_15), (5, .int x5_20), (6, .int x6_28), (7, .int x7_33), (9, .int v37)] [.int s40, .int v36] (ms_st Γ ad ix g34) 0 0) h ?_ ?_
                                      · intro s40 h
                                        refine eg_iadd dX2_duals_218 ?_
                                        refine eg_istore (lv' := [(8, .int (v36 + s40)), (0, .ref (ad 0)), (1, .int v4), (2, .int (v5 + v6)), (3, .int x3_10), (4, .int x4_15), (5, .int x5_20), (6, .int x6_28), (7, .int x7_33), (9, .int v37)]) dX2_duals_219 (Nat.le_of_ble_eq_true rfl) rfl ?_
                                        refine eg_iload 9 dX2_duals_221 rfl ?_
                                        refine eg_iload 8 dX2_duals_223 rfl ?_
                                        refine eg_iconst dX2_duals_225 kc_1 ?_
                                        refine eb_jp1_e (J := fun (s41 : Int32) => eb_G l Γ P X cX2_duals RX2 10 (some .int) rmX2_duals 243 [(0, .ref (ad 0)), (1, .int v4), (2, .int (v5 + v6)), (3, .int x3_10), (4, .int x4_15), (5, .int x5_20), (6, .int x6_28), (7, .int x7_33), (8, .int (v36 + s40))] [.int s41, .int v37] (ms_st Γ ad ix g34) 0 0) h ?_ ?_
                                        · intro s41 h
                                          refine eg_iadd dX2_duals_243 ?_
                                          refine eg_istore (lv' := [(9, .int (v37 + s41)), (0, .ref (ad 0)), (1, .int v4), (2, .int (v5 + v6)), (3, .int x3_10), (4, .int x4_15), (5, .int x5_20), (6, .int x6_28), (7, .int x7_33), (8, .int (v36 + s40))]) dX2_duals_244 (Nat.le_of_ble_eq_true rfl) rfl ?_
                                          refine eg_aload_n 1 dX2_duals_246 rfl rfl ?_
                                          refine em_geta 26 rfl q1168 dX2_duals_247 hi ?_
                                          refine eg_sipush dX2_duals_250 ks_500 ?_
                                          refine eg_iload 9 dX2_duals_253 rfl ?_
                                          refine eg_imul dX2_duals_255 ?_
                                          refine eg_iload 0 dX2_duals_256 rfl ?_
                                          refine eg_iadd dX2_duals_258 ?_
                                          refine eg_iload 9 dX2_duals_259 rfl ?_
                                          refine eg_iload 0 dX2_duals_261 rfl ?_
                                          refine eb_jp1_e (J := fun (s42 : Int32) => eb_G l Γ P X cX2_duals RX2 10 (some .int) rmX2_duals 271 [(0, .ref (ad 0)), (1, .int v4), (2, .int (v5 + v6)), (3, .int x3_10), (4, .int x4_15), (5, .int x5_20), (6, .int x6_28), (7, .int x7_33)] [.int s42, .int ((500 * (v36 + s40)) + (v37 + s41)), .ref (ad 26)] (ms_st Γ ad ix g34) 0 0) h ?_ ?_
                                          · intro s42 h
                                            obtain ⟨hb, h⟩ := h
                                            refine em_zast 26 rfl hb dX2_duals_271 hi (fun g43 eg43 => ?_)
                                            replace h := h g43 eg43
                                            exact hk39 g43 h
                                          · intro k44 hk44 h
                                            refine eg_icmp_eq dX2_duals_263 (fun c45 => ?_) (fun c45 => ?_)
                                            · replace h := h.1 c45
                                              refine eg_iconst dX2_duals_270 kc_0 ?_
                                              exact eg_sub [1, 2, 3, 4, 5, 6, 7, 8] rfl (hk44 0 h)
                                            · replace h := h.2 c45
                                              refine eg_iconst dX2_duals_266 kc_1 ?_
                                              refine eg_goto dX2_duals_267 ?_
                                              exact eg_sub [1, 2, 3, 4, 5, 6, 7, 8] rfl (hk44 1 h)
                                        · intro k46 hk46 h
                                          refine eg_icmp_ne dX2_duals_226 (fun c48 => ?_) (fun c48 => ?_)
                                          · replace h := h.2 c48
                                            refine eg_iload 8 dX2_duals_233 rfl ?_
                                            refine eg_if_ne dX2_duals_235 (fun c47 => ?_) (fun c47 => ?_)
                                            · replace h := h.2 c47
                                              refine eg_iconst dX2_duals_242 kc_0 ?_
                                              exact eg_sub [1, 2, 3, 4, 5, 6, 7, 8, 0] rfl (hk46 0 h)
                                            · replace h := h.1 c47
                                              refine eg_iload_n 3 dX2_duals_238 rfl rfl ?_
                                              refine eg_goto dX2_duals_239 ?_
                                              exact eg_sub [1, 2, 3, 4, 5, 6, 7, 8, 0] rfl (hk46 (v5 + v6) h)
                                          · replace h := h.1 c48
                                            refine eg_iload_n 2 dX2_duals_229 rfl rfl ?_
                                            refine eg_goto dX2_duals_230 ?_
                                            exact eg_sub [1, 2, 3, 4, 5, 6, 7, 8, 0] rfl (hk46 v4 h)
                                      · intro k49 hk49 h
                                        refine eg_icmp_ne dX2_duals_201 (fun c51 => ?_) (fun c51 => ?_)
                                        · replace h := h.2 c51
                                          refine eg_iload 8 dX2_duals_208 rfl ?_
                                          refine eg_if_ne dX2_duals_210 (fun c50 => ?_) (fun c50 => ?_)
                                          · replace h := h.2 c50
                                            refine eg_iconst dX2_duals_217 kc_0 ?_
                                            exact eg_sub [2, 3, 4, 5, 6, 7, 8, 9, 0] rfl (hk49 0 h)
                                          · replace h := h.1 c50
                                            refine eg_iload_n 4 dX2_duals_213 rfl rfl ?_
                                            refine eg_goto dX2_duals_214 ?_
                                            exact eg_sub [2, 3, 4, 5, 6, 7, 8, 9, 0] rfl (hk49 (v5 + v6) h)
                                        · replace h := h.1 c51
                                          refine eg_iload_n 3 dX2_duals_204 rfl rfl ?_
                                          refine eg_goto dX2_duals_205 ?_
                                          exact eg_sub [2, 3, 4, 5, 6, 7, 8, 9, 0] rfl (hk49 v4 h)
  · intro k63 hk63 h
    refine eg_sub [1, 0] rfl ?_
    refine eb_loop2_e (J := fun (x1_64 : Int32) (g65 : eb_MS) => eb_G l Γ P X cX2_duals RX2 10 (some .int) rmX2_duals 6 [(0, .ref (ad 0)), (1, .int x1_64)] [] (ms_st Γ ad ix g65) 0 0) h ?_
    intro r66 hr66 x1_64 g65 h
    refine eg_iload_n 1 dX2_duals_6 rfl rfl ?_
    refine eg_ldc dX2_duals_7 q1134 ?_
    refine eg_icmp_ge dX2_duals_9 (fun c68 => ?_) (fun c68 => ?_)
    · replace h := h.1 c68
      exact eg_sub [0] rfl (hk63 g65 h)
    · replace h := h.2 c68
      refine eg_aload_n 0 dX2_duals_12 rfl rfl ?_
      refine em_geta 26 rfl q1168 dX2_duals_13 hi ?_
      refine eg_iload_n 1 dX2_duals_16 rfl rfl ?_
      refine eg_iconst dX2_duals_17 kc_0 ?_
      obtain ⟨hb, h⟩ := h
      refine em_zast 26 rfl hb dX2_duals_18 hi (fun g67 eg67 => ?_)
      replace h := h g67 eg67
      refine eg_iinc (j := 1) (lv' := [(1, .int (x1_64 + 1)), (0, .ref (ad 0))]) dX2_duals_19 rfl (by rw [kc_1]) (Nat.le_of_ble_eq_true rfl) rfl ?_
      refine eg_goto dX2_duals_22 ?_
      exact eg_sub [1, 0] rfl (hr66 (x1_64 + 1) g67 h)
def MX2_dual (σ : eb_MS) (a1 : Int32) (a2 : Int32) (K : Int32 → eb_MS → Prop) : Prop :=
  ms_ws σ 0 0 (fun g1 => MX2_in a2 0 2 (fun v2 => eb_br (v2 = 0) (K (-2) g1) (MX2_refusesThree g1 a1 (fun v4 g5 => eb_br (0 ≤ v4) (MX2_duals g5  (fun v6 g7 => eb_br (a2 = 0) (K v6 g7) (eb_br (a2 = 1) (MX2_joinsAll g7 v6 (fun v8 => K v8 g7)) (K (g7.1 16) g7)))) (K v4 g5)))))
abbrev rmX2_dual : Room := { frames := 7, cells := 0, slots := 0, locals := 165 }
theorem nX2_dual : eb_ar yX2_dual 2 := by decide +kernel
theorem dX2_dual_0 : eb_dc cX2_dual 0 (.aload_n 0) 1 1 := by decide +kernel
theorem dX2_dual_1 : eb_dc cX2_dual 1 (.iconst 0) 1 2 := by decide +kernel
theorem dX2_dual_2 : eb_dc cX2_dual 2 (.putfield 106) 3 5 := by decide +kernel
theorem dX2_dual_5 : eb_dc cX2_dual 5 (.iload_n 2) 1 6 := by decide +kernel
theorem dX2_dual_6 : eb_dc cX2_dual 6 (.iconst 0) 1 7 := by decide +kernel
theorem dX2_dual_7 : eb_dc cX2_dual 7 (.iconst 2) 1 8 := by decide +kernel
theorem dX2_dual_8 : eb_dc cX2_dual 8 (.invokestatic 109) 3 11 := by decide +kernel
theorem dX2_dual_11 : eb_dj cX2_dual 11 (.ifCond .ne 6) 6 14 17 := by decide +kernel
theorem dX2_dual_14 : eb_dc cX2_dual 14 (.bipush (-2)) 2 16 := by decide +kernel
theorem dX2_dual_16 : eb_dc cX2_dual 16 (.ireturn) 1 17 := by decide +kernel
theorem dX2_dual_17 : eb_dc cX2_dual 17 (.aload_n 0) 1 18 := by decide +kernel
theorem dX2_dual_18 : eb_dc cX2_dual 18 (.iload_n 1) 1 19 := by decide +kernel
theorem dX2_dual_19 : eb_dc cX2_dual 19 (.invokevirtual 235) 3 22 := by decide +kernel
theorem dX2_dual_22 : eb_dc cX2_dual 22 (.istore_n 3) 1 23 := by decide +kernel
theorem dX2_dual_23 : eb_dc cX2_dual 23 (.iload_n 3) 1 24 := by decide +kernel
theorem dX2_dual_24 : eb_dj cX2_dual 24 (.ifCond .ge 5) 5 27 29 := by decide +kernel
theorem dX2_dual_27 : eb_dc cX2_dual 27 (.iload_n 3) 1 28 := by decide +kernel
theorem dX2_dual_28 : eb_dc cX2_dual 28 (.ireturn) 1 29 := by decide +kernel
theorem dX2_dual_29 : eb_dc cX2_dual 29 (.aload_n 0) 1 30 := by decide +kernel
theorem dX2_dual_30 : eb_dc cX2_dual 30 (.invokevirtual 257) 3 33 := by decide +kernel
theorem dX2_dual_33 : eb_dc cX2_dual 33 (.istore 4) 2 35 := by decide +kernel
theorem dX2_dual_35 : eb_dc cX2_dual 35 (.iload_n 2) 1 36 := by decide +kernel
theorem dX2_dual_36 : eb_dj cX2_dual 36 (.ifCond .ne 8) 8 39 44 := by decide +kernel
theorem dX2_dual_39 : eb_dc cX2_dual 39 (.iload 4) 2 41 := by decide +kernel
theorem dX2_dual_41 : eb_dj cX2_dual 41 (.goto 21) 21 44 62 := by decide +kernel
theorem dX2_dual_44 : eb_dc cX2_dual 44 (.iload_n 2) 1 45 := by decide +kernel
theorem dX2_dual_45 : eb_dc cX2_dual 45 (.iconst 1) 1 46 := by decide +kernel
theorem dX2_dual_46 : eb_dj cX2_dual 46 (.if_icmp .ne 12) 12 49 58 := by decide +kernel
theorem dX2_dual_49 : eb_dc cX2_dual 49 (.aload_n 0) 1 50 := by decide +kernel
theorem dX2_dual_50 : eb_dc cX2_dual 50 (.iload 4) 2 52 := by decide +kernel
theorem dX2_dual_52 : eb_dc cX2_dual 52 (.invokevirtual 251) 3 55 := by decide +kernel
theorem dX2_dual_55 : eb_dj cX2_dual 55 (.goto 7) 7 58 62 := by decide +kernel
theorem dX2_dual_58 : eb_dc cX2_dual 58 (.aload_n 0) 1 59 := by decide +kernel
theorem dX2_dual_59 : eb_dc cX2_dual 59 (.getfield 161) 3 62 := by decide +kernel
theorem dX2_dual_62 : eb_dc cX2_dual 62 (.ireturn) 1 63 := by decide +kernel
theorem ctX2_dual {l : Launch} {Γ : eb_C} {ad : Nat → Nat} {ix : Nat → Option Nat} {σ : eb_MS} {a1 : Int32} {a2 : Int32} {K : Int32 → eb_MS → Prop} (hi : ms_inv ad ix) (h : MX2_dual σ a1 a2 K) : eb_Ct l Γ yX2_dual cX2_dual 5 (some .int) rmX2_dual [.ref (ad 0), .int a1, .int a2] (ms_st Γ ad ix σ) (em_I Γ ad ix K) := by
  refine eb_of (by decide) (Nat.le_of_ble_eq_true rfl) (fun X P hP _ => ?_)
  show eb_G l Γ P X cX2_dual RX2 5 (some .int) rmX2_dual 0 [(0, .ref (ad 0)), (1, .int a1), (2, .int a2)] [] (ms_st Γ ad ix σ) 0 0
  refine eg_aload_n 0 dX2_dual_0 rfl rfl ?_
  refine eg_iconst dX2_dual_1 kc_0 ?_
  refine em_puts 0 rfl q1142 dX2_dual_2 hi (fun g1 eg1 => ?_)
  replace h := h g1 eg1
  refine eg_iload_n 2 dX2_dual_5 rfl rfl ?_
  refine eg_iconst dX2_dual_6 kc_0 ?_
  refine eg_iconst dX2_dual_7 kc_2 ?_
  refine eg_csp (rest := []) (ctX2_in h) (lw_S q1255 q1256 q77 q1257) nX2_in ⟨Nat.le_of_ble_eq_true rfl, Nat.le_of_ble_eq_true rfl⟩ ⟨rfl, rfl⟩ ⟨Nat.zero_le _, Nat.zero_le _⟩ rfl rfl (Nat.le_of_ble_eq_true rfl) dX2_dual_8 (fun v2 h => ?_)
  refine eg_if_ne dX2_dual_11 (fun c13 => ?_) (fun c13 => ?_)
  · replace h := h.2 c13
    refine eg_aload_n 0 dX2_dual_17 rfl rfl ?_
    refine eg_iload_n 1 dX2_dual_18 rfl rfl ?_
    refine em_cvi (rest := []) (ctX2_refusesThree hi h) hi (lw_V q1485 q1487 qs59 q77 q1488) rfl nX2_refusesThree ⟨Nat.le_of_ble_eq_true rfl, Nat.le_of_ble_eq_true rfl⟩ ⟨rfl, rfl⟩ ⟨Nat.zero_le _, Nat.zero_le _⟩ rfl rfl (Nat.le_of_ble_eq_true rfl) dX2_dual_19 (fun v4 g5 h => ?_)
    refine eg_istore_n (lv' := [(3, .int v4), (0, .ref (ad 0)), (1, .int a1), (2, .int a2)]) dX2_dual_22 rfl (Nat.le_of_ble_eq_true rfl) rfl ?_
    refine eg_iload_n 0 dX2_dual_23 rfl rfl ?_
    refine eg_if_ge dX2_dual_24 (fun c12 => ?_) (fun c12 => ?_)
    · replace h := h.1 c12
      refine eg_aload_n 1 dX2_dual_29 rfl rfl ?_
      refine em_cvi (rest := []) (ctX2_duals hi h) hi (lw_V q1569 q1571 qs72 q77 q1572) rfl nX2_duals ⟨Nat.le_of_ble_eq_true rfl, Nat.le_of_ble_eq_true rfl⟩ ⟨rfl, rfl⟩ ⟨Nat.zero_le _, Nat.zero_le _⟩ rfl rfl (Nat.le_of_ble_eq_true rfl) dX2_dual_30 (fun v6 g7 h => ?_)
      refine eg_istore (lv' := [(4, .int v6), (3, .int v4), (0, .ref (ad 0)), (1, .int a1), (2, .int a2)]) dX2_dual_33 (Nat.le_of_ble_eq_true rfl) rfl ?_
      refine eg_iload_n 4 dX2_dual_35 rfl rfl ?_
      refine eg_if_ne dX2_dual_36 (fun c11 => ?_) (fun c11 => ?_)
      · replace h := h.2 c11
        refine eg_iload_n 4 dX2_dual_44 rfl rfl ?_
        refine eg_iconst dX2_dual_45 kc_1 ?_
        refine eg_icmp_ne dX2_dual_46 (fun c10 => ?_) (fun c10 => ?_)
        · replace h := h.2 c10
          refine eg_aload_n 2 dX2_dual_58 rfl rfl ?_
          refine em_gets 16 rfl q1158 dX2_dual_59 hi ?_
          exact eg_iret dX2_dual_62 (Nat.zero_le _) (Nat.zero_le _) (hP _ _ ⟨_, _, rfl, rfl, h⟩)
        · replace h := h.1 c10
          refine eg_aload_n 2 dX2_dual_49 rfl rfl ?_
          refine eg_iload 0 dX2_dual_50 rfl ?_
          refine em_cvp (rest := []) (ctX2_joinsAll hi h) hi (lw_V q1541 q1543 qs70 q77 q1544) rfl nX2_joinsAll ⟨Nat.le_of_ble_eq_true rfl, Nat.le_of_ble_eq_true rfl⟩ ⟨rfl, rfl⟩ ⟨Nat.zero_le _, Nat.zero_le _⟩ rfl rfl (Nat.le_of_ble_eq_true rfl) dX2_dual_52 (fun v8 h => ?_)
          refine eg_goto dX2_dual_55 ?_
          exact eg_iret dX2_dual_62 (Nat.zero_le _) (Nat.zero_le _) (hP _ _ ⟨_, _, rfl, rfl, h⟩)
      · replace h := h.1 c11
        refine eg_iload 0 dX2_dual_39 rfl ?_
        refine eg_goto dX2_dual_41 ?_
        exact eg_iret dX2_dual_62 (Nat.zero_le _) (Nat.zero_le _) (hP _ _ ⟨_, _, rfl, rfl, h⟩)
    · replace h := h.2 c12
      refine eg_iload_n 0 dX2_dual_27 rfl rfl ?_
      exact eg_iret dX2_dual_28 (Nat.zero_le _) (Nat.zero_le _) (hP _ _ ⟨_, _, rfl, rfl, h⟩)
  · replace h := h.1 c13
    refine eg_bipush dX2_dual_14 kb_m2 ?_
    exact eg_iret dX2_dual_16 (Nat.zero_le _) (Nat.zero_le _) (hP _ _ ⟨_, _, rfl, rfl, h⟩)
def MX2_dualDegree (σ : eb_MS) (a1 : Int32) (a2 : Int32) (K : Int32 → eb_MS → Prop) : Prop :=
  ms_ws σ 0 0 (fun g1 => eb_br (0 ≤ a2) (MX2_refusesThree g1 a1 (fun v2 g3 => eb_br (0 ≤ v2) (MX2_duals g3  (fun v4 g5 => eb_loop2 (fun r8 (x5_6 : Int32) (x6_7 : Int32) => eb_br (v4 ≤ x6_7) (K x5_6 g5) (MX2_degreeOf g5 x6_7 v4 (fun v9 => eb_jp1 (fun (s11 : Int32) => r8 (x5_6 + s11) (x6_7 + 1)) (fun k12 => eb_br (v9 = a2) (k12 1) (k12 0))))) 0 0)) (K v2 g3))) (K (-2) g1))
abbrev rmX2_dualDegree : Room := { frames := 7, cells := 0, slots := 0, locals := 165 }
theorem nX2_dualDegree : eb_ar yX2_dualDegree 2 := by decide +kernel
theorem dX2_dualDegree_0 : eb_dc cX2_dualDegree 0 (.aload_n 0) 1 1 := by decide +kernel
theorem dX2_dualDegree_1 : eb_dc cX2_dualDegree 1 (.iconst 0) 1 2 := by decide +kernel
theorem dX2_dualDegree_2 : eb_dc cX2_dualDegree 2 (.putfield 106) 3 5 := by decide +kernel
theorem dX2_dualDegree_5 : eb_dc cX2_dualDegree 5 (.iload_n 2) 1 6 := by decide +kernel
theorem dX2_dualDegree_6 : eb_dj cX2_dualDegree 6 (.ifCond .ge 6) 6 9 12 := by decide +kernel
theorem dX2_dualDegree_9 : eb_dc cX2_dualDegree 9 (.bipush (-2)) 2 11 := by decide +kernel
theorem dX2_dualDegree_11 : eb_dc cX2_dualDegree 11 (.ireturn) 1 12 := by decide +kernel
theorem dX2_dualDegree_12 : eb_dc cX2_dualDegree 12 (.aload_n 0) 1 13 := by decide +kernel
theorem dX2_dualDegree_13 : eb_dc cX2_dualDegree 13 (.iload_n 1) 1 14 := by decide +kernel
theorem dX2_dualDegree_14 : eb_dc cX2_dualDegree 14 (.invokevirtual 235) 3 17 := by decide +kernel
theorem dX2_dualDegree_17 : eb_dc cX2_dualDegree 17 (.istore_n 3) 1 18 := by decide +kernel
theorem dX2_dualDegree_18 : eb_dc cX2_dualDegree 18 (.iload_n 3) 1 19 := by decide +kernel
theorem dX2_dualDegree_19 : eb_dj cX2_dualDegree 19 (.ifCond .ge 5) 5 22 24 := by decide +kernel
theorem dX2_dualDegree_22 : eb_dc cX2_dualDegree 22 (.iload_n 3) 1 23 := by decide +kernel
theorem dX2_dualDegree_23 : eb_dc cX2_dualDegree 23 (.ireturn) 1 24 := by decide +kernel
theorem dX2_dualDegree_24 : eb_dc cX2_dualDegree 24 (.aload_n 0) 1 25 := by decide +kernel
theorem dX2_dualDegree_25 : eb_dc cX2_dualDegree 25 (.invokevirtual 257) 3 28 := by decide +kernel
theorem dX2_dualDegree_28 : eb_dc cX2_dualDegree 28 (.istore 4) 2 30 := by decide +kernel
theorem dX2_dualDegree_30 : eb_dc cX2_dualDegree 30 (.iconst 0) 1 31 := by decide +kernel
theorem dX2_dualDegree_31 : eb_dc cX2_dualDegree 31 (.istore 5) 2 33 := by decide +kernel
theorem dX2_dualDegree_33 : eb_dc cX2_dualDegree 33 (.iconst 0) 1 34 := by decide +kernel
theorem dX2_dualDegree_34 : eb_dc cX2_dualDegree 34 (.istore 6) 2 36 := by decide +kernel
theorem dX2_dualDegree_36 : eb_dc cX2_dualDegree 36 (.iload 6) 2 38 := by decide +kernel
theorem dX2_dualDegree_38 : eb_dc cX2_dualDegree 38 (.iload 4) 2 40 := by decide +kernel
theorem dX2_dualDegree_40 : eb_dj cX2_dualDegree 40 (.if_icmp .ge 31) 31 43 71 := by decide +kernel
theorem dX2_dualDegree_43 : eb_dc cX2_dualDegree 43 (.iload 5) 2 45 := by decide +kernel
theorem dX2_dualDegree_45 : eb_dc cX2_dualDegree 45 (.aload_n 0) 1 46 := by decide +kernel
theorem dX2_dualDegree_46 : eb_dc cX2_dualDegree 46 (.iload 6) 2 48 := by decide +kernel
theorem dX2_dualDegree_48 : eb_dc cX2_dualDegree 48 (.iload 4) 2 50 := by decide +kernel
theorem dX2_dualDegree_50 : eb_dc cX2_dualDegree 50 (.invokevirtual 206) 3 53 := by decide +kernel
theorem dX2_dualDegree_53 : eb_dc cX2_dualDegree 53 (.iload_n 2) 1 54 := by decide +kernel
theorem dX2_dualDegree_54 : eb_dj cX2_dualDegree 54 (.if_icmp .ne 7) 7 57 61 := by decide +kernel
theorem dX2_dualDegree_57 : eb_dc cX2_dualDegree 57 (.iconst 1) 1 58 := by decide +kernel
theorem dX2_dualDegree_58 : eb_dj cX2_dualDegree 58 (.goto 4) 4 61 62 := by decide +kernel
theorem dX2_dualDegree_61 : eb_dc cX2_dualDegree 61 (.iconst 0) 1 62 := by decide +kernel
theorem dX2_dualDegree_62 : eb_dc cX2_dualDegree 62 (.iadd) 1 63 := by decide +kernel
theorem dX2_dualDegree_63 : eb_dc cX2_dualDegree 63 (.istore 5) 2 65 := by decide +kernel
theorem dX2_dualDegree_65 : eb_dc cX2_dualDegree 65 (.iinc 6 1) 3 68 := by decide +kernel
theorem dX2_dualDegree_68 : eb_dj cX2_dualDegree 68 (.goto (-32)) (-32) 71 36 := by decide +kernel
theorem dX2_dualDegree_71 : eb_dc cX2_dualDegree 71 (.iload 5) 2 73 := by decide +kernel
theorem dX2_dualDegree_73 : eb_dc cX2_dualDegree 73 (.ireturn) 1 74 := by decide +kernel
theorem ctX2_dualDegree {l : Launch} {Γ : eb_C} {ad : Nat → Nat} {ix : Nat → Option Nat} {σ : eb_MS} {a1 : Int32} {a2 : Int32} {K : Int32 → eb_MS → Prop} (hi : ms_inv ad ix) (h : MX2_dualDegree σ a1 a2 K) : eb_Ct l Γ yX2_dualDegree cX2_dualDegree 7 (some .int) rmX2_dualDegree [.ref (ad 0), .int a1, .int a2] (ms_st Γ ad ix σ) (em_I Γ ad ix K) := by
  refine eb_of (by decide) (Nat.le_of_ble_eq_true rfl) (fun X P hP _ => ?_)
  show eb_G l Γ P X cX2_dualDegree RX2 7 (some .int) rmX2_dualDegree 0 [(0, .ref (ad 0)), (1, .int a1), (2, .int a2)] [] (ms_st Γ ad ix σ) 0 0
  refine eg_aload_n 0 dX2_dualDegree_0 rfl rfl ?_
  refine eg_iconst dX2_dualDegree_1 kc_0 ?_
  refine em_puts 0 rfl q1142 dX2_dualDegree_2 hi (fun g1 eg1 => ?_)
  replace h := h g1 eg1
  refine eg_iload_n 2 dX2_dualDegree_5 rfl rfl ?_
  refine eg_if_ge dX2_dualDegree_6 (fun c16 => ?_) (fun c16 => ?_)
  · replace h := h.1 c16
    refine eg_aload_n 0 dX2_dualDegree_12 rfl rfl ?_
    refine eg_iload_n 1 dX2_dualDegree_13 rfl rfl ?_
    refine em_cvi (rest := []) (ctX2_refusesThree hi h) hi (lw_V q1485 q1487 qs59 q77 q1488) rfl nX2_refusesThree ⟨Nat.le_of_ble_eq_true rfl, Nat.le_of_ble_eq_true rfl⟩ ⟨rfl, rfl⟩ ⟨Nat.zero_le _, Nat.zero_le _⟩ rfl rfl (Nat.le_of_ble_eq_true rfl) dX2_dualDegree_14 (fun v2 g3 h => ?_)
    refine eg_istore_n (lv' := [(3, .int v2), (0, .ref (ad 0)), (1, .int a1), (2, .int a2)]) dX2_dualDegree_17 rfl (Nat.le_of_ble_eq_true rfl) rfl ?_
    refine eg_iload_n 0 dX2_dualDegree_18 rfl rfl ?_
    refine eg_if_ge dX2_dualDegree_19 (fun c15 => ?_) (fun c15 => ?_)
    · replace h := h.1 c15
      refine eg_aload_n 1 dX2_dualDegree_24 rfl rfl ?_
      refine em_cvi (rest := []) (ctX2_duals hi h) hi (lw_V q1569 q1571 qs72 q77 q1572) rfl nX2_duals ⟨Nat.le_of_ble_eq_true rfl, Nat.le_of_ble_eq_true rfl⟩ ⟨rfl, rfl⟩ ⟨Nat.zero_le _, Nat.zero_le _⟩ rfl rfl (Nat.le_of_ble_eq_true rfl) dX2_dualDegree_25 (fun v4 g5 h => ?_)
      refine eg_istore (lv' := [(4, .int v4), (3, .int v2), (0, .ref (ad 0)), (1, .int a1), (2, .int a2)]) dX2_dualDegree_28 (Nat.le_of_ble_eq_true rfl) rfl ?_
      refine eg_iconst dX2_dualDegree_30 kc_0 ?_
      refine eg_istore (lv' := [(5, .int 0), (4, .int v4), (3, .int v2), (0, .ref (ad 0)), (1, .int a1), (2, .int a2)]) dX2_dualDegree_31 (Nat.le_of_ble_eq_true rfl) rfl ?_
      refine eg_iconst dX2_dualDegree_33 kc_0 ?_
      refine eg_istore (lv' := [(6, .int 0), (5, .int 0), (4, .int v4), (3, .int v2), (0, .ref (ad 0)), (1, .int a1), (2, .int a2)]) dX2_dualDegree_34 (Nat.le_of_ble_eq_true rfl) rfl ?_
      refine eg_sub [4, 6, 2, 1, 0] rfl ?_
      refine eb_loop2_e (J := fun (x5_6 : Int32) (x6_7 : Int32) => eb_G l Γ P X cX2_dualDegree RX2 7 (some .int) rmX2_dualDegree 36 [(0, .ref (ad 0)), (2, .int a2), (4, .int v4), (5, .int x5_6), (6, .int x6_7)] [] (ms_st Γ ad ix g5) 0 0) h ?_
      intro r8 hr8 x5_6 x6_7 h
      refine eg_iload 4 dX2_dualDegree_36 rfl ?_
      refine eg_iload 2 dX2_dualDegree_38 rfl ?_
      refine eg_icmp_ge dX2_dualDegree_40 (fun c14 => ?_) (fun c14 => ?_)
      · replace h := h.1 c14
        refine eg_iload 3 dX2_dualDegree_71 rfl ?_
        exact eg_iret dX2_dualDegree_73 (Nat.zero_le _) (Nat.zero_le _) (hP _ _ ⟨_, _, rfl, rfl, h⟩)
      · replace h := h.2 c14
        refine eg_iload 3 dX2_dualDegree_43 rfl ?_
        refine eg_aload_n 0 dX2_dualDegree_45 rfl rfl ?_
        refine eg_iload 4 dX2_dualDegree_46 rfl ?_
        refine eg_iload 2 dX2_dualDegree_48 rfl ?_
        refine em_cvp (rest := [.int x5_6]) (ctX2_degreeOf hi h) hi (lw_V q1456 q1458 qs57 q77 q1459) rfl nX2_degreeOf ⟨Nat.le_of_ble_eq_true rfl, Nat.le_of_ble_eq_true rfl⟩ ⟨rfl, rfl⟩ ⟨Nat.zero_le _, Nat.zero_le _⟩ rfl rfl (Nat.le_of_ble_eq_true rfl) dX2_dualDegree_50 (fun v9 h => ?_)
        refine eg_iload_n 1 dX2_dualDegree_53 rfl rfl ?_
        refine eb_jp1_e (J := fun (s11 : Int32) => eb_G l Γ P X cX2_dualDegree RX2 7 (some .int) rmX2_dualDegree 62 [(0, .ref (ad 0)), (2, .int a2), (4, .int v4), (6, .int x6_7)] [.int s11, .int x5_6] (ms_st Γ ad ix g5) 0 0) h ?_ ?_
        · intro s11 h
          refine eg_iadd dX2_dualDegree_62 ?_
          refine eg_istore (lv' := [(5, .int (x5_6 + s11)), (0, .ref (ad 0)), (2, .int a2), (4, .int v4), (6, .int x6_7)]) dX2_dualDegree_63 (Nat.le_of_ble_eq_true rfl) rfl ?_
          refine eg_iinc (j := 4) (lv' := [(6, .int (x6_7 + 1)), (5, .int (x5_6 + s11)), (0, .ref (ad 0)), (2, .int a2), (4, .int v4)]) dX2_dualDegree_65 rfl (by rw [kc_1]) (Nat.le_of_ble_eq_true rfl) rfl ?_
          refine eg_goto dX2_dualDegree_68 ?_
          exact eg_sub [2, 3, 4, 1, 0] rfl (hr8 (x5_6 + s11) (x6_7 + 1) h)
        · intro k12 hk12 h
          refine eg_icmp_ne dX2_dualDegree_54 (fun c13 => ?_) (fun c13 => ?_)
          · replace h := h.2 c13
            refine eg_iconst dX2_dualDegree_61 kc_0 ?_
            exact eg_sub [0, 1, 2, 4] rfl (hk12 0 h)
          · replace h := h.1 c13
            refine eg_iconst dX2_dualDegree_57 kc_1 ?_
            refine eg_goto dX2_dualDegree_58 ?_
            exact eg_sub [0, 1, 2, 4] rfl (hk12 1 h)
    · replace h := h.2 c15
      refine eg_iload_n 0 dX2_dualDegree_22 rfl rfl ?_
      exact eg_iret dX2_dualDegree_23 (Nat.zero_le _) (Nat.zero_le _) (hP _ _ ⟨_, _, rfl, rfl, h⟩)
  · replace h := h.2 c16
    refine eg_bipush dX2_dualDegree_9 kb_m2 ?_
    exact eg_iret dX2_dualDegree_11 (Nat.zero_le _) (Nat.zero_le _) (hP _ _ ⟨_, _, rfl, rfl, h⟩)
def MX2_dualFar (σ : eb_MS) (a1 : Int32) (K : Int32 → eb_MS → Prop) : Prop :=
  ms_ws σ 0 0 (fun g1 => MX2_refusesThree g1 a1 (fun v2 g3 => eb_br (0 ≤ v2) (MX2_duals g3  (fun v4 g5 => eb_loop3 (fun r9 (x4_6 : Int32) (x5_7 : Int32) (g8 : eb_MS) => eb_br (v4 ≤ x5_7) (K x4_6 g8) (MX2_walks g8 x5_7 v4 (fun g11 => eb_jp1 (fun (x4_12 : Int32) => r9 x4_12 (x5_7 + 1) g11) (fun k13 => eb_loop2 (fun r16 (x4_14 : Int32) (x6_15 : Int32) => eb_br (v4 ≤ x6_15) (k13 x4_14) (eb_rd (g11.2.1 22) 500 x6_15 (fun v17 => eb_jp1 (fun (s18 : Int32) => r16 s18 (x6_15 + 1)) (fun k19 => eb_br (v17 ≤ x4_14) (k19 x4_14) (eb_rd (g11.2.1 22) 500 x6_15 (fun v20 => k19 v20)))))) x4_6 0)))) 0 0 g5)) (K v2 g3)))
abbrev rmX2_dualFar : Room := { frames := 7, cells := 0, slots := 0, locals := 165 }
theorem nX2_dualFar : eb_ar yX2_dualFar 1 := by decide +kernel
theorem dX2_dualFar_0 : eb_dc cX2_dualFar 0 (.aload_n 0) 1 1 := by decide +kernel
theorem dX2_dualFar_1 : eb_dc cX2_dualFar 1 (.iconst 0) 1 2 := by decide +kernel
theorem dX2_dualFar_2 : eb_dc cX2_dualFar 2 (.putfield 106) 3 5 := by decide +kernel
theorem dX2_dualFar_5 : eb_dc cX2_dualFar 5 (.aload_n 0) 1 6 := by decide +kernel
theorem dX2_dualFar_6 : eb_dc cX2_dualFar 6 (.iload_n 1) 1 7 := by decide +kernel
theorem dX2_dualFar_7 : eb_dc cX2_dualFar 7 (.invokevirtual 235) 3 10 := by decide +kernel
theorem dX2_dualFar_10 : eb_dc cX2_dualFar 10 (.istore_n 2) 1 11 := by decide +kernel
theorem dX2_dualFar_11 : eb_dc cX2_dualFar 11 (.iload_n 2) 1 12 := by decide +kernel
theorem dX2_dualFar_12 : eb_dj cX2_dualFar 12 (.ifCond .ge 5) 5 15 17 := by decide +kernel
theorem dX2_dualFar_15 : eb_dc cX2_dualFar 15 (.iload_n 2) 1 16 := by decide +kernel
theorem dX2_dualFar_16 : eb_dc cX2_dualFar 16 (.ireturn) 1 17 := by decide +kernel
theorem dX2_dualFar_17 : eb_dc cX2_dualFar 17 (.aload_n 0) 1 18 := by decide +kernel
theorem dX2_dualFar_18 : eb_dc cX2_dualFar 18 (.invokevirtual 257) 3 21 := by decide +kernel
theorem dX2_dualFar_21 : eb_dc cX2_dualFar 21 (.istore_n 3) 1 22 := by decide +kernel
theorem dX2_dualFar_22 : eb_dc cX2_dualFar 22 (.iconst 0) 1 23 := by decide +kernel
theorem dX2_dualFar_23 : eb_dc cX2_dualFar 23 (.istore 4) 2 25 := by decide +kernel
theorem dX2_dualFar_25 : eb_dc cX2_dualFar 25 (.iconst 0) 1 26 := by decide +kernel
theorem dX2_dualFar_26 : eb_dc cX2_dualFar 26 (.istore 5) 2 28 := by decide +kernel
theorem dX2_dualFar_28 : eb_dc cX2_dualFar 28 (.iload 5) 2 30 := by decide +kernel
theorem dX2_dualFar_30 : eb_dc cX2_dualFar 30 (.iload_n 3) 1 31 := by decide +kernel
theorem dX2_dualFar_31 : eb_dj cX2_dualFar 31 (.if_icmp .ge 57) 57 34 88 := by decide +kernel
theorem dX2_dualFar_34 : eb_dc cX2_dualFar 34 (.aload_n 0) 1 35 := by decide +kernel
theorem dX2_dualFar_35 : eb_dc cX2_dualFar 35 (.iload 5) 2 37 := by decide +kernel
theorem dX2_dualFar_37 : eb_dc cX2_dualFar 37 (.iload_n 3) 1 38 := by decide +kernel
theorem dX2_dualFar_38 : eb_dc cX2_dualFar 38 (.invokevirtual 209) 3 41 := by decide +kernel
theorem dX2_dualFar_41 : eb_dc cX2_dualFar 41 (.iconst 0) 1 42 := by decide +kernel
theorem dX2_dualFar_42 : eb_dc cX2_dualFar 42 (.istore 6) 2 44 := by decide +kernel
theorem dX2_dualFar_44 : eb_dc cX2_dualFar 44 (.iload 6) 2 46 := by decide +kernel
theorem dX2_dualFar_46 : eb_dc cX2_dualFar 46 (.iload_n 3) 1 47 := by decide +kernel
theorem dX2_dualFar_47 : eb_dj cX2_dualFar 47 (.if_icmp .ge 35) 35 50 82 := by decide +kernel
theorem dX2_dualFar_50 : eb_dc cX2_dualFar 50 (.aload_n 0) 1 51 := by decide +kernel
theorem dX2_dualFar_51 : eb_dc cX2_dualFar 51 (.getfield 59) 3 54 := by decide +kernel
theorem dX2_dualFar_54 : eb_dc cX2_dualFar 54 (.iload 6) 2 56 := by decide +kernel
theorem dX2_dualFar_56 : eb_dc cX2_dualFar 56 (.iaload) 1 57 := by decide +kernel
theorem dX2_dualFar_57 : eb_dc cX2_dualFar 57 (.iload 4) 2 59 := by decide +kernel
theorem dX2_dualFar_59 : eb_dj cX2_dualFar 59 (.if_icmp .le 13) 13 62 72 := by decide +kernel
theorem dX2_dualFar_62 : eb_dc cX2_dualFar 62 (.aload_n 0) 1 63 := by decide +kernel
theorem dX2_dualFar_63 : eb_dc cX2_dualFar 63 (.getfield 59) 3 66 := by decide +kernel
theorem dX2_dualFar_66 : eb_dc cX2_dualFar 66 (.iload 6) 2 68 := by decide +kernel
theorem dX2_dualFar_68 : eb_dc cX2_dualFar 68 (.iaload) 1 69 := by decide +kernel
theorem dX2_dualFar_69 : eb_dj cX2_dualFar 69 (.goto 5) 5 72 74 := by decide +kernel
theorem dX2_dualFar_72 : eb_dc cX2_dualFar 72 (.iload 4) 2 74 := by decide +kernel
theorem dX2_dualFar_74 : eb_dc cX2_dualFar 74 (.istore 4) 2 76 := by decide +kernel
theorem dX2_dualFar_76 : eb_dc cX2_dualFar 76 (.iinc 6 1) 3 79 := by decide +kernel
theorem dX2_dualFar_79 : eb_dj cX2_dualFar 79 (.goto (-35)) (-35) 82 44 := by decide +kernel
theorem dX2_dualFar_82 : eb_dc cX2_dualFar 82 (.iinc 5 1) 3 85 := by decide +kernel
theorem dX2_dualFar_85 : eb_dj cX2_dualFar 85 (.goto (-57)) (-57) 88 28 := by decide +kernel
theorem dX2_dualFar_88 : eb_dc cX2_dualFar 88 (.iload 4) 2 90 := by decide +kernel
theorem dX2_dualFar_90 : eb_dc cX2_dualFar 90 (.ireturn) 1 91 := by decide +kernel
theorem ctX2_dualFar {l : Launch} {Γ : eb_C} {ad : Nat → Nat} {ix : Nat → Option Nat} {σ : eb_MS} {a1 : Int32} {K : Int32 → eb_MS → Prop} (hi : ms_inv ad ix) (h : MX2_dualFar σ a1 K) : eb_Ct l Γ yX2_dualFar cX2_dualFar 7 (some .int) rmX2_dualFar [.ref (ad 0), .int a1] (ms_st Γ ad ix σ) (em_I Γ ad ix K) := by
  refine eb_of (by decide) (Nat.le_of_ble_eq_true rfl) (fun X P hP _ => ?_)
  show eb_G l Γ P X cX2_dualFar RX2 7 (some .int) rmX2_dualFar 0 [(0, .ref (ad 0)), (1, .int a1)] [] (ms_st Γ ad ix σ) 0 0
  refine eg_aload_n 0 dX2_dualFar_0 rfl rfl ?_
  refine eg_iconst dX2_dualFar_1 kc_0 ?_
  refine em_puts 0 rfl q1142 dX2_dualFar_2 hi (fun g1 eg1 => ?_)
  replace h := h g1 eg1
  refine eg_aload_n 0 dX2_dualFar_5 rfl rfl ?_
  refine eg_iload_n 1 dX2_dualFar_6 rfl rfl ?_
  refine em_cvi (rest := []) (ctX2_refusesThree hi h) hi (lw_V q1485 q1487 qs59 q77 q1488) rfl nX2_refusesThree ⟨Nat.le_of_ble_eq_true rfl, Nat.le_of_ble_eq_true rfl⟩ ⟨rfl, rfl⟩ ⟨Nat.zero_le _, Nat.zero_le _⟩ rfl rfl (Nat.le_of_ble_eq_true rfl) dX2_dualFar_7 (fun v2 g3 h => ?_)
  refine eg_istore_n (lv' := [(2, .int v2), (0, .ref (ad 0)), (1, .int a1)]) dX2_dualFar_10 rfl (Nat.le_of_ble_eq_true rfl) rfl ?_
  refine eg_iload_n 0 dX2_dualFar_11 rfl rfl ?_
  refine eg_if_ge dX2_dualFar_12 (fun c24 => ?_) (fun c24 => ?_)
  · replace h := h.1 c24
    refine eg_aload_n 1 dX2_dualFar_17 rfl rfl ?_
    refine em_cvi (rest := []) (ctX2_duals hi h) hi (lw_V q1569 q1571 qs72 q77 q1572) rfl nX2_duals ⟨Nat.le_of_ble_eq_true rfl, Nat.le_of_ble_eq_true rfl⟩ ⟨rfl, rfl⟩ ⟨Nat.zero_le _, Nat.zero_le _⟩ rfl rfl (Nat.le_of_ble_eq_true rfl) dX2_dualFar_18 (fun v4 g5 h => ?_)
    refine eg_istore_n (lv' := [(3, .int v4), (2, .int v2), (0, .ref (ad 0)), (1, .int a1)]) dX2_dualFar_21 rfl (Nat.le_of_ble_eq_true rfl) rfl ?_
    refine eg_iconst dX2_dualFar_22 kc_0 ?_
    refine eg_istore (lv' := [(4, .int 0), (3, .int v4), (2, .int v2), (0, .ref (ad 0)), (1, .int a1)]) dX2_dualFar_23 (Nat.le_of_ble_eq_true rfl) rfl ?_
    refine eg_iconst dX2_dualFar_25 kc_0 ?_
    refine eg_istore (lv' := [(5, .int 0), (4, .int 0), (3, .int v4), (2, .int v2), (0, .ref (ad 0)), (1, .int a1)]) dX2_dualFar_26 (Nat.le_of_ble_eq_true rfl) rfl ?_
    refine eg_sub [4, 2, 1, 0] rfl ?_
    refine eb_loop3_e (J := fun (x4_6 : Int32) (x5_7 : Int32) (g8 : eb_MS) => eb_G l Γ P X cX2_dualFar RX2 7 (some .int) rmX2_dualFar 28 [(0, .ref (ad 0)), (3, .int v4), (4, .int x4_6), (5, .int x5_7)] [] (ms_st Γ ad ix g8) 0 0) h ?_
    intro r9 hr9 x4_6 x5_7 g8 h
    refine eg_iload 3 dX2_dualFar_28 rfl ?_
    refine eg_iload_n 1 dX2_dualFar_30 rfl rfl ?_
    refine eg_icmp_ge dX2_dualFar_31 (fun c23 => ?_) (fun c23 => ?_)
    · replace h := h.1 c23
      refine eg_iload 2 dX2_dualFar_88 rfl ?_
      exact eg_iret dX2_dualFar_90 (Nat.zero_le _) (Nat.zero_le _) (hP _ _ ⟨_, _, rfl, rfl, h⟩)
    · replace h := h.2 c23
      refine eg_aload_n 0 dX2_dualFar_34 rfl rfl ?_
      refine eg_iload 3 dX2_dualFar_35 rfl ?_
      refine eg_iload_n 1 dX2_dualFar_37 rfl rfl ?_
      refine em_cvv (rest := []) (ctX2_walks hi h) hi (lw_V q1464 q1466 qs58 q77 q1467) rfl nX2_walks ⟨Nat.le_of_ble_eq_true rfl, Nat.le_of_ble_eq_true rfl⟩ ⟨rfl, rfl⟩ ⟨Nat.zero_le _, Nat.zero_le _⟩ rfl rfl (Nat.le_of_ble_eq_true rfl) dX2_dualFar_38 (fun g11 h => ?_)
      refine eg_iconst dX2_dualFar_41 kc_0 ?_
      refine eg_istore (lv' := [(6, .int 0), (0, .ref (ad 0)), (3, .int v4), (4, .int x4_6), (5, .int x5_7)]) dX2_dualFar_42 (Nat.le_of_ble_eq_true rfl) rfl ?_
      refine eb_jp1_e (J := fun (x4_12 : Int32) => eb_G l Γ P X cX2_dualFar RX2 7 (some .int) rmX2_dualFar 82 [(0, .ref (ad 0)), (3, .int v4), (4, .int x4_12), (5, .int x5_7)] [] (ms_st Γ ad ix g11) 0 0) h ?_ ?_
      · intro x4_12 h
        refine eg_iinc (j := 3) (lv' := [(5, .int (x5_7 + 1)), (0, .ref (ad 0)), (3, .int v4), (4, .int x4_12)]) dX2_dualFar_82 rfl (by rw [kc_1]) (Nat.le_of_ble_eq_true rfl) rfl ?_
        refine eg_goto dX2_dualFar_85 ?_
        exact eg_sub [1, 2, 3, 0] rfl (hr9 x4_12 (x5_7 + 1) g11 h)
      · intro k13 hk13 h
        refine eg_sub [1, 2, 3, 4, 0] rfl ?_
        refine eb_loop2_e (J := fun (x4_14 : Int32) (x6_15 : Int32) => eb_G l Γ P X cX2_dualFar RX2 7 (some .int) rmX2_dualFar 44 [(0, .ref (ad 0)), (3, .int v4), (4, .int x4_14), (5, .int x5_7), (6, .int x6_15)] [] (ms_st Γ ad ix g11) 0 0) h ?_
        intro r16 hr16 x4_14 x6_15 h
        refine eg_iload 4 dX2_dualFar_44 rfl ?_
        refine eg_iload_n 1 dX2_dualFar_46 rfl rfl ?_
        refine eg_icmp_ge dX2_dualFar_47 (fun c22 => ?_) (fun c22 => ?_)
        · replace h := h.1 c22
          exact eg_sub [0, 1, 2, 3] rfl (hk13 x4_14 h)
        · replace h := h.2 c22
          refine eg_aload_n 0 dX2_dualFar_50 rfl rfl ?_
          refine em_geta 22 rfl q1164 dX2_dualFar_51 hi ?_
          refine eg_iload 4 dX2_dualFar_54 rfl ?_
          obtain ⟨hb, h⟩ := h
          refine em_iald 22 rfl hb dX2_dualFar_56 hi (fun v17 ev17 => ?_)
          replace h := h v17 ev17
          refine eg_iload 2 dX2_dualFar_57 rfl ?_
          refine eb_jp1_e (J := fun (s18 : Int32) => eb_G l Γ P X cX2_dualFar RX2 7 (some .int) rmX2_dualFar 74 [(0, .ref (ad 0)), (3, .int v4), (5, .int x5_7), (6, .int x6_15)] [.int s18] (ms_st Γ ad ix g11) 0 0) h ?_ ?_
          · intro s18 h
            refine eg_istore (lv' := [(4, .int s18), (0, .ref (ad 0)), (3, .int v4), (5, .int x5_7), (6, .int x6_15)]) dX2_dualFar_74 (Nat.le_of_ble_eq_true rfl) rfl ?_
            refine eg_iinc (j := 4) (lv' := [(6, .int (x6_15 + 1)), (4, .int s18), (0, .ref (ad 0)), (3, .int v4), (5, .int x5_7)]) dX2_dualFar_76 rfl (by rw [kc_1]) (Nat.le_of_ble_eq_true rfl) rfl ?_
            refine eg_goto dX2_dualFar_79 ?_
            exact eg_sub [2, 3, 1, 4, 0] rfl (hr16 s18 (x6_15 + 1) h)
          · intro k19 hk19 h
            refine eg_icmp_le dX2_dualFar_59 (fun c21 => ?_) (fun c21 => ?_)
            · replace h := h.1 c21
              refine eg_iload 2 dX2_dualFar_72 rfl ?_
              exact eg_sub [0, 1, 3, 4] rfl (hk19 x4_14 h)
            · replace h := h.2 c21
              refine eg_aload_n 0 dX2_dualFar_62 rfl rfl ?_
              refine em_geta 22 rfl q1164 dX2_dualFar_63 hi ?_
              refine eg_iload 4 dX2_dualFar_66 rfl ?_
              obtain ⟨hb, h⟩ := h
              refine em_iald 22 rfl hb dX2_dualFar_68 hi (fun v20 ev20 => ?_)
              replace h := h v20 ev20
              refine eg_goto dX2_dualFar_69 ?_
              exact eg_sub [0, 1, 3, 4] rfl (hk19 v20 h)
  · replace h := h.2 c24
    refine eg_iload_n 0 dX2_dualFar_15 rfl rfl ?_
    exact eg_iret dX2_dualFar_16 (Nat.zero_le _) (Nat.zero_le _) (hP _ _ ⟨_, _, rfl, rfl, h⟩)
def MX2_digest (σ : eb_MS) (K : Int64 → eb_MS → Prop) : Prop :=
  ms_ws σ 0 0 (fun g1 => eb_jp1 (fun (x1_2 : Int64) => K x1_2 g1) (fun k3 => eb_loop2 (fun r6 (x1_4 : Int64) (x3_5 : Int32) => eb_br (4 ≤ x3_5) (k3 x1_4) (eb_rd (g1.2.1 1) 4 x3_5 (fun v7 => eb_jp1 (fun (x1_8 : Int64) => eb_rd (g1.2.1 3) 4 x3_5 (fun v9 => MX2_sizeOf g1 x3_5 (fun v10 => eb_jp1 (fun (s12 : Int32) => eb_let (((31 * ((31 * x1_8) + (Int32.toInt64 v9))) + (Int32.toInt64 s12))) (fun v13 => r6 v13 (x3_5 + 1))) (fun k14 => eb_br (v10 = 0) (k14 (-5)) (k14 v10))))) (fun k16 => eb_loop2 (fun r19 (x1_17 : Int64) (x4_18 : Int32) => eb_rd (g1.2.1 1) 4 x3_5 (fun v20 => eb_br (v20 ≤ x4_18) (k16 x1_17) (eb_jp1 (fun (x1_21 : Int64) => r19 x1_21 (x4_18 + 1)) (fun k22 => eb_loop2 (fun r25 (x1_23 : Int64) (x5_24 : Int32) => eb_rd (g1.2.1 1) 4 x3_5 (fun v26 => eb_br (v26 ≤ x5_24) (k22 x1_23) (MX2_angleOf g1 x3_5 x4_18 x5_24 (fun v27 => r25 (((31 * x1_23) + (Int32.toInt64 v27))) (x5_24 + 1))))) x1_17 (x4_18 + 1))))) (((31 * x1_4) + (Int32.toInt64 v7))) 0)))) 271 0))
abbrev rmX2_digest : Room := { frames := 5, cells := 0, slots := 0, locals := 118 }
theorem nX2_digest : eb_ar yX2_digest 0 := by decide +kernel
theorem dX2_digest_0 : eb_dc cX2_digest 0 (.aload_n 0) 1 1 := by decide +kernel
theorem dX2_digest_1 : eb_dc cX2_digest 1 (.iconst 0) 1 2 := by decide +kernel
theorem dX2_digest_2 : eb_dc cX2_digest 2 (.putfield 106) 3 5 := by decide +kernel
theorem dX2_digest_5 : eb_dc cX2_digest 5 (.ldc2_w 260) 3 8 := by decide +kernel
theorem dX2_digest_8 : eb_dc cX2_digest 8 (.lstore_n 1) 1 9 := by decide +kernel
theorem dX2_digest_9 : eb_dc cX2_digest 9 (.iconst 0) 1 10 := by decide +kernel
theorem dX2_digest_10 : eb_dc cX2_digest 10 (.istore_n 3) 1 11 := by decide +kernel
theorem dX2_digest_11 : eb_dc cX2_digest 11 (.iload_n 3) 1 12 := by decide +kernel
theorem dX2_digest_12 : eb_dc cX2_digest 12 (.iconst 4) 1 13 := by decide +kernel
theorem dX2_digest_13 : eb_dj cX2_digest 13 (.if_icmp .ge 124) 124 16 137 := by decide +kernel
theorem dX2_digest_16 : eb_dc cX2_digest 16 (.ldc2_w 262) 3 19 := by decide +kernel
theorem dX2_digest_19 : eb_dc cX2_digest 19 (.lload_n 1) 1 20 := by decide +kernel
theorem dX2_digest_20 : eb_dc cX2_digest 20 (.lmul) 1 21 := by decide +kernel
theorem dX2_digest_21 : eb_dc cX2_digest 21 (.aload_n 0) 1 22 := by decide +kernel
theorem dX2_digest_22 : eb_dc cX2_digest 22 (.getfield 7) 3 25 := by decide +kernel
theorem dX2_digest_25 : eb_dc cX2_digest 25 (.iload_n 3) 1 26 := by decide +kernel
theorem dX2_digest_26 : eb_dc cX2_digest 26 (.iaload) 1 27 := by decide +kernel
theorem dX2_digest_27 : eb_dc cX2_digest 27 (.i2l) 1 28 := by decide +kernel
theorem dX2_digest_28 : eb_dc cX2_digest 28 (.ladd) 1 29 := by decide +kernel
theorem dX2_digest_29 : eb_dc cX2_digest 29 (.lstore_n 1) 1 30 := by decide +kernel
theorem dX2_digest_30 : eb_dc cX2_digest 30 (.iconst 0) 1 31 := by decide +kernel
theorem dX2_digest_31 : eb_dc cX2_digest 31 (.istore 4) 2 33 := by decide +kernel
theorem dX2_digest_33 : eb_dc cX2_digest 33 (.iload 4) 2 35 := by decide +kernel
theorem dX2_digest_35 : eb_dc cX2_digest 35 (.aload_n 0) 1 36 := by decide +kernel
theorem dX2_digest_36 : eb_dc cX2_digest 36 (.getfield 7) 3 39 := by decide +kernel
theorem dX2_digest_39 : eb_dc cX2_digest 39 (.iload_n 3) 1 40 := by decide +kernel
theorem dX2_digest_40 : eb_dc cX2_digest 40 (.iaload) 1 41 := by decide +kernel
theorem dX2_digest_41 : eb_dj cX2_digest 41 (.if_icmp .ge 49) 49 44 90 := by decide +kernel
theorem dX2_digest_44 : eb_dc cX2_digest 44 (.iload 4) 2 46 := by decide +kernel
theorem dX2_digest_46 : eb_dc cX2_digest 46 (.iconst 1) 1 47 := by decide +kernel
theorem dX2_digest_47 : eb_dc cX2_digest 47 (.iadd) 1 48 := by decide +kernel
theorem dX2_digest_48 : eb_dc cX2_digest 48 (.istore 5) 2 50 := by decide +kernel
theorem dX2_digest_50 : eb_dc cX2_digest 50 (.iload 5) 2 52 := by decide +kernel
theorem dX2_digest_52 : eb_dc cX2_digest 52 (.aload_n 0) 1 53 := by decide +kernel
theorem dX2_digest_53 : eb_dc cX2_digest 53 (.getfield 7) 3 56 := by decide +kernel
theorem dX2_digest_56 : eb_dc cX2_digest 56 (.iload_n 3) 1 57 := by decide +kernel
theorem dX2_digest_57 : eb_dc cX2_digest 57 (.iaload) 1 58 := by decide +kernel
theorem dX2_digest_58 : eb_dj cX2_digest 58 (.if_icmp .ge 26) 26 61 84 := by decide +kernel
theorem dX2_digest_61 : eb_dc cX2_digest 61 (.ldc2_w 262) 3 64 := by decide +kernel
theorem dX2_digest_64 : eb_dc cX2_digest 64 (.lload_n 1) 1 65 := by decide +kernel
theorem dX2_digest_65 : eb_dc cX2_digest 65 (.lmul) 1 66 := by decide +kernel
theorem dX2_digest_66 : eb_dc cX2_digest 66 (.aload_n 0) 1 67 := by decide +kernel
theorem dX2_digest_67 : eb_dc cX2_digest 67 (.iload_n 3) 1 68 := by decide +kernel
theorem dX2_digest_68 : eb_dc cX2_digest 68 (.iload 4) 2 70 := by decide +kernel
theorem dX2_digest_70 : eb_dc cX2_digest 70 (.iload 5) 2 72 := by decide +kernel
theorem dX2_digest_72 : eb_dc cX2_digest 72 (.invokevirtual 121) 3 75 := by decide +kernel
theorem dX2_digest_75 : eb_dc cX2_digest 75 (.i2l) 1 76 := by decide +kernel
theorem dX2_digest_76 : eb_dc cX2_digest 76 (.ladd) 1 77 := by decide +kernel
theorem dX2_digest_77 : eb_dc cX2_digest 77 (.lstore_n 1) 1 78 := by decide +kernel
theorem dX2_digest_78 : eb_dc cX2_digest 78 (.iinc 5 1) 3 81 := by decide +kernel
theorem dX2_digest_81 : eb_dj cX2_digest 81 (.goto (-31)) (-31) 84 50 := by decide +kernel
theorem dX2_digest_84 : eb_dc cX2_digest 84 (.iinc 4 1) 3 87 := by decide +kernel
theorem dX2_digest_87 : eb_dj cX2_digest 87 (.goto (-54)) (-54) 90 33 := by decide +kernel
theorem dX2_digest_90 : eb_dc cX2_digest 90 (.ldc2_w 262) 3 93 := by decide +kernel
theorem dX2_digest_93 : eb_dc cX2_digest 93 (.lload_n 1) 1 94 := by decide +kernel
theorem dX2_digest_94 : eb_dc cX2_digest 94 (.lmul) 1 95 := by decide +kernel
theorem dX2_digest_95 : eb_dc cX2_digest 95 (.aload_n 0) 1 96 := by decide +kernel
theorem dX2_digest_96 : eb_dc cX2_digest 96 (.getfield 16) 3 99 := by decide +kernel
theorem dX2_digest_99 : eb_dc cX2_digest 99 (.iload_n 3) 1 100 := by decide +kernel
theorem dX2_digest_100 : eb_dc cX2_digest 100 (.iaload) 1 101 := by decide +kernel
theorem dX2_digest_101 : eb_dc cX2_digest 101 (.i2l) 1 102 := by decide +kernel
theorem dX2_digest_102 : eb_dc cX2_digest 102 (.ladd) 1 103 := by decide +kernel
theorem dX2_digest_103 : eb_dc cX2_digest 103 (.lstore_n 1) 1 104 := by decide +kernel
theorem dX2_digest_104 : eb_dc cX2_digest 104 (.aload_n 0) 1 105 := by decide +kernel
theorem dX2_digest_105 : eb_dc cX2_digest 105 (.iload_n 3) 1 106 := by decide +kernel
theorem dX2_digest_106 : eb_dc cX2_digest 106 (.invokevirtual 144) 3 109 := by decide +kernel
theorem dX2_digest_109 : eb_dc cX2_digest 109 (.istore 4) 2 111 := by decide +kernel
theorem dX2_digest_111 : eb_dc cX2_digest 111 (.ldc2_w 262) 3 114 := by decide +kernel
theorem dX2_digest_114 : eb_dc cX2_digest 114 (.lload_n 1) 1 115 := by decide +kernel
theorem dX2_digest_115 : eb_dc cX2_digest 115 (.lmul) 1 116 := by decide +kernel
theorem dX2_digest_116 : eb_dc cX2_digest 116 (.iload 4) 2 118 := by decide +kernel
theorem dX2_digest_118 : eb_dj cX2_digest 118 (.ifCond .ne 8) 8 121 126 := by decide +kernel
theorem dX2_digest_121 : eb_dc cX2_digest 121 (.bipush (-5)) 2 123 := by decide +kernel
theorem dX2_digest_123 : eb_dj cX2_digest 123 (.goto 5) 5 126 128 := by decide +kernel
theorem dX2_digest_126 : eb_dc cX2_digest 126 (.iload 4) 2 128 := by decide +kernel
theorem dX2_digest_128 : eb_dc cX2_digest 128 (.i2l) 1 129 := by decide +kernel
theorem dX2_digest_129 : eb_dc cX2_digest 129 (.ladd) 1 130 := by decide +kernel
theorem dX2_digest_130 : eb_dc cX2_digest 130 (.lstore_n 1) 1 131 := by decide +kernel
theorem dX2_digest_131 : eb_dc cX2_digest 131 (.iinc 3 1) 3 134 := by decide +kernel
theorem dX2_digest_134 : eb_dj cX2_digest 134 (.goto (-123)) (-123) 137 11 := by decide +kernel
theorem dX2_digest_137 : eb_dc cX2_digest 137 (.lload_n 1) 1 138 := by decide +kernel
theorem dX2_digest_138 : eb_dc cX2_digest 138 (.lreturn) 1 139 := by decide +kernel
theorem ctX2_digest {l : Launch} {Γ : eb_C} {ad : Nat → Nat} {ix : Nat → Option Nat} {σ : eb_MS} {K : Int64 → eb_MS → Prop} (hi : ms_inv ad ix) (h : MX2_digest σ K) : eb_Ct l Γ yX2_digest cX2_digest 6 (some .long) rmX2_digest [.ref (ad 0)] (ms_st Γ ad ix σ) (em_L Γ ad ix K) := by
  refine eb_of (by decide) (Nat.le_of_ble_eq_true rfl) (fun X P hP _ => ?_)
  show eb_G l Γ P X cX2_digest RX2 6 (some .long) rmX2_digest 0 [(0, .ref (ad 0))] [] (ms_st Γ ad ix σ) 0 0
  refine eg_aload_n 0 dX2_digest_0 rfl rfl ?_
  refine eg_iconst dX2_digest_1 kc_0 ?_
  refine em_puts 0 rfl q1142 dX2_digest_2 hi (fun g1 eg1 => ?_)
  replace h := h g1 eg1
  refine eg_ldc2 dX2_digest_5 q1585 ?_
  refine eg_lstore_n (lv' := [(1, .long 271), (0, .ref (ad 0))]) dX2_digest_8 rfl (Nat.le_of_ble_eq_true rfl) rfl ?_
  refine eg_iconst dX2_digest_9 kc_0 ?_
  refine eg_istore_n (lv' := [(3, .int 0), (1, .long 271), (0, .ref (ad 0))]) dX2_digest_10 rfl (Nat.le_of_ble_eq_true rfl) rfl ?_
  refine eb_jp1_e (J := fun (x1_2 : Int64) => eb_G l Γ P X cX2_digest RX2 6 (some .long) rmX2_digest 137 [(1, .long x1_2)] [] (ms_st Γ ad ix g1) 0 0) h ?_ ?_
  · intro x1_2 h
    refine eg_lload_n 0 dX2_digest_137 rfl rfl ?_
    exact eg_lret dX2_digest_138 (Nat.zero_le _) (Nat.zero_le _) (hP _ _ ⟨_, _, rfl, rfl, h⟩)
  · intro k3 hk3 h
    refine eg_sub [2, 1, 0] rfl ?_
    refine eb_loop2_e (J := fun (x1_4 : Int64) (x3_5 : Int32) => eb_G l Γ P X cX2_digest RX2 6 (some .long) rmX2_digest 11 [(0, .ref (ad 0)), (1, .long x1_4), (3, .int x3_5)] [] (ms_st Γ ad ix g1) 0 0) h ?_
    intro r6 hr6 x1_4 x3_5 h
    refine eg_iload_n 2 dX2_digest_11 rfl rfl ?_
    refine eg_iconst dX2_digest_12 kc_4 ?_
    refine eg_icmp_ge dX2_digest_13 (fun c31 => ?_) (fun c31 => ?_)
    · replace h := h.1 c31
      exact eg_sub [1] rfl (hk3 x1_4 h)
    · replace h := h.2 c31
      refine eg_ldc2 dX2_digest_16 q1586 ?_
      refine eg_lload_n 1 dX2_digest_19 rfl rfl ?_
      refine eg_lmul dX2_digest_20 ?_
      refine eg_aload_n 0 dX2_digest_21 rfl rfl ?_
      refine em_geta 1 rfl q1143 dX2_digest_22 hi ?_
      refine eg_iload_n 2 dX2_digest_25 rfl rfl ?_
      obtain ⟨hb, h⟩ := h
      refine em_iald 1 rfl hb dX2_digest_26 hi (fun v7 ev7 => ?_)
      replace h := h v7 ev7
      refine eg_i2l dX2_digest_27 ?_
      refine eg_ladd dX2_digest_28 ?_
      refine eg_lstore_n (lv' := [(1, .long ((31 * x1_4) + (Int32.toInt64 v7))), (0, .ref (ad 0)), (3, .int x3_5)]) dX2_digest_29 rfl (Nat.le_of_ble_eq_true rfl) rfl ?_
      refine eg_iconst dX2_digest_30 kc_0 ?_
      refine eg_istore (lv' := [(4, .int 0), (1, .long ((31 * x1_4) + (Int32.toInt64 v7))), (0, .ref (ad 0)), (3, .int x3_5)]) dX2_digest_31 (Nat.le_of_ble_eq_true rfl) rfl ?_
      refine eb_jp1_e (J := fun (x1_8 : Int64) => eb_G l Γ P X cX2_digest RX2 6 (some .long) rmX2_digest 90 [(0, .ref (ad 0)), (1, .long x1_8), (3, .int x3_5)] [] (ms_st Γ ad ix g1) 0 0) h ?_ ?_
      · intro x1_8 h
        refine eg_ldc2 dX2_digest_90 q1586 ?_
        refine eg_lload_n 1 dX2_digest_93 rfl rfl ?_
        refine eg_lmul dX2_digest_94 ?_
        refine eg_aload_n 0 dX2_digest_95 rfl rfl ?_
        refine em_geta 3 rfl q1145 dX2_digest_96 hi ?_
        refine eg_iload_n 2 dX2_digest_99 rfl rfl ?_
        obtain ⟨hb, h⟩ := h
        refine em_iald 3 rfl hb dX2_digest_100 hi (fun v9 ev9 => ?_)
        replace h := h v9 ev9
        refine eg_i2l dX2_digest_101 ?_
        refine eg_ladd dX2_digest_102 ?_
        refine eg_lstore_n (lv' := [(1, .long ((31 * x1_8) + (Int32.toInt64 v9))), (0, .ref (ad 0)), (3, .int x3_5)]) dX2_digest_103 rfl (Nat.le_of_ble_eq_true rfl) rfl ?_
        refine eg_aload_n 1 dX2_digest_104 rfl rfl ?_
        refine eg_iload_n 2 dX2_digest_105 rfl rfl ?_
        refine em_cvp (rest := []) (ctX2_sizeOf hi h) hi (lw_V q1298 q1300 qs41 q77 q1301) rfl nX2_sizeOf ⟨Nat.le_of_ble_eq_true rfl, Nat.le_of_ble_eq_true rfl⟩ ⟨rfl, rfl⟩ ⟨Nat.zero_le _, Nat.zero_le _⟩ rfl rfl (Nat.le_of_ble_eq_true rfl) dX2_digest_106 (fun v10 h => ?_)
        refine eg_istore (lv' := [(4, .int v10), (1, .long ((31 * x1_8) + (Int32.toInt64 v9))), (0, .ref (ad 0)), (3, .int x3_5)]) dX2_digest_109 (Nat.le_of_ble_eq_true rfl) rfl ?_
        refine eg_ldc2 dX2_digest_111 q1586 ?_
        refine eg_lload_n 1 dX2_digest_114 rfl rfl ?_
        refine eg_lmul dX2_digest_115 ?_
        refine eg_iload 0 dX2_digest_116 rfl ?_
        refine eb_jp1_e (J := fun (s12 : Int32) => eb_G l Γ P X cX2_digest RX2 6 (some .long) rmX2_digest 128 [(0, .ref (ad 0)), (3, .int x3_5)] [.int s12, .long (31 * ((31 * x1_8) + (Int32.toInt64 v9)))] (ms_st Γ ad ix g1) 0 0) h ?_ ?_
        · intro s12 h
          refine eg_i2l dX2_digest_128 ?_
          refine eg_ladd dX2_digest_129 ?_
          refine eg_letl (fun v13 ev13 => ?_)
          replace h := h v13 ev13
          refine eg_lstore_n (lv' := [(1, .long v13), (0, .ref (ad 0)), (3, .int x3_5)]) dX2_digest_130 rfl (Nat.le_of_ble_eq_true rfl) rfl ?_
          refine eg_iinc (j := 2) (lv' := [(3, .int (x3_5 + 1)), (1, .long v13), (0, .ref (ad 0))]) dX2_digest_131 rfl (by rw [kc_1]) (Nat.le_of_ble_eq_true rfl) rfl ?_
          refine eg_goto dX2_digest_134 ?_
          exact eg_sub [2, 1, 0] rfl (hr6 v13 (x3_5 + 1) h)
        · intro k14 hk14 h
          refine eg_if_ne dX2_digest_118 (fun c15 => ?_) (fun c15 => ?_)
          · replace h := h.2 c15
            refine eg_iload 0 dX2_digest_126 rfl ?_
            exact eg_sub [2, 3] rfl (hk14 v10 h)
          · replace h := h.1 c15
            refine eg_bipush dX2_digest_121 kb_m5 ?_
            refine eg_goto dX2_digest_123 ?_
            exact eg_sub [2, 3] rfl (hk14 (-5) h)
      · intro k16 hk16 h
        refine eg_sub [2, 1, 3, 0] rfl ?_
        refine eb_loop2_e (J := fun (x1_17 : Int64) (x4_18 : Int32) => eb_G l Γ P X cX2_digest RX2 6 (some .long) rmX2_digest 33 [(0, .ref (ad 0)), (1, .long x1_17), (3, .int x3_5), (4, .int x4_18)] [] (ms_st Γ ad ix g1) 0 0) h ?_
        intro r19 hr19 x1_17 x4_18 h
        refine eg_iload 3 dX2_digest_33 rfl ?_
        refine eg_aload_n 0 dX2_digest_35 rfl rfl ?_
        refine em_geta 1 rfl q1143 dX2_digest_36 hi ?_
        refine eg_iload_n 2 dX2_digest_39 rfl rfl ?_
        obtain ⟨hb, h⟩ := h
        refine em_iald 1 rfl hb dX2_digest_40 hi (fun v20 ev20 => ?_)
        replace h := h v20 ev20
        refine eg_icmp_ge dX2_digest_41 (fun c30 => ?_) (fun c30 => ?_)
        · replace h := h.1 c30
          exact eg_sub [0, 1, 2] rfl (hk16 x1_17 h)
        · replace h := h.2 c30
          refine eg_iload 3 dX2_digest_44 rfl ?_
          refine eg_iconst dX2_digest_46 kc_1 ?_
          refine eg_iadd dX2_digest_47 ?_
          refine eg_istore (lv' := [(5, .int (x4_18 + 1)), (0, .ref (ad 0)), (1, .long x1_17), (3, .int x3_5), (4, .int x4_18)]) dX2_digest_48 (Nat.le_of_ble_eq_true rfl) rfl ?_
          refine eb_jp1_e (J := fun (x1_21 : Int64) => eb_G l Γ P X cX2_digest RX2 6 (some .long) rmX2_digest 84 [(0, .ref (ad 0)), (1, .long x1_21), (3, .int x3_5), (4, .int x4_18)] [] (ms_st Γ ad ix g1) 0 0) h ?_ ?_
          · intro x1_21 h
            refine eg_iinc (j := 3) (lv' := [(4, .int (x4_18 + 1)), (0, .ref (ad 0)), (1, .long x1_21), (3, .int x3_5)]) dX2_digest_84 rfl (by rw [kc_1]) (Nat.le_of_ble_eq_true rfl) rfl ?_
            refine eg_goto dX2_digest_87 ?_
            exact eg_sub [1, 2, 3, 0] rfl (hr19 x1_21 (x4_18 + 1) h)
          · intro k22 hk22 h
            refine eg_sub [1, 2, 3, 4, 0] rfl ?_
            refine eb_loop2_e (J := fun (x1_23 : Int64) (x5_24 : Int32) => eb_G l Γ P X cX2_digest RX2 6 (some .long) rmX2_digest 50 [(0, .ref (ad 0)), (1, .long x1_23), (3, .int x3_5), (4, .int x4_18), (5, .int x5_24)] [] (ms_st Γ ad ix g1) 0 0) h ?_
            intro r25 hr25 x1_23 x5_24 h
            refine eg_iload 4 dX2_digest_50 rfl ?_
            refine eg_aload_n 0 dX2_digest_52 rfl rfl ?_
            refine em_geta 1 rfl q1143 dX2_digest_53 hi ?_
            refine eg_iload_n 2 dX2_digest_56 rfl rfl ?_
            obtain ⟨hb, h⟩ := h
            refine em_iald 1 rfl hb dX2_digest_57 hi (fun v26 ev26 => ?_)
            replace h := h v26 ev26
            refine eg_icmp_ge dX2_digest_58 (fun c29 => ?_) (fun c29 => ?_)
            · replace h := h.1 c29
              exact eg_sub [0, 1, 2, 3] rfl (hk22 x1_23 h)
            · replace h := h.2 c29
              refine eg_ldc2 dX2_digest_61 q1586 ?_
              refine eg_lload_n 1 dX2_digest_64 rfl rfl ?_
              refine eg_lmul dX2_digest_65 ?_
              refine eg_aload_n 0 dX2_digest_66 rfl rfl ?_
              refine eg_iload_n 2 dX2_digest_67 rfl rfl ?_
              refine eg_iload 3 dX2_digest_68 rfl ?_
              refine eg_iload 4 dX2_digest_70 rfl ?_
              refine em_cvp (rest := [.long (31 * x1_23)]) (ctX2_angleOf hi h) hi (lw_V q1266 q1268 qs37 q77 q1269) rfl nX2_angleOf ⟨Nat.le_of_ble_eq_true rfl, Nat.le_of_ble_eq_true rfl⟩ ⟨rfl, rfl⟩ ⟨Nat.zero_le _, Nat.zero_le _⟩ rfl rfl (Nat.le_of_ble_eq_true rfl) dX2_digest_72 (fun v27 h => ?_)
              refine eg_i2l dX2_digest_75 ?_
              refine eg_ladd dX2_digest_76 ?_
              refine eg_lstore_n (lv' := [(1, .long ((31 * x1_23) + (Int32.toInt64 v27))), (0, .ref (ad 0)), (3, .int x3_5), (4, .int x4_18), (5, .int x5_24)]) dX2_digest_77 rfl (Nat.le_of_ble_eq_true rfl) rfl ?_
              refine eg_iinc (j := 4) (lv' := [(5, .int (x5_24 + 1)), (1, .long ((31 * x1_23) + (Int32.toInt64 v27))), (0, .ref (ad 0)), (3, .int x3_5), (4, .int x4_18)]) dX2_digest_78 rfl (by rw [kc_1]) (Nat.le_of_ble_eq_true rfl) rfl ?_
              refine eg_goto dX2_digest_81 ?_
              exact eg_sub [2, 1, 3, 4, 0] rfl (hr25 (((31 * x1_23) + (Int32.toInt64 v27))) (x5_24 + 1) h)
