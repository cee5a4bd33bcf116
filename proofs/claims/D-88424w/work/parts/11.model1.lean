set_option maxRecDepth 100000
set_option maxHeartbeats 4000000
def MX2_sizeOf (σ : eb_MS) (a1 : Int32) (K : Int32 → Prop) : Prop :=
  eb_rd (σ.2.1 1) 4 a1 (fun v1 => eb_jp1 (fun (x3_2 : Int32) => eb_br (x3_2 ≤ 500) (K x3_2) (K 0)) (fun k4 => eb_loop2 (fun r7 (x2_5 : Int32) (x3_6 : Int32) => eb_br (x2_5 = 0) (k4 x3_6) (eb_jp1 (fun (x4_8 : Int32) => MX2_makes σ a1 x4_8 (fun v9 => r7 ((x2_5 &&& (x4_8 ^^^ (-1)))) (x3_6 * v9))) (fun k11 => eb_loop2 (fun r14 (x4_12 : Int32) (x5_13 : Int32) => eb_br (x4_12 = x5_13) (k11 x4_12) (eb_jp1 (fun (x4_15 : Int32) => r14 x4_15 x4_12) (fun k16 => eb_loop2 (fun r19 (x4_17 : Int32) (x6_18 : Int32) => eb_br (4 ≤ x6_18) (k16 x4_17) (eb_jp1 (fun (s20 : Int32) => r19 (x4_17 ||| s20) (x6_18 + 1)) (fun k21 => eb_br (((eb_shr x4_12 x6_18) &&& 1) = 1) (MX2_joinedTo σ a1 x6_18 (fun v22 => k21 v22)) (k21 0)))) x4_12 0))) ((x2_5 &&& (-x2_5))) 0))) (((eb_shl 1 v1) - 1)) 1))
abbrev rmX2_sizeOf : Room := { frames := 4, cells := 0, slots := 0, locals := 92 }
theorem nX2_sizeOf : eb_ar yX2_sizeOf 1 := by decide +kernel
theorem dX2_sizeOf_0 : eb_dc cX2_sizeOf 0 (.iconst 1) 1 1 := by decide +kernel
theorem dX2_sizeOf_1 : eb_dc cX2_sizeOf 1 (.aload_n 0) 1 2 := by decide +kernel
theorem dX2_sizeOf_2 : eb_dc cX2_sizeOf 2 (.getfield 7) 3 5 := by decide +kernel
theorem dX2_sizeOf_5 : eb_dc cX2_sizeOf 5 (.iload_n 1) 1 6 := by decide +kernel
theorem dX2_sizeOf_6 : eb_dc cX2_sizeOf 6 (.iaload) 1 7 := by decide +kernel
theorem dX2_sizeOf_7 : eb_dc cX2_sizeOf 7 (.ishl) 1 8 := by decide +kernel
theorem dX2_sizeOf_8 : eb_dc cX2_sizeOf 8 (.iconst 1) 1 9 := by decide +kernel
theorem dX2_sizeOf_9 : eb_dc cX2_sizeOf 9 (.isub) 1 10 := by decide +kernel
theorem dX2_sizeOf_10 : eb_dc cX2_sizeOf 10 (.istore_n 2) 1 11 := by decide +kernel
theorem dX2_sizeOf_11 : eb_dc cX2_sizeOf 11 (.iconst 1) 1 12 := by decide +kernel
theorem dX2_sizeOf_12 : eb_dc cX2_sizeOf 12 (.istore_n 3) 1 13 := by decide +kernel
theorem dX2_sizeOf_13 : eb_dc cX2_sizeOf 13 (.iload_n 2) 1 14 := by decide +kernel
theorem dX2_sizeOf_14 : eb_dj cX2_sizeOf 14 (.ifCond .eq 88) 88 17 102 := by decide +kernel
theorem dX2_sizeOf_17 : eb_dc cX2_sizeOf 17 (.iload_n 2) 1 18 := by decide +kernel
theorem dX2_sizeOf_18 : eb_dc cX2_sizeOf 18 (.iload_n 2) 1 19 := by decide +kernel
theorem dX2_sizeOf_19 : eb_dc cX2_sizeOf 19 (.ineg) 1 20 := by decide +kernel
theorem dX2_sizeOf_20 : eb_dc cX2_sizeOf 20 (.iand) 1 21 := by decide +kernel
theorem dX2_sizeOf_21 : eb_dc cX2_sizeOf 21 (.istore 4) 2 23 := by decide +kernel
theorem dX2_sizeOf_23 : eb_dc cX2_sizeOf 23 (.iconst 0) 1 24 := by decide +kernel
theorem dX2_sizeOf_24 : eb_dc cX2_sizeOf 24 (.istore 5) 2 26 := by decide +kernel
theorem dX2_sizeOf_26 : eb_dc cX2_sizeOf 26 (.iload 4) 2 28 := by decide +kernel
theorem dX2_sizeOf_28 : eb_dc cX2_sizeOf 28 (.iload 5) 2 30 := by decide +kernel
theorem dX2_sizeOf_30 : eb_dj cX2_sizeOf 30 (.if_icmp .eq 52) 52 33 82 := by decide +kernel
theorem dX2_sizeOf_33 : eb_dc cX2_sizeOf 33 (.iload 4) 2 35 := by decide +kernel
theorem dX2_sizeOf_35 : eb_dc cX2_sizeOf 35 (.istore 5) 2 37 := by decide +kernel
theorem dX2_sizeOf_37 : eb_dc cX2_sizeOf 37 (.iconst 0) 1 38 := by decide +kernel
theorem dX2_sizeOf_38 : eb_dc cX2_sizeOf 38 (.istore 6) 2 40 := by decide +kernel
theorem dX2_sizeOf_40 : eb_dc cX2_sizeOf 40 (.iload 6) 2 42 := by decide +kernel
theorem dX2_sizeOf_42 : eb_dc cX2_sizeOf 42 (.iconst 4) 1 43 := by decide +kernel
theorem dX2_sizeOf_43 : eb_dj cX2_sizeOf 43 (.if_icmp .ge 36) 36 46 79 := by decide +kernel
theorem dX2_sizeOf_46 : eb_dc cX2_sizeOf 46 (.iload 4) 2 48 := by decide +kernel
theorem dX2_sizeOf_48 : eb_dc cX2_sizeOf 48 (.iload 5) 2 50 := by decide +kernel
theorem dX2_sizeOf_50 : eb_dc cX2_sizeOf 50 (.iload 6) 2 52 := by decide +kernel
theorem dX2_sizeOf_52 : eb_dc cX2_sizeOf 52 (.ishr) 1 53 := by decide +kernel
theorem dX2_sizeOf_53 : eb_dc cX2_sizeOf 53 (.iconst 1) 1 54 := by decide +kernel
theorem dX2_sizeOf_54 : eb_dc cX2_sizeOf 54 (.iand) 1 55 := by decide +kernel
theorem dX2_sizeOf_55 : eb_dc cX2_sizeOf 55 (.iconst 1) 1 56 := by decide +kernel
theorem dX2_sizeOf_56 : eb_dj cX2_sizeOf 56 (.if_icmp .ne 13) 13 59 69 := by decide +kernel
theorem dX2_sizeOf_59 : eb_dc cX2_sizeOf 59 (.aload_n 0) 1 60 := by decide +kernel
theorem dX2_sizeOf_60 : eb_dc cX2_sizeOf 60 (.iload_n 1) 1 61 := by decide +kernel
theorem dX2_sizeOf_61 : eb_dc cX2_sizeOf 61 (.iload 6) 2 63 := by decide +kernel
theorem dX2_sizeOf_63 : eb_dc cX2_sizeOf 63 (.invokevirtual 125) 3 66 := by decide +kernel
theorem dX2_sizeOf_66 : eb_dj cX2_sizeOf 66 (.goto 4) 4 69 70 := by decide +kernel
theorem dX2_sizeOf_69 : eb_dc cX2_sizeOf 69 (.iconst 0) 1 70 := by decide +kernel
theorem dX2_sizeOf_70 : eb_dc cX2_sizeOf 70 (.ior) 1 71 := by decide +kernel
theorem dX2_sizeOf_71 : eb_dc cX2_sizeOf 71 (.istore 4) 2 73 := by decide +kernel
theorem dX2_sizeOf_73 : eb_dc cX2_sizeOf 73 (.iinc 6 1) 3 76 := by decide +kernel
theorem dX2_sizeOf_76 : eb_dj cX2_sizeOf 76 (.goto (-36)) (-36) 79 40 := by decide +kernel
theorem dX2_sizeOf_79 : eb_dj cX2_sizeOf 79 (.goto (-53)) (-53) 82 26 := by decide +kernel
theorem dX2_sizeOf_82 : eb_dc cX2_sizeOf 82 (.iload_n 3) 1 83 := by decide +kernel
theorem dX2_sizeOf_83 : eb_dc cX2_sizeOf 83 (.aload_n 0) 1 84 := by decide +kernel
theorem dX2_sizeOf_84 : eb_dc cX2_sizeOf 84 (.iload_n 1) 1 85 := by decide +kernel
theorem dX2_sizeOf_85 : eb_dc cX2_sizeOf 85 (.iload 4) 2 87 := by decide +kernel
theorem dX2_sizeOf_87 : eb_dc cX2_sizeOf 87 (.invokevirtual 132) 3 90 := by decide +kernel
theorem dX2_sizeOf_90 : eb_dc cX2_sizeOf 90 (.imul) 1 91 := by decide +kernel
theorem dX2_sizeOf_91 : eb_dc cX2_sizeOf 91 (.istore_n 3) 1 92 := by decide +kernel
theorem dX2_sizeOf_92 : eb_dc cX2_sizeOf 92 (.iload_n 2) 1 93 := by decide +kernel
theorem dX2_sizeOf_93 : eb_dc cX2_sizeOf 93 (.iload 4) 2 95 := by decide +kernel
theorem dX2_sizeOf_95 : eb_dc cX2_sizeOf 95 (.iconst (-1)) 1 96 := by decide +kernel
theorem dX2_sizeOf_96 : eb_dc cX2_sizeOf 96 (.ixor) 1 97 := by decide +kernel
theorem dX2_sizeOf_97 : eb_dc cX2_sizeOf 97 (.iand) 1 98 := by decide +kernel
theorem dX2_sizeOf_98 : eb_dc cX2_sizeOf 98 (.istore_n 2) 1 99 := by decide +kernel
theorem dX2_sizeOf_99 : eb_dj cX2_sizeOf 99 (.goto (-86)) (-86) 102 13 := by decide +kernel
theorem dX2_sizeOf_102 : eb_dc cX2_sizeOf 102 (.iload_n 3) 1 103 := by decide +kernel
theorem dX2_sizeOf_103 : eb_dc cX2_sizeOf 103 (.sipush 500) 3 106 := by decide +kernel
theorem dX2_sizeOf_106 : eb_dj cX2_sizeOf 106 (.if_icmp .le 7) 7 109 113 := by decide +kernel
theorem dX2_sizeOf_109 : eb_dc cX2_sizeOf 109 (.iconst 0) 1 110 := by decide +kernel
theorem dX2_sizeOf_110 : eb_dj cX2_sizeOf 110 (.goto 4) 4 113 114 := by decide +kernel
theorem dX2_sizeOf_113 : eb_dc cX2_sizeOf 113 (.iload_n 3) 1 114 := by decide +kernel
theorem dX2_sizeOf_114 : eb_dc cX2_sizeOf 114 (.ireturn) 1 115 := by decide +kernel
theorem ctX2_sizeOf {l : Launch} {Γ : eb_C} {ad : Nat → Nat} {ix : Nat → Option Nat} {σ : eb_MS} {a1 : Int32} {K : Int32 → Prop} (hi : ms_inv ad ix) (h : MX2_sizeOf σ a1 K) : eb_Ct l Γ yX2_sizeOf cX2_sizeOf 7 (some .int) rmX2_sizeOf [.ref (ad 0), .int a1] (ms_st Γ ad ix σ) (eb_pI (ms_st Γ ad ix σ) K) := by
  refine eb_of (by decide) (Nat.le_of_ble_eq_true rfl) (fun X P hP _ => ?_)
  show eb_G l Γ P X cX2_sizeOf RX2 7 (some .int) rmX2_sizeOf 0 [(0, .ref (ad 0)), (1, .int a1)] [] (ms_st Γ ad ix σ) 0 0
  refine eg_iconst dX2_sizeOf_0 kc_1 ?_
  refine eg_aload_n 0 dX2_sizeOf_1 rfl rfl ?_
  refine em_geta 1 rfl q1143 dX2_sizeOf_2 hi ?_
  refine eg_iload_n 1 dX2_sizeOf_5 rfl rfl ?_
  obtain ⟨hb, h⟩ := h
  refine em_iald 1 rfl hb dX2_sizeOf_6 hi (fun v1 ev1 => ?_)
  replace h := h v1 ev1
  refine eg_ishl dX2_sizeOf_7 ?_
  refine eg_iconst dX2_sizeOf_8 kc_1 ?_
  refine eg_isub dX2_sizeOf_9 ?_
  refine eg_istore_n (lv' := [(2, .int ((eb_shl 1 v1) - 1)), (0, .ref (ad 0)), (1, .int a1)]) dX2_sizeOf_10 rfl (Nat.le_of_ble_eq_true rfl) rfl ?_
  refine eg_iconst dX2_sizeOf_11 kc_1 ?_
  refine eg_istore_n (lv' := [(3, .int 1), (2, .int ((eb_shl 1 v1) - 1)), (0, .ref (ad 0)), (1, .int a1)]) dX2_sizeOf_12 rfl (Nat.le_of_ble_eq_true rfl) rfl ?_
  refine eb_jp1_e (J := fun (x3_2 : Int32) => eb_G l Γ P X cX2_sizeOf RX2 7 (some .int) rmX2_sizeOf 102 [(3, .int x3_2)] [] (ms_st Γ ad ix σ) 0 0) h ?_ ?_
  · intro x3_2 h
    refine eg_iload_n 0 dX2_sizeOf_102 rfl rfl ?_
    refine eg_sipush dX2_sizeOf_103 ks_500 ?_
    refine eg_icmp_le dX2_sizeOf_106 (fun c3 => ?_) (fun c3 => ?_)
    · replace h := h.1 c3
      refine eg_iload_n 0 dX2_sizeOf_113 rfl rfl ?_
      exact eg_iret dX2_sizeOf_114 (Nat.zero_le _) (Nat.zero_le _) (hP _ _ ⟨_, rfl, rfl, h⟩)
    · replace h := h.2 c3
      refine eg_iconst dX2_sizeOf_109 kc_0 ?_
      refine eg_goto dX2_sizeOf_110 ?_
      exact eg_iret dX2_sizeOf_114 (Nat.zero_le _) (Nat.zero_le _) (hP _ _ ⟨_, rfl, rfl, h⟩)
  · intro k4 hk4 h
    refine eg_sub [2, 3, 1, 0] rfl ?_
    refine eb_loop2_e (J := fun (x2_5 : Int32) (x3_6 : Int32) => eb_G l Γ P X cX2_sizeOf RX2 7 (some .int) rmX2_sizeOf 13 [(0, .ref (ad 0)), (1, .int a1), (2, .int x2_5), (3, .int x3_6)] [] (ms_st Γ ad ix σ) 0 0) h ?_
    intro r7 hr7 x2_5 x3_6 h
    refine eg_iload_n 2 dX2_sizeOf_13 rfl rfl ?_
    refine eg_if_eq dX2_sizeOf_14 (fun c27 => ?_) (fun c27 => ?_)
    · replace h := h.1 c27
      exact eg_sub [3] rfl (hk4 x3_6 h)
    · replace h := h.2 c27
      refine eg_iload_n 2 dX2_sizeOf_17 rfl rfl ?_
      refine eg_iload_n 2 dX2_sizeOf_18 rfl rfl ?_
      refine eg_ineg dX2_sizeOf_19 ?_
      refine eg_iand dX2_sizeOf_20 ?_
      refine eg_istore (lv' := [(4, .int (x2_5 &&& (-x2_5))), (0, .ref (ad 0)), (1, .int a1), (2, .int x2_5), (3, .int x3_6)]) dX2_sizeOf_21 (Nat.le_of_ble_eq_true rfl) rfl ?_
      refine eg_iconst dX2_sizeOf_23 kc_0 ?_
      refine eg_istore (lv' := [(5, .int 0), (4, .int (x2_5 &&& (-x2_5))), (0, .ref (ad 0)), (1, .int a1), (2, .int x2_5), (3, .int x3_6)]) dX2_sizeOf_24 (Nat.le_of_ble_eq_true rfl) rfl ?_
      refine eb_jp1_e (J := fun (x4_8 : Int32) => eb_G l Γ P X cX2_sizeOf RX2 7 (some .int) rmX2_sizeOf 82 [(0, .ref (ad 0)), (1, .int a1), (2, .int x2_5), (3, .int x3_6), (4, .int x4_8)] [] (ms_st Γ ad ix σ) 0 0) h ?_ ?_
      · intro x4_8 h
        refine eg_iload_n 3 dX2_sizeOf_82 rfl rfl ?_
        refine eg_aload_n 0 dX2_sizeOf_83 rfl rfl ?_
        refine eg_iload_n 1 dX2_sizeOf_84 rfl rfl ?_
        refine eg_iload 4 dX2_sizeOf_85 rfl ?_
        refine em_cvp (rest := [.int x3_6]) (ctX2_makes hi h) hi (lw_V q1302 q1304 qs42 q77 q1305) rfl nX2_makes ⟨Nat.le_of_ble_eq_true rfl, Nat.le_of_ble_eq_true rfl⟩ ⟨rfl, rfl⟩ ⟨Nat.zero_le _, Nat.zero_le _⟩ rfl rfl (Nat.le_of_ble_eq_true rfl) dX2_sizeOf_87 (fun v9 h => ?_)
        refine eg_imul dX2_sizeOf_90 ?_
        refine eg_istore_n (lv' := [(3, .int (x3_6 * v9)), (0, .ref (ad 0)), (1, .int a1), (2, .int x2_5), (4, .int x4_8)]) dX2_sizeOf_91 rfl (Nat.le_of_ble_eq_true rfl) rfl ?_
        refine eg_iload_n 3 dX2_sizeOf_92 rfl rfl ?_
        refine eg_iload 4 dX2_sizeOf_93 rfl ?_
        refine eg_iconst dX2_sizeOf_95 kc_m1 ?_
        refine eg_ixor dX2_sizeOf_96 ?_
        refine eg_iand dX2_sizeOf_97 ?_
        refine eg_istore_n (lv' := [(2, .int (x2_5 &&& (x4_8 ^^^ (-1)))), (3, .int (x3_6 * v9)), (0, .ref (ad 0)), (1, .int a1), (4, .int x4_8)]) dX2_sizeOf_98 rfl (Nat.le_of_ble_eq_true rfl) rfl ?_
        refine eg_goto dX2_sizeOf_99 ?_
        exact eg_sub [2, 3, 0, 1] rfl (hr7 ((x2_5 &&& (x4_8 ^^^ (-1)))) (x3_6 * v9) h)
      · intro k11 hk11 h
        refine eg_sub [2, 3, 4, 5, 1, 0] rfl ?_
        refine eb_loop2_e (J := fun (x4_12 : Int32) (x5_13 : Int32) => eb_G l Γ P X cX2_sizeOf RX2 7 (some .int) rmX2_sizeOf 26 [(0, .ref (ad 0)), (1, .int a1), (2, .int x2_5), (3, .int x3_6), (4, .int x4_12), (5, .int x5_13)] [] (ms_st Γ ad ix σ) 0 0) h ?_
        intro r14 hr14 x4_12 x5_13 h
        refine eg_iload 4 dX2_sizeOf_26 rfl ?_
        refine eg_iload 5 dX2_sizeOf_28 rfl ?_
        refine eg_icmp_eq dX2_sizeOf_30 (fun c26 => ?_) (fun c26 => ?_)
        · replace h := h.1 c26
          exact eg_sub [0, 1, 2, 3, 4] rfl (hk11 x4_12 h)
        · replace h := h.2 c26
          refine eg_iload 4 dX2_sizeOf_33 rfl ?_
          refine eg_istore (lv' := [(5, .int x4_12), (0, .ref (ad 0)), (1, .int a1), (2, .int x2_5), (3, .int x3_6), (4, .int x4_12)]) dX2_sizeOf_35 (Nat.le_of_ble_eq_true rfl) rfl ?_
          refine eg_iconst dX2_sizeOf_37 kc_0 ?_
          refine eg_istore (lv' := [(6, .int 0), (5, .int x4_12), (0, .ref (ad 0)), (1, .int a1), (2, .int x2_5), (3, .int x3_6), (4, .int x4_12)]) dX2_sizeOf_38 (Nat.le_of_ble_eq_true rfl) rfl ?_
          refine eb_jp1_e (J := fun (x4_15 : Int32) => eb_G l Γ P X cX2_sizeOf RX2 7 (some .int) rmX2_sizeOf 79 [(0, .ref (ad 0)), (1, .int a1), (2, .int x2_5), (3, .int x3_6), (4, .int x4_15), (5, .int x4_12)] [] (ms_st Γ ad ix σ) 0 0) h ?_ ?_
          · intro x4_15 h
            refine eg_goto dX2_sizeOf_79 ?_
            exact hr14 x4_15 x4_12 h
          · intro k16 hk16 h
            refine eg_sub [2, 3, 4, 5, 6, 1, 0] rfl ?_
            refine eb_loop2_e (J := fun (x4_17 : Int32) (x6_18 : Int32) => eb_G l Γ P X cX2_sizeOf RX2 7 (some .int) rmX2_sizeOf 40 [(0, .ref (ad 0)), (1, .int a1), (2, .int x2_5), (3, .int x3_6), (4, .int x4_17), (5, .int x4_12), (6, .int x6_18)] [] (ms_st Γ ad ix σ) 0 0) h ?_
            intro r19 hr19 x4_17 x6_18 h
            refine eg_iload 6 dX2_sizeOf_40 rfl ?_
            refine eg_iconst dX2_sizeOf_42 kc_4 ?_
            refine eg_icmp_ge dX2_sizeOf_43 (fun c25 => ?_) (fun c25 => ?_)
            · replace h := h.1 c25
              exact eg_sub [0, 1, 2, 3, 4, 5] rfl (hk16 x4_17 h)
            · replace h := h.2 c25
              refine eg_iload 4 dX2_sizeOf_46 rfl ?_
              refine eg_iload 5 dX2_sizeOf_48 rfl ?_
              refine eg_iload 6 dX2_sizeOf_50 rfl ?_
              refine eg_ishr dX2_sizeOf_52 ?_
              refine eg_iconst dX2_sizeOf_53 kc_1 ?_
              refine eg_iand dX2_sizeOf_54 ?_
              refine eg_iconst dX2_sizeOf_55 kc_1 ?_
              refine eb_jp1_e (J := fun (s20 : Int32) => eb_G l Γ P X cX2_sizeOf RX2 7 (some .int) rmX2_sizeOf 70 [(0, .ref (ad 0)), (1, .int a1), (2, .int x2_5), (3, .int x3_6), (5, .int x4_12), (6, .int x6_18)] [.int s20, .int x4_17] (ms_st Γ ad ix σ) 0 0) h ?_ ?_
              · intro s20 h
                refine eg_ior dX2_sizeOf_70 ?_
                refine eg_istore (lv' := [(4, .int (x4_17 ||| s20)), (0, .ref (ad 0)), (1, .int a1), (2, .int x2_5), (3, .int x3_6), (5, .int x4_12), (6, .int x6_18)]) dX2_sizeOf_71 (Nat.le_of_ble_eq_true rfl) rfl ?_
                refine eg_iinc (j := 6) (lv' := [(6, .int (x6_18 + 1)), (4, .int (x4_17 ||| s20)), (0, .ref (ad 0)), (1, .int a1), (2, .int x2_5), (3, .int x3_6), (5, .int x4_12)]) dX2_sizeOf_73 rfl (by rw [kc_1]) (Nat.le_of_ble_eq_true rfl) rfl ?_
                refine eg_goto dX2_sizeOf_76 ?_
                exact eg_sub [2, 3, 4, 5, 1, 6, 0] rfl (hr19 (x4_17 ||| s20) (x6_18 + 1) h)
              · intro k21 hk21 h
                refine eg_icmp_ne dX2_sizeOf_56 (fun c24 => ?_) (fun c24 => ?_)
                · replace h := h.2 c24
                  refine eg_iconst dX2_sizeOf_69 kc_0 ?_
                  exact eg_sub [0, 1, 2, 3, 5, 6] rfl (hk21 0 h)
                · replace h := h.1 c24
                  refine eg_aload_n 0 dX2_sizeOf_59 rfl rfl ?_
                  refine eg_iload_n 1 dX2_sizeOf_60 rfl rfl ?_
                  refine eg_iload 6 dX2_sizeOf_61 rfl ?_
                  refine em_cvp (rest := [.int x4_17]) (ctX2_joinedTo hi h) hi (lw_V q1282 q1284 qs38 q77 q1285) rfl nX2_joinedTo ⟨Nat.le_of_ble_eq_true rfl, Nat.le_of_ble_eq_true rfl⟩ ⟨rfl, rfl⟩ ⟨Nat.zero_le _, Nat.zero_le _⟩ rfl rfl (Nat.le_of_ble_eq_true rfl) dX2_sizeOf_63 (fun v22 h => ?_)
                  refine eg_goto dX2_sizeOf_66 ?_
                  exact eg_sub [0, 1, 2, 3, 5, 6] rfl (hk21 v22 h)
def MX2_turned (σ : eb_MS) (a1 : Int32) (a2 : Int32) (a3 : Int32) (K : eb_MS → Prop) : Prop :=
  eb_loop2 (fun r3 (x4_1 : Int32) (g2 : eb_MS) => eb_br (4 ≤ x4_1) (K g2) (eb_jp1 (fun (s4 : Int32) => eb_jp1 (fun (g5 : eb_MS) => r3 (x4_1 + 1) g5) (fun k6 => eb_loop2 (fun r9 (x6_7 : Int32) (g8 : eb_MS) => eb_br (4 ≤ x6_7) (k6 g8) (eb_rd (g8.2.1 9) 8000 ((((16 * a2) + (4 * x4_1)) + x6_7)) (fun v10 => eb_rd (g8.2.1 9) 8000 ((((16 * a2) + (4 * a3)) + x6_7)) (fun v11 => eb_jp1 (fun (s12 : Int32) => ms_wr g8 10 16 (((4 * x4_1) + x6_7)) s12 (fun g13 => r9 (x6_7 + 1) g13)) (fun k14 => eb_br (x4_1 = a3) (k14 ((eb_rem (241 - v11) 241))) (k14 ((eb_rem ((v10 + (s4 * v11))) 241)))))))) 0 g2)) (fun k17 => eb_br ((g2.1 6) ≤ x4_1) (k17 0) (eb_br (x4_1 = a3) (k17 0) (MX2_angleOf g2 a1 a3 x4_1 (fun v18 => eb_rd (g2.2.1 4) 7 v18 (fun v20 => k17 v20))))))) 0 σ
abbrev rmX2_turned : Room := { frames := 2, cells := 0, slots := 0, locals := 35 }
theorem nX2_turned : eb_ar yX2_turned 3 := by decide +kernel
theorem dX2_turned_0 : eb_dc cX2_turned 0 (.iconst 0) 1 1 := by decide +kernel
theorem dX2_turned_1 : eb_dc cX2_turned 1 (.istore 4) 2 3 := by decide +kernel
theorem dX2_turned_3 : eb_dc cX2_turned 3 (.iload 4) 2 5 := by decide +kernel
theorem dX2_turned_5 : eb_dc cX2_turned 5 (.iconst 4) 1 6 := by decide +kernel
theorem dX2_turned_6 : eb_dj cX2_turned 6 (.if_icmp .ge 138) 138 9 144 := by decide +kernel
theorem dX2_turned_9 : eb_dc cX2_turned 9 (.iload 4) 2 11 := by decide +kernel
theorem dX2_turned_11 : eb_dc cX2_turned 11 (.aload_n 0) 1 12 := by decide +kernel
theorem dX2_turned_12 : eb_dc cX2_turned 12 (.getfield 138) 3 15 := by decide +kernel
theorem dX2_turned_15 : eb_dj cX2_turned 15 (.if_icmp .ge 25) 25 18 40 := by decide +kernel
theorem dX2_turned_18 : eb_dc cX2_turned 18 (.iload 4) 2 20 := by decide +kernel
theorem dX2_turned_20 : eb_dc cX2_turned 20 (.iload_n 3) 1 21 := by decide +kernel
theorem dX2_turned_21 : eb_dj cX2_turned 21 (.if_icmp .eq 19) 19 24 40 := by decide +kernel
theorem dX2_turned_24 : eb_dc cX2_turned 24 (.aload_n 0) 1 25 := by decide +kernel
theorem dX2_turned_25 : eb_dc cX2_turned 25 (.getfield 19) 3 28 := by decide +kernel
theorem dX2_turned_28 : eb_dc cX2_turned 28 (.aload_n 0) 1 29 := by decide +kernel
theorem dX2_turned_29 : eb_dc cX2_turned 29 (.iload_n 1) 1 30 := by decide +kernel
theorem dX2_turned_30 : eb_dc cX2_turned 30 (.iload_n 3) 1 31 := by decide +kernel
theorem dX2_turned_31 : eb_dc cX2_turned 31 (.iload 4) 2 33 := by decide +kernel
theorem dX2_turned_33 : eb_dc cX2_turned 33 (.invokevirtual 121) 3 36 := by decide +kernel
theorem dX2_turned_36 : eb_dc cX2_turned 36 (.iaload) 1 37 := by decide +kernel
theorem dX2_turned_37 : eb_dj cX2_turned 37 (.goto 4) 4 40 41 := by decide +kernel
theorem dX2_turned_40 : eb_dc cX2_turned 40 (.iconst 0) 1 41 := by decide +kernel
theorem dX2_turned_41 : eb_dc cX2_turned 41 (.istore 5) 2 43 := by decide +kernel
theorem dX2_turned_43 : eb_dc cX2_turned 43 (.iconst 0) 1 44 := by decide +kernel
theorem dX2_turned_44 : eb_dc cX2_turned 44 (.istore 6) 2 46 := by decide +kernel
theorem dX2_turned_46 : eb_dc cX2_turned 46 (.iload 6) 2 48 := by decide +kernel
theorem dX2_turned_48 : eb_dc cX2_turned 48 (.iconst 4) 1 49 := by decide +kernel
theorem dX2_turned_49 : eb_dj cX2_turned 49 (.if_icmp .ge 89) 89 52 138 := by decide +kernel
theorem dX2_turned_52 : eb_dc cX2_turned 52 (.aload_n 0) 1 53 := by decide +kernel
theorem dX2_turned_53 : eb_dc cX2_turned 53 (.getfield 26) 3 56 := by decide +kernel
theorem dX2_turned_56 : eb_dc cX2_turned 56 (.bipush 16) 2 58 := by decide +kernel
theorem dX2_turned_58 : eb_dc cX2_turned 58 (.iload_n 2) 1 59 := by decide +kernel
theorem dX2_turned_59 : eb_dc cX2_turned 59 (.imul) 1 60 := by decide +kernel
theorem dX2_turned_60 : eb_dc cX2_turned 60 (.iconst 4) 1 61 := by decide +kernel
theorem dX2_turned_61 : eb_dc cX2_turned 61 (.iload 4) 2 63 := by decide +kernel
theorem dX2_turned_63 : eb_dc cX2_turned 63 (.imul) 1 64 := by decide +kernel
theorem dX2_turned_64 : eb_dc cX2_turned 64 (.iadd) 1 65 := by decide +kernel
theorem dX2_turned_65 : eb_dc cX2_turned 65 (.iload 6) 2 67 := by decide +kernel
theorem dX2_turned_67 : eb_dc cX2_turned 67 (.iadd) 1 68 := by decide +kernel
theorem dX2_turned_68 : eb_dc cX2_turned 68 (.iaload) 1 69 := by decide +kernel
theorem dX2_turned_69 : eb_dc cX2_turned 69 (.istore 7) 2 71 := by decide +kernel
theorem dX2_turned_71 : eb_dc cX2_turned 71 (.aload_n 0) 1 72 := by decide +kernel
theorem dX2_turned_72 : eb_dc cX2_turned 72 (.getfield 26) 3 75 := by decide +kernel
theorem dX2_turned_75 : eb_dc cX2_turned 75 (.bipush 16) 2 77 := by decide +kernel
theorem dX2_turned_77 : eb_dc cX2_turned 77 (.iload_n 2) 1 78 := by decide +kernel
theorem dX2_turned_78 : eb_dc cX2_turned 78 (.imul) 1 79 := by decide +kernel
theorem dX2_turned_79 : eb_dc cX2_turned 79 (.iconst 4) 1 80 := by decide +kernel
theorem dX2_turned_80 : eb_dc cX2_turned 80 (.iload_n 3) 1 81 := by decide +kernel
theorem dX2_turned_81 : eb_dc cX2_turned 81 (.imul) 1 82 := by decide +kernel
theorem dX2_turned_82 : eb_dc cX2_turned 82 (.iadd) 1 83 := by decide +kernel
theorem dX2_turned_83 : eb_dc cX2_turned 83 (.iload 6) 2 85 := by decide +kernel
theorem dX2_turned_85 : eb_dc cX2_turned 85 (.iadd) 1 86 := by decide +kernel
theorem dX2_turned_86 : eb_dc cX2_turned 86 (.iaload) 1 87 := by decide +kernel
theorem dX2_turned_87 : eb_dc cX2_turned 87 (.istore 8) 2 89 := by decide +kernel
theorem dX2_turned_89 : eb_dc cX2_turned 89 (.aload_n 0) 1 90 := by decide +kernel
theorem dX2_turned_90 : eb_dc cX2_turned 90 (.getfield 29) 3 93 := by decide +kernel
theorem dX2_turned_93 : eb_dc cX2_turned 93 (.iconst 4) 1 94 := by decide +kernel
theorem dX2_turned_94 : eb_dc cX2_turned 94 (.iload 4) 2 96 := by decide +kernel
theorem dX2_turned_96 : eb_dc cX2_turned 96 (.imul) 1 97 := by decide +kernel
theorem dX2_turned_97 : eb_dc cX2_turned 97 (.iload 6) 2 99 := by decide +kernel
theorem dX2_turned_99 : eb_dc cX2_turned 99 (.iadd) 1 100 := by decide +kernel
theorem dX2_turned_100 : eb_dc cX2_turned 100 (.iload 4) 2 102 := by decide +kernel
theorem dX2_turned_102 : eb_dc cX2_turned 102 (.iload_n 3) 1 103 := by decide +kernel
theorem dX2_turned_103 : eb_dj cX2_turned 103 (.if_icmp .ne 16) 16 106 119 := by decide +kernel
theorem dX2_turned_106 : eb_dc cX2_turned 106 (.sipush 241) 3 109 := by decide +kernel
theorem dX2_turned_109 : eb_dc cX2_turned 109 (.iload 8) 2 111 := by decide +kernel
theorem dX2_turned_111 : eb_dc cX2_turned 111 (.isub) 1 112 := by decide +kernel
theorem dX2_turned_112 : eb_dc cX2_turned 112 (.sipush 241) 3 115 := by decide +kernel
theorem dX2_turned_115 : eb_dc cX2_turned 115 (.irem) 1 116 := by decide +kernel
theorem dX2_turned_116 : eb_dj cX2_turned 116 (.goto 15) 15 119 131 := by decide +kernel
theorem dX2_turned_119 : eb_dc cX2_turned 119 (.iload 7) 2 121 := by decide +kernel
theorem dX2_turned_121 : eb_dc cX2_turned 121 (.iload 5) 2 123 := by decide +kernel
theorem dX2_turned_123 : eb_dc cX2_turned 123 (.iload 8) 2 125 := by decide +kernel
theorem dX2_turned_125 : eb_dc cX2_turned 125 (.imul) 1 126 := by decide +kernel
theorem dX2_turned_126 : eb_dc cX2_turned 126 (.iadd) 1 127 := by decide +kernel
theorem dX2_turned_127 : eb_dc cX2_turned 127 (.sipush 241) 3 130 := by decide +kernel
theorem dX2_turned_130 : eb_dc cX2_turned 130 (.irem) 1 131 := by decide +kernel
theorem dX2_turned_131 : eb_dc cX2_turned 131 (.iastore) 1 132 := by decide +kernel
theorem dX2_turned_132 : eb_dc cX2_turned 132 (.iinc 6 1) 3 135 := by decide +kernel
theorem dX2_turned_135 : eb_dj cX2_turned 135 (.goto (-89)) (-89) 138 46 := by decide +kernel
theorem dX2_turned_138 : eb_dc cX2_turned 138 (.iinc 4 1) 3 141 := by decide +kernel
theorem dX2_turned_141 : eb_dj cX2_turned 141 (.goto (-138)) (-138) 144 3 := by decide +kernel
theorem dX2_turned_144 : eb_dc cX2_turned 144 (.return_) 1 145 := by decide +kernel
theorem ctX2_turned {l : Launch} {Γ : eb_C} {ad : Nat → Nat} {ix : Nat → Option Nat} {σ : eb_MS} {a1 : Int32} {a2 : Int32} {a3 : Int32} {K : eb_MS → Prop} (hi : ms_inv ad ix) (h : MX2_turned σ a1 a2 a3 K) : eb_Ct l Γ yX2_turned cX2_turned 9 (none) rmX2_turned [.ref (ad 0), .int a1, .int a2, .int a3] (ms_st Γ ad ix σ) (em_V Γ ad ix K) := by
  refine eb_of (by decide) (Nat.le_of_ble_eq_true rfl) (fun X P hP _ => ?_)
  show eb_G l Γ P X cX2_turned RX2 9 (none) rmX2_turned 0 [(0, .ref (ad 0)), (1, .int a1), (2, .int a2), (3, .int a3)] [] (ms_st Γ ad ix σ) 0 0
  refine eg_iconst dX2_turned_0 kc_0 ?_
  refine eg_istore (lv' := [(4, .int 0), (0, .ref (ad 0)), (1, .int a1), (2, .int a2), (3, .int a3)]) dX2_turned_1 (Nat.le_of_ble_eq_true rfl) rfl ?_
  refine eg_sub [1, 2, 3, 4, 0] rfl ?_
  refine eb_loop2_e (J := fun (x4_1 : Int32) (g2 : eb_MS) => eb_G l Γ P X cX2_turned RX2 9 (none) rmX2_turned 3 [(0, .ref (ad 0)), (1, .int a1), (2, .int a2), (3, .int a3), (4, .int x4_1)] [] (ms_st Γ ad ix g2) 0 0) h ?_
  intro r3 hr3 x4_1 g2 h
  refine eg_iload 4 dX2_turned_3 rfl ?_
  refine eg_iconst dX2_turned_5 kc_4 ?_
  refine eg_icmp_ge dX2_turned_6 (fun c23 => ?_) (fun c23 => ?_)
  · replace h := h.1 c23
    exact eg_vret dX2_turned_144 (Nat.zero_le _) (Nat.zero_le _) (hP _ _ ⟨_, rfl, rfl, h⟩)
  · replace h := h.2 c23
    refine eg_iload 4 dX2_turned_9 rfl ?_
    refine eg_aload_n 0 dX2_turned_11 rfl rfl ?_
    refine em_gets 6 rfl q1148 dX2_turned_12 hi ?_
    refine eb_jp1_e (J := fun (s4 : Int32) => eb_G l Γ P X cX2_turned RX2 9 (none) rmX2_turned 41 [(0, .ref (ad 0)), (1, .int a1), (2, .int a2), (3, .int a3), (4, .int x4_1)] [.int s4] (ms_st Γ ad ix g2) 0 0) h ?_ ?_
    · intro s4 h
      refine eg_istore (lv' := [(5, .int s4), (0, .ref (ad 0)), (1, .int a1), (2, .int a2), (3, .int a3), (4, .int x4_1)]) dX2_turned_41 (Nat.le_of_ble_eq_true rfl) rfl ?_
      refine eg_iconst dX2_turned_43 kc_0 ?_
      refine eg_istore (lv' := [(6, .int 0), (5, .int s4), (0, .ref (ad 0)), (1, .int a1), (2, .int a2), (3, .int a3), (4, .int x4_1)]) dX2_turned_44 (Nat.le_of_ble_eq_true rfl) rfl ?_
      refine eb_jp1_e (J := fun (g5 : eb_MS) => eb_G l Γ P X cX2_turned RX2 9 (none) rmX2_turned 138 [(0, .ref (ad 0)), (1, .int a1), (2, .int a2), (3, .int a3), (4, .int x4_1)] [] (ms_st Γ ad ix g5) 0 0) h ?_ ?_
      · intro g5 h
        refine eg_iinc (j := 4) (lv' := [(4, .int (x4_1 + 1)), (0, .ref (ad 0)), (1, .int a1), (2, .int a2), (3, .int a3)]) dX2_turned_138 rfl (by rw [kc_1]) (Nat.le_of_ble_eq_true rfl) rfl ?_
        refine eg_goto dX2_turned_141 ?_
        exact eg_sub [1, 2, 3, 4, 0] rfl (hr3 (x4_1 + 1) g5 h)
      · intro k6 hk6 h
        refine eg_sub [2, 3, 4, 5, 6, 1, 0] rfl ?_
        refine eb_loop2_e (J := fun (x6_7 : Int32) (g8 : eb_MS) => eb_G l Γ P X cX2_turned RX2 9 (none) rmX2_turned 46 [(0, .ref (ad 0)), (1, .int a1), (2, .int a2), (3, .int a3), (4, .int x4_1), (5, .int s4), (6, .int x6_7)] [] (ms_st Γ ad ix g8) 0 0) h ?_
        intro r9 hr9 x6_7 g8 h
        refine eg_iload 6 dX2_turned_46 rfl ?_
        refine eg_iconst dX2_turned_48 kc_4 ?_
        refine eg_icmp_ge dX2_turned_49 (fun c16 => ?_) (fun c16 => ?_)
        · replace h := h.1 c16
          exact eg_sub [0, 1, 2, 3, 4] rfl (hk6 g8 h)
        · replace h := h.2 c16
          refine eg_aload_n 0 dX2_turned_52 rfl rfl ?_
          refine em_geta 9 rfl q1151 dX2_turned_53 hi ?_
          refine eg_bipush dX2_turned_56 kb_16 ?_
          refine eg_iload_n 2 dX2_turned_58 rfl rfl ?_
          refine eg_imul dX2_turned_59 ?_
          refine eg_iconst dX2_turned_60 kc_4 ?_
          refine eg_iload 4 dX2_turned_61 rfl ?_
          refine eg_imul dX2_turned_63 ?_
          refine eg_iadd dX2_turned_64 ?_
          refine eg_iload 6 dX2_turned_65 rfl ?_
          refine eg_iadd dX2_turned_67 ?_
          obtain ⟨hb, h⟩ := h
          refine em_iald 9 rfl hb dX2_turned_68 hi (fun v10 ev10 => ?_)
          replace h := h v10 ev10
          refine eg_istore (lv' := [(7, .int v10), (0, .ref (ad 0)), (1, .int a1), (2, .int a2), (3, .int a3), (4, .int x4_1), (5, .int s4), (6, .int x6_7)]) dX2_turned_69 (Nat.le_of_ble_eq_true rfl) rfl ?_
          refine eg_aload_n 1 dX2_turned_71 rfl rfl ?_
          refine em_geta 9 rfl q1151 dX2_turned_72 hi ?_
          refine eg_bipush dX2_turned_75 kb_16 ?_
          refine eg_iload_n 3 dX2_turned_77 rfl rfl ?_
          refine eg_imul dX2_turned_78 ?_
          refine eg_iconst dX2_turned_79 kc_4 ?_
          refine eg_iload_n 4 dX2_turned_80 rfl rfl ?_
          refine eg_imul dX2_turned_81 ?_
          refine eg_iadd dX2_turned_82 ?_
          refine eg_iload 7 dX2_turned_83 rfl ?_
          refine eg_iadd dX2_turned_85 ?_
          obtain ⟨hb, h⟩ := h
          refine em_iald 9 rfl hb dX2_turned_86 hi (fun v11 ev11 => ?_)
          replace h := h v11 ev11
          refine eg_istore (lv' := [(8, .int v11), (7, .int v10), (0, .ref (ad 0)), (1, .int a1), (2, .int a2), (3, .int a3), (4, .int x4_1), (5, .int s4), (6, .int x6_7)]) dX2_turned_87 (Nat.le_of_ble_eq_true rfl) rfl ?_
          refine eg_aload_n 2 dX2_turned_89 rfl rfl ?_
          refine em_geta 10 rfl q1152 dX2_turned_90 hi ?_
          refine eg_iconst dX2_turned_93 kc_4 ?_
          refine eg_iload 6 dX2_turned_94 rfl ?_
          refine eg_imul dX2_turned_96 ?_
          refine eg_iload 8 dX2_turned_97 rfl ?_
          refine eg_iadd dX2_turned_99 ?_
          refine eg_iload 6 dX2_turned_100 rfl ?_
          refine eg_iload_n 5 dX2_turned_102 rfl rfl ?_
          refine eb_jp1_e (J := fun (s12 : Int32) => eb_G l Γ P X cX2_turned RX2 9 (none) rmX2_turned 131 [(0, .ref (ad 0)), (1, .int a1), (2, .int a2), (3, .int a3), (4, .int x4_1), (5, .int s4), (6, .int x6_7)] [.int s12, .int ((4 * x4_1) + x6_7), .ref (ad 10)] (ms_st Γ ad ix g8) 0 0) h ?_ ?_
          · intro s12 h
            obtain ⟨hb, h⟩ := h
            refine em_iast 10 rfl hb dX2_turned_131 hi (fun g13 eg13 => ?_)
            replace h := h g13 eg13
            refine eg_iinc (j := 6) (lv' := [(6, .int (x6_7 + 1)), (0, .ref (ad 0)), (1, .int a1), (2, .int a2), (3, .int a3), (4, .int x4_1), (5, .int s4)]) dX2_turned_132 rfl (by rw [kc_1]) (Nat.le_of_ble_eq_true rfl) rfl ?_
            refine eg_goto dX2_turned_135 ?_
            exact eg_sub [1, 2, 3, 4, 5, 6, 0] rfl (hr9 (x6_7 + 1) g13 h)
          · intro k14 hk14 h
            refine eg_icmp_ne dX2_turned_103 (fun c15 => ?_) (fun c15 => ?_)
            · replace h := h.2 c15
              refine eg_iload 1 dX2_turned_119 rfl ?_
              refine eg_iload 7 dX2_turned_121 rfl ?_
              refine eg_iload 0 dX2_turned_123 rfl ?_
              refine eg_imul dX2_turned_125 ?_
              refine eg_iadd dX2_turned_126 ?_
              refine eg_sipush dX2_turned_127 ks_241 ?_
              refine eg_irem dX2_turned_130 (by decide) ?_
              exact eg_sub [2, 3, 4, 5, 6, 7, 8] rfl (hk14 ((eb_rem ((v10 + (s4 * v11))) 241)) h)
            · replace h := h.1 c15
              refine eg_sipush dX2_turned_106 ks_241 ?_
              refine eg_iload 0 dX2_turned_109 rfl ?_
              refine eg_isub dX2_turned_111 ?_
              refine eg_sipush dX2_turned_112 ks_241 ?_
              refine eg_irem dX2_turned_115 (by decide) ?_
              refine eg_goto dX2_turned_116 ?_
              exact eg_sub [2, 3, 4, 5, 6, 7, 8] rfl (hk14 ((eb_rem (241 - v11) 241)) h)
    · intro k17 hk17 h
      refine eg_icmp_ge dX2_turned_15 (fun c22 => ?_) (fun c22 => ?_)
      · replace h := h.1 c22
        refine eg_iconst dX2_turned_40 kc_0 ?_
        exact hk17 0 h
      · replace h := h.2 c22
        refine eg_iload 4 dX2_turned_18 rfl ?_
        refine eg_iload_n 3 dX2_turned_20 rfl rfl ?_
        refine eg_icmp_eq dX2_turned_21 (fun c21 => ?_) (fun c21 => ?_)
        · replace h := h.1 c21
          refine eg_iconst dX2_turned_40 kc_0 ?_
          exact hk17 0 h
        · replace h := h.2 c21
          refine eg_aload_n 0 dX2_turned_24 rfl rfl ?_
          refine em_geta 4 rfl q1146 dX2_turned_25 hi ?_
          refine eg_aload_n 0 dX2_turned_28 rfl rfl ?_
          refine eg_iload_n 1 dX2_turned_29 rfl rfl ?_
          refine eg_iload_n 3 dX2_turned_30 rfl rfl ?_
          refine eg_iload 4 dX2_turned_31 rfl ?_
          refine em_cvp (rest := [.ref (ad 4)]) (ctX2_angleOf hi h) hi (lw_V q1266 q1268 qs37 q77 q1269) rfl nX2_angleOf ⟨Nat.le_of_ble_eq_true rfl, Nat.le_of_ble_eq_true rfl⟩ ⟨rfl, rfl⟩ ⟨Nat.zero_le _, Nat.zero_le _⟩ rfl rfl (Nat.le_of_ble_eq_true rfl) dX2_turned_33 (fun v18 h => ?_)
          obtain ⟨hb, h⟩ := h
          refine em_iald 4 rfl hb dX2_turned_36 hi (fun v20 ev20 => ?_)
          replace h := h v20 ev20
          refine eg_goto dX2_turned_37 ?_
          exact hk17 v20 h
def MX2_found (σ : eb_MS) (a1 : Int32) (K : Int32 → Prop) : Prop :=
  eb_loop1 (fun r2 (x2_1 : Int32) => eb_br (a1 ≤ x2_1) (K a1) (eb_jp1 (fun (x3_3 : Int32) => eb_br (x3_3 = 0) (r2 (x2_1 + 1)) (K x2_1)) (fun k5 => eb_loop2 (fun r8 (x3_6 : Int32) (x4_7 : Int32) => eb_br (16 ≤ x4_7) (k5 x3_6) (eb_br (x3_6 = 0) (k5 x3_6) (eb_rd (σ.2.1 9) 8000 (((16 * x2_1) + x4_7)) (fun v9 => eb_rd (σ.2.1 10) 16 x4_7 (fun v10 => eb_jp1 (fun (s11 : Int32) => r8 s11 (x4_7 + 1)) (fun k12 => eb_br (v9 = v10) (k12 1) (k12 0))))))) 1 0))) 0
abbrev rmX2_found : Room := { frames := 1, cells := 0, slots := 0, locals := 12 }
theorem nX2_found : eb_ar yX2_found 1 := by decide +kernel
theorem dX2_found_0 : eb_dc cX2_found 0 (.iconst 0) 1 1 := by decide +kernel
theorem dX2_found_1 : eb_dc cX2_found 1 (.istore_n 2) 1 2 := by decide +kernel
theorem dX2_found_2 : eb_dc cX2_found 2 (.iload_n 2) 1 3 := by decide +kernel
theorem dX2_found_3 : eb_dc cX2_found 3 (.iload_n 1) 1 4 := by decide +kernel
theorem dX2_found_4 : eb_dj cX2_found 4 (.if_icmp .ge 65) 65 7 69 := by decide +kernel
theorem dX2_found_7 : eb_dc cX2_found 7 (.iconst 1) 1 8 := by decide +kernel
theorem dX2_found_8 : eb_dc cX2_found 8 (.istore_n 3) 1 9 := by decide +kernel
theorem dX2_found_9 : eb_dc cX2_found 9 (.iconst 0) 1 10 := by decide +kernel
theorem dX2_found_10 : eb_dc cX2_found 10 (.istore 4) 2 12 := by decide +kernel
theorem dX2_found_12 : eb_dc cX2_found 12 (.iload 4) 2 14 := by decide +kernel
theorem dX2_found_14 : eb_dc cX2_found 14 (.bipush 16) 2 16 := by decide +kernel
theorem dX2_found_16 : eb_dj cX2_found 16 (.if_icmp .ge 41) 41 19 57 := by decide +kernel
theorem dX2_found_19 : eb_dc cX2_found 19 (.iload_n 3) 1 20 := by decide +kernel
theorem dX2_found_20 : eb_dj cX2_found 20 (.ifCond .eq 37) 37 23 57 := by decide +kernel
theorem dX2_found_23 : eb_dc cX2_found 23 (.aload_n 0) 1 24 := by decide +kernel
theorem dX2_found_24 : eb_dc cX2_found 24 (.getfield 26) 3 27 := by decide +kernel
theorem dX2_found_27 : eb_dc cX2_found 27 (.bipush 16) 2 29 := by decide +kernel
theorem dX2_found_29 : eb_dc cX2_found 29 (.iload_n 2) 1 30 := by decide +kernel
theorem dX2_found_30 : eb_dc cX2_found 30 (.imul) 1 31 := by decide +kernel
theorem dX2_found_31 : eb_dc cX2_found 31 (.iload 4) 2 33 := by decide +kernel
theorem dX2_found_33 : eb_dc cX2_found 33 (.iadd) 1 34 := by decide +kernel
theorem dX2_found_34 : eb_dc cX2_found 34 (.iaload) 1 35 := by decide +kernel
theorem dX2_found_35 : eb_dc cX2_found 35 (.aload_n 0) 1 36 := by decide +kernel
theorem dX2_found_36 : eb_dc cX2_found 36 (.getfield 29) 3 39 := by decide +kernel
theorem dX2_found_39 : eb_dc cX2_found 39 (.iload 4) 2 41 := by decide +kernel
theorem dX2_found_41 : eb_dc cX2_found 41 (.iaload) 1 42 := by decide +kernel
theorem dX2_found_42 : eb_dj cX2_found 42 (.if_icmp .ne 7) 7 45 49 := by decide +kernel
theorem dX2_found_45 : eb_dc cX2_found 45 (.iconst 1) 1 46 := by decide +kernel
theorem dX2_found_46 : eb_dj cX2_found 46 (.goto 4) 4 49 50 := by decide +kernel
theorem dX2_found_49 : eb_dc cX2_found 49 (.iconst 0) 1 50 := by decide +kernel
theorem dX2_found_50 : eb_dc cX2_found 50 (.istore_n 3) 1 51 := by decide +kernel
theorem dX2_found_51 : eb_dc cX2_found 51 (.iinc 4 1) 3 54 := by decide +kernel
theorem dX2_found_54 : eb_dj cX2_found 54 (.goto (-42)) (-42) 57 12 := by decide +kernel
theorem dX2_found_57 : eb_dc cX2_found 57 (.iload_n 3) 1 58 := by decide +kernel
theorem dX2_found_58 : eb_dj cX2_found 58 (.ifCond .eq 5) 5 61 63 := by decide +kernel
theorem dX2_found_61 : eb_dc cX2_found 61 (.iload_n 2) 1 62 := by decide +kernel
theorem dX2_found_62 : eb_dc cX2_found 62 (.ireturn) 1 63 := by decide +kernel
theorem dX2_found_63 : eb_dc cX2_found 63 (.iinc 2 1) 3 66 := by decide +kernel
theorem dX2_found_66 : eb_dj cX2_found 66 (.goto (-64)) (-64) 69 2 := by decide +kernel
theorem dX2_found_69 : eb_dc cX2_found 69 (.iload_n 1) 1 70 := by decide +kernel
theorem dX2_found_70 : eb_dc cX2_found 70 (.ireturn) 1 71 := by decide +kernel
theorem ctX2_found {l : Launch} {Γ : eb_C} {ad : Nat → Nat} {ix : Nat → Option Nat} {σ : eb_MS} {a1 : Int32} {K : Int32 → Prop} (hi : ms_inv ad ix) (h : MX2_found σ a1 K) : eb_Ct l Γ yX2_found cX2_found 5 (some .int) rmX2_found [.ref (ad 0), .int a1] (ms_st Γ ad ix σ) (eb_pI (ms_st Γ ad ix σ) K) := by
  refine eb_of (by decide) (Nat.le_of_ble_eq_true rfl) (fun X P hP _ => ?_)
  show eb_G l Γ P X cX2_found RX2 5 (some .int) rmX2_found 0 [(0, .ref (ad 0)), (1, .int a1)] [] (ms_st Γ ad ix σ) 0 0
  refine eg_iconst dX2_found_0 kc_0 ?_
  refine eg_istore_n (lv' := [(2, .int 0), (0, .ref (ad 0)), (1, .int a1)]) dX2_found_1 rfl (Nat.le_of_ble_eq_true rfl) rfl ?_
  refine eg_sub [1, 2, 0] rfl ?_
  refine eb_loop1_e (J := fun (x2_1 : Int32) => eb_G l Γ P X cX2_found RX2 5 (some .int) rmX2_found 2 [(0, .ref (ad 0)), (1, .int a1), (2, .int x2_1)] [] (ms_st Γ ad ix σ) 0 0) h ?_
  intro r2 hr2 x2_1 h
  refine eg_iload_n 2 dX2_found_2 rfl rfl ?_
  refine eg_iload_n 1 dX2_found_3 rfl rfl ?_
  refine eg_icmp_ge dX2_found_4 (fun c16 => ?_) (fun c16 => ?_)
  · replace h := h.1 c16
    refine eg_iload_n 1 dX2_found_69 rfl rfl ?_
    exact eg_iret dX2_found_70 (Nat.zero_le _) (Nat.zero_le _) (hP _ _ ⟨_, rfl, rfl, h⟩)
  · replace h := h.2 c16
    refine eg_iconst dX2_found_7 kc_1 ?_
    refine eg_istore_n (lv' := [(3, .int 1), (0, .ref (ad 0)), (1, .int a1), (2, .int x2_1)]) dX2_found_8 rfl (Nat.le_of_ble_eq_true rfl) rfl ?_
    refine eg_iconst dX2_found_9 kc_0 ?_
    refine eg_istore (lv' := [(4, .int 0), (3, .int 1), (0, .ref (ad 0)), (1, .int a1), (2, .int x2_1)]) dX2_found_10 (Nat.le_of_ble_eq_true rfl) rfl ?_
    refine eb_jp1_e (J := fun (x3_3 : Int32) => eb_G l Γ P X cX2_found RX2 5 (some .int) rmX2_found 57 [(0, .ref (ad 0)), (1, .int a1), (2, .int x2_1), (3, .int x3_3)] [] (ms_st Γ ad ix σ) 0 0) h ?_ ?_
    · intro x3_3 h
      refine eg_iload_n 3 dX2_found_57 rfl rfl ?_
      refine eg_if_eq dX2_found_58 (fun c4 => ?_) (fun c4 => ?_)
      · replace h := h.1 c4
        refine eg_iinc (j := 2) (lv' := [(2, .int (x2_1 + 1)), (0, .ref (ad 0)), (1, .int a1), (3, .int x3_3)]) dX2_found_63 rfl (by rw [kc_1]) (Nat.le_of_ble_eq_true rfl) rfl ?_
        refine eg_goto dX2_found_66 ?_
        exact eg_sub [1, 2, 0] rfl (hr2 (x2_1 + 1) h)
      · replace h := h.2 c4
        refine eg_iload_n 2 dX2_found_61 rfl rfl ?_
        exact eg_iret dX2_found_62 (Nat.zero_le _) (Nat.zero_le _) (hP _ _ ⟨_, rfl, rfl, h⟩)
    · intro k5 hk5 h
      refine eg_sub [2, 3, 4, 1, 0] rfl ?_
      refine eb_loop2_e (J := fun (x3_6 : Int32) (x4_7 : Int32) => eb_G l Γ P X cX2_found RX2 5 (some .int) rmX2_found 12 [(0, .ref (ad 0)), (1, .int a1), (2, .int x2_1), (3, .int x3_6), (4, .int x4_7)] [] (ms_st Γ ad ix σ) 0 0) h ?_
      intro r8 hr8 x3_6 x4_7 h
      refine eg_iload 4 dX2_found_12 rfl ?_
      refine eg_bipush dX2_found_14 kb_16 ?_
      refine eg_icmp_ge dX2_found_16 (fun c15 => ?_) (fun c15 => ?_)
      · replace h := h.1 c15
        exact eg_sub [0, 1, 2, 3] rfl (hk5 x3_6 h)
      · replace h := h.2 c15
        refine eg_iload_n 3 dX2_found_19 rfl rfl ?_
        refine eg_if_eq dX2_found_20 (fun c14 => ?_) (fun c14 => ?_)
        · replace h := h.1 c14
          exact eg_sub [0, 1, 2, 3] rfl (hk5 x3_6 h)
        · replace h := h.2 c14
          refine eg_aload_n 0 dX2_found_23 rfl rfl ?_
          refine em_geta 9 rfl q1151 dX2_found_24 hi ?_
          refine eg_bipush dX2_found_27 kb_16 ?_
          refine eg_iload_n 2 dX2_found_29 rfl rfl ?_
          refine eg_imul dX2_found_30 ?_
          refine eg_iload 4 dX2_found_31 rfl ?_
          refine eg_iadd dX2_found_33 ?_
          obtain ⟨hb, h⟩ := h
          refine em_iald 9 rfl hb dX2_found_34 hi (fun v9 ev9 => ?_)
          replace h := h v9 ev9
          refine eg_aload_n 0 dX2_found_35 rfl rfl ?_
          refine em_geta 10 rfl q1152 dX2_found_36 hi ?_
          refine eg_iload 4 dX2_found_39 rfl ?_
          obtain ⟨hb, h⟩ := h
          refine em_iald 10 rfl hb dX2_found_41 hi (fun v10 ev10 => ?_)
          replace h := h v10 ev10
          refine eb_jp1_e (J := fun (s11 : Int32) => eb_G l Γ P X cX2_found RX2 5 (some .int) rmX2_found 50 [(0, .ref (ad 0)), (1, .int a1), (2, .int x2_1), (4, .int x4_7)] [.int s11] (ms_st Γ ad ix σ) 0 0) h ?_ ?_
          · intro s11 h
            refine eg_istore_n (lv' := [(3, .int s11), (0, .ref (ad 0)), (1, .int a1), (2, .int x2_1), (4, .int x4_7)]) dX2_found_50 rfl (Nat.le_of_ble_eq_true rfl) rfl ?_
            refine eg_iinc (j := 4) (lv' := [(4, .int (x4_7 + 1)), (3, .int s11), (0, .ref (ad 0)), (1, .int a1), (2, .int x2_1)]) dX2_found_51 rfl (by rw [kc_1]) (Nat.le_of_ble_eq_true rfl) rfl ?_
            refine eg_goto dX2_found_54 ?_
            exact eg_sub [2, 3, 4, 1, 0] rfl (hr8 s11 (x4_7 + 1) h)
          · intro k12 hk12 h
            refine eg_icmp_ne dX2_found_42 (fun c13 => ?_) (fun c13 => ?_)
            · replace h := h.2 c13
              refine eg_iconst dX2_found_49 kc_0 ?_
              exact eg_sub [0, 1, 2, 4] rfl (hk12 0 h)
            · replace h := h.1 c13
              refine eg_iconst dX2_found_45 kc_1 ?_
              refine eg_goto dX2_found_46 ?_
              exact eg_sub [0, 1, 2, 4] rfl (hk12 1 h)
def MX2_stillOf (σ : eb_MS) (a1 : Int32) (a2 : Int32) (K : Int32 → Prop) : Prop :=
  eb_loop2 (fun r3 (x3_1 : Int32) (x4_2 : Int32) => eb_rd (σ.2.1 1) 4 a1 (fun v4 => eb_br (v4 ≤ x4_2) (K x3_1) (eb_jp1 (fun (s5 : Int32) => eb_jp1 (fun (s6 : Int32) => r3 (x3_1 ||| s6) (x4_2 + 1)) (fun k7 => eb_br (s5 = 0) (k7 0) (k7 (eb_shl 1 x4_2)))) (fun k9 => eb_br (((eb_shr a2 x4_2) &&& 1) = 0) (eb_rd (σ.2.1 3) 4 a1 (fun v10 => eb_br (((eb_shr v10 x4_2) &&& 1) = 0) (MX2_joinedTo σ a1 x4_2 (fun v11 => eb_br ((v11 &&& a2) = 0) (k9 1) (k9 0))) (k9 0))) (k9 0))))) 0 0
abbrev rmX2_stillOf : Room := { frames := 3, cells := 0, slots := 0, locals := 59 }
theorem nX2_stillOf : eb_ar yX2_stillOf 2 := by decide +kernel
theorem dX2_stillOf_0 : eb_dc cX2_stillOf 0 (.iconst 0) 1 1 := by decide +kernel
theorem dX2_stillOf_1 : eb_dc cX2_stillOf 1 (.istore_n 3) 1 2 := by decide +kernel
theorem dX2_stillOf_2 : eb_dc cX2_stillOf 2 (.iconst 0) 1 3 := by decide +kernel
theorem dX2_stillOf_3 : eb_dc cX2_stillOf 3 (.istore 4) 2 5 := by decide +kernel
theorem dX2_stillOf_5 : eb_dc cX2_stillOf 5 (.iload 4) 2 7 := by decide +kernel
theorem dX2_stillOf_7 : eb_dc cX2_stillOf 7 (.aload_n 0) 1 8 := by decide +kernel
theorem dX2_stillOf_8 : eb_dc cX2_stillOf 8 (.getfield 7) 3 11 := by decide +kernel
theorem dX2_stillOf_11 : eb_dc cX2_stillOf 11 (.iload_n 1) 1 12 := by decide +kernel
theorem dX2_stillOf_12 : eb_dc cX2_stillOf 12 (.iaload) 1 13 := by decide +kernel
theorem dX2_stillOf_13 : eb_dj cX2_stillOf 13 (.if_icmp .ge 67) 67 16 80 := by decide +kernel
theorem dX2_stillOf_16 : eb_dc cX2_stillOf 16 (.iload_n 2) 1 17 := by decide +kernel
theorem dX2_stillOf_17 : eb_dc cX2_stillOf 17 (.iload 4) 2 19 := by decide +kernel
theorem dX2_stillOf_19 : eb_dc cX2_stillOf 19 (.ishr) 1 20 := by decide +kernel
theorem dX2_stillOf_20 : eb_dc cX2_stillOf 20 (.iconst 1) 1 21 := by decide +kernel
theorem dX2_stillOf_21 : eb_dc cX2_stillOf 21 (.iand) 1 22 := by decide +kernel
theorem dX2_stillOf_22 : eb_dj cX2_stillOf 22 (.ifCond .ne 33) 33 25 55 := by decide +kernel
theorem dX2_stillOf_25 : eb_dc cX2_stillOf 25 (.aload_n 0) 1 26 := by decide +kernel
theorem dX2_stillOf_26 : eb_dc cX2_stillOf 26 (.getfield 16) 3 29 := by decide +kernel
theorem dX2_stillOf_29 : eb_dc cX2_stillOf 29 (.iload_n 1) 1 30 := by decide +kernel
theorem dX2_stillOf_30 : eb_dc cX2_stillOf 30 (.iaload) 1 31 := by decide +kernel
theorem dX2_stillOf_31 : eb_dc cX2_stillOf 31 (.iload 4) 2 33 := by decide +kernel
theorem dX2_stillOf_33 : eb_dc cX2_stillOf 33 (.ishr) 1 34 := by decide +kernel
theorem dX2_stillOf_34 : eb_dc cX2_stillOf 34 (.iconst 1) 1 35 := by decide +kernel
theorem dX2_stillOf_35 : eb_dc cX2_stillOf 35 (.iand) 1 36 := by decide +kernel
theorem dX2_stillOf_36 : eb_dj cX2_stillOf 36 (.ifCond .ne 19) 19 39 55 := by decide +kernel
theorem dX2_stillOf_39 : eb_dc cX2_stillOf 39 (.aload_n 0) 1 40 := by decide +kernel
theorem dX2_stillOf_40 : eb_dc cX2_stillOf 40 (.iload_n 1) 1 41 := by decide +kernel
theorem dX2_stillOf_41 : eb_dc cX2_stillOf 41 (.iload 4) 2 43 := by decide +kernel
theorem dX2_stillOf_43 : eb_dc cX2_stillOf 43 (.invokevirtual 125) 3 46 := by decide +kernel
theorem dX2_stillOf_46 : eb_dc cX2_stillOf 46 (.iload_n 2) 1 47 := by decide +kernel
theorem dX2_stillOf_47 : eb_dc cX2_stillOf 47 (.iand) 1 48 := by decide +kernel
theorem dX2_stillOf_48 : eb_dj cX2_stillOf 48 (.ifCond .ne 7) 7 51 55 := by decide +kernel
theorem dX2_stillOf_51 : eb_dc cX2_stillOf 51 (.iconst 1) 1 52 := by decide +kernel
theorem dX2_stillOf_52 : eb_dj cX2_stillOf 52 (.goto 4) 4 55 56 := by decide +kernel
theorem dX2_stillOf_55 : eb_dc cX2_stillOf 55 (.iconst 0) 1 56 := by decide +kernel
theorem dX2_stillOf_56 : eb_dc cX2_stillOf 56 (.istore 5) 2 58 := by decide +kernel
theorem dX2_stillOf_58 : eb_dc cX2_stillOf 58 (.iload_n 3) 1 59 := by decide +kernel
theorem dX2_stillOf_59 : eb_dc cX2_stillOf 59 (.iload 5) 2 61 := by decide +kernel
theorem dX2_stillOf_61 : eb_dj cX2_stillOf 61 (.ifCond .eq 10) 10 64 71 := by decide +kernel
theorem dX2_stillOf_64 : eb_dc cX2_stillOf 64 (.iconst 1) 1 65 := by decide +kernel
theorem dX2_stillOf_65 : eb_dc cX2_stillOf 65 (.iload 4) 2 67 := by decide +kernel
theorem dX2_stillOf_67 : eb_dc cX2_stillOf 67 (.ishl) 1 68 := by decide +kernel
theorem dX2_stillOf_68 : eb_dj cX2_stillOf 68 (.goto 4) 4 71 72 := by decide +kernel
theorem dX2_stillOf_71 : eb_dc cX2_stillOf 71 (.iconst 0) 1 72 := by decide +kernel
theorem dX2_stillOf_72 : eb_dc cX2_stillOf 72 (.ior) 1 73 := by decide +kernel
theorem dX2_stillOf_73 : eb_dc cX2_stillOf 73 (.istore_n 3) 1 74 := by decide +kernel
theorem dX2_stillOf_74 : eb_dc cX2_stillOf 74 (.iinc 4 1) 3 77 := by decide +kernel
theorem dX2_stillOf_77 : eb_dj cX2_stillOf 77 (.goto (-72)) (-72) 80 5 := by decide +kernel
theorem dX2_stillOf_80 : eb_dc cX2_stillOf 80 (.iload_n 3) 1 81 := by decide +kernel
theorem dX2_stillOf_81 : eb_dc cX2_stillOf 81 (.ireturn) 1 82 := by decide +kernel
theorem ctX2_stillOf {l : Launch} {Γ : eb_C} {ad : Nat → Nat} {ix : Nat → Option Nat} {σ : eb_MS} {a1 : Int32} {a2 : Int32} {K : Int32 → Prop} (hi : ms_inv ad ix) (h : MX2_stillOf σ a1 a2 K) : eb_Ct l Γ yX2_stillOf cX2_stillOf 6 (some .int) rmX2_stillOf [.ref (ad 0), .int a1, .int a2] (ms_st Γ ad ix σ) (eb_pI (ms_st Γ ad ix σ) K) := by
  refine eb_of (by decide) (Nat.le_of_ble_eq_true rfl) (fun X P hP _ => ?_)
  show eb_G l Γ P X cX2_stillOf RX2 6 (some .int) rmX2_stillOf 0 [(0, .ref (ad 0)), (1, .int a1), (2, .int a2)] [] (ms_st Γ ad ix σ) 0 0
  refine eg_iconst dX2_stillOf_0 kc_0 ?_
  refine eg_istore_n (lv' := [(3, .int 0), (0, .ref (ad 0)), (1, .int a1), (2, .int a2)]) dX2_stillOf_1 rfl (Nat.le_of_ble_eq_true rfl) rfl ?_
  refine eg_iconst dX2_stillOf_2 kc_0 ?_
  refine eg_istore (lv' := [(4, .int 0), (3, .int 0), (0, .ref (ad 0)), (1, .int a1), (2, .int a2)]) dX2_stillOf_3 (Nat.le_of_ble_eq_true rfl) rfl ?_
  refine eg_sub [2, 3, 4, 1, 0] rfl ?_
  refine eb_loop2_e (J := fun (x3_1 : Int32) (x4_2 : Int32) => eb_G l Γ P X cX2_stillOf RX2 6 (some .int) rmX2_stillOf 5 [(0, .ref (ad 0)), (1, .int a1), (2, .int a2), (3, .int x3_1), (4, .int x4_2)] [] (ms_st Γ ad ix σ) 0 0) h ?_
  intro r3 hr3 x3_1 x4_2 h
  refine eg_iload 4 dX2_stillOf_5 rfl ?_
  refine eg_aload_n 0 dX2_stillOf_7 rfl rfl ?_
  refine em_geta 1 rfl q1143 dX2_stillOf_8 hi ?_
  refine eg_iload_n 1 dX2_stillOf_11 rfl rfl ?_
  obtain ⟨hb, h⟩ := h
  refine em_iald 1 rfl hb dX2_stillOf_12 hi (fun v4 ev4 => ?_)
  replace h := h v4 ev4
  refine eg_icmp_ge dX2_stillOf_13 (fun c16 => ?_) (fun c16 => ?_)
  · replace h := h.1 c16
    refine eg_iload_n 3 dX2_stillOf_80 rfl rfl ?_
    exact eg_iret dX2_stillOf_81 (Nat.zero_le _) (Nat.zero_le _) (hP _ _ ⟨_, rfl, rfl, h⟩)
  · replace h := h.2 c16
    refine eg_iload_n 2 dX2_stillOf_16 rfl rfl ?_
    refine eg_iload 4 dX2_stillOf_17 rfl ?_
    refine eg_ishr dX2_stillOf_19 ?_
    refine eg_iconst dX2_stillOf_20 kc_1 ?_
    refine eg_iand dX2_stillOf_21 ?_
    refine eb_jp1_e (J := fun (s5 : Int32) => eb_G l Γ P X cX2_stillOf RX2 6 (some .int) rmX2_stillOf 56 [(0, .ref (ad 0)), (1, .int a1), (2, .int a2), (3, .int x3_1), (4, .int x4_2)] [.int s5] (ms_st Γ ad ix σ) 0 0) h ?_ ?_
    · intro s5 h
      refine eg_istore (lv' := [(5, .int s5), (0, .ref (ad 0)), (1, .int a1), (2, .int a2), (3, .int x3_1), (4, .int x4_2)]) dX2_stillOf_56 (Nat.le_of_ble_eq_true rfl) rfl ?_
      refine eg_iload_n 4 dX2_stillOf_58 rfl rfl ?_
      refine eg_iload 0 dX2_stillOf_59 rfl ?_
      refine eb_jp1_e (J := fun (s6 : Int32) => eb_G l Γ P X cX2_stillOf RX2 6 (some .int) rmX2_stillOf 72 [(0, .ref (ad 0)), (1, .int a1), (2, .int a2), (4, .int x4_2)] [.int s6, .int x3_1] (ms_st Γ ad ix σ) 0 0) h ?_ ?_
      · intro s6 h
        refine eg_ior dX2_stillOf_72 ?_
        refine eg_istore_n (lv' := [(3, .int (x3_1 ||| s6)), (0, .ref (ad 0)), (1, .int a1), (2, .int a2), (4, .int x4_2)]) dX2_stillOf_73 rfl (Nat.le_of_ble_eq_true rfl) rfl ?_
        refine eg_iinc (j := 4) (lv' := [(4, .int (x4_2 + 1)), (3, .int (x3_1 ||| s6)), (0, .ref (ad 0)), (1, .int a1), (2, .int a2)]) dX2_stillOf_74 rfl (by rw [kc_1]) (Nat.le_of_ble_eq_true rfl) rfl ?_
        refine eg_goto dX2_stillOf_77 ?_
        exact eg_sub [2, 3, 4, 1, 0] rfl (hr3 (x3_1 ||| s6) (x4_2 + 1) h)
      · intro k7 hk7 h
        refine eg_if_eq dX2_stillOf_61 (fun c8 => ?_) (fun c8 => ?_)
        · replace h := h.1 c8
          refine eg_iconst dX2_stillOf_71 kc_0 ?_
          exact eg_sub [1, 2, 3, 5] rfl (hk7 0 h)
        · replace h := h.2 c8
          refine eg_iconst dX2_stillOf_64 kc_1 ?_
          refine eg_iload 5 dX2_stillOf_65 rfl ?_
          refine eg_ishl dX2_stillOf_67 ?_
          refine eg_goto dX2_stillOf_68 ?_
          exact eg_sub [1, 2, 3, 5] rfl (hk7 (eb_shl 1 x4_2) h)
    · intro k9 hk9 h
      refine eg_if_ne dX2_stillOf_22 (fun c15 => ?_) (fun c15 => ?_)
      · replace h := h.2 c15
        refine eg_iconst dX2_stillOf_55 kc_0 ?_
        exact hk9 0 h
      · replace h := h.1 c15
        refine eg_aload_n 0 dX2_stillOf_25 rfl rfl ?_
        refine em_geta 3 rfl q1145 dX2_stillOf_26 hi ?_
        refine eg_iload_n 1 dX2_stillOf_29 rfl rfl ?_
        obtain ⟨hb, h⟩ := h
        refine em_iald 3 rfl hb dX2_stillOf_30 hi (fun v10 ev10 => ?_)
        replace h := h v10 ev10
        refine eg_iload 4 dX2_stillOf_31 rfl ?_
        refine eg_ishr dX2_stillOf_33 ?_
        refine eg_iconst dX2_stillOf_34 kc_1 ?_
        refine eg_iand dX2_stillOf_35 ?_
        refine eg_if_ne dX2_stillOf_36 (fun c14 => ?_) (fun c14 => ?_)
        · replace h := h.2 c14
          refine eg_iconst dX2_stillOf_55 kc_0 ?_
          exact hk9 0 h
        · replace h := h.1 c14
          refine eg_aload_n 0 dX2_stillOf_39 rfl rfl ?_
          refine eg_iload_n 1 dX2_stillOf_40 rfl rfl ?_
          refine eg_iload 4 dX2_stillOf_41 rfl ?_
          refine em_cvp (rest := []) (ctX2_joinedTo hi h) hi (lw_V q1282 q1284 qs38 q77 q1285) rfl nX2_joinedTo ⟨Nat.le_of_ble_eq_true rfl, Nat.le_of_ble_eq_true rfl⟩ ⟨rfl, rfl⟩ ⟨Nat.zero_le _, Nat.zero_le _⟩ rfl rfl (Nat.le_of_ble_eq_true rfl) dX2_stillOf_43 (fun v11 h => ?_)
          refine eg_iload_n 2 dX2_stillOf_46 rfl rfl ?_
          refine eg_iand dX2_stillOf_47 ?_
          refine eg_if_ne dX2_stillOf_48 (fun c13 => ?_) (fun c13 => ?_)
          · replace h := h.2 c13
            refine eg_iconst dX2_stillOf_55 kc_0 ?_
            exact hk9 0 h
          · replace h := h.1 c13
            refine eg_iconst dX2_stillOf_51 kc_1 ?_
            refine eg_goto dX2_stillOf_52 ?_
            exact hk9 1 h
def MX2_tellsParts (σ : eb_MS) (a1 : Int32) (K : eb_MS → Prop) : Prop :=
  MX2_stillOf σ (σ.1 5) a1 (fun v1 => eb_jp1 (fun (g3 : eb_MS) => ms_ws g3 18 0 (fun g4 => eb_loop2 (fun r7 (x3_5 : Int32) (g6 : eb_MS) => eb_br ((g6.1 8) ≤ x3_5) (K g6) (eb_rd (g6.2.1 17) 500 x3_5 (fun v8 => eb_jp1 (fun (g9 : eb_MS) => r7 (x3_5 + 1) g9) (fun k10 => eb_br (v8 = (-1)) (ms_wr g6 19 500 (g6.1 18) x3_5 (fun g11 => ms_wr g11 17 500 x3_5 (g11.1 18) (fun g12 => ms_wr g12 21 500 0 x3_5 (fun g13 => eb_jp1 (fun (g14 : eb_MS) => ms_ws g14 18 (((g14.1 18) + 1)) (fun g15 => k10 g15)) (fun k16 => eb_loop3 (fun r20 (x4_17 : Int32) (x5_18 : Int32) (g19 : eb_MS) => eb_br (x4_17 ≤ x5_18) (k16 g19) (eb_jp2 (fun (x4_21 : Int32) (g22 : eb_MS) => r20 x4_21 (x5_18 + 1) g22) (fun k23 => eb_loop3 (fun r27 (x4_24 : Int32) (x6_25 : Int32) (g26 : eb_MS) => eb_br ((g26.1 6) ≤ x6_25) (k23 x4_24 g26) (eb_rd (g26.2.1 21) 500 x5_18 (fun v28 => eb_rd (g26.2.1 11) 2000 (((4 * v28) + x6_25)) (fun v29 => eb_jp2 (fun (x4_30 : Int32) (g31 : eb_MS) => r27 x4_30 (x6_25 + 1) g31) (fun k32 => eb_br (((eb_shr (a1 ||| v1) x6_25) &&& 1) = 1) (eb_rd (g26.2.1 17) 500 v29 (fun v33 => eb_br (v33 = (-1)) (ms_wr g26 17 500 v29 (g26.1 18) (fun g34 => ms_wr g34 21 500 x4_24 v29 (fun g35 => k32 (x4_24 + 1) g35))) (k32 x4_24 g26))) (k32 x4_24 g26)))))) x4_17 0 g19))) 1 0 g13))))) (k10 g6))))) 0 g4)) (fun k42 => eb_loop2 (fun r45 (x3_43 : Int32) (g44 : eb_MS) => eb_br ((g44.1 8) ≤ x3_43) (k42 g44) (ms_wr g44 17 500 x3_43 (-1) (fun g46 => r45 (x3_43 + 1) g46))) 0 σ))
abbrev rmX2_tellsParts : Room := { frames := 4, cells := 0, slots := 0, locals := 84 }
theorem nX2_tellsParts : eb_ar yX2_tellsParts 1 := by decide +kernel
theorem dX2_tellsParts_0 : eb_dc cX2_tellsParts 0 (.iload_n 1) 1 1 := by decide +kernel
theorem dX2_tellsParts_1 : eb_dc cX2_tellsParts 1 (.aload_n 0) 1 2 := by decide +kernel
theorem dX2_tellsParts_2 : eb_dc cX2_tellsParts 2 (.aload_n 0) 1 3 := by decide +kernel
theorem dX2_tellsParts_3 : eb_dc cX2_tellsParts 3 (.getfield 22) 3 6 := by decide +kernel
theorem dX2_tellsParts_6 : eb_dc cX2_tellsParts 6 (.iload_n 1) 1 7 := by decide +kernel
theorem dX2_tellsParts_7 : eb_dc cX2_tellsParts 7 (.invokevirtual 185) 3 10 := by decide +kernel
theorem dX2_tellsParts_10 : eb_dc cX2_tellsParts 10 (.ior) 1 11 := by decide +kernel
theorem dX2_tellsParts_11 : eb_dc cX2_tellsParts 11 (.istore_n 2) 1 12 := by decide +kernel
theorem dX2_tellsParts_12 : eb_dc cX2_tellsParts 12 (.iconst 0) 1 13 := by decide +kernel
theorem dX2_tellsParts_13 : eb_dc cX2_tellsParts 13 (.istore_n 3) 1 14 := by decide +kernel
theorem dX2_tellsParts_14 : eb_dc cX2_tellsParts 14 (.iload_n 3) 1 15 := by decide +kernel
theorem dX2_tellsParts_15 : eb_dc cX2_tellsParts 15 (.aload_n 0) 1 16 := by decide +kernel
theorem dX2_tellsParts_16 : eb_dc cX2_tellsParts 16 (.getfield 135) 3 19 := by decide +kernel
theorem dX2_tellsParts_19 : eb_dj cX2_tellsParts 19 (.if_icmp .ge 16) 16 22 35 := by decide +kernel
theorem dX2_tellsParts_22 : eb_dc cX2_tellsParts 22 (.aload_n 0) 1 23 := by decide +kernel
theorem dX2_tellsParts_23 : eb_dc cX2_tellsParts 23 (.getfield 47) 3 26 := by decide +kernel
theorem dX2_tellsParts_26 : eb_dc cX2_tellsParts 26 (.iload_n 3) 1 27 := by decide +kernel
theorem dX2_tellsParts_27 : eb_dc cX2_tellsParts 27 (.iconst (-1)) 1 28 := by decide +kernel
theorem dX2_tellsParts_28 : eb_dc cX2_tellsParts 28 (.iastore) 1 29 := by decide +kernel
theorem dX2_tellsParts_29 : eb_dc cX2_tellsParts 29 (.iinc 3 1) 3 32 := by decide +kernel
theorem dX2_tellsParts_32 : eb_dj cX2_tellsParts 32 (.goto (-18)) (-18) 35 14 := by decide +kernel
theorem dX2_tellsParts_35 : eb_dc cX2_tellsParts 35 (.aload_n 0) 1 36 := by decide +kernel
theorem dX2_tellsParts_36 : eb_dc cX2_tellsParts 36 (.iconst 0) 1 37 := by decide +kernel
theorem dX2_tellsParts_37 : eb_dc cX2_tellsParts 37 (.putfield 158) 3 40 := by decide +kernel
theorem dX2_tellsParts_40 : eb_dc cX2_tellsParts 40 (.iconst 0) 1 41 := by decide +kernel
theorem dX2_tellsParts_41 : eb_dc cX2_tellsParts 41 (.istore_n 3) 1 42 := by decide +kernel
theorem dX2_tellsParts_42 : eb_dc cX2_tellsParts 42 (.iload_n 3) 1 43 := by decide +kernel
theorem dX2_tellsParts_43 : eb_dc cX2_tellsParts 43 (.aload_n 0) 1 44 := by decide +kernel
theorem dX2_tellsParts_44 : eb_dc cX2_tellsParts 44 (.getfield 135) 3 47 := by decide +kernel
theorem dX2_tellsParts_47 : eb_dj cX2_tellsParts 47 (.if_icmp .ge 156) 156 50 203 := by decide +kernel
theorem dX2_tellsParts_50 : eb_dc cX2_tellsParts 50 (.aload_n 0) 1 51 := by decide +kernel
theorem dX2_tellsParts_51 : eb_dc cX2_tellsParts 51 (.getfield 47) 3 54 := by decide +kernel
theorem dX2_tellsParts_54 : eb_dc cX2_tellsParts 54 (.iload_n 3) 1 55 := by decide +kernel
theorem dX2_tellsParts_55 : eb_dc cX2_tellsParts 55 (.iaload) 1 56 := by decide +kernel
theorem dX2_tellsParts_56 : eb_dc cX2_tellsParts 56 (.iconst (-1)) 1 57 := by decide +kernel
theorem dX2_tellsParts_57 : eb_dj cX2_tellsParts 57 (.if_icmp .ne 140) 140 60 197 := by decide +kernel
theorem dX2_tellsParts_60 : eb_dc cX2_tellsParts 60 (.aload_n 0) 1 61 := by decide +kernel
theorem dX2_tellsParts_61 : eb_dc cX2_tellsParts 61 (.getfield 50) 3 64 := by decide +kernel
theorem dX2_tellsParts_64 : eb_dc cX2_tellsParts 64 (.aload_n 0) 1 65 := by decide +kernel
theorem dX2_tellsParts_65 : eb_dc cX2_tellsParts 65 (.getfield 158) 3 68 := by decide +kernel
theorem dX2_tellsParts_68 : eb_dc cX2_tellsParts 68 (.iload_n 3) 1 69 := by decide +kernel
theorem dX2_tellsParts_69 : eb_dc cX2_tellsParts 69 (.iastore) 1 70 := by decide +kernel
theorem dX2_tellsParts_70 : eb_dc cX2_tellsParts 70 (.aload_n 0) 1 71 := by decide +kernel
theorem dX2_tellsParts_71 : eb_dc cX2_tellsParts 71 (.getfield 47) 3 74 := by decide +kernel
theorem dX2_tellsParts_74 : eb_dc cX2_tellsParts 74 (.iload_n 3) 1 75 := by decide +kernel
theorem dX2_tellsParts_75 : eb_dc cX2_tellsParts 75 (.aload_n 0) 1 76 := by decide +kernel
theorem dX2_tellsParts_76 : eb_dc cX2_tellsParts 76 (.getfield 158) 3 79 := by decide +kernel
theorem dX2_tellsParts_79 : eb_dc cX2_tellsParts 79 (.iastore) 1 80 := by decide +kernel
theorem dX2_tellsParts_80 : eb_dc cX2_tellsParts 80 (.aload_n 0) 1 81 := by decide +kernel
theorem dX2_tellsParts_81 : eb_dc cX2_tellsParts 81 (.getfield 56) 3 84 := by decide +kernel
theorem dX2_tellsParts_84 : eb_dc cX2_tellsParts 84 (.iconst 0) 1 85 := by decide +kernel
theorem dX2_tellsParts_85 : eb_dc cX2_tellsParts 85 (.iload_n 3) 1 86 := by decide +kernel
theorem dX2_tellsParts_86 : eb_dc cX2_tellsParts 86 (.iastore) 1 87 := by decide +kernel
theorem dX2_tellsParts_87 : eb_dc cX2_tellsParts 87 (.iconst 1) 1 88 := by decide +kernel
theorem dX2_tellsParts_88 : eb_dc cX2_tellsParts 88 (.istore 4) 2 90 := by decide +kernel
theorem dX2_tellsParts_90 : eb_dc cX2_tellsParts 90 (.iconst 0) 1 91 := by decide +kernel
theorem dX2_tellsParts_91 : eb_dc cX2_tellsParts 91 (.istore 5) 2 93 := by decide +kernel
theorem dX2_tellsParts_93 : eb_dc cX2_tellsParts 93 (.iload 5) 2 95 := by decide +kernel
theorem dX2_tellsParts_95 : eb_dc cX2_tellsParts 95 (.iload 4) 2 97 := by decide +kernel
theorem dX2_tellsParts_97 : eb_dj cX2_tellsParts 97 (.if_icmp .ge 90) 90 100 187 := by decide +kernel
theorem dX2_tellsParts_100 : eb_dc cX2_tellsParts 100 (.iconst 0) 1 101 := by decide +kernel
theorem dX2_tellsParts_101 : eb_dc cX2_tellsParts 101 (.istore 6) 2 103 := by decide +kernel
theorem dX2_tellsParts_103 : eb_dc cX2_tellsParts 103 (.iload 6) 2 105 := by decide +kernel
theorem dX2_tellsParts_105 : eb_dc cX2_tellsParts 105 (.aload_n 0) 1 106 := by decide +kernel
theorem dX2_tellsParts_106 : eb_dc cX2_tellsParts 106 (.getfield 138) 3 109 := by decide +kernel
theorem dX2_tellsParts_109 : eb_dj cX2_tellsParts 109 (.if_icmp .ge 72) 72 112 181 := by decide +kernel
theorem dX2_tellsParts_112 : eb_dc cX2_tellsParts 112 (.aload_n 0) 1 113 := by decide +kernel
theorem dX2_tellsParts_113 : eb_dc cX2_tellsParts 113 (.getfield 32) 3 116 := by decide +kernel
theorem dX2_tellsParts_116 : eb_dc cX2_tellsParts 116 (.iconst 4) 1 117 := by decide +kernel
theorem dX2_tellsParts_117 : eb_dc cX2_tellsParts 117 (.aload_n 0) 1 118 := by decide +kernel
theorem dX2_tellsParts_118 : eb_dc cX2_tellsParts 118 (.getfield 56) 3 121 := by decide +kernel
theorem dX2_tellsParts_121 : eb_dc cX2_tellsParts 121 (.iload 5) 2 123 := by decide +kernel
theorem dX2_tellsParts_123 : eb_dc cX2_tellsParts 123 (.iaload) 1 124 := by decide +kernel
theorem dX2_tellsParts_124 : eb_dc cX2_tellsParts 124 (.imul) 1 125 := by decide +kernel
theorem dX2_tellsParts_125 : eb_dc cX2_tellsParts 125 (.iload 6) 2 127 := by decide +kernel
theorem dX2_tellsParts_127 : eb_dc cX2_tellsParts 127 (.iadd) 1 128 := by decide +kernel
theorem dX2_tellsParts_128 : eb_dc cX2_tellsParts 128 (.iaload) 1 129 := by decide +kernel
theorem dX2_tellsParts_129 : eb_dc cX2_tellsParts 129 (.istore 7) 2 131 := by decide +kernel
theorem dX2_tellsParts_131 : eb_dc cX2_tellsParts 131 (.iload_n 2) 1 132 := by decide +kernel
theorem dX2_tellsParts_132 : eb_dc cX2_tellsParts 132 (.iload 6) 2 134 := by decide +kernel
theorem dX2_tellsParts_134 : eb_dc cX2_tellsParts 134 (.ishr) 1 135 := by decide +kernel
theorem dX2_tellsParts_135 : eb_dc cX2_tellsParts 135 (.iconst 1) 1 136 := by decide +kernel
theorem dX2_tellsParts_136 : eb_dc cX2_tellsParts 136 (.iand) 1 137 := by decide +kernel
theorem dX2_tellsParts_137 : eb_dc cX2_tellsParts 137 (.iconst 1) 1 138 := by decide +kernel
theorem dX2_tellsParts_138 : eb_dj cX2_tellsParts 138 (.if_icmp .ne 37) 37 141 175 := by decide +kernel
theorem dX2_tellsParts_141 : eb_dc cX2_tellsParts 141 (.aload_n 0) 1 142 := by decide +kernel
theorem dX2_tellsParts_142 : eb_dc cX2_tellsParts 142 (.getfield 47) 3 145 := by decide +kernel
theorem dX2_tellsParts_145 : eb_dc cX2_tellsParts 145 (.iload 7) 2 147 := by decide +kernel
theorem dX2_tellsParts_147 : eb_dc cX2_tellsParts 147 (.iaload) 1 148 := by decide +kernel
theorem dX2_tellsParts_148 : eb_dc cX2_tellsParts 148 (.iconst (-1)) 1 149 := by decide +kernel
theorem dX2_tellsParts_149 : eb_dj cX2_tellsParts 149 (.if_icmp .ne 26) 26 152 175 := by decide +kernel
theorem dX2_tellsParts_152 : eb_dc cX2_tellsParts 152 (.aload_n 0) 1 153 := by decide +kernel
theorem dX2_tellsParts_153 : eb_dc cX2_tellsParts 153 (.getfield 47) 3 156 := by decide +kernel
theorem dX2_tellsParts_156 : eb_dc cX2_tellsParts 156 (.iload 7) 2 158 := by decide +kernel
theorem dX2_tellsParts_158 : eb_dc cX2_tellsParts 158 (.aload_n 0) 1 159 := by decide +kernel
theorem dX2_tellsParts_159 : eb_dc cX2_tellsParts 159 (.getfield 158) 3 162 := by decide +kernel
theorem dX2_tellsParts_162 : eb_dc cX2_tellsParts 162 (.iastore) 1 163 := by decide +kernel
theorem dX2_tellsParts_163 : eb_dc cX2_tellsParts 163 (.aload_n 0) 1 164 := by decide +kernel
theorem dX2_tellsParts_164 : eb_dc cX2_tellsParts 164 (.getfield 56) 3 167 := by decide +kernel
theorem dX2_tellsParts_167 : eb_dc cX2_tellsParts 167 (.iload 4) 2 169 := by decide +kernel
theorem dX2_tellsParts_169 : eb_dc cX2_tellsParts 169 (.iload 7) 2 171 := by decide +kernel
theorem dX2_tellsParts_171 : eb_dc cX2_tellsParts 171 (.iastore) 1 172 := by decide +kernel
theorem dX2_tellsParts_172 : eb_dc cX2_tellsParts 172 (.iinc 4 1) 3 175 := by decide +kernel
theorem dX2_tellsParts_175 : eb_dc cX2_tellsParts 175 (.iinc 6 1) 3 178 := by decide +kernel
theorem dX2_tellsParts_178 : eb_dj cX2_tellsParts 178 (.goto (-75)) (-75) 181 103 := by decide +kernel
theorem dX2_tellsParts_181 : eb_dc cX2_tellsParts 181 (.iinc 5 1) 3 184 := by decide +kernel
theorem dX2_tellsParts_184 : eb_dj cX2_tellsParts 184 (.goto (-91)) (-91) 187 93 := by decide +kernel
theorem dX2_tellsParts_187 : eb_dc cX2_tellsParts 187 (.aload_n 0) 1 188 := by decide +kernel
theorem dX2_tellsParts_188 : eb_dc cX2_tellsParts 188 (.dup) 1 189 := by decide +kernel
theorem dX2_tellsParts_189 : eb_dc cX2_tellsParts 189 (.getfield 158) 3 192 := by decide +kernel
theorem dX2_tellsParts_192 : eb_dc cX2_tellsParts 192 (.iconst 1) 1 193 := by decide +kernel
theorem dX2_tellsParts_193 : eb_dc cX2_tellsParts 193 (.iadd) 1 194 := by decide +kernel
theorem dX2_tellsParts_194 : eb_dc cX2_tellsParts 194 (.putfield 158) 3 197 := by decide +kernel
theorem dX2_tellsParts_197 : eb_dc cX2_tellsParts 197 (.iinc 3 1) 3 200 := by decide +kernel
theorem dX2_tellsParts_200 : eb_dj cX2_tellsParts 200 (.goto (-158)) (-158) 203 42 := by decide +kernel
theorem dX2_tellsParts_203 : eb_dc cX2_tellsParts 203 (.return_) 1 204 := by decide +kernel
theorem ctX2_tellsParts {l : Launch} {Γ : eb_C} {ad : Nat → Nat} {ix : Nat → Option Nat} {σ : eb_MS} {a1 : Int32} {K : eb_MS → Prop} (hi : ms_inv ad ix) (h : MX2_tellsParts σ a1 K) : eb_Ct l Γ yX2_tellsParts cX2_tellsParts 8 (none) rmX2_tellsParts [.ref (ad 0), .int a1] (ms_st Γ ad ix σ) (em_V Γ ad ix K) := by
  refine eb_of (by decide) (Nat.le_of_ble_eq_true rfl) (fun X P hP _ => ?_)
  show eb_G l Γ P X cX2_tellsParts RX2 8 (none) rmX2_tellsParts 0 [(0, .ref (ad 0)), (1, .int a1)] [] (ms_st Γ ad ix σ) 0 0
  refine eg_iload_n 1 dX2_tellsParts_0 rfl rfl ?_
  refine eg_aload_n 0 dX2_tellsParts_1 rfl rfl ?_
  refine eg_aload_n 0 dX2_tellsParts_2 rfl rfl ?_
  refine em_gets 5 rfl q1147 dX2_tellsParts_3 hi ?_
  refine eg_iload_n 1 dX2_tellsParts_6 rfl rfl ?_
  refine em_cvp (rest := [.int a1]) (ctX2_stillOf hi h) hi (lw_V q1321 q1323 qs46 q77 q1324) rfl nX2_stillOf ⟨Nat.le_of_ble_eq_true rfl, Nat.le_of_ble_eq_true rfl⟩ ⟨rfl, rfl⟩ ⟨Nat.zero_le _, Nat.zero_le _⟩ rfl rfl (Nat.le_of_ble_eq_true rfl) dX2_tellsParts_7 (fun v1 h => ?_)
  refine eg_ior dX2_tellsParts_10 ?_
  refine eg_istore_n (lv' := [(2, .int (a1 ||| v1)), (0, .ref (ad 0)), (1, .int a1)]) dX2_tellsParts_11 rfl (Nat.le_of_ble_eq_true rfl) rfl ?_
  refine eg_iconst dX2_tellsParts_12 kc_0 ?_
  refine eg_istore_n (lv' := [(3, .int 0), (2, .int (a1 ||| v1)), (0, .ref (ad 0)), (1, .int a1)]) dX2_tellsParts_13 rfl (Nat.le_of_ble_eq_true rfl) rfl ?_
  refine eb_jp1_e (J := fun (g3 : eb_MS) => eb_G l Γ P X cX2_tellsParts RX2 8 (none) rmX2_tellsParts 35 [(0, .ref (ad 0)), (2, .int (a1 ||| v1))] [] (ms_st Γ ad ix g3) 0 0) h ?_ ?_
  · intro g3 h
    refine eg_aload_n 0 dX2_tellsParts_35 rfl rfl ?_
    refine eg_iconst dX2_tellsParts_36 kc_0 ?_
    refine em_puts 18 rfl q1160 dX2_tellsParts_37 hi (fun g4 eg4 => ?_)
    replace h := h g4 eg4
    refine eg_iconst dX2_tellsParts_40 kc_0 ?_
    refine eg_istore_n (lv' := [(3, .int 0), (0, .ref (ad 0)), (2, .int (a1 ||| v1))]) dX2_tellsParts_41 rfl (Nat.le_of_ble_eq_true rfl) rfl ?_
    refine eg_sub [1, 2, 0] rfl ?_
    refine eb_loop2_e (J := fun (x3_5 : Int32) (g6 : eb_MS) => eb_G l Γ P X cX2_tellsParts RX2 8 (none) rmX2_tellsParts 42 [(0, .ref (ad 0)), (2, .int (a1 ||| v1)), (3, .int x3_5)] [] (ms_st Γ ad ix g6) 0 0) h ?_
    intro r7 hr7 x3_5 g6 h
    refine eg_iload_n 2 dX2_tellsParts_42 rfl rfl ?_
    refine eg_aload_n 0 dX2_tellsParts_43 rfl rfl ?_
    refine em_gets 8 rfl q1150 dX2_tellsParts_44 hi ?_
    refine eg_icmp_ge dX2_tellsParts_47 (fun c41 => ?_) (fun c41 => ?_)
    · replace h := h.1 c41
      exact eg_vret dX2_tellsParts_203 (Nat.zero_le _) (Nat.zero_le _) (hP _ _ ⟨_, rfl, rfl, h⟩)
    · replace h := h.2 c41
      refine eg_aload_n 0 dX2_tellsParts_50 rfl rfl ?_
      refine em_geta 17 rfl q1159 dX2_tellsParts_51 hi ?_
      refine eg_iload_n 2 dX2_tellsParts_54 rfl rfl ?_
      obtain ⟨hb, h⟩ := h
      refine em_iald 17 rfl hb dX2_tellsParts_55 hi (fun v8 ev8 => ?_)
      replace h := h v8 ev8
      refine eg_iconst dX2_tellsParts_56 kc_m1 ?_
      refine eb_jp1_e (J := fun (g9 : eb_MS) => eb_G l Γ P X cX2_tellsParts RX2 8 (none) rmX2_tellsParts 197 [(0, .ref (ad 0)), (2, .int (a1 ||| v1)), (3, .int x3_5)] [] (ms_st Γ ad ix g9) 0 0) h ?_ ?_
      · intro g9 h
        refine eg_iinc (j := 2) (lv' := [(3, .int (x3_5 + 1)), (0, .ref (ad 0)), (2, .int (a1 ||| v1))]) dX2_tellsParts_197 rfl (by rw [kc_1]) (Nat.le_of_ble_eq_true rfl) rfl ?_
        refine eg_goto dX2_tellsParts_200 ?_
        exact eg_sub [1, 2, 0] rfl (hr7 (x3_5 + 1) g9 h)
      · intro k10 hk10 h
        refine eg_icmp_ne dX2_tellsParts_57 (fun c40 => ?_) (fun c40 => ?_)
        · replace h := h.2 c40
          exact hk10 g6 h
        · replace h := h.1 c40
          refine eg_aload_n 0 dX2_tellsParts_60 rfl rfl ?_
          refine em_geta 19 rfl q1161 dX2_tellsParts_61 hi ?_
          refine eg_aload_n 0 dX2_tellsParts_64 rfl rfl ?_
          refine em_gets 18 rfl q1160 dX2_tellsParts_65 hi ?_
          refine eg_iload_n 2 dX2_tellsParts_68 rfl rfl ?_
          obtain ⟨hb, h⟩ := h
          refine em_iast 19 rfl hb dX2_tellsParts_69 hi (fun g11 eg11 => ?_)
          replace h := h g11 eg11
          refine eg_aload_n 0 dX2_tellsParts_70 rfl rfl ?_
          refine em_geta 17 rfl q1159 dX2_tellsParts_71 hi ?_
          refine eg_iload_n 2 dX2_tellsParts_74 rfl rfl ?_
          refine eg_aload_n 0 dX2_tellsParts_75 rfl rfl ?_
          refine em_gets 18 rfl q1160 dX2_tellsParts_76 hi ?_
          obtain ⟨hb, h⟩ := h
          refine em_iast 17 rfl hb dX2_tellsParts_79 hi (fun g12 eg12 => ?_)
          replace h := h g12 eg12
          refine eg_aload_n 0 dX2_tellsParts_80 rfl rfl ?_
          refine em_geta 21 rfl q1163 dX2_tellsParts_81 hi ?_
          refine eg_iconst dX2_tellsParts_84 kc_0 ?_
          refine eg_iload_n 2 dX2_tellsParts_85 rfl rfl ?_
          obtain ⟨hb, h⟩ := h
          refine em_iast 21 rfl hb dX2_tellsParts_86 hi (fun g13 eg13 => ?_)
          replace h := h g13 eg13
          refine eg_iconst dX2_tellsParts_87 kc_1 ?_
          refine eg_istore (lv' := [(4, .int 1), (0, .ref (ad 0)), (2, .int (a1 ||| v1)), (3, .int x3_5)]) dX2_tellsParts_88 (Nat.le_of_ble_eq_true rfl) rfl ?_
          refine eg_iconst dX2_tellsParts_90 kc_0 ?_
          refine eg_istore (lv' := [(5, .int 0), (4, .int 1), (0, .ref (ad 0)), (2, .int (a1 ||| v1)), (3, .int x3_5)]) dX2_tellsParts_91 (Nat.le_of_ble_eq_true rfl) rfl ?_
          refine eb_jp1_e (J := fun (g14 : eb_MS) => eb_G l Γ P X cX2_tellsParts RX2 8 (none) rmX2_tellsParts 187 [(0, .ref (ad 0)), (2, .int (a1 ||| v1)), (3, .int x3_5)] [] (ms_st Γ ad ix g14) 0 0) h ?_ ?_
          · intro g14 h
            refine eg_aload_n 0 dX2_tellsParts_187 rfl rfl ?_
            refine eg_dup dX2_tellsParts_188 rfl ?_
            refine em_gets 18 rfl q1160 dX2_tellsParts_189 hi ?_
            refine eg_iconst dX2_tellsParts_192 kc_1 ?_
            refine eg_iadd dX2_tellsParts_193 ?_
            refine em_puts 18 rfl q1160 dX2_tellsParts_194 hi (fun g15 eg15 => ?_)
            replace h := h g15 eg15
            exact hk10 g15 h
          · intro k16 hk16 h
            refine eg_sub [2, 3, 4, 1, 0] rfl ?_
            refine eb_loop3_e (J := fun (x4_17 : Int32) (x5_18 : Int32) (g19 : eb_MS) => eb_G l Γ P X cX2_tellsParts RX2 8 (none) rmX2_tellsParts 93 [(0, .ref (ad 0)), (2, .int (a1 ||| v1)), (3, .int x3_5), (4, .int x4_17), (5, .int x5_18)] [] (ms_st Γ ad ix g19) 0 0) h ?_
            intro r20 hr20 x4_17 x5_18 g19 h
            refine eg_iload 4 dX2_tellsParts_93 rfl ?_
            refine eg_iload 3 dX2_tellsParts_95 rfl ?_
            refine eg_icmp_ge dX2_tellsParts_97 (fun c39 => ?_) (fun c39 => ?_)
            · replace h := h.1 c39
              exact eg_sub [0, 1, 2] rfl (hk16 g19 h)
            · replace h := h.2 c39
              refine eg_iconst dX2_tellsParts_100 kc_0 ?_
              refine eg_istore (lv' := [(6, .int 0), (0, .ref (ad 0)), (2, .int (a1 ||| v1)), (3, .int x3_5), (4, .int x4_17), (5, .int x5_18)]) dX2_tellsParts_101 (Nat.le_of_ble_eq_true rfl) rfl ?_
              refine eb_jp2_e (J := fun (x4_21 : Int32) (g22 : eb_MS) => eb_G l Γ P X cX2_tellsParts RX2 8 (none) rmX2_tellsParts 181 [(0, .ref (ad 0)), (2, .int (a1 ||| v1)), (3, .int x3_5), (4, .int x4_21), (5, .int x5_18)] [] (ms_st Γ ad ix g22) 0 0) h ?_ ?_
              · intro x4_21 g22 h
                refine eg_iinc (j := 4) (lv' := [(5, .int (x5_18 + 1)), (0, .ref (ad 0)), (2, .int (a1 ||| v1)), (3, .int x3_5), (4, .int x4_21)]) dX2_tellsParts_181 rfl (by rw [kc_1]) (Nat.le_of_ble_eq_true rfl) rfl ?_
                refine eg_goto dX2_tellsParts_184 ?_
                exact eg_sub [1, 2, 3, 4, 0] rfl (hr20 x4_21 (x5_18 + 1) g22 h)
              · intro k23 hk23 h
                refine eg_sub [1, 2, 3, 4, 5, 0] rfl ?_
                refine eb_loop3_e (J := fun (x4_24 : Int32) (x6_25 : Int32) (g26 : eb_MS) => eb_G l Γ P X cX2_tellsParts RX2 8 (none) rmX2_tellsParts 103 [(0, .ref (ad 0)), (2, .int (a1 ||| v1)), (3, .int x3_5), (4, .int x4_24), (5, .int x5_18), (6, .int x6_25)] [] (ms_st Γ ad ix g26) 0 0) h ?_
                intro r27 hr27 x4_24 x6_25 g26 h
                refine eg_iload 5 dX2_tellsParts_103 rfl ?_
                refine eg_aload_n 0 dX2_tellsParts_105 rfl rfl ?_
                refine em_gets 6 rfl q1148 dX2_tellsParts_106 hi ?_
                refine eg_icmp_ge dX2_tellsParts_109 (fun c38 => ?_) (fun c38 => ?_)
                · replace h := h.1 c38
                  exact eg_sub [0, 1, 2, 3, 4] rfl (hk23 x4_24 g26 h)
                · replace h := h.2 c38
                  refine eg_aload_n 0 dX2_tellsParts_112 rfl rfl ?_
                  refine em_geta 11 rfl q1153 dX2_tellsParts_113 hi ?_
                  refine eg_iconst dX2_tellsParts_116 kc_4 ?_
                  refine eg_aload_n 0 dX2_tellsParts_117 rfl rfl ?_
                  refine em_geta 21 rfl q1163 dX2_tellsParts_118 hi ?_
                  refine eg_iload 4 dX2_tellsParts_121 rfl ?_
                  obtain ⟨hb, h⟩ := h
                  refine em_iald 21 rfl hb dX2_tellsParts_123 hi (fun v28 ev28 => ?_)
                  replace h := h v28 ev28
                  refine eg_imul dX2_tellsParts_124 ?_
                  refine eg_iload 5 dX2_tellsParts_125 rfl ?_
                  refine eg_iadd dX2_tellsParts_127 ?_
                  obtain ⟨hb, h⟩ := h
                  refine em_iald 11 rfl hb dX2_tellsParts_128 hi (fun v29 ev29 => ?_)
                  replace h := h v29 ev29
                  refine eg_istore (lv' := [(7, .int v29), (0, .ref (ad 0)), (2, .int (a1 ||| v1)), (3, .int x3_5), (4, .int x4_24), (5, .int x5_18), (6, .int x6_25)]) dX2_tellsParts_129 (Nat.le_of_ble_eq_true rfl) rfl ?_
                  refine eg_iload_n 2 dX2_tellsParts_131 rfl rfl ?_
                  refine eg_iload 6 dX2_tellsParts_132 rfl ?_
                  refine eg_ishr dX2_tellsParts_134 ?_
                  refine eg_iconst dX2_tellsParts_135 kc_1 ?_
                  refine eg_iand dX2_tellsParts_136 ?_
                  refine eg_iconst dX2_tellsParts_137 kc_1 ?_
                  refine eb_jp2_e (J := fun (x4_30 : Int32) (g31 : eb_MS) => eb_G l Γ P X cX2_tellsParts RX2 8 (none) rmX2_tellsParts 175 [(0, .ref (ad 0)), (2, .int (a1 ||| v1)), (3, .int x3_5), (4, .int x4_30), (5, .int x5_18), (6, .int x6_25)] [] (ms_st Γ ad ix g31) 0 0) h ?_ ?_
                  · intro x4_30 g31 h
                    refine eg_iinc (j := 5) (lv' := [(6, .int (x6_25 + 1)), (0, .ref (ad 0)), (2, .int (a1 ||| v1)), (3, .int x3_5), (4, .int x4_30), (5, .int x5_18)]) dX2_tellsParts_175 rfl (by rw [kc_1]) (Nat.le_of_ble_eq_true rfl) rfl ?_
                    refine eg_goto dX2_tellsParts_178 ?_
                    exact eg_sub [1, 2, 3, 4, 5, 0] rfl (hr27 x4_30 (x6_25 + 1) g31 h)
                  · intro k32 hk32 h
                    refine eg_icmp_ne dX2_tellsParts_138 (fun c37 => ?_) (fun c37 => ?_)
                    · replace h := h.2 c37
                      exact eg_sub [1, 2, 3, 4, 5, 6] rfl (hk32 x4_24 g26 h)
                    · replace h := h.1 c37
                      refine eg_aload_n 1 dX2_tellsParts_141 rfl rfl ?_
                      refine em_geta 17 rfl q1159 dX2_tellsParts_142 hi ?_
                      refine eg_iload 0 dX2_tellsParts_145 rfl ?_
                      obtain ⟨hb, h⟩ := h
                      refine em_iald 17 rfl hb dX2_tellsParts_147 hi (fun v33 ev33 => ?_)
                      replace h := h v33 ev33
                      refine eg_iconst dX2_tellsParts_148 kc_m1 ?_
                      refine eg_icmp_ne dX2_tellsParts_149 (fun c36 => ?_) (fun c36 => ?_)
                      · replace h := h.2 c36
                        exact eg_sub [1, 2, 3, 4, 5, 6] rfl (hk32 x4_24 g26 h)
                      · replace h := h.1 c36
                        refine eg_aload_n 1 dX2_tellsParts_152 rfl rfl ?_
                        refine em_geta 17 rfl q1159 dX2_tellsParts_153 hi ?_
                        refine eg_iload 0 dX2_tellsParts_156 rfl ?_
                        refine eg_aload_n 1 dX2_tellsParts_158 rfl rfl ?_
                        refine em_gets 18 rfl q1160 dX2_tellsParts_159 hi ?_
                        obtain ⟨hb, h⟩ := h
                        refine em_iast 17 rfl hb dX2_tellsParts_162 hi (fun g34 eg34 => ?_)
                        replace h := h g34 eg34
                        refine eg_aload_n 1 dX2_tellsParts_163 rfl rfl ?_
                        refine em_geta 21 rfl q1163 dX2_tellsParts_164 hi ?_
                        refine eg_iload 4 dX2_tellsParts_167 rfl ?_
                        refine eg_iload 0 dX2_tellsParts_169 rfl ?_
                        obtain ⟨hb, h⟩ := h
                        refine em_iast 21 rfl hb dX2_tellsParts_171 hi (fun g35 eg35 => ?_)
                        replace h := h g35 eg35
                        refine eg_iinc (j := 4) (lv' := [(4, .int (x4_24 + 1)), (7, .int v29), (0, .ref (ad 0)), (2, .int (a1 ||| v1)), (3, .int x3_5), (5, .int x5_18), (6, .int x6_25)]) dX2_tellsParts_172 rfl (by rw [kc_1]) (Nat.le_of_ble_eq_true rfl) rfl ?_
                        exact eg_sub [2, 3, 4, 0, 5, 6] rfl (hk32 (x4_24 + 1) g35 h)
  · intro k42 hk42 h
    refine eg_sub [2, 1, 0] rfl ?_
    refine eb_loop2_e (J := fun (x3_43 : Int32) (g44 : eb_MS) => eb_G l Γ P X cX2_tellsParts RX2 8 (none) rmX2_tellsParts 14 [(0, .ref (ad 0)), (2, .int (a1 ||| v1)), (3, .int x3_43)] [] (ms_st Γ ad ix g44) 0 0) h ?_
    intro r45 hr45 x3_43 g44 h
    refine eg_iload_n 2 dX2_tellsParts_14 rfl rfl ?_
    refine eg_aload_n 0 dX2_tellsParts_15 rfl rfl ?_
    refine em_gets 8 rfl q1150 dX2_tellsParts_16 hi ?_
    refine eg_icmp_ge dX2_tellsParts_19 (fun c47 => ?_) (fun c47 => ?_)
    · replace h := h.1 c47
      exact eg_sub [0, 1] rfl (hk42 g44 h)
    · replace h := h.2 c47
      refine eg_aload_n 0 dX2_tellsParts_22 rfl rfl ?_
      refine em_geta 17 rfl q1159 dX2_tellsParts_23 hi ?_
      refine eg_iload_n 2 dX2_tellsParts_26 rfl rfl ?_
      refine eg_iconst dX2_tellsParts_27 kc_m1 ?_
      obtain ⟨hb, h⟩ := h
      refine em_iast 17 rfl hb dX2_tellsParts_28 hi (fun g46 eg46 => ?_)
      replace h := h g46 eg46
      refine eg_iinc (j := 2) (lv' := [(3, .int (x3_43 + 1)), (0, .ref (ad 0)), (2, .int (a1 ||| v1))]) dX2_tellsParts_29 rfl (by rw [kc_1]) (Nat.le_of_ble_eq_true rfl) rfl ?_
      refine eg_goto dX2_tellsParts_32 ?_
      exact eg_sub [1, 2, 0] rfl (hr45 (x3_43 + 1) g46 h)
def MX2_loads (σ : eb_MS) (a1 : Int32) (K : Int32 → eb_MS → Prop) : Prop :=
  eb_br ((σ.1 5) = a1) (eb_br ((σ.1 8) ≤ 0) (K 0 σ) (K 1 σ)) (ms_ws σ 5 a1 (fun g1 => eb_rd (g1.2.1 1) 4 a1 (fun v2 => ms_ws g1 6 v2 (fun g3 => eb_rd (g3.2.1 3) 4 a1 (fun v4 => ms_ws g3 7 v4 (fun g5 => MX2_sizeOf g5 a1 (fun v6 => ms_ws g5 8 v6 (fun g8 => eb_br ((g8.1 8) = 0) (K 0 g8) (eb_jp1 (fun (g9 : eb_MS) => ms_wr g9 12 500 0 0 (fun g10 => ms_wr g10 13 500 0 0 (fun g11 => ms_wr g11 14 500 0 (-1) (fun g12 => eb_jp2 (fun (x2_13 : Int32) (g14 : eb_MS) => ms_ws g14 8 x2_13 (fun g15 => MX2_tellsParts g15 0 (fun g17 => ms_ws g17 16 (g17.1 18) (fun g18 => eb_loop2 (fun r21 (x3_19 : Int32) (g20 : eb_MS) => eb_br ((g20.1 8) ≤ x3_19) (K 1 g20) (eb_rd (g20.2.1 17) 500 x3_19 (fun v22 => ms_wr g20 15 500 x3_19 v22 (fun g23 => r21 (x3_19 + 1) g23)))) 0 g18)))) (fun k25 => eb_loop3 (fun r29 (x2_26 : Int32) (x3_27 : Int32) (g28 : eb_MS) => eb_br (x2_26 ≤ x3_27) (k25 x2_26 g28) (eb_jp2 (fun (x2_30 : Int32) (g31 : eb_MS) => r29 x2_30 (x3_27 + 1) g31) (fun k32 => eb_loop3 (fun r36 (x2_33 : Int32) (x4_34 : Int32) (g35 : eb_MS) => eb_br ((g35.1 6) ≤ x4_34) (k32 x2_33 g35) (MX2_turned g35 a1 x3_27 x4_34 (fun g38 => MX2_found g38 x2_33 (fun v39 => eb_jp2 (fun (x2_41 : Int32) (g42 : eb_MS) => ms_wr g42 11 2000 (((4 * x3_27) + x4_34)) v39 (fun g43 => r36 x2_41 (x4_34 + 1) g43)) (fun k44 => eb_br (v39 = x2_33) (eb_jp1 (fun (g45 : eb_MS) => eb_rd (g45.2.1 12) 500 x3_27 (fun v46 => ms_wr g45 12 500 v39 (v46 + 1) (fun g47 => ms_wr g47 13 500 v39 x3_27 (fun g48 => ms_wr g48 14 500 v39 x4_34 (fun g49 => k44 (x2_33 + 1) g49))))) (fun k50 => eb_loop2 (fun r53 (x6_51 : Int32) (g52 : eb_MS) => eb_br (16 ≤ x6_51) (k50 g52) (eb_rd (g52.2.1 10) 16 x6_51 (fun v54 => ms_wr g52 9 8000 (((16 * v39) + x6_51)) v54 (fun g55 => r53 (x6_51 + 1) g55)))) 0 g38)) (k44 x2_33 g38)))))) x2_26 0 g28))) 1 0 g12))))) (fun k60 => eb_loop2 (fun r63 (x2_61 : Int32) (g62 : eb_MS) => eb_br (16 ≤ x2_61) (k60 g62) (eb_jp1 (fun (s64 : Int32) => ms_wr g62 9 8000 x2_61 s64 (fun g65 => r63 (x2_61 + 1) g65)) (fun k66 => eb_br ((x2_61 / 4) = (eb_rem x2_61 4)) (k66 1) (k66 0)))) 0 g8))))))))))
abbrev rmX2_loads : Room := { frames := 5, cells := 0, slots := 0, locals := 118 }
theorem nX2_loads : eb_ar yX2_loads 1 := by decide +kernel
theorem dX2_loads_0 : eb_dc cX2_loads 0 (.aload_n 0) 1 1 := by decide +kernel
theorem dX2_loads_1 : eb_dc cX2_loads 1 (.getfield 22) 3 4 := by decide +kernel
theorem dX2_loads_4 : eb_dc cX2_loads 4 (.iload_n 1) 1 5 := by decide +kernel
theorem dX2_loads_5 : eb_dj cX2_loads 5 (.if_icmp .ne 16) 16 8 21 := by decide +kernel
theorem dX2_loads_8 : eb_dc cX2_loads 8 (.aload_n 0) 1 9 := by decide +kernel
theorem dX2_loads_9 : eb_dc cX2_loads 9 (.getfield 135) 3 12 := by decide +kernel
theorem dX2_loads_12 : eb_dj cX2_loads 12 (.ifCond .le 7) 7 15 19 := by decide +kernel
theorem dX2_loads_15 : eb_dc cX2_loads 15 (.iconst 1) 1 16 := by decide +kernel
theorem dX2_loads_16 : eb_dj cX2_loads 16 (.goto 4) 4 19 20 := by decide +kernel
theorem dX2_loads_19 : eb_dc cX2_loads 19 (.iconst 0) 1 20 := by decide +kernel
theorem dX2_loads_20 : eb_dc cX2_loads 20 (.ireturn) 1 21 := by decide +kernel
theorem dX2_loads_21 : eb_dc cX2_loads 21 (.aload_n 0) 1 22 := by decide +kernel
theorem dX2_loads_22 : eb_dc cX2_loads 22 (.iload_n 1) 1 23 := by decide +kernel
theorem dX2_loads_23 : eb_dc cX2_loads 23 (.putfield 22) 3 26 := by decide +kernel
theorem dX2_loads_26 : eb_dc cX2_loads 26 (.aload_n 0) 1 27 := by decide +kernel
theorem dX2_loads_27 : eb_dc cX2_loads 27 (.aload_n 0) 1 28 := by decide +kernel
theorem dX2_loads_28 : eb_dc cX2_loads 28 (.getfield 7) 3 31 := by decide +kernel
theorem dX2_loads_31 : eb_dc cX2_loads 31 (.iload_n 1) 1 32 := by decide +kernel
theorem dX2_loads_32 : eb_dc cX2_loads 32 (.iaload) 1 33 := by decide +kernel
theorem dX2_loads_33 : eb_dc cX2_loads 33 (.putfield 138) 3 36 := by decide +kernel
theorem dX2_loads_36 : eb_dc cX2_loads 36 (.aload_n 0) 1 37 := by decide +kernel
theorem dX2_loads_37 : eb_dc cX2_loads 37 (.aload_n 0) 1 38 := by decide +kernel
theorem dX2_loads_38 : eb_dc cX2_loads 38 (.getfield 16) 3 41 := by decide +kernel
theorem dX2_loads_41 : eb_dc cX2_loads 41 (.iload_n 1) 1 42 := by decide +kernel
theorem dX2_loads_42 : eb_dc cX2_loads 42 (.iaload) 1 43 := by decide +kernel
theorem dX2_loads_43 : eb_dc cX2_loads 43 (.putfield 141) 3 46 := by decide +kernel
theorem dX2_loads_46 : eb_dc cX2_loads 46 (.aload_n 0) 1 47 := by decide +kernel
theorem dX2_loads_47 : eb_dc cX2_loads 47 (.aload_n 0) 1 48 := by decide +kernel
theorem dX2_loads_48 : eb_dc cX2_loads 48 (.iload_n 1) 1 49 := by decide +kernel
theorem dX2_loads_49 : eb_dc cX2_loads 49 (.invokevirtual 144) 3 52 := by decide +kernel
theorem dX2_loads_52 : eb_dc cX2_loads 52 (.putfield 135) 3 55 := by decide +kernel
theorem dX2_loads_55 : eb_dc cX2_loads 55 (.aload_n 0) 1 56 := by decide +kernel
theorem dX2_loads_56 : eb_dc cX2_loads 56 (.getfield 135) 3 59 := by decide +kernel
theorem dX2_loads_59 : eb_dj cX2_loads 59 (.ifCond .ne 5) 5 62 64 := by decide +kernel
theorem dX2_loads_62 : eb_dc cX2_loads 62 (.iconst 0) 1 63 := by decide +kernel
theorem dX2_loads_63 : eb_dc cX2_loads 63 (.ireturn) 1 64 := by decide +kernel
theorem dX2_loads_64 : eb_dc cX2_loads 64 (.iconst 0) 1 65 := by decide +kernel
theorem dX2_loads_65 : eb_dc cX2_loads 65 (.istore_n 2) 1 66 := by decide +kernel
theorem dX2_loads_66 : eb_dc cX2_loads 66 (.iload_n 2) 1 67 := by decide +kernel
theorem dX2_loads_67 : eb_dc cX2_loads 67 (.bipush 16) 2 69 := by decide +kernel
theorem dX2_loads_69 : eb_dj cX2_loads 69 (.if_icmp .ge 29) 29 72 98 := by decide +kernel
theorem dX2_loads_72 : eb_dc cX2_loads 72 (.aload_n 0) 1 73 := by decide +kernel
theorem dX2_loads_73 : eb_dc cX2_loads 73 (.getfield 26) 3 76 := by decide +kernel
theorem dX2_loads_76 : eb_dc cX2_loads 76 (.iload_n 2) 1 77 := by decide +kernel
theorem dX2_loads_77 : eb_dc cX2_loads 77 (.iload_n 2) 1 78 := by decide +kernel
theorem dX2_loads_78 : eb_dc cX2_loads 78 (.iconst 4) 1 79 := by decide +kernel
theorem dX2_loads_79 : eb_dc cX2_loads 79 (.idiv) 1 80 := by decide +kernel
theorem dX2_loads_80 : eb_dc cX2_loads 80 (.iload_n 2) 1 81 := by decide +kernel
theorem dX2_loads_81 : eb_dc cX2_loads 81 (.iconst 4) 1 82 := by decide +kernel
theorem dX2_loads_82 : eb_dc cX2_loads 82 (.irem) 1 83 := by decide +kernel
theorem dX2_loads_83 : eb_dj cX2_loads 83 (.if_icmp .ne 7) 7 86 90 := by decide +kernel
theorem dX2_loads_86 : eb_dc cX2_loads 86 (.iconst 1) 1 87 := by decide +kernel
theorem dX2_loads_87 : eb_dj cX2_loads 87 (.goto 4) 4 90 91 := by decide +kernel
theorem dX2_loads_90 : eb_dc cX2_loads 90 (.iconst 0) 1 91 := by decide +kernel
theorem dX2_loads_91 : eb_dc cX2_loads 91 (.iastore) 1 92 := by decide +kernel
theorem dX2_loads_92 : eb_dc cX2_loads 92 (.iinc 2 1) 3 95 := by decide +kernel
theorem dX2_loads_95 : eb_dj cX2_loads 95 (.goto (-29)) (-29) 98 66 := by decide +kernel
theorem dX2_loads_98 : eb_dc cX2_loads 98 (.aload_n 0) 1 99 := by decide +kernel
theorem dX2_loads_99 : eb_dc cX2_loads 99 (.getfield 35) 3 102 := by decide +kernel
theorem dX2_loads_102 : eb_dc cX2_loads 102 (.iconst 0) 1 103 := by decide +kernel
theorem dX2_loads_103 : eb_dc cX2_loads 103 (.iconst 0) 1 104 := by decide +kernel
theorem dX2_loads_104 : eb_dc cX2_loads 104 (.iastore) 1 105 := by decide +kernel
theorem dX2_loads_105 : eb_dc cX2_loads 105 (.aload_n 0) 1 106 := by decide +kernel
theorem dX2_loads_106 : eb_dc cX2_loads 106 (.getfield 38) 3 109 := by decide +kernel
theorem dX2_loads_109 : eb_dc cX2_loads 109 (.iconst 0) 1 110 := by decide +kernel
theorem dX2_loads_110 : eb_dc cX2_loads 110 (.iconst 0) 1 111 := by decide +kernel
theorem dX2_loads_111 : eb_dc cX2_loads 111 (.iastore) 1 112 := by decide +kernel
theorem dX2_loads_112 : eb_dc cX2_loads 112 (.aload_n 0) 1 113 := by decide +kernel
theorem dX2_loads_113 : eb_dc cX2_loads 113 (.getfield 41) 3 116 := by decide +kernel
theorem dX2_loads_116 : eb_dc cX2_loads 116 (.iconst 0) 1 117 := by decide +kernel
theorem dX2_loads_117 : eb_dc cX2_loads 117 (.iconst (-1)) 1 118 := by decide +kernel
theorem dX2_loads_118 : eb_dc cX2_loads 118 (.iastore) 1 119 := by decide +kernel
theorem dX2_loads_119 : eb_dc cX2_loads 119 (.iconst 1) 1 120 := by decide +kernel
theorem dX2_loads_120 : eb_dc cX2_loads 120 (.istore_n 2) 1 121 := by decide +kernel
theorem dX2_loads_121 : eb_dc cX2_loads 121 (.iconst 0) 1 122 := by decide +kernel
theorem dX2_loads_122 : eb_dc cX2_loads 122 (.istore_n 3) 1 123 := by decide +kernel
theorem dX2_loads_123 : eb_dc cX2_loads 123 (.iload_n 3) 1 124 := by decide +kernel
theorem dX2_loads_124 : eb_dc cX2_loads 124 (.iload_n 2) 1 125 := by decide +kernel
theorem dX2_loads_125 : eb_dj cX2_loads 125 (.if_icmp .ge 132) 132 128 257 := by decide +kernel
theorem dX2_loads_128 : eb_dc cX2_loads 128 (.iconst 0) 1 129 := by decide +kernel
theorem dX2_loads_129 : eb_dc cX2_loads 129 (.istore 4) 2 131 := by decide +kernel
theorem dX2_loads_131 : eb_dc cX2_loads 131 (.iload 4) 2 133 := by decide +kernel
theorem dX2_loads_133 : eb_dc cX2_loads 133 (.aload_n 0) 1 134 := by decide +kernel
theorem dX2_loads_134 : eb_dc cX2_loads 134 (.getfield 138) 3 137 := by decide +kernel
theorem dX2_loads_137 : eb_dj cX2_loads 137 (.if_icmp .ge 114) 114 140 251 := by decide +kernel
theorem dX2_loads_140 : eb_dc cX2_loads 140 (.aload_n 0) 1 141 := by decide +kernel
theorem dX2_loads_141 : eb_dc cX2_loads 141 (.iload_n 1) 1 142 := by decide +kernel
theorem dX2_loads_142 : eb_dc cX2_loads 142 (.iload_n 3) 1 143 := by decide +kernel
theorem dX2_loads_143 : eb_dc cX2_loads 143 (.iload 4) 2 145 := by decide +kernel
theorem dX2_loads_145 : eb_dc cX2_loads 145 (.invokevirtual 147) 3 148 := by decide +kernel
theorem dX2_loads_148 : eb_dc cX2_loads 148 (.aload_n 0) 1 149 := by decide +kernel
theorem dX2_loads_149 : eb_dc cX2_loads 149 (.iload_n 2) 1 150 := by decide +kernel
theorem dX2_loads_150 : eb_dc cX2_loads 150 (.invokevirtual 151) 3 153 := by decide +kernel
theorem dX2_loads_153 : eb_dc cX2_loads 153 (.istore 5) 2 155 := by decide +kernel
theorem dX2_loads_155 : eb_dc cX2_loads 155 (.iload 5) 2 157 := by decide +kernel
theorem dX2_loads_157 : eb_dc cX2_loads 157 (.iload_n 2) 1 158 := by decide +kernel
theorem dX2_loads_158 : eb_dj cX2_loads 158 (.if_icmp .ne 74) 74 161 232 := by decide +kernel
theorem dX2_loads_161 : eb_dc cX2_loads 161 (.iconst 0) 1 162 := by decide +kernel
theorem dX2_loads_162 : eb_dc cX2_loads 162 (.istore 6) 2 164 := by decide +kernel
theorem dX2_loads_164 : eb_dc cX2_loads 164 (.iload 6) 2 166 := by decide +kernel
theorem dX2_loads_166 : eb_dc cX2_loads 166 (.bipush 16) 2 168 := by decide +kernel
theorem dX2_loads_168 : eb_dj cX2_loads 168 (.if_icmp .ge 29) 29 171 197 := by decide +kernel
theorem dX2_loads_171 : eb_dc cX2_loads 171 (.aload_n 0) 1 172 := by decide +kernel
theorem dX2_loads_172 : eb_dc cX2_loads 172 (.getfield 26) 3 175 := by decide +kernel
theorem dX2_loads_175 : eb_dc cX2_loads 175 (.bipush 16) 2 177 := by decide +kernel
theorem dX2_loads_177 : eb_dc cX2_loads 177 (.iload 5) 2 179 := by decide +kernel
theorem dX2_loads_179 : eb_dc cX2_loads 179 (.imul) 1 180 := by decide +kernel
theorem dX2_loads_180 : eb_dc cX2_loads 180 (.iload 6) 2 182 := by decide +kernel
theorem dX2_loads_182 : eb_dc cX2_loads 182 (.iadd) 1 183 := by decide +kernel
theorem dX2_loads_183 : eb_dc cX2_loads 183 (.aload_n 0) 1 184 := by decide +kernel
theorem dX2_loads_184 : eb_dc cX2_loads 184 (.getfield 29) 3 187 := by decide +kernel
theorem dX2_loads_187 : eb_dc cX2_loads 187 (.iload 6) 2 189 := by decide +kernel
theorem dX2_loads_189 : eb_dc cX2_loads 189 (.iaload) 1 190 := by decide +kernel
theorem dX2_loads_190 : eb_dc cX2_loads 190 (.iastore) 1 191 := by decide +kernel
theorem dX2_loads_191 : eb_dc cX2_loads 191 (.iinc 6 1) 3 194 := by decide +kernel
theorem dX2_loads_194 : eb_dj cX2_loads 194 (.goto (-30)) (-30) 197 164 := by decide +kernel
theorem dX2_loads_197 : eb_dc cX2_loads 197 (.aload_n 0) 1 198 := by decide +kernel
theorem dX2_loads_198 : eb_dc cX2_loads 198 (.getfield 35) 3 201 := by decide +kernel
theorem dX2_loads_201 : eb_dc cX2_loads 201 (.iload 5) 2 203 := by decide +kernel
theorem dX2_loads_203 : eb_dc cX2_loads 203 (.aload_n 0) 1 204 := by decide +kernel
theorem dX2_loads_204 : eb_dc cX2_loads 204 (.getfield 35) 3 207 := by decide +kernel
theorem dX2_loads_207 : eb_dc cX2_loads 207 (.iload_n 3) 1 208 := by decide +kernel
theorem dX2_loads_208 : eb_dc cX2_loads 208 (.iaload) 1 209 := by decide +kernel
theorem dX2_loads_209 : eb_dc cX2_loads 209 (.iconst 1) 1 210 := by decide +kernel
theorem dX2_loads_210 : eb_dc cX2_loads 210 (.iadd) 1 211 := by decide +kernel
theorem dX2_loads_211 : eb_dc cX2_loads 211 (.iastore) 1 212 := by decide +kernel
theorem dX2_loads_212 : eb_dc cX2_loads 212 (.aload_n 0) 1 213 := by decide +kernel
theorem dX2_loads_213 : eb_dc cX2_loads 213 (.getfield 38) 3 216 := by decide +kernel
theorem dX2_loads_216 : eb_dc cX2_loads 216 (.iload 5) 2 218 := by decide +kernel
theorem dX2_loads_218 : eb_dc cX2_loads 218 (.iload_n 3) 1 219 := by decide +kernel
theorem dX2_loads_219 : eb_dc cX2_loads 219 (.iastore) 1 220 := by decide +kernel
theorem dX2_loads_220 : eb_dc cX2_loads 220 (.aload_n 0) 1 221 := by decide +kernel
theorem dX2_loads_221 : eb_dc cX2_loads 221 (.getfield 41) 3 224 := by decide +kernel
theorem dX2_loads_224 : eb_dc cX2_loads 224 (.iload 5) 2 226 := by decide +kernel
theorem dX2_loads_226 : eb_dc cX2_loads 226 (.iload 4) 2 228 := by decide +kernel
theorem dX2_loads_228 : eb_dc cX2_loads 228 (.iastore) 1 229 := by decide +kernel
theorem dX2_loads_229 : eb_dc cX2_loads 229 (.iinc 2 1) 3 232 := by decide +kernel
theorem dX2_loads_232 : eb_dc cX2_loads 232 (.aload_n 0) 1 233 := by decide +kernel
theorem dX2_loads_233 : eb_dc cX2_loads 233 (.getfield 32) 3 236 := by decide +kernel
theorem dX2_loads_236 : eb_dc cX2_loads 236 (.iconst 4) 1 237 := by decide +kernel
theorem dX2_loads_237 : eb_dc cX2_loads 237 (.iload_n 3) 1 238 := by decide +kernel
theorem dX2_loads_238 : eb_dc cX2_loads 238 (.imul) 1 239 := by decide +kernel
theorem dX2_loads_239 : eb_dc cX2_loads 239 (.iload 4) 2 241 := by decide +kernel
theorem dX2_loads_241 : eb_dc cX2_loads 241 (.iadd) 1 242 := by decide +kernel
theorem dX2_loads_242 : eb_dc cX2_loads 242 (.iload 5) 2 244 := by decide +kernel
theorem dX2_loads_244 : eb_dc cX2_loads 244 (.iastore) 1 245 := by decide +kernel
theorem dX2_loads_245 : eb_dc cX2_loads 245 (.iinc 4 1) 3 248 := by decide +kernel
theorem dX2_loads_248 : eb_dj cX2_loads 248 (.goto (-117)) (-117) 251 131 := by decide +kernel
theorem dX2_loads_251 : eb_dc cX2_loads 251 (.iinc 3 1) 3 254 := by decide +kernel
theorem dX2_loads_254 : eb_dj cX2_loads 254 (.goto (-131)) (-131) 257 123 := by decide +kernel
theorem dX2_loads_257 : eb_dc cX2_loads 257 (.aload_n 0) 1 258 := by decide +kernel
theorem dX2_loads_258 : eb_dc cX2_loads 258 (.iload_n 2) 1 259 := by decide +kernel
theorem dX2_loads_259 : eb_dc cX2_loads 259 (.putfield 135) 3 262 := by decide +kernel
theorem dX2_loads_262 : eb_dc cX2_loads 262 (.aload_n 0) 1 263 := by decide +kernel
theorem dX2_loads_263 : eb_dc cX2_loads 263 (.iconst 0) 1 264 := by decide +kernel
theorem dX2_loads_264 : eb_dc cX2_loads 264 (.invokevirtual 154) 3 267 := by decide +kernel
theorem dX2_loads_267 : eb_dc cX2_loads 267 (.aload_n 0) 1 268 := by decide +kernel
theorem dX2_loads_268 : eb_dc cX2_loads 268 (.aload_n 0) 1 269 := by decide +kernel
theorem dX2_loads_269 : eb_dc cX2_loads 269 (.getfield 158) 3 272 := by decide +kernel
theorem dX2_loads_272 : eb_dc cX2_loads 272 (.putfield 161) 3 275 := by decide +kernel
theorem dX2_loads_275 : eb_dc cX2_loads 275 (.iconst 0) 1 276 := by decide +kernel
theorem dX2_loads_276 : eb_dc cX2_loads 276 (.istore_n 3) 1 277 := by decide +kernel
theorem dX2_loads_277 : eb_dc cX2_loads 277 (.iload_n 3) 1 278 := by decide +kernel
theorem dX2_loads_278 : eb_dc cX2_loads 278 (.aload_n 0) 1 279 := by decide +kernel
theorem dX2_loads_279 : eb_dc cX2_loads 279 (.getfield 135) 3 282 := by decide +kernel
theorem dX2_loads_282 : eb_dj cX2_loads 282 (.if_icmp .ge 21) 21 285 303 := by decide +kernel
theorem dX2_loads_285 : eb_dc cX2_loads 285 (.aload_n 0) 1 286 := by decide +kernel
theorem dX2_loads_286 : eb_dc cX2_loads 286 (.getfield 44) 3 289 := by decide +kernel
theorem dX2_loads_289 : eb_dc cX2_loads 289 (.iload_n 3) 1 290 := by decide +kernel
theorem dX2_loads_290 : eb_dc cX2_loads 290 (.aload_n 0) 1 291 := by decide +kernel
theorem dX2_loads_291 : eb_dc cX2_loads 291 (.getfield 47) 3 294 := by decide +kernel
theorem dX2_loads_294 : eb_dc cX2_loads 294 (.iload_n 3) 1 295 := by decide +kernel
theorem dX2_loads_295 : eb_dc cX2_loads 295 (.iaload) 1 296 := by decide +kernel
theorem dX2_loads_296 : eb_dc cX2_loads 296 (.iastore) 1 297 := by decide +kernel
theorem dX2_loads_297 : eb_dc cX2_loads 297 (.iinc 3 1) 3 300 := by decide +kernel
theorem dX2_loads_300 : eb_dj cX2_loads 300 (.goto (-23)) (-23) 303 277 := by decide +kernel
theorem dX2_loads_303 : eb_dc cX2_loads 303 (.iconst 1) 1 304 := by decide +kernel
theorem dX2_loads_304 : eb_dc cX2_loads 304 (.ireturn) 1 305 := by decide +kernel
theorem ctX2_loads {l : Launch} {Γ : eb_C} {ad : Nat → Nat} {ix : Nat → Option Nat} {σ : eb_MS} {a1 : Int32} {K : Int32 → eb_MS → Prop} (hi : ms_inv ad ix) (h : MX2_loads σ a1 K) : eb_Ct l Γ yX2_loads cX2_loads 7 (some .boolean) rmX2_loads [.ref (ad 0), .int a1] (ms_st Γ ad ix σ) (em_I Γ ad ix K) := by
  refine eb_of (by decide) (Nat.le_of_ble_eq_true rfl) (fun X P hP _ => ?_)
  show eb_G l Γ P X cX2_loads RX2 7 (some .boolean) rmX2_loads 0 [(0, .ref (ad 0)), (1, .int a1)] [] (ms_st Γ ad ix σ) 0 0
  refine eg_aload_n 0 dX2_loads_0 rfl rfl ?_
  refine em_gets 5 rfl q1147 dX2_loads_1 hi ?_
  refine eg_iload_n 1 dX2_loads_4 rfl rfl ?_
  refine eg_icmp_ne dX2_loads_5 (fun c71 => ?_) (fun c71 => ?_)
  · replace h := h.2 c71
    refine eg_aload_n 0 dX2_loads_21 rfl rfl ?_
    refine eg_iload_n 1 dX2_loads_22 rfl rfl ?_
    refine em_puts 5 rfl q1147 dX2_loads_23 hi (fun g1 eg1 => ?_)
    replace h := h g1 eg1
    refine eg_aload_n 0 dX2_loads_26 rfl rfl ?_
    refine eg_aload_n 0 dX2_loads_27 rfl rfl ?_
    refine em_geta 1 rfl q1143 dX2_loads_28 hi ?_
    refine eg_iload_n 1 dX2_loads_31 rfl rfl ?_
    obtain ⟨hb, h⟩ := h
    refine em_iald 1 rfl hb dX2_loads_32 hi (fun v2 ev2 => ?_)
    replace h := h v2 ev2
    refine em_puts 6 rfl q1148 dX2_loads_33 hi (fun g3 eg3 => ?_)
    replace h := h g3 eg3
    refine eg_aload_n 0 dX2_loads_36 rfl rfl ?_
    refine eg_aload_n 0 dX2_loads_37 rfl rfl ?_
    refine em_geta 3 rfl q1145 dX2_loads_38 hi ?_
    refine eg_iload_n 1 dX2_loads_41 rfl rfl ?_
    obtain ⟨hb, h⟩ := h
    refine em_iald 3 rfl hb dX2_loads_42 hi (fun v4 ev4 => ?_)
    replace h := h v4 ev4
    refine em_puts 7 rfl q1149 dX2_loads_43 hi (fun g5 eg5 => ?_)
    replace h := h g5 eg5
    refine eg_aload_n 0 dX2_loads_46 rfl rfl ?_
    refine eg_aload_n 0 dX2_loads_47 rfl rfl ?_
    refine eg_iload_n 1 dX2_loads_48 rfl rfl ?_
    refine em_cvp (rest := [.ref (ad 0)]) (ctX2_sizeOf hi h) hi (lw_V q1298 q1300 qs41 q77 q1301) rfl nX2_sizeOf ⟨Nat.le_of_ble_eq_true rfl, Nat.le_of_ble_eq_true rfl⟩ ⟨rfl, rfl⟩ ⟨Nat.zero_le _, Nat.zero_le _⟩ rfl rfl (Nat.le_of_ble_eq_true rfl) dX2_loads_49 (fun v6 h => ?_)
    refine em_puts 8 rfl q1150 dX2_loads_52 hi (fun g8 eg8 => ?_)
    replace h := h g8 eg8
    refine eg_aload_n 0 dX2_loads_55 rfl rfl ?_
    refine em_gets 8 rfl q1150 dX2_loads_56 hi ?_
    refine eg_if_ne dX2_loads_59 (fun c69 => ?_) (fun c69 => ?_)
    · replace h := h.2 c69
      refine eg_iconst dX2_loads_64 kc_0 ?_
      refine eg_istore_n (lv' := [(2, .int 0), (0, .ref (ad 0)), (1, .int a1)]) dX2_loads_65 rfl (Nat.le_of_ble_eq_true rfl) rfl ?_
      refine eb_jp1_e (J := fun (g9 : eb_MS) => eb_G l Γ P X cX2_loads RX2 7 (some .boolean) rmX2_loads 98 [(0, .ref (ad 0)), (1, .int a1)] [] (ms_st Γ ad ix g9) 0 0) h ?_ ?_
      · intro g9 h
        refine eg_aload_n 0 dX2_loads_98 rfl rfl ?_
        refine em_geta 12 rfl q1154 dX2_loads_99 hi ?_
        refine eg_iconst dX2_loads_102 kc_0 ?_
        refine eg_iconst dX2_loads_103 kc_0 ?_
        obtain ⟨hb, h⟩ := h
        refine em_iast 12 rfl hb dX2_loads_104 hi (fun g10 eg10 => ?_)
        replace h := h g10 eg10
        refine eg_aload_n 0 dX2_loads_105 rfl rfl ?_
        refine em_geta 13 rfl q1155 dX2_loads_106 hi ?_
        refine eg_iconst dX2_loads_109 kc_0 ?_
        refine eg_iconst dX2_loads_110 kc_0 ?_
        obtain ⟨hb, h⟩ := h
        refine em_iast 13 rfl hb dX2_loads_111 hi (fun g11 eg11 => ?_)
        replace h := h g11 eg11
        refine eg_aload_n 0 dX2_loads_112 rfl rfl ?_
        refine em_geta 14 rfl q1156 dX2_loads_113 hi ?_
        refine eg_iconst dX2_loads_116 kc_0 ?_
        refine eg_iconst dX2_loads_117 kc_m1 ?_
        obtain ⟨hb, h⟩ := h
        refine em_iast 14 rfl hb dX2_loads_118 hi (fun g12 eg12 => ?_)
        replace h := h g12 eg12
        refine eg_iconst dX2_loads_119 kc_1 ?_
        refine eg_istore_n (lv' := [(2, .int 1), (0, .ref (ad 0)), (1, .int a1)]) dX2_loads_120 rfl (Nat.le_of_ble_eq_true rfl) rfl ?_
        refine eg_iconst dX2_loads_121 kc_0 ?_
        refine eg_istore_n (lv' := [(3, .int 0), (2, .int 1), (0, .ref (ad 0)), (1, .int a1)]) dX2_loads_122 rfl (Nat.le_of_ble_eq_true rfl) rfl ?_
        refine eb_jp2_e (J := fun (x2_13 : Int32) (g14 : eb_MS) => eb_G l Γ P X cX2_loads RX2 7 (some .boolean) rmX2_loads 257 [(0, .ref (ad 0)), (2, .int x2_13)] [] (ms_st Γ ad ix g14) 0 0) h ?_ ?_
        · intro x2_13 g14 h
          refine eg_aload_n 0 dX2_loads_257 rfl rfl ?_
          refine eg_iload_n 1 dX2_loads_258 rfl rfl ?_
          refine em_puts 8 rfl q1150 dX2_loads_259 hi (fun g15 eg15 => ?_)
          replace h := h g15 eg15
          refine eg_aload_n 0 dX2_loads_262 rfl rfl ?_
          refine eg_iconst dX2_loads_263 kc_0 ?_
          refine em_cvv (rest := []) (ctX2_tellsParts hi h) hi (lw_V q1317 q1319 qs45 q77 q1320) rfl nX2_tellsParts ⟨Nat.le_of_ble_eq_true rfl, Nat.le_of_ble_eq_true rfl⟩ ⟨rfl, rfl⟩ ⟨Nat.zero_le _, Nat.zero_le _⟩ rfl rfl (Nat.le_of_ble_eq_true rfl) dX2_loads_264 (fun g17 h => ?_)
          refine eg_aload_n 0 dX2_loads_267 rfl rfl ?_
          refine eg_aload_n 0 dX2_loads_268 rfl rfl ?_
          refine em_gets 18 rfl q1160 dX2_loads_269 hi ?_
          refine em_puts 16 rfl q1158 dX2_loads_272 hi (fun g18 eg18 => ?_)
          replace h := h g18 eg18
          refine eg_iconst dX2_loads_275 kc_0 ?_
          refine eg_istore_n (lv' := [(3, .int 0), (0, .ref (ad 0)), (2, .int x2_13)]) dX2_loads_276 rfl (Nat.le_of_ble_eq_true rfl) rfl ?_
          refine eg_sub [1, 0] rfl ?_
          refine eb_loop2_e (J := fun (x3_19 : Int32) (g20 : eb_MS) => eb_G l Γ P X cX2_loads RX2 7 (some .boolean) rmX2_loads 277 [(0, .ref (ad 0)), (3, .int x3_19)] [] (ms_st Γ ad ix g20) 0 0) h ?_
          intro r21 hr21 x3_19 g20 h
          refine eg_iload_n 1 dX2_loads_277 rfl rfl ?_
          refine eg_aload_n 0 dX2_loads_278 rfl rfl ?_
          refine em_gets 8 rfl q1150 dX2_loads_279 hi ?_
          refine eg_icmp_ge dX2_loads_282 (fun c24 => ?_) (fun c24 => ?_)
          · replace h := h.1 c24
            refine eg_iconst dX2_loads_303 kc_1 ?_
            exact eg_zret dX2_loads_304 rfl (Nat.zero_le _) (Nat.zero_le _) (hP _ _ ⟨_, _, rfl, rfl, h⟩)
          · replace h := h.2 c24
            refine eg_aload_n 0 dX2_loads_285 rfl rfl ?_
            refine em_geta 15 rfl q1157 dX2_loads_286 hi ?_
            refine eg_iload_n 1 dX2_loads_289 rfl rfl ?_
            refine eg_aload_n 0 dX2_loads_290 rfl rfl ?_
            refine em_geta 17 rfl q1159 dX2_loads_291 hi ?_
            refine eg_iload_n 1 dX2_loads_294 rfl rfl ?_
            obtain ⟨hb, h⟩ := h
            refine em_iald 17 rfl hb dX2_loads_295 hi (fun v22 ev22 => ?_)
            replace h := h v22 ev22
            obtain ⟨hb, h⟩ := h
            refine em_iast 15 rfl hb dX2_loads_296 hi (fun g23 eg23 => ?_)
            replace h := h g23 eg23
            refine eg_iinc (j := 1) (lv' := [(3, .int (x3_19 + 1)), (0, .ref (ad 0))]) dX2_loads_297 rfl (by rw [kc_1]) (Nat.le_of_ble_eq_true rfl) rfl ?_
            refine eg_goto dX2_loads_300 ?_
            exact eg_sub [1, 0] rfl (hr21 (x3_19 + 1) g23 h)
        · intro k25 hk25 h
          refine eg_sub [2, 3, 1, 0] rfl ?_
          refine eb_loop3_e (J := fun (x2_26 : Int32) (x3_27 : Int32) (g28 : eb_MS) => eb_G l Γ P X cX2_loads RX2 7 (some .boolean) rmX2_loads 123 [(0, .ref (ad 0)), (1, .int a1), (2, .int x2_26), (3, .int x3_27)] [] (ms_st Γ ad ix g28) 0 0) h ?_
          intro r29 hr29 x2_26 x3_27 g28 h
          refine eg_iload_n 3 dX2_loads_123 rfl rfl ?_
          refine eg_iload_n 2 dX2_loads_124 rfl rfl ?_
          refine eg_icmp_ge dX2_loads_125 (fun c59 => ?_) (fun c59 => ?_)
          · replace h := h.1 c59
            exact eg_sub [0, 2] rfl (hk25 x2_26 g28 h)
          · replace h := h.2 c59
            refine eg_iconst dX2_loads_128 kc_0 ?_
            refine eg_istore (lv' := [(4, .int 0), (0, .ref (ad 0)), (1, .int a1), (2, .int x2_26), (3, .int x3_27)]) dX2_loads_129 (Nat.le_of_ble_eq_true rfl) rfl ?_
            refine eb_jp2_e (J := fun (x2_30 : Int32) (g31 : eb_MS) => eb_G l Γ P X cX2_loads RX2 7 (some .boolean) rmX2_loads 251 [(0, .ref (ad 0)), (1, .int a1), (2, .int x2_30), (3, .int x3_27)] [] (ms_st Γ ad ix g31) 0 0) h ?_ ?_
            · intro x2_30 g31 h
              refine eg_iinc (j := 3) (lv' := [(3, .int (x3_27 + 1)), (0, .ref (ad 0)), (1, .int a1), (2, .int x2_30)]) dX2_loads_251 rfl (by rw [kc_1]) (Nat.le_of_ble_eq_true rfl) rfl ?_
              refine eg_goto dX2_loads_254 ?_
              exact eg_sub [1, 2, 3, 0] rfl (hr29 x2_30 (x3_27 + 1) g31 h)
            · intro k32 hk32 h
              refine eg_sub [1, 2, 3, 4, 0] rfl ?_
              refine eb_loop3_e (J := fun (x2_33 : Int32) (x4_34 : Int32) (g35 : eb_MS) => eb_G l Γ P X cX2_loads RX2 7 (some .boolean) rmX2_loads 131 [(0, .ref (ad 0)), (1, .int a1), (2, .int x2_33), (3, .int x3_27), (4, .int x4_34)] [] (ms_st Γ ad ix g35) 0 0) h ?_
              intro r36 hr36 x2_33 x4_34 g35 h
              refine eg_iload 4 dX2_loads_131 rfl ?_
              refine eg_aload_n 0 dX2_loads_133 rfl rfl ?_
              refine em_gets 6 rfl q1148 dX2_loads_134 hi ?_
              refine eg_icmp_ge dX2_loads_137 (fun c58 => ?_) (fun c58 => ?_)
              · replace h := h.1 c58
                exact eg_sub [0, 1, 2, 3] rfl (hk32 x2_33 g35 h)
              · replace h := h.2 c58
                refine eg_aload_n 0 dX2_loads_140 rfl rfl ?_
                refine eg_iload_n 1 dX2_loads_141 rfl rfl ?_
                refine eg_iload_n 3 dX2_loads_142 rfl rfl ?_
                refine eg_iload 4 dX2_loads_143 rfl ?_
                refine em_cvv (rest := []) (ctX2_turned hi h) hi (lw_V q1309 q1311 qs43 q77 q1312) rfl nX2_turned ⟨Nat.le_of_ble_eq_true rfl, Nat.le_of_ble_eq_true rfl⟩ ⟨rfl, rfl⟩ ⟨Nat.zero_le _, Nat.zero_le _⟩ rfl rfl (Nat.le_of_ble_eq_true rfl) dX2_loads_145 (fun g38 h => ?_)
                refine eg_aload_n 0 dX2_loads_148 rfl rfl ?_
                refine eg_iload_n 2 dX2_loads_149 rfl rfl ?_
                refine em_cvp (rest := []) (ctX2_found hi h) hi (lw_V q1313 q1315 qs44 q77 q1316) rfl nX2_found ⟨Nat.le_of_ble_eq_true rfl, Nat.le_of_ble_eq_true rfl⟩ ⟨rfl, rfl⟩ ⟨Nat.zero_le _, Nat.zero_le _⟩ rfl rfl (Nat.le_of_ble_eq_true rfl) dX2_loads_150 (fun v39 h => ?_)
                refine eg_istore (lv' := [(5, .int v39), (0, .ref (ad 0)), (1, .int a1), (2, .int x2_33), (3, .int x3_27), (4, .int x4_34)]) dX2_loads_153 (Nat.le_of_ble_eq_true rfl) rfl ?_
                refine eg_iload 0 dX2_loads_155 rfl ?_
                refine eg_iload_n 3 dX2_loads_157 rfl rfl ?_
                refine eb_jp2_e (J := fun (x2_41 : Int32) (g42 : eb_MS) => eb_G l Γ P X cX2_loads RX2 7 (some .boolean) rmX2_loads 232 [(0, .ref (ad 0)), (1, .int a1), (2, .int x2_41), (3, .int x3_27), (4, .int x4_34), (5, .int v39)] [] (ms_st Γ ad ix g42) 0 0) h ?_ ?_
                · intro x2_41 g42 h
                  refine eg_aload_n 0 dX2_loads_232 rfl rfl ?_
                  refine em_geta 11 rfl q1153 dX2_loads_233 hi ?_
                  refine eg_iconst dX2_loads_236 kc_4 ?_
                  refine eg_iload_n 3 dX2_loads_237 rfl rfl ?_
                  refine eg_imul dX2_loads_238 ?_
                  refine eg_iload 4 dX2_loads_239 rfl ?_
                  refine eg_iadd dX2_loads_241 ?_
                  refine eg_iload 5 dX2_loads_242 rfl ?_
                  obtain ⟨hb, h⟩ := h
                  refine em_iast 11 rfl hb dX2_loads_244 hi (fun g43 eg43 => ?_)
                  replace h := h g43 eg43
                  refine eg_iinc (j := 4) (lv' := [(4, .int (x4_34 + 1)), (0, .ref (ad 0)), (1, .int a1), (2, .int x2_41), (3, .int x3_27), (5, .int v39)]) dX2_loads_245 rfl (by rw [kc_1]) (Nat.le_of_ble_eq_true rfl) rfl ?_
                  refine eg_goto dX2_loads_248 ?_
                  exact eg_sub [1, 2, 3, 4, 0] rfl (hr36 x2_41 (x4_34 + 1) g43 h)
                · intro k44 hk44 h
                  refine eg_icmp_ne dX2_loads_158 (fun c57 => ?_) (fun c57 => ?_)
                  · replace h := h.2 c57
                    exact eg_sub [1, 2, 3, 4, 5, 0] rfl (hk44 x2_33 g38 h)
                  · replace h := h.1 c57
                    refine eg_iconst dX2_loads_161 kc_0 ?_
                    refine eg_istore (lv' := [(6, .int 0), (5, .int v39), (0, .ref (ad 0)), (1, .int a1), (2, .int x2_33), (3, .int x3_27), (4, .int x4_34)]) dX2_loads_162 (Nat.le_of_ble_eq_true rfl) rfl ?_
                    refine eb_jp1_e (J := fun (g45 : eb_MS) => eb_G l Γ P X cX2_loads RX2 7 (some .boolean) rmX2_loads 197 [(0, .ref (ad 0)), (1, .int a1), (2, .int x2_33), (3, .int x3_27), (4, .int x4_34), (5, .int v39)] [] (ms_st Γ ad ix g45) 0 0) h ?_ ?_
                    · intro g45 h
                      refine eg_aload_n 0 dX2_loads_197 rfl rfl ?_
                      refine em_geta 12 rfl q1154 dX2_loads_198 hi ?_
                      refine eg_iload 5 dX2_loads_201 rfl ?_
                      refine eg_aload_n 0 dX2_loads_203 rfl rfl ?_
                      refine em_geta 12 rfl q1154 dX2_loads_204 hi ?_
                      refine eg_iload_n 3 dX2_loads_207 rfl rfl ?_
                      obtain ⟨hb, h⟩ := h
                      refine em_iald 12 rfl hb dX2_loads_208 hi (fun v46 ev46 => ?_)
                      replace h := h v46 ev46
                      refine eg_iconst dX2_loads_209 kc_1 ?_
                      refine eg_iadd dX2_loads_210 ?_
                      obtain ⟨hb, h⟩ := h
                      refine em_iast 12 rfl hb dX2_loads_211 hi (fun g47 eg47 => ?_)
                      replace h := h g47 eg47
                      refine eg_aload_n 0 dX2_loads_212 rfl rfl ?_
                      refine em_geta 13 rfl q1155 dX2_loads_213 hi ?_
                      refine eg_iload 5 dX2_loads_216 rfl ?_
                      refine eg_iload_n 3 dX2_loads_218 rfl rfl ?_
                      obtain ⟨hb, h⟩ := h
                      refine em_iast 13 rfl hb dX2_loads_219 hi (fun g48 eg48 => ?_)
                      replace h := h g48 eg48
                      refine eg_aload_n 0 dX2_loads_220 rfl rfl ?_
                      refine em_geta 14 rfl q1156 dX2_loads_221 hi ?_
                      refine eg_iload 5 dX2_loads_224 rfl ?_
                      refine eg_iload 4 dX2_loads_226 rfl ?_
                      obtain ⟨hb, h⟩ := h
                      refine em_iast 14 rfl hb dX2_loads_228 hi (fun g49 eg49 => ?_)
                      replace h := h g49 eg49
                      refine eg_iinc (j := 2) (lv' := [(2, .int (x2_33 + 1)), (0, .ref (ad 0)), (1, .int a1), (3, .int x3_27), (4, .int x4_34), (5, .int v39)]) dX2_loads_229 rfl (by rw [kc_1]) (Nat.le_of_ble_eq_true rfl) rfl ?_
                      exact eg_sub [1, 2, 0, 3, 4, 5] rfl (hk44 (x2_33 + 1) g49 h)
                    · intro k50 hk50 h
                      refine eg_sub [2, 3, 4, 5, 6, 1, 0] rfl ?_
                      refine eb_loop2_e (J := fun (x6_51 : Int32) (g52 : eb_MS) => eb_G l Γ P X cX2_loads RX2 7 (some .boolean) rmX2_loads 164 [(0, .ref (ad 0)), (1, .int a1), (2, .int x2_33), (3, .int x3_27), (4, .int x4_34), (5, .int v39), (6, .int x6_51)] [] (ms_st Γ ad ix g52) 0 0) h ?_
                      intro r53 hr53 x6_51 g52 h
                      refine eg_iload 6 dX2_loads_164 rfl ?_
                      refine eg_bipush dX2_loads_166 kb_16 ?_
                      refine eg_icmp_ge dX2_loads_168 (fun c56 => ?_) (fun c56 => ?_)
                      · replace h := h.1 c56
                        exact eg_sub [0, 1, 2, 3, 4, 5] rfl (hk50 g52 h)
                      · replace h := h.2 c56
                        refine eg_aload_n 0 dX2_loads_171 rfl rfl ?_
                        refine em_geta 9 rfl q1151 dX2_loads_172 hi ?_
                        refine eg_bipush dX2_loads_175 kb_16 ?_
                        refine eg_iload 5 dX2_loads_177 rfl ?_
                        refine eg_imul dX2_loads_179 ?_
                        refine eg_iload 6 dX2_loads_180 rfl ?_
                        refine eg_iadd dX2_loads_182 ?_
                        refine eg_aload_n 0 dX2_loads_183 rfl rfl ?_
                        refine em_geta 10 rfl q1152 dX2_loads_184 hi ?_
                        refine eg_iload 6 dX2_loads_187 rfl ?_
                        obtain ⟨hb, h⟩ := h
                        refine em_iald 10 rfl hb dX2_loads_189 hi (fun v54 ev54 => ?_)
                        replace h := h v54 ev54
                        obtain ⟨hb, h⟩ := h
                        refine em_iast 9 rfl hb dX2_loads_190 hi (fun g55 eg55 => ?_)
                        replace h := h g55 eg55
                        refine eg_iinc (j := 6) (lv' := [(6, .int (x6_51 + 1)), (0, .ref (ad 0)), (1, .int a1), (2, .int x2_33), (3, .int x3_27), (4, .int x4_34), (5, .int v39)]) dX2_loads_191 rfl (by rw [kc_1]) (Nat.le_of_ble_eq_true rfl) rfl ?_
                        refine eg_goto dX2_loads_194 ?_
                        exact eg_sub [1, 2, 3, 4, 5, 6, 0] rfl (hr53 (x6_51 + 1) g55 h)
      · intro k60 hk60 h
        refine eg_sub [1, 2, 0] rfl ?_
        refine eb_loop2_e (J := fun (x2_61 : Int32) (g62 : eb_MS) => eb_G l Γ P X cX2_loads RX2 7 (some .boolean) rmX2_loads 66 [(0, .ref (ad 0)), (1, .int a1), (2, .int x2_61)] [] (ms_st Γ ad ix g62) 0 0) h ?_
        intro r63 hr63 x2_61 g62 h
        refine eg_iload_n 2 dX2_loads_66 rfl rfl ?_
        refine eg_bipush dX2_loads_67 kb_16 ?_
        refine eg_icmp_ge dX2_loads_69 (fun c68 => ?_) (fun c68 => ?_)
        · replace h := h.1 c68
          exact eg_sub [0, 1] rfl (hk60 g62 h)
        · replace h := h.2 c68
          refine eg_aload_n 0 dX2_loads_72 rfl rfl ?_
          refine em_geta 9 rfl q1151 dX2_loads_73 hi ?_
          refine eg_iload_n 2 dX2_loads_76 rfl rfl ?_
          refine eg_iload_n 2 dX2_loads_77 rfl rfl ?_
          refine eg_iconst dX2_loads_78 kc_4 ?_
          refine eg_idiv dX2_loads_79 (by decide) ?_
          refine eg_iload_n 2 dX2_loads_80 rfl rfl ?_
          refine eg_iconst dX2_loads_81 kc_4 ?_
          refine eg_irem dX2_loads_82 (by decide) ?_
          refine eb_jp1_e (J := fun (s64 : Int32) => eb_G l Γ P X cX2_loads RX2 7 (some .boolean) rmX2_loads 91 [(0, .ref (ad 0)), (1, .int a1), (2, .int x2_61)] [.int s64, .int x2_61, .ref (ad 9)] (ms_st Γ ad ix g62) 0 0) h ?_ ?_
          · intro s64 h
            obtain ⟨hb, h⟩ := h
            refine em_iast 9 rfl hb dX2_loads_91 hi (fun g65 eg65 => ?_)
            replace h := h g65 eg65
            refine eg_iinc (j := 2) (lv' := [(2, .int (x2_61 + 1)), (0, .ref (ad 0)), (1, .int a1)]) dX2_loads_92 rfl (by rw [kc_1]) (Nat.le_of_ble_eq_true rfl) rfl ?_
            refine eg_goto dX2_loads_95 ?_
            exact eg_sub [1, 2, 0] rfl (hr63 (x2_61 + 1) g65 h)
          · intro k66 hk66 h
            refine eg_icmp_ne dX2_loads_83 (fun c67 => ?_) (fun c67 => ?_)
            · replace h := h.2 c67
              refine eg_iconst dX2_loads_90 kc_0 ?_
              exact hk66 0 h
            · replace h := h.1 c67
              refine eg_iconst dX2_loads_86 kc_1 ?_
              refine eg_goto dX2_loads_87 ?_
              exact hk66 1 h
    · replace h := h.1 c69
      refine eg_iconst dX2_loads_62 kc_0 ?_
      exact eg_zret dX2_loads_63 rfl (Nat.zero_le _) (Nat.zero_le _) (hP _ _ ⟨_, _, rfl, rfl, h⟩)
  · replace h := h.1 c71
    refine eg_aload_n 0 dX2_loads_8 rfl rfl ?_
    refine em_gets 8 rfl q1150 dX2_loads_9 hi ?_
    refine eg_if_le dX2_loads_12 (fun c70 => ?_) (fun c70 => ?_)
    · replace h := h.1 c70
      refine eg_iconst dX2_loads_19 kc_0 ?_
      exact eg_zret dX2_loads_20 rfl (Nat.zero_le _) (Nat.zero_le _) (hP _ _ ⟨_, _, rfl, rfl, h⟩)
    · replace h := h.2 c70
      refine eg_iconst dX2_loads_15 kc_1 ?_
      refine eg_goto dX2_loads_16 ?_
      exact eg_zret dX2_loads_20 rfl (Nat.zero_le _) (Nat.zero_le _) (hP _ _ ⟨_, _, rfl, rfl, h⟩)
def MX2_refuses (σ : eb_MS) (a1 : Int32) (K : Int32 → eb_MS → Prop) : Prop :=
  MX2_isBody a1 (fun v1 => eb_br (v1 = 0) (K (-2) σ) (MX2_loads σ a1 (fun v3 g4 => eb_br (v3 = 0) (K (-5) g4) (K 0 g4))))
abbrev rmX2_refuses : Room := { frames := 6, cells := 0, slots := 0, locals := 144 }
theorem nX2_refuses : eb_ar yX2_refuses 1 := by decide +kernel
theorem dX2_refuses_0 : eb_dc cX2_refuses 0 (.iload_n 1) 1 1 := by decide +kernel
theorem dX2_refuses_1 : eb_dc cX2_refuses 1 (.invokestatic 113) 3 4 := by decide +kernel
theorem dX2_refuses_4 : eb_dj cX2_refuses 4 (.ifCond .ne 8) 8 7 12 := by decide +kernel
theorem dX2_refuses_7 : eb_dc cX2_refuses 7 (.bipush (-2)) 2 9 := by decide +kernel
theorem dX2_refuses_9 : eb_dj cX2_refuses 9 (.goto 17) 17 12 26 := by decide +kernel
theorem dX2_refuses_12 : eb_dc cX2_refuses 12 (.aload_n 0) 1 13 := by decide +kernel
theorem dX2_refuses_13 : eb_dc cX2_refuses 13 (.iload_n 1) 1 14 := by decide +kernel
theorem dX2_refuses_14 : eb_dc cX2_refuses 14 (.invokevirtual 164) 3 17 := by decide +kernel
theorem dX2_refuses_17 : eb_dj cX2_refuses 17 (.ifCond .eq 7) 7 20 24 := by decide +kernel
theorem dX2_refuses_20 : eb_dc cX2_refuses 20 (.iconst 0) 1 21 := by decide +kernel
theorem dX2_refuses_21 : eb_dj cX2_refuses 21 (.goto 5) 5 24 26 := by decide +kernel
theorem dX2_refuses_24 : eb_dc cX2_refuses 24 (.bipush (-5)) 2 26 := by decide +kernel
theorem dX2_refuses_26 : eb_dc cX2_refuses 26 (.ireturn) 1 27 := by decide +kernel
theorem ctX2_refuses {l : Launch} {Γ : eb_C} {ad : Nat → Nat} {ix : Nat → Option Nat} {σ : eb_MS} {a1 : Int32} {K : Int32 → eb_MS → Prop} (hi : ms_inv ad ix) (h : MX2_refuses σ a1 K) : eb_Ct l Γ yX2_refuses cX2_refuses 2 (some .int) rmX2_refuses [.ref (ad 0), .int a1] (ms_st Γ ad ix σ) (em_I Γ ad ix K) := by
  refine eb_of (by decide) (Nat.le_of_ble_eq_true rfl) (fun X P hP _ => ?_)
  show eb_G l Γ P X cX2_refuses RX2 2 (some .int) rmX2_refuses 0 [(0, .ref (ad 0)), (1, .int a1)] [] (ms_st Γ ad ix σ) 0 0
  refine eg_iload_n 1 dX2_refuses_0 rfl rfl ?_
  refine eg_csp (rest := []) (ctX2_isBody h) (lw_S q1252 q1253 q77 q1254) nX2_isBody ⟨Nat.le_of_ble_eq_true rfl, Nat.le_of_ble_eq_true rfl⟩ ⟨rfl, rfl⟩ ⟨Nat.zero_le _, Nat.zero_le _⟩ rfl rfl (Nat.le_of_ble_eq_true rfl) dX2_refuses_1 (fun v1 h => ?_)
  refine eg_if_ne dX2_refuses_4 (fun c6 => ?_) (fun c6 => ?_)
  · replace h := h.2 c6
    refine eg_aload_n 0 dX2_refuses_12 rfl rfl ?_
    refine eg_iload_n 1 dX2_refuses_13 rfl rfl ?_
    refine em_cvi (rest := []) (ctX2_loads hi h) hi (lw_V q1294 q1296 qs40 q77 q1297) rfl nX2_loads ⟨Nat.le_of_ble_eq_true rfl, Nat.le_of_ble_eq_true rfl⟩ ⟨rfl, rfl⟩ ⟨Nat.zero_le _, Nat.zero_le _⟩ rfl rfl (Nat.le_of_ble_eq_true rfl) dX2_refuses_14 (fun v3 g4 h => ?_)
    refine eg_if_eq dX2_refuses_17 (fun c5 => ?_) (fun c5 => ?_)
    · replace h := h.1 c5
      refine eg_bipush dX2_refuses_24 kb_m5 ?_
      exact eg_iret dX2_refuses_26 (Nat.zero_le _) (Nat.zero_le _) (hP _ _ ⟨_, _, rfl, rfl, h⟩)
    · replace h := h.2 c5
      refine eg_iconst dX2_refuses_20 kc_0 ?_
      refine eg_goto dX2_refuses_21 ?_
      exact eg_iret dX2_refuses_26 (Nat.zero_le _) (Nat.zero_le _) (hP _ _ ⟨_, _, rfl, rfl, h⟩)
  · replace h := h.1 c6
    refine eg_bipush dX2_refuses_7 kb_m2 ?_
    refine eg_goto dX2_refuses_9 ?_
    exact eg_iret dX2_refuses_26 (Nat.zero_le _) (Nat.zero_le _) (hP _ _ ⟨_, _, rfl, rfl, h⟩)
def MX2_size (σ : eb_MS) (a1 : Int32) (K : Int32 → eb_MS → Prop) : Prop :=
  ms_ws σ 0 0 (fun g1 => MX2_refuses g1 a1 (fun v2 g3 => eb_br (0 ≤ v2) (K (g3.1 8) g3) (K v2 g3)))
abbrev rmX2_size : Room := { frames := 7, cells := 0, slots := 0, locals := 165 }
theorem nX2_size : eb_ar yX2_size 1 := by decide +kernel
theorem dX2_size_0 : eb_dc cX2_size 0 (.aload_n 0) 1 1 := by decide +kernel
theorem dX2_size_1 : eb_dc cX2_size 1 (.iconst 0) 1 2 := by decide +kernel
theorem dX2_size_2 : eb_dc cX2_size 2 (.putfield 106) 3 5 := by decide +kernel
theorem dX2_size_5 : eb_dc cX2_size 5 (.aload_n 0) 1 6 := by decide +kernel
theorem dX2_size_6 : eb_dc cX2_size 6 (.iload_n 1) 1 7 := by decide +kernel
theorem dX2_size_7 : eb_dc cX2_size 7 (.invokevirtual 170) 3 10 := by decide +kernel
theorem dX2_size_10 : eb_dc cX2_size 10 (.istore_n 2) 1 11 := by decide +kernel
theorem dX2_size_11 : eb_dc cX2_size 11 (.iload_n 2) 1 12 := by decide +kernel
theorem dX2_size_12 : eb_dj cX2_size 12 (.ifCond .ge 7) 7 15 19 := by decide +kernel
theorem dX2_size_15 : eb_dc cX2_size 15 (.iload_n 2) 1 16 := by decide +kernel
theorem dX2_size_16 : eb_dj cX2_size 16 (.goto 7) 7 19 23 := by decide +kernel
theorem dX2_size_19 : eb_dc cX2_size 19 (.aload_n 0) 1 20 := by decide +kernel
theorem dX2_size_20 : eb_dc cX2_size 20 (.getfield 135) 3 23 := by decide +kernel
theorem dX2_size_23 : eb_dc cX2_size 23 (.ireturn) 1 24 := by decide +kernel
theorem ctX2_size {l : Launch} {Γ : eb_C} {ad : Nat → Nat} {ix : Nat → Option Nat} {σ : eb_MS} {a1 : Int32} {K : Int32 → eb_MS → Prop} (hi : ms_inv ad ix) (h : MX2_size σ a1 K) : eb_Ct l Γ yX2_size cX2_size 3 (some .int) rmX2_size [.ref (ad 0), .int a1] (ms_st Γ ad ix σ) (em_I Γ ad ix K) := by
  refine eb_of (by decide) (Nat.le_of_ble_eq_true rfl) (fun X P hP _ => ?_)
  show eb_G l Γ P X cX2_size RX2 3 (some .int) rmX2_size 0 [(0, .ref (ad 0)), (1, .int a1)] [] (ms_st Γ ad ix σ) 0 0
  refine eg_aload_n 0 dX2_size_0 rfl rfl ?_
  refine eg_iconst dX2_size_1 kc_0 ?_
  refine em_puts 0 rfl q1142 dX2_size_2 hi (fun g1 eg1 => ?_)
  replace h := h g1 eg1
  refine eg_aload_n 0 dX2_size_5 rfl rfl ?_
  refine eg_iload_n 1 dX2_size_6 rfl rfl ?_
  refine em_cvi (rest := []) (ctX2_refuses hi h) hi (lw_V q1290 q1292 qs39 q77 q1293) rfl nX2_refuses ⟨Nat.le_of_ble_eq_true rfl, Nat.le_of_ble_eq_true rfl⟩ ⟨rfl, rfl⟩ ⟨Nat.zero_le _, Nat.zero_le _⟩ rfl rfl (Nat.le_of_ble_eq_true rfl) dX2_size_7 (fun v2 g3 h => ?_)
  refine eg_istore_n (lv' := [(2, .int v2), (0, .ref (ad 0)), (1, .int a1)]) dX2_size_10 rfl (Nat.le_of_ble_eq_true rfl) rfl ?_
  refine eg_iload_n 0 dX2_size_11 rfl rfl ?_
  refine eg_if_ge dX2_size_12 (fun c4 => ?_) (fun c4 => ?_)
  · replace h := h.1 c4
    refine eg_aload_n 1 dX2_size_19 rfl rfl ?_
    refine em_gets 8 rfl q1150 dX2_size_20 hi ?_
    exact eg_iret dX2_size_23 (Nat.zero_le _) (Nat.zero_le _) (hP _ _ ⟨_, _, rfl, rfl, h⟩)
  · replace h := h.2 c4
    refine eg_iload_n 0 dX2_size_15 rfl rfl ?_
    refine eg_goto dX2_size_16 ?_
    exact eg_iret dX2_size_23 (Nat.zero_le _) (Nat.zero_le _) (hP _ _ ⟨_, _, rfl, rfl, h⟩)
def MX2_refusesOf (σ : eb_MS) (a1 : Int32) (a2 : Int32) (K : Int32 → eb_MS → Prop) : Prop :=
  MX2_isBody a1 (fun v1 => eb_br (v1 = 0) (K (-2) σ) (eb_br (0 ≤ a2) (MX2_loads σ a1 (fun v3 g4 => eb_br (v3 = 0) (K (-5) g4) (K 0 g4))) (K (-2) σ)))
abbrev rmX2_refusesOf : Room := { frames := 6, cells := 0, slots := 0, locals := 144 }
theorem nX2_refusesOf : eb_ar yX2_refusesOf 2 := by decide +kernel
theorem dX2_refusesOf_0 : eb_dc cX2_refusesOf 0 (.iload_n 1) 1 1 := by decide +kernel
theorem dX2_refusesOf_1 : eb_dc cX2_refusesOf 1 (.invokestatic 113) 3 4 := by decide +kernel
theorem dX2_refusesOf_4 : eb_dj cX2_refusesOf 4 (.ifCond .eq 7) 7 7 11 := by decide +kernel
theorem dX2_refusesOf_7 : eb_dc cX2_refusesOf 7 (.iload_n 2) 1 8 := by decide +kernel
theorem dX2_refusesOf_8 : eb_dj cX2_refusesOf 8 (.ifCond .ge 6) 6 11 14 := by decide +kernel
theorem dX2_refusesOf_11 : eb_dc cX2_refusesOf 11 (.bipush (-2)) 2 13 := by decide +kernel
theorem dX2_refusesOf_13 : eb_dc cX2_refusesOf 13 (.ireturn) 1 14 := by decide +kernel
theorem dX2_refusesOf_14 : eb_dc cX2_refusesOf 14 (.aload_n 0) 1 15 := by decide +kernel
theorem dX2_refusesOf_15 : eb_dc cX2_refusesOf 15 (.iload_n 1) 1 16 := by decide +kernel
theorem dX2_refusesOf_16 : eb_dc cX2_refusesOf 16 (.invokevirtual 164) 3 19 := by decide +kernel
theorem dX2_refusesOf_19 : eb_dj cX2_refusesOf 19 (.ifCond .eq 7) 7 22 26 := by decide +kernel
theorem dX2_refusesOf_22 : eb_dc cX2_refusesOf 22 (.iconst 0) 1 23 := by decide +kernel
theorem dX2_refusesOf_23 : eb_dj cX2_refusesOf 23 (.goto 5) 5 26 28 := by decide +kernel
theorem dX2_refusesOf_26 : eb_dc cX2_refusesOf 26 (.bipush (-5)) 2 28 := by decide +kernel
theorem dX2_refusesOf_28 : eb_dc cX2_refusesOf 28 (.ireturn) 1 29 := by decide +kernel
theorem ctX2_refusesOf {l : Launch} {Γ : eb_C} {ad : Nat → Nat} {ix : Nat → Option Nat} {σ : eb_MS} {a1 : Int32} {a2 : Int32} {K : Int32 → eb_MS → Prop} (hi : ms_inv ad ix) (h : MX2_refusesOf σ a1 a2 K) : eb_Ct l Γ yX2_refusesOf cX2_refusesOf 3 (some .int) rmX2_refusesOf [.ref (ad 0), .int a1, .int a2] (ms_st Γ ad ix σ) (em_I Γ ad ix K) := by
  refine eb_of (by decide) (Nat.le_of_ble_eq_true rfl) (fun X P hP _ => ?_)
  show eb_G l Γ P X cX2_refusesOf RX2 3 (some .int) rmX2_refusesOf 0 [(0, .ref (ad 0)), (1, .int a1), (2, .int a2)] [] (ms_st Γ ad ix σ) 0 0
  refine eg_iload_n 1 dX2_refusesOf_0 rfl rfl ?_
  refine eg_csp (rest := []) (ctX2_isBody h) (lw_S q1252 q1253 q77 q1254) nX2_isBody ⟨Nat.le_of_ble_eq_true rfl, Nat.le_of_ble_eq_true rfl⟩ ⟨rfl, rfl⟩ ⟨Nat.zero_le _, Nat.zero_le _⟩ rfl rfl (Nat.le_of_ble_eq_true rfl) dX2_refusesOf_1 (fun v1 h => ?_)
  refine eg_if_eq dX2_refusesOf_4 (fun c7 => ?_) (fun c7 => ?_)
  · replace h := h.1 c7
    refine eg_bipush dX2_refusesOf_11 kb_m2 ?_
    exact eg_iret dX2_refusesOf_13 (Nat.zero_le _) (Nat.zero_le _) (hP _ _ ⟨_, _, rfl, rfl, h⟩)
  · replace h := h.2 c7
    refine eg_iload_n 2 dX2_refusesOf_7 rfl rfl ?_
    refine eg_if_ge dX2_refusesOf_8 (fun c6 => ?_) (fun c6 => ?_)
    · replace h := h.1 c6
      refine eg_aload_n 0 dX2_refusesOf_14 rfl rfl ?_
      refine eg_iload_n 1 dX2_refusesOf_15 rfl rfl ?_
      refine em_cvi (rest := []) (ctX2_loads hi h) hi (lw_V q1294 q1296 qs40 q77 q1297) rfl nX2_loads ⟨Nat.le_of_ble_eq_true rfl, Nat.le_of_ble_eq_true rfl⟩ ⟨rfl, rfl⟩ ⟨Nat.zero_le _, Nat.zero_le _⟩ rfl rfl (Nat.le_of_ble_eq_true rfl) dX2_refusesOf_16 (fun v3 g4 h => ?_)
      refine eg_if_eq dX2_refusesOf_19 (fun c5 => ?_) (fun c5 => ?_)
      · replace h := h.1 c5
        refine eg_bipush dX2_refusesOf_26 kb_m5 ?_
        exact eg_iret dX2_refusesOf_28 (Nat.zero_le _) (Nat.zero_le _) (hP _ _ ⟨_, _, rfl, rfl, h⟩)
      · replace h := h.2 c5
        refine eg_iconst dX2_refusesOf_22 kc_0 ?_
        refine eg_goto dX2_refusesOf_23 ?_
        exact eg_iret dX2_refusesOf_28 (Nat.zero_le _) (Nat.zero_le _) (hP _ _ ⟨_, _, rfl, rfl, h⟩)
    · replace h := h.2 c6
      refine eg_bipush dX2_refusesOf_11 kb_m2 ?_
      exact eg_iret dX2_refusesOf_13 (Nat.zero_le _) (Nat.zero_le _) (hP _ _ ⟨_, _, rfl, rfl, h⟩)
def MX2_length (σ : eb_MS) (a1 : Int32) (a2 : Int32) (K : Int32 → eb_MS → Prop) : Prop :=
  ms_ws σ 0 0 (fun g1 => MX2_refusesOf g1 a1 a2 (fun v2 g3 => eb_br (0 ≤ v2) (eb_br ((g3.1 8) ≤ a2) (K (-2) g3) (eb_rd (g3.2.1 12) 500 a2 (fun v4 => K v4 g3))) (K v2 g3)))
abbrev rmX2_length : Room := { frames := 7, cells := 0, slots := 0, locals := 166 }
theorem nX2_length : eb_ar yX2_length 2 := by decide +kernel
theorem dX2_length_0 : eb_dc cX2_length 0 (.aload_n 0) 1 1 := by decide +kernel
theorem dX2_length_1 : eb_dc cX2_length 1 (.iconst 0) 1 2 := by decide +kernel
theorem dX2_length_2 : eb_dc cX2_length 2 (.putfield 106) 3 5 := by decide +kernel
theorem dX2_length_5 : eb_dc cX2_length 5 (.aload_n 0) 1 6 := by decide +kernel
theorem dX2_length_6 : eb_dc cX2_length 6 (.iload_n 1) 1 7 := by decide +kernel
theorem dX2_length_7 : eb_dc cX2_length 7 (.iload_n 2) 1 8 := by decide +kernel
theorem dX2_length_8 : eb_dc cX2_length 8 (.invokevirtual 173) 3 11 := by decide +kernel
theorem dX2_length_11 : eb_dc cX2_length 11 (.istore_n 3) 1 12 := by decide +kernel
theorem dX2_length_12 : eb_dc cX2_length 12 (.iload_n 3) 1 13 := by decide +kernel
theorem dX2_length_13 : eb_dj cX2_length 13 (.ifCond .ge 7) 7 16 20 := by decide +kernel
theorem dX2_length_16 : eb_dc cX2_length 16 (.iload_n 3) 1 17 := by decide +kernel
theorem dX2_length_17 : eb_dj cX2_length 17 (.goto 22) 22 20 39 := by decide +kernel
theorem dX2_length_20 : eb_dc cX2_length 20 (.iload_n 2) 1 21 := by decide +kernel
theorem dX2_length_21 : eb_dc cX2_length 21 (.aload_n 0) 1 22 := by decide +kernel
theorem dX2_length_22 : eb_dc cX2_length 22 (.getfield 135) 3 25 := by decide +kernel
theorem dX2_length_25 : eb_dj cX2_length 25 (.if_icmp .ge 12) 12 28 37 := by decide +kernel
theorem dX2_length_28 : eb_dc cX2_length 28 (.aload_n 0) 1 29 := by decide +kernel
theorem dX2_length_29 : eb_dc cX2_length 29 (.getfield 35) 3 32 := by decide +kernel
theorem dX2_length_32 : eb_dc cX2_length 32 (.iload_n 2) 1 33 := by decide +kernel
theorem dX2_length_33 : eb_dc cX2_length 33 (.iaload) 1 34 := by decide +kernel
theorem dX2_length_34 : eb_dj cX2_length 34 (.goto 5) 5 37 39 := by decide +kernel
theorem dX2_length_37 : eb_dc cX2_length 37 (.bipush (-2)) 2 39 := by decide +kernel
theorem dX2_length_39 : eb_dc cX2_length 39 (.ireturn) 1 40 := by decide +kernel
theorem ctX2_length {l : Launch} {Γ : eb_C} {ad : Nat → Nat} {ix : Nat → Option Nat} {σ : eb_MS} {a1 : Int32} {a2 : Int32} {K : Int32 → eb_MS → Prop} (hi : ms_inv ad ix) (h : MX2_length σ a1 a2 K) : eb_Ct l Γ yX2_length cX2_length 4 (some .int) rmX2_length [.ref (ad 0), .int a1, .int a2] (ms_st Γ ad ix σ) (em_I Γ ad ix K) := by
  refine eb_of (by decide) (Nat.le_of_ble_eq_true rfl) (fun X P hP _ => ?_)
  show eb_G l Γ P X cX2_length RX2 4 (some .int) rmX2_length 0 [(0, .ref (ad 0)), (1, .int a1), (2, .int a2)] [] (ms_st Γ ad ix σ) 0 0
  refine eg_aload_n 0 dX2_length_0 rfl rfl ?_
  refine eg_iconst dX2_length_1 kc_0 ?_
  refine em_puts 0 rfl q1142 dX2_length_2 hi (fun g1 eg1 => ?_)
  replace h := h g1 eg1
  refine eg_aload_n 0 dX2_length_5 rfl rfl ?_
  refine eg_iload_n 1 dX2_length_6 rfl rfl ?_
  refine eg_iload_n 2 dX2_length_7 rfl rfl ?_
  refine em_cvi (rest := []) (ctX2_refusesOf hi h) hi (lw_V q1329 q1331 qs47 q77 q1332) rfl nX2_refusesOf ⟨Nat.le_of_ble_eq_true rfl, Nat.le_of_ble_eq_true rfl⟩ ⟨rfl, rfl⟩ ⟨Nat.zero_le _, Nat.zero_le _⟩ rfl rfl (Nat.le_of_ble_eq_true rfl) dX2_length_8 (fun v2 g3 h => ?_)
  refine eg_istore_n (lv' := [(3, .int v2), (0, .ref (ad 0)), (1, .int a1), (2, .int a2)]) dX2_length_11 rfl (Nat.le_of_ble_eq_true rfl) rfl ?_
  refine eg_iload_n 0 dX2_length_12 rfl rfl ?_
  refine eg_if_ge dX2_length_13 (fun c6 => ?_) (fun c6 => ?_)
  · replace h := h.1 c6
    refine eg_iload_n 3 dX2_length_20 rfl rfl ?_
    refine eg_aload_n 1 dX2_length_21 rfl rfl ?_
    refine em_gets 8 rfl q1150 dX2_length_22 hi ?_
    refine eg_icmp_ge dX2_length_25 (fun c5 => ?_) (fun c5 => ?_)
    · replace h := h.1 c5
      refine eg_bipush dX2_length_37 kb_m2 ?_
      exact eg_iret dX2_length_39 (Nat.zero_le _) (Nat.zero_le _) (hP _ _ ⟨_, _, rfl, rfl, h⟩)
    · replace h := h.2 c5
      refine eg_aload_n 1 dX2_length_28 rfl rfl ?_
      refine em_geta 12 rfl q1154 dX2_length_29 hi ?_
      refine eg_iload_n 3 dX2_length_32 rfl rfl ?_
      obtain ⟨hb, h⟩ := h
      refine em_iald 12 rfl hb dX2_length_33 hi (fun v4 ev4 => ?_)
      replace h := h v4 ev4
      refine eg_goto dX2_length_34 ?_
      exact eg_iret dX2_length_39 (Nat.zero_le _) (Nat.zero_le _) (hP _ _ ⟨_, _, rfl, rfl, h⟩)
  · replace h := h.2 c6
    refine eg_iload_n 0 dX2_length_16 rfl rfl ?_
    refine eg_goto dX2_length_17 ?_
    exact eg_iret dX2_length_39 (Nat.zero_le _) (Nat.zero_le _) (hP _ _ ⟨_, _, rfl, rfl, h⟩)
