set_option maxRecDepth 100000
set_option maxHeartbeats 4000000
def MX2_letterOf (σ : eb_MS) (a1 : Int32) (a2 : Int32) (K : Int32 → Prop) : Prop :=
  eb_jp1 (fun (x3_1 : Int32) => eb_rd (σ.2.1 14) 500 x3_1 (fun v2 => K v2)) (fun k3 => eb_loop1 (fun r5 (x3_4 : Int32) => eb_rd (σ.2.1 12) 500 x3_4 (fun v6 => eb_br (v6 ≤ (a2 + 1)) (k3 x3_4) (eb_rd (σ.2.1 13) 500 x3_4 (fun v7 => r5 v7)))) a1)
abbrev rmX2_letterOf : Room := { frames := 1, cells := 0, slots := 0, locals := 12 }
theorem nX2_letterOf : eb_ar yX2_letterOf 2 := by decide +kernel
theorem dX2_letterOf_0 : eb_dc cX2_letterOf 0 (.iload_n 1) 1 1 := by decide +kernel
theorem dX2_letterOf_1 : eb_dc cX2_letterOf 1 (.istore_n 3) 1 2 := by decide +kernel
theorem dX2_letterOf_2 : eb_dc cX2_letterOf 2 (.aload_n 0) 1 3 := by decide +kernel
theorem dX2_letterOf_3 : eb_dc cX2_letterOf 3 (.getfield 35) 3 6 := by decide +kernel
theorem dX2_letterOf_6 : eb_dc cX2_letterOf 6 (.iload_n 3) 1 7 := by decide +kernel
theorem dX2_letterOf_7 : eb_dc cX2_letterOf 7 (.iaload) 1 8 := by decide +kernel
theorem dX2_letterOf_8 : eb_dc cX2_letterOf 8 (.iload_n 2) 1 9 := by decide +kernel
theorem dX2_letterOf_9 : eb_dc cX2_letterOf 9 (.iconst 1) 1 10 := by decide +kernel
theorem dX2_letterOf_10 : eb_dc cX2_letterOf 10 (.iadd) 1 11 := by decide +kernel
theorem dX2_letterOf_11 : eb_dj cX2_letterOf 11 (.if_icmp .le 13) 13 14 24 := by decide +kernel
theorem dX2_letterOf_14 : eb_dc cX2_letterOf 14 (.aload_n 0) 1 15 := by decide +kernel
theorem dX2_letterOf_15 : eb_dc cX2_letterOf 15 (.getfield 38) 3 18 := by decide +kernel
theorem dX2_letterOf_18 : eb_dc cX2_letterOf 18 (.iload_n 3) 1 19 := by decide +kernel
theorem dX2_letterOf_19 : eb_dc cX2_letterOf 19 (.iaload) 1 20 := by decide +kernel
theorem dX2_letterOf_20 : eb_dc cX2_letterOf 20 (.istore_n 3) 1 21 := by decide +kernel
theorem dX2_letterOf_21 : eb_dj cX2_letterOf 21 (.goto (-19)) (-19) 24 2 := by decide +kernel
theorem dX2_letterOf_24 : eb_dc cX2_letterOf 24 (.aload_n 0) 1 25 := by decide +kernel
theorem dX2_letterOf_25 : eb_dc cX2_letterOf 25 (.getfield 41) 3 28 := by decide +kernel
theorem dX2_letterOf_28 : eb_dc cX2_letterOf 28 (.iload_n 3) 1 29 := by decide +kernel
theorem dX2_letterOf_29 : eb_dc cX2_letterOf 29 (.iaload) 1 30 := by decide +kernel
theorem dX2_letterOf_30 : eb_dc cX2_letterOf 30 (.ireturn) 1 31 := by decide +kernel
theorem ctX2_letterOf {l : Launch} {Γ : eb_C} {ad : Nat → Nat} {ix : Nat → Option Nat} {σ : eb_MS} {a1 : Int32} {a2 : Int32} {K : Int32 → Prop} (hi : ms_inv ad ix) (h : MX2_letterOf σ a1 a2 K) : eb_Ct l Γ yX2_letterOf cX2_letterOf 4 (some .int) rmX2_letterOf [.ref (ad 0), .int a1, .int a2] (ms_st Γ ad ix σ) (eb_pI (ms_st Γ ad ix σ) K) := by
  refine eb_of (by decide) (Nat.le_of_ble_eq_true rfl) (fun X P hP _ => ?_)
  show eb_G l Γ P X cX2_letterOf RX2 4 (some .int) rmX2_letterOf 0 [(0, .ref (ad 0)), (1, .int a1), (2, .int a2)] [] (ms_st Γ ad ix σ) 0 0
  refine eg_iload_n 1 dX2_letterOf_0 rfl rfl ?_
  refine eg_istore_n (lv' := [(3, .int a1), (0, .ref (ad 0)), (1, .int a1), (2, .int a2)]) dX2_letterOf_1 rfl (Nat.le_of_ble_eq_true rfl) rfl ?_
  refine eb_jp1_e (J := fun (x3_1 : Int32) => eb_G l Γ P X cX2_letterOf RX2 4 (some .int) rmX2_letterOf 24 [(0, .ref (ad 0)), (3, .int x3_1)] [] (ms_st Γ ad ix σ) 0 0) h ?_ ?_
  · intro x3_1 h
    refine eg_aload_n 0 dX2_letterOf_24 rfl rfl ?_
    refine em_geta 14 rfl q1156 dX2_letterOf_25 hi ?_
    refine eg_iload_n 1 dX2_letterOf_28 rfl rfl ?_
    obtain ⟨hb, h⟩ := h
    refine em_iald 14 rfl hb dX2_letterOf_29 hi (fun v2 ev2 => ?_)
    replace h := h v2 ev2
    exact eg_iret dX2_letterOf_30 (Nat.zero_le _) (Nat.zero_le _) (hP _ _ ⟨_, rfl, rfl, h⟩)
  · intro k3 hk3 h
    refine eg_sub [1, 3, 0] rfl ?_
    refine eb_loop1_e (J := fun (x3_4 : Int32) => eb_G l Γ P X cX2_letterOf RX2 4 (some .int) rmX2_letterOf 2 [(0, .ref (ad 0)), (2, .int a2), (3, .int x3_4)] [] (ms_st Γ ad ix σ) 0 0) h ?_
    intro r5 hr5 x3_4 h
    refine eg_aload_n 0 dX2_letterOf_2 rfl rfl ?_
    refine em_geta 12 rfl q1154 dX2_letterOf_3 hi ?_
    refine eg_iload_n 2 dX2_letterOf_6 rfl rfl ?_
    obtain ⟨hb, h⟩ := h
    refine em_iald 12 rfl hb dX2_letterOf_7 hi (fun v6 ev6 => ?_)
    replace h := h v6 ev6
    refine eg_iload_n 1 dX2_letterOf_8 rfl rfl ?_
    refine eg_iconst dX2_letterOf_9 kc_1 ?_
    refine eg_iadd dX2_letterOf_10 ?_
    refine eg_icmp_le dX2_letterOf_11 (fun c8 => ?_) (fun c8 => ?_)
    · replace h := h.1 c8
      exact eg_sub [0, 2] rfl (hk3 x3_4 h)
    · replace h := h.2 c8
      refine eg_aload_n 0 dX2_letterOf_14 rfl rfl ?_
      refine em_geta 13 rfl q1155 dX2_letterOf_15 hi ?_
      refine eg_iload_n 2 dX2_letterOf_18 rfl rfl ?_
      obtain ⟨hb, h⟩ := h
      refine em_iald 13 rfl hb dX2_letterOf_19 hi (fun v7 ev7 => ?_)
      replace h := h v7 ev7
      refine eg_istore_n (lv' := [(3, .int v7), (0, .ref (ad 0)), (2, .int a2)]) dX2_letterOf_20 rfl (Nat.le_of_ble_eq_true rfl) rfl ?_
      refine eg_goto dX2_letterOf_21 ?_
      exact eg_sub [1, 2, 0] rfl (hr5 v7 h)
def MX2_letter (σ : eb_MS) (a1 : Int32) (a2 : Int32) (a3 : Int32) (K : Int32 → eb_MS → Prop) : Prop :=
  ms_ws σ 0 0 (fun g1 => eb_jp1 (fun (s2 : Int32) => MX2_refusesOf g1 a1 s2 (fun v3 g4 => eb_br (0 ≤ v3) (eb_br (a2 < (g4.1 8)) (eb_rd (g4.2.1 12) 500 a2 (fun v5 => eb_br (v5 ≤ a3) (K (-1) g4) (MX2_letterOf g4 a2 a3 (fun v6 => K v6 g4)))) (K (-2) g4)) (K v3 g4))) (fun k11 => eb_br (a3 ≤ a2) (k11 a3) (k11 a2)))
abbrev rmX2_letter : Room := { frames := 7, cells := 0, slots := 0, locals := 166 }
theorem nX2_letter : eb_ar yX2_letter 3 := by decide +kernel
theorem dX2_letter_0 : eb_dc cX2_letter 0 (.aload_n 0) 1 1 := by decide +kernel
theorem dX2_letter_1 : eb_dc cX2_letter 1 (.iconst 0) 1 2 := by decide +kernel
theorem dX2_letter_2 : eb_dc cX2_letter 2 (.putfield 106) 3 5 := by decide +kernel
theorem dX2_letter_5 : eb_dc cX2_letter 5 (.aload_n 0) 1 6 := by decide +kernel
theorem dX2_letter_6 : eb_dc cX2_letter 6 (.iload_n 1) 1 7 := by decide +kernel
theorem dX2_letter_7 : eb_dc cX2_letter 7 (.iload_n 2) 1 8 := by decide +kernel
theorem dX2_letter_8 : eb_dc cX2_letter 8 (.iload_n 3) 1 9 := by decide +kernel
theorem dX2_letter_9 : eb_dj cX2_letter 9 (.if_icmp .ge 7) 7 12 16 := by decide +kernel
theorem dX2_letter_12 : eb_dc cX2_letter 12 (.iload_n 2) 1 13 := by decide +kernel
theorem dX2_letter_13 : eb_dj cX2_letter 13 (.goto 4) 4 16 17 := by decide +kernel
theorem dX2_letter_16 : eb_dc cX2_letter 16 (.iload_n 3) 1 17 := by decide +kernel
theorem dX2_letter_17 : eb_dc cX2_letter 17 (.invokevirtual 173) 3 20 := by decide +kernel
theorem dX2_letter_20 : eb_dc cX2_letter 20 (.istore 4) 2 22 := by decide +kernel
theorem dX2_letter_22 : eb_dc cX2_letter 22 (.iload 4) 2 24 := by decide +kernel
theorem dX2_letter_24 : eb_dj cX2_letter 24 (.ifCond .ge 8) 8 27 32 := by decide +kernel
theorem dX2_letter_27 : eb_dc cX2_letter 27 (.iload 4) 2 29 := by decide +kernel
theorem dX2_letter_29 : eb_dj cX2_letter 29 (.goto 36) 36 32 65 := by decide +kernel
theorem dX2_letter_32 : eb_dc cX2_letter 32 (.iload_n 2) 1 33 := by decide +kernel
theorem dX2_letter_33 : eb_dc cX2_letter 33 (.aload_n 0) 1 34 := by decide +kernel
theorem dX2_letter_34 : eb_dc cX2_letter 34 (.getfield 135) 3 37 := by decide +kernel
theorem dX2_letter_37 : eb_dj cX2_letter 37 (.if_icmp .lt 8) 8 40 45 := by decide +kernel
theorem dX2_letter_40 : eb_dc cX2_letter 40 (.bipush (-2)) 2 42 := by decide +kernel
theorem dX2_letter_42 : eb_dj cX2_letter 42 (.goto 23) 23 45 65 := by decide +kernel
theorem dX2_letter_45 : eb_dc cX2_letter 45 (.iload_n 3) 1 46 := by decide +kernel
theorem dX2_letter_46 : eb_dc cX2_letter 46 (.aload_n 0) 1 47 := by decide +kernel
theorem dX2_letter_47 : eb_dc cX2_letter 47 (.getfield 35) 3 50 := by decide +kernel
theorem dX2_letter_50 : eb_dc cX2_letter 50 (.iload_n 2) 1 51 := by decide +kernel
theorem dX2_letter_51 : eb_dc cX2_letter 51 (.iaload) 1 52 := by decide +kernel
theorem dX2_letter_52 : eb_dj cX2_letter 52 (.if_icmp .ge 12) 12 55 64 := by decide +kernel
theorem dX2_letter_55 : eb_dc cX2_letter 55 (.aload_n 0) 1 56 := by decide +kernel
theorem dX2_letter_56 : eb_dc cX2_letter 56 (.iload_n 2) 1 57 := by decide +kernel
theorem dX2_letter_57 : eb_dc cX2_letter 57 (.iload_n 3) 1 58 := by decide +kernel
theorem dX2_letter_58 : eb_dc cX2_letter 58 (.invokevirtual 167) 3 61 := by decide +kernel
theorem dX2_letter_61 : eb_dj cX2_letter 61 (.goto 4) 4 64 65 := by decide +kernel
theorem dX2_letter_64 : eb_dc cX2_letter 64 (.iconst (-1)) 1 65 := by decide +kernel
theorem dX2_letter_65 : eb_dc cX2_letter 65 (.ireturn) 1 66 := by decide +kernel
theorem ctX2_letter {l : Launch} {Γ : eb_C} {ad : Nat → Nat} {ix : Nat → Option Nat} {σ : eb_MS} {a1 : Int32} {a2 : Int32} {a3 : Int32} {K : Int32 → eb_MS → Prop} (hi : ms_inv ad ix) (h : MX2_letter σ a1 a2 a3 K) : eb_Ct l Γ yX2_letter cX2_letter 5 (some .int) rmX2_letter [.ref (ad 0), .int a1, .int a2, .int a3] (ms_st Γ ad ix σ) (em_I Γ ad ix K) := by
  refine eb_of (by decide) (Nat.le_of_ble_eq_true rfl) (fun X P hP _ => ?_)
  show eb_G l Γ P X cX2_letter RX2 5 (some .int) rmX2_letter 0 [(0, .ref (ad 0)), (1, .int a1), (2, .int a2), (3, .int a3)] [] (ms_st Γ ad ix σ) 0 0
  refine eg_aload_n 0 dX2_letter_0 rfl rfl ?_
  refine eg_iconst dX2_letter_1 kc_0 ?_
  refine em_puts 0 rfl q1142 dX2_letter_2 hi (fun g1 eg1 => ?_)
  replace h := h g1 eg1
  refine eg_aload_n 0 dX2_letter_5 rfl rfl ?_
  refine eg_iload_n 1 dX2_letter_6 rfl rfl ?_
  refine eg_iload_n 2 dX2_letter_7 rfl rfl ?_
  refine eg_iload_n 3 dX2_letter_8 rfl rfl ?_
  refine eb_jp1_e (J := fun (s2 : Int32) => eb_G l Γ P X cX2_letter RX2 5 (some .int) rmX2_letter 17 [(0, .ref (ad 0)), (2, .int a2), (3, .int a3)] [.int s2, .int a1, .ref (ad 0)] (ms_st Γ ad ix g1) 0 0) h ?_ ?_
  · intro s2 h
    refine em_cvi (rest := []) (ctX2_refusesOf hi h) hi (lw_V q1329 q1331 qs47 q77 q1332) rfl nX2_refusesOf ⟨Nat.le_of_ble_eq_true rfl, Nat.le_of_ble_eq_true rfl⟩ ⟨rfl, rfl⟩ ⟨Nat.zero_le _, Nat.zero_le _⟩ rfl rfl (Nat.le_of_ble_eq_true rfl) dX2_letter_17 (fun v3 g4 h => ?_)
    refine eg_istore (lv' := [(4, .int v3), (0, .ref (ad 0)), (2, .int a2), (3, .int a3)]) dX2_letter_20 (Nat.le_of_ble_eq_true rfl) rfl ?_
    refine eg_iload 0 dX2_letter_22 rfl ?_
    refine eg_if_ge dX2_letter_24 (fun c10 => ?_) (fun c10 => ?_)
    · replace h := h.1 c10
      refine eg_iload_n 2 dX2_letter_32 rfl rfl ?_
      refine eg_aload_n 1 dX2_letter_33 rfl rfl ?_
      refine em_gets 8 rfl q1150 dX2_letter_34 hi ?_
      refine eg_icmp_lt dX2_letter_37 (fun c9 => ?_) (fun c9 => ?_)
      · replace h := h.1 c9
        refine eg_iload_n 3 dX2_letter_45 rfl rfl ?_
        refine eg_aload_n 1 dX2_letter_46 rfl rfl ?_
        refine em_geta 12 rfl q1154 dX2_letter_47 hi ?_
        refine eg_iload_n 2 dX2_letter_50 rfl rfl ?_
        obtain ⟨hb, h⟩ := h
        refine em_iald 12 rfl hb dX2_letter_51 hi (fun v5 ev5 => ?_)
        replace h := h v5 ev5
        refine eg_icmp_ge dX2_letter_52 (fun c8 => ?_) (fun c8 => ?_)
        · replace h := h.1 c8
          refine eg_iconst dX2_letter_64 kc_m1 ?_
          exact eg_iret dX2_letter_65 (Nat.zero_le _) (Nat.zero_le _) (hP _ _ ⟨_, _, rfl, rfl, h⟩)
        · replace h := h.2 c8
          refine eg_aload_n 1 dX2_letter_55 rfl rfl ?_
          refine eg_iload_n 2 dX2_letter_56 rfl rfl ?_
          refine eg_iload_n 3 dX2_letter_57 rfl rfl ?_
          refine em_cvp (rest := []) (ctX2_letterOf hi h) hi (lw_V q1337 q1339 qs48 q77 q1340) rfl nX2_letterOf ⟨Nat.le_of_ble_eq_true rfl, Nat.le_of_ble_eq_true rfl⟩ ⟨rfl, rfl⟩ ⟨Nat.zero_le _, Nat.zero_le _⟩ rfl rfl (Nat.le_of_ble_eq_true rfl) dX2_letter_58 (fun v6 h => ?_)
          refine eg_goto dX2_letter_61 ?_
          exact eg_iret dX2_letter_65 (Nat.zero_le _) (Nat.zero_le _) (hP _ _ ⟨_, _, rfl, rfl, h⟩)
      · replace h := h.2 c9
        refine eg_bipush dX2_letter_40 kb_m2 ?_
        refine eg_goto dX2_letter_42 ?_
        exact eg_iret dX2_letter_65 (Nat.zero_le _) (Nat.zero_le _) (hP _ _ ⟨_, _, rfl, rfl, h⟩)
    · replace h := h.2 c10
      refine eg_iload 0 dX2_letter_27 rfl ?_
      refine eg_goto dX2_letter_29 ?_
      exact eg_iret dX2_letter_65 (Nat.zero_le _) (Nat.zero_le _) (hP _ _ ⟨_, _, rfl, rfl, h⟩)
  · intro k11 hk11 h
    refine eg_icmp_ge dX2_letter_9 (fun c12 => ?_) (fun c12 => ?_)
    · replace h := h.1 c12
      refine eg_iload_n 3 dX2_letter_16 rfl rfl ?_
      exact eg_sub [0, 2, 3] rfl (hk11 a3 h)
    · replace h := h.2 c12
      refine eg_iload_n 2 dX2_letter_12 rfl rfl ?_
      refine eg_goto dX2_letter_13 ?_
      exact eg_sub [0, 2, 3] rfl (hk11 a2 h)
def MX2_element (σ : eb_MS) (a1 : Int32) (a2 : Int32) (K : Int32 → eb_MS → Prop) : Prop :=
  ms_ws σ 0 0 (fun g1 => MX2_isBody a1 (fun v2 => eb_br (v2 = 0) (K (-2) g1) (eb_br (0 ≤ a2) (eb_jp1 (fun (x4_4 : Int32) => eb_br (x4_4 = 0) (K (-2) g1) (MX2_loads g1 a1 (fun v5 g6 => eb_br (v5 = 0) (K (-5) g6) (eb_jp1 (fun (x5_7 : Int32) => eb_loop2 (fun r10 (x6_8 : Int32) (x7_9 : Int32) => eb_br (x7_9 ≤ 0) (K x6_8 g6) (eb_br (a2 ≤ 0) (K x6_8 g6) ((¬ x7_9 = 0) ∧ (eb_rd (g6.2.1 11) 2000 ((((4 * x6_8) + (eb_rem (a2 / x7_9) 10)) - 1)) (fun v11 => r10 v11 (x7_9 / 10)))))) 0 x5_7) (fun k14 => eb_loop1 (fun r16 (x5_15 : Int32) => (¬ x5_15 = 0) ∧ (eb_br ((a2 / x5_15) ≤ 9) (k14 x5_15) (r16 (x5_15 * 10)))) 1))))) (fun k20 => eb_loop2 (fun r23 (x3_21 : Int32) (x4_22 : Int32) => eb_br (x3_21 ≤ 0) (k20 x4_22) (eb_rd (g1.2.1 1) 4 a1 (fun v24 => MX2_in (eb_rem x3_21 10) 1 v24 (fun v25 => r23 (x3_21 / 10) (x4_22 &&& v25))))) a2 1)) (K (-2) g1))))
abbrev rmX2_element : Room := { frames := 6, cells := 0, slots := 0, locals := 144 }
theorem nX2_element : eb_ar yX2_element 2 := by decide +kernel
theorem dX2_element_0 : eb_dc cX2_element 0 (.aload_n 0) 1 1 := by decide +kernel
theorem dX2_element_1 : eb_dc cX2_element 1 (.iconst 0) 1 2 := by decide +kernel
theorem dX2_element_2 : eb_dc cX2_element 2 (.putfield 106) 3 5 := by decide +kernel
theorem dX2_element_5 : eb_dc cX2_element 5 (.iload_n 1) 1 6 := by decide +kernel
theorem dX2_element_6 : eb_dc cX2_element 6 (.invokestatic 113) 3 9 := by decide +kernel
theorem dX2_element_9 : eb_dj cX2_element 9 (.ifCond .eq 7) 7 12 16 := by decide +kernel
theorem dX2_element_12 : eb_dc cX2_element 12 (.iload_n 2) 1 13 := by decide +kernel
theorem dX2_element_13 : eb_dj cX2_element 13 (.ifCond .ge 6) 6 16 19 := by decide +kernel
theorem dX2_element_16 : eb_dc cX2_element 16 (.bipush (-2)) 2 18 := by decide +kernel
theorem dX2_element_18 : eb_dc cX2_element 18 (.ireturn) 1 19 := by decide +kernel
theorem dX2_element_19 : eb_dc cX2_element 19 (.iload_n 2) 1 20 := by decide +kernel
theorem dX2_element_20 : eb_dc cX2_element 20 (.istore_n 3) 1 21 := by decide +kernel
theorem dX2_element_21 : eb_dc cX2_element 21 (.iconst 1) 1 22 := by decide +kernel
theorem dX2_element_22 : eb_dc cX2_element 22 (.istore 4) 2 24 := by decide +kernel
theorem dX2_element_24 : eb_dc cX2_element 24 (.iload_n 3) 1 25 := by decide +kernel
theorem dX2_element_25 : eb_dj cX2_element 25 (.ifCond .le 30) 30 28 55 := by decide +kernel
theorem dX2_element_28 : eb_dc cX2_element 28 (.iload 4) 2 30 := by decide +kernel
theorem dX2_element_30 : eb_dc cX2_element 30 (.iload_n 3) 1 31 := by decide +kernel
theorem dX2_element_31 : eb_dc cX2_element 31 (.bipush 10) 2 33 := by decide +kernel
theorem dX2_element_33 : eb_dc cX2_element 33 (.irem) 1 34 := by decide +kernel
theorem dX2_element_34 : eb_dc cX2_element 34 (.iconst 1) 1 35 := by decide +kernel
theorem dX2_element_35 : eb_dc cX2_element 35 (.aload_n 0) 1 36 := by decide +kernel
theorem dX2_element_36 : eb_dc cX2_element 36 (.getfield 7) 3 39 := by decide +kernel
theorem dX2_element_39 : eb_dc cX2_element 39 (.iload_n 1) 1 40 := by decide +kernel
theorem dX2_element_40 : eb_dc cX2_element 40 (.iaload) 1 41 := by decide +kernel
theorem dX2_element_41 : eb_dc cX2_element 41 (.invokestatic 109) 3 44 := by decide +kernel
theorem dX2_element_44 : eb_dc cX2_element 44 (.iand) 1 45 := by decide +kernel
theorem dX2_element_45 : eb_dc cX2_element 45 (.istore 4) 2 47 := by decide +kernel
theorem dX2_element_47 : eb_dc cX2_element 47 (.iload_n 3) 1 48 := by decide +kernel
theorem dX2_element_48 : eb_dc cX2_element 48 (.bipush 10) 2 50 := by decide +kernel
theorem dX2_element_50 : eb_dc cX2_element 50 (.idiv) 1 51 := by decide +kernel
theorem dX2_element_51 : eb_dc cX2_element 51 (.istore_n 3) 1 52 := by decide +kernel
theorem dX2_element_52 : eb_dj cX2_element 52 (.goto (-28)) (-28) 55 24 := by decide +kernel
theorem dX2_element_55 : eb_dc cX2_element 55 (.iload 4) 2 57 := by decide +kernel
theorem dX2_element_57 : eb_dj cX2_element 57 (.ifCond .ne 6) 6 60 63 := by decide +kernel
theorem dX2_element_60 : eb_dc cX2_element 60 (.bipush (-2)) 2 62 := by decide +kernel
theorem dX2_element_62 : eb_dc cX2_element 62 (.ireturn) 1 63 := by decide +kernel
theorem dX2_element_63 : eb_dc cX2_element 63 (.aload_n 0) 1 64 := by decide +kernel
theorem dX2_element_64 : eb_dc cX2_element 64 (.iload_n 1) 1 65 := by decide +kernel
theorem dX2_element_65 : eb_dc cX2_element 65 (.invokevirtual 164) 3 68 := by decide +kernel
theorem dX2_element_68 : eb_dj cX2_element 68 (.ifCond .ne 6) 6 71 74 := by decide +kernel
theorem dX2_element_71 : eb_dc cX2_element 71 (.bipush (-5)) 2 73 := by decide +kernel
theorem dX2_element_73 : eb_dc cX2_element 73 (.ireturn) 1 74 := by decide +kernel
theorem dX2_element_74 : eb_dc cX2_element 74 (.iconst 1) 1 75 := by decide +kernel
theorem dX2_element_75 : eb_dc cX2_element 75 (.istore 5) 2 77 := by decide +kernel
theorem dX2_element_77 : eb_dc cX2_element 77 (.iload_n 2) 1 78 := by decide +kernel
theorem dX2_element_78 : eb_dc cX2_element 78 (.iload 5) 2 80 := by decide +kernel
theorem dX2_element_80 : eb_dc cX2_element 80 (.idiv) 1 81 := by decide +kernel
theorem dX2_element_81 : eb_dc cX2_element 81 (.bipush 9) 2 83 := by decide +kernel
theorem dX2_element_83 : eb_dj cX2_element 83 (.if_icmp .le 13) 13 86 96 := by decide +kernel
theorem dX2_element_86 : eb_dc cX2_element 86 (.iload 5) 2 88 := by decide +kernel
theorem dX2_element_88 : eb_dc cX2_element 88 (.bipush 10) 2 90 := by decide +kernel
theorem dX2_element_90 : eb_dc cX2_element 90 (.imul) 1 91 := by decide +kernel
theorem dX2_element_91 : eb_dc cX2_element 91 (.istore 5) 2 93 := by decide +kernel
theorem dX2_element_93 : eb_dj cX2_element 93 (.goto (-16)) (-16) 96 77 := by decide +kernel
theorem dX2_element_96 : eb_dc cX2_element 96 (.iconst 0) 1 97 := by decide +kernel
theorem dX2_element_97 : eb_dc cX2_element 97 (.istore 6) 2 99 := by decide +kernel
theorem dX2_element_99 : eb_dc cX2_element 99 (.iload 5) 2 101 := by decide +kernel
theorem dX2_element_101 : eb_dc cX2_element 101 (.istore 7) 2 103 := by decide +kernel
theorem dX2_element_103 : eb_dc cX2_element 103 (.iload 7) 2 105 := by decide +kernel
theorem dX2_element_105 : eb_dj cX2_element 105 (.ifCond .le 38) 38 108 143 := by decide +kernel
theorem dX2_element_108 : eb_dc cX2_element 108 (.iload_n 2) 1 109 := by decide +kernel
theorem dX2_element_109 : eb_dj cX2_element 109 (.ifCond .le 34) 34 112 143 := by decide +kernel
theorem dX2_element_112 : eb_dc cX2_element 112 (.aload_n 0) 1 113 := by decide +kernel
theorem dX2_element_113 : eb_dc cX2_element 113 (.getfield 32) 3 116 := by decide +kernel
theorem dX2_element_116 : eb_dc cX2_element 116 (.iconst 4) 1 117 := by decide +kernel
theorem dX2_element_117 : eb_dc cX2_element 117 (.iload 6) 2 119 := by decide +kernel
theorem dX2_element_119 : eb_dc cX2_element 119 (.imul) 1 120 := by decide +kernel
theorem dX2_element_120 : eb_dc cX2_element 120 (.iload_n 2) 1 121 := by decide +kernel
theorem dX2_element_121 : eb_dc cX2_element 121 (.iload 7) 2 123 := by decide +kernel
theorem dX2_element_123 : eb_dc cX2_element 123 (.idiv) 1 124 := by decide +kernel
theorem dX2_element_124 : eb_dc cX2_element 124 (.bipush 10) 2 126 := by decide +kernel
theorem dX2_element_126 : eb_dc cX2_element 126 (.irem) 1 127 := by decide +kernel
theorem dX2_element_127 : eb_dc cX2_element 127 (.iadd) 1 128 := by decide +kernel
theorem dX2_element_128 : eb_dc cX2_element 128 (.iconst 1) 1 129 := by decide +kernel
theorem dX2_element_129 : eb_dc cX2_element 129 (.isub) 1 130 := by decide +kernel
theorem dX2_element_130 : eb_dc cX2_element 130 (.iaload) 1 131 := by decide +kernel
theorem dX2_element_131 : eb_dc cX2_element 131 (.istore 6) 2 133 := by decide +kernel
theorem dX2_element_133 : eb_dc cX2_element 133 (.iload 7) 2 135 := by decide +kernel
theorem dX2_element_135 : eb_dc cX2_element 135 (.bipush 10) 2 137 := by decide +kernel
theorem dX2_element_137 : eb_dc cX2_element 137 (.idiv) 1 138 := by decide +kernel
theorem dX2_element_138 : eb_dc cX2_element 138 (.istore 7) 2 140 := by decide +kernel
theorem dX2_element_140 : eb_dj cX2_element 140 (.goto (-37)) (-37) 143 103 := by decide +kernel
theorem dX2_element_143 : eb_dc cX2_element 143 (.iload 6) 2 145 := by decide +kernel
theorem dX2_element_145 : eb_dc cX2_element 145 (.ireturn) 1 146 := by decide +kernel
theorem ctX2_element {l : Launch} {Γ : eb_C} {ad : Nat → Nat} {ix : Nat → Option Nat} {σ : eb_MS} {a1 : Int32} {a2 : Int32} {K : Int32 → eb_MS → Prop} (hi : ms_inv ad ix) (h : MX2_element σ a1 a2 K) : eb_Ct l Γ yX2_element cX2_element 8 (some .int) rmX2_element [.ref (ad 0), .int a1, .int a2] (ms_st Γ ad ix σ) (em_I Γ ad ix K) := by
  refine eb_of (by decide) (Nat.le_of_ble_eq_true rfl) (fun X P hP _ => ?_)
  show eb_G l Γ P X cX2_element RX2 8 (some .int) rmX2_element 0 [(0, .ref (ad 0)), (1, .int a1), (2, .int a2)] [] (ms_st Γ ad ix σ) 0 0
  refine eg_aload_n 0 dX2_element_0 rfl rfl ?_
  refine eg_iconst dX2_element_1 kc_0 ?_
  refine em_puts 0 rfl q1142 dX2_element_2 hi (fun g1 eg1 => ?_)
  replace h := h g1 eg1
  refine eg_iload_n 1 dX2_element_5 rfl rfl ?_
  refine eg_csp (rest := []) (ctX2_isBody h) (lw_S q1252 q1253 q77 q1254) nX2_isBody ⟨Nat.le_of_ble_eq_true rfl, Nat.le_of_ble_eq_true rfl⟩ ⟨rfl, rfl⟩ ⟨Nat.zero_le _, Nat.zero_le _⟩ rfl rfl (Nat.le_of_ble_eq_true rfl) dX2_element_6 (fun v2 h => ?_)
  refine eg_if_eq dX2_element_9 (fun c29 => ?_) (fun c29 => ?_)
  · replace h := h.1 c29
    refine eg_bipush dX2_element_16 kb_m2 ?_
    exact eg_iret dX2_element_18 (Nat.zero_le _) (Nat.zero_le _) (hP _ _ ⟨_, _, rfl, rfl, h⟩)
  · replace h := h.2 c29
    refine eg_iload_n 2 dX2_element_12 rfl rfl ?_
    refine eg_if_ge dX2_element_13 (fun c28 => ?_) (fun c28 => ?_)
    · replace h := h.1 c28
      refine eg_iload_n 2 dX2_element_19 rfl rfl ?_
      refine eg_istore_n (lv' := [(3, .int a2), (0, .ref (ad 0)), (1, .int a1), (2, .int a2)]) dX2_element_20 rfl (Nat.le_of_ble_eq_true rfl) rfl ?_
      refine eg_iconst dX2_element_21 kc_1 ?_
      refine eg_istore (lv' := [(4, .int 1), (3, .int a2), (0, .ref (ad 0)), (1, .int a1), (2, .int a2)]) dX2_element_22 (Nat.le_of_ble_eq_true rfl) rfl ?_
      refine eb_jp1_e (J := fun (x4_4 : Int32) => eb_G l Γ P X cX2_element RX2 8 (some .int) rmX2_element 55 [(0, .ref (ad 0)), (1, .int a1), (2, .int a2), (4, .int x4_4)] [] (ms_st Γ ad ix g1) 0 0) h ?_ ?_
      · intro x4_4 h
        refine eg_iload 3 dX2_element_55 rfl ?_
        refine eg_if_ne dX2_element_57 (fun c19 => ?_) (fun c19 => ?_)
        · replace h := h.2 c19
          refine eg_aload_n 0 dX2_element_63 rfl rfl ?_
          refine eg_iload_n 1 dX2_element_64 rfl rfl ?_
          refine em_cvi (rest := []) (ctX2_loads hi h) hi (lw_V q1294 q1296 qs40 q77 q1297) rfl nX2_loads ⟨Nat.le_of_ble_eq_true rfl, Nat.le_of_ble_eq_true rfl⟩ ⟨rfl, rfl⟩ ⟨Nat.zero_le _, Nat.zero_le _⟩ rfl rfl (Nat.le_of_ble_eq_true rfl) dX2_element_65 (fun v5 g6 h => ?_)
          refine eg_if_ne dX2_element_68 (fun c18 => ?_) (fun c18 => ?_)
          · replace h := h.2 c18
            refine eg_iconst dX2_element_74 kc_1 ?_
            refine eg_istore (lv' := [(5, .int 1), (0, .ref (ad 0)), (1, .int a1), (2, .int a2), (4, .int x4_4)]) dX2_element_75 (Nat.le_of_ble_eq_true rfl) rfl ?_
            refine eb_jp1_e (J := fun (x5_7 : Int32) => eb_G l Γ P X cX2_element RX2 8 (some .int) rmX2_element 96 [(0, .ref (ad 0)), (2, .int a2), (5, .int x5_7)] [] (ms_st Γ ad ix g6) 0 0) h ?_ ?_
            · intro x5_7 h
              refine eg_iconst dX2_element_96 kc_0 ?_
              refine eg_istore (lv' := [(6, .int 0), (0, .ref (ad 0)), (2, .int a2), (5, .int x5_7)]) dX2_element_97 (Nat.le_of_ble_eq_true rfl) rfl ?_
              refine eg_iload 3 dX2_element_99 rfl ?_
              refine eg_istore (lv' := [(7, .int x5_7), (6, .int 0), (0, .ref (ad 0)), (2, .int a2), (5, .int x5_7)]) dX2_element_101 (Nat.le_of_ble_eq_true rfl) rfl ?_
              refine eg_sub [2, 3, 1, 0] rfl ?_
              refine eb_loop2_e (J := fun (x6_8 : Int32) (x7_9 : Int32) => eb_G l Γ P X cX2_element RX2 8 (some .int) rmX2_element 103 [(0, .ref (ad 0)), (2, .int a2), (6, .int x6_8), (7, .int x7_9)] [] (ms_st Γ ad ix g6) 0 0) h ?_
              intro r10 hr10 x6_8 x7_9 h
              refine eg_iload 3 dX2_element_103 rfl ?_
              refine eg_if_le dX2_element_105 (fun c13 => ?_) (fun c13 => ?_)
              · replace h := h.1 c13
                refine eg_iload 2 dX2_element_143 rfl ?_
                exact eg_iret dX2_element_145 (Nat.zero_le _) (Nat.zero_le _) (hP _ _ ⟨_, _, rfl, rfl, h⟩)
              · replace h := h.2 c13
                refine eg_iload_n 1 dX2_element_108 rfl rfl ?_
                refine eg_if_le dX2_element_109 (fun c12 => ?_) (fun c12 => ?_)
                · replace h := h.1 c12
                  refine eg_iload 2 dX2_element_143 rfl ?_
                  exact eg_iret dX2_element_145 (Nat.zero_le _) (Nat.zero_le _) (hP _ _ ⟨_, _, rfl, rfl, h⟩)
                · replace h := h.2 c12
                  refine eg_aload_n 0 dX2_element_112 rfl rfl ?_
                  refine em_geta 11 rfl q1153 dX2_element_113 hi ?_
                  refine eg_iconst dX2_element_116 kc_4 ?_
                  refine eg_iload 2 dX2_element_117 rfl ?_
                  refine eg_imul dX2_element_119 ?_
                  refine eg_iload_n 1 dX2_element_120 rfl rfl ?_
                  refine eg_iload 3 dX2_element_121 rfl ?_
                  obtain ⟨hne, h⟩ := h
                  refine eg_idiv dX2_element_123 hne ?_
                  refine eg_bipush dX2_element_124 kb_10 ?_
                  refine eg_irem dX2_element_126 (by decide) ?_
                  refine eg_iadd dX2_element_127 ?_
                  refine eg_iconst dX2_element_128 kc_1 ?_
                  refine eg_isub dX2_element_129 ?_
                  obtain ⟨hb, h⟩ := h
                  refine em_iald 11 rfl hb dX2_element_130 hi (fun v11 ev11 => ?_)
                  replace h := h v11 ev11
                  refine eg_istore (lv' := [(6, .int v11), (0, .ref (ad 0)), (2, .int a2), (7, .int x7_9)]) dX2_element_131 (Nat.le_of_ble_eq_true rfl) rfl ?_
                  refine eg_iload 3 dX2_element_133 rfl ?_
                  refine eg_bipush dX2_element_135 kb_10 ?_
                  refine eg_idiv dX2_element_137 (by decide) ?_
                  refine eg_istore (lv' := [(7, .int (x7_9 / 10)), (6, .int v11), (0, .ref (ad 0)), (2, .int a2)]) dX2_element_138 (Nat.le_of_ble_eq_true rfl) rfl ?_
                  refine eg_goto dX2_element_140 ?_
                  exact eg_sub [2, 3, 1, 0] rfl (hr10 v11 (x7_9 / 10) h)
            · intro k14 hk14 h
              refine eg_sub [1, 3, 0] rfl ?_
              refine eb_loop1_e (J := fun (x5_15 : Int32) => eb_G l Γ P X cX2_element RX2 8 (some .int) rmX2_element 77 [(0, .ref (ad 0)), (2, .int a2), (5, .int x5_15)] [] (ms_st Γ ad ix g6) 0 0) h ?_
              intro r16 hr16 x5_15 h
              refine eg_iload_n 1 dX2_element_77 rfl rfl ?_
              refine eg_iload 2 dX2_element_78 rfl ?_
              obtain ⟨hne, h⟩ := h
              refine eg_idiv dX2_element_80 hne ?_
              refine eg_bipush dX2_element_81 kb_9 ?_
              refine eg_icmp_le dX2_element_83 (fun c17 => ?_) (fun c17 => ?_)
              · replace h := h.1 c17
                exact hk14 x5_15 h
              · replace h := h.2 c17
                refine eg_iload 2 dX2_element_86 rfl ?_
                refine eg_bipush dX2_element_88 kb_10 ?_
                refine eg_imul dX2_element_90 ?_
                refine eg_istore (lv' := [(5, .int (x5_15 * 10)), (0, .ref (ad 0)), (2, .int a2)]) dX2_element_91 (Nat.le_of_ble_eq_true rfl) rfl ?_
                refine eg_goto dX2_element_93 ?_
                exact eg_sub [1, 2, 0] rfl (hr16 (x5_15 * 10) h)
          · replace h := h.1 c18
            refine eg_bipush dX2_element_71 kb_m5 ?_
            exact eg_iret dX2_element_73 (Nat.zero_le _) (Nat.zero_le _) (hP _ _ ⟨_, _, rfl, rfl, h⟩)
        · replace h := h.1 c19
          refine eg_bipush dX2_element_60 kb_m2 ?_
          exact eg_iret dX2_element_62 (Nat.zero_le _) (Nat.zero_le _) (hP _ _ ⟨_, _, rfl, rfl, h⟩)
      · intro k20 hk20 h
        refine eg_sub [2, 3, 4, 1, 0] rfl ?_
        refine eb_loop2_e (J := fun (x3_21 : Int32) (x4_22 : Int32) => eb_G l Γ P X cX2_element RX2 8 (some .int) rmX2_element 24 [(0, .ref (ad 0)), (1, .int a1), (2, .int a2), (3, .int x3_21), (4, .int x4_22)] [] (ms_st Γ ad ix g1) 0 0) h ?_
        intro r23 hr23 x3_21 x4_22 h
        refine eg_iload_n 3 dX2_element_24 rfl rfl ?_
        refine eg_if_le dX2_element_25 (fun c27 => ?_) (fun c27 => ?_)
        · replace h := h.1 c27
          exact eg_sub [0, 1, 2, 4] rfl (hk20 x4_22 h)
        · replace h := h.2 c27
          refine eg_iload 4 dX2_element_28 rfl ?_
          refine eg_iload_n 3 dX2_element_30 rfl rfl ?_
          refine eg_bipush dX2_element_31 kb_10 ?_
          refine eg_irem dX2_element_33 (by decide) ?_
          refine eg_iconst dX2_element_34 kc_1 ?_
          refine eg_aload_n 0 dX2_element_35 rfl rfl ?_
          refine em_geta 1 rfl q1143 dX2_element_36 hi ?_
          refine eg_iload_n 1 dX2_element_39 rfl rfl ?_
          obtain ⟨hb, h⟩ := h
          refine em_iald 1 rfl hb dX2_element_40 hi (fun v24 ev24 => ?_)
          replace h := h v24 ev24
          refine eg_csp (rest := [.int x4_22]) (ctX2_in h) (lw_S q1255 q1256 q77 q1257) nX2_in ⟨Nat.le_of_ble_eq_true rfl, Nat.le_of_ble_eq_true rfl⟩ ⟨rfl, rfl⟩ ⟨Nat.zero_le _, Nat.zero_le _⟩ rfl rfl (Nat.le_of_ble_eq_true rfl) dX2_element_41 (fun v25 h => ?_)
          refine eg_iand dX2_element_44 ?_
          refine eg_istore (lv' := [(4, .int (x4_22 &&& v25)), (0, .ref (ad 0)), (1, .int a1), (2, .int a2), (3, .int x3_21)]) dX2_element_45 (Nat.le_of_ble_eq_true rfl) rfl ?_
          refine eg_iload_n 4 dX2_element_47 rfl rfl ?_
          refine eg_bipush dX2_element_48 kb_10 ?_
          refine eg_idiv dX2_element_50 (by decide) ?_
          refine eg_istore_n (lv' := [(3, .int (x3_21 / 10)), (4, .int (x4_22 &&& v25)), (0, .ref (ad 0)), (1, .int a1), (2, .int a2)]) dX2_element_51 rfl (Nat.le_of_ble_eq_true rfl) rfl ?_
          refine eg_goto dX2_element_52 ?_
          exact eg_sub [2, 3, 4, 0, 1] rfl (hr23 (x3_21 / 10) (x4_22 &&& v25) h)
    · replace h := h.2 c28
      refine eg_bipush dX2_element_16 kb_m2 ?_
      exact eg_iret dX2_element_18 (Nat.zero_le _) (Nat.zero_le _) (hP _ _ ⟨_, _, rfl, rfl, h⟩)
def MX2_productOf (σ : eb_MS) (a1 : Int32) (a2 : Int32) (K : Int32 → Prop) : Prop :=
  eb_rd (σ.2.1 12) 500 a2 (fun v1 => eb_loop2 (fun r4 (x4_2 : Int32) (x5_3 : Int32) => eb_br (v1 ≤ x5_3) (K x4_2) (MX2_letterOf σ a2 x5_3 (fun v5 => eb_rd (σ.2.1 11) 2000 (((4 * x4_2) + v5)) (fun v7 => r4 v7 (x5_3 + 1))))) a1 0)
abbrev rmX2_productOf : Room := { frames := 2, cells := 0, slots := 0, locals := 35 }
theorem nX2_productOf : eb_ar yX2_productOf 2 := by decide +kernel
theorem dX2_productOf_0 : eb_dc cX2_productOf 0 (.aload_n 0) 1 1 := by decide +kernel
theorem dX2_productOf_1 : eb_dc cX2_productOf 1 (.getfield 35) 3 4 := by decide +kernel
theorem dX2_productOf_4 : eb_dc cX2_productOf 4 (.iload_n 2) 1 5 := by decide +kernel
theorem dX2_productOf_5 : eb_dc cX2_productOf 5 (.iaload) 1 6 := by decide +kernel
theorem dX2_productOf_6 : eb_dc cX2_productOf 6 (.istore_n 3) 1 7 := by decide +kernel
theorem dX2_productOf_7 : eb_dc cX2_productOf 7 (.iload_n 1) 1 8 := by decide +kernel
theorem dX2_productOf_8 : eb_dc cX2_productOf 8 (.istore 4) 2 10 := by decide +kernel
theorem dX2_productOf_10 : eb_dc cX2_productOf 10 (.iconst 0) 1 11 := by decide +kernel
theorem dX2_productOf_11 : eb_dc cX2_productOf 11 (.istore 5) 2 13 := by decide +kernel
theorem dX2_productOf_13 : eb_dc cX2_productOf 13 (.iload 5) 2 15 := by decide +kernel
theorem dX2_productOf_15 : eb_dc cX2_productOf 15 (.iload_n 3) 1 16 := by decide +kernel
theorem dX2_productOf_16 : eb_dj cX2_productOf 16 (.if_icmp .ge 28) 28 19 44 := by decide +kernel
theorem dX2_productOf_19 : eb_dc cX2_productOf 19 (.aload_n 0) 1 20 := by decide +kernel
theorem dX2_productOf_20 : eb_dc cX2_productOf 20 (.getfield 32) 3 23 := by decide +kernel
theorem dX2_productOf_23 : eb_dc cX2_productOf 23 (.iconst 4) 1 24 := by decide +kernel
theorem dX2_productOf_24 : eb_dc cX2_productOf 24 (.iload 4) 2 26 := by decide +kernel
theorem dX2_productOf_26 : eb_dc cX2_productOf 26 (.imul) 1 27 := by decide +kernel
theorem dX2_productOf_27 : eb_dc cX2_productOf 27 (.aload_n 0) 1 28 := by decide +kernel
theorem dX2_productOf_28 : eb_dc cX2_productOf 28 (.iload_n 2) 1 29 := by decide +kernel
theorem dX2_productOf_29 : eb_dc cX2_productOf 29 (.iload 5) 2 31 := by decide +kernel
theorem dX2_productOf_31 : eb_dc cX2_productOf 31 (.invokevirtual 167) 3 34 := by decide +kernel
theorem dX2_productOf_34 : eb_dc cX2_productOf 34 (.iadd) 1 35 := by decide +kernel
theorem dX2_productOf_35 : eb_dc cX2_productOf 35 (.iaload) 1 36 := by decide +kernel
theorem dX2_productOf_36 : eb_dc cX2_productOf 36 (.istore 4) 2 38 := by decide +kernel
theorem dX2_productOf_38 : eb_dc cX2_productOf 38 (.iinc 5 1) 3 41 := by decide +kernel
theorem dX2_productOf_41 : eb_dj cX2_productOf 41 (.goto (-28)) (-28) 44 13 := by decide +kernel
theorem dX2_productOf_44 : eb_dc cX2_productOf 44 (.iload 4) 2 46 := by decide +kernel
theorem dX2_productOf_46 : eb_dc cX2_productOf 46 (.ireturn) 1 47 := by decide +kernel
theorem ctX2_productOf {l : Launch} {Γ : eb_C} {ad : Nat → Nat} {ix : Nat → Option Nat} {σ : eb_MS} {a1 : Int32} {a2 : Int32} {K : Int32 → Prop} (hi : ms_inv ad ix) (h : MX2_productOf σ a1 a2 K) : eb_Ct l Γ yX2_productOf cX2_productOf 6 (some .int) rmX2_productOf [.ref (ad 0), .int a1, .int a2] (ms_st Γ ad ix σ) (eb_pI (ms_st Γ ad ix σ) K) := by
  refine eb_of (by decide) (Nat.le_of_ble_eq_true rfl) (fun X P hP _ => ?_)
  show eb_G l Γ P X cX2_productOf RX2 6 (some .int) rmX2_productOf 0 [(0, .ref (ad 0)), (1, .int a1), (2, .int a2)] [] (ms_st Γ ad ix σ) 0 0
  refine eg_aload_n 0 dX2_productOf_0 rfl rfl ?_
  refine em_geta 12 rfl q1154 dX2_productOf_1 hi ?_
  refine eg_iload_n 2 dX2_productOf_4 rfl rfl ?_
  obtain ⟨hb, h⟩ := h
  refine em_iald 12 rfl hb dX2_productOf_5 hi (fun v1 ev1 => ?_)
  replace h := h v1 ev1
  refine eg_istore_n (lv' := [(3, .int v1), (0, .ref (ad 0)), (1, .int a1), (2, .int a2)]) dX2_productOf_6 rfl (Nat.le_of_ble_eq_true rfl) rfl ?_
  refine eg_iload_n 2 dX2_productOf_7 rfl rfl ?_
  refine eg_istore (lv' := [(4, .int a1), (3, .int v1), (0, .ref (ad 0)), (1, .int a1), (2, .int a2)]) dX2_productOf_8 (Nat.le_of_ble_eq_true rfl) rfl ?_
  refine eg_iconst dX2_productOf_10 kc_0 ?_
  refine eg_istore (lv' := [(5, .int 0), (4, .int a1), (3, .int v1), (0, .ref (ad 0)), (1, .int a1), (2, .int a2)]) dX2_productOf_11 (Nat.le_of_ble_eq_true rfl) rfl ?_
  refine eg_sub [3, 5, 2, 1, 0] rfl ?_
  refine eb_loop2_e (J := fun (x4_2 : Int32) (x5_3 : Int32) => eb_G l Γ P X cX2_productOf RX2 6 (some .int) rmX2_productOf 13 [(0, .ref (ad 0)), (2, .int a2), (3, .int v1), (4, .int x4_2), (5, .int x5_3)] [] (ms_st Γ ad ix σ) 0 0) h ?_
  intro r4 hr4 x4_2 x5_3 h
  refine eg_iload 4 dX2_productOf_13 rfl ?_
  refine eg_iload_n 2 dX2_productOf_15 rfl rfl ?_
  refine eg_icmp_ge dX2_productOf_16 (fun c8 => ?_) (fun c8 => ?_)
  · replace h := h.1 c8
    refine eg_iload 3 dX2_productOf_44 rfl ?_
    exact eg_iret dX2_productOf_46 (Nat.zero_le _) (Nat.zero_le _) (hP _ _ ⟨_, rfl, rfl, h⟩)
  · replace h := h.2 c8
    refine eg_aload_n 0 dX2_productOf_19 rfl rfl ?_
    refine em_geta 11 rfl q1153 dX2_productOf_20 hi ?_
    refine eg_iconst dX2_productOf_23 kc_4 ?_
    refine eg_iload 3 dX2_productOf_24 rfl ?_
    refine eg_imul dX2_productOf_26 ?_
    refine eg_aload_n 0 dX2_productOf_27 rfl rfl ?_
    refine eg_iload_n 1 dX2_productOf_28 rfl rfl ?_
    refine eg_iload 4 dX2_productOf_29 rfl ?_
    refine em_cvp (rest := [.int (4 * x4_2), .ref (ad 11)]) (ctX2_letterOf hi h) hi (lw_V q1337 q1339 qs48 q77 q1340) rfl nX2_letterOf ⟨Nat.le_of_ble_eq_true rfl, Nat.le_of_ble_eq_true rfl⟩ ⟨rfl, rfl⟩ ⟨Nat.zero_le _, Nat.zero_le _⟩ rfl rfl (Nat.le_of_ble_eq_true rfl) dX2_productOf_31 (fun v5 h => ?_)
    refine eg_iadd dX2_productOf_34 ?_
    obtain ⟨hb, h⟩ := h
    refine em_iald 11 rfl hb dX2_productOf_35 hi (fun v7 ev7 => ?_)
    replace h := h v7 ev7
    refine eg_istore (lv' := [(4, .int v7), (0, .ref (ad 0)), (2, .int a2), (3, .int v1), (5, .int x5_3)]) dX2_productOf_36 (Nat.le_of_ble_eq_true rfl) rfl ?_
    refine eg_iinc (j := 4) (lv' := [(5, .int (x5_3 + 1)), (4, .int v7), (0, .ref (ad 0)), (2, .int a2), (3, .int v1)]) dX2_productOf_38 rfl (by rw [kc_1]) (Nat.le_of_ble_eq_true rfl) rfl ?_
    refine eg_goto dX2_productOf_41 ?_
    exact eg_sub [2, 3, 4, 1, 0] rfl (hr4 v7 (x5_3 + 1) h)
def MX2_product (σ : eb_MS) (a1 : Int32) (a2 : Int32) (a3 : Int32) (K : Int32 → eb_MS → Prop) : Prop :=
  ms_ws σ 0 0 (fun g1 => eb_jp1 (fun (s2 : Int32) => MX2_refusesOf g1 a1 s2 (fun v3 g4 => eb_br (0 ≤ v3) (eb_jp0 (K (-2) g4) (fun k5 => eb_br ((g4.1 8) ≤ a2) (k5) (eb_br ((g4.1 8) ≤ a3) (k5) (MX2_productOf g4 a2 a3 (fun v6 => K v6 g4))))) (K v3 g4))) (fun k11 => eb_br (a3 ≤ a2) (k11 a3) (k11 a2)))
abbrev rmX2_product : Room := { frames := 7, cells := 0, slots := 0, locals := 166 }
theorem nX2_product : eb_ar yX2_product 3 := by decide +kernel
theorem dX2_product_0 : eb_dc cX2_product 0 (.aload_n 0) 1 1 := by decide +kernel
theorem dX2_product_1 : eb_dc cX2_product 1 (.iconst 0) 1 2 := by decide +kernel
theorem dX2_product_2 : eb_dc cX2_product 2 (.putfield 106) 3 5 := by decide +kernel
theorem dX2_product_5 : eb_dc cX2_product 5 (.aload_n 0) 1 6 := by decide +kernel
theorem dX2_product_6 : eb_dc cX2_product 6 (.iload_n 1) 1 7 := by decide +kernel
theorem dX2_product_7 : eb_dc cX2_product 7 (.iload_n 2) 1 8 := by decide +kernel
theorem dX2_product_8 : eb_dc cX2_product 8 (.iload_n 3) 1 9 := by decide +kernel
theorem dX2_product_9 : eb_dj cX2_product 9 (.if_icmp .ge 7) 7 12 16 := by decide +kernel
theorem dX2_product_12 : eb_dc cX2_product 12 (.iload_n 2) 1 13 := by decide +kernel
theorem dX2_product_13 : eb_dj cX2_product 13 (.goto 4) 4 16 17 := by decide +kernel
theorem dX2_product_16 : eb_dc cX2_product 16 (.iload_n 3) 1 17 := by decide +kernel
theorem dX2_product_17 : eb_dc cX2_product 17 (.invokevirtual 173) 3 20 := by decide +kernel
theorem dX2_product_20 : eb_dc cX2_product 20 (.istore 4) 2 22 := by decide +kernel
theorem dX2_product_22 : eb_dc cX2_product 22 (.iload 4) 2 24 := by decide +kernel
theorem dX2_product_24 : eb_dj cX2_product 24 (.ifCond .ge 8) 8 27 32 := by decide +kernel
theorem dX2_product_27 : eb_dc cX2_product 27 (.iload 4) 2 29 := by decide +kernel
theorem dX2_product_29 : eb_dj cX2_product 29 (.goto 30) 30 32 59 := by decide +kernel
theorem dX2_product_32 : eb_dc cX2_product 32 (.iload_n 2) 1 33 := by decide +kernel
theorem dX2_product_33 : eb_dc cX2_product 33 (.aload_n 0) 1 34 := by decide +kernel
theorem dX2_product_34 : eb_dc cX2_product 34 (.getfield 135) 3 37 := by decide +kernel
theorem dX2_product_37 : eb_dj cX2_product 37 (.if_icmp .ge 20) 20 40 57 := by decide +kernel
theorem dX2_product_40 : eb_dc cX2_product 40 (.iload_n 3) 1 41 := by decide +kernel
theorem dX2_product_41 : eb_dc cX2_product 41 (.aload_n 0) 1 42 := by decide +kernel
theorem dX2_product_42 : eb_dc cX2_product 42 (.getfield 135) 3 45 := by decide +kernel
theorem dX2_product_45 : eb_dj cX2_product 45 (.if_icmp .ge 12) 12 48 57 := by decide +kernel
theorem dX2_product_48 : eb_dc cX2_product 48 (.aload_n 0) 1 49 := by decide +kernel
theorem dX2_product_49 : eb_dc cX2_product 49 (.iload_n 2) 1 50 := by decide +kernel
theorem dX2_product_50 : eb_dc cX2_product 50 (.iload_n 3) 1 51 := by decide +kernel
theorem dX2_product_51 : eb_dc cX2_product 51 (.invokevirtual 176) 3 54 := by decide +kernel
theorem dX2_product_54 : eb_dj cX2_product 54 (.goto 5) 5 57 59 := by decide +kernel
theorem dX2_product_57 : eb_dc cX2_product 57 (.bipush (-2)) 2 59 := by decide +kernel
theorem dX2_product_59 : eb_dc cX2_product 59 (.ireturn) 1 60 := by decide +kernel
theorem ctX2_product {l : Launch} {Γ : eb_C} {ad : Nat → Nat} {ix : Nat → Option Nat} {σ : eb_MS} {a1 : Int32} {a2 : Int32} {a3 : Int32} {K : Int32 → eb_MS → Prop} (hi : ms_inv ad ix) (h : MX2_product σ a1 a2 a3 K) : eb_Ct l Γ yX2_product cX2_product 5 (some .int) rmX2_product [.ref (ad 0), .int a1, .int a2, .int a3] (ms_st Γ ad ix σ) (em_I Γ ad ix K) := by
  refine eb_of (by decide) (Nat.le_of_ble_eq_true rfl) (fun X P hP _ => ?_)
  show eb_G l Γ P X cX2_product RX2 5 (some .int) rmX2_product 0 [(0, .ref (ad 0)), (1, .int a1), (2, .int a2), (3, .int a3)] [] (ms_st Γ ad ix σ) 0 0
  refine eg_aload_n 0 dX2_product_0 rfl rfl ?_
  refine eg_iconst dX2_product_1 kc_0 ?_
  refine em_puts 0 rfl q1142 dX2_product_2 hi (fun g1 eg1 => ?_)
  replace h := h g1 eg1
  refine eg_aload_n 0 dX2_product_5 rfl rfl ?_
  refine eg_iload_n 1 dX2_product_6 rfl rfl ?_
  refine eg_iload_n 2 dX2_product_7 rfl rfl ?_
  refine eg_iload_n 3 dX2_product_8 rfl rfl ?_
  refine eb_jp1_e (J := fun (s2 : Int32) => eb_G l Γ P X cX2_product RX2 5 (some .int) rmX2_product 17 [(0, .ref (ad 0)), (2, .int a2), (3, .int a3)] [.int s2, .int a1, .ref (ad 0)] (ms_st Γ ad ix g1) 0 0) h ?_ ?_
  · intro s2 h
    refine em_cvi (rest := []) (ctX2_refusesOf hi h) hi (lw_V q1329 q1331 qs47 q77 q1332) rfl nX2_refusesOf ⟨Nat.le_of_ble_eq_true rfl, Nat.le_of_ble_eq_true rfl⟩ ⟨rfl, rfl⟩ ⟨Nat.zero_le _, Nat.zero_le _⟩ rfl rfl (Nat.le_of_ble_eq_true rfl) dX2_product_17 (fun v3 g4 h => ?_)
    refine eg_istore (lv' := [(4, .int v3), (0, .ref (ad 0)), (2, .int a2), (3, .int a3)]) dX2_product_20 (Nat.le_of_ble_eq_true rfl) rfl ?_
    refine eg_iload 0 dX2_product_22 rfl ?_
    refine eg_if_ge dX2_product_24 (fun c10 => ?_) (fun c10 => ?_)
    · replace h := h.1 c10
      refine eg_iload_n 2 dX2_product_32 rfl rfl ?_
      refine eg_aload_n 1 dX2_product_33 rfl rfl ?_
      refine em_gets 8 rfl q1150 dX2_product_34 hi ?_
      refine eb_jp0_e (J := eb_G l Γ P X cX2_product RX2 5 (some .int) rmX2_product 57 [] [] (ms_st Γ ad ix g4) 0 0) h ?_ ?_
      · intro  h
        refine eg_bipush dX2_product_57 kb_m2 ?_
        exact eg_iret dX2_product_59 (Nat.zero_le _) (Nat.zero_le _) (hP _ _ ⟨_, _, rfl, rfl, h⟩)
      · intro k5 hk5 h
        refine eg_icmp_ge dX2_product_37 (fun c9 => ?_) (fun c9 => ?_)
        · replace h := h.1 c9
          exact eg_sub [] rfl (hk5 h)
        · replace h := h.2 c9
          refine eg_iload_n 3 dX2_product_40 rfl rfl ?_
          refine eg_aload_n 1 dX2_product_41 rfl rfl ?_
          refine em_gets 8 rfl q1150 dX2_product_42 hi ?_
          refine eg_icmp_ge dX2_product_45 (fun c8 => ?_) (fun c8 => ?_)
          · replace h := h.1 c8
            exact eg_sub [] rfl (hk5 h)
          · replace h := h.2 c8
            refine eg_aload_n 1 dX2_product_48 rfl rfl ?_
            refine eg_iload_n 2 dX2_product_49 rfl rfl ?_
            refine eg_iload_n 3 dX2_product_50 rfl rfl ?_
            refine em_cvp (rest := []) (ctX2_productOf hi h) hi (lw_V q1349 q1351 qs49 q77 q1352) rfl nX2_productOf ⟨Nat.le_of_ble_eq_true rfl, Nat.le_of_ble_eq_true rfl⟩ ⟨rfl, rfl⟩ ⟨Nat.zero_le _, Nat.zero_le _⟩ rfl rfl (Nat.le_of_ble_eq_true rfl) dX2_product_51 (fun v6 h => ?_)
            refine eg_goto dX2_product_54 ?_
            exact eg_iret dX2_product_59 (Nat.zero_le _) (Nat.zero_le _) (hP _ _ ⟨_, _, rfl, rfl, h⟩)
    · replace h := h.2 c10
      refine eg_iload 0 dX2_product_27 rfl ?_
      refine eg_goto dX2_product_29 ?_
      exact eg_iret dX2_product_59 (Nat.zero_le _) (Nat.zero_le _) (hP _ _ ⟨_, _, rfl, rfl, h⟩)
  · intro k11 hk11 h
    refine eg_icmp_ge dX2_product_9 (fun c12 => ?_) (fun c12 => ?_)
    · replace h := h.1 c12
      refine eg_iload_n 3 dX2_product_16 rfl rfl ?_
      exact eg_sub [0, 2, 3] rfl (hk11 a3 h)
    · replace h := h.2 c12
      refine eg_iload_n 2 dX2_product_12 rfl rfl ?_
      refine eg_goto dX2_product_13 ?_
      exact eg_sub [0, 2, 3] rfl (hk11 a2 h)
def MX2_inverseOf (σ : eb_MS) (a1 : Int32) (K : Int32 → Prop) : Prop :=
  eb_loop2 (fun r3 (x2_1 : Int32) (x3_2 : Int32) => eb_br (x3_2 = 0) (K x2_1) (eb_rd (σ.2.1 14) 500 x3_2 (fun v4 => eb_rd (σ.2.1 11) 2000 (((4 * x2_1) + v4)) (fun v5 => eb_rd (σ.2.1 13) 500 x3_2 (fun v6 => r3 v5 v6))))) 0 a1
abbrev rmX2_inverseOf : Room := { frames := 1, cells := 0, slots := 0, locals := 12 }
theorem nX2_inverseOf : eb_ar yX2_inverseOf 1 := by decide +kernel
theorem dX2_inverseOf_0 : eb_dc cX2_inverseOf 0 (.iconst 0) 1 1 := by decide +kernel
theorem dX2_inverseOf_1 : eb_dc cX2_inverseOf 1 (.istore_n 2) 1 2 := by decide +kernel
theorem dX2_inverseOf_2 : eb_dc cX2_inverseOf 2 (.iload_n 1) 1 3 := by decide +kernel
theorem dX2_inverseOf_3 : eb_dc cX2_inverseOf 3 (.istore_n 3) 1 4 := by decide +kernel
theorem dX2_inverseOf_4 : eb_dc cX2_inverseOf 4 (.iload_n 3) 1 5 := by decide +kernel
theorem dX2_inverseOf_5 : eb_dj cX2_inverseOf 5 (.ifCond .eq 29) 29 8 34 := by decide +kernel
theorem dX2_inverseOf_8 : eb_dc cX2_inverseOf 8 (.aload_n 0) 1 9 := by decide +kernel
theorem dX2_inverseOf_9 : eb_dc cX2_inverseOf 9 (.getfield 32) 3 12 := by decide +kernel
theorem dX2_inverseOf_12 : eb_dc cX2_inverseOf 12 (.iconst 4) 1 13 := by decide +kernel
theorem dX2_inverseOf_13 : eb_dc cX2_inverseOf 13 (.iload_n 2) 1 14 := by decide +kernel
theorem dX2_inverseOf_14 : eb_dc cX2_inverseOf 14 (.imul) 1 15 := by decide +kernel
theorem dX2_inverseOf_15 : eb_dc cX2_inverseOf 15 (.aload_n 0) 1 16 := by decide +kernel
theorem dX2_inverseOf_16 : eb_dc cX2_inverseOf 16 (.getfield 41) 3 19 := by decide +kernel
theorem dX2_inverseOf_19 : eb_dc cX2_inverseOf 19 (.iload_n 3) 1 20 := by decide +kernel
theorem dX2_inverseOf_20 : eb_dc cX2_inverseOf 20 (.iaload) 1 21 := by decide +kernel
theorem dX2_inverseOf_21 : eb_dc cX2_inverseOf 21 (.iadd) 1 22 := by decide +kernel
theorem dX2_inverseOf_22 : eb_dc cX2_inverseOf 22 (.iaload) 1 23 := by decide +kernel
theorem dX2_inverseOf_23 : eb_dc cX2_inverseOf 23 (.istore_n 2) 1 24 := by decide +kernel
theorem dX2_inverseOf_24 : eb_dc cX2_inverseOf 24 (.aload_n 0) 1 25 := by decide +kernel
theorem dX2_inverseOf_25 : eb_dc cX2_inverseOf 25 (.getfield 38) 3 28 := by decide +kernel
theorem dX2_inverseOf_28 : eb_dc cX2_inverseOf 28 (.iload_n 3) 1 29 := by decide +kernel
theorem dX2_inverseOf_29 : eb_dc cX2_inverseOf 29 (.iaload) 1 30 := by decide +kernel
theorem dX2_inverseOf_30 : eb_dc cX2_inverseOf 30 (.istore_n 3) 1 31 := by decide +kernel
theorem dX2_inverseOf_31 : eb_dj cX2_inverseOf 31 (.goto (-27)) (-27) 34 4 := by decide +kernel
theorem dX2_inverseOf_34 : eb_dc cX2_inverseOf 34 (.iload_n 2) 1 35 := by decide +kernel
theorem dX2_inverseOf_35 : eb_dc cX2_inverseOf 35 (.ireturn) 1 36 := by decide +kernel
theorem ctX2_inverseOf {l : Launch} {Γ : eb_C} {ad : Nat → Nat} {ix : Nat → Option Nat} {σ : eb_MS} {a1 : Int32} {K : Int32 → Prop} (hi : ms_inv ad ix) (h : MX2_inverseOf σ a1 K) : eb_Ct l Γ yX2_inverseOf cX2_inverseOf 4 (some .int) rmX2_inverseOf [.ref (ad 0), .int a1] (ms_st Γ ad ix σ) (eb_pI (ms_st Γ ad ix σ) K) := by
  refine eb_of (by decide) (Nat.le_of_ble_eq_true rfl) (fun X P hP _ => ?_)
  show eb_G l Γ P X cX2_inverseOf RX2 4 (some .int) rmX2_inverseOf 0 [(0, .ref (ad 0)), (1, .int a1)] [] (ms_st Γ ad ix σ) 0 0
  refine eg_iconst dX2_inverseOf_0 kc_0 ?_
  refine eg_istore_n (lv' := [(2, .int 0), (0, .ref (ad 0)), (1, .int a1)]) dX2_inverseOf_1 rfl (Nat.le_of_ble_eq_true rfl) rfl ?_
  refine eg_iload_n 2 dX2_inverseOf_2 rfl rfl ?_
  refine eg_istore_n (lv' := [(3, .int a1), (2, .int 0), (0, .ref (ad 0)), (1, .int a1)]) dX2_inverseOf_3 rfl (Nat.le_of_ble_eq_true rfl) rfl ?_
  refine eg_sub [2, 1, 0] rfl ?_
  refine eb_loop2_e (J := fun (x2_1 : Int32) (x3_2 : Int32) => eb_G l Γ P X cX2_inverseOf RX2 4 (some .int) rmX2_inverseOf 4 [(0, .ref (ad 0)), (2, .int x2_1), (3, .int x3_2)] [] (ms_st Γ ad ix σ) 0 0) h ?_
  intro r3 hr3 x2_1 x3_2 h
  refine eg_iload_n 2 dX2_inverseOf_4 rfl rfl ?_
  refine eg_if_eq dX2_inverseOf_5 (fun c7 => ?_) (fun c7 => ?_)
  · replace h := h.1 c7
    refine eg_iload_n 1 dX2_inverseOf_34 rfl rfl ?_
    exact eg_iret dX2_inverseOf_35 (Nat.zero_le _) (Nat.zero_le _) (hP _ _ ⟨_, rfl, rfl, h⟩)
  · replace h := h.2 c7
    refine eg_aload_n 0 dX2_inverseOf_8 rfl rfl ?_
    refine em_geta 11 rfl q1153 dX2_inverseOf_9 hi ?_
    refine eg_iconst dX2_inverseOf_12 kc_4 ?_
    refine eg_iload_n 1 dX2_inverseOf_13 rfl rfl ?_
    refine eg_imul dX2_inverseOf_14 ?_
    refine eg_aload_n 0 dX2_inverseOf_15 rfl rfl ?_
    refine em_geta 14 rfl q1156 dX2_inverseOf_16 hi ?_
    refine eg_iload_n 2 dX2_inverseOf_19 rfl rfl ?_
    obtain ⟨hb, h⟩ := h
    refine em_iald 14 rfl hb dX2_inverseOf_20 hi (fun v4 ev4 => ?_)
    replace h := h v4 ev4
    refine eg_iadd dX2_inverseOf_21 ?_
    obtain ⟨hb, h⟩ := h
    refine em_iald 11 rfl hb dX2_inverseOf_22 hi (fun v5 ev5 => ?_)
    replace h := h v5 ev5
    refine eg_istore_n (lv' := [(2, .int v5), (0, .ref (ad 0)), (3, .int x3_2)]) dX2_inverseOf_23 rfl (Nat.le_of_ble_eq_true rfl) rfl ?_
    refine eg_aload_n 1 dX2_inverseOf_24 rfl rfl ?_
    refine em_geta 13 rfl q1155 dX2_inverseOf_25 hi ?_
    refine eg_iload_n 2 dX2_inverseOf_28 rfl rfl ?_
    obtain ⟨hb, h⟩ := h
    refine em_iald 13 rfl hb dX2_inverseOf_29 hi (fun v6 ev6 => ?_)
    replace h := h v6 ev6
    refine eg_istore_n (lv' := [(3, .int v6), (2, .int v5), (0, .ref (ad 0))]) dX2_inverseOf_30 rfl (Nat.le_of_ble_eq_true rfl) rfl ?_
    refine eg_goto dX2_inverseOf_31 ?_
    exact eg_sub [2, 1, 0] rfl (hr3 v5 v6 h)
def MX2_inverse (σ : eb_MS) (a1 : Int32) (a2 : Int32) (K : Int32 → eb_MS → Prop) : Prop :=
  ms_ws σ 0 0 (fun g1 => MX2_refusesOf g1 a1 a2 (fun v2 g3 => eb_br (0 ≤ v2) (eb_br ((g3.1 8) ≤ a2) (K (-2) g3) (MX2_inverseOf g3 a2 (fun v4 => K v4 g3))) (K v2 g3)))
abbrev rmX2_inverse : Room := { frames := 7, cells := 0, slots := 0, locals := 166 }
theorem nX2_inverse : eb_ar yX2_inverse 2 := by decide +kernel
theorem dX2_inverse_0 : eb_dc cX2_inverse 0 (.aload_n 0) 1 1 := by decide +kernel
theorem dX2_inverse_1 : eb_dc cX2_inverse 1 (.iconst 0) 1 2 := by decide +kernel
theorem dX2_inverse_2 : eb_dc cX2_inverse 2 (.putfield 106) 3 5 := by decide +kernel
theorem dX2_inverse_5 : eb_dc cX2_inverse 5 (.aload_n 0) 1 6 := by decide +kernel
theorem dX2_inverse_6 : eb_dc cX2_inverse 6 (.iload_n 1) 1 7 := by decide +kernel
theorem dX2_inverse_7 : eb_dc cX2_inverse 7 (.iload_n 2) 1 8 := by decide +kernel
theorem dX2_inverse_8 : eb_dc cX2_inverse 8 (.invokevirtual 173) 3 11 := by decide +kernel
theorem dX2_inverse_11 : eb_dc cX2_inverse 11 (.istore_n 3) 1 12 := by decide +kernel
theorem dX2_inverse_12 : eb_dc cX2_inverse 12 (.iload_n 3) 1 13 := by decide +kernel
theorem dX2_inverse_13 : eb_dj cX2_inverse 13 (.ifCond .ge 7) 7 16 20 := by decide +kernel
theorem dX2_inverse_16 : eb_dc cX2_inverse 16 (.iload_n 3) 1 17 := by decide +kernel
theorem dX2_inverse_17 : eb_dj cX2_inverse 17 (.goto 21) 21 20 38 := by decide +kernel
theorem dX2_inverse_20 : eb_dc cX2_inverse 20 (.iload_n 2) 1 21 := by decide +kernel
theorem dX2_inverse_21 : eb_dc cX2_inverse 21 (.aload_n 0) 1 22 := by decide +kernel
theorem dX2_inverse_22 : eb_dc cX2_inverse 22 (.getfield 135) 3 25 := by decide +kernel
theorem dX2_inverse_25 : eb_dj cX2_inverse 25 (.if_icmp .ge 11) 11 28 36 := by decide +kernel
theorem dX2_inverse_28 : eb_dc cX2_inverse 28 (.aload_n 0) 1 29 := by decide +kernel
theorem dX2_inverse_29 : eb_dc cX2_inverse 29 (.iload_n 2) 1 30 := by decide +kernel
theorem dX2_inverse_30 : eb_dc cX2_inverse 30 (.invokevirtual 179) 3 33 := by decide +kernel
theorem dX2_inverse_33 : eb_dj cX2_inverse 33 (.goto 5) 5 36 38 := by decide +kernel
theorem dX2_inverse_36 : eb_dc cX2_inverse 36 (.bipush (-2)) 2 38 := by decide +kernel
theorem dX2_inverse_38 : eb_dc cX2_inverse 38 (.ireturn) 1 39 := by decide +kernel
theorem ctX2_inverse {l : Launch} {Γ : eb_C} {ad : Nat → Nat} {ix : Nat → Option Nat} {σ : eb_MS} {a1 : Int32} {a2 : Int32} {K : Int32 → eb_MS → Prop} (hi : ms_inv ad ix) (h : MX2_inverse σ a1 a2 K) : eb_Ct l Γ yX2_inverse cX2_inverse 4 (some .int) rmX2_inverse [.ref (ad 0), .int a1, .int a2] (ms_st Γ ad ix σ) (em_I Γ ad ix K) := by
  refine eb_of (by decide) (Nat.le_of_ble_eq_true rfl) (fun X P hP _ => ?_)
  show eb_G l Γ P X cX2_inverse RX2 4 (some .int) rmX2_inverse 0 [(0, .ref (ad 0)), (1, .int a1), (2, .int a2)] [] (ms_st Γ ad ix σ) 0 0
  refine eg_aload_n 0 dX2_inverse_0 rfl rfl ?_
  refine eg_iconst dX2_inverse_1 kc_0 ?_
  refine em_puts 0 rfl q1142 dX2_inverse_2 hi (fun g1 eg1 => ?_)
  replace h := h g1 eg1
  refine eg_aload_n 0 dX2_inverse_5 rfl rfl ?_
  refine eg_iload_n 1 dX2_inverse_6 rfl rfl ?_
  refine eg_iload_n 2 dX2_inverse_7 rfl rfl ?_
  refine em_cvi (rest := []) (ctX2_refusesOf hi h) hi (lw_V q1329 q1331 qs47 q77 q1332) rfl nX2_refusesOf ⟨Nat.le_of_ble_eq_true rfl, Nat.le_of_ble_eq_true rfl⟩ ⟨rfl, rfl⟩ ⟨Nat.zero_le _, Nat.zero_le _⟩ rfl rfl (Nat.le_of_ble_eq_true rfl) dX2_inverse_8 (fun v2 g3 h => ?_)
  refine eg_istore_n (lv' := [(3, .int v2), (0, .ref (ad 0)), (1, .int a1), (2, .int a2)]) dX2_inverse_11 rfl (Nat.le_of_ble_eq_true rfl) rfl ?_
  refine eg_iload_n 0 dX2_inverse_12 rfl rfl ?_
  refine eg_if_ge dX2_inverse_13 (fun c7 => ?_) (fun c7 => ?_)
  · replace h := h.1 c7
    refine eg_iload_n 3 dX2_inverse_20 rfl rfl ?_
    refine eg_aload_n 1 dX2_inverse_21 rfl rfl ?_
    refine em_gets 8 rfl q1150 dX2_inverse_22 hi ?_
    refine eg_icmp_ge dX2_inverse_25 (fun c6 => ?_) (fun c6 => ?_)
    · replace h := h.1 c6
      refine eg_bipush dX2_inverse_36 kb_m2 ?_
      exact eg_iret dX2_inverse_38 (Nat.zero_le _) (Nat.zero_le _) (hP _ _ ⟨_, _, rfl, rfl, h⟩)
    · replace h := h.2 c6
      refine eg_aload_n 1 dX2_inverse_28 rfl rfl ?_
      refine eg_iload_n 3 dX2_inverse_29 rfl rfl ?_
      refine em_cvp (rest := []) (ctX2_inverseOf hi h) hi (lw_V q1357 q1359 qs50 q77 q1360) rfl nX2_inverseOf ⟨Nat.le_of_ble_eq_true rfl, Nat.le_of_ble_eq_true rfl⟩ ⟨rfl, rfl⟩ ⟨Nat.zero_le _, Nat.zero_le _⟩ rfl rfl (Nat.le_of_ble_eq_true rfl) dX2_inverse_30 (fun v4 h => ?_)
      refine eg_goto dX2_inverse_33 ?_
      exact eg_iret dX2_inverse_38 (Nat.zero_le _) (Nat.zero_le _) (hP _ _ ⟨_, _, rfl, rfl, h⟩)
  · replace h := h.2 c7
    refine eg_iload_n 0 dX2_inverse_16 rfl rfl ?_
    refine eg_goto dX2_inverse_17 ?_
    exact eg_iret dX2_inverse_38 (Nat.zero_le _) (Nat.zero_le _) (hP _ _ ⟨_, _, rfl, rfl, h⟩)
def MX2_turns (σ : eb_MS) (a1 : Int32) (a2 : Int32) (K : Int32 → eb_MS → Prop) : Prop :=
  ms_ws σ 0 0 (fun g1 => MX2_refusesOf g1 a1 a2 (fun v2 g3 => eb_br (0 ≤ v2) (eb_br (a2 < (g3.1 8)) (eb_loop2 (fun r6 (x4_4 : Int32) (x5_5 : Int32) => eb_br (x5_5 = 0) (K x4_4 g3) (MX2_productOf g3 x5_5 a2 (fun v7 => r6 (x4_4 + 1) v7))) 1 a2) (K (-2) g3)) (K v2 g3)))
abbrev rmX2_turns : Room := { frames := 7, cells := 0, slots := 0, locals := 166 }
theorem nX2_turns : eb_ar yX2_turns 2 := by decide +kernel
theorem dX2_turns_0 : eb_dc cX2_turns 0 (.aload_n 0) 1 1 := by decide +kernel
theorem dX2_turns_1 : eb_dc cX2_turns 1 (.iconst 0) 1 2 := by decide +kernel
theorem dX2_turns_2 : eb_dc cX2_turns 2 (.putfield 106) 3 5 := by decide +kernel
theorem dX2_turns_5 : eb_dc cX2_turns 5 (.aload_n 0) 1 6 := by decide +kernel
theorem dX2_turns_6 : eb_dc cX2_turns 6 (.iload_n 1) 1 7 := by decide +kernel
theorem dX2_turns_7 : eb_dc cX2_turns 7 (.iload_n 2) 1 8 := by decide +kernel
theorem dX2_turns_8 : eb_dc cX2_turns 8 (.invokevirtual 173) 3 11 := by decide +kernel
theorem dX2_turns_11 : eb_dc cX2_turns 11 (.istore_n 3) 1 12 := by decide +kernel
theorem dX2_turns_12 : eb_dc cX2_turns 12 (.iload_n 3) 1 13 := by decide +kernel
theorem dX2_turns_13 : eb_dj cX2_turns 13 (.ifCond .ge 5) 5 16 18 := by decide +kernel
theorem dX2_turns_16 : eb_dc cX2_turns 16 (.iload_n 3) 1 17 := by decide +kernel
theorem dX2_turns_17 : eb_dc cX2_turns 17 (.ireturn) 1 18 := by decide +kernel
theorem dX2_turns_18 : eb_dc cX2_turns 18 (.iload_n 2) 1 19 := by decide +kernel
theorem dX2_turns_19 : eb_dc cX2_turns 19 (.aload_n 0) 1 20 := by decide +kernel
theorem dX2_turns_20 : eb_dc cX2_turns 20 (.getfield 135) 3 23 := by decide +kernel
theorem dX2_turns_23 : eb_dj cX2_turns 23 (.if_icmp .lt 6) 6 26 29 := by decide +kernel
theorem dX2_turns_26 : eb_dc cX2_turns 26 (.bipush (-2)) 2 28 := by decide +kernel
theorem dX2_turns_28 : eb_dc cX2_turns 28 (.ireturn) 1 29 := by decide +kernel
theorem dX2_turns_29 : eb_dc cX2_turns 29 (.iconst 1) 1 30 := by decide +kernel
theorem dX2_turns_30 : eb_dc cX2_turns 30 (.istore 4) 2 32 := by decide +kernel
theorem dX2_turns_32 : eb_dc cX2_turns 32 (.iload_n 2) 1 33 := by decide +kernel
theorem dX2_turns_33 : eb_dc cX2_turns 33 (.istore 5) 2 35 := by decide +kernel
theorem dX2_turns_35 : eb_dc cX2_turns 35 (.iload 5) 2 37 := by decide +kernel
theorem dX2_turns_37 : eb_dj cX2_turns 37 (.ifCond .eq 18) 18 40 55 := by decide +kernel
theorem dX2_turns_40 : eb_dc cX2_turns 40 (.iinc 4 1) 3 43 := by decide +kernel
theorem dX2_turns_43 : eb_dc cX2_turns 43 (.aload_n 0) 1 44 := by decide +kernel
theorem dX2_turns_44 : eb_dc cX2_turns 44 (.iload 5) 2 46 := by decide +kernel
theorem dX2_turns_46 : eb_dc cX2_turns 46 (.iload_n 2) 1 47 := by decide +kernel
theorem dX2_turns_47 : eb_dc cX2_turns 47 (.invokevirtual 176) 3 50 := by decide +kernel
theorem dX2_turns_50 : eb_dc cX2_turns 50 (.istore 5) 2 52 := by decide +kernel
theorem dX2_turns_52 : eb_dj cX2_turns 52 (.goto (-17)) (-17) 55 35 := by decide +kernel
theorem dX2_turns_55 : eb_dc cX2_turns 55 (.iload 4) 2 57 := by decide +kernel
theorem dX2_turns_57 : eb_dc cX2_turns 57 (.ireturn) 1 58 := by decide +kernel
theorem ctX2_turns {l : Launch} {Γ : eb_C} {ad : Nat → Nat} {ix : Nat → Option Nat} {σ : eb_MS} {a1 : Int32} {a2 : Int32} {K : Int32 → eb_MS → Prop} (hi : ms_inv ad ix) (h : MX2_turns σ a1 a2 K) : eb_Ct l Γ yX2_turns cX2_turns 6 (some .int) rmX2_turns [.ref (ad 0), .int a1, .int a2] (ms_st Γ ad ix σ) (em_I Γ ad ix K) := by
  refine eb_of (by decide) (Nat.le_of_ble_eq_true rfl) (fun X P hP _ => ?_)
  show eb_G l Γ P X cX2_turns RX2 6 (some .int) rmX2_turns 0 [(0, .ref (ad 0)), (1, .int a1), (2, .int a2)] [] (ms_st Γ ad ix σ) 0 0
  refine eg_aload_n 0 dX2_turns_0 rfl rfl ?_
  refine eg_iconst dX2_turns_1 kc_0 ?_
  refine em_puts 0 rfl q1142 dX2_turns_2 hi (fun g1 eg1 => ?_)
  replace h := h g1 eg1
  refine eg_aload_n 0 dX2_turns_5 rfl rfl ?_
  refine eg_iload_n 1 dX2_turns_6 rfl rfl ?_
  refine eg_iload_n 2 dX2_turns_7 rfl rfl ?_
  refine em_cvi (rest := []) (ctX2_refusesOf hi h) hi (lw_V q1329 q1331 qs47 q77 q1332) rfl nX2_refusesOf ⟨Nat.le_of_ble_eq_true rfl, Nat.le_of_ble_eq_true rfl⟩ ⟨rfl, rfl⟩ ⟨Nat.zero_le _, Nat.zero_le _⟩ rfl rfl (Nat.le_of_ble_eq_true rfl) dX2_turns_8 (fun v2 g3 h => ?_)
  refine eg_istore_n (lv' := [(3, .int v2), (0, .ref (ad 0)), (1, .int a1), (2, .int a2)]) dX2_turns_11 rfl (Nat.le_of_ble_eq_true rfl) rfl ?_
  refine eg_iload_n 0 dX2_turns_12 rfl rfl ?_
  refine eg_if_ge dX2_turns_13 (fun c11 => ?_) (fun c11 => ?_)
  · replace h := h.1 c11
    refine eg_iload_n 3 dX2_turns_18 rfl rfl ?_
    refine eg_aload_n 1 dX2_turns_19 rfl rfl ?_
    refine em_gets 8 rfl q1150 dX2_turns_20 hi ?_
    refine eg_icmp_lt dX2_turns_23 (fun c10 => ?_) (fun c10 => ?_)
    · replace h := h.1 c10
      refine eg_iconst dX2_turns_29 kc_1 ?_
      refine eg_istore (lv' := [(4, .int 1), (3, .int v2), (0, .ref (ad 0)), (1, .int a1), (2, .int a2)]) dX2_turns_30 (Nat.le_of_ble_eq_true rfl) rfl ?_
      refine eg_iload_n 4 dX2_turns_32 rfl rfl ?_
      refine eg_istore (lv' := [(5, .int a2), (4, .int 1), (3, .int v2), (0, .ref (ad 0)), (1, .int a1), (2, .int a2)]) dX2_turns_33 (Nat.le_of_ble_eq_true rfl) rfl ?_
      refine eg_sub [3, 5, 1, 0] rfl ?_
      refine eb_loop2_e (J := fun (x4_4 : Int32) (x5_5 : Int32) => eb_G l Γ P X cX2_turns RX2 6 (some .int) rmX2_turns 35 [(0, .ref (ad 0)), (2, .int a2), (4, .int x4_4), (5, .int x5_5)] [] (ms_st Γ ad ix g3) 0 0) h ?_
      intro r6 hr6 x4_4 x5_5 h
      refine eg_iload 3 dX2_turns_35 rfl ?_
      refine eg_if_eq dX2_turns_37 (fun c9 => ?_) (fun c9 => ?_)
      · replace h := h.1 c9
        refine eg_iload 2 dX2_turns_55 rfl ?_
        exact eg_iret dX2_turns_57 (Nat.zero_le _) (Nat.zero_le _) (hP _ _ ⟨_, _, rfl, rfl, h⟩)
      · replace h := h.2 c9
        refine eg_iinc (j := 2) (lv' := [(4, .int (x4_4 + 1)), (0, .ref (ad 0)), (2, .int a2), (5, .int x5_5)]) dX2_turns_40 rfl (by rw [kc_1]) (Nat.le_of_ble_eq_true rfl) rfl ?_
        refine eg_aload_n 1 dX2_turns_43 rfl rfl ?_
        refine eg_iload 3 dX2_turns_44 rfl ?_
        refine eg_iload_n 2 dX2_turns_46 rfl rfl ?_
        refine em_cvp (rest := []) (ctX2_productOf hi h) hi (lw_V q1349 q1351 qs49 q77 q1352) rfl nX2_productOf ⟨Nat.le_of_ble_eq_true rfl, Nat.le_of_ble_eq_true rfl⟩ ⟨rfl, rfl⟩ ⟨Nat.zero_le _, Nat.zero_le _⟩ rfl rfl (Nat.le_of_ble_eq_true rfl) dX2_turns_47 (fun v7 h => ?_)
        refine eg_istore (lv' := [(5, .int v7), (4, .int (x4_4 + 1)), (0, .ref (ad 0)), (2, .int a2)]) dX2_turns_50 (Nat.le_of_ble_eq_true rfl) rfl ?_
        refine eg_goto dX2_turns_52 ?_
        exact eg_sub [2, 3, 1, 0] rfl (hr6 (x4_4 + 1) v7 h)
    · replace h := h.2 c10
      refine eg_bipush dX2_turns_26 kb_m2 ?_
      exact eg_iret dX2_turns_28 (Nat.zero_le _) (Nat.zero_le _) (hP _ _ ⟨_, _, rfl, rfl, h⟩)
  · replace h := h.2 c11
    refine eg_iload_n 0 dX2_turns_16 rfl rfl ?_
    exact eg_iret dX2_turns_17 (Nat.zero_le _) (Nat.zero_le _) (hP _ _ ⟨_, _, rfl, rfl, h⟩)
def MX2_clears (σ : eb_MS) (K : eb_MS → Prop) : Prop :=
  eb_loop2 (fun r3 (x1_1 : Int32) (g2 : eb_MS) => eb_br (500 ≤ x1_1) (K g2) (ms_wr g2 23 500 x1_1 (vp_nar .boolean 0) (fun g4 => r3 (x1_1 + 1) g4))) 0 σ
abbrev rmX2_clears : Room := { frames := 1, cells := 0, slots := 0, locals := 12 }
theorem nX2_clears : eb_ar yX2_clears 0 := by decide +kernel
theorem dX2_clears_0 : eb_dc cX2_clears 0 (.iconst 0) 1 1 := by decide +kernel
theorem dX2_clears_1 : eb_dc cX2_clears 1 (.istore_n 1) 1 2 := by decide +kernel
theorem dX2_clears_2 : eb_dc cX2_clears 2 (.iload_n 1) 1 3 := by decide +kernel
theorem dX2_clears_3 : eb_dc cX2_clears 3 (.sipush 500) 3 6 := by decide +kernel
theorem dX2_clears_6 : eb_dj cX2_clears 6 (.if_icmp .ge 16) 16 9 22 := by decide +kernel
theorem dX2_clears_9 : eb_dc cX2_clears 9 (.aload_n 0) 1 10 := by decide +kernel
theorem dX2_clears_10 : eb_dc cX2_clears 10 (.getfield 62) 3 13 := by decide +kernel
theorem dX2_clears_13 : eb_dc cX2_clears 13 (.iload_n 1) 1 14 := by decide +kernel
theorem dX2_clears_14 : eb_dc cX2_clears 14 (.iconst 0) 1 15 := by decide +kernel
theorem dX2_clears_15 : eb_dc cX2_clears 15 (.bastore) 1 16 := by decide +kernel
theorem dX2_clears_16 : eb_dc cX2_clears 16 (.iinc 1 1) 3 19 := by decide +kernel
theorem dX2_clears_19 : eb_dj cX2_clears 19 (.goto (-17)) (-17) 22 2 := by decide +kernel
theorem dX2_clears_22 : eb_dc cX2_clears 22 (.return_) 1 23 := by decide +kernel
theorem ctX2_clears {l : Launch} {Γ : eb_C} {ad : Nat → Nat} {ix : Nat → Option Nat} {σ : eb_MS} {K : eb_MS → Prop} (hi : ms_inv ad ix) (h : MX2_clears σ K) : eb_Ct l Γ yX2_clears cX2_clears 2 (none) rmX2_clears [.ref (ad 0)] (ms_st Γ ad ix σ) (em_V Γ ad ix K) := by
  refine eb_of (by decide) (Nat.le_of_ble_eq_true rfl) (fun X P hP _ => ?_)
  show eb_G l Γ P X cX2_clears RX2 2 (none) rmX2_clears 0 [(0, .ref (ad 0))] [] (ms_st Γ ad ix σ) 0 0
  refine eg_iconst dX2_clears_0 kc_0 ?_
  refine eg_istore_n (lv' := [(1, .int 0), (0, .ref (ad 0))]) dX2_clears_1 rfl (Nat.le_of_ble_eq_true rfl) rfl ?_
  refine eg_sub [1, 0] rfl ?_
  refine eb_loop2_e (J := fun (x1_1 : Int32) (g2 : eb_MS) => eb_G l Γ P X cX2_clears RX2 2 (none) rmX2_clears 2 [(0, .ref (ad 0)), (1, .int x1_1)] [] (ms_st Γ ad ix g2) 0 0) h ?_
  intro r3 hr3 x1_1 g2 h
  refine eg_iload_n 1 dX2_clears_2 rfl rfl ?_
  refine eg_sipush dX2_clears_3 ks_500 ?_
  refine eg_icmp_ge dX2_clears_6 (fun c5 => ?_) (fun c5 => ?_)
  · replace h := h.1 c5
    exact eg_vret dX2_clears_22 (Nat.zero_le _) (Nat.zero_le _) (hP _ _ ⟨_, rfl, rfl, h⟩)
  · replace h := h.2 c5
    refine eg_aload_n 0 dX2_clears_9 rfl rfl ?_
    refine em_geta 23 rfl q1165 dX2_clears_10 hi ?_
    refine eg_iload_n 1 dX2_clears_13 rfl rfl ?_
    refine eg_iconst dX2_clears_14 kc_0 ?_
    obtain ⟨hb, h⟩ := h
    refine em_zast 23 rfl hb dX2_clears_15 hi (fun g4 eg4 => ?_)
    replace h := h g4 eg4
    refine eg_iinc (j := 1) (lv' := [(1, .int (x1_1 + 1)), (0, .ref (ad 0))]) dX2_clears_16 rfl (by rw [kc_1]) (Nat.le_of_ble_eq_true rfl) rfl ?_
    refine eg_goto dX2_clears_19 ?_
    exact eg_sub [1, 0] rfl (hr3 (x1_1 + 1) g4 h)
def MX2_classSize (σ : eb_MS) (a1 : Int32) (a2 : Int32) (K : Int32 → eb_MS → Prop) : Prop :=
  ms_ws σ 0 0 (fun g1 => MX2_refusesOf g1 a1 a2 (fun v2 g3 => eb_br (0 ≤ v2) (eb_br (a2 < (g3.1 8)) (MX2_clears g3  (fun g5 => eb_loop3 (fun r9 (x4_6 : Int32) (x5_7 : Int32) (g8 : eb_MS) => eb_br ((g8.1 8) ≤ x5_7) (K x4_6 g8) (MX2_productOf g8 x5_7 a2 (fun v10 => MX2_inverseOf g8 x5_7 (fun v12 => MX2_productOf g8 v10 v12 (fun v14 => eb_rd (g8.2.1 23) 500 v14 (fun v16 => eb_jp1 (fun (s17 : Int32) => ms_wr g8 23 500 v14 (vp_nar .boolean 1) (fun g18 => r9 (x4_6 + s17) (x5_7 + 1) g18)) (fun k19 => eb_br (v16 = 0) (k19 1) (k19 0)))))))) 0 0 g5)) (K (-2) g3)) (K v2 g3)))
abbrev rmX2_classSize : Room := { frames := 7, cells := 0, slots := 0, locals := 166 }
theorem nX2_classSize : eb_ar yX2_classSize 2 := by decide +kernel
theorem dX2_classSize_0 : eb_dc cX2_classSize 0 (.aload_n 0) 1 1 := by decide +kernel
theorem dX2_classSize_1 : eb_dc cX2_classSize 1 (.iconst 0) 1 2 := by decide +kernel
theorem dX2_classSize_2 : eb_dc cX2_classSize 2 (.putfield 106) 3 5 := by decide +kernel
theorem dX2_classSize_5 : eb_dc cX2_classSize 5 (.aload_n 0) 1 6 := by decide +kernel
theorem dX2_classSize_6 : eb_dc cX2_classSize 6 (.iload_n 1) 1 7 := by decide +kernel
theorem dX2_classSize_7 : eb_dc cX2_classSize 7 (.iload_n 2) 1 8 := by decide +kernel
theorem dX2_classSize_8 : eb_dc cX2_classSize 8 (.invokevirtual 173) 3 11 := by decide +kernel
theorem dX2_classSize_11 : eb_dc cX2_classSize 11 (.istore_n 3) 1 12 := by decide +kernel
theorem dX2_classSize_12 : eb_dc cX2_classSize 12 (.iload_n 3) 1 13 := by decide +kernel
theorem dX2_classSize_13 : eb_dj cX2_classSize 13 (.ifCond .ge 5) 5 16 18 := by decide +kernel
theorem dX2_classSize_16 : eb_dc cX2_classSize 16 (.iload_n 3) 1 17 := by decide +kernel
theorem dX2_classSize_17 : eb_dc cX2_classSize 17 (.ireturn) 1 18 := by decide +kernel
theorem dX2_classSize_18 : eb_dc cX2_classSize 18 (.iload_n 2) 1 19 := by decide +kernel
theorem dX2_classSize_19 : eb_dc cX2_classSize 19 (.aload_n 0) 1 20 := by decide +kernel
theorem dX2_classSize_20 : eb_dc cX2_classSize 20 (.getfield 135) 3 23 := by decide +kernel
theorem dX2_classSize_23 : eb_dj cX2_classSize 23 (.if_icmp .lt 6) 6 26 29 := by decide +kernel
theorem dX2_classSize_26 : eb_dc cX2_classSize 26 (.bipush (-2)) 2 28 := by decide +kernel
theorem dX2_classSize_28 : eb_dc cX2_classSize 28 (.ireturn) 1 29 := by decide +kernel
theorem dX2_classSize_29 : eb_dc cX2_classSize 29 (.aload_n 0) 1 30 := by decide +kernel
theorem dX2_classSize_30 : eb_dc cX2_classSize 30 (.invokevirtual 182) 3 33 := by decide +kernel
theorem dX2_classSize_33 : eb_dc cX2_classSize 33 (.iconst 0) 1 34 := by decide +kernel
theorem dX2_classSize_34 : eb_dc cX2_classSize 34 (.istore 4) 2 36 := by decide +kernel
theorem dX2_classSize_36 : eb_dc cX2_classSize 36 (.iconst 0) 1 37 := by decide +kernel
theorem dX2_classSize_37 : eb_dc cX2_classSize 37 (.istore 5) 2 39 := by decide +kernel
theorem dX2_classSize_39 : eb_dc cX2_classSize 39 (.iload 5) 2 41 := by decide +kernel
theorem dX2_classSize_41 : eb_dc cX2_classSize 41 (.aload_n 0) 1 42 := by decide +kernel
theorem dX2_classSize_42 : eb_dc cX2_classSize 42 (.getfield 135) 3 45 := by decide +kernel
theorem dX2_classSize_45 : eb_dj cX2_classSize 45 (.if_icmp .ge 56) 56 48 101 := by decide +kernel
theorem dX2_classSize_48 : eb_dc cX2_classSize 48 (.aload_n 0) 1 49 := by decide +kernel
theorem dX2_classSize_49 : eb_dc cX2_classSize 49 (.aload_n 0) 1 50 := by decide +kernel
theorem dX2_classSize_50 : eb_dc cX2_classSize 50 (.iload 5) 2 52 := by decide +kernel
theorem dX2_classSize_52 : eb_dc cX2_classSize 52 (.iload_n 2) 1 53 := by decide +kernel
theorem dX2_classSize_53 : eb_dc cX2_classSize 53 (.invokevirtual 176) 3 56 := by decide +kernel
theorem dX2_classSize_56 : eb_dc cX2_classSize 56 (.aload_n 0) 1 57 := by decide +kernel
theorem dX2_classSize_57 : eb_dc cX2_classSize 57 (.iload 5) 2 59 := by decide +kernel
theorem dX2_classSize_59 : eb_dc cX2_classSize 59 (.invokevirtual 179) 3 62 := by decide +kernel
theorem dX2_classSize_62 : eb_dc cX2_classSize 62 (.invokevirtual 176) 3 65 := by decide +kernel
theorem dX2_classSize_65 : eb_dc cX2_classSize 65 (.istore 6) 2 67 := by decide +kernel
theorem dX2_classSize_67 : eb_dc cX2_classSize 67 (.iload 4) 2 69 := by decide +kernel
theorem dX2_classSize_69 : eb_dc cX2_classSize 69 (.aload_n 0) 1 70 := by decide +kernel
theorem dX2_classSize_70 : eb_dc cX2_classSize 70 (.getfield 62) 3 73 := by decide +kernel
theorem dX2_classSize_73 : eb_dc cX2_classSize 73 (.iload 6) 2 75 := by decide +kernel
theorem dX2_classSize_75 : eb_dc cX2_classSize 75 (.baload) 1 76 := by decide +kernel
theorem dX2_classSize_76 : eb_dj cX2_classSize 76 (.ifCond .eq 7) 7 79 83 := by decide +kernel
theorem dX2_classSize_79 : eb_dc cX2_classSize 79 (.iconst 0) 1 80 := by decide +kernel
theorem dX2_classSize_80 : eb_dj cX2_classSize 80 (.goto 4) 4 83 84 := by decide +kernel
theorem dX2_classSize_83 : eb_dc cX2_classSize 83 (.iconst 1) 1 84 := by decide +kernel
theorem dX2_classSize_84 : eb_dc cX2_classSize 84 (.iadd) 1 85 := by decide +kernel
theorem dX2_classSize_85 : eb_dc cX2_classSize 85 (.istore 4) 2 87 := by decide +kernel
theorem dX2_classSize_87 : eb_dc cX2_classSize 87 (.aload_n 0) 1 88 := by decide +kernel
theorem dX2_classSize_88 : eb_dc cX2_classSize 88 (.getfield 62) 3 91 := by decide +kernel
theorem dX2_classSize_91 : eb_dc cX2_classSize 91 (.iload 6) 2 93 := by decide +kernel
theorem dX2_classSize_93 : eb_dc cX2_classSize 93 (.iconst 1) 1 94 := by decide +kernel
theorem dX2_classSize_94 : eb_dc cX2_classSize 94 (.bastore) 1 95 := by decide +kernel
theorem dX2_classSize_95 : eb_dc cX2_classSize 95 (.iinc 5 1) 3 98 := by decide +kernel
theorem dX2_classSize_98 : eb_dj cX2_classSize 98 (.goto (-59)) (-59) 101 39 := by decide +kernel
theorem dX2_classSize_101 : eb_dc cX2_classSize 101 (.iload 4) 2 103 := by decide +kernel
theorem dX2_classSize_103 : eb_dc cX2_classSize 103 (.ireturn) 1 104 := by decide +kernel
theorem ctX2_classSize {l : Launch} {Γ : eb_C} {ad : Nat → Nat} {ix : Nat → Option Nat} {σ : eb_MS} {a1 : Int32} {a2 : Int32} {K : Int32 → eb_MS → Prop} (hi : ms_inv ad ix) (h : MX2_classSize σ a1 a2 K) : eb_Ct l Γ yX2_classSize cX2_classSize 7 (some .int) rmX2_classSize [.ref (ad 0), .int a1, .int a2] (ms_st Γ ad ix σ) (em_I Γ ad ix K) := by
  refine eb_of (by decide) (Nat.le_of_ble_eq_true rfl) (fun X P hP _ => ?_)
  show eb_G l Γ P X cX2_classSize RX2 7 (some .int) rmX2_classSize 0 [(0, .ref (ad 0)), (1, .int a1), (2, .int a2)] [] (ms_st Γ ad ix σ) 0 0
  refine eg_aload_n 0 dX2_classSize_0 rfl rfl ?_
  refine eg_iconst dX2_classSize_1 kc_0 ?_
  refine em_puts 0 rfl q1142 dX2_classSize_2 hi (fun g1 eg1 => ?_)
  replace h := h g1 eg1
  refine eg_aload_n 0 dX2_classSize_5 rfl rfl ?_
  refine eg_iload_n 1 dX2_classSize_6 rfl rfl ?_
  refine eg_iload_n 2 dX2_classSize_7 rfl rfl ?_
  refine em_cvi (rest := []) (ctX2_refusesOf hi h) hi (lw_V q1329 q1331 qs47 q77 q1332) rfl nX2_refusesOf ⟨Nat.le_of_ble_eq_true rfl, Nat.le_of_ble_eq_true rfl⟩ ⟨rfl, rfl⟩ ⟨Nat.zero_le _, Nat.zero_le _⟩ rfl rfl (Nat.le_of_ble_eq_true rfl) dX2_classSize_8 (fun v2 g3 h => ?_)
  refine eg_istore_n (lv' := [(3, .int v2), (0, .ref (ad 0)), (1, .int a1), (2, .int a2)]) dX2_classSize_11 rfl (Nat.le_of_ble_eq_true rfl) rfl ?_
  refine eg_iload_n 0 dX2_classSize_12 rfl rfl ?_
  refine eg_if_ge dX2_classSize_13 (fun c23 => ?_) (fun c23 => ?_)
  · replace h := h.1 c23
    refine eg_iload_n 3 dX2_classSize_18 rfl rfl ?_
    refine eg_aload_n 1 dX2_classSize_19 rfl rfl ?_
    refine em_gets 8 rfl q1150 dX2_classSize_20 hi ?_
    refine eg_icmp_lt dX2_classSize_23 (fun c22 => ?_) (fun c22 => ?_)
    · replace h := h.1 c22
      refine eg_aload_n 1 dX2_classSize_29 rfl rfl ?_
      refine em_cvv (rest := []) (ctX2_clears hi h) hi (lw_V q1369 q1371 qs51 q77 q1372) rfl nX2_clears ⟨Nat.le_of_ble_eq_true rfl, Nat.le_of_ble_eq_true rfl⟩ ⟨rfl, rfl⟩ ⟨Nat.zero_le _, Nat.zero_le _⟩ rfl rfl (Nat.le_of_ble_eq_true rfl) dX2_classSize_30 (fun g5 h => ?_)
      refine eg_iconst dX2_classSize_33 kc_0 ?_
      refine eg_istore (lv' := [(4, .int 0), (3, .int v2), (0, .ref (ad 0)), (1, .int a1), (2, .int a2)]) dX2_classSize_34 (Nat.le_of_ble_eq_true rfl) rfl ?_
      refine eg_iconst dX2_classSize_36 kc_0 ?_
      refine eg_istore (lv' := [(5, .int 0), (4, .int 0), (3, .int v2), (0, .ref (ad 0)), (1, .int a1), (2, .int a2)]) dX2_classSize_37 (Nat.le_of_ble_eq_true rfl) rfl ?_
      refine eg_sub [3, 5, 1, 0] rfl ?_
      refine eb_loop3_e (J := fun (x4_6 : Int32) (x5_7 : Int32) (g8 : eb_MS) => eb_G l Γ P X cX2_classSize RX2 7 (some .int) rmX2_classSize 39 [(0, .ref (ad 0)), (2, .int a2), (4, .int x4_6), (5, .int x5_7)] [] (ms_st Γ ad ix g8) 0 0) h ?_
      intro r9 hr9 x4_6 x5_7 g8 h
      refine eg_iload 3 dX2_classSize_39 rfl ?_
      refine eg_aload_n 0 dX2_classSize_41 rfl rfl ?_
      refine em_gets 8 rfl q1150 dX2_classSize_42 hi ?_
      refine eg_icmp_ge dX2_classSize_45 (fun c21 => ?_) (fun c21 => ?_)
      · replace h := h.1 c21
        refine eg_iload 2 dX2_classSize_101 rfl ?_
        exact eg_iret dX2_classSize_103 (Nat.zero_le _) (Nat.zero_le _) (hP _ _ ⟨_, _, rfl, rfl, h⟩)
      · replace h := h.2 c21
        refine eg_aload_n 0 dX2_classSize_48 rfl rfl ?_
        refine eg_aload_n 0 dX2_classSize_49 rfl rfl ?_
        refine eg_iload 3 dX2_classSize_50 rfl ?_
        refine eg_iload_n 1 dX2_classSize_52 rfl rfl ?_
        refine em_cvp (rest := [.ref (ad 0)]) (ctX2_productOf hi h) hi (lw_V q1349 q1351 qs49 q77 q1352) rfl nX2_productOf ⟨Nat.le_of_ble_eq_true rfl, Nat.le_of_ble_eq_true rfl⟩ ⟨rfl, rfl⟩ ⟨Nat.zero_le _, Nat.zero_le _⟩ rfl rfl (Nat.le_of_ble_eq_true rfl) dX2_classSize_53 (fun v10 h => ?_)
        refine eg_aload_n 0 dX2_classSize_56 rfl rfl ?_
        refine eg_iload 3 dX2_classSize_57 rfl ?_
        refine em_cvp (rest := [.int v10, .ref (ad 0)]) (ctX2_inverseOf hi h) hi (lw_V q1357 q1359 qs50 q77 q1360) rfl nX2_inverseOf ⟨Nat.le_of_ble_eq_true rfl, Nat.le_of_ble_eq_true rfl⟩ ⟨rfl, rfl⟩ ⟨Nat.zero_le _, Nat.zero_le _⟩ rfl rfl (Nat.le_of_ble_eq_true rfl) dX2_classSize_59 (fun v12 h => ?_)
        refine em_cvp (rest := []) (ctX2_productOf hi h) hi (lw_V q1349 q1351 qs49 q77 q1352) rfl nX2_productOf ⟨Nat.le_of_ble_eq_true rfl, Nat.le_of_ble_eq_true rfl⟩ ⟨rfl, rfl⟩ ⟨Nat.zero_le _, Nat.zero_le _⟩ rfl rfl (Nat.le_of_ble_eq_true rfl) dX2_classSize_62 (fun v14 h => ?_)
        refine eg_istore (lv' := [(6, .int v14), (0, .ref (ad 0)), (2, .int a2), (4, .int x4_6), (5, .int x5_7)]) dX2_classSize_65 (Nat.le_of_ble_eq_true rfl) rfl ?_
        refine eg_iload 3 dX2_classSize_67 rfl ?_
        refine eg_aload_n 1 dX2_classSize_69 rfl rfl ?_
        refine em_geta 23 rfl q1165 dX2_classSize_70 hi ?_
        refine eg_iload 0 dX2_classSize_73 rfl ?_
        obtain ⟨hb, h⟩ := h
        refine em_zald 23 rfl hb dX2_classSize_75 hi (fun v16 ev16 => ?_)
        replace h := h v16 ev16
        refine eb_jp1_e (J := fun (s17 : Int32) => eb_G l Γ P X cX2_classSize RX2 7 (some .int) rmX2_classSize 84 [(0, .ref (ad 0)), (2, .int a2), (5, .int x5_7), (6, .int v14)] [.int s17, .int x4_6] (ms_st Γ ad ix g8) 0 0) h ?_ ?_
        · intro s17 h
          refine eg_iadd dX2_classSize_84 ?_
          refine eg_istore (lv' := [(4, .int (x4_6 + s17)), (0, .ref (ad 0)), (2, .int a2), (5, .int x5_7), (6, .int v14)]) dX2_classSize_85 (Nat.le_of_ble_eq_true rfl) rfl ?_
          refine eg_aload_n 1 dX2_classSize_87 rfl rfl ?_
          refine em_geta 23 rfl q1165 dX2_classSize_88 hi ?_
          refine eg_iload 4 dX2_classSize_91 rfl ?_
          refine eg_iconst dX2_classSize_93 kc_1 ?_
          obtain ⟨hb, h⟩ := h
          refine em_zast 23 rfl hb dX2_classSize_94 hi (fun g18 eg18 => ?_)
          replace h := h g18 eg18
          refine eg_iinc (j := 3) (lv' := [(5, .int (x5_7 + 1)), (4, .int (x4_6 + s17)), (0, .ref (ad 0)), (2, .int a2), (6, .int v14)]) dX2_classSize_95 rfl (by rw [kc_1]) (Nat.le_of_ble_eq_true rfl) rfl ?_
          refine eg_goto dX2_classSize_98 ?_
          exact eg_sub [2, 3, 1, 0] rfl (hr9 (x4_6 + s17) (x5_7 + 1) g18 h)
        · intro k19 hk19 h
          refine eg_if_eq dX2_classSize_76 (fun c20 => ?_) (fun c20 => ?_)
          · replace h := h.1 c20
            refine eg_iconst dX2_classSize_83 kc_1 ?_
            exact eg_sub [1, 2, 4, 0] rfl (hk19 1 h)
          · replace h := h.2 c20
            refine eg_iconst dX2_classSize_79 kc_0 ?_
            refine eg_goto dX2_classSize_80 ?_
            exact eg_sub [1, 2, 4, 0] rfl (hk19 0 h)
    · replace h := h.2 c22
      refine eg_bipush dX2_classSize_26 kb_m2 ?_
      exact eg_iret dX2_classSize_28 (Nat.zero_le _) (Nat.zero_le _) (hP _ _ ⟨_, _, rfl, rfl, h⟩)
  · replace h := h.2 c23
    refine eg_iload_n 0 dX2_classSize_16 rfl rfl ?_
    exact eg_iret dX2_classSize_17 (Nat.zero_le _) (Nat.zero_le _) (hP _ _ ⟨_, _, rfl, rfl, h⟩)
def MX2_ofLength (σ : eb_MS) (a1 : Int32) (a2 : Int32) (K : Int32 → eb_MS → Prop) : Prop :=
  ms_ws σ 0 0 (fun g1 => MX2_refusesOf g1 a1 a2 (fun v2 g3 => eb_br (0 ≤ v2) (eb_loop2 (fun r6 (x4_4 : Int32) (x5_5 : Int32) => eb_br ((g3.1 8) ≤ x5_5) (K x4_4 g3) (eb_rd (g3.2.1 12) 500 x5_5 (fun v7 => eb_jp1 (fun (s8 : Int32) => r6 (x4_4 + s8) (x5_5 + 1)) (fun k9 => eb_br (v7 = a2) (k9 1) (k9 0))))) 0 0) (K v2 g3)))
abbrev rmX2_ofLength : Room := { frames := 7, cells := 0, slots := 0, locals := 166 }
theorem nX2_ofLength : eb_ar yX2_ofLength 2 := by decide +kernel
theorem dX2_ofLength_0 : eb_dc cX2_ofLength 0 (.aload_n 0) 1 1 := by decide +kernel
theorem dX2_ofLength_1 : eb_dc cX2_ofLength 1 (.iconst 0) 1 2 := by decide +kernel
theorem dX2_ofLength_2 : eb_dc cX2_ofLength 2 (.putfield 106) 3 5 := by decide +kernel
theorem dX2_ofLength_5 : eb_dc cX2_ofLength 5 (.aload_n 0) 1 6 := by decide +kernel
theorem dX2_ofLength_6 : eb_dc cX2_ofLength 6 (.iload_n 1) 1 7 := by decide +kernel
theorem dX2_ofLength_7 : eb_dc cX2_ofLength 7 (.iload_n 2) 1 8 := by decide +kernel
theorem dX2_ofLength_8 : eb_dc cX2_ofLength 8 (.invokevirtual 173) 3 11 := by decide +kernel
theorem dX2_ofLength_11 : eb_dc cX2_ofLength 11 (.istore_n 3) 1 12 := by decide +kernel
theorem dX2_ofLength_12 : eb_dc cX2_ofLength 12 (.iload_n 3) 1 13 := by decide +kernel
theorem dX2_ofLength_13 : eb_dj cX2_ofLength 13 (.ifCond .ge 5) 5 16 18 := by decide +kernel
theorem dX2_ofLength_16 : eb_dc cX2_ofLength 16 (.iload_n 3) 1 17 := by decide +kernel
theorem dX2_ofLength_17 : eb_dc cX2_ofLength 17 (.ireturn) 1 18 := by decide +kernel
theorem dX2_ofLength_18 : eb_dc cX2_ofLength 18 (.iconst 0) 1 19 := by decide +kernel
theorem dX2_ofLength_19 : eb_dc cX2_ofLength 19 (.istore 4) 2 21 := by decide +kernel
theorem dX2_ofLength_21 : eb_dc cX2_ofLength 21 (.iconst 0) 1 22 := by decide +kernel
theorem dX2_ofLength_22 : eb_dc cX2_ofLength 22 (.istore 5) 2 24 := by decide +kernel
theorem dX2_ofLength_24 : eb_dc cX2_ofLength 24 (.iload 5) 2 26 := by decide +kernel
theorem dX2_ofLength_26 : eb_dc cX2_ofLength 26 (.aload_n 0) 1 27 := by decide +kernel
theorem dX2_ofLength_27 : eb_dc cX2_ofLength 27 (.getfield 135) 3 30 := by decide +kernel
theorem dX2_ofLength_30 : eb_dj cX2_ofLength 30 (.if_icmp .ge 30) 30 33 60 := by decide +kernel
theorem dX2_ofLength_33 : eb_dc cX2_ofLength 33 (.iload 4) 2 35 := by decide +kernel
theorem dX2_ofLength_35 : eb_dc cX2_ofLength 35 (.aload_n 0) 1 36 := by decide +kernel
theorem dX2_ofLength_36 : eb_dc cX2_ofLength 36 (.getfield 35) 3 39 := by decide +kernel
theorem dX2_ofLength_39 : eb_dc cX2_ofLength 39 (.iload 5) 2 41 := by decide +kernel
theorem dX2_ofLength_41 : eb_dc cX2_ofLength 41 (.iaload) 1 42 := by decide +kernel
theorem dX2_ofLength_42 : eb_dc cX2_ofLength 42 (.iload_n 2) 1 43 := by decide +kernel
theorem dX2_ofLength_43 : eb_dj cX2_ofLength 43 (.if_icmp .ne 7) 7 46 50 := by decide +kernel
theorem dX2_ofLength_46 : eb_dc cX2_ofLength 46 (.iconst 1) 1 47 := by decide +kernel
theorem dX2_ofLength_47 : eb_dj cX2_ofLength 47 (.goto 4) 4 50 51 := by decide +kernel
theorem dX2_ofLength_50 : eb_dc cX2_ofLength 50 (.iconst 0) 1 51 := by decide +kernel
theorem dX2_ofLength_51 : eb_dc cX2_ofLength 51 (.iadd) 1 52 := by decide +kernel
theorem dX2_ofLength_52 : eb_dc cX2_ofLength 52 (.istore 4) 2 54 := by decide +kernel
theorem dX2_ofLength_54 : eb_dc cX2_ofLength 54 (.iinc 5 1) 3 57 := by decide +kernel
theorem dX2_ofLength_57 : eb_dj cX2_ofLength 57 (.goto (-33)) (-33) 60 24 := by decide +kernel
theorem dX2_ofLength_60 : eb_dc cX2_ofLength 60 (.iload 4) 2 62 := by decide +kernel
theorem dX2_ofLength_62 : eb_dc cX2_ofLength 62 (.ireturn) 1 63 := by decide +kernel
theorem ctX2_ofLength {l : Launch} {Γ : eb_C} {ad : Nat → Nat} {ix : Nat → Option Nat} {σ : eb_MS} {a1 : Int32} {a2 : Int32} {K : Int32 → eb_MS → Prop} (hi : ms_inv ad ix) (h : MX2_ofLength σ a1 a2 K) : eb_Ct l Γ yX2_ofLength cX2_ofLength 6 (some .int) rmX2_ofLength [.ref (ad 0), .int a1, .int a2] (ms_st Γ ad ix σ) (em_I Γ ad ix K) := by
  refine eb_of (by decide) (Nat.le_of_ble_eq_true rfl) (fun X P hP _ => ?_)
  show eb_G l Γ P X cX2_ofLength RX2 6 (some .int) rmX2_ofLength 0 [(0, .ref (ad 0)), (1, .int a1), (2, .int a2)] [] (ms_st Γ ad ix σ) 0 0
  refine eg_aload_n 0 dX2_ofLength_0 rfl rfl ?_
  refine eg_iconst dX2_ofLength_1 kc_0 ?_
  refine em_puts 0 rfl q1142 dX2_ofLength_2 hi (fun g1 eg1 => ?_)
  replace h := h g1 eg1
  refine eg_aload_n 0 dX2_ofLength_5 rfl rfl ?_
  refine eg_iload_n 1 dX2_ofLength_6 rfl rfl ?_
  refine eg_iload_n 2 dX2_ofLength_7 rfl rfl ?_
  refine em_cvi (rest := []) (ctX2_refusesOf hi h) hi (lw_V q1329 q1331 qs47 q77 q1332) rfl nX2_refusesOf ⟨Nat.le_of_ble_eq_true rfl, Nat.le_of_ble_eq_true rfl⟩ ⟨rfl, rfl⟩ ⟨Nat.zero_le _, Nat.zero_le _⟩ rfl rfl (Nat.le_of_ble_eq_true rfl) dX2_ofLength_8 (fun v2 g3 h => ?_)
  refine eg_istore_n (lv' := [(3, .int v2), (0, .ref (ad 0)), (1, .int a1), (2, .int a2)]) dX2_ofLength_11 rfl (Nat.le_of_ble_eq_true rfl) rfl ?_
  refine eg_iload_n 0 dX2_ofLength_12 rfl rfl ?_
  refine eg_if_ge dX2_ofLength_13 (fun c12 => ?_) (fun c12 => ?_)
  · replace h := h.1 c12
    refine eg_iconst dX2_ofLength_18 kc_0 ?_
    refine eg_istore (lv' := [(4, .int 0), (3, .int v2), (0, .ref (ad 0)), (1, .int a1), (2, .int a2)]) dX2_ofLength_19 (Nat.le_of_ble_eq_true rfl) rfl ?_
    refine eg_iconst dX2_ofLength_21 kc_0 ?_
    refine eg_istore (lv' := [(5, .int 0), (4, .int 0), (3, .int v2), (0, .ref (ad 0)), (1, .int a1), (2, .int a2)]) dX2_ofLength_22 (Nat.le_of_ble_eq_true rfl) rfl ?_
    refine eg_sub [3, 5, 1, 0] rfl ?_
    refine eb_loop2_e (J := fun (x4_4 : Int32) (x5_5 : Int32) => eb_G l Γ P X cX2_ofLength RX2 6 (some .int) rmX2_ofLength 24 [(0, .ref (ad 0)), (2, .int a2), (4, .int x4_4), (5, .int x5_5)] [] (ms_st Γ ad ix g3) 0 0) h ?_
    intro r6 hr6 x4_4 x5_5 h
    refine eg_iload 3 dX2_ofLength_24 rfl ?_
    refine eg_aload_n 0 dX2_ofLength_26 rfl rfl ?_
    refine em_gets 8 rfl q1150 dX2_ofLength_27 hi ?_
    refine eg_icmp_ge dX2_ofLength_30 (fun c11 => ?_) (fun c11 => ?_)
    · replace h := h.1 c11
      refine eg_iload 2 dX2_ofLength_60 rfl ?_
      exact eg_iret dX2_ofLength_62 (Nat.zero_le _) (Nat.zero_le _) (hP _ _ ⟨_, _, rfl, rfl, h⟩)
    · replace h := h.2 c11
      refine eg_iload 2 dX2_ofLength_33 rfl ?_
      refine eg_aload_n 0 dX2_ofLength_35 rfl rfl ?_
      refine em_geta 12 rfl q1154 dX2_ofLength_36 hi ?_
      refine eg_iload 3 dX2_ofLength_39 rfl ?_
      obtain ⟨hb, h⟩ := h
      refine em_iald 12 rfl hb dX2_ofLength_41 hi (fun v7 ev7 => ?_)
      replace h := h v7 ev7
      refine eg_iload_n 1 dX2_ofLength_42 rfl rfl ?_
      refine eb_jp1_e (J := fun (s8 : Int32) => eb_G l Γ P X cX2_ofLength RX2 6 (some .int) rmX2_ofLength 51 [(0, .ref (ad 0)), (2, .int a2), (5, .int x5_5)] [.int s8, .int x4_4] (ms_st Γ ad ix g3) 0 0) h ?_ ?_
      · intro s8 h
        refine eg_iadd dX2_ofLength_51 ?_
        refine eg_istore (lv' := [(4, .int (x4_4 + s8)), (0, .ref (ad 0)), (2, .int a2), (5, .int x5_5)]) dX2_ofLength_52 (Nat.le_of_ble_eq_true rfl) rfl ?_
        refine eg_iinc (j := 3) (lv' := [(5, .int (x5_5 + 1)), (4, .int (x4_4 + s8)), (0, .ref (ad 0)), (2, .int a2)]) dX2_ofLength_54 rfl (by rw [kc_1]) (Nat.le_of_ble_eq_true rfl) rfl ?_
        refine eg_goto dX2_ofLength_57 ?_
        exact eg_sub [2, 3, 1, 0] rfl (hr6 (x4_4 + s8) (x5_5 + 1) h)
      · intro k9 hk9 h
        refine eg_icmp_ne dX2_ofLength_43 (fun c10 => ?_) (fun c10 => ?_)
        · replace h := h.2 c10
          refine eg_iconst dX2_ofLength_50 kc_0 ?_
          exact eg_sub [0, 1, 3] rfl (hk9 0 h)
        · replace h := h.1 c10
          refine eg_iconst dX2_ofLength_46 kc_1 ?_
          refine eg_goto dX2_ofLength_47 ?_
          exact eg_sub [0, 1, 3] rfl (hk9 1 h)
  · replace h := h.2 c12
    refine eg_iload_n 0 dX2_ofLength_16 rfl rfl ?_
    exact eg_iret dX2_ofLength_17 (Nat.zero_le _) (Nat.zero_le _) (hP _ _ ⟨_, _, rfl, rfl, h⟩)
def MX2_mirrors (σ : eb_MS) (a1 : Int32) (K : Int32 → eb_MS → Prop) : Prop :=
  ms_ws σ 0 0 (fun g1 => MX2_refuses g1 a1 (fun v2 g3 => eb_br (0 ≤ v2) (MX2_clears g3  (fun g5 => eb_loop3 (fun r9 (x3_6 : Int32) (x4_7 : Int32) (g8 : eb_MS) => eb_br ((g8.1 8) ≤ x4_7) (K x3_6 g8) (eb_jp2 (fun (x3_10 : Int32) (g11 : eb_MS) => r9 x3_10 (x4_7 + 1) g11) (fun k12 => eb_loop3 (fun r16 (x3_13 : Int32) (x5_14 : Int32) (g15 : eb_MS) => eb_br ((g15.1 6) ≤ x5_14) (k12 x3_13 g15) (eb_rd (g15.2.1 11) 2000 (((4 * x4_7) + x5_14)) (fun v17 => MX2_inverseOf g15 x4_7 (fun v18 => MX2_productOf g15 v17 v18 (fun v20 => eb_rd (g15.2.1 23) 500 v20 (fun v22 => eb_jp1 (fun (s23 : Int32) => ms_wr g15 23 500 v20 (vp_nar .boolean 1) (fun g24 => r16 (x3_13 + s23) (x5_14 + 1) g24)) (fun k25 => eb_br (v22 = 0) (k25 1) (k25 0)))))))) x3_6 0 g8))) 0 0 g5)) (K v2 g3)))
abbrev rmX2_mirrors : Room := { frames := 7, cells := 0, slots := 0, locals := 165 }
theorem nX2_mirrors : eb_ar yX2_mirrors 1 := by decide +kernel
theorem dX2_mirrors_0 : eb_dc cX2_mirrors 0 (.aload_n 0) 1 1 := by decide +kernel
theorem dX2_mirrors_1 : eb_dc cX2_mirrors 1 (.iconst 0) 1 2 := by decide +kernel
theorem dX2_mirrors_2 : eb_dc cX2_mirrors 2 (.putfield 106) 3 5 := by decide +kernel
theorem dX2_mirrors_5 : eb_dc cX2_mirrors 5 (.aload_n 0) 1 6 := by decide +kernel
theorem dX2_mirrors_6 : eb_dc cX2_mirrors 6 (.iload_n 1) 1 7 := by decide +kernel
theorem dX2_mirrors_7 : eb_dc cX2_mirrors 7 (.invokevirtual 170) 3 10 := by decide +kernel
theorem dX2_mirrors_10 : eb_dc cX2_mirrors 10 (.istore_n 2) 1 11 := by decide +kernel
theorem dX2_mirrors_11 : eb_dc cX2_mirrors 11 (.iload_n 2) 1 12 := by decide +kernel
theorem dX2_mirrors_12 : eb_dj cX2_mirrors 12 (.ifCond .ge 5) 5 15 17 := by decide +kernel
theorem dX2_mirrors_15 : eb_dc cX2_mirrors 15 (.iload_n 2) 1 16 := by decide +kernel
theorem dX2_mirrors_16 : eb_dc cX2_mirrors 16 (.ireturn) 1 17 := by decide +kernel
theorem dX2_mirrors_17 : eb_dc cX2_mirrors 17 (.aload_n 0) 1 18 := by decide +kernel
theorem dX2_mirrors_18 : eb_dc cX2_mirrors 18 (.invokevirtual 182) 3 21 := by decide +kernel
theorem dX2_mirrors_21 : eb_dc cX2_mirrors 21 (.iconst 0) 1 22 := by decide +kernel
theorem dX2_mirrors_22 : eb_dc cX2_mirrors 22 (.istore_n 3) 1 23 := by decide +kernel
theorem dX2_mirrors_23 : eb_dc cX2_mirrors 23 (.iconst 0) 1 24 := by decide +kernel
theorem dX2_mirrors_24 : eb_dc cX2_mirrors 24 (.istore 4) 2 26 := by decide +kernel
theorem dX2_mirrors_26 : eb_dc cX2_mirrors 26 (.iload 4) 2 28 := by decide +kernel
theorem dX2_mirrors_28 : eb_dc cX2_mirrors 28 (.aload_n 0) 1 29 := by decide +kernel
theorem dX2_mirrors_29 : eb_dc cX2_mirrors 29 (.getfield 135) 3 32 := by decide +kernel
theorem dX2_mirrors_32 : eb_dj cX2_mirrors 32 (.if_icmp .ge 77) 77 35 109 := by decide +kernel
theorem dX2_mirrors_35 : eb_dc cX2_mirrors 35 (.iconst 0) 1 36 := by decide +kernel
theorem dX2_mirrors_36 : eb_dc cX2_mirrors 36 (.istore 5) 2 38 := by decide +kernel
theorem dX2_mirrors_38 : eb_dc cX2_mirrors 38 (.iload 5) 2 40 := by decide +kernel
theorem dX2_mirrors_40 : eb_dc cX2_mirrors 40 (.aload_n 0) 1 41 := by decide +kernel
theorem dX2_mirrors_41 : eb_dc cX2_mirrors 41 (.getfield 138) 3 44 := by decide +kernel
theorem dX2_mirrors_44 : eb_dj cX2_mirrors 44 (.if_icmp .ge 59) 59 47 103 := by decide +kernel
theorem dX2_mirrors_47 : eb_dc cX2_mirrors 47 (.aload_n 0) 1 48 := by decide +kernel
theorem dX2_mirrors_48 : eb_dc cX2_mirrors 48 (.aload_n 0) 1 49 := by decide +kernel
theorem dX2_mirrors_49 : eb_dc cX2_mirrors 49 (.getfield 32) 3 52 := by decide +kernel
theorem dX2_mirrors_52 : eb_dc cX2_mirrors 52 (.iconst 4) 1 53 := by decide +kernel
theorem dX2_mirrors_53 : eb_dc cX2_mirrors 53 (.iload 4) 2 55 := by decide +kernel
theorem dX2_mirrors_55 : eb_dc cX2_mirrors 55 (.imul) 1 56 := by decide +kernel
theorem dX2_mirrors_56 : eb_dc cX2_mirrors 56 (.iload 5) 2 58 := by decide +kernel
theorem dX2_mirrors_58 : eb_dc cX2_mirrors 58 (.iadd) 1 59 := by decide +kernel
theorem dX2_mirrors_59 : eb_dc cX2_mirrors 59 (.iaload) 1 60 := by decide +kernel
theorem dX2_mirrors_60 : eb_dc cX2_mirrors 60 (.aload_n 0) 1 61 := by decide +kernel
theorem dX2_mirrors_61 : eb_dc cX2_mirrors 61 (.iload 4) 2 63 := by decide +kernel
theorem dX2_mirrors_63 : eb_dc cX2_mirrors 63 (.invokevirtual 179) 3 66 := by decide +kernel
theorem dX2_mirrors_66 : eb_dc cX2_mirrors 66 (.invokevirtual 176) 3 69 := by decide +kernel
theorem dX2_mirrors_69 : eb_dc cX2_mirrors 69 (.istore 6) 2 71 := by decide +kernel
theorem dX2_mirrors_71 : eb_dc cX2_mirrors 71 (.iload_n 3) 1 72 := by decide +kernel
theorem dX2_mirrors_72 : eb_dc cX2_mirrors 72 (.aload_n 0) 1 73 := by decide +kernel
theorem dX2_mirrors_73 : eb_dc cX2_mirrors 73 (.getfield 62) 3 76 := by decide +kernel
theorem dX2_mirrors_76 : eb_dc cX2_mirrors 76 (.iload 6) 2 78 := by decide +kernel
theorem dX2_mirrors_78 : eb_dc cX2_mirrors 78 (.baload) 1 79 := by decide +kernel
theorem dX2_mirrors_79 : eb_dj cX2_mirrors 79 (.ifCond .eq 7) 7 82 86 := by decide +kernel
theorem dX2_mirrors_82 : eb_dc cX2_mirrors 82 (.iconst 0) 1 83 := by decide +kernel
theorem dX2_mirrors_83 : eb_dj cX2_mirrors 83 (.goto 4) 4 86 87 := by decide +kernel
theorem dX2_mirrors_86 : eb_dc cX2_mirrors 86 (.iconst 1) 1 87 := by decide +kernel
theorem dX2_mirrors_87 : eb_dc cX2_mirrors 87 (.iadd) 1 88 := by decide +kernel
theorem dX2_mirrors_88 : eb_dc cX2_mirrors 88 (.istore_n 3) 1 89 := by decide +kernel
theorem dX2_mirrors_89 : eb_dc cX2_mirrors 89 (.aload_n 0) 1 90 := by decide +kernel
theorem dX2_mirrors_90 : eb_dc cX2_mirrors 90 (.getfield 62) 3 93 := by decide +kernel
theorem dX2_mirrors_93 : eb_dc cX2_mirrors 93 (.iload 6) 2 95 := by decide +kernel
theorem dX2_mirrors_95 : eb_dc cX2_mirrors 95 (.iconst 1) 1 96 := by decide +kernel
theorem dX2_mirrors_96 : eb_dc cX2_mirrors 96 (.bastore) 1 97 := by decide +kernel
theorem dX2_mirrors_97 : eb_dc cX2_mirrors 97 (.iinc 5 1) 3 100 := by decide +kernel
theorem dX2_mirrors_100 : eb_dj cX2_mirrors 100 (.goto (-62)) (-62) 103 38 := by decide +kernel
theorem dX2_mirrors_103 : eb_dc cX2_mirrors 103 (.iinc 4 1) 3 106 := by decide +kernel
theorem dX2_mirrors_106 : eb_dj cX2_mirrors 106 (.goto (-80)) (-80) 109 26 := by decide +kernel
theorem dX2_mirrors_109 : eb_dc cX2_mirrors 109 (.iload_n 3) 1 110 := by decide +kernel
theorem dX2_mirrors_110 : eb_dc cX2_mirrors 110 (.ireturn) 1 111 := by decide +kernel
theorem ctX2_mirrors {l : Launch} {Γ : eb_C} {ad : Nat → Nat} {ix : Nat → Option Nat} {σ : eb_MS} {a1 : Int32} {K : Int32 → eb_MS → Prop} (hi : ms_inv ad ix) (h : MX2_mirrors σ a1 K) : eb_Ct l Γ yX2_mirrors cX2_mirrors 7 (some .int) rmX2_mirrors [.ref (ad 0), .int a1] (ms_st Γ ad ix σ) (em_I Γ ad ix K) := by
  refine eb_of (by decide) (Nat.le_of_ble_eq_true rfl) (fun X P hP _ => ?_)
  show eb_G l Γ P X cX2_mirrors RX2 7 (some .int) rmX2_mirrors 0 [(0, .ref (ad 0)), (1, .int a1)] [] (ms_st Γ ad ix σ) 0 0
  refine eg_aload_n 0 dX2_mirrors_0 rfl rfl ?_
  refine eg_iconst dX2_mirrors_1 kc_0 ?_
  refine em_puts 0 rfl q1142 dX2_mirrors_2 hi (fun g1 eg1 => ?_)
  replace h := h g1 eg1
  refine eg_aload_n 0 dX2_mirrors_5 rfl rfl ?_
  refine eg_iload_n 1 dX2_mirrors_6 rfl rfl ?_
  refine em_cvi (rest := []) (ctX2_refuses hi h) hi (lw_V q1290 q1292 qs39 q77 q1293) rfl nX2_refuses ⟨Nat.le_of_ble_eq_true rfl, Nat.le_of_ble_eq_true rfl⟩ ⟨rfl, rfl⟩ ⟨Nat.zero_le _, Nat.zero_le _⟩ rfl rfl (Nat.le_of_ble_eq_true rfl) dX2_mirrors_7 (fun v2 g3 h => ?_)
  refine eg_istore_n (lv' := [(2, .int v2), (0, .ref (ad 0)), (1, .int a1)]) dX2_mirrors_10 rfl (Nat.le_of_ble_eq_true rfl) rfl ?_
  refine eg_iload_n 0 dX2_mirrors_11 rfl rfl ?_
  refine eg_if_ge dX2_mirrors_12 (fun c29 => ?_) (fun c29 => ?_)
  · replace h := h.1 c29
    refine eg_aload_n 1 dX2_mirrors_17 rfl rfl ?_
    refine em_cvv (rest := []) (ctX2_clears hi h) hi (lw_V q1369 q1371 qs51 q77 q1372) rfl nX2_clears ⟨Nat.le_of_ble_eq_true rfl, Nat.le_of_ble_eq_true rfl⟩ ⟨rfl, rfl⟩ ⟨Nat.zero_le _, Nat.zero_le _⟩ rfl rfl (Nat.le_of_ble_eq_true rfl) dX2_mirrors_18 (fun g5 h => ?_)
    refine eg_iconst dX2_mirrors_21 kc_0 ?_
    refine eg_istore_n (lv' := [(3, .int 0), (2, .int v2), (0, .ref (ad 0)), (1, .int a1)]) dX2_mirrors_22 rfl (Nat.le_of_ble_eq_true rfl) rfl ?_
    refine eg_iconst dX2_mirrors_23 kc_0 ?_
    refine eg_istore (lv' := [(4, .int 0), (3, .int 0), (2, .int v2), (0, .ref (ad 0)), (1, .int a1)]) dX2_mirrors_24 (Nat.le_of_ble_eq_true rfl) rfl ?_
    refine eg_sub [3, 1, 0] rfl ?_
    refine eb_loop3_e (J := fun (x3_6 : Int32) (x4_7 : Int32) (g8 : eb_MS) => eb_G l Γ P X cX2_mirrors RX2 7 (some .int) rmX2_mirrors 26 [(0, .ref (ad 0)), (3, .int x3_6), (4, .int x4_7)] [] (ms_st Γ ad ix g8) 0 0) h ?_
    intro r9 hr9 x3_6 x4_7 g8 h
    refine eg_iload 2 dX2_mirrors_26 rfl ?_
    refine eg_aload_n 0 dX2_mirrors_28 rfl rfl ?_
    refine em_gets 8 rfl q1150 dX2_mirrors_29 hi ?_
    refine eg_icmp_ge dX2_mirrors_32 (fun c28 => ?_) (fun c28 => ?_)
    · replace h := h.1 c28
      refine eg_iload_n 1 dX2_mirrors_109 rfl rfl ?_
      exact eg_iret dX2_mirrors_110 (Nat.zero_le _) (Nat.zero_le _) (hP _ _ ⟨_, _, rfl, rfl, h⟩)
    · replace h := h.2 c28
      refine eg_iconst dX2_mirrors_35 kc_0 ?_
      refine eg_istore (lv' := [(5, .int 0), (0, .ref (ad 0)), (3, .int x3_6), (4, .int x4_7)]) dX2_mirrors_36 (Nat.le_of_ble_eq_true rfl) rfl ?_
      refine eb_jp2_e (J := fun (x3_10 : Int32) (g11 : eb_MS) => eb_G l Γ P X cX2_mirrors RX2 7 (some .int) rmX2_mirrors 103 [(0, .ref (ad 0)), (3, .int x3_10), (4, .int x4_7)] [] (ms_st Γ ad ix g11) 0 0) h ?_ ?_
      · intro x3_10 g11 h
        refine eg_iinc (j := 2) (lv' := [(4, .int (x4_7 + 1)), (0, .ref (ad 0)), (3, .int x3_10)]) dX2_mirrors_103 rfl (by rw [kc_1]) (Nat.le_of_ble_eq_true rfl) rfl ?_
        refine eg_goto dX2_mirrors_106 ?_
        exact eg_sub [1, 2, 0] rfl (hr9 x3_10 (x4_7 + 1) g11 h)
      · intro k12 hk12 h
        refine eg_sub [1, 2, 3, 0] rfl ?_
        refine eb_loop3_e (J := fun (x3_13 : Int32) (x5_14 : Int32) (g15 : eb_MS) => eb_G l Γ P X cX2_mirrors RX2 7 (some .int) rmX2_mirrors 38 [(0, .ref (ad 0)), (3, .int x3_13), (4, .int x4_7), (5, .int x5_14)] [] (ms_st Γ ad ix g15) 0 0) h ?_
        intro r16 hr16 x3_13 x5_14 g15 h
        refine eg_iload 3 dX2_mirrors_38 rfl ?_
        refine eg_aload_n 0 dX2_mirrors_40 rfl rfl ?_
        refine em_gets 6 rfl q1148 dX2_mirrors_41 hi ?_
        refine eg_icmp_ge dX2_mirrors_44 (fun c27 => ?_) (fun c27 => ?_)
        · replace h := h.1 c27
          exact eg_sub [0, 1, 2] rfl (hk12 x3_13 g15 h)
        · replace h := h.2 c27
          refine eg_aload_n 0 dX2_mirrors_47 rfl rfl ?_
          refine eg_aload_n 0 dX2_mirrors_48 rfl rfl ?_
          refine em_geta 11 rfl q1153 dX2_mirrors_49 hi ?_
          refine eg_iconst dX2_mirrors_52 kc_4 ?_
          refine eg_iload 2 dX2_mirrors_53 rfl ?_
          refine eg_imul dX2_mirrors_55 ?_
          refine eg_iload 3 dX2_mirrors_56 rfl ?_
          refine eg_iadd dX2_mirrors_58 ?_
          obtain ⟨hb, h⟩ := h
          refine em_iald 11 rfl hb dX2_mirrors_59 hi (fun v17 ev17 => ?_)
          replace h := h v17 ev17
          refine eg_aload_n 0 dX2_mirrors_60 rfl rfl ?_
          refine eg_iload 2 dX2_mirrors_61 rfl ?_
          refine em_cvp (rest := [.int v17, .ref (ad 0)]) (ctX2_inverseOf hi h) hi (lw_V q1357 q1359 qs50 q77 q1360) rfl nX2_inverseOf ⟨Nat.le_of_ble_eq_true rfl, Nat.le_of_ble_eq_true rfl⟩ ⟨rfl, rfl⟩ ⟨Nat.zero_le _, Nat.zero_le _⟩ rfl rfl (Nat.le_of_ble_eq_true rfl) dX2_mirrors_63 (fun v18 h => ?_)
          refine em_cvp (rest := []) (ctX2_productOf hi h) hi (lw_V q1349 q1351 qs49 q77 q1352) rfl nX2_productOf ⟨Nat.le_of_ble_eq_true rfl, Nat.le_of_ble_eq_true rfl⟩ ⟨rfl, rfl⟩ ⟨Nat.zero_le _, Nat.zero_le _⟩ rfl rfl (Nat.le_of_ble_eq_true rfl) dX2_mirrors_66 (fun v20 h => ?_)
          refine eg_istore (lv' := [(6, .int v20), (0, .ref (ad 0)), (3, .int x3_13), (4, .int x4_7), (5, .int x5_14)]) dX2_mirrors_69 (Nat.le_of_ble_eq_true rfl) rfl ?_
          refine eg_iload_n 2 dX2_mirrors_71 rfl rfl ?_
          refine eg_aload_n 1 dX2_mirrors_72 rfl rfl ?_
          refine em_geta 23 rfl q1165 dX2_mirrors_73 hi ?_
          refine eg_iload 0 dX2_mirrors_76 rfl ?_
          obtain ⟨hb, h⟩ := h
          refine em_zald 23 rfl hb dX2_mirrors_78 hi (fun v22 ev22 => ?_)
          replace h := h v22 ev22
          refine eb_jp1_e (J := fun (s23 : Int32) => eb_G l Γ P X cX2_mirrors RX2 7 (some .int) rmX2_mirrors 87 [(0, .ref (ad 0)), (4, .int x4_7), (5, .int x5_14), (6, .int v20)] [.int s23, .int x3_13] (ms_st Γ ad ix g15) 0 0) h ?_ ?_
          · intro s23 h
            refine eg_iadd dX2_mirrors_87 ?_
            refine eg_istore_n (lv' := [(3, .int (x3_13 + s23)), (0, .ref (ad 0)), (4, .int x4_7), (5, .int x5_14), (6, .int v20)]) dX2_mirrors_88 rfl (Nat.le_of_ble_eq_true rfl) rfl ?_
            refine eg_aload_n 1 dX2_mirrors_89 rfl rfl ?_
            refine em_geta 23 rfl q1165 dX2_mirrors_90 hi ?_
            refine eg_iload 4 dX2_mirrors_93 rfl ?_
            refine eg_iconst dX2_mirrors_95 kc_1 ?_
            obtain ⟨hb, h⟩ := h
            refine em_zast 23 rfl hb dX2_mirrors_96 hi (fun g24 eg24 => ?_)
            replace h := h g24 eg24
            refine eg_iinc (j := 3) (lv' := [(5, .int (x5_14 + 1)), (3, .int (x3_13 + s23)), (0, .ref (ad 0)), (4, .int x4_7), (6, .int v20)]) dX2_mirrors_97 rfl (by rw [kc_1]) (Nat.le_of_ble_eq_true rfl) rfl ?_
            refine eg_goto dX2_mirrors_100 ?_
            exact eg_sub [2, 1, 3, 0] rfl (hr16 (x3_13 + s23) (x5_14 + 1) g24 h)
          · intro k25 hk25 h
            refine eg_if_eq dX2_mirrors_79 (fun c26 => ?_) (fun c26 => ?_)
            · replace h := h.1 c26
              refine eg_iconst dX2_mirrors_86 kc_1 ?_
              exact eg_sub [1, 3, 4, 0] rfl (hk25 1 h)
            · replace h := h.2 c26
              refine eg_iconst dX2_mirrors_82 kc_0 ?_
              refine eg_goto dX2_mirrors_83 ?_
              exact eg_sub [1, 3, 4, 0] rfl (hk25 0 h)
  · replace h := h.2 c29
    refine eg_iload_n 0 dX2_mirrors_15 rfl rfl ?_
    exact eg_iret dX2_mirrors_16 (Nat.zero_le _) (Nat.zero_le _) (hP _ _ ⟨_, _, rfl, rfl, h⟩)
def MX2_isKind (σ : eb_MS) (a1 : Int32) (a2 : Int32) (K : Int32 → Prop) : Prop :=
  eb_rd (σ.2.1 1) 4 a1 (fun v1 => MX2_in a2 0 (((eb_shl 1 v1) - 1)) (fun v2 => eb_br (v2 = 0) (K 0) (eb_rd (σ.2.1 3) 4 a1 (fun v4 => eb_jp1 (fun (x3_5 : Int32) => eb_br (x3_5 = a2) (K 1) (K 0)) (fun k7 => eb_loop2 (fun r10 (x3_8 : Int32) (x4_9 : Int32) => eb_br (x3_8 = x4_9) (k7 x3_8) (eb_jp1 (fun (x3_11 : Int32) => r10 x3_11 x3_8) (fun k12 => eb_loop2 (fun r15 (x3_13 : Int32) (x5_14 : Int32) => eb_br (4 ≤ x5_14) (k12 x3_13) (eb_jp1 (fun (s16 : Int32) => r15 (x3_13 ||| s16) (x5_14 + 1)) (fun k17 => eb_br (((eb_shr x3_8 x5_14) &&& 1) = 1) (MX2_joinedTo σ a1 x5_14 (fun v18 => k17 (v18 &&& a2))) (k17 0)))) x3_8 0))) (a2 &&& v4) (-1))))))
abbrev rmX2_isKind : Room := { frames := 3, cells := 0, slots := 0, locals := 59 }
theorem nX2_isKind : eb_ar yX2_isKind 2 := by decide +kernel
theorem dX2_isKind_0 : eb_dc cX2_isKind 0 (.iload_n 2) 1 1 := by decide +kernel
theorem dX2_isKind_1 : eb_dc cX2_isKind 1 (.iconst 0) 1 2 := by decide +kernel
theorem dX2_isKind_2 : eb_dc cX2_isKind 2 (.iconst 1) 1 3 := by decide +kernel
theorem dX2_isKind_3 : eb_dc cX2_isKind 3 (.aload_n 0) 1 4 := by decide +kernel
theorem dX2_isKind_4 : eb_dc cX2_isKind 4 (.getfield 7) 3 7 := by decide +kernel
theorem dX2_isKind_7 : eb_dc cX2_isKind 7 (.iload_n 1) 1 8 := by decide +kernel
theorem dX2_isKind_8 : eb_dc cX2_isKind 8 (.iaload) 1 9 := by decide +kernel
theorem dX2_isKind_9 : eb_dc cX2_isKind 9 (.ishl) 1 10 := by decide +kernel
theorem dX2_isKind_10 : eb_dc cX2_isKind 10 (.iconst 1) 1 11 := by decide +kernel
theorem dX2_isKind_11 : eb_dc cX2_isKind 11 (.isub) 1 12 := by decide +kernel
theorem dX2_isKind_12 : eb_dc cX2_isKind 12 (.invokestatic 109) 3 15 := by decide +kernel
theorem dX2_isKind_15 : eb_dj cX2_isKind 15 (.ifCond .ne 5) 5 18 20 := by decide +kernel
theorem dX2_isKind_18 : eb_dc cX2_isKind 18 (.iconst 0) 1 19 := by decide +kernel
theorem dX2_isKind_19 : eb_dc cX2_isKind 19 (.ireturn) 1 20 := by decide +kernel
theorem dX2_isKind_20 : eb_dc cX2_isKind 20 (.iload_n 2) 1 21 := by decide +kernel
theorem dX2_isKind_21 : eb_dc cX2_isKind 21 (.aload_n 0) 1 22 := by decide +kernel
theorem dX2_isKind_22 : eb_dc cX2_isKind 22 (.getfield 16) 3 25 := by decide +kernel
theorem dX2_isKind_25 : eb_dc cX2_isKind 25 (.iload_n 1) 1 26 := by decide +kernel
theorem dX2_isKind_26 : eb_dc cX2_isKind 26 (.iaload) 1 27 := by decide +kernel
theorem dX2_isKind_27 : eb_dc cX2_isKind 27 (.iand) 1 28 := by decide +kernel
theorem dX2_isKind_28 : eb_dc cX2_isKind 28 (.istore_n 3) 1 29 := by decide +kernel
theorem dX2_isKind_29 : eb_dc cX2_isKind 29 (.iconst (-1)) 1 30 := by decide +kernel
theorem dX2_isKind_30 : eb_dc cX2_isKind 30 (.istore 4) 2 32 := by decide +kernel
theorem dX2_isKind_32 : eb_dc cX2_isKind 32 (.iload_n 3) 1 33 := by decide +kernel
theorem dX2_isKind_33 : eb_dc cX2_isKind 33 (.iload 4) 2 35 := by decide +kernel
theorem dX2_isKind_35 : eb_dj cX2_isKind 35 (.if_icmp .eq 51) 51 38 86 := by decide +kernel
theorem dX2_isKind_38 : eb_dc cX2_isKind 38 (.iload_n 3) 1 39 := by decide +kernel
theorem dX2_isKind_39 : eb_dc cX2_isKind 39 (.istore 4) 2 41 := by decide +kernel
theorem dX2_isKind_41 : eb_dc cX2_isKind 41 (.iconst 0) 1 42 := by decide +kernel
theorem dX2_isKind_42 : eb_dc cX2_isKind 42 (.istore 5) 2 44 := by decide +kernel
theorem dX2_isKind_44 : eb_dc cX2_isKind 44 (.iload 5) 2 46 := by decide +kernel
theorem dX2_isKind_46 : eb_dc cX2_isKind 46 (.iconst 4) 1 47 := by decide +kernel
theorem dX2_isKind_47 : eb_dj cX2_isKind 47 (.if_icmp .ge 36) 36 50 83 := by decide +kernel
theorem dX2_isKind_50 : eb_dc cX2_isKind 50 (.iload_n 3) 1 51 := by decide +kernel
theorem dX2_isKind_51 : eb_dc cX2_isKind 51 (.iload 4) 2 53 := by decide +kernel
theorem dX2_isKind_53 : eb_dc cX2_isKind 53 (.iload 5) 2 55 := by decide +kernel
theorem dX2_isKind_55 : eb_dc cX2_isKind 55 (.ishr) 1 56 := by decide +kernel
theorem dX2_isKind_56 : eb_dc cX2_isKind 56 (.iconst 1) 1 57 := by decide +kernel
theorem dX2_isKind_57 : eb_dc cX2_isKind 57 (.iand) 1 58 := by decide +kernel
theorem dX2_isKind_58 : eb_dc cX2_isKind 58 (.iconst 1) 1 59 := by decide +kernel
theorem dX2_isKind_59 : eb_dj cX2_isKind 59 (.if_icmp .ne 15) 15 62 74 := by decide +kernel
theorem dX2_isKind_62 : eb_dc cX2_isKind 62 (.aload_n 0) 1 63 := by decide +kernel
theorem dX2_isKind_63 : eb_dc cX2_isKind 63 (.iload_n 1) 1 64 := by decide +kernel
theorem dX2_isKind_64 : eb_dc cX2_isKind 64 (.iload 5) 2 66 := by decide +kernel
theorem dX2_isKind_66 : eb_dc cX2_isKind 66 (.invokevirtual 125) 3 69 := by decide +kernel
theorem dX2_isKind_69 : eb_dc cX2_isKind 69 (.iload_n 2) 1 70 := by decide +kernel
theorem dX2_isKind_70 : eb_dc cX2_isKind 70 (.iand) 1 71 := by decide +kernel
theorem dX2_isKind_71 : eb_dj cX2_isKind 71 (.goto 4) 4 74 75 := by decide +kernel
theorem dX2_isKind_74 : eb_dc cX2_isKind 74 (.iconst 0) 1 75 := by decide +kernel
theorem dX2_isKind_75 : eb_dc cX2_isKind 75 (.ior) 1 76 := by decide +kernel
theorem dX2_isKind_76 : eb_dc cX2_isKind 76 (.istore_n 3) 1 77 := by decide +kernel
theorem dX2_isKind_77 : eb_dc cX2_isKind 77 (.iinc 5 1) 3 80 := by decide +kernel
theorem dX2_isKind_80 : eb_dj cX2_isKind 80 (.goto (-36)) (-36) 83 44 := by decide +kernel
theorem dX2_isKind_83 : eb_dj cX2_isKind 83 (.goto (-51)) (-51) 86 32 := by decide +kernel
theorem dX2_isKind_86 : eb_dc cX2_isKind 86 (.iload_n 3) 1 87 := by decide +kernel
theorem dX2_isKind_87 : eb_dc cX2_isKind 87 (.iload_n 2) 1 88 := by decide +kernel
theorem dX2_isKind_88 : eb_dj cX2_isKind 88 (.if_icmp .ne 7) 7 91 95 := by decide +kernel
theorem dX2_isKind_91 : eb_dc cX2_isKind 91 (.iconst 1) 1 92 := by decide +kernel
theorem dX2_isKind_92 : eb_dj cX2_isKind 92 (.goto 4) 4 95 96 := by decide +kernel
theorem dX2_isKind_95 : eb_dc cX2_isKind 95 (.iconst 0) 1 96 := by decide +kernel
theorem dX2_isKind_96 : eb_dc cX2_isKind 96 (.ireturn) 1 97 := by decide +kernel
theorem ctX2_isKind {l : Launch} {Γ : eb_C} {ad : Nat → Nat} {ix : Nat → Option Nat} {σ : eb_MS} {a1 : Int32} {a2 : Int32} {K : Int32 → Prop} (hi : ms_inv ad ix) (h : MX2_isKind σ a1 a2 K) : eb_Ct l Γ yX2_isKind cX2_isKind 6 (some .boolean) rmX2_isKind [.ref (ad 0), .int a1, .int a2] (ms_st Γ ad ix σ) (eb_pI (ms_st Γ ad ix σ) K) := by
  refine eb_of (by decide) (Nat.le_of_ble_eq_true rfl) (fun X P hP _ => ?_)
  show eb_G l Γ P X cX2_isKind RX2 6 (some .boolean) rmX2_isKind 0 [(0, .ref (ad 0)), (1, .int a1), (2, .int a2)] [] (ms_st Γ ad ix σ) 0 0
  refine eg_iload_n 2 dX2_isKind_0 rfl rfl ?_
  refine eg_iconst dX2_isKind_1 kc_0 ?_
  refine eg_iconst dX2_isKind_2 kc_1 ?_
  refine eg_aload_n 0 dX2_isKind_3 rfl rfl ?_
  refine em_geta 1 rfl q1143 dX2_isKind_4 hi ?_
  refine eg_iload_n 1 dX2_isKind_7 rfl rfl ?_
  obtain ⟨hb, h⟩ := h
  refine em_iald 1 rfl hb dX2_isKind_8 hi (fun v1 ev1 => ?_)
  replace h := h v1 ev1
  refine eg_ishl dX2_isKind_9 ?_
  refine eg_iconst dX2_isKind_10 kc_1 ?_
  refine eg_isub dX2_isKind_11 ?_
  refine eg_csp (rest := []) (ctX2_in h) (lw_S q1255 q1256 q77 q1257) nX2_in ⟨Nat.le_of_ble_eq_true rfl, Nat.le_of_ble_eq_true rfl⟩ ⟨rfl, rfl⟩ ⟨Nat.zero_le _, Nat.zero_le _⟩ rfl rfl (Nat.le_of_ble_eq_true rfl) dX2_isKind_12 (fun v2 h => ?_)
  refine eg_if_ne dX2_isKind_15 (fun c23 => ?_) (fun c23 => ?_)
  · replace h := h.2 c23
    refine eg_iload_n 2 dX2_isKind_20 rfl rfl ?_
    refine eg_aload_n 0 dX2_isKind_21 rfl rfl ?_
    refine em_geta 3 rfl q1145 dX2_isKind_22 hi ?_
    refine eg_iload_n 1 dX2_isKind_25 rfl rfl ?_
    obtain ⟨hb, h⟩ := h
    refine em_iald 3 rfl hb dX2_isKind_26 hi (fun v4 ev4 => ?_)
    replace h := h v4 ev4
    refine eg_iand dX2_isKind_27 ?_
    refine eg_istore_n (lv' := [(3, .int (a2 &&& v4)), (0, .ref (ad 0)), (1, .int a1), (2, .int a2)]) dX2_isKind_28 rfl (Nat.le_of_ble_eq_true rfl) rfl ?_
    refine eg_iconst dX2_isKind_29 kc_m1 ?_
    refine eg_istore (lv' := [(4, .int (-1)), (3, .int (a2 &&& v4)), (0, .ref (ad 0)), (1, .int a1), (2, .int a2)]) dX2_isKind_30 (Nat.le_of_ble_eq_true rfl) rfl ?_
    refine eb_jp1_e (J := fun (x3_5 : Int32) => eb_G l Γ P X cX2_isKind RX2 6 (some .boolean) rmX2_isKind 86 [(2, .int a2), (3, .int x3_5)] [] (ms_st Γ ad ix σ) 0 0) h ?_ ?_
    · intro x3_5 h
      refine eg_iload_n 1 dX2_isKind_86 rfl rfl ?_
      refine eg_iload_n 0 dX2_isKind_87 rfl rfl ?_
      refine eg_icmp_ne dX2_isKind_88 (fun c6 => ?_) (fun c6 => ?_)
      · replace h := h.2 c6
        refine eg_iconst dX2_isKind_95 kc_0 ?_
        exact eg_zret dX2_isKind_96 rfl (Nat.zero_le _) (Nat.zero_le _) (hP _ _ ⟨_, rfl, rfl, h⟩)
      · replace h := h.1 c6
        refine eg_iconst dX2_isKind_91 kc_1 ?_
        refine eg_goto dX2_isKind_92 ?_
        exact eg_zret dX2_isKind_96 rfl (Nat.zero_le _) (Nat.zero_le _) (hP _ _ ⟨_, rfl, rfl, h⟩)
    · intro k7 hk7 h
      refine eg_sub [2, 3, 4, 1, 0] rfl ?_
      refine eb_loop2_e (J := fun (x3_8 : Int32) (x4_9 : Int32) => eb_G l Γ P X cX2_isKind RX2 6 (some .boolean) rmX2_isKind 32 [(0, .ref (ad 0)), (1, .int a1), (2, .int a2), (3, .int x3_8), (4, .int x4_9)] [] (ms_st Γ ad ix σ) 0 0) h ?_
      intro r10 hr10 x3_8 x4_9 h
      refine eg_iload_n 3 dX2_isKind_32 rfl rfl ?_
      refine eg_iload 4 dX2_isKind_33 rfl ?_
      refine eg_icmp_eq dX2_isKind_35 (fun c22 => ?_) (fun c22 => ?_)
      · replace h := h.1 c22
        exact eg_sub [2, 3] rfl (hk7 x3_8 h)
      · replace h := h.2 c22
        refine eg_iload_n 3 dX2_isKind_38 rfl rfl ?_
        refine eg_istore (lv' := [(4, .int x3_8), (0, .ref (ad 0)), (1, .int a1), (2, .int a2), (3, .int x3_8)]) dX2_isKind_39 (Nat.le_of_ble_eq_true rfl) rfl ?_
        refine eg_iconst dX2_isKind_41 kc_0 ?_
        refine eg_istore (lv' := [(5, .int 0), (4, .int x3_8), (0, .ref (ad 0)), (1, .int a1), (2, .int a2), (3, .int x3_8)]) dX2_isKind_42 (Nat.le_of_ble_eq_true rfl) rfl ?_
        refine eb_jp1_e (J := fun (x3_11 : Int32) => eb_G l Γ P X cX2_isKind RX2 6 (some .boolean) rmX2_isKind 83 [(0, .ref (ad 0)), (1, .int a1), (2, .int a2), (3, .int x3_11), (4, .int x3_8)] [] (ms_st Γ ad ix σ) 0 0) h ?_ ?_
        · intro x3_11 h
          refine eg_goto dX2_isKind_83 ?_
          exact hr10 x3_11 x3_8 h
        · intro k12 hk12 h
          refine eg_sub [2, 3, 4, 5, 1, 0] rfl ?_
          refine eb_loop2_e (J := fun (x3_13 : Int32) (x5_14 : Int32) => eb_G l Γ P X cX2_isKind RX2 6 (some .boolean) rmX2_isKind 44 [(0, .ref (ad 0)), (1, .int a1), (2, .int a2), (3, .int x3_13), (4, .int x3_8), (5, .int x5_14)] [] (ms_st Γ ad ix σ) 0 0) h ?_
          intro r15 hr15 x3_13 x5_14 h
          refine eg_iload 5 dX2_isKind_44 rfl ?_
          refine eg_iconst dX2_isKind_46 kc_4 ?_
          refine eg_icmp_ge dX2_isKind_47 (fun c21 => ?_) (fun c21 => ?_)
          · replace h := h.1 c21
            exact eg_sub [0, 1, 2, 3, 4] rfl (hk12 x3_13 h)
          · replace h := h.2 c21
            refine eg_iload_n 3 dX2_isKind_50 rfl rfl ?_
            refine eg_iload 4 dX2_isKind_51 rfl ?_
            refine eg_iload 5 dX2_isKind_53 rfl ?_
            refine eg_ishr dX2_isKind_55 ?_
            refine eg_iconst dX2_isKind_56 kc_1 ?_
            refine eg_iand dX2_isKind_57 ?_
            refine eg_iconst dX2_isKind_58 kc_1 ?_
            refine eb_jp1_e (J := fun (s16 : Int32) => eb_G l Γ P X cX2_isKind RX2 6 (some .boolean) rmX2_isKind 75 [(0, .ref (ad 0)), (1, .int a1), (2, .int a2), (4, .int x3_8), (5, .int x5_14)] [.int s16, .int x3_13] (ms_st Γ ad ix σ) 0 0) h ?_ ?_
            · intro s16 h
              refine eg_ior dX2_isKind_75 ?_
              refine eg_istore_n (lv' := [(3, .int (x3_13 ||| s16)), (0, .ref (ad 0)), (1, .int a1), (2, .int a2), (4, .int x3_8), (5, .int x5_14)]) dX2_isKind_76 rfl (Nat.le_of_ble_eq_true rfl) rfl ?_
              refine eg_iinc (j := 5) (lv' := [(5, .int (x5_14 + 1)), (3, .int (x3_13 ||| s16)), (0, .ref (ad 0)), (1, .int a1), (2, .int a2), (4, .int x3_8)]) dX2_isKind_77 rfl (by rw [kc_1]) (Nat.le_of_ble_eq_true rfl) rfl ?_
              refine eg_goto dX2_isKind_80 ?_
              exact eg_sub [2, 3, 4, 1, 5, 0] rfl (hr15 (x3_13 ||| s16) (x5_14 + 1) h)
            · intro k17 hk17 h
              refine eg_icmp_ne dX2_isKind_59 (fun c20 => ?_) (fun c20 => ?_)
              · replace h := h.2 c20
                refine eg_iconst dX2_isKind_74 kc_0 ?_
                exact eg_sub [0, 1, 2, 4, 5] rfl (hk17 0 h)
              · replace h := h.1 c20
                refine eg_aload_n 0 dX2_isKind_62 rfl rfl ?_
                refine eg_iload_n 1 dX2_isKind_63 rfl rfl ?_
                refine eg_iload 5 dX2_isKind_64 rfl ?_
                refine em_cvp (rest := [.int x3_13]) (ctX2_joinedTo hi h) hi (lw_V q1282 q1284 qs38 q77 q1285) rfl nX2_joinedTo ⟨Nat.le_of_ble_eq_true rfl, Nat.le_of_ble_eq_true rfl⟩ ⟨rfl, rfl⟩ ⟨Nat.zero_le _, Nat.zero_le _⟩ rfl rfl (Nat.le_of_ble_eq_true rfl) dX2_isKind_66 (fun v18 h => ?_)
                refine eg_iload_n 2 dX2_isKind_69 rfl rfl ?_
                refine eg_iand dX2_isKind_70 ?_
                refine eg_goto dX2_isKind_71 ?_
                exact eg_sub [0, 1, 2, 4, 5] rfl (hk17 (v18 &&& a2) h)
  · replace h := h.1 c23
    refine eg_iconst dX2_isKind_18 kc_0 ?_
    exact eg_zret dX2_isKind_19 rfl (Nat.zero_le _) (Nat.zero_le _) (hP _ _ ⟨_, rfl, rfl, h⟩)
def MX2_kinds (σ : eb_MS) (a1 : Int32) (a2 : Int32) (K : Int32 → eb_MS → Prop) : Prop :=
  ms_ws σ 0 0 (fun g1 => MX2_isBody a1 (fun v2 => eb_br (v2 = 0) (K (-2) g1) (eb_rd (g1.2.1 1) 4 a1 (fun v4 => MX2_in a2 0 v4 (fun v5 => eb_br (v5 = 0) (K (-2) g1) (eb_loop2 (fun r9 (x3_7 : Int32) (x4_8 : Int32) => eb_br (16 ≤ x4_8) (K x3_7 g1) (MX2_bits x4_8 (fun v10 => eb_jp1 (fun (s12 : Int32) => r9 (x3_7 + s12) (x4_8 + 1)) (fun k13 => eb_br (v10 = a2) (MX2_isKind g1 a1 x4_8 (fun v14 => eb_br (v14 = 0) (k13 0) (k13 1))) (k13 0))))) 0 0))))))
abbrev rmX2_kinds : Room := { frames := 4, cells := 0, slots := 0, locals := 84 }
theorem nX2_kinds : eb_ar yX2_kinds 2 := by decide +kernel
theorem dX2_kinds_0 : eb_dc cX2_kinds 0 (.aload_n 0) 1 1 := by decide +kernel
theorem dX2_kinds_1 : eb_dc cX2_kinds 1 (.iconst 0) 1 2 := by decide +kernel
theorem dX2_kinds_2 : eb_dc cX2_kinds 2 (.putfield 106) 3 5 := by decide +kernel
theorem dX2_kinds_5 : eb_dc cX2_kinds 5 (.iload_n 1) 1 6 := by decide +kernel
theorem dX2_kinds_6 : eb_dc cX2_kinds 6 (.invokestatic 113) 3 9 := by decide +kernel
theorem dX2_kinds_9 : eb_dj cX2_kinds 9 (.ifCond .eq 17) 17 12 26 := by decide +kernel
theorem dX2_kinds_12 : eb_dc cX2_kinds 12 (.iload_n 2) 1 13 := by decide +kernel
theorem dX2_kinds_13 : eb_dc cX2_kinds 13 (.iconst 0) 1 14 := by decide +kernel
theorem dX2_kinds_14 : eb_dc cX2_kinds 14 (.aload_n 0) 1 15 := by decide +kernel
theorem dX2_kinds_15 : eb_dc cX2_kinds 15 (.getfield 7) 3 18 := by decide +kernel
theorem dX2_kinds_18 : eb_dc cX2_kinds 18 (.iload_n 1) 1 19 := by decide +kernel
theorem dX2_kinds_19 : eb_dc cX2_kinds 19 (.iaload) 1 20 := by decide +kernel
theorem dX2_kinds_20 : eb_dc cX2_kinds 20 (.invokestatic 109) 3 23 := by decide +kernel
theorem dX2_kinds_23 : eb_dj cX2_kinds 23 (.ifCond .ne 6) 6 26 29 := by decide +kernel
theorem dX2_kinds_26 : eb_dc cX2_kinds 26 (.bipush (-2)) 2 28 := by decide +kernel
theorem dX2_kinds_28 : eb_dc cX2_kinds 28 (.ireturn) 1 29 := by decide +kernel
theorem dX2_kinds_29 : eb_dc cX2_kinds 29 (.iconst 0) 1 30 := by decide +kernel
theorem dX2_kinds_30 : eb_dc cX2_kinds 30 (.istore_n 3) 1 31 := by decide +kernel
theorem dX2_kinds_31 : eb_dc cX2_kinds 31 (.iconst 0) 1 32 := by decide +kernel
theorem dX2_kinds_32 : eb_dc cX2_kinds 32 (.istore 4) 2 34 := by decide +kernel
theorem dX2_kinds_34 : eb_dc cX2_kinds 34 (.iload 4) 2 36 := by decide +kernel
theorem dX2_kinds_36 : eb_dc cX2_kinds 36 (.bipush 16) 2 38 := by decide +kernel
theorem dX2_kinds_38 : eb_dj cX2_kinds 38 (.if_icmp .ge 36) 36 41 74 := by decide +kernel
theorem dX2_kinds_41 : eb_dc cX2_kinds 41 (.iload_n 3) 1 42 := by decide +kernel
theorem dX2_kinds_42 : eb_dc cX2_kinds 42 (.iload 4) 2 44 := by decide +kernel
theorem dX2_kinds_44 : eb_dc cX2_kinds 44 (.invokestatic 129) 3 47 := by decide +kernel
theorem dX2_kinds_47 : eb_dc cX2_kinds 47 (.iload_n 2) 1 48 := by decide +kernel
theorem dX2_kinds_48 : eb_dj cX2_kinds 48 (.if_icmp .ne 17) 17 51 65 := by decide +kernel
theorem dX2_kinds_51 : eb_dc cX2_kinds 51 (.aload_n 0) 1 52 := by decide +kernel
theorem dX2_kinds_52 : eb_dc cX2_kinds 52 (.iload_n 1) 1 53 := by decide +kernel
theorem dX2_kinds_53 : eb_dc cX2_kinds 53 (.iload 4) 2 55 := by decide +kernel
theorem dX2_kinds_55 : eb_dc cX2_kinds 55 (.invokevirtual 188) 3 58 := by decide +kernel
theorem dX2_kinds_58 : eb_dj cX2_kinds 58 (.ifCond .eq 7) 7 61 65 := by decide +kernel
theorem dX2_kinds_61 : eb_dc cX2_kinds 61 (.iconst 1) 1 62 := by decide +kernel
theorem dX2_kinds_62 : eb_dj cX2_kinds 62 (.goto 4) 4 65 66 := by decide +kernel
theorem dX2_kinds_65 : eb_dc cX2_kinds 65 (.iconst 0) 1 66 := by decide +kernel
theorem dX2_kinds_66 : eb_dc cX2_kinds 66 (.iadd) 1 67 := by decide +kernel
theorem dX2_kinds_67 : eb_dc cX2_kinds 67 (.istore_n 3) 1 68 := by decide +kernel
theorem dX2_kinds_68 : eb_dc cX2_kinds 68 (.iinc 4 1) 3 71 := by decide +kernel
theorem dX2_kinds_71 : eb_dj cX2_kinds 71 (.goto (-37)) (-37) 74 34 := by decide +kernel
theorem dX2_kinds_74 : eb_dc cX2_kinds 74 (.iload_n 3) 1 75 := by decide +kernel
theorem dX2_kinds_75 : eb_dc cX2_kinds 75 (.ireturn) 1 76 := by decide +kernel
theorem ctX2_kinds {l : Launch} {Γ : eb_C} {ad : Nat → Nat} {ix : Nat → Option Nat} {σ : eb_MS} {a1 : Int32} {a2 : Int32} {K : Int32 → eb_MS → Prop} (hi : ms_inv ad ix) (h : MX2_kinds σ a1 a2 K) : eb_Ct l Γ yX2_kinds cX2_kinds 5 (some .int) rmX2_kinds [.ref (ad 0), .int a1, .int a2] (ms_st Γ ad ix σ) (em_I Γ ad ix K) := by
  refine eb_of (by decide) (Nat.le_of_ble_eq_true rfl) (fun X P hP _ => ?_)
  show eb_G l Γ P X cX2_kinds RX2 5 (some .int) rmX2_kinds 0 [(0, .ref (ad 0)), (1, .int a1), (2, .int a2)] [] (ms_st Γ ad ix σ) 0 0
  refine eg_aload_n 0 dX2_kinds_0 rfl rfl ?_
  refine eg_iconst dX2_kinds_1 kc_0 ?_
  refine em_puts 0 rfl q1142 dX2_kinds_2 hi (fun g1 eg1 => ?_)
  replace h := h g1 eg1
  refine eg_iload_n 1 dX2_kinds_5 rfl rfl ?_
  refine eg_csp (rest := []) (ctX2_isBody h) (lw_S q1252 q1253 q77 q1254) nX2_isBody ⟨Nat.le_of_ble_eq_true rfl, Nat.le_of_ble_eq_true rfl⟩ ⟨rfl, rfl⟩ ⟨Nat.zero_le _, Nat.zero_le _⟩ rfl rfl (Nat.le_of_ble_eq_true rfl) dX2_kinds_6 (fun v2 h => ?_)
  refine eg_if_eq dX2_kinds_9 (fun c20 => ?_) (fun c20 => ?_)
  · replace h := h.1 c20
    refine eg_bipush dX2_kinds_26 kb_m2 ?_
    exact eg_iret dX2_kinds_28 (Nat.zero_le _) (Nat.zero_le _) (hP _ _ ⟨_, _, rfl, rfl, h⟩)
  · replace h := h.2 c20
    refine eg_iload_n 2 dX2_kinds_12 rfl rfl ?_
    refine eg_iconst dX2_kinds_13 kc_0 ?_
    refine eg_aload_n 0 dX2_kinds_14 rfl rfl ?_
    refine em_geta 1 rfl q1143 dX2_kinds_15 hi ?_
    refine eg_iload_n 1 dX2_kinds_18 rfl rfl ?_
    obtain ⟨hb, h⟩ := h
    refine em_iald 1 rfl hb dX2_kinds_19 hi (fun v4 ev4 => ?_)
    replace h := h v4 ev4
    refine eg_csp (rest := []) (ctX2_in h) (lw_S q1255 q1256 q77 q1257) nX2_in ⟨Nat.le_of_ble_eq_true rfl, Nat.le_of_ble_eq_true rfl⟩ ⟨rfl, rfl⟩ ⟨Nat.zero_le _, Nat.zero_le _⟩ rfl rfl (Nat.le_of_ble_eq_true rfl) dX2_kinds_20 (fun v5 h => ?_)
    refine eg_if_ne dX2_kinds_23 (fun c19 => ?_) (fun c19 => ?_)
    · replace h := h.2 c19
      refine eg_iconst dX2_kinds_29 kc_0 ?_
      refine eg_istore_n (lv' := [(3, .int 0), (0, .ref (ad 0)), (1, .int a1), (2, .int a2)]) dX2_kinds_30 rfl (Nat.le_of_ble_eq_true rfl) rfl ?_
      refine eg_iconst dX2_kinds_31 kc_0 ?_
      refine eg_istore (lv' := [(4, .int 0), (3, .int 0), (0, .ref (ad 0)), (1, .int a1), (2, .int a2)]) dX2_kinds_32 (Nat.le_of_ble_eq_true rfl) rfl ?_
      refine eg_sub [2, 3, 4, 1, 0] rfl ?_
      refine eb_loop2_e (J := fun (x3_7 : Int32) (x4_8 : Int32) => eb_G l Γ P X cX2_kinds RX2 5 (some .int) rmX2_kinds 34 [(0, .ref (ad 0)), (1, .int a1), (2, .int a2), (3, .int x3_7), (4, .int x4_8)] [] (ms_st Γ ad ix g1) 0 0) h ?_
      intro r9 hr9 x3_7 x4_8 h
      refine eg_iload 4 dX2_kinds_34 rfl ?_
      refine eg_bipush dX2_kinds_36 kb_16 ?_
      refine eg_icmp_ge dX2_kinds_38 (fun c18 => ?_) (fun c18 => ?_)
      · replace h := h.1 c18
        refine eg_iload_n 3 dX2_kinds_74 rfl rfl ?_
        exact eg_iret dX2_kinds_75 (Nat.zero_le _) (Nat.zero_le _) (hP _ _ ⟨_, _, rfl, rfl, h⟩)
      · replace h := h.2 c18
        refine eg_iload_n 3 dX2_kinds_41 rfl rfl ?_
        refine eg_iload 4 dX2_kinds_42 rfl ?_
        refine eg_csp (rest := [.int x3_7]) (ctX2_bits h) (lw_S q1306 q1307 q77 q1308) nX2_bits ⟨Nat.le_of_ble_eq_true rfl, Nat.le_of_ble_eq_true rfl⟩ ⟨rfl, rfl⟩ ⟨Nat.zero_le _, Nat.zero_le _⟩ rfl rfl (Nat.le_of_ble_eq_true rfl) dX2_kinds_44 (fun v10 h => ?_)
        refine eg_iload_n 2 dX2_kinds_47 rfl rfl ?_
        refine eb_jp1_e (J := fun (s12 : Int32) => eb_G l Γ P X cX2_kinds RX2 5 (some .int) rmX2_kinds 66 [(0, .ref (ad 0)), (1, .int a1), (2, .int a2), (4, .int x4_8)] [.int s12, .int x3_7] (ms_st Γ ad ix g1) 0 0) h ?_ ?_
        · intro s12 h
          refine eg_iadd dX2_kinds_66 ?_
          refine eg_istore_n (lv' := [(3, .int (x3_7 + s12)), (0, .ref (ad 0)), (1, .int a1), (2, .int a2), (4, .int x4_8)]) dX2_kinds_67 rfl (Nat.le_of_ble_eq_true rfl) rfl ?_
          refine eg_iinc (j := 4) (lv' := [(4, .int (x4_8 + 1)), (3, .int (x3_7 + s12)), (0, .ref (ad 0)), (1, .int a1), (2, .int a2)]) dX2_kinds_68 rfl (by rw [kc_1]) (Nat.le_of_ble_eq_true rfl) rfl ?_
          refine eg_goto dX2_kinds_71 ?_
          exact eg_sub [2, 3, 4, 1, 0] rfl (hr9 (x3_7 + s12) (x4_8 + 1) h)
        · intro k13 hk13 h
          refine eg_icmp_ne dX2_kinds_48 (fun c17 => ?_) (fun c17 => ?_)
          · replace h := h.2 c17
            refine eg_iconst dX2_kinds_65 kc_0 ?_
            exact eg_sub [0, 1, 2, 4] rfl (hk13 0 h)
          · replace h := h.1 c17
            refine eg_aload_n 0 dX2_kinds_51 rfl rfl ?_
            refine eg_iload_n 1 dX2_kinds_52 rfl rfl ?_
            refine eg_iload 4 dX2_kinds_53 rfl ?_
            refine em_cvp (rest := [.int x3_7]) (ctX2_isKind hi h) hi (lw_V q1385 q1387 qs52 q77 q1388) rfl nX2_isKind ⟨Nat.le_of_ble_eq_true rfl, Nat.le_of_ble_eq_true rfl⟩ ⟨rfl, rfl⟩ ⟨Nat.zero_le _, Nat.zero_le _⟩ rfl rfl (Nat.le_of_ble_eq_true rfl) dX2_kinds_55 (fun v14 h => ?_)
            refine eg_if_eq dX2_kinds_58 (fun c16 => ?_) (fun c16 => ?_)
            · replace h := h.1 c16
              refine eg_iconst dX2_kinds_65 kc_0 ?_
              exact eg_sub [0, 1, 2, 4] rfl (hk13 0 h)
            · replace h := h.2 c16
              refine eg_iconst dX2_kinds_61 kc_1 ?_
              refine eg_goto dX2_kinds_62 ?_
              exact eg_sub [0, 1, 2, 4] rfl (hk13 1 h)
    · replace h := h.1 c19
      refine eg_bipush dX2_kinds_26 kb_m2 ?_
      exact eg_iret dX2_kinds_28 (Nat.zero_le _) (Nat.zero_le _) (hP _ _ ⟨_, _, rfl, rfl, h⟩)
def MX2_kind (σ : eb_MS) (a1 : Int32) (a2 : Int32) (a3 : Int32) (K : Int32 → eb_MS → Prop) : Prop :=
  ms_ws σ 0 0 (fun g1 => MX2_isBody a1 (fun v2 => eb_br (v2 = 0) (K (-2) g1) (eb_rd (g1.2.1 1) 4 a1 (fun v4 => MX2_in a2 0 v4 (fun v5 => eb_br (v5 = 0) (K (-2) g1) (eb_br (0 ≤ a3) (eb_loop2 (fun r9 (x4_7 : Int32) (x5_8 : Int32) => eb_br (16 ≤ x5_8) (K (-1) g1) (MX2_bits x5_8 (fun v10 => eb_jp1 (fun (x4_12 : Int32) => r9 x4_12 (x5_8 + 1)) (fun k13 => eb_br (v10 = a2) (MX2_isKind g1 a1 x5_8 (fun v14 => eb_br (v14 = 0) (k13 x4_7) (eb_br (x4_7 = a3) (K x5_8 g1) (k13 (x4_7 + 1))))) (k13 x4_7))))) 0 0) (K (-2) g1)))))))
abbrev rmX2_kind : Room := { frames := 4, cells := 0, slots := 0, locals := 84 }
theorem nX2_kind : eb_ar yX2_kind 3 := by decide +kernel
theorem dX2_kind_0 : eb_dc cX2_kind 0 (.aload_n 0) 1 1 := by decide +kernel
theorem dX2_kind_1 : eb_dc cX2_kind 1 (.iconst 0) 1 2 := by decide +kernel
theorem dX2_kind_2 : eb_dc cX2_kind 2 (.putfield 106) 3 5 := by decide +kernel
theorem dX2_kind_5 : eb_dc cX2_kind 5 (.iload_n 1) 1 6 := by decide +kernel
theorem dX2_kind_6 : eb_dc cX2_kind 6 (.invokestatic 113) 3 9 := by decide +kernel
theorem dX2_kind_9 : eb_dj cX2_kind 9 (.ifCond .eq 21) 21 12 30 := by decide +kernel
theorem dX2_kind_12 : eb_dc cX2_kind 12 (.iload_n 2) 1 13 := by decide +kernel
theorem dX2_kind_13 : eb_dc cX2_kind 13 (.iconst 0) 1 14 := by decide +kernel
theorem dX2_kind_14 : eb_dc cX2_kind 14 (.aload_n 0) 1 15 := by decide +kernel
theorem dX2_kind_15 : eb_dc cX2_kind 15 (.getfield 7) 3 18 := by decide +kernel
theorem dX2_kind_18 : eb_dc cX2_kind 18 (.iload_n 1) 1 19 := by decide +kernel
theorem dX2_kind_19 : eb_dc cX2_kind 19 (.iaload) 1 20 := by decide +kernel
theorem dX2_kind_20 : eb_dc cX2_kind 20 (.invokestatic 109) 3 23 := by decide +kernel
theorem dX2_kind_23 : eb_dj cX2_kind 23 (.ifCond .eq 7) 7 26 30 := by decide +kernel
theorem dX2_kind_26 : eb_dc cX2_kind 26 (.iload_n 3) 1 27 := by decide +kernel
theorem dX2_kind_27 : eb_dj cX2_kind 27 (.ifCond .ge 6) 6 30 33 := by decide +kernel
theorem dX2_kind_30 : eb_dc cX2_kind 30 (.bipush (-2)) 2 32 := by decide +kernel
theorem dX2_kind_32 : eb_dc cX2_kind 32 (.ireturn) 1 33 := by decide +kernel
theorem dX2_kind_33 : eb_dc cX2_kind 33 (.iconst 0) 1 34 := by decide +kernel
theorem dX2_kind_34 : eb_dc cX2_kind 34 (.istore 4) 2 36 := by decide +kernel
theorem dX2_kind_36 : eb_dc cX2_kind 36 (.iconst 0) 1 37 := by decide +kernel
theorem dX2_kind_37 : eb_dc cX2_kind 37 (.istore 5) 2 39 := by decide +kernel
theorem dX2_kind_39 : eb_dc cX2_kind 39 (.iload 5) 2 41 := by decide +kernel
theorem dX2_kind_41 : eb_dc cX2_kind 41 (.bipush 16) 2 43 := by decide +kernel
theorem dX2_kind_43 : eb_dj cX2_kind 43 (.if_icmp .ge 40) 40 46 83 := by decide +kernel
theorem dX2_kind_46 : eb_dc cX2_kind 46 (.iload 5) 2 48 := by decide +kernel
theorem dX2_kind_48 : eb_dc cX2_kind 48 (.invokestatic 129) 3 51 := by decide +kernel
theorem dX2_kind_51 : eb_dc cX2_kind 51 (.iload_n 2) 1 52 := by decide +kernel
theorem dX2_kind_52 : eb_dj cX2_kind 52 (.if_icmp .ne 25) 25 55 77 := by decide +kernel
theorem dX2_kind_55 : eb_dc cX2_kind 55 (.aload_n 0) 1 56 := by decide +kernel
theorem dX2_kind_56 : eb_dc cX2_kind 56 (.iload_n 1) 1 57 := by decide +kernel
theorem dX2_kind_57 : eb_dc cX2_kind 57 (.iload 5) 2 59 := by decide +kernel
theorem dX2_kind_59 : eb_dc cX2_kind 59 (.invokevirtual 188) 3 62 := by decide +kernel
theorem dX2_kind_62 : eb_dj cX2_kind 62 (.ifCond .eq 15) 15 65 77 := by decide +kernel
theorem dX2_kind_65 : eb_dc cX2_kind 65 (.iload 4) 2 67 := by decide +kernel
theorem dX2_kind_67 : eb_dc cX2_kind 67 (.iload_n 3) 1 68 := by decide +kernel
theorem dX2_kind_68 : eb_dj cX2_kind 68 (.if_icmp .ne 6) 6 71 74 := by decide +kernel
theorem dX2_kind_71 : eb_dc cX2_kind 71 (.iload 5) 2 73 := by decide +kernel
theorem dX2_kind_73 : eb_dc cX2_kind 73 (.ireturn) 1 74 := by decide +kernel
theorem dX2_kind_74 : eb_dc cX2_kind 74 (.iinc 4 1) 3 77 := by decide +kernel
theorem dX2_kind_77 : eb_dc cX2_kind 77 (.iinc 5 1) 3 80 := by decide +kernel
theorem dX2_kind_80 : eb_dj cX2_kind 80 (.goto (-41)) (-41) 83 39 := by decide +kernel
theorem dX2_kind_83 : eb_dc cX2_kind 83 (.iconst (-1)) 1 84 := by decide +kernel
theorem dX2_kind_84 : eb_dc cX2_kind 84 (.ireturn) 1 85 := by decide +kernel
theorem ctX2_kind {l : Launch} {Γ : eb_C} {ad : Nat → Nat} {ix : Nat → Option Nat} {σ : eb_MS} {a1 : Int32} {a2 : Int32} {a3 : Int32} {K : Int32 → eb_MS → Prop} (hi : ms_inv ad ix) (h : MX2_kind σ a1 a2 a3 K) : eb_Ct l Γ yX2_kind cX2_kind 6 (some .int) rmX2_kind [.ref (ad 0), .int a1, .int a2, .int a3] (ms_st Γ ad ix σ) (em_I Γ ad ix K) := by
  refine eb_of (by decide) (Nat.le_of_ble_eq_true rfl) (fun X P hP _ => ?_)
  show eb_G l Γ P X cX2_kind RX2 6 (some .int) rmX2_kind 0 [(0, .ref (ad 0)), (1, .int a1), (2, .int a2), (3, .int a3)] [] (ms_st Γ ad ix σ) 0 0
  refine eg_aload_n 0 dX2_kind_0 rfl rfl ?_
  refine eg_iconst dX2_kind_1 kc_0 ?_
  refine em_puts 0 rfl q1142 dX2_kind_2 hi (fun g1 eg1 => ?_)
  replace h := h g1 eg1
  refine eg_iload_n 1 dX2_kind_5 rfl rfl ?_
  refine eg_csp (rest := []) (ctX2_isBody h) (lw_S q1252 q1253 q77 q1254) nX2_isBody ⟨Nat.le_of_ble_eq_true rfl, Nat.le_of_ble_eq_true rfl⟩ ⟨rfl, rfl⟩ ⟨Nat.zero_le _, Nat.zero_le _⟩ rfl rfl (Nat.le_of_ble_eq_true rfl) dX2_kind_6 (fun v2 h => ?_)
  refine eg_if_eq dX2_kind_9 (fun c22 => ?_) (fun c22 => ?_)
  · replace h := h.1 c22
    refine eg_bipush dX2_kind_30 kb_m2 ?_
    exact eg_iret dX2_kind_32 (Nat.zero_le _) (Nat.zero_le _) (hP _ _ ⟨_, _, rfl, rfl, h⟩)
  · replace h := h.2 c22
    refine eg_iload_n 2 dX2_kind_12 rfl rfl ?_
    refine eg_iconst dX2_kind_13 kc_0 ?_
    refine eg_aload_n 0 dX2_kind_14 rfl rfl ?_
    refine em_geta 1 rfl q1143 dX2_kind_15 hi ?_
    refine eg_iload_n 1 dX2_kind_18 rfl rfl ?_
    obtain ⟨hb, h⟩ := h
    refine em_iald 1 rfl hb dX2_kind_19 hi (fun v4 ev4 => ?_)
    replace h := h v4 ev4
    refine eg_csp (rest := []) (ctX2_in h) (lw_S q1255 q1256 q77 q1257) nX2_in ⟨Nat.le_of_ble_eq_true rfl, Nat.le_of_ble_eq_true rfl⟩ ⟨rfl, rfl⟩ ⟨Nat.zero_le _, Nat.zero_le _⟩ rfl rfl (Nat.le_of_ble_eq_true rfl) dX2_kind_20 (fun v5 h => ?_)
    refine eg_if_eq dX2_kind_23 (fun c21 => ?_) (fun c21 => ?_)
    · replace h := h.1 c21
      refine eg_bipush dX2_kind_30 kb_m2 ?_
      exact eg_iret dX2_kind_32 (Nat.zero_le _) (Nat.zero_le _) (hP _ _ ⟨_, _, rfl, rfl, h⟩)
    · replace h := h.2 c21
      refine eg_iload_n 3 dX2_kind_26 rfl rfl ?_
      refine eg_if_ge dX2_kind_27 (fun c20 => ?_) (fun c20 => ?_)
      · replace h := h.1 c20
        refine eg_iconst dX2_kind_33 kc_0 ?_
        refine eg_istore (lv' := [(4, .int 0), (0, .ref (ad 0)), (1, .int a1), (2, .int a2), (3, .int a3)]) dX2_kind_34 (Nat.le_of_ble_eq_true rfl) rfl ?_
        refine eg_iconst dX2_kind_36 kc_0 ?_
        refine eg_istore (lv' := [(5, .int 0), (4, .int 0), (0, .ref (ad 0)), (1, .int a1), (2, .int a2), (3, .int a3)]) dX2_kind_37 (Nat.le_of_ble_eq_true rfl) rfl ?_
        refine eg_sub [2, 3, 4, 5, 1, 0] rfl ?_
        refine eb_loop2_e (J := fun (x4_7 : Int32) (x5_8 : Int32) => eb_G l Γ P X cX2_kind RX2 6 (some .int) rmX2_kind 39 [(0, .ref (ad 0)), (1, .int a1), (2, .int a2), (3, .int a3), (4, .int x4_7), (5, .int x5_8)] [] (ms_st Γ ad ix g1) 0 0) h ?_
        intro r9 hr9 x4_7 x5_8 h
        refine eg_iload 5 dX2_kind_39 rfl ?_
        refine eg_bipush dX2_kind_41 kb_16 ?_
        refine eg_icmp_ge dX2_kind_43 (fun c19 => ?_) (fun c19 => ?_)
        · replace h := h.1 c19
          refine eg_iconst dX2_kind_83 kc_m1 ?_
          exact eg_iret dX2_kind_84 (Nat.zero_le _) (Nat.zero_le _) (hP _ _ ⟨_, _, rfl, rfl, h⟩)
        · replace h := h.2 c19
          refine eg_iload 5 dX2_kind_46 rfl ?_
          refine eg_csp (rest := []) (ctX2_bits h) (lw_S q1306 q1307 q77 q1308) nX2_bits ⟨Nat.le_of_ble_eq_true rfl, Nat.le_of_ble_eq_true rfl⟩ ⟨rfl, rfl⟩ ⟨Nat.zero_le _, Nat.zero_le _⟩ rfl rfl (Nat.le_of_ble_eq_true rfl) dX2_kind_48 (fun v10 h => ?_)
          refine eg_iload_n 2 dX2_kind_51 rfl rfl ?_
          refine eb_jp1_e (J := fun (x4_12 : Int32) => eb_G l Γ P X cX2_kind RX2 6 (some .int) rmX2_kind 77 [(0, .ref (ad 0)), (1, .int a1), (2, .int a2), (3, .int a3), (4, .int x4_12), (5, .int x5_8)] [] (ms_st Γ ad ix g1) 0 0) h ?_ ?_
          · intro x4_12 h
            refine eg_iinc (j := 5) (lv' := [(5, .int (x5_8 + 1)), (0, .ref (ad 0)), (1, .int a1), (2, .int a2), (3, .int a3), (4, .int x4_12)]) dX2_kind_77 rfl (by rw [kc_1]) (Nat.le_of_ble_eq_true rfl) rfl ?_
            refine eg_goto dX2_kind_80 ?_
            exact eg_sub [1, 2, 3, 4, 5, 0] rfl (hr9 x4_12 (x5_8 + 1) h)
          · intro k13 hk13 h
            refine eg_icmp_ne dX2_kind_52 (fun c18 => ?_) (fun c18 => ?_)
            · replace h := h.2 c18
              exact hk13 x4_7 h
            · replace h := h.1 c18
              refine eg_aload_n 0 dX2_kind_55 rfl rfl ?_
              refine eg_iload_n 1 dX2_kind_56 rfl rfl ?_
              refine eg_iload 5 dX2_kind_57 rfl ?_
              refine em_cvp (rest := []) (ctX2_isKind hi h) hi (lw_V q1385 q1387 qs52 q77 q1388) rfl nX2_isKind ⟨Nat.le_of_ble_eq_true rfl, Nat.le_of_ble_eq_true rfl⟩ ⟨rfl, rfl⟩ ⟨Nat.zero_le _, Nat.zero_le _⟩ rfl rfl (Nat.le_of_ble_eq_true rfl) dX2_kind_59 (fun v14 h => ?_)
              refine eg_if_eq dX2_kind_62 (fun c17 => ?_) (fun c17 => ?_)
              · replace h := h.1 c17
                exact hk13 x4_7 h
              · replace h := h.2 c17
                refine eg_iload 4 dX2_kind_65 rfl ?_
                refine eg_iload_n 3 dX2_kind_67 rfl rfl ?_
                refine eg_icmp_ne dX2_kind_68 (fun c16 => ?_) (fun c16 => ?_)
                · replace h := h.2 c16
                  refine eg_iinc (j := 4) (lv' := [(4, .int (x4_7 + 1)), (0, .ref (ad 0)), (1, .int a1), (2, .int a2), (3, .int a3), (5, .int x5_8)]) dX2_kind_74 rfl (by rw [kc_1]) (Nat.le_of_ble_eq_true rfl) rfl ?_
                  exact eg_sub [1, 2, 3, 4, 0, 5] rfl (hk13 (x4_7 + 1) h)
                · replace h := h.1 c16
                  refine eg_iload 5 dX2_kind_71 rfl ?_
                  exact eg_iret dX2_kind_73 (Nat.zero_le _) (Nat.zero_le _) (hP _ _ ⟨_, _, rfl, rfl, h⟩)
      · replace h := h.2 c20
        refine eg_bipush dX2_kind_30 kb_m2 ?_
        exact eg_iret dX2_kind_32 (Nat.zero_le _) (Nat.zero_le _) (hP _ _ ⟨_, _, rfl, rfl, h⟩)
def MX2_refusesPart (σ : eb_MS) (a1 : Int32) (a2 : Int32) (a3 : Int32) (K : Int32 → eb_MS → Prop) : Prop :=
  MX2_isBody a1 (fun v1 => eb_br (v1 = 0) (K (-2) σ) (MX2_isKind σ a1 a2 (fun v3 => eb_br (v3 = 0) (K (-2) σ) (eb_br (0 ≤ a3) (MX2_loads σ a1 (fun v5 g6 => eb_br (v5 = 0) (K (-5) g6) (MX2_tellsParts g6 a2 (fun g8 => K 0 g8)))) (K (-2) σ)))))
abbrev rmX2_refusesPart : Room := { frames := 6, cells := 0, slots := 0, locals := 144 }
theorem nX2_refusesPart : eb_ar yX2_refusesPart 3 := by decide +kernel
theorem dX2_refusesPart_0 : eb_dc cX2_refusesPart 0 (.iload_n 1) 1 1 := by decide +kernel
theorem dX2_refusesPart_1 : eb_dc cX2_refusesPart 1 (.invokestatic 113) 3 4 := by decide +kernel
theorem dX2_refusesPart_4 : eb_dj cX2_refusesPart 4 (.ifCond .eq 16) 16 7 20 := by decide +kernel
theorem dX2_refusesPart_7 : eb_dc cX2_refusesPart 7 (.aload_n 0) 1 8 := by decide +kernel
theorem dX2_refusesPart_8 : eb_dc cX2_refusesPart 8 (.iload_n 1) 1 9 := by decide +kernel
theorem dX2_refusesPart_9 : eb_dc cX2_refusesPart 9 (.iload_n 2) 1 10 := by decide +kernel
theorem dX2_refusesPart_10 : eb_dc cX2_refusesPart 10 (.invokevirtual 188) 3 13 := by decide +kernel
theorem dX2_refusesPart_13 : eb_dj cX2_refusesPart 13 (.ifCond .eq 7) 7 16 20 := by decide +kernel
theorem dX2_refusesPart_16 : eb_dc cX2_refusesPart 16 (.iload_n 3) 1 17 := by decide +kernel
theorem dX2_refusesPart_17 : eb_dj cX2_refusesPart 17 (.ifCond .ge 6) 6 20 23 := by decide +kernel
theorem dX2_refusesPart_20 : eb_dc cX2_refusesPart 20 (.bipush (-2)) 2 22 := by decide +kernel
theorem dX2_refusesPart_22 : eb_dc cX2_refusesPart 22 (.ireturn) 1 23 := by decide +kernel
theorem dX2_refusesPart_23 : eb_dc cX2_refusesPart 23 (.aload_n 0) 1 24 := by decide +kernel
theorem dX2_refusesPart_24 : eb_dc cX2_refusesPart 24 (.iload_n 1) 1 25 := by decide +kernel
theorem dX2_refusesPart_25 : eb_dc cX2_refusesPart 25 (.invokevirtual 164) 3 28 := by decide +kernel
theorem dX2_refusesPart_28 : eb_dj cX2_refusesPart 28 (.ifCond .ne 6) 6 31 34 := by decide +kernel
theorem dX2_refusesPart_31 : eb_dc cX2_refusesPart 31 (.bipush (-5)) 2 33 := by decide +kernel
theorem dX2_refusesPart_33 : eb_dc cX2_refusesPart 33 (.ireturn) 1 34 := by decide +kernel
theorem dX2_refusesPart_34 : eb_dc cX2_refusesPart 34 (.aload_n 0) 1 35 := by decide +kernel
theorem dX2_refusesPart_35 : eb_dc cX2_refusesPart 35 (.iload_n 2) 1 36 := by decide +kernel
theorem dX2_refusesPart_36 : eb_dc cX2_refusesPart 36 (.invokevirtual 154) 3 39 := by decide +kernel
theorem dX2_refusesPart_39 : eb_dc cX2_refusesPart 39 (.iconst 0) 1 40 := by decide +kernel
theorem dX2_refusesPart_40 : eb_dc cX2_refusesPart 40 (.ireturn) 1 41 := by decide +kernel
theorem ctX2_refusesPart {l : Launch} {Γ : eb_C} {ad : Nat → Nat} {ix : Nat → Option Nat} {σ : eb_MS} {a1 : Int32} {a2 : Int32} {a3 : Int32} {K : Int32 → eb_MS → Prop} (hi : ms_inv ad ix) (h : MX2_refusesPart σ a1 a2 a3 K) : eb_Ct l Γ yX2_refusesPart cX2_refusesPart 4 (some .int) rmX2_refusesPart [.ref (ad 0), .int a1, .int a2, .int a3] (ms_st Γ ad ix σ) (em_I Γ ad ix K) := by
  refine eb_of (by decide) (Nat.le_of_ble_eq_true rfl) (fun X P hP _ => ?_)
  show eb_G l Γ P X cX2_refusesPart RX2 4 (some .int) rmX2_refusesPart 0 [(0, .ref (ad 0)), (1, .int a1), (2, .int a2), (3, .int a3)] [] (ms_st Γ ad ix σ) 0 0
  refine eg_iload_n 1 dX2_refusesPart_0 rfl rfl ?_
  refine eg_csp (rest := []) (ctX2_isBody h) (lw_S q1252 q1253 q77 q1254) nX2_isBody ⟨Nat.le_of_ble_eq_true rfl, Nat.le_of_ble_eq_true rfl⟩ ⟨rfl, rfl⟩ ⟨Nat.zero_le _, Nat.zero_le _⟩ rfl rfl (Nat.le_of_ble_eq_true rfl) dX2_refusesPart_1 (fun v1 h => ?_)
  refine eg_if_eq dX2_refusesPart_4 (fun c12 => ?_) (fun c12 => ?_)
  · replace h := h.1 c12
    refine eg_bipush dX2_refusesPart_20 kb_m2 ?_
    exact eg_iret dX2_refusesPart_22 (Nat.zero_le _) (Nat.zero_le _) (hP _ _ ⟨_, _, rfl, rfl, h⟩)
  · replace h := h.2 c12
    refine eg_aload_n 0 dX2_refusesPart_7 rfl rfl ?_
    refine eg_iload_n 1 dX2_refusesPart_8 rfl rfl ?_
    refine eg_iload_n 2 dX2_refusesPart_9 rfl rfl ?_
    refine em_cvp (rest := []) (ctX2_isKind hi h) hi (lw_V q1385 q1387 qs52 q77 q1388) rfl nX2_isKind ⟨Nat.le_of_ble_eq_true rfl, Nat.le_of_ble_eq_true rfl⟩ ⟨rfl, rfl⟩ ⟨Nat.zero_le _, Nat.zero_le _⟩ rfl rfl (Nat.le_of_ble_eq_true rfl) dX2_refusesPart_10 (fun v3 h => ?_)
    refine eg_if_eq dX2_refusesPart_13 (fun c11 => ?_) (fun c11 => ?_)
    · replace h := h.1 c11
      refine eg_bipush dX2_refusesPart_20 kb_m2 ?_
      exact eg_iret dX2_refusesPart_22 (Nat.zero_le _) (Nat.zero_le _) (hP _ _ ⟨_, _, rfl, rfl, h⟩)
    · replace h := h.2 c11
      refine eg_iload_n 3 dX2_refusesPart_16 rfl rfl ?_
      refine eg_if_ge dX2_refusesPart_17 (fun c10 => ?_) (fun c10 => ?_)
      · replace h := h.1 c10
        refine eg_aload_n 0 dX2_refusesPart_23 rfl rfl ?_
        refine eg_iload_n 1 dX2_refusesPart_24 rfl rfl ?_
        refine em_cvi (rest := []) (ctX2_loads hi h) hi (lw_V q1294 q1296 qs40 q77 q1297) rfl nX2_loads ⟨Nat.le_of_ble_eq_true rfl, Nat.le_of_ble_eq_true rfl⟩ ⟨rfl, rfl⟩ ⟨Nat.zero_le _, Nat.zero_le _⟩ rfl rfl (Nat.le_of_ble_eq_true rfl) dX2_refusesPart_25 (fun v5 g6 h => ?_)
        refine eg_if_ne dX2_refusesPart_28 (fun c9 => ?_) (fun c9 => ?_)
        · replace h := h.2 c9
          refine eg_aload_n 0 dX2_refusesPart_34 rfl rfl ?_
          refine eg_iload_n 2 dX2_refusesPart_35 rfl rfl ?_
          refine em_cvv (rest := []) (ctX2_tellsParts hi h) hi (lw_V q1317 q1319 qs45 q77 q1320) rfl nX2_tellsParts ⟨Nat.le_of_ble_eq_true rfl, Nat.le_of_ble_eq_true rfl⟩ ⟨rfl, rfl⟩ ⟨Nat.zero_le _, Nat.zero_le _⟩ rfl rfl (Nat.le_of_ble_eq_true rfl) dX2_refusesPart_36 (fun g8 h => ?_)
          refine eg_iconst dX2_refusesPart_39 kc_0 ?_
          exact eg_iret dX2_refusesPart_40 (Nat.zero_le _) (Nat.zero_le _) (hP _ _ ⟨_, _, rfl, rfl, h⟩)
        · replace h := h.1 c9
          refine eg_bipush dX2_refusesPart_31 kb_m5 ?_
          exact eg_iret dX2_refusesPart_33 (Nat.zero_le _) (Nat.zero_le _) (hP _ _ ⟨_, _, rfl, rfl, h⟩)
      · replace h := h.2 c10
        refine eg_bipush dX2_refusesPart_20 kb_m2 ?_
        exact eg_iret dX2_refusesPart_22 (Nat.zero_le _) (Nat.zero_le _) (hP _ _ ⟨_, _, rfl, rfl, h⟩)
