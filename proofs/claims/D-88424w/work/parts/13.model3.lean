set_option maxRecDepth 100000
set_option maxHeartbeats 4000000
def MX2_parts (σ : eb_MS) (a1 : Int32) (a2 : Int32) (K : Int32 → eb_MS → Prop) : Prop :=
  ms_ws σ 0 0 (fun g1 => MX2_refusesPart g1 a1 a2 0 (fun v2 g3 => eb_br (0 ≤ v2) (K (g3.1 18) g3) (K v2 g3)))
abbrev rmX2_parts : Room := { frames := 7, cells := 0, slots := 0, locals := 167 }
theorem nX2_parts : eb_ar yX2_parts 2 := by decide +kernel
theorem dX2_parts_0 : eb_dc cX2_parts 0 (.aload_n 0) 1 1 := by decide +kernel
theorem dX2_parts_1 : eb_dc cX2_parts 1 (.iconst 0) 1 2 := by decide +kernel
theorem dX2_parts_2 : eb_dc cX2_parts 2 (.putfield 106) 3 5 := by decide +kernel
theorem dX2_parts_5 : eb_dc cX2_parts 5 (.aload_n 0) 1 6 := by decide +kernel
theorem dX2_parts_6 : eb_dc cX2_parts 6 (.iload_n 1) 1 7 := by decide +kernel
theorem dX2_parts_7 : eb_dc cX2_parts 7 (.iload_n 2) 1 8 := by decide +kernel
theorem dX2_parts_8 : eb_dc cX2_parts 8 (.iconst 0) 1 9 := by decide +kernel
theorem dX2_parts_9 : eb_dc cX2_parts 9 (.invokevirtual 191) 3 12 := by decide +kernel
theorem dX2_parts_12 : eb_dc cX2_parts 12 (.istore_n 3) 1 13 := by decide +kernel
theorem dX2_parts_13 : eb_dc cX2_parts 13 (.iload_n 3) 1 14 := by decide +kernel
theorem dX2_parts_14 : eb_dj cX2_parts 14 (.ifCond .ge 7) 7 17 21 := by decide +kernel
theorem dX2_parts_17 : eb_dc cX2_parts 17 (.iload_n 3) 1 18 := by decide +kernel
theorem dX2_parts_18 : eb_dj cX2_parts 18 (.goto 7) 7 21 25 := by decide +kernel
theorem dX2_parts_21 : eb_dc cX2_parts 21 (.aload_n 0) 1 22 := by decide +kernel
theorem dX2_parts_22 : eb_dc cX2_parts 22 (.getfield 158) 3 25 := by decide +kernel
theorem dX2_parts_25 : eb_dc cX2_parts 25 (.ireturn) 1 26 := by decide +kernel
theorem ctX2_parts {l : Launch} {Γ : eb_C} {ad : Nat → Nat} {ix : Nat → Option Nat} {σ : eb_MS} {a1 : Int32} {a2 : Int32} {K : Int32 → eb_MS → Prop} (hi : ms_inv ad ix) (h : MX2_parts σ a1 a2 K) : eb_Ct l Γ yX2_parts cX2_parts 4 (some .int) rmX2_parts [.ref (ad 0), .int a1, .int a2] (ms_st Γ ad ix σ) (em_I Γ ad ix K) := by
  refine eb_of (by decide) (Nat.le_of_ble_eq_true rfl) (fun X P hP _ => ?_)
  show eb_G l Γ P X cX2_parts RX2 4 (some .int) rmX2_parts 0 [(0, .ref (ad 0)), (1, .int a1), (2, .int a2)] [] (ms_st Γ ad ix σ) 0 0
  refine eg_aload_n 0 dX2_parts_0 rfl rfl ?_
  refine eg_iconst dX2_parts_1 kc_0 ?_
  refine em_puts 0 rfl q1142 dX2_parts_2 hi (fun g1 eg1 => ?_)
  replace h := h g1 eg1
  refine eg_aload_n 0 dX2_parts_5 rfl rfl ?_
  refine eg_iload_n 1 dX2_parts_6 rfl rfl ?_
  refine eg_iload_n 2 dX2_parts_7 rfl rfl ?_
  refine eg_iconst dX2_parts_8 kc_0 ?_
  refine em_cvi (rest := []) (ctX2_refusesPart hi h) hi (lw_V q1397 q1399 qs53 q77 q1400) rfl nX2_refusesPart ⟨Nat.le_of_ble_eq_true rfl, Nat.le_of_ble_eq_true rfl⟩ ⟨rfl, rfl⟩ ⟨Nat.zero_le _, Nat.zero_le _⟩ rfl rfl (Nat.le_of_ble_eq_true rfl) dX2_parts_9 (fun v2 g3 h => ?_)
  refine eg_istore_n (lv' := [(3, .int v2), (0, .ref (ad 0)), (1, .int a1), (2, .int a2)]) dX2_parts_12 rfl (Nat.le_of_ble_eq_true rfl) rfl ?_
  refine eg_iload_n 0 dX2_parts_13 rfl rfl ?_
  refine eg_if_ge dX2_parts_14 (fun c4 => ?_) (fun c4 => ?_)
  · replace h := h.1 c4
    refine eg_aload_n 1 dX2_parts_21 rfl rfl ?_
    refine em_gets 18 rfl q1160 dX2_parts_22 hi ?_
    exact eg_iret dX2_parts_25 (Nat.zero_le _) (Nat.zero_le _) (hP _ _ ⟨_, _, rfl, rfl, h⟩)
  · replace h := h.2 c4
    refine eg_iload_n 0 dX2_parts_17 rfl rfl ?_
    refine eg_goto dX2_parts_18 ?_
    exact eg_iret dX2_parts_25 (Nat.zero_le _) (Nat.zero_le _) (hP _ _ ⟨_, _, rfl, rfl, h⟩)
def MX2_partOf (σ : eb_MS) (a1 : Int32) (a2 : Int32) (a3 : Int32) (K : Int32 → eb_MS → Prop) : Prop :=
  ms_ws σ 0 0 (fun g1 => MX2_refusesPart g1 a1 a2 a3 (fun v2 g3 => eb_br (0 ≤ v2) (eb_br ((g3.1 8) ≤ a3) (K (-2) g3) (eb_rd (g3.2.1 17) 500 a3 (fun v4 => K v4 g3))) (K v2 g3)))
abbrev rmX2_partOf : Room := { frames := 7, cells := 0, slots := 0, locals := 167 }
theorem nX2_partOf : eb_ar yX2_partOf 3 := by decide +kernel
theorem dX2_partOf_0 : eb_dc cX2_partOf 0 (.aload_n 0) 1 1 := by decide +kernel
theorem dX2_partOf_1 : eb_dc cX2_partOf 1 (.iconst 0) 1 2 := by decide +kernel
theorem dX2_partOf_2 : eb_dc cX2_partOf 2 (.putfield 106) 3 5 := by decide +kernel
theorem dX2_partOf_5 : eb_dc cX2_partOf 5 (.aload_n 0) 1 6 := by decide +kernel
theorem dX2_partOf_6 : eb_dc cX2_partOf 6 (.iload_n 1) 1 7 := by decide +kernel
theorem dX2_partOf_7 : eb_dc cX2_partOf 7 (.iload_n 2) 1 8 := by decide +kernel
theorem dX2_partOf_8 : eb_dc cX2_partOf 8 (.iload_n 3) 1 9 := by decide +kernel
theorem dX2_partOf_9 : eb_dc cX2_partOf 9 (.invokevirtual 191) 3 12 := by decide +kernel
theorem dX2_partOf_12 : eb_dc cX2_partOf 12 (.istore 4) 2 14 := by decide +kernel
theorem dX2_partOf_14 : eb_dc cX2_partOf 14 (.iload 4) 2 16 := by decide +kernel
theorem dX2_partOf_16 : eb_dj cX2_partOf 16 (.ifCond .ge 8) 8 19 24 := by decide +kernel
theorem dX2_partOf_19 : eb_dc cX2_partOf 19 (.iload 4) 2 21 := by decide +kernel
theorem dX2_partOf_21 : eb_dj cX2_partOf 21 (.goto 22) 22 24 43 := by decide +kernel
theorem dX2_partOf_24 : eb_dc cX2_partOf 24 (.iload_n 3) 1 25 := by decide +kernel
theorem dX2_partOf_25 : eb_dc cX2_partOf 25 (.aload_n 0) 1 26 := by decide +kernel
theorem dX2_partOf_26 : eb_dc cX2_partOf 26 (.getfield 135) 3 29 := by decide +kernel
theorem dX2_partOf_29 : eb_dj cX2_partOf 29 (.if_icmp .ge 12) 12 32 41 := by decide +kernel
theorem dX2_partOf_32 : eb_dc cX2_partOf 32 (.aload_n 0) 1 33 := by decide +kernel
theorem dX2_partOf_33 : eb_dc cX2_partOf 33 (.getfield 47) 3 36 := by decide +kernel
theorem dX2_partOf_36 : eb_dc cX2_partOf 36 (.iload_n 3) 1 37 := by decide +kernel
theorem dX2_partOf_37 : eb_dc cX2_partOf 37 (.iaload) 1 38 := by decide +kernel
theorem dX2_partOf_38 : eb_dj cX2_partOf 38 (.goto 5) 5 41 43 := by decide +kernel
theorem dX2_partOf_41 : eb_dc cX2_partOf 41 (.bipush (-2)) 2 43 := by decide +kernel
theorem dX2_partOf_43 : eb_dc cX2_partOf 43 (.ireturn) 1 44 := by decide +kernel
theorem ctX2_partOf {l : Launch} {Γ : eb_C} {ad : Nat → Nat} {ix : Nat → Option Nat} {σ : eb_MS} {a1 : Int32} {a2 : Int32} {a3 : Int32} {K : Int32 → eb_MS → Prop} (hi : ms_inv ad ix) (h : MX2_partOf σ a1 a2 a3 K) : eb_Ct l Γ yX2_partOf cX2_partOf 5 (some .int) rmX2_partOf [.ref (ad 0), .int a1, .int a2, .int a3] (ms_st Γ ad ix σ) (em_I Γ ad ix K) := by
  refine eb_of (by decide) (Nat.le_of_ble_eq_true rfl) (fun X P hP _ => ?_)
  show eb_G l Γ P X cX2_partOf RX2 5 (some .int) rmX2_partOf 0 [(0, .ref (ad 0)), (1, .int a1), (2, .int a2), (3, .int a3)] [] (ms_st Γ ad ix σ) 0 0
  refine eg_aload_n 0 dX2_partOf_0 rfl rfl ?_
  refine eg_iconst dX2_partOf_1 kc_0 ?_
  refine em_puts 0 rfl q1142 dX2_partOf_2 hi (fun g1 eg1 => ?_)
  replace h := h g1 eg1
  refine eg_aload_n 0 dX2_partOf_5 rfl rfl ?_
  refine eg_iload_n 1 dX2_partOf_6 rfl rfl ?_
  refine eg_iload_n 2 dX2_partOf_7 rfl rfl ?_
  refine eg_iload_n 3 dX2_partOf_8 rfl rfl ?_
  refine em_cvi (rest := []) (ctX2_refusesPart hi h) hi (lw_V q1397 q1399 qs53 q77 q1400) rfl nX2_refusesPart ⟨Nat.le_of_ble_eq_true rfl, Nat.le_of_ble_eq_true rfl⟩ ⟨rfl, rfl⟩ ⟨Nat.zero_le _, Nat.zero_le _⟩ rfl rfl (Nat.le_of_ble_eq_true rfl) dX2_partOf_9 (fun v2 g3 h => ?_)
  refine eg_istore (lv' := [(4, .int v2), (0, .ref (ad 0)), (1, .int a1), (2, .int a2), (3, .int a3)]) dX2_partOf_12 (Nat.le_of_ble_eq_true rfl) rfl ?_
  refine eg_iload 0 dX2_partOf_14 rfl ?_
  refine eg_if_ge dX2_partOf_16 (fun c6 => ?_) (fun c6 => ?_)
  · replace h := h.1 c6
    refine eg_iload_n 4 dX2_partOf_24 rfl rfl ?_
    refine eg_aload_n 1 dX2_partOf_25 rfl rfl ?_
    refine em_gets 8 rfl q1150 dX2_partOf_26 hi ?_
    refine eg_icmp_ge dX2_partOf_29 (fun c5 => ?_) (fun c5 => ?_)
    · replace h := h.1 c5
      refine eg_bipush dX2_partOf_41 kb_m2 ?_
      exact eg_iret dX2_partOf_43 (Nat.zero_le _) (Nat.zero_le _) (hP _ _ ⟨_, _, rfl, rfl, h⟩)
    · replace h := h.2 c5
      refine eg_aload_n 1 dX2_partOf_32 rfl rfl ?_
      refine em_geta 17 rfl q1159 dX2_partOf_33 hi ?_
      refine eg_iload_n 4 dX2_partOf_36 rfl rfl ?_
      obtain ⟨hb, h⟩ := h
      refine em_iald 17 rfl hb dX2_partOf_37 hi (fun v4 ev4 => ?_)
      replace h := h v4 ev4
      refine eg_goto dX2_partOf_38 ?_
      exact eg_iret dX2_partOf_43 (Nat.zero_le _) (Nat.zero_le _) (hP _ _ ⟨_, _, rfl, rfl, h⟩)
  · replace h := h.2 c6
    refine eg_iload 0 dX2_partOf_19 rfl ?_
    refine eg_goto dX2_partOf_21 ?_
    exact eg_iret dX2_partOf_43 (Nat.zero_le _) (Nat.zero_le _) (hP _ _ ⟨_, _, rfl, rfl, h⟩)
def MX2_least (σ : eb_MS) (a1 : Int32) (a2 : Int32) (a3 : Int32) (K : Int32 → eb_MS → Prop) : Prop :=
  ms_ws σ 0 0 (fun g1 => MX2_refusesPart g1 a1 a2 a3 (fun v2 g3 => eb_br (0 ≤ v2) (eb_br ((g3.1 18) ≤ a3) (K (-2) g3) (eb_rd (g3.2.1 19) 500 a3 (fun v4 => K v4 g3))) (K v2 g3)))
abbrev rmX2_least : Room := { frames := 7, cells := 0, slots := 0, locals := 167 }
theorem nX2_least : eb_ar yX2_least 3 := by decide +kernel
theorem dX2_least_0 : eb_dc cX2_least 0 (.aload_n 0) 1 1 := by decide +kernel
theorem dX2_least_1 : eb_dc cX2_least 1 (.iconst 0) 1 2 := by decide +kernel
theorem dX2_least_2 : eb_dc cX2_least 2 (.putfield 106) 3 5 := by decide +kernel
theorem dX2_least_5 : eb_dc cX2_least 5 (.aload_n 0) 1 6 := by decide +kernel
theorem dX2_least_6 : eb_dc cX2_least 6 (.iload_n 1) 1 7 := by decide +kernel
theorem dX2_least_7 : eb_dc cX2_least 7 (.iload_n 2) 1 8 := by decide +kernel
theorem dX2_least_8 : eb_dc cX2_least 8 (.iload_n 3) 1 9 := by decide +kernel
theorem dX2_least_9 : eb_dc cX2_least 9 (.invokevirtual 191) 3 12 := by decide +kernel
theorem dX2_least_12 : eb_dc cX2_least 12 (.istore 4) 2 14 := by decide +kernel
theorem dX2_least_14 : eb_dc cX2_least 14 (.iload 4) 2 16 := by decide +kernel
theorem dX2_least_16 : eb_dj cX2_least 16 (.ifCond .ge 8) 8 19 24 := by decide +kernel
theorem dX2_least_19 : eb_dc cX2_least 19 (.iload 4) 2 21 := by decide +kernel
theorem dX2_least_21 : eb_dj cX2_least 21 (.goto 22) 22 24 43 := by decide +kernel
theorem dX2_least_24 : eb_dc cX2_least 24 (.iload_n 3) 1 25 := by decide +kernel
theorem dX2_least_25 : eb_dc cX2_least 25 (.aload_n 0) 1 26 := by decide +kernel
theorem dX2_least_26 : eb_dc cX2_least 26 (.getfield 158) 3 29 := by decide +kernel
theorem dX2_least_29 : eb_dj cX2_least 29 (.if_icmp .ge 12) 12 32 41 := by decide +kernel
theorem dX2_least_32 : eb_dc cX2_least 32 (.aload_n 0) 1 33 := by decide +kernel
theorem dX2_least_33 : eb_dc cX2_least 33 (.getfield 50) 3 36 := by decide +kernel
theorem dX2_least_36 : eb_dc cX2_least 36 (.iload_n 3) 1 37 := by decide +kernel
theorem dX2_least_37 : eb_dc cX2_least 37 (.iaload) 1 38 := by decide +kernel
theorem dX2_least_38 : eb_dj cX2_least 38 (.goto 5) 5 41 43 := by decide +kernel
theorem dX2_least_41 : eb_dc cX2_least 41 (.bipush (-2)) 2 43 := by decide +kernel
theorem dX2_least_43 : eb_dc cX2_least 43 (.ireturn) 1 44 := by decide +kernel
theorem ctX2_least {l : Launch} {Γ : eb_C} {ad : Nat → Nat} {ix : Nat → Option Nat} {σ : eb_MS} {a1 : Int32} {a2 : Int32} {a3 : Int32} {K : Int32 → eb_MS → Prop} (hi : ms_inv ad ix) (h : MX2_least σ a1 a2 a3 K) : eb_Ct l Γ yX2_least cX2_least 5 (some .int) rmX2_least [.ref (ad 0), .int a1, .int a2, .int a3] (ms_st Γ ad ix σ) (em_I Γ ad ix K) := by
  refine eb_of (by decide) (Nat.le_of_ble_eq_true rfl) (fun X P hP _ => ?_)
  show eb_G l Γ P X cX2_least RX2 5 (some .int) rmX2_least 0 [(0, .ref (ad 0)), (1, .int a1), (2, .int a2), (3, .int a3)] [] (ms_st Γ ad ix σ) 0 0
  refine eg_aload_n 0 dX2_least_0 rfl rfl ?_
  refine eg_iconst dX2_least_1 kc_0 ?_
  refine em_puts 0 rfl q1142 dX2_least_2 hi (fun g1 eg1 => ?_)
  replace h := h g1 eg1
  refine eg_aload_n 0 dX2_least_5 rfl rfl ?_
  refine eg_iload_n 1 dX2_least_6 rfl rfl ?_
  refine eg_iload_n 2 dX2_least_7 rfl rfl ?_
  refine eg_iload_n 3 dX2_least_8 rfl rfl ?_
  refine em_cvi (rest := []) (ctX2_refusesPart hi h) hi (lw_V q1397 q1399 qs53 q77 q1400) rfl nX2_refusesPart ⟨Nat.le_of_ble_eq_true rfl, Nat.le_of_ble_eq_true rfl⟩ ⟨rfl, rfl⟩ ⟨Nat.zero_le _, Nat.zero_le _⟩ rfl rfl (Nat.le_of_ble_eq_true rfl) dX2_least_9 (fun v2 g3 h => ?_)
  refine eg_istore (lv' := [(4, .int v2), (0, .ref (ad 0)), (1, .int a1), (2, .int a2), (3, .int a3)]) dX2_least_12 (Nat.le_of_ble_eq_true rfl) rfl ?_
  refine eg_iload 0 dX2_least_14 rfl ?_
  refine eg_if_ge dX2_least_16 (fun c6 => ?_) (fun c6 => ?_)
  · replace h := h.1 c6
    refine eg_iload_n 4 dX2_least_24 rfl rfl ?_
    refine eg_aload_n 1 dX2_least_25 rfl rfl ?_
    refine em_gets 18 rfl q1160 dX2_least_26 hi ?_
    refine eg_icmp_ge dX2_least_29 (fun c5 => ?_) (fun c5 => ?_)
    · replace h := h.1 c5
      refine eg_bipush dX2_least_41 kb_m2 ?_
      exact eg_iret dX2_least_43 (Nat.zero_le _) (Nat.zero_le _) (hP _ _ ⟨_, _, rfl, rfl, h⟩)
    · replace h := h.2 c5
      refine eg_aload_n 1 dX2_least_32 rfl rfl ?_
      refine em_geta 19 rfl q1161 dX2_least_33 hi ?_
      refine eg_iload_n 4 dX2_least_36 rfl rfl ?_
      obtain ⟨hb, h⟩ := h
      refine em_iald 19 rfl hb dX2_least_37 hi (fun v4 ev4 => ?_)
      replace h := h v4 ev4
      refine eg_goto dX2_least_38 ?_
      exact eg_iret dX2_least_43 (Nat.zero_le _) (Nat.zero_le _) (hP _ _ ⟨_, _, rfl, rfl, h⟩)
  · replace h := h.2 c6
    refine eg_iload 0 dX2_least_19 rfl ?_
    refine eg_goto dX2_least_21 ?_
    exact eg_iret dX2_least_43 (Nat.zero_le _) (Nat.zero_le _) (hP _ _ ⟨_, _, rfl, rfl, h⟩)
def MX2_cornersOf (σ : eb_MS) (a1 : Int32) (K : Int32 → eb_MS → Prop) : Prop :=
  MX2_clears σ  (fun g2 => eb_loop3 (fun r6 (x2_3 : Int32) (x3_4 : Int32) (g5 : eb_MS) => eb_br ((g5.1 8) ≤ x3_4) (K x2_3 g5) (eb_rd (g5.2.1 17) 500 x3_4 (fun v7 => eb_jp2 (fun (x2_8 : Int32) (g9 : eb_MS) => r6 x2_8 (x3_4 + 1) g9) (fun k10 => eb_br (v7 = a1) (eb_rd (g5.2.1 15) 500 x3_4 (fun v11 => eb_rd (g5.2.1 23) 500 v11 (fun v12 => eb_br (v12 = 0) (eb_rd (g5.2.1 15) 500 x3_4 (fun v13 => ms_wr g5 23 500 v13 (vp_nar .boolean 1) (fun g14 => k10 (x2_3 + 1) g14))) (k10 x2_3 g5)))) (k10 x2_3 g5))))) 0 0 g2)
abbrev rmX2_cornersOf : Room := { frames := 2, cells := 0, slots := 0, locals := 33 }
theorem nX2_cornersOf : eb_ar yX2_cornersOf 1 := by decide +kernel
theorem dX2_cornersOf_0 : eb_dc cX2_cornersOf 0 (.aload_n 0) 1 1 := by decide +kernel
theorem dX2_cornersOf_1 : eb_dc cX2_cornersOf 1 (.invokevirtual 182) 3 4 := by decide +kernel
theorem dX2_cornersOf_4 : eb_dc cX2_cornersOf 4 (.iconst 0) 1 5 := by decide +kernel
theorem dX2_cornersOf_5 : eb_dc cX2_cornersOf 5 (.istore_n 2) 1 6 := by decide +kernel
theorem dX2_cornersOf_6 : eb_dc cX2_cornersOf 6 (.iconst 0) 1 7 := by decide +kernel
theorem dX2_cornersOf_7 : eb_dc cX2_cornersOf 7 (.istore_n 3) 1 8 := by decide +kernel
theorem dX2_cornersOf_8 : eb_dc cX2_cornersOf 8 (.iload_n 3) 1 9 := by decide +kernel
theorem dX2_cornersOf_9 : eb_dc cX2_cornersOf 9 (.aload_n 0) 1 10 := by decide +kernel
theorem dX2_cornersOf_10 : eb_dc cX2_cornersOf 10 (.getfield 135) 3 13 := by decide +kernel
theorem dX2_cornersOf_13 : eb_dj cX2_cornersOf 13 (.if_icmp .ge 48) 48 16 61 := by decide +kernel
theorem dX2_cornersOf_16 : eb_dc cX2_cornersOf 16 (.aload_n 0) 1 17 := by decide +kernel
theorem dX2_cornersOf_17 : eb_dc cX2_cornersOf 17 (.getfield 47) 3 20 := by decide +kernel
theorem dX2_cornersOf_20 : eb_dc cX2_cornersOf 20 (.iload_n 3) 1 21 := by decide +kernel
theorem dX2_cornersOf_21 : eb_dc cX2_cornersOf 21 (.iaload) 1 22 := by decide +kernel
theorem dX2_cornersOf_22 : eb_dc cX2_cornersOf 22 (.iload_n 1) 1 23 := by decide +kernel
theorem dX2_cornersOf_23 : eb_dj cX2_cornersOf 23 (.if_icmp .ne 32) 32 26 55 := by decide +kernel
theorem dX2_cornersOf_26 : eb_dc cX2_cornersOf 26 (.aload_n 0) 1 27 := by decide +kernel
theorem dX2_cornersOf_27 : eb_dc cX2_cornersOf 27 (.getfield 62) 3 30 := by decide +kernel
theorem dX2_cornersOf_30 : eb_dc cX2_cornersOf 30 (.aload_n 0) 1 31 := by decide +kernel
theorem dX2_cornersOf_31 : eb_dc cX2_cornersOf 31 (.getfield 44) 3 34 := by decide +kernel
theorem dX2_cornersOf_34 : eb_dc cX2_cornersOf 34 (.iload_n 3) 1 35 := by decide +kernel
theorem dX2_cornersOf_35 : eb_dc cX2_cornersOf 35 (.iaload) 1 36 := by decide +kernel
theorem dX2_cornersOf_36 : eb_dc cX2_cornersOf 36 (.baload) 1 37 := by decide +kernel
theorem dX2_cornersOf_37 : eb_dj cX2_cornersOf 37 (.ifCond .ne 18) 18 40 55 := by decide +kernel
theorem dX2_cornersOf_40 : eb_dc cX2_cornersOf 40 (.aload_n 0) 1 41 := by decide +kernel
theorem dX2_cornersOf_41 : eb_dc cX2_cornersOf 41 (.getfield 62) 3 44 := by decide +kernel
theorem dX2_cornersOf_44 : eb_dc cX2_cornersOf 44 (.aload_n 0) 1 45 := by decide +kernel
theorem dX2_cornersOf_45 : eb_dc cX2_cornersOf 45 (.getfield 44) 3 48 := by decide +kernel
theorem dX2_cornersOf_48 : eb_dc cX2_cornersOf 48 (.iload_n 3) 1 49 := by decide +kernel
theorem dX2_cornersOf_49 : eb_dc cX2_cornersOf 49 (.iaload) 1 50 := by decide +kernel
theorem dX2_cornersOf_50 : eb_dc cX2_cornersOf 50 (.iconst 1) 1 51 := by decide +kernel
theorem dX2_cornersOf_51 : eb_dc cX2_cornersOf 51 (.bastore) 1 52 := by decide +kernel
theorem dX2_cornersOf_52 : eb_dc cX2_cornersOf 52 (.iinc 2 1) 3 55 := by decide +kernel
theorem dX2_cornersOf_55 : eb_dc cX2_cornersOf 55 (.iinc 3 1) 3 58 := by decide +kernel
theorem dX2_cornersOf_58 : eb_dj cX2_cornersOf 58 (.goto (-50)) (-50) 61 8 := by decide +kernel
theorem dX2_cornersOf_61 : eb_dc cX2_cornersOf 61 (.iload_n 2) 1 62 := by decide +kernel
theorem dX2_cornersOf_62 : eb_dc cX2_cornersOf 62 (.ireturn) 1 63 := by decide +kernel
theorem ctX2_cornersOf {l : Launch} {Γ : eb_C} {ad : Nat → Nat} {ix : Nat → Option Nat} {σ : eb_MS} {a1 : Int32} {K : Int32 → eb_MS → Prop} (hi : ms_inv ad ix) (h : MX2_cornersOf σ a1 K) : eb_Ct l Γ yX2_cornersOf cX2_cornersOf 4 (some .int) rmX2_cornersOf [.ref (ad 0), .int a1] (ms_st Γ ad ix σ) (em_I Γ ad ix K) := by
  refine eb_of (by decide) (Nat.le_of_ble_eq_true rfl) (fun X P hP _ => ?_)
  show eb_G l Γ P X cX2_cornersOf RX2 4 (some .int) rmX2_cornersOf 0 [(0, .ref (ad 0)), (1, .int a1)] [] (ms_st Γ ad ix σ) 0 0
  refine eg_aload_n 0 dX2_cornersOf_0 rfl rfl ?_
  refine em_cvv (rest := []) (ctX2_clears hi h) hi (lw_V q1369 q1371 qs51 q77 q1372) rfl nX2_clears ⟨Nat.le_of_ble_eq_true rfl, Nat.le_of_ble_eq_true rfl⟩ ⟨rfl, rfl⟩ ⟨Nat.zero_le _, Nat.zero_le _⟩ rfl rfl (Nat.le_of_ble_eq_true rfl) dX2_cornersOf_1 (fun g2 h => ?_)
  refine eg_iconst dX2_cornersOf_4 kc_0 ?_
  refine eg_istore_n (lv' := [(2, .int 0), (0, .ref (ad 0)), (1, .int a1)]) dX2_cornersOf_5 rfl (Nat.le_of_ble_eq_true rfl) rfl ?_
  refine eg_iconst dX2_cornersOf_6 kc_0 ?_
  refine eg_istore_n (lv' := [(3, .int 0), (2, .int 0), (0, .ref (ad 0)), (1, .int a1)]) dX2_cornersOf_7 rfl (Nat.le_of_ble_eq_true rfl) rfl ?_
  refine eg_sub [2, 3, 1, 0] rfl ?_
  refine eb_loop3_e (J := fun (x2_3 : Int32) (x3_4 : Int32) (g5 : eb_MS) => eb_G l Γ P X cX2_cornersOf RX2 4 (some .int) rmX2_cornersOf 8 [(0, .ref (ad 0)), (1, .int a1), (2, .int x2_3), (3, .int x3_4)] [] (ms_st Γ ad ix g5) 0 0) h ?_
  intro r6 hr6 x2_3 x3_4 g5 h
  refine eg_iload_n 3 dX2_cornersOf_8 rfl rfl ?_
  refine eg_aload_n 0 dX2_cornersOf_9 rfl rfl ?_
  refine em_gets 8 rfl q1150 dX2_cornersOf_10 hi ?_
  refine eg_icmp_ge dX2_cornersOf_13 (fun c17 => ?_) (fun c17 => ?_)
  · replace h := h.1 c17
    refine eg_iload_n 2 dX2_cornersOf_61 rfl rfl ?_
    exact eg_iret dX2_cornersOf_62 (Nat.zero_le _) (Nat.zero_le _) (hP _ _ ⟨_, _, rfl, rfl, h⟩)
  · replace h := h.2 c17
    refine eg_aload_n 0 dX2_cornersOf_16 rfl rfl ?_
    refine em_geta 17 rfl q1159 dX2_cornersOf_17 hi ?_
    refine eg_iload_n 3 dX2_cornersOf_20 rfl rfl ?_
    obtain ⟨hb, h⟩ := h
    refine em_iald 17 rfl hb dX2_cornersOf_21 hi (fun v7 ev7 => ?_)
    replace h := h v7 ev7
    refine eg_iload_n 1 dX2_cornersOf_22 rfl rfl ?_
    refine eb_jp2_e (J := fun (x2_8 : Int32) (g9 : eb_MS) => eb_G l Γ P X cX2_cornersOf RX2 4 (some .int) rmX2_cornersOf 55 [(0, .ref (ad 0)), (1, .int a1), (2, .int x2_8), (3, .int x3_4)] [] (ms_st Γ ad ix g9) 0 0) h ?_ ?_
    · intro x2_8 g9 h
      refine eg_iinc (j := 3) (lv' := [(3, .int (x3_4 + 1)), (0, .ref (ad 0)), (1, .int a1), (2, .int x2_8)]) dX2_cornersOf_55 rfl (by rw [kc_1]) (Nat.le_of_ble_eq_true rfl) rfl ?_
      refine eg_goto dX2_cornersOf_58 ?_
      exact eg_sub [1, 2, 3, 0] rfl (hr6 x2_8 (x3_4 + 1) g9 h)
    · intro k10 hk10 h
      refine eg_icmp_ne dX2_cornersOf_23 (fun c16 => ?_) (fun c16 => ?_)
      · replace h := h.2 c16
        exact hk10 x2_3 g5 h
      · replace h := h.1 c16
        refine eg_aload_n 0 dX2_cornersOf_26 rfl rfl ?_
        refine em_geta 23 rfl q1165 dX2_cornersOf_27 hi ?_
        refine eg_aload_n 0 dX2_cornersOf_30 rfl rfl ?_
        refine em_geta 15 rfl q1157 dX2_cornersOf_31 hi ?_
        refine eg_iload_n 3 dX2_cornersOf_34 rfl rfl ?_
        obtain ⟨hb, h⟩ := h
        refine em_iald 15 rfl hb dX2_cornersOf_35 hi (fun v11 ev11 => ?_)
        replace h := h v11 ev11
        obtain ⟨hb, h⟩ := h
        refine em_zald 23 rfl hb dX2_cornersOf_36 hi (fun v12 ev12 => ?_)
        replace h := h v12 ev12
        refine eg_if_ne dX2_cornersOf_37 (fun c15 => ?_) (fun c15 => ?_)
        · replace h := h.2 c15
          exact hk10 x2_3 g5 h
        · replace h := h.1 c15
          refine eg_aload_n 0 dX2_cornersOf_40 rfl rfl ?_
          refine em_geta 23 rfl q1165 dX2_cornersOf_41 hi ?_
          refine eg_aload_n 0 dX2_cornersOf_44 rfl rfl ?_
          refine em_geta 15 rfl q1157 dX2_cornersOf_45 hi ?_
          refine eg_iload_n 3 dX2_cornersOf_48 rfl rfl ?_
          obtain ⟨hb, h⟩ := h
          refine em_iald 15 rfl hb dX2_cornersOf_49 hi (fun v13 ev13 => ?_)
          replace h := h v13 ev13
          refine eg_iconst dX2_cornersOf_50 kc_1 ?_
          obtain ⟨hb, h⟩ := h
          refine em_zast 23 rfl hb dX2_cornersOf_51 hi (fun g14 eg14 => ?_)
          replace h := h g14 eg14
          refine eg_iinc (j := 2) (lv' := [(2, .int (x2_3 + 1)), (0, .ref (ad 0)), (1, .int a1), (3, .int x3_4)]) dX2_cornersOf_52 rfl (by rw [kc_1]) (Nat.le_of_ble_eq_true rfl) rfl ?_
          exact eg_sub [1, 2, 0, 3] rfl (hk10 (x2_3 + 1) g14 h)
def MX2_corners (σ : eb_MS) (a1 : Int32) (a2 : Int32) (a3 : Int32) (K : Int32 → eb_MS → Prop) : Prop :=
  ms_ws σ 0 0 (fun g1 => MX2_refusesPart g1 a1 a2 a3 (fun v2 g3 => eb_br (0 ≤ v2) (eb_br ((g3.1 18) ≤ a3) (K (-2) g3) (MX2_cornersOf g3 a3 (fun v4 g5 => K v4 g5))) (K v2 g3)))
abbrev rmX2_corners : Room := { frames := 7, cells := 0, slots := 0, locals := 167 }
theorem nX2_corners : eb_ar yX2_corners 3 := by decide +kernel
theorem dX2_corners_0 : eb_dc cX2_corners 0 (.aload_n 0) 1 1 := by decide +kernel
theorem dX2_corners_1 : eb_dc cX2_corners 1 (.iconst 0) 1 2 := by decide +kernel
theorem dX2_corners_2 : eb_dc cX2_corners 2 (.putfield 106) 3 5 := by decide +kernel
theorem dX2_corners_5 : eb_dc cX2_corners 5 (.aload_n 0) 1 6 := by decide +kernel
theorem dX2_corners_6 : eb_dc cX2_corners 6 (.iload_n 1) 1 7 := by decide +kernel
theorem dX2_corners_7 : eb_dc cX2_corners 7 (.iload_n 2) 1 8 := by decide +kernel
theorem dX2_corners_8 : eb_dc cX2_corners 8 (.iload_n 3) 1 9 := by decide +kernel
theorem dX2_corners_9 : eb_dc cX2_corners 9 (.invokevirtual 191) 3 12 := by decide +kernel
theorem dX2_corners_12 : eb_dc cX2_corners 12 (.istore 4) 2 14 := by decide +kernel
theorem dX2_corners_14 : eb_dc cX2_corners 14 (.iload 4) 2 16 := by decide +kernel
theorem dX2_corners_16 : eb_dj cX2_corners 16 (.ifCond .ge 8) 8 19 24 := by decide +kernel
theorem dX2_corners_19 : eb_dc cX2_corners 19 (.iload 4) 2 21 := by decide +kernel
theorem dX2_corners_21 : eb_dj cX2_corners 21 (.goto 21) 21 24 42 := by decide +kernel
theorem dX2_corners_24 : eb_dc cX2_corners 24 (.iload_n 3) 1 25 := by decide +kernel
theorem dX2_corners_25 : eb_dc cX2_corners 25 (.aload_n 0) 1 26 := by decide +kernel
theorem dX2_corners_26 : eb_dc cX2_corners 26 (.getfield 158) 3 29 := by decide +kernel
theorem dX2_corners_29 : eb_dj cX2_corners 29 (.if_icmp .ge 11) 11 32 40 := by decide +kernel
theorem dX2_corners_32 : eb_dc cX2_corners 32 (.aload_n 0) 1 33 := by decide +kernel
theorem dX2_corners_33 : eb_dc cX2_corners 33 (.iload_n 3) 1 34 := by decide +kernel
theorem dX2_corners_34 : eb_dc cX2_corners 34 (.invokevirtual 194) 3 37 := by decide +kernel
theorem dX2_corners_37 : eb_dj cX2_corners 37 (.goto 5) 5 40 42 := by decide +kernel
theorem dX2_corners_40 : eb_dc cX2_corners 40 (.bipush (-2)) 2 42 := by decide +kernel
theorem dX2_corners_42 : eb_dc cX2_corners 42 (.ireturn) 1 43 := by decide +kernel
theorem ctX2_corners {l : Launch} {Γ : eb_C} {ad : Nat → Nat} {ix : Nat → Option Nat} {σ : eb_MS} {a1 : Int32} {a2 : Int32} {a3 : Int32} {K : Int32 → eb_MS → Prop} (hi : ms_inv ad ix) (h : MX2_corners σ a1 a2 a3 K) : eb_Ct l Γ yX2_corners cX2_corners 5 (some .int) rmX2_corners [.ref (ad 0), .int a1, .int a2, .int a3] (ms_st Γ ad ix σ) (em_I Γ ad ix K) := by
  refine eb_of (by decide) (Nat.le_of_ble_eq_true rfl) (fun X P hP _ => ?_)
  show eb_G l Γ P X cX2_corners RX2 5 (some .int) rmX2_corners 0 [(0, .ref (ad 0)), (1, .int a1), (2, .int a2), (3, .int a3)] [] (ms_st Γ ad ix σ) 0 0
  refine eg_aload_n 0 dX2_corners_0 rfl rfl ?_
  refine eg_iconst dX2_corners_1 kc_0 ?_
  refine em_puts 0 rfl q1142 dX2_corners_2 hi (fun g1 eg1 => ?_)
  replace h := h g1 eg1
  refine eg_aload_n 0 dX2_corners_5 rfl rfl ?_
  refine eg_iload_n 1 dX2_corners_6 rfl rfl ?_
  refine eg_iload_n 2 dX2_corners_7 rfl rfl ?_
  refine eg_iload_n 3 dX2_corners_8 rfl rfl ?_
  refine em_cvi (rest := []) (ctX2_refusesPart hi h) hi (lw_V q1397 q1399 qs53 q77 q1400) rfl nX2_refusesPart ⟨Nat.le_of_ble_eq_true rfl, Nat.le_of_ble_eq_true rfl⟩ ⟨rfl, rfl⟩ ⟨Nat.zero_le _, Nat.zero_le _⟩ rfl rfl (Nat.le_of_ble_eq_true rfl) dX2_corners_9 (fun v2 g3 h => ?_)
  refine eg_istore (lv' := [(4, .int v2), (0, .ref (ad 0)), (1, .int a1), (2, .int a2), (3, .int a3)]) dX2_corners_12 (Nat.le_of_ble_eq_true rfl) rfl ?_
  refine eg_iload 0 dX2_corners_14 rfl ?_
  refine eg_if_ge dX2_corners_16 (fun c7 => ?_) (fun c7 => ?_)
  · replace h := h.1 c7
    refine eg_iload_n 4 dX2_corners_24 rfl rfl ?_
    refine eg_aload_n 1 dX2_corners_25 rfl rfl ?_
    refine em_gets 18 rfl q1160 dX2_corners_26 hi ?_
    refine eg_icmp_ge dX2_corners_29 (fun c6 => ?_) (fun c6 => ?_)
    · replace h := h.1 c6
      refine eg_bipush dX2_corners_40 kb_m2 ?_
      exact eg_iret dX2_corners_42 (Nat.zero_le _) (Nat.zero_le _) (hP _ _ ⟨_, _, rfl, rfl, h⟩)
    · replace h := h.2 c6
      refine eg_aload_n 1 dX2_corners_32 rfl rfl ?_
      refine eg_iload_n 4 dX2_corners_33 rfl rfl ?_
      refine em_cvi (rest := []) (ctX2_cornersOf hi h) hi (lw_V q1413 q1415 qs54 q77 q1416) rfl nX2_cornersOf ⟨Nat.le_of_ble_eq_true rfl, Nat.le_of_ble_eq_true rfl⟩ ⟨rfl, rfl⟩ ⟨Nat.zero_le _, Nat.zero_le _⟩ rfl rfl (Nat.le_of_ble_eq_true rfl) dX2_corners_34 (fun v4 g5 h => ?_)
      refine eg_goto dX2_corners_37 ?_
      exact eg_iret dX2_corners_42 (Nat.zero_le _) (Nat.zero_le _) (hP _ _ ⟨_, _, rfl, rfl, h⟩)
  · replace h := h.2 c7
    refine eg_iload 0 dX2_corners_19 rfl ?_
    refine eg_goto dX2_corners_21 ?_
    exact eg_iret dX2_corners_42 (Nat.zero_le _) (Nat.zero_le _) (hP _ _ ⟨_, _, rfl, rfl, h⟩)
def MX2_cornerOf (σ : eb_MS) (a1 : Int32) (a2 : Int32) (a3 : Int32) (a4 : Int32) (K : Int32 → eb_MS → Prop) : Prop :=
  ms_ws σ 0 0 (fun g1 => eb_jp1 (fun (s2 : Int32) => MX2_refusesPart g1 a1 a2 s2 (fun v3 g4 => eb_br (0 ≤ v3) (eb_br (a3 < (g4.1 18)) (MX2_cornersOf g4 a3 (fun v5 g6 => eb_loop2 (fun r9 (x6_7 : Int32) (x7_8 : Int32) => eb_br ((g6.1 16) ≤ x7_8) (K (-1) g6) (eb_rd (g6.2.1 23) 500 x7_8 (fun v10 => eb_jp1 (fun (x6_11 : Int32) => r9 x6_11 (x7_8 + 1)) (fun k12 => eb_br (v10 = 0) (k12 x6_7) (eb_br (x6_7 = a4) (K x7_8 g6) (k12 (x6_7 + 1))))))) 0 0)) (K (-2) g4)) (K v3 g4))) (fun k18 => eb_br (a4 ≤ a3) (k18 a4) (k18 a3)))
abbrev rmX2_cornerOf : Room := { frames := 7, cells := 0, slots := 0, locals := 167 }
theorem nX2_cornerOf : eb_ar yX2_cornerOf 4 := by decide +kernel
theorem dX2_cornerOf_0 : eb_dc cX2_cornerOf 0 (.aload_n 0) 1 1 := by decide +kernel
theorem dX2_cornerOf_1 : eb_dc cX2_cornerOf 1 (.iconst 0) 1 2 := by decide +kernel
theorem dX2_cornerOf_2 : eb_dc cX2_cornerOf 2 (.putfield 106) 3 5 := by decide +kernel
theorem dX2_cornerOf_5 : eb_dc cX2_cornerOf 5 (.aload_n 0) 1 6 := by decide +kernel
theorem dX2_cornerOf_6 : eb_dc cX2_cornerOf 6 (.iload_n 1) 1 7 := by decide +kernel
theorem dX2_cornerOf_7 : eb_dc cX2_cornerOf 7 (.iload_n 2) 1 8 := by decide +kernel
theorem dX2_cornerOf_8 : eb_dc cX2_cornerOf 8 (.iload_n 3) 1 9 := by decide +kernel
theorem dX2_cornerOf_9 : eb_dc cX2_cornerOf 9 (.iload 4) 2 11 := by decide +kernel
theorem dX2_cornerOf_11 : eb_dj cX2_cornerOf 11 (.if_icmp .ge 7) 7 14 18 := by decide +kernel
theorem dX2_cornerOf_14 : eb_dc cX2_cornerOf 14 (.iload_n 3) 1 15 := by decide +kernel
theorem dX2_cornerOf_15 : eb_dj cX2_cornerOf 15 (.goto 5) 5 18 20 := by decide +kernel
theorem dX2_cornerOf_18 : eb_dc cX2_cornerOf 18 (.iload 4) 2 20 := by decide +kernel
theorem dX2_cornerOf_20 : eb_dc cX2_cornerOf 20 (.invokevirtual 191) 3 23 := by decide +kernel
theorem dX2_cornerOf_23 : eb_dc cX2_cornerOf 23 (.istore 5) 2 25 := by decide +kernel
theorem dX2_cornerOf_25 : eb_dc cX2_cornerOf 25 (.iload 5) 2 27 := by decide +kernel
theorem dX2_cornerOf_27 : eb_dj cX2_cornerOf 27 (.ifCond .ge 6) 6 30 33 := by decide +kernel
theorem dX2_cornerOf_30 : eb_dc cX2_cornerOf 30 (.iload 5) 2 32 := by decide +kernel
theorem dX2_cornerOf_32 : eb_dc cX2_cornerOf 32 (.ireturn) 1 33 := by decide +kernel
theorem dX2_cornerOf_33 : eb_dc cX2_cornerOf 33 (.iload_n 3) 1 34 := by decide +kernel
theorem dX2_cornerOf_34 : eb_dc cX2_cornerOf 34 (.aload_n 0) 1 35 := by decide +kernel
theorem dX2_cornerOf_35 : eb_dc cX2_cornerOf 35 (.getfield 158) 3 38 := by decide +kernel
theorem dX2_cornerOf_38 : eb_dj cX2_cornerOf 38 (.if_icmp .lt 6) 6 41 44 := by decide +kernel
theorem dX2_cornerOf_41 : eb_dc cX2_cornerOf 41 (.bipush (-2)) 2 43 := by decide +kernel
theorem dX2_cornerOf_43 : eb_dc cX2_cornerOf 43 (.ireturn) 1 44 := by decide +kernel
theorem dX2_cornerOf_44 : eb_dc cX2_cornerOf 44 (.aload_n 0) 1 45 := by decide +kernel
theorem dX2_cornerOf_45 : eb_dc cX2_cornerOf 45 (.iload_n 3) 1 46 := by decide +kernel
theorem dX2_cornerOf_46 : eb_dc cX2_cornerOf 46 (.invokevirtual 194) 3 49 := by decide +kernel
theorem dX2_cornerOf_49 : eb_dc cX2_cornerOf 49 (.pop) 1 50 := by decide +kernel
theorem dX2_cornerOf_50 : eb_dc cX2_cornerOf 50 (.iconst 0) 1 51 := by decide +kernel
theorem dX2_cornerOf_51 : eb_dc cX2_cornerOf 51 (.istore 6) 2 53 := by decide +kernel
theorem dX2_cornerOf_53 : eb_dc cX2_cornerOf 53 (.iconst 0) 1 54 := by decide +kernel
theorem dX2_cornerOf_54 : eb_dc cX2_cornerOf 54 (.istore 7) 2 56 := by decide +kernel
theorem dX2_cornerOf_56 : eb_dc cX2_cornerOf 56 (.iload 7) 2 58 := by decide +kernel
theorem dX2_cornerOf_58 : eb_dc cX2_cornerOf 58 (.aload_n 0) 1 59 := by decide +kernel
theorem dX2_cornerOf_59 : eb_dc cX2_cornerOf 59 (.getfield 161) 3 62 := by decide +kernel
theorem dX2_cornerOf_62 : eb_dj cX2_cornerOf 62 (.if_icmp .ge 32) 32 65 94 := by decide +kernel
theorem dX2_cornerOf_65 : eb_dc cX2_cornerOf 65 (.aload_n 0) 1 66 := by decide +kernel
theorem dX2_cornerOf_66 : eb_dc cX2_cornerOf 66 (.getfield 62) 3 69 := by decide +kernel
theorem dX2_cornerOf_69 : eb_dc cX2_cornerOf 69 (.iload 7) 2 71 := by decide +kernel
theorem dX2_cornerOf_71 : eb_dc cX2_cornerOf 71 (.baload) 1 72 := by decide +kernel
theorem dX2_cornerOf_72 : eb_dj cX2_cornerOf 72 (.ifCond .eq 16) 16 75 88 := by decide +kernel
theorem dX2_cornerOf_75 : eb_dc cX2_cornerOf 75 (.iload 6) 2 77 := by decide +kernel
theorem dX2_cornerOf_77 : eb_dc cX2_cornerOf 77 (.iload 4) 2 79 := by decide +kernel
theorem dX2_cornerOf_79 : eb_dj cX2_cornerOf 79 (.if_icmp .ne 6) 6 82 85 := by decide +kernel
theorem dX2_cornerOf_82 : eb_dc cX2_cornerOf 82 (.iload 7) 2 84 := by decide +kernel
theorem dX2_cornerOf_84 : eb_dc cX2_cornerOf 84 (.ireturn) 1 85 := by decide +kernel
theorem dX2_cornerOf_85 : eb_dc cX2_cornerOf 85 (.iinc 6 1) 3 88 := by decide +kernel
theorem dX2_cornerOf_88 : eb_dc cX2_cornerOf 88 (.iinc 7 1) 3 91 := by decide +kernel
theorem dX2_cornerOf_91 : eb_dj cX2_cornerOf 91 (.goto (-35)) (-35) 94 56 := by decide +kernel
theorem dX2_cornerOf_94 : eb_dc cX2_cornerOf 94 (.iconst (-1)) 1 95 := by decide +kernel
theorem dX2_cornerOf_95 : eb_dc cX2_cornerOf 95 (.ireturn) 1 96 := by decide +kernel
theorem ctX2_cornerOf {l : Launch} {Γ : eb_C} {ad : Nat → Nat} {ix : Nat → Option Nat} {σ : eb_MS} {a1 : Int32} {a2 : Int32} {a3 : Int32} {a4 : Int32} {K : Int32 → eb_MS → Prop} (hi : ms_inv ad ix) (h : MX2_cornerOf σ a1 a2 a3 a4 K) : eb_Ct l Γ yX2_cornerOf cX2_cornerOf 8 (some .int) rmX2_cornerOf [.ref (ad 0), .int a1, .int a2, .int a3, .int a4] (ms_st Γ ad ix σ) (em_I Γ ad ix K) := by
  refine eb_of (by decide) (Nat.le_of_ble_eq_true rfl) (fun X P hP _ => ?_)
  show eb_G l Γ P X cX2_cornerOf RX2 8 (some .int) rmX2_cornerOf 0 [(0, .ref (ad 0)), (1, .int a1), (2, .int a2), (3, .int a3), (4, .int a4)] [] (ms_st Γ ad ix σ) 0 0
  refine eg_aload_n 0 dX2_cornerOf_0 rfl rfl ?_
  refine eg_iconst dX2_cornerOf_1 kc_0 ?_
  refine em_puts 0 rfl q1142 dX2_cornerOf_2 hi (fun g1 eg1 => ?_)
  replace h := h g1 eg1
  refine eg_aload_n 0 dX2_cornerOf_5 rfl rfl ?_
  refine eg_iload_n 1 dX2_cornerOf_6 rfl rfl ?_
  refine eg_iload_n 2 dX2_cornerOf_7 rfl rfl ?_
  refine eg_iload_n 3 dX2_cornerOf_8 rfl rfl ?_
  refine eg_iload 4 dX2_cornerOf_9 rfl ?_
  refine eb_jp1_e (J := fun (s2 : Int32) => eb_G l Γ P X cX2_cornerOf RX2 8 (some .int) rmX2_cornerOf 20 [(0, .ref (ad 0)), (3, .int a3), (4, .int a4)] [.int s2, .int a2, .int a1, .ref (ad 0)] (ms_st Γ ad ix g1) 0 0) h ?_ ?_
  · intro s2 h
    refine em_cvi (rest := []) (ctX2_refusesPart hi h) hi (lw_V q1397 q1399 qs53 q77 q1400) rfl nX2_refusesPart ⟨Nat.le_of_ble_eq_true rfl, Nat.le_of_ble_eq_true rfl⟩ ⟨rfl, rfl⟩ ⟨Nat.zero_le _, Nat.zero_le _⟩ rfl rfl (Nat.le_of_ble_eq_true rfl) dX2_cornerOf_20 (fun v3 g4 h => ?_)
    refine eg_istore (lv' := [(5, .int v3), (0, .ref (ad 0)), (3, .int a3), (4, .int a4)]) dX2_cornerOf_23 (Nat.le_of_ble_eq_true rfl) rfl ?_
    refine eg_iload 0 dX2_cornerOf_25 rfl ?_
    refine eg_if_ge dX2_cornerOf_27 (fun c17 => ?_) (fun c17 => ?_)
    · replace h := h.1 c17
      refine eg_iload_n 2 dX2_cornerOf_33 rfl rfl ?_
      refine eg_aload_n 1 dX2_cornerOf_34 rfl rfl ?_
      refine em_gets 18 rfl q1160 dX2_cornerOf_35 hi ?_
      refine eg_icmp_lt dX2_cornerOf_38 (fun c16 => ?_) (fun c16 => ?_)
      · replace h := h.1 c16
        refine eg_aload_n 1 dX2_cornerOf_44 rfl rfl ?_
        refine eg_iload_n 2 dX2_cornerOf_45 rfl rfl ?_
        refine em_cvi (rest := []) (ctX2_cornersOf hi h) hi (lw_V q1413 q1415 qs54 q77 q1416) rfl nX2_cornersOf ⟨Nat.le_of_ble_eq_true rfl, Nat.le_of_ble_eq_true rfl⟩ ⟨rfl, rfl⟩ ⟨Nat.zero_le _, Nat.zero_le _⟩ rfl rfl (Nat.le_of_ble_eq_true rfl) dX2_cornerOf_46 (fun v5 g6 h => ?_)
        refine eg_pop dX2_cornerOf_49 rfl ?_
        refine eg_iconst dX2_cornerOf_50 kc_0 ?_
        refine eg_istore (lv' := [(6, .int 0), (5, .int v3), (0, .ref (ad 0)), (3, .int a3), (4, .int a4)]) dX2_cornerOf_51 (Nat.le_of_ble_eq_true rfl) rfl ?_
        refine eg_iconst dX2_cornerOf_53 kc_0 ?_
        refine eg_istore (lv' := [(7, .int 0), (6, .int 0), (5, .int v3), (0, .ref (ad 0)), (3, .int a3), (4, .int a4)]) dX2_cornerOf_54 (Nat.le_of_ble_eq_true rfl) rfl ?_
        refine eg_sub [3, 5, 1, 0] rfl ?_
        refine eb_loop2_e (J := fun (x6_7 : Int32) (x7_8 : Int32) => eb_G l Γ P X cX2_cornerOf RX2 8 (some .int) rmX2_cornerOf 56 [(0, .ref (ad 0)), (4, .int a4), (6, .int x6_7), (7, .int x7_8)] [] (ms_st Γ ad ix g6) 0 0) h ?_
        intro r9 hr9 x6_7 x7_8 h
        refine eg_iload 3 dX2_cornerOf_56 rfl ?_
        refine eg_aload_n 0 dX2_cornerOf_58 rfl rfl ?_
        refine em_gets 16 rfl q1158 dX2_cornerOf_59 hi ?_
        refine eg_icmp_ge dX2_cornerOf_62 (fun c15 => ?_) (fun c15 => ?_)
        · replace h := h.1 c15
          refine eg_iconst dX2_cornerOf_94 kc_m1 ?_
          exact eg_iret dX2_cornerOf_95 (Nat.zero_le _) (Nat.zero_le _) (hP _ _ ⟨_, _, rfl, rfl, h⟩)
        · replace h := h.2 c15
          refine eg_aload_n 0 dX2_cornerOf_65 rfl rfl ?_
          refine em_geta 23 rfl q1165 dX2_cornerOf_66 hi ?_
          refine eg_iload 3 dX2_cornerOf_69 rfl ?_
          obtain ⟨hb, h⟩ := h
          refine em_zald 23 rfl hb dX2_cornerOf_71 hi (fun v10 ev10 => ?_)
          replace h := h v10 ev10
          refine eb_jp1_e (J := fun (x6_11 : Int32) => eb_G l Γ P X cX2_cornerOf RX2 8 (some .int) rmX2_cornerOf 88 [(0, .ref (ad 0)), (4, .int a4), (6, .int x6_11), (7, .int x7_8)] [] (ms_st Γ ad ix g6) 0 0) h ?_ ?_
          · intro x6_11 h
            refine eg_iinc (j := 3) (lv' := [(7, .int (x7_8 + 1)), (0, .ref (ad 0)), (4, .int a4), (6, .int x6_11)]) dX2_cornerOf_88 rfl (by rw [kc_1]) (Nat.le_of_ble_eq_true rfl) rfl ?_
            refine eg_goto dX2_cornerOf_91 ?_
            exact eg_sub [1, 2, 3, 0] rfl (hr9 x6_11 (x7_8 + 1) h)
          · intro k12 hk12 h
            refine eg_if_eq dX2_cornerOf_72 (fun c14 => ?_) (fun c14 => ?_)
            · replace h := h.1 c14
              exact hk12 x6_7 h
            · replace h := h.2 c14
              refine eg_iload 2 dX2_cornerOf_75 rfl ?_
              refine eg_iload 1 dX2_cornerOf_77 rfl ?_
              refine eg_icmp_ne dX2_cornerOf_79 (fun c13 => ?_) (fun c13 => ?_)
              · replace h := h.2 c13
                refine eg_iinc (j := 2) (lv' := [(6, .int (x6_7 + 1)), (0, .ref (ad 0)), (4, .int a4), (7, .int x7_8)]) dX2_cornerOf_85 rfl (by rw [kc_1]) (Nat.le_of_ble_eq_true rfl) rfl ?_
                exact eg_sub [1, 2, 0, 3] rfl (hk12 (x6_7 + 1) h)
              · replace h := h.1 c13
                refine eg_iload 3 dX2_cornerOf_82 rfl ?_
                exact eg_iret dX2_cornerOf_84 (Nat.zero_le _) (Nat.zero_le _) (hP _ _ ⟨_, _, rfl, rfl, h⟩)
      · replace h := h.2 c16
        refine eg_bipush dX2_cornerOf_41 kb_m2 ?_
        exact eg_iret dX2_cornerOf_43 (Nat.zero_le _) (Nat.zero_le _) (hP _ _ ⟨_, _, rfl, rfl, h⟩)
    · replace h := h.2 c17
      refine eg_iload 0 dX2_cornerOf_30 rfl ?_
      exact eg_iret dX2_cornerOf_32 (Nat.zero_le _) (Nat.zero_le _) (hP _ _ ⟨_, _, rfl, rfl, h⟩)
  · intro k18 hk18 h
    refine eg_icmp_ge dX2_cornerOf_11 (fun c19 => ?_) (fun c19 => ?_)
    · replace h := h.1 c19
      refine eg_iload 4 dX2_cornerOf_18 rfl ?_
      exact eg_sub [0, 3, 4] rfl (hk18 a4 h)
    · replace h := h.2 c19
      refine eg_iload_n 3 dX2_cornerOf_14 rfl rfl ?_
      refine eg_goto dX2_cornerOf_15 ?_
      exact eg_sub [0, 3, 4] rfl (hk18 a3 h)
def MX2_isWithin  (a0 : Int32) (a1 : Int32) (K : Int32 → Prop) : Prop :=
  eb_br (a0 = a1) (K 0) (eb_br ((a0 &&& (a1 ^^^ (-1))) = 0) (K 1) (K 0))
abbrev rmX2_isWithin : Room := { frames := 1, cells := 0, slots := 0, locals := 12 }
theorem nX2_isWithin : eb_ar yX2_isWithin 2 := by decide +kernel
theorem dX2_isWithin_0 : eb_dc cX2_isWithin 0 (.iload_n 0) 1 1 := by decide +kernel
theorem dX2_isWithin_1 : eb_dc cX2_isWithin 1 (.iload_n 1) 1 2 := by decide +kernel
theorem dX2_isWithin_2 : eb_dj cX2_isWithin 2 (.if_icmp .eq 15) 15 5 17 := by decide +kernel
theorem dX2_isWithin_5 : eb_dc cX2_isWithin 5 (.iload_n 0) 1 6 := by decide +kernel
theorem dX2_isWithin_6 : eb_dc cX2_isWithin 6 (.iload_n 1) 1 7 := by decide +kernel
theorem dX2_isWithin_7 : eb_dc cX2_isWithin 7 (.iconst (-1)) 1 8 := by decide +kernel
theorem dX2_isWithin_8 : eb_dc cX2_isWithin 8 (.ixor) 1 9 := by decide +kernel
theorem dX2_isWithin_9 : eb_dc cX2_isWithin 9 (.iand) 1 10 := by decide +kernel
theorem dX2_isWithin_10 : eb_dj cX2_isWithin 10 (.ifCond .ne 7) 7 13 17 := by decide +kernel
theorem dX2_isWithin_13 : eb_dc cX2_isWithin 13 (.iconst 1) 1 14 := by decide +kernel
theorem dX2_isWithin_14 : eb_dj cX2_isWithin 14 (.goto 4) 4 17 18 := by decide +kernel
theorem dX2_isWithin_17 : eb_dc cX2_isWithin 17 (.iconst 0) 1 18 := by decide +kernel
theorem dX2_isWithin_18 : eb_dc cX2_isWithin 18 (.ireturn) 1 19 := by decide +kernel
theorem ctX2_isWithin {l : Launch} {Γ : eb_C} {st : eb_S} {a0 : Int32} {a1 : Int32} {K : Int32 → Prop} (h : MX2_isWithin a0 a1 K) : eb_Ct l Γ yX2_isWithin cX2_isWithin 2 (some .boolean) rmX2_isWithin [.int a0, .int a1] st (eb_pI st K) := by
  refine eb_of (by decide) (Nat.le_of_ble_eq_true rfl) (fun X P hP _ => ?_)
  show eb_G l Γ P X cX2_isWithin RX2 2 (some .boolean) rmX2_isWithin 0 [(0, .int a0), (1, .int a1)] [] st 0 0
  refine eg_iload_n 0 dX2_isWithin_0 rfl rfl ?_
  refine eg_iload_n 1 dX2_isWithin_1 rfl rfl ?_
  refine eg_icmp_eq dX2_isWithin_2 (fun c2 => ?_) (fun c2 => ?_)
  · replace h := h.1 c2
    refine eg_iconst dX2_isWithin_17 kc_0 ?_
    exact eg_zret dX2_isWithin_18 rfl (Nat.zero_le _) (Nat.zero_le _) (hP _ _ ⟨_, rfl, rfl, h⟩)
  · replace h := h.2 c2
    refine eg_iload_n 0 dX2_isWithin_5 rfl rfl ?_
    refine eg_iload_n 1 dX2_isWithin_6 rfl rfl ?_
    refine eg_iconst dX2_isWithin_7 kc_m1 ?_
    refine eg_ixor dX2_isWithin_8 ?_
    refine eg_iand dX2_isWithin_9 ?_
    refine eg_if_ne dX2_isWithin_10 (fun c1 => ?_) (fun c1 => ?_)
    · replace h := h.2 c1
      refine eg_iconst dX2_isWithin_17 kc_0 ?_
      exact eg_zret dX2_isWithin_18 rfl (Nat.zero_le _) (Nat.zero_le _) (hP _ _ ⟨_, rfl, rfl, h⟩)
    · replace h := h.1 c1
      refine eg_iconst dX2_isWithin_13 kc_1 ?_
      refine eg_goto dX2_isWithin_14 ?_
      exact eg_zret dX2_isWithin_18 rfl (Nat.zero_le _) (Nat.zero_le _) (hP _ _ ⟨_, rfl, rfl, h⟩)
def MX2_liesIn (σ : eb_MS) (a1 : Int32) (a2 : Int32) (a3 : Int32) (a4 : Int32) (a5 : Int32) (K : Int32 → eb_MS → Prop) : Prop :=
  ms_ws σ 0 0 (fun g1 => MX2_isBody a1 (fun v2 => eb_br (v2 = 0) (K (-2) g1) (MX2_isKind g1 a1 a4 (fun v4 => eb_br (v4 = 0) (K (-2) g1) (eb_jp1 (fun (s6 : Int32) => MX2_refusesPart g1 a1 a2 s6 (fun v7 g8 => eb_br (0 ≤ v7) (eb_br (a3 < (g8.1 18)) (eb_jp1 (fun (g9 : eb_MS) => MX2_tellsParts g9 a4 (fun g11 => eb_br (a5 < (g11.1 18)) (eb_jp1 (fun (x7_12 : Int32) => eb_br (x7_12 = 0) (K 0 g11) (MX2_isWithin a2 a4 (fun v13 => eb_br (v13 = 0) (K 0 g11) (K 1 g11)))) (fun k17 => eb_loop2 (fun r20 (x7_18 : Int32) (x8_19 : Int32) => eb_br ((g11.1 8) ≤ x8_19) (k17 x7_18) (eb_rd (g11.2.1 20) 500 x8_19 (fun v21 => eb_jp1 (fun (s22 : Int32) => r20 (x7_18 ||| s22) (x8_19 + 1)) (fun k23 => eb_br (v21 = a3) (eb_rd (g11.2.1 17) 500 x8_19 (fun v24 => eb_br (v24 = a5) (k23 1) (k23 0))) (k23 0))))) 0 0)) (K (-2) g11))) (fun k29 => eb_loop2 (fun r32 (x7_30 : Int32) (g31 : eb_MS) => eb_br ((g31.1 8) ≤ x7_30) (k29 g31) (eb_rd (g31.2.1 17) 500 x7_30 (fun v33 => ms_wr g31 20 500 x7_30 v33 (fun g34 => r32 (x7_30 + 1) g34)))) 0 g8)) (K (-2) g8)) (K v7 g8))) (fun k38 => eb_br (a5 ≤ a3) (k38 a5) (k38 a3)))))))
abbrev rmX2_liesIn : Room := { frames := 7, cells := 0, slots := 0, locals := 167 }
theorem nX2_liesIn : eb_ar yX2_liesIn 5 := by decide +kernel
theorem dX2_liesIn_0 : eb_dc cX2_liesIn 0 (.aload_n 0) 1 1 := by decide +kernel
theorem dX2_liesIn_1 : eb_dc cX2_liesIn 1 (.iconst 0) 1 2 := by decide +kernel
theorem dX2_liesIn_2 : eb_dc cX2_liesIn 2 (.putfield 106) 3 5 := by decide +kernel
theorem dX2_liesIn_5 : eb_dc cX2_liesIn 5 (.iload_n 1) 1 6 := by decide +kernel
theorem dX2_liesIn_6 : eb_dc cX2_liesIn 6 (.invokestatic 113) 3 9 := by decide +kernel
theorem dX2_liesIn_9 : eb_dj cX2_liesIn 9 (.ifCond .eq 13) 13 12 22 := by decide +kernel
theorem dX2_liesIn_12 : eb_dc cX2_liesIn 12 (.aload_n 0) 1 13 := by decide +kernel
theorem dX2_liesIn_13 : eb_dc cX2_liesIn 13 (.iload_n 1) 1 14 := by decide +kernel
theorem dX2_liesIn_14 : eb_dc cX2_liesIn 14 (.iload 4) 2 16 := by decide +kernel
theorem dX2_liesIn_16 : eb_dc cX2_liesIn 16 (.invokevirtual 188) 3 19 := by decide +kernel
theorem dX2_liesIn_19 : eb_dj cX2_liesIn 19 (.ifCond .ne 6) 6 22 25 := by decide +kernel
theorem dX2_liesIn_22 : eb_dc cX2_liesIn 22 (.bipush (-2)) 2 24 := by decide +kernel
theorem dX2_liesIn_24 : eb_dc cX2_liesIn 24 (.ireturn) 1 25 := by decide +kernel
theorem dX2_liesIn_25 : eb_dc cX2_liesIn 25 (.aload_n 0) 1 26 := by decide +kernel
theorem dX2_liesIn_26 : eb_dc cX2_liesIn 26 (.iload_n 1) 1 27 := by decide +kernel
theorem dX2_liesIn_27 : eb_dc cX2_liesIn 27 (.iload_n 2) 1 28 := by decide +kernel
theorem dX2_liesIn_28 : eb_dc cX2_liesIn 28 (.iload_n 3) 1 29 := by decide +kernel
theorem dX2_liesIn_29 : eb_dc cX2_liesIn 29 (.iload 5) 2 31 := by decide +kernel
theorem dX2_liesIn_31 : eb_dj cX2_liesIn 31 (.if_icmp .ge 7) 7 34 38 := by decide +kernel
theorem dX2_liesIn_34 : eb_dc cX2_liesIn 34 (.iload_n 3) 1 35 := by decide +kernel
theorem dX2_liesIn_35 : eb_dj cX2_liesIn 35 (.goto 5) 5 38 40 := by decide +kernel
theorem dX2_liesIn_38 : eb_dc cX2_liesIn 38 (.iload 5) 2 40 := by decide +kernel
theorem dX2_liesIn_40 : eb_dc cX2_liesIn 40 (.invokevirtual 191) 3 43 := by decide +kernel
theorem dX2_liesIn_43 : eb_dc cX2_liesIn 43 (.istore 6) 2 45 := by decide +kernel
theorem dX2_liesIn_45 : eb_dc cX2_liesIn 45 (.iload 6) 2 47 := by decide +kernel
theorem dX2_liesIn_47 : eb_dj cX2_liesIn 47 (.ifCond .ge 6) 6 50 53 := by decide +kernel
theorem dX2_liesIn_50 : eb_dc cX2_liesIn 50 (.iload 6) 2 52 := by decide +kernel
theorem dX2_liesIn_52 : eb_dc cX2_liesIn 52 (.ireturn) 1 53 := by decide +kernel
theorem dX2_liesIn_53 : eb_dc cX2_liesIn 53 (.iload_n 3) 1 54 := by decide +kernel
theorem dX2_liesIn_54 : eb_dc cX2_liesIn 54 (.aload_n 0) 1 55 := by decide +kernel
theorem dX2_liesIn_55 : eb_dc cX2_liesIn 55 (.getfield 158) 3 58 := by decide +kernel
theorem dX2_liesIn_58 : eb_dj cX2_liesIn 58 (.if_icmp .lt 6) 6 61 64 := by decide +kernel
theorem dX2_liesIn_61 : eb_dc cX2_liesIn 61 (.bipush (-2)) 2 63 := by decide +kernel
theorem dX2_liesIn_63 : eb_dc cX2_liesIn 63 (.ireturn) 1 64 := by decide +kernel
theorem dX2_liesIn_64 : eb_dc cX2_liesIn 64 (.iconst 0) 1 65 := by decide +kernel
theorem dX2_liesIn_65 : eb_dc cX2_liesIn 65 (.istore 7) 2 67 := by decide +kernel
theorem dX2_liesIn_67 : eb_dc cX2_liesIn 67 (.iload 7) 2 69 := by decide +kernel
theorem dX2_liesIn_69 : eb_dc cX2_liesIn 69 (.aload_n 0) 1 70 := by decide +kernel
theorem dX2_liesIn_70 : eb_dc cX2_liesIn 70 (.getfield 135) 3 73 := by decide +kernel
theorem dX2_liesIn_73 : eb_dj cX2_liesIn 73 (.if_icmp .ge 23) 23 76 96 := by decide +kernel
theorem dX2_liesIn_76 : eb_dc cX2_liesIn 76 (.aload_n 0) 1 77 := by decide +kernel
theorem dX2_liesIn_77 : eb_dc cX2_liesIn 77 (.getfield 53) 3 80 := by decide +kernel
theorem dX2_liesIn_80 : eb_dc cX2_liesIn 80 (.iload 7) 2 82 := by decide +kernel
theorem dX2_liesIn_82 : eb_dc cX2_liesIn 82 (.aload_n 0) 1 83 := by decide +kernel
theorem dX2_liesIn_83 : eb_dc cX2_liesIn 83 (.getfield 47) 3 86 := by decide +kernel
theorem dX2_liesIn_86 : eb_dc cX2_liesIn 86 (.iload 7) 2 88 := by decide +kernel
theorem dX2_liesIn_88 : eb_dc cX2_liesIn 88 (.iaload) 1 89 := by decide +kernel
theorem dX2_liesIn_89 : eb_dc cX2_liesIn 89 (.iastore) 1 90 := by decide +kernel
theorem dX2_liesIn_90 : eb_dc cX2_liesIn 90 (.iinc 7 1) 3 93 := by decide +kernel
theorem dX2_liesIn_93 : eb_dj cX2_liesIn 93 (.goto (-26)) (-26) 96 67 := by decide +kernel
theorem dX2_liesIn_96 : eb_dc cX2_liesIn 96 (.aload_n 0) 1 97 := by decide +kernel
theorem dX2_liesIn_97 : eb_dc cX2_liesIn 97 (.iload 4) 2 99 := by decide +kernel
theorem dX2_liesIn_99 : eb_dc cX2_liesIn 99 (.invokevirtual 154) 3 102 := by decide +kernel
theorem dX2_liesIn_102 : eb_dc cX2_liesIn 102 (.iload 5) 2 104 := by decide +kernel
theorem dX2_liesIn_104 : eb_dc cX2_liesIn 104 (.aload_n 0) 1 105 := by decide +kernel
theorem dX2_liesIn_105 : eb_dc cX2_liesIn 105 (.getfield 158) 3 108 := by decide +kernel
theorem dX2_liesIn_108 : eb_dj cX2_liesIn 108 (.if_icmp .lt 6) 6 111 114 := by decide +kernel
theorem dX2_liesIn_111 : eb_dc cX2_liesIn 111 (.bipush (-2)) 2 113 := by decide +kernel
theorem dX2_liesIn_113 : eb_dc cX2_liesIn 113 (.ireturn) 1 114 := by decide +kernel
theorem dX2_liesIn_114 : eb_dc cX2_liesIn 114 (.iconst 0) 1 115 := by decide +kernel
theorem dX2_liesIn_115 : eb_dc cX2_liesIn 115 (.istore 7) 2 117 := by decide +kernel
theorem dX2_liesIn_117 : eb_dc cX2_liesIn 117 (.iconst 0) 1 118 := by decide +kernel
theorem dX2_liesIn_118 : eb_dc cX2_liesIn 118 (.istore 8) 2 120 := by decide +kernel
theorem dX2_liesIn_120 : eb_dc cX2_liesIn 120 (.iload 8) 2 122 := by decide +kernel
theorem dX2_liesIn_122 : eb_dc cX2_liesIn 122 (.aload_n 0) 1 123 := by decide +kernel
theorem dX2_liesIn_123 : eb_dc cX2_liesIn 123 (.getfield 135) 3 126 := by decide +kernel
theorem dX2_liesIn_126 : eb_dj cX2_liesIn 126 (.if_icmp .ge 42) 42 129 168 := by decide +kernel
theorem dX2_liesIn_129 : eb_dc cX2_liesIn 129 (.iload 7) 2 131 := by decide +kernel
theorem dX2_liesIn_131 : eb_dc cX2_liesIn 131 (.aload_n 0) 1 132 := by decide +kernel
theorem dX2_liesIn_132 : eb_dc cX2_liesIn 132 (.getfield 53) 3 135 := by decide +kernel
theorem dX2_liesIn_135 : eb_dc cX2_liesIn 135 (.iload 8) 2 137 := by decide +kernel
theorem dX2_liesIn_137 : eb_dc cX2_liesIn 137 (.iaload) 1 138 := by decide +kernel
theorem dX2_liesIn_138 : eb_dc cX2_liesIn 138 (.iload_n 3) 1 139 := by decide +kernel
theorem dX2_liesIn_139 : eb_dj cX2_liesIn 139 (.if_icmp .ne 19) 19 142 158 := by decide +kernel
theorem dX2_liesIn_142 : eb_dc cX2_liesIn 142 (.aload_n 0) 1 143 := by decide +kernel
theorem dX2_liesIn_143 : eb_dc cX2_liesIn 143 (.getfield 47) 3 146 := by decide +kernel
theorem dX2_liesIn_146 : eb_dc cX2_liesIn 146 (.iload 8) 2 148 := by decide +kernel
theorem dX2_liesIn_148 : eb_dc cX2_liesIn 148 (.iaload) 1 149 := by decide +kernel
theorem dX2_liesIn_149 : eb_dc cX2_liesIn 149 (.iload 5) 2 151 := by decide +kernel
theorem dX2_liesIn_151 : eb_dj cX2_liesIn 151 (.if_icmp .ne 7) 7 154 158 := by decide +kernel
theorem dX2_liesIn_154 : eb_dc cX2_liesIn 154 (.iconst 1) 1 155 := by decide +kernel
theorem dX2_liesIn_155 : eb_dj cX2_liesIn 155 (.goto 4) 4 158 159 := by decide +kernel
theorem dX2_liesIn_158 : eb_dc cX2_liesIn 158 (.iconst 0) 1 159 := by decide +kernel
theorem dX2_liesIn_159 : eb_dc cX2_liesIn 159 (.ior) 1 160 := by decide +kernel
theorem dX2_liesIn_160 : eb_dc cX2_liesIn 160 (.istore 7) 2 162 := by decide +kernel
theorem dX2_liesIn_162 : eb_dc cX2_liesIn 162 (.iinc 8 1) 3 165 := by decide +kernel
theorem dX2_liesIn_165 : eb_dj cX2_liesIn 165 (.goto (-45)) (-45) 168 120 := by decide +kernel
theorem dX2_liesIn_168 : eb_dc cX2_liesIn 168 (.iload 7) 2 170 := by decide +kernel
theorem dX2_liesIn_170 : eb_dj cX2_liesIn 170 (.ifCond .eq 16) 16 173 186 := by decide +kernel
theorem dX2_liesIn_173 : eb_dc cX2_liesIn 173 (.iload_n 2) 1 174 := by decide +kernel
theorem dX2_liesIn_174 : eb_dc cX2_liesIn 174 (.iload 4) 2 176 := by decide +kernel
theorem dX2_liesIn_176 : eb_dc cX2_liesIn 176 (.invokestatic 197) 3 179 := by decide +kernel
theorem dX2_liesIn_179 : eb_dj cX2_liesIn 179 (.ifCond .eq 7) 7 182 186 := by decide +kernel
theorem dX2_liesIn_182 : eb_dc cX2_liesIn 182 (.iconst 1) 1 183 := by decide +kernel
theorem dX2_liesIn_183 : eb_dj cX2_liesIn 183 (.goto 4) 4 186 187 := by decide +kernel
theorem dX2_liesIn_186 : eb_dc cX2_liesIn 186 (.iconst 0) 1 187 := by decide +kernel
theorem dX2_liesIn_187 : eb_dc cX2_liesIn 187 (.ireturn) 1 188 := by decide +kernel
theorem ctX2_liesIn {l : Launch} {Γ : eb_C} {ad : Nat → Nat} {ix : Nat → Option Nat} {σ : eb_MS} {a1 : Int32} {a2 : Int32} {a3 : Int32} {a4 : Int32} {a5 : Int32} {K : Int32 → eb_MS → Prop} (hi : ms_inv ad ix) (h : MX2_liesIn σ a1 a2 a3 a4 a5 K) : eb_Ct l Γ yX2_liesIn cX2_liesIn 9 (some .int) rmX2_liesIn [.ref (ad 0), .int a1, .int a2, .int a3, .int a4, .int a5] (ms_st Γ ad ix σ) (em_I Γ ad ix K) := by
  refine eb_of (by decide) (Nat.le_of_ble_eq_true rfl) (fun X P hP _ => ?_)
  show eb_G l Γ P X cX2_liesIn RX2 9 (some .int) rmX2_liesIn 0 [(0, .ref (ad 0)), (1, .int a1), (2, .int a2), (3, .int a3), (4, .int a4), (5, .int a5)] [] (ms_st Γ ad ix σ) 0 0
  refine eg_aload_n 0 dX2_liesIn_0 rfl rfl ?_
  refine eg_iconst dX2_liesIn_1 kc_0 ?_
  refine em_puts 0 rfl q1142 dX2_liesIn_2 hi (fun g1 eg1 => ?_)
  replace h := h g1 eg1
  refine eg_iload_n 1 dX2_liesIn_5 rfl rfl ?_
  refine eg_csp (rest := []) (ctX2_isBody h) (lw_S q1252 q1253 q77 q1254) nX2_isBody ⟨Nat.le_of_ble_eq_true rfl, Nat.le_of_ble_eq_true rfl⟩ ⟨rfl, rfl⟩ ⟨Nat.zero_le _, Nat.zero_le _⟩ rfl rfl (Nat.le_of_ble_eq_true rfl) dX2_liesIn_6 (fun v2 h => ?_)
  refine eg_if_eq dX2_liesIn_9 (fun c41 => ?_) (fun c41 => ?_)
  · replace h := h.1 c41
    refine eg_bipush dX2_liesIn_22 kb_m2 ?_
    exact eg_iret dX2_liesIn_24 (Nat.zero_le _) (Nat.zero_le _) (hP _ _ ⟨_, _, rfl, rfl, h⟩)
  · replace h := h.2 c41
    refine eg_aload_n 0 dX2_liesIn_12 rfl rfl ?_
    refine eg_iload_n 1 dX2_liesIn_13 rfl rfl ?_
    refine eg_iload 4 dX2_liesIn_14 rfl ?_
    refine em_cvp (rest := []) (ctX2_isKind hi h) hi (lw_V q1385 q1387 qs52 q77 q1388) rfl nX2_isKind ⟨Nat.le_of_ble_eq_true rfl, Nat.le_of_ble_eq_true rfl⟩ ⟨rfl, rfl⟩ ⟨Nat.zero_le _, Nat.zero_le _⟩ rfl rfl (Nat.le_of_ble_eq_true rfl) dX2_liesIn_16 (fun v4 h => ?_)
    refine eg_if_ne dX2_liesIn_19 (fun c40 => ?_) (fun c40 => ?_)
    · replace h := h.2 c40
      refine eg_aload_n 0 dX2_liesIn_25 rfl rfl ?_
      refine eg_iload_n 1 dX2_liesIn_26 rfl rfl ?_
      refine eg_iload_n 2 dX2_liesIn_27 rfl rfl ?_
      refine eg_iload_n 3 dX2_liesIn_28 rfl rfl ?_
      refine eg_iload 5 dX2_liesIn_29 rfl ?_
      refine eb_jp1_e (J := fun (s6 : Int32) => eb_G l Γ P X cX2_liesIn RX2 9 (some .int) rmX2_liesIn 40 [(0, .ref (ad 0)), (2, .int a2), (3, .int a3), (4, .int a4), (5, .int a5)] [.int s6, .int a2, .int a1, .ref (ad 0)] (ms_st Γ ad ix g1) 0 0) h ?_ ?_
      · intro s6 h
        refine em_cvi (rest := []) (ctX2_refusesPart hi h) hi (lw_V q1397 q1399 qs53 q77 q1400) rfl nX2_refusesPart ⟨Nat.le_of_ble_eq_true rfl, Nat.le_of_ble_eq_true rfl⟩ ⟨rfl, rfl⟩ ⟨Nat.zero_le _, Nat.zero_le _⟩ rfl rfl (Nat.le_of_ble_eq_true rfl) dX2_liesIn_40 (fun v7 g8 h => ?_)
        refine eg_istore (lv' := [(6, .int v7), (0, .ref (ad 0)), (2, .int a2), (3, .int a3), (4, .int a4), (5, .int a5)]) dX2_liesIn_43 (Nat.le_of_ble_eq_true rfl) rfl ?_
        refine eg_iload 0 dX2_liesIn_45 rfl ?_
        refine eg_if_ge dX2_liesIn_47 (fun c37 => ?_) (fun c37 => ?_)
        · replace h := h.1 c37
          refine eg_iload_n 3 dX2_liesIn_53 rfl rfl ?_
          refine eg_aload_n 1 dX2_liesIn_54 rfl rfl ?_
          refine em_gets 18 rfl q1160 dX2_liesIn_55 hi ?_
          refine eg_icmp_lt dX2_liesIn_58 (fun c36 => ?_) (fun c36 => ?_)
          · replace h := h.1 c36
            refine eg_iconst dX2_liesIn_64 kc_0 ?_
            refine eg_istore (lv' := [(7, .int 0), (6, .int v7), (0, .ref (ad 0)), (2, .int a2), (3, .int a3), (4, .int a4), (5, .int a5)]) dX2_liesIn_65 (Nat.le_of_ble_eq_true rfl) rfl ?_
            refine eb_jp1_e (J := fun (g9 : eb_MS) => eb_G l Γ P X cX2_liesIn RX2 9 (some .int) rmX2_liesIn 96 [(0, .ref (ad 0)), (2, .int a2), (3, .int a3), (4, .int a4), (5, .int a5)] [] (ms_st Γ ad ix g9) 0 0) h ?_ ?_
            · intro g9 h
              refine eg_aload_n 0 dX2_liesIn_96 rfl rfl ?_
              refine eg_iload 3 dX2_liesIn_97 rfl ?_
              refine em_cvv (rest := []) (ctX2_tellsParts hi h) hi (lw_V q1317 q1319 qs45 q77 q1320) rfl nX2_tellsParts ⟨Nat.le_of_ble_eq_true rfl, Nat.le_of_ble_eq_true rfl⟩ ⟨rfl, rfl⟩ ⟨Nat.zero_le _, Nat.zero_le _⟩ rfl rfl (Nat.le_of_ble_eq_true rfl) dX2_liesIn_99 (fun g11 h => ?_)
              refine eg_iload 4 dX2_liesIn_102 rfl ?_
              refine eg_aload_n 0 dX2_liesIn_104 rfl rfl ?_
              refine em_gets 18 rfl q1160 dX2_liesIn_105 hi ?_
              refine eg_icmp_lt dX2_liesIn_108 (fun c28 => ?_) (fun c28 => ?_)
              · replace h := h.1 c28
                refine eg_iconst dX2_liesIn_114 kc_0 ?_
                refine eg_istore (lv' := [(7, .int 0), (0, .ref (ad 0)), (2, .int a2), (3, .int a3), (4, .int a4), (5, .int a5)]) dX2_liesIn_115 (Nat.le_of_ble_eq_true rfl) rfl ?_
                refine eg_iconst dX2_liesIn_117 kc_0 ?_
                refine eg_istore (lv' := [(8, .int 0), (7, .int 0), (0, .ref (ad 0)), (2, .int a2), (3, .int a3), (4, .int a4), (5, .int a5)]) dX2_liesIn_118 (Nat.le_of_ble_eq_true rfl) rfl ?_
                refine eb_jp1_e (J := fun (x7_12 : Int32) => eb_G l Γ P X cX2_liesIn RX2 9 (some .int) rmX2_liesIn 168 [(2, .int a2), (4, .int a4), (7, .int x7_12)] [] (ms_st Γ ad ix g11) 0 0) h ?_ ?_
                · intro x7_12 h
                  refine eg_iload 2 dX2_liesIn_168 rfl ?_
                  refine eg_if_eq dX2_liesIn_170 (fun c16 => ?_) (fun c16 => ?_)
                  · replace h := h.1 c16
                    refine eg_iconst dX2_liesIn_186 kc_0 ?_
                    exact eg_iret dX2_liesIn_187 (Nat.zero_le _) (Nat.zero_le _) (hP _ _ ⟨_, _, rfl, rfl, h⟩)
                  · replace h := h.2 c16
                    refine eg_iload_n 0 dX2_liesIn_173 rfl rfl ?_
                    refine eg_iload 1 dX2_liesIn_174 rfl ?_
                    refine eg_csp (rest := []) (ctX2_isWithin h) (lw_S q1425 q1426 q77 q1427) nX2_isWithin ⟨Nat.le_of_ble_eq_true rfl, Nat.le_of_ble_eq_true rfl⟩ ⟨rfl, rfl⟩ ⟨Nat.zero_le _, Nat.zero_le _⟩ rfl rfl (Nat.le_of_ble_eq_true rfl) dX2_liesIn_176 (fun v13 h => ?_)
                    refine eg_if_eq dX2_liesIn_179 (fun c15 => ?_) (fun c15 => ?_)
                    · replace h := h.1 c15
                      refine eg_iconst dX2_liesIn_186 kc_0 ?_
                      exact eg_iret dX2_liesIn_187 (Nat.zero_le _) (Nat.zero_le _) (hP _ _ ⟨_, _, rfl, rfl, h⟩)
                    · replace h := h.2 c15
                      refine eg_iconst dX2_liesIn_182 kc_1 ?_
                      refine eg_goto dX2_liesIn_183 ?_
                      exact eg_iret dX2_liesIn_187 (Nat.zero_le _) (Nat.zero_le _) (hP _ _ ⟨_, _, rfl, rfl, h⟩)
                · intro k17 hk17 h
                  refine eg_sub [2, 3, 4, 5, 6, 1, 0] rfl ?_
                  refine eb_loop2_e (J := fun (x7_18 : Int32) (x8_19 : Int32) => eb_G l Γ P X cX2_liesIn RX2 9 (some .int) rmX2_liesIn 120 [(0, .ref (ad 0)), (2, .int a2), (3, .int a3), (4, .int a4), (5, .int a5), (7, .int x7_18), (8, .int x8_19)] [] (ms_st Γ ad ix g11) 0 0) h ?_
                  intro r20 hr20 x7_18 x8_19 h
                  refine eg_iload 6 dX2_liesIn_120 rfl ?_
                  refine eg_aload_n 0 dX2_liesIn_122 rfl rfl ?_
                  refine em_gets 8 rfl q1150 dX2_liesIn_123 hi ?_
                  refine eg_icmp_ge dX2_liesIn_126 (fun c27 => ?_) (fun c27 => ?_)
                  · replace h := h.1 c27
                    exact eg_sub [1, 3, 5] rfl (hk17 x7_18 h)
                  · replace h := h.2 c27
                    refine eg_iload 5 dX2_liesIn_129 rfl ?_
                    refine eg_aload_n 0 dX2_liesIn_131 rfl rfl ?_
                    refine em_geta 20 rfl q1162 dX2_liesIn_132 hi ?_
                    refine eg_iload 6 dX2_liesIn_135 rfl ?_
                    obtain ⟨hb, h⟩ := h
                    refine em_iald 20 rfl hb dX2_liesIn_137 hi (fun v21 ev21 => ?_)
                    replace h := h v21 ev21
                    refine eg_iload_n 2 dX2_liesIn_138 rfl rfl ?_
                    refine eb_jp1_e (J := fun (s22 : Int32) => eb_G l Γ P X cX2_liesIn RX2 9 (some .int) rmX2_liesIn 159 [(0, .ref (ad 0)), (2, .int a2), (3, .int a3), (4, .int a4), (5, .int a5), (8, .int x8_19)] [.int s22, .int x7_18] (ms_st Γ ad ix g11) 0 0) h ?_ ?_
                    · intro s22 h
                      refine eg_ior dX2_liesIn_159 ?_
                      refine eg_istore (lv' := [(7, .int (x7_18 ||| s22)), (0, .ref (ad 0)), (2, .int a2), (3, .int a3), (4, .int a4), (5, .int a5), (8, .int x8_19)]) dX2_liesIn_160 (Nat.le_of_ble_eq_true rfl) rfl ?_
                      refine eg_iinc (j := 6) (lv' := [(8, .int (x8_19 + 1)), (7, .int (x7_18 ||| s22)), (0, .ref (ad 0)), (2, .int a2), (3, .int a3), (4, .int a4), (5, .int a5)]) dX2_liesIn_162 rfl (by rw [kc_1]) (Nat.le_of_ble_eq_true rfl) rfl ?_
                      refine eg_goto dX2_liesIn_165 ?_
                      exact eg_sub [2, 3, 4, 5, 6, 1, 0] rfl (hr20 (x7_18 ||| s22) (x8_19 + 1) h)
                    · intro k23 hk23 h
                      refine eg_icmp_ne dX2_liesIn_139 (fun c26 => ?_) (fun c26 => ?_)
                      · replace h := h.2 c26
                        refine eg_iconst dX2_liesIn_158 kc_0 ?_
                        exact eg_sub [0, 1, 2, 3, 4, 6] rfl (hk23 0 h)
                      · replace h := h.1 c26
                        refine eg_aload_n 0 dX2_liesIn_142 rfl rfl ?_
                        refine em_geta 17 rfl q1159 dX2_liesIn_143 hi ?_
                        refine eg_iload 6 dX2_liesIn_146 rfl ?_
                        obtain ⟨hb, h⟩ := h
                        refine em_iald 17 rfl hb dX2_liesIn_148 hi (fun v24 ev24 => ?_)
                        replace h := h v24 ev24
                        refine eg_iload 4 dX2_liesIn_149 rfl ?_
                        refine eg_icmp_ne dX2_liesIn_151 (fun c25 => ?_) (fun c25 => ?_)
                        · replace h := h.2 c25
                          refine eg_iconst dX2_liesIn_158 kc_0 ?_
                          exact eg_sub [0, 1, 2, 3, 4, 6] rfl (hk23 0 h)
                        · replace h := h.1 c25
                          refine eg_iconst dX2_liesIn_154 kc_1 ?_
                          refine eg_goto dX2_liesIn_155 ?_
                          exact eg_sub [0, 1, 2, 3, 4, 6] rfl (hk23 1 h)
              · replace h := h.2 c28
                refine eg_bipush dX2_liesIn_111 kb_m2 ?_
                exact eg_iret dX2_liesIn_113 (Nat.zero_le _) (Nat.zero_le _) (hP _ _ ⟨_, _, rfl, rfl, h⟩)
            · intro k29 hk29 h
              refine eg_sub [2, 3, 4, 5, 6, 0] rfl ?_
              refine eb_loop2_e (J := fun (x7_30 : Int32) (g31 : eb_MS) => eb_G l Γ P X cX2_liesIn RX2 9 (some .int) rmX2_liesIn 67 [(0, .ref (ad 0)), (2, .int a2), (3, .int a3), (4, .int a4), (5, .int a5), (7, .int x7_30)] [] (ms_st Γ ad ix g31) 0 0) h ?_
              intro r32 hr32 x7_30 g31 h
              refine eg_iload 5 dX2_liesIn_67 rfl ?_
              refine eg_aload_n 0 dX2_liesIn_69 rfl rfl ?_
              refine em_gets 8 rfl q1150 dX2_liesIn_70 hi ?_
              refine eg_icmp_ge dX2_liesIn_73 (fun c35 => ?_) (fun c35 => ?_)
              · replace h := h.1 c35
                exact eg_sub [0, 1, 2, 3, 4] rfl (hk29 g31 h)
              · replace h := h.2 c35
                refine eg_aload_n 0 dX2_liesIn_76 rfl rfl ?_
                refine em_geta 20 rfl q1162 dX2_liesIn_77 hi ?_
                refine eg_iload 5 dX2_liesIn_80 rfl ?_
                refine eg_aload_n 0 dX2_liesIn_82 rfl rfl ?_
                refine em_geta 17 rfl q1159 dX2_liesIn_83 hi ?_
                refine eg_iload 5 dX2_liesIn_86 rfl ?_
                obtain ⟨hb, h⟩ := h
                refine em_iald 17 rfl hb dX2_liesIn_88 hi (fun v33 ev33 => ?_)
                replace h := h v33 ev33
                obtain ⟨hb, h⟩ := h
                refine em_iast 20 rfl hb dX2_liesIn_89 hi (fun g34 eg34 => ?_)
                replace h := h g34 eg34
                refine eg_iinc (j := 5) (lv' := [(7, .int (x7_30 + 1)), (0, .ref (ad 0)), (2, .int a2), (3, .int a3), (4, .int a4), (5, .int a5)]) dX2_liesIn_90 rfl (by rw [kc_1]) (Nat.le_of_ble_eq_true rfl) rfl ?_
                refine eg_goto dX2_liesIn_93 ?_
                exact eg_sub [1, 2, 3, 4, 5, 0] rfl (hr32 (x7_30 + 1) g34 h)
          · replace h := h.2 c36
            refine eg_bipush dX2_liesIn_61 kb_m2 ?_
            exact eg_iret dX2_liesIn_63 (Nat.zero_le _) (Nat.zero_le _) (hP _ _ ⟨_, _, rfl, rfl, h⟩)
        · replace h := h.2 c37
          refine eg_iload 0 dX2_liesIn_50 rfl ?_
          exact eg_iret dX2_liesIn_52 (Nat.zero_le _) (Nat.zero_le _) (hP _ _ ⟨_, _, rfl, rfl, h⟩)
      · intro k38 hk38 h
        refine eg_icmp_ge dX2_liesIn_31 (fun c39 => ?_) (fun c39 => ?_)
        · replace h := h.1 c39
          refine eg_iload 5 dX2_liesIn_38 rfl ?_
          exact eg_sub [0, 2, 3, 4, 5] rfl (hk38 a5 h)
        · replace h := h.2 c39
          refine eg_iload_n 3 dX2_liesIn_34 rfl rfl ?_
          refine eg_goto dX2_liesIn_35 ?_
          exact eg_sub [0, 2, 3, 4, 5] rfl (hk38 a3 h)
    · replace h := h.1 c40
      refine eg_bipush dX2_liesIn_22 kb_m2 ?_
      exact eg_iret dX2_liesIn_24 (Nat.zero_le _) (Nat.zero_le _) (hP _ _ ⟨_, _, rfl, rfl, h⟩)
def MX2_within (σ : eb_MS) (a1 : Int32) (a2 : Int32) (a3 : Int32) (a4 : Int32) (K : Int32 → eb_MS → Prop) : Prop :=
  ms_ws σ 0 0 (fun g1 => MX2_isBody a1 (fun v2 => eb_br (v2 = 0) (K (-2) g1) (MX2_isKind g1 a1 a3 (fun v4 => eb_br (v4 = 0) (K (-2) g1) (MX2_refusesPart g1 a1 a2 a4 (fun v6 g7 => eb_br (0 ≤ v6) (eb_jp1 (fun (g8 : eb_MS) => MX2_tellsParts g8 a3 (fun g10 => eb_br (a4 < (g10.1 18)) (MX2_clears g10  (fun g12 => eb_loop3 (fun r16 (x6_13 : Int32) (x7_14 : Int32) (g15 : eb_MS) => eb_br ((g15.1 8) ≤ x7_14) (K x6_13 g15) (MX2_isWithin a2 a3 (fun v17 => eb_br (v17 = 0) (K x6_13 g15) (eb_rd (g15.2.1 17) 500 x7_14 (fun v19 => eb_jp2 (fun (x6_20 : Int32) (g21 : eb_MS) => r16 x6_20 (x7_14 + 1) g21) (fun k22 => eb_br (v19 = a4) (eb_rd (g15.2.1 20) 500 x7_14 (fun v23 => eb_rd (g15.2.1 23) 500 v23 (fun v24 => eb_br (v24 = 0) (eb_rd (g15.2.1 20) 500 x7_14 (fun v25 => ms_wr g15 23 500 v25 (vp_nar .boolean 1) (fun g26 => k22 (x6_13 + 1) g26))) (k22 x6_13 g15)))) (k22 x6_13 g15))))))) 0 0 g12)) (K (-2) g10))) (fun k32 => eb_loop2 (fun r35 (x6_33 : Int32) (g34 : eb_MS) => eb_br ((g34.1 8) ≤ x6_33) (k32 g34) (eb_rd (g34.2.1 17) 500 x6_33 (fun v36 => ms_wr g34 20 500 x6_33 v36 (fun g37 => r35 (x6_33 + 1) g37)))) 0 g7)) (K v6 g7)))))))
abbrev rmX2_within : Room := { frames := 7, cells := 0, slots := 0, locals := 167 }
theorem nX2_within : eb_ar yX2_within 4 := by decide +kernel
theorem dX2_within_0 : eb_dc cX2_within 0 (.aload_n 0) 1 1 := by decide +kernel
theorem dX2_within_1 : eb_dc cX2_within 1 (.iconst 0) 1 2 := by decide +kernel
theorem dX2_within_2 : eb_dc cX2_within 2 (.putfield 106) 3 5 := by decide +kernel
theorem dX2_within_5 : eb_dc cX2_within 5 (.iload_n 1) 1 6 := by decide +kernel
theorem dX2_within_6 : eb_dc cX2_within 6 (.invokestatic 113) 3 9 := by decide +kernel
theorem dX2_within_9 : eb_dj cX2_within 9 (.ifCond .eq 12) 12 12 21 := by decide +kernel
theorem dX2_within_12 : eb_dc cX2_within 12 (.aload_n 0) 1 13 := by decide +kernel
theorem dX2_within_13 : eb_dc cX2_within 13 (.iload_n 1) 1 14 := by decide +kernel
theorem dX2_within_14 : eb_dc cX2_within 14 (.iload_n 3) 1 15 := by decide +kernel
theorem dX2_within_15 : eb_dc cX2_within 15 (.invokevirtual 188) 3 18 := by decide +kernel
theorem dX2_within_18 : eb_dj cX2_within 18 (.ifCond .ne 6) 6 21 24 := by decide +kernel
theorem dX2_within_21 : eb_dc cX2_within 21 (.bipush (-2)) 2 23 := by decide +kernel
theorem dX2_within_23 : eb_dc cX2_within 23 (.ireturn) 1 24 := by decide +kernel
theorem dX2_within_24 : eb_dc cX2_within 24 (.aload_n 0) 1 25 := by decide +kernel
theorem dX2_within_25 : eb_dc cX2_within 25 (.iload_n 1) 1 26 := by decide +kernel
theorem dX2_within_26 : eb_dc cX2_within 26 (.iload_n 2) 1 27 := by decide +kernel
theorem dX2_within_27 : eb_dc cX2_within 27 (.iload 4) 2 29 := by decide +kernel
theorem dX2_within_29 : eb_dc cX2_within 29 (.invokevirtual 191) 3 32 := by decide +kernel
theorem dX2_within_32 : eb_dc cX2_within 32 (.istore 5) 2 34 := by decide +kernel
theorem dX2_within_34 : eb_dc cX2_within 34 (.iload 5) 2 36 := by decide +kernel
theorem dX2_within_36 : eb_dj cX2_within 36 (.ifCond .ge 6) 6 39 42 := by decide +kernel
theorem dX2_within_39 : eb_dc cX2_within 39 (.iload 5) 2 41 := by decide +kernel
theorem dX2_within_41 : eb_dc cX2_within 41 (.ireturn) 1 42 := by decide +kernel
theorem dX2_within_42 : eb_dc cX2_within 42 (.iconst 0) 1 43 := by decide +kernel
theorem dX2_within_43 : eb_dc cX2_within 43 (.istore 6) 2 45 := by decide +kernel
theorem dX2_within_45 : eb_dc cX2_within 45 (.iload 6) 2 47 := by decide +kernel
theorem dX2_within_47 : eb_dc cX2_within 47 (.aload_n 0) 1 48 := by decide +kernel
theorem dX2_within_48 : eb_dc cX2_within 48 (.getfield 135) 3 51 := by decide +kernel
theorem dX2_within_51 : eb_dj cX2_within 51 (.if_icmp .ge 23) 23 54 74 := by decide +kernel
theorem dX2_within_54 : eb_dc cX2_within 54 (.aload_n 0) 1 55 := by decide +kernel
theorem dX2_within_55 : eb_dc cX2_within 55 (.getfield 53) 3 58 := by decide +kernel
theorem dX2_within_58 : eb_dc cX2_within 58 (.iload 6) 2 60 := by decide +kernel
theorem dX2_within_60 : eb_dc cX2_within 60 (.aload_n 0) 1 61 := by decide +kernel
theorem dX2_within_61 : eb_dc cX2_within 61 (.getfield 47) 3 64 := by decide +kernel
theorem dX2_within_64 : eb_dc cX2_within 64 (.iload 6) 2 66 := by decide +kernel
theorem dX2_within_66 : eb_dc cX2_within 66 (.iaload) 1 67 := by decide +kernel
theorem dX2_within_67 : eb_dc cX2_within 67 (.iastore) 1 68 := by decide +kernel
theorem dX2_within_68 : eb_dc cX2_within 68 (.iinc 6 1) 3 71 := by decide +kernel
theorem dX2_within_71 : eb_dj cX2_within 71 (.goto (-26)) (-26) 74 45 := by decide +kernel
theorem dX2_within_74 : eb_dc cX2_within 74 (.aload_n 0) 1 75 := by decide +kernel
theorem dX2_within_75 : eb_dc cX2_within 75 (.iload_n 3) 1 76 := by decide +kernel
theorem dX2_within_76 : eb_dc cX2_within 76 (.invokevirtual 154) 3 79 := by decide +kernel
theorem dX2_within_79 : eb_dc cX2_within 79 (.iload 4) 2 81 := by decide +kernel
theorem dX2_within_81 : eb_dc cX2_within 81 (.aload_n 0) 1 82 := by decide +kernel
theorem dX2_within_82 : eb_dc cX2_within 82 (.getfield 158) 3 85 := by decide +kernel
theorem dX2_within_85 : eb_dj cX2_within 85 (.if_icmp .lt 6) 6 88 91 := by decide +kernel
theorem dX2_within_88 : eb_dc cX2_within 88 (.bipush (-2)) 2 90 := by decide +kernel
theorem dX2_within_90 : eb_dc cX2_within 90 (.ireturn) 1 91 := by decide +kernel
theorem dX2_within_91 : eb_dc cX2_within 91 (.aload_n 0) 1 92 := by decide +kernel
theorem dX2_within_92 : eb_dc cX2_within 92 (.invokevirtual 182) 3 95 := by decide +kernel
theorem dX2_within_95 : eb_dc cX2_within 95 (.iconst 0) 1 96 := by decide +kernel
theorem dX2_within_96 : eb_dc cX2_within 96 (.istore 6) 2 98 := by decide +kernel
theorem dX2_within_98 : eb_dc cX2_within 98 (.iconst 0) 1 99 := by decide +kernel
theorem dX2_within_99 : eb_dc cX2_within 99 (.istore 7) 2 101 := by decide +kernel
theorem dX2_within_101 : eb_dc cX2_within 101 (.iload 7) 2 103 := by decide +kernel
theorem dX2_within_103 : eb_dc cX2_within 103 (.aload_n 0) 1 104 := by decide +kernel
theorem dX2_within_104 : eb_dc cX2_within 104 (.getfield 135) 3 107 := by decide +kernel
theorem dX2_within_107 : eb_dj cX2_within 107 (.if_icmp .ge 60) 60 110 167 := by decide +kernel
theorem dX2_within_110 : eb_dc cX2_within 110 (.iload_n 2) 1 111 := by decide +kernel
theorem dX2_within_111 : eb_dc cX2_within 111 (.iload_n 3) 1 112 := by decide +kernel
theorem dX2_within_112 : eb_dc cX2_within 112 (.invokestatic 197) 3 115 := by decide +kernel
theorem dX2_within_115 : eb_dj cX2_within 115 (.ifCond .eq 52) 52 118 167 := by decide +kernel
theorem dX2_within_118 : eb_dc cX2_within 118 (.aload_n 0) 1 119 := by decide +kernel
theorem dX2_within_119 : eb_dc cX2_within 119 (.getfield 47) 3 122 := by decide +kernel
theorem dX2_within_122 : eb_dc cX2_within 122 (.iload 7) 2 124 := by decide +kernel
theorem dX2_within_124 : eb_dc cX2_within 124 (.iaload) 1 125 := by decide +kernel
theorem dX2_within_125 : eb_dc cX2_within 125 (.iload 4) 2 127 := by decide +kernel
theorem dX2_within_127 : eb_dj cX2_within 127 (.if_icmp .ne 34) 34 130 161 := by decide +kernel
theorem dX2_within_130 : eb_dc cX2_within 130 (.aload_n 0) 1 131 := by decide +kernel
theorem dX2_within_131 : eb_dc cX2_within 131 (.getfield 62) 3 134 := by decide +kernel
theorem dX2_within_134 : eb_dc cX2_within 134 (.aload_n 0) 1 135 := by decide +kernel
theorem dX2_within_135 : eb_dc cX2_within 135 (.getfield 53) 3 138 := by decide +kernel
theorem dX2_within_138 : eb_dc cX2_within 138 (.iload 7) 2 140 := by decide +kernel
theorem dX2_within_140 : eb_dc cX2_within 140 (.iaload) 1 141 := by decide +kernel
theorem dX2_within_141 : eb_dc cX2_within 141 (.baload) 1 142 := by decide +kernel
theorem dX2_within_142 : eb_dj cX2_within 142 (.ifCond .ne 19) 19 145 161 := by decide +kernel
theorem dX2_within_145 : eb_dc cX2_within 145 (.aload_n 0) 1 146 := by decide +kernel
theorem dX2_within_146 : eb_dc cX2_within 146 (.getfield 62) 3 149 := by decide +kernel
theorem dX2_within_149 : eb_dc cX2_within 149 (.aload_n 0) 1 150 := by decide +kernel
theorem dX2_within_150 : eb_dc cX2_within 150 (.getfield 53) 3 153 := by decide +kernel
theorem dX2_within_153 : eb_dc cX2_within 153 (.iload 7) 2 155 := by decide +kernel
theorem dX2_within_155 : eb_dc cX2_within 155 (.iaload) 1 156 := by decide +kernel
theorem dX2_within_156 : eb_dc cX2_within 156 (.iconst 1) 1 157 := by decide +kernel
theorem dX2_within_157 : eb_dc cX2_within 157 (.bastore) 1 158 := by decide +kernel
theorem dX2_within_158 : eb_dc cX2_within 158 (.iinc 6 1) 3 161 := by decide +kernel
theorem dX2_within_161 : eb_dc cX2_within 161 (.iinc 7 1) 3 164 := by decide +kernel
theorem dX2_within_164 : eb_dj cX2_within 164 (.goto (-63)) (-63) 167 101 := by decide +kernel
theorem dX2_within_167 : eb_dc cX2_within 167 (.iload 6) 2 169 := by decide +kernel
theorem dX2_within_169 : eb_dc cX2_within 169 (.ireturn) 1 170 := by decide +kernel
theorem ctX2_within {l : Launch} {Γ : eb_C} {ad : Nat → Nat} {ix : Nat → Option Nat} {σ : eb_MS} {a1 : Int32} {a2 : Int32} {a3 : Int32} {a4 : Int32} {K : Int32 → eb_MS → Prop} (hi : ms_inv ad ix) (h : MX2_within σ a1 a2 a3 a4 K) : eb_Ct l Γ yX2_within cX2_within 8 (some .int) rmX2_within [.ref (ad 0), .int a1, .int a2, .int a3, .int a4] (ms_st Γ ad ix σ) (em_I Γ ad ix K) := by
  refine eb_of (by decide) (Nat.le_of_ble_eq_true rfl) (fun X P hP _ => ?_)
  show eb_G l Γ P X cX2_within RX2 8 (some .int) rmX2_within 0 [(0, .ref (ad 0)), (1, .int a1), (2, .int a2), (3, .int a3), (4, .int a4)] [] (ms_st Γ ad ix σ) 0 0
  refine eg_aload_n 0 dX2_within_0 rfl rfl ?_
  refine eg_iconst dX2_within_1 kc_0 ?_
  refine em_puts 0 rfl q1142 dX2_within_2 hi (fun g1 eg1 => ?_)
  replace h := h g1 eg1
  refine eg_iload_n 1 dX2_within_5 rfl rfl ?_
  refine eg_csp (rest := []) (ctX2_isBody h) (lw_S q1252 q1253 q77 q1254) nX2_isBody ⟨Nat.le_of_ble_eq_true rfl, Nat.le_of_ble_eq_true rfl⟩ ⟨rfl, rfl⟩ ⟨Nat.zero_le _, Nat.zero_le _⟩ rfl rfl (Nat.le_of_ble_eq_true rfl) dX2_within_6 (fun v2 h => ?_)
  refine eg_if_eq dX2_within_9 (fun c41 => ?_) (fun c41 => ?_)
  · replace h := h.1 c41
    refine eg_bipush dX2_within_21 kb_m2 ?_
    exact eg_iret dX2_within_23 (Nat.zero_le _) (Nat.zero_le _) (hP _ _ ⟨_, _, rfl, rfl, h⟩)
  · replace h := h.2 c41
    refine eg_aload_n 0 dX2_within_12 rfl rfl ?_
    refine eg_iload_n 1 dX2_within_13 rfl rfl ?_
    refine eg_iload_n 3 dX2_within_14 rfl rfl ?_
    refine em_cvp (rest := []) (ctX2_isKind hi h) hi (lw_V q1385 q1387 qs52 q77 q1388) rfl nX2_isKind ⟨Nat.le_of_ble_eq_true rfl, Nat.le_of_ble_eq_true rfl⟩ ⟨rfl, rfl⟩ ⟨Nat.zero_le _, Nat.zero_le _⟩ rfl rfl (Nat.le_of_ble_eq_true rfl) dX2_within_15 (fun v4 h => ?_)
    refine eg_if_ne dX2_within_18 (fun c40 => ?_) (fun c40 => ?_)
    · replace h := h.2 c40
      refine eg_aload_n 0 dX2_within_24 rfl rfl ?_
      refine eg_iload_n 1 dX2_within_25 rfl rfl ?_
      refine eg_iload_n 2 dX2_within_26 rfl rfl ?_
      refine eg_iload 4 dX2_within_27 rfl ?_
      refine em_cvi (rest := []) (ctX2_refusesPart hi h) hi (lw_V q1397 q1399 qs53 q77 q1400) rfl nX2_refusesPart ⟨Nat.le_of_ble_eq_true rfl, Nat.le_of_ble_eq_true rfl⟩ ⟨rfl, rfl⟩ ⟨Nat.zero_le _, Nat.zero_le _⟩ rfl rfl (Nat.le_of_ble_eq_true rfl) dX2_within_29 (fun v6 g7 h => ?_)
      refine eg_istore (lv' := [(5, .int v6), (0, .ref (ad 0)), (1, .int a1), (2, .int a2), (3, .int a3), (4, .int a4)]) dX2_within_32 (Nat.le_of_ble_eq_true rfl) rfl ?_
      refine eg_iload 0 dX2_within_34 rfl ?_
      refine eg_if_ge dX2_within_36 (fun c39 => ?_) (fun c39 => ?_)
      · replace h := h.1 c39
        refine eg_iconst dX2_within_42 kc_0 ?_
        refine eg_istore (lv' := [(6, .int 0), (5, .int v6), (0, .ref (ad 0)), (1, .int a1), (2, .int a2), (3, .int a3), (4, .int a4)]) dX2_within_43 (Nat.le_of_ble_eq_true rfl) rfl ?_
        refine eb_jp1_e (J := fun (g8 : eb_MS) => eb_G l Γ P X cX2_within RX2 8 (some .int) rmX2_within 74 [(0, .ref (ad 0)), (2, .int a2), (3, .int a3), (4, .int a4)] [] (ms_st Γ ad ix g8) 0 0) h ?_ ?_
        · intro g8 h
          refine eg_aload_n 0 dX2_within_74 rfl rfl ?_
          refine eg_iload_n 2 dX2_within_75 rfl rfl ?_
          refine em_cvv (rest := []) (ctX2_tellsParts hi h) hi (lw_V q1317 q1319 qs45 q77 q1320) rfl nX2_tellsParts ⟨Nat.le_of_ble_eq_true rfl, Nat.le_of_ble_eq_true rfl⟩ ⟨rfl, rfl⟩ ⟨Nat.zero_le _, Nat.zero_le _⟩ rfl rfl (Nat.le_of_ble_eq_true rfl) dX2_within_76 (fun g10 h => ?_)
          refine eg_iload 3 dX2_within_79 rfl ?_
          refine eg_aload_n 0 dX2_within_81 rfl rfl ?_
          refine em_gets 18 rfl q1160 dX2_within_82 hi ?_
          refine eg_icmp_lt dX2_within_85 (fun c31 => ?_) (fun c31 => ?_)
          · replace h := h.1 c31
            refine eg_aload_n 0 dX2_within_91 rfl rfl ?_
            refine em_cvv (rest := []) (ctX2_clears hi h) hi (lw_V q1369 q1371 qs51 q77 q1372) rfl nX2_clears ⟨Nat.le_of_ble_eq_true rfl, Nat.le_of_ble_eq_true rfl⟩ ⟨rfl, rfl⟩ ⟨Nat.zero_le _, Nat.zero_le _⟩ rfl rfl (Nat.le_of_ble_eq_true rfl) dX2_within_92 (fun g12 h => ?_)
            refine eg_iconst dX2_within_95 kc_0 ?_
            refine eg_istore (lv' := [(6, .int 0), (0, .ref (ad 0)), (2, .int a2), (3, .int a3), (4, .int a4)]) dX2_within_96 (Nat.le_of_ble_eq_true rfl) rfl ?_
            refine eg_iconst dX2_within_98 kc_0 ?_
            refine eg_istore (lv' := [(7, .int 0), (6, .int 0), (0, .ref (ad 0)), (2, .int a2), (3, .int a3), (4, .int a4)]) dX2_within_99 (Nat.le_of_ble_eq_true rfl) rfl ?_
            refine eg_sub [2, 3, 4, 5, 1, 0] rfl ?_
            refine eb_loop3_e (J := fun (x6_13 : Int32) (x7_14 : Int32) (g15 : eb_MS) => eb_G l Γ P X cX2_within RX2 8 (some .int) rmX2_within 101 [(0, .ref (ad 0)), (2, .int a2), (3, .int a3), (4, .int a4), (6, .int x6_13), (7, .int x7_14)] [] (ms_st Γ ad ix g15) 0 0) h ?_
            intro r16 hr16 x6_13 x7_14 g15 h
            refine eg_iload 5 dX2_within_101 rfl ?_
            refine eg_aload_n 0 dX2_within_103 rfl rfl ?_
            refine em_gets 8 rfl q1150 dX2_within_104 hi ?_
            refine eg_icmp_ge dX2_within_107 (fun c30 => ?_) (fun c30 => ?_)
            · replace h := h.1 c30
              refine eg_iload 4 dX2_within_167 rfl ?_
              exact eg_iret dX2_within_169 (Nat.zero_le _) (Nat.zero_le _) (hP _ _ ⟨_, _, rfl, rfl, h⟩)
            · replace h := h.2 c30
              refine eg_iload_n 1 dX2_within_110 rfl rfl ?_
              refine eg_iload_n 2 dX2_within_111 rfl rfl ?_
              refine eg_csp (rest := []) (ctX2_isWithin h) (lw_S q1425 q1426 q77 q1427) nX2_isWithin ⟨Nat.le_of_ble_eq_true rfl, Nat.le_of_ble_eq_true rfl⟩ ⟨rfl, rfl⟩ ⟨Nat.zero_le _, Nat.zero_le _⟩ rfl rfl (Nat.le_of_ble_eq_true rfl) dX2_within_112 (fun v17 h => ?_)
              refine eg_if_eq dX2_within_115 (fun c29 => ?_) (fun c29 => ?_)
              · replace h := h.1 c29
                refine eg_iload 4 dX2_within_167 rfl ?_
                exact eg_iret dX2_within_169 (Nat.zero_le _) (Nat.zero_le _) (hP _ _ ⟨_, _, rfl, rfl, h⟩)
              · replace h := h.2 c29
                refine eg_aload_n 0 dX2_within_118 rfl rfl ?_
                refine em_geta 17 rfl q1159 dX2_within_119 hi ?_
                refine eg_iload 5 dX2_within_122 rfl ?_
                obtain ⟨hb, h⟩ := h
                refine em_iald 17 rfl hb dX2_within_124 hi (fun v19 ev19 => ?_)
                replace h := h v19 ev19
                refine eg_iload 3 dX2_within_125 rfl ?_
                refine eb_jp2_e (J := fun (x6_20 : Int32) (g21 : eb_MS) => eb_G l Γ P X cX2_within RX2 8 (some .int) rmX2_within 161 [(0, .ref (ad 0)), (2, .int a2), (3, .int a3), (4, .int a4), (6, .int x6_20), (7, .int x7_14)] [] (ms_st Γ ad ix g21) 0 0) h ?_ ?_
                · intro x6_20 g21 h
                  refine eg_iinc (j := 5) (lv' := [(7, .int (x7_14 + 1)), (0, .ref (ad 0)), (2, .int a2), (3, .int a3), (4, .int a4), (6, .int x6_20)]) dX2_within_161 rfl (by rw [kc_1]) (Nat.le_of_ble_eq_true rfl) rfl ?_
                  refine eg_goto dX2_within_164 ?_
                  exact eg_sub [1, 2, 3, 4, 5, 0] rfl (hr16 x6_20 (x7_14 + 1) g21 h)
                · intro k22 hk22 h
                  refine eg_icmp_ne dX2_within_127 (fun c28 => ?_) (fun c28 => ?_)
                  · replace h := h.2 c28
                    exact hk22 x6_13 g15 h
                  · replace h := h.1 c28
                    refine eg_aload_n 0 dX2_within_130 rfl rfl ?_
                    refine em_geta 23 rfl q1165 dX2_within_131 hi ?_
                    refine eg_aload_n 0 dX2_within_134 rfl rfl ?_
                    refine em_geta 20 rfl q1162 dX2_within_135 hi ?_
                    refine eg_iload 5 dX2_within_138 rfl ?_
                    obtain ⟨hb, h⟩ := h
                    refine em_iald 20 rfl hb dX2_within_140 hi (fun v23 ev23 => ?_)
                    replace h := h v23 ev23
                    obtain ⟨hb, h⟩ := h
                    refine em_zald 23 rfl hb dX2_within_141 hi (fun v24 ev24 => ?_)
                    replace h := h v24 ev24
                    refine eg_if_ne dX2_within_142 (fun c27 => ?_) (fun c27 => ?_)
                    · replace h := h.2 c27
                      exact hk22 x6_13 g15 h
                    · replace h := h.1 c27
                      refine eg_aload_n 0 dX2_within_145 rfl rfl ?_
                      refine em_geta 23 rfl q1165 dX2_within_146 hi ?_
                      refine eg_aload_n 0 dX2_within_149 rfl rfl ?_
                      refine em_geta 20 rfl q1162 dX2_within_150 hi ?_
                      refine eg_iload 5 dX2_within_153 rfl ?_
                      obtain ⟨hb, h⟩ := h
                      refine em_iald 20 rfl hb dX2_within_155 hi (fun v25 ev25 => ?_)
                      replace h := h v25 ev25
                      refine eg_iconst dX2_within_156 kc_1 ?_
                      obtain ⟨hb, h⟩ := h
                      refine em_zast 23 rfl hb dX2_within_157 hi (fun g26 eg26 => ?_)
                      replace h := h g26 eg26
                      refine eg_iinc (j := 4) (lv' := [(6, .int (x6_13 + 1)), (0, .ref (ad 0)), (2, .int a2), (3, .int a3), (4, .int a4), (7, .int x7_14)]) dX2_within_158 rfl (by rw [kc_1]) (Nat.le_of_ble_eq_true rfl) rfl ?_
                      exact eg_sub [1, 2, 3, 4, 0, 5] rfl (hk22 (x6_13 + 1) g26 h)
          · replace h := h.2 c31
            refine eg_bipush dX2_within_88 kb_m2 ?_
            exact eg_iret dX2_within_90 (Nat.zero_le _) (Nat.zero_le _) (hP _ _ ⟨_, _, rfl, rfl, h⟩)
        · intro k32 hk32 h
          refine eg_sub [2, 4, 5, 6, 0] rfl ?_
          refine eb_loop2_e (J := fun (x6_33 : Int32) (g34 : eb_MS) => eb_G l Γ P X cX2_within RX2 8 (some .int) rmX2_within 45 [(0, .ref (ad 0)), (2, .int a2), (3, .int a3), (4, .int a4), (6, .int x6_33)] [] (ms_st Γ ad ix g34) 0 0) h ?_
          intro r35 hr35 x6_33 g34 h
          refine eg_iload 4 dX2_within_45 rfl ?_
          refine eg_aload_n 0 dX2_within_47 rfl rfl ?_
          refine em_gets 8 rfl q1150 dX2_within_48 hi ?_
          refine eg_icmp_ge dX2_within_51 (fun c38 => ?_) (fun c38 => ?_)
          · replace h := h.1 c38
            exact eg_sub [0, 1, 2, 3] rfl (hk32 g34 h)
          · replace h := h.2 c38
            refine eg_aload_n 0 dX2_within_54 rfl rfl ?_
            refine em_geta 20 rfl q1162 dX2_within_55 hi ?_
            refine eg_iload 4 dX2_within_58 rfl ?_
            refine eg_aload_n 0 dX2_within_60 rfl rfl ?_
            refine em_geta 17 rfl q1159 dX2_within_61 hi ?_
            refine eg_iload 4 dX2_within_64 rfl ?_
            obtain ⟨hb, h⟩ := h
            refine em_iald 17 rfl hb dX2_within_66 hi (fun v36 ev36 => ?_)
            replace h := h v36 ev36
            obtain ⟨hb, h⟩ := h
            refine em_iast 20 rfl hb dX2_within_67 hi (fun g37 eg37 => ?_)
            replace h := h g37 eg37
            refine eg_iinc (j := 4) (lv' := [(6, .int (x6_33 + 1)), (0, .ref (ad 0)), (2, .int a2), (3, .int a3), (4, .int a4)]) dX2_within_68 rfl (by rw [kc_1]) (Nat.le_of_ble_eq_true rfl) rfl ?_
            refine eg_goto dX2_within_71 ?_
            exact eg_sub [1, 2, 3, 4, 0] rfl (hr35 (x6_33 + 1) g37 h)
      · replace h := h.2 c39
        refine eg_iload 0 dX2_within_39 rfl ?_
        exact eg_iret dX2_within_41 (Nat.zero_le _) (Nat.zero_le _) (hP _ _ ⟨_, _, rfl, rfl, h⟩)
    · replace h := h.1 c40
      refine eg_bipush dX2_within_21 kb_m2 ?_
      exact eg_iret dX2_within_23 (Nat.zero_le _) (Nat.zero_le _) (hP _ _ ⟨_, _, rfl, rfl, h⟩)
def MX2_countOf (σ : eb_MS) (a1 : Int32) (K : Int32 → eb_MS → Prop) : Prop :=
  eb_loop3 (fun r4 (x2_1 : Int32) (x3_2 : Int32) (g3 : eb_MS) => eb_br (16 ≤ x3_2) (K x2_1 g3) (MX2_bits x3_2 (fun v5 => eb_jp2 (fun (x2_7 : Int32) (g8 : eb_MS) => r4 x2_7 (x3_2 + 1) g8) (fun k9 => eb_br (v5 = a1) (MX2_isKind g3 (g3.1 5) x3_2 (fun v10 => eb_br (v10 = 0) (k9 x2_1 g3) (MX2_tellsParts g3 x3_2 (fun g13 => k9 ((x2_1 + (g13.1 18))) g13)))) (k9 x2_1 g3))))) 0 0 σ
abbrev rmX2_countOf : Room := { frames := 5, cells := 0, slots := 0, locals := 111 }
theorem nX2_countOf : eb_ar yX2_countOf 1 := by decide +kernel
theorem dX2_countOf_0 : eb_dc cX2_countOf 0 (.iconst 0) 1 1 := by decide +kernel
theorem dX2_countOf_1 : eb_dc cX2_countOf 1 (.istore_n 2) 1 2 := by decide +kernel
theorem dX2_countOf_2 : eb_dc cX2_countOf 2 (.iconst 0) 1 3 := by decide +kernel
theorem dX2_countOf_3 : eb_dc cX2_countOf 3 (.istore_n 3) 1 4 := by decide +kernel
theorem dX2_countOf_4 : eb_dc cX2_countOf 4 (.iload_n 3) 1 5 := by decide +kernel
theorem dX2_countOf_5 : eb_dc cX2_countOf 5 (.bipush 16) 2 7 := by decide +kernel
theorem dX2_countOf_7 : eb_dj cX2_countOf 7 (.if_icmp .ge 41) 41 10 48 := by decide +kernel
theorem dX2_countOf_10 : eb_dc cX2_countOf 10 (.iload_n 3) 1 11 := by decide +kernel
theorem dX2_countOf_11 : eb_dc cX2_countOf 11 (.invokestatic 129) 3 14 := by decide +kernel
theorem dX2_countOf_14 : eb_dc cX2_countOf 14 (.iload_n 1) 1 15 := by decide +kernel
theorem dX2_countOf_15 : eb_dj cX2_countOf 15 (.if_icmp .ne 27) 27 18 42 := by decide +kernel
theorem dX2_countOf_18 : eb_dc cX2_countOf 18 (.aload_n 0) 1 19 := by decide +kernel
theorem dX2_countOf_19 : eb_dc cX2_countOf 19 (.aload_n 0) 1 20 := by decide +kernel
theorem dX2_countOf_20 : eb_dc cX2_countOf 20 (.getfield 22) 3 23 := by decide +kernel
theorem dX2_countOf_23 : eb_dc cX2_countOf 23 (.iload_n 3) 1 24 := by decide +kernel
theorem dX2_countOf_24 : eb_dc cX2_countOf 24 (.invokevirtual 188) 3 27 := by decide +kernel
theorem dX2_countOf_27 : eb_dj cX2_countOf 27 (.ifCond .eq 15) 15 30 42 := by decide +kernel
theorem dX2_countOf_30 : eb_dc cX2_countOf 30 (.aload_n 0) 1 31 := by decide +kernel
theorem dX2_countOf_31 : eb_dc cX2_countOf 31 (.iload_n 3) 1 32 := by decide +kernel
theorem dX2_countOf_32 : eb_dc cX2_countOf 32 (.invokevirtual 154) 3 35 := by decide +kernel
theorem dX2_countOf_35 : eb_dc cX2_countOf 35 (.iload_n 2) 1 36 := by decide +kernel
theorem dX2_countOf_36 : eb_dc cX2_countOf 36 (.aload_n 0) 1 37 := by decide +kernel
theorem dX2_countOf_37 : eb_dc cX2_countOf 37 (.getfield 158) 3 40 := by decide +kernel
theorem dX2_countOf_40 : eb_dc cX2_countOf 40 (.iadd) 1 41 := by decide +kernel
theorem dX2_countOf_41 : eb_dc cX2_countOf 41 (.istore_n 2) 1 42 := by decide +kernel
theorem dX2_countOf_42 : eb_dc cX2_countOf 42 (.iinc 3 1) 3 45 := by decide +kernel
theorem dX2_countOf_45 : eb_dj cX2_countOf 45 (.goto (-41)) (-41) 48 4 := by decide +kernel
theorem dX2_countOf_48 : eb_dc cX2_countOf 48 (.iload_n 2) 1 49 := by decide +kernel
theorem dX2_countOf_49 : eb_dc cX2_countOf 49 (.ireturn) 1 50 := by decide +kernel
theorem ctX2_countOf {l : Launch} {Γ : eb_C} {ad : Nat → Nat} {ix : Nat → Option Nat} {σ : eb_MS} {a1 : Int32} {K : Int32 → eb_MS → Prop} (hi : ms_inv ad ix) (h : MX2_countOf σ a1 K) : eb_Ct l Γ yX2_countOf cX2_countOf 4 (some .int) rmX2_countOf [.ref (ad 0), .int a1] (ms_st Γ ad ix σ) (em_I Γ ad ix K) := by
  refine eb_of (by decide) (Nat.le_of_ble_eq_true rfl) (fun X P hP _ => ?_)
  show eb_G l Γ P X cX2_countOf RX2 4 (some .int) rmX2_countOf 0 [(0, .ref (ad 0)), (1, .int a1)] [] (ms_st Γ ad ix σ) 0 0
  refine eg_iconst dX2_countOf_0 kc_0 ?_
  refine eg_istore_n (lv' := [(2, .int 0), (0, .ref (ad 0)), (1, .int a1)]) dX2_countOf_1 rfl (Nat.le_of_ble_eq_true rfl) rfl ?_
  refine eg_iconst dX2_countOf_2 kc_0 ?_
  refine eg_istore_n (lv' := [(3, .int 0), (2, .int 0), (0, .ref (ad 0)), (1, .int a1)]) dX2_countOf_3 rfl (Nat.le_of_ble_eq_true rfl) rfl ?_
  refine eg_sub [2, 3, 1, 0] rfl ?_
  refine eb_loop3_e (J := fun (x2_1 : Int32) (x3_2 : Int32) (g3 : eb_MS) => eb_G l Γ P X cX2_countOf RX2 4 (some .int) rmX2_countOf 4 [(0, .ref (ad 0)), (1, .int a1), (2, .int x2_1), (3, .int x3_2)] [] (ms_st Γ ad ix g3) 0 0) h ?_
  intro r4 hr4 x2_1 x3_2 g3 h
  refine eg_iload_n 3 dX2_countOf_4 rfl rfl ?_
  refine eg_bipush dX2_countOf_5 kb_16 ?_
  refine eg_icmp_ge dX2_countOf_7 (fun c16 => ?_) (fun c16 => ?_)
  · replace h := h.1 c16
    refine eg_iload_n 2 dX2_countOf_48 rfl rfl ?_
    exact eg_iret dX2_countOf_49 (Nat.zero_le _) (Nat.zero_le _) (hP _ _ ⟨_, _, rfl, rfl, h⟩)
  · replace h := h.2 c16
    refine eg_iload_n 3 dX2_countOf_10 rfl rfl ?_
    refine eg_csp (rest := []) (ctX2_bits h) (lw_S q1306 q1307 q77 q1308) nX2_bits ⟨Nat.le_of_ble_eq_true rfl, Nat.le_of_ble_eq_true rfl⟩ ⟨rfl, rfl⟩ ⟨Nat.zero_le _, Nat.zero_le _⟩ rfl rfl (Nat.le_of_ble_eq_true rfl) dX2_countOf_11 (fun v5 h => ?_)
    refine eg_iload_n 1 dX2_countOf_14 rfl rfl ?_
    refine eb_jp2_e (J := fun (x2_7 : Int32) (g8 : eb_MS) => eb_G l Γ P X cX2_countOf RX2 4 (some .int) rmX2_countOf 42 [(0, .ref (ad 0)), (1, .int a1), (2, .int x2_7), (3, .int x3_2)] [] (ms_st Γ ad ix g8) 0 0) h ?_ ?_
    · intro x2_7 g8 h
      refine eg_iinc (j := 3) (lv' := [(3, .int (x3_2 + 1)), (0, .ref (ad 0)), (1, .int a1), (2, .int x2_7)]) dX2_countOf_42 rfl (by rw [kc_1]) (Nat.le_of_ble_eq_true rfl) rfl ?_
      refine eg_goto dX2_countOf_45 ?_
      exact eg_sub [1, 2, 3, 0] rfl (hr4 x2_7 (x3_2 + 1) g8 h)
    · intro k9 hk9 h
      refine eg_icmp_ne dX2_countOf_15 (fun c15 => ?_) (fun c15 => ?_)
      · replace h := h.2 c15
        exact hk9 x2_1 g3 h
      · replace h := h.1 c15
        refine eg_aload_n 0 dX2_countOf_18 rfl rfl ?_
        refine eg_aload_n 0 dX2_countOf_19 rfl rfl ?_
        refine em_gets 5 rfl q1147 dX2_countOf_20 hi ?_
        refine eg_iload_n 3 dX2_countOf_23 rfl rfl ?_
        refine em_cvp (rest := []) (ctX2_isKind hi h) hi (lw_V q1385 q1387 qs52 q77 q1388) rfl nX2_isKind ⟨Nat.le_of_ble_eq_true rfl, Nat.le_of_ble_eq_true rfl⟩ ⟨rfl, rfl⟩ ⟨Nat.zero_le _, Nat.zero_le _⟩ rfl rfl (Nat.le_of_ble_eq_true rfl) dX2_countOf_24 (fun v10 h => ?_)
        refine eg_if_eq dX2_countOf_27 (fun c14 => ?_) (fun c14 => ?_)
        · replace h := h.1 c14
          exact hk9 x2_1 g3 h
        · replace h := h.2 c14
          refine eg_aload_n 0 dX2_countOf_30 rfl rfl ?_
          refine eg_iload_n 3 dX2_countOf_31 rfl rfl ?_
          refine em_cvv (rest := []) (ctX2_tellsParts hi h) hi (lw_V q1317 q1319 qs45 q77 q1320) rfl nX2_tellsParts ⟨Nat.le_of_ble_eq_true rfl, Nat.le_of_ble_eq_true rfl⟩ ⟨rfl, rfl⟩ ⟨Nat.zero_le _, Nat.zero_le _⟩ rfl rfl (Nat.le_of_ble_eq_true rfl) dX2_countOf_32 (fun g13 h => ?_)
          refine eg_iload_n 2 dX2_countOf_35 rfl rfl ?_
          refine eg_aload_n 0 dX2_countOf_36 rfl rfl ?_
          refine em_gets 18 rfl q1160 dX2_countOf_37 hi ?_
          refine eg_iadd dX2_countOf_40 ?_
          refine eg_istore_n (lv' := [(2, .int (x2_1 + (g13.1 18))), (0, .ref (ad 0)), (1, .int a1), (3, .int x3_2)]) dX2_countOf_41 rfl (Nat.le_of_ble_eq_true rfl) rfl ?_
          exact eg_sub [1, 2, 0, 3] rfl (hk9 ((x2_1 + (g13.1 18))) g13 h)
def MX2_count (σ : eb_MS) (a1 : Int32) (a2 : Int32) (K : Int32 → eb_MS → Prop) : Prop :=
  ms_ws σ 0 0 (fun g1 => MX2_isBody a1 (fun v2 => eb_br (v2 = 0) (K (-2) g1) (eb_rd (g1.2.1 1) 4 a1 (fun v4 => MX2_in a2 0 v4 (fun v5 => eb_br (v5 = 0) (K (-2) g1) (MX2_loads g1 a1 (fun v7 g8 => eb_br (v7 = 0) (K (-5) g8) (MX2_countOf g8 a2 (fun v9 g10 => K v9 g10)))))))))
abbrev rmX2_count : Room := { frames := 6, cells := 0, slots := 0, locals := 144 }
theorem nX2_count : eb_ar yX2_count 2 := by decide +kernel
theorem dX2_count_0 : eb_dc cX2_count 0 (.aload_n 0) 1 1 := by decide +kernel
theorem dX2_count_1 : eb_dc cX2_count 1 (.iconst 0) 1 2 := by decide +kernel
theorem dX2_count_2 : eb_dc cX2_count 2 (.putfield 106) 3 5 := by decide +kernel
theorem dX2_count_5 : eb_dc cX2_count 5 (.iload_n 1) 1 6 := by decide +kernel
theorem dX2_count_6 : eb_dc cX2_count 6 (.invokestatic 113) 3 9 := by decide +kernel
theorem dX2_count_9 : eb_dj cX2_count 9 (.ifCond .eq 17) 17 12 26 := by decide +kernel
theorem dX2_count_12 : eb_dc cX2_count 12 (.iload_n 2) 1 13 := by decide +kernel
theorem dX2_count_13 : eb_dc cX2_count 13 (.iconst 0) 1 14 := by decide +kernel
theorem dX2_count_14 : eb_dc cX2_count 14 (.aload_n 0) 1 15 := by decide +kernel
theorem dX2_count_15 : eb_dc cX2_count 15 (.getfield 7) 3 18 := by decide +kernel
theorem dX2_count_18 : eb_dc cX2_count 18 (.iload_n 1) 1 19 := by decide +kernel
theorem dX2_count_19 : eb_dc cX2_count 19 (.iaload) 1 20 := by decide +kernel
theorem dX2_count_20 : eb_dc cX2_count 20 (.invokestatic 109) 3 23 := by decide +kernel
theorem dX2_count_23 : eb_dj cX2_count 23 (.ifCond .ne 6) 6 26 29 := by decide +kernel
theorem dX2_count_26 : eb_dc cX2_count 26 (.bipush (-2)) 2 28 := by decide +kernel
theorem dX2_count_28 : eb_dc cX2_count 28 (.ireturn) 1 29 := by decide +kernel
theorem dX2_count_29 : eb_dc cX2_count 29 (.aload_n 0) 1 30 := by decide +kernel
theorem dX2_count_30 : eb_dc cX2_count 30 (.iload_n 1) 1 31 := by decide +kernel
theorem dX2_count_31 : eb_dc cX2_count 31 (.invokevirtual 164) 3 34 := by decide +kernel
theorem dX2_count_34 : eb_dj cX2_count 34 (.ifCond .eq 11) 11 37 45 := by decide +kernel
theorem dX2_count_37 : eb_dc cX2_count 37 (.aload_n 0) 1 38 := by decide +kernel
theorem dX2_count_38 : eb_dc cX2_count 38 (.iload_n 2) 1 39 := by decide +kernel
theorem dX2_count_39 : eb_dc cX2_count 39 (.invokevirtual 200) 3 42 := by decide +kernel
theorem dX2_count_42 : eb_dj cX2_count 42 (.goto 5) 5 45 47 := by decide +kernel
theorem dX2_count_45 : eb_dc cX2_count 45 (.bipush (-5)) 2 47 := by decide +kernel
theorem dX2_count_47 : eb_dc cX2_count 47 (.ireturn) 1 48 := by decide +kernel
theorem ctX2_count {l : Launch} {Γ : eb_C} {ad : Nat → Nat} {ix : Nat → Option Nat} {σ : eb_MS} {a1 : Int32} {a2 : Int32} {K : Int32 → eb_MS → Prop} (hi : ms_inv ad ix) (h : MX2_count σ a1 a2 K) : eb_Ct l Γ yX2_count cX2_count 3 (some .int) rmX2_count [.ref (ad 0), .int a1, .int a2] (ms_st Γ ad ix σ) (em_I Γ ad ix K) := by
  refine eb_of (by decide) (Nat.le_of_ble_eq_true rfl) (fun X P hP _ => ?_)
  show eb_G l Γ P X cX2_count RX2 3 (some .int) rmX2_count 0 [(0, .ref (ad 0)), (1, .int a1), (2, .int a2)] [] (ms_st Γ ad ix σ) 0 0
  refine eg_aload_n 0 dX2_count_0 rfl rfl ?_
  refine eg_iconst dX2_count_1 kc_0 ?_
  refine em_puts 0 rfl q1142 dX2_count_2 hi (fun g1 eg1 => ?_)
  replace h := h g1 eg1
  refine eg_iload_n 1 dX2_count_5 rfl rfl ?_
  refine eg_csp (rest := []) (ctX2_isBody h) (lw_S q1252 q1253 q77 q1254) nX2_isBody ⟨Nat.le_of_ble_eq_true rfl, Nat.le_of_ble_eq_true rfl⟩ ⟨rfl, rfl⟩ ⟨Nat.zero_le _, Nat.zero_le _⟩ rfl rfl (Nat.le_of_ble_eq_true rfl) dX2_count_6 (fun v2 h => ?_)
  refine eg_if_eq dX2_count_9 (fun c13 => ?_) (fun c13 => ?_)
  · replace h := h.1 c13
    refine eg_bipush dX2_count_26 kb_m2 ?_
    exact eg_iret dX2_count_28 (Nat.zero_le _) (Nat.zero_le _) (hP _ _ ⟨_, _, rfl, rfl, h⟩)
  · replace h := h.2 c13
    refine eg_iload_n 2 dX2_count_12 rfl rfl ?_
    refine eg_iconst dX2_count_13 kc_0 ?_
    refine eg_aload_n 0 dX2_count_14 rfl rfl ?_
    refine em_geta 1 rfl q1143 dX2_count_15 hi ?_
    refine eg_iload_n 1 dX2_count_18 rfl rfl ?_
    obtain ⟨hb, h⟩ := h
    refine em_iald 1 rfl hb dX2_count_19 hi (fun v4 ev4 => ?_)
    replace h := h v4 ev4
    refine eg_csp (rest := []) (ctX2_in h) (lw_S q1255 q1256 q77 q1257) nX2_in ⟨Nat.le_of_ble_eq_true rfl, Nat.le_of_ble_eq_true rfl⟩ ⟨rfl, rfl⟩ ⟨Nat.zero_le _, Nat.zero_le _⟩ rfl rfl (Nat.le_of_ble_eq_true rfl) dX2_count_20 (fun v5 h => ?_)
    refine eg_if_ne dX2_count_23 (fun c12 => ?_) (fun c12 => ?_)
    · replace h := h.2 c12
      refine eg_aload_n 0 dX2_count_29 rfl rfl ?_
      refine eg_iload_n 1 dX2_count_30 rfl rfl ?_
      refine em_cvi (rest := []) (ctX2_loads hi h) hi (lw_V q1294 q1296 qs40 q77 q1297) rfl nX2_loads ⟨Nat.le_of_ble_eq_true rfl, Nat.le_of_ble_eq_true rfl⟩ ⟨rfl, rfl⟩ ⟨Nat.zero_le _, Nat.zero_le _⟩ rfl rfl (Nat.le_of_ble_eq_true rfl) dX2_count_31 (fun v7 g8 h => ?_)
      refine eg_if_eq dX2_count_34 (fun c11 => ?_) (fun c11 => ?_)
      · replace h := h.1 c11
        refine eg_bipush dX2_count_45 kb_m5 ?_
        exact eg_iret dX2_count_47 (Nat.zero_le _) (Nat.zero_le _) (hP _ _ ⟨_, _, rfl, rfl, h⟩)
      · replace h := h.2 c11
        refine eg_aload_n 0 dX2_count_37 rfl rfl ?_
        refine eg_iload_n 2 dX2_count_38 rfl rfl ?_
        refine em_cvi (rest := []) (ctX2_countOf hi h) hi (lw_V q1436 q1438 qs55 q77 q1439) rfl nX2_countOf ⟨Nat.le_of_ble_eq_true rfl, Nat.le_of_ble_eq_true rfl⟩ ⟨rfl, rfl⟩ ⟨Nat.zero_le _, Nat.zero_le _⟩ rfl rfl (Nat.le_of_ble_eq_true rfl) dX2_count_39 (fun v9 g10 h => ?_)
        refine eg_goto dX2_count_42 ?_
        exact eg_iret dX2_count_47 (Nat.zero_le _) (Nat.zero_le _) (hP _ _ ⟨_, _, rfl, rfl, h⟩)
    · replace h := h.1 c12
      refine eg_bipush dX2_count_26 kb_m2 ?_
      exact eg_iret dX2_count_28 (Nat.zero_le _) (Nat.zero_le _) (hP _ _ ⟨_, _, rfl, rfl, h⟩)
def MX2_law (σ : eb_MS) (a1 : Int32) (K : Int32 → eb_MS → Prop) : Prop :=
  ms_ws σ 0 0 (fun g1 => MX2_refuses g1 a1 (fun v2 g3 => eb_br (0 ≤ v2) (eb_loop3 (fun r7 (x3_4 : Int32) (x4_5 : Int32) (g6 : eb_MS) => eb_br ((g6.1 6) ≤ x4_5) (K x3_4 g6) (eb_jp2 (fun (s8 : Int32) (g9 : eb_MS) => r7 (x3_4 + s8) (x4_5 + 1) g9) (fun k10 => eb_br ((eb_rem x4_5 2) = 0) (MX2_countOf g6 x4_5 (fun v13 g14 => k10 v13 g14)) (MX2_countOf g6 x4_5 (fun v11 g12 => k10 (-v11) g12))))) 0 0 g3) (K v2 g3)))
abbrev rmX2_law : Room := { frames := 7, cells := 0, slots := 0, locals := 165 }
theorem nX2_law : eb_ar yX2_law 1 := by decide +kernel
theorem dX2_law_0 : eb_dc cX2_law 0 (.aload_n 0) 1 1 := by decide +kernel
theorem dX2_law_1 : eb_dc cX2_law 1 (.iconst 0) 1 2 := by decide +kernel
theorem dX2_law_2 : eb_dc cX2_law 2 (.putfield 106) 3 5 := by decide +kernel
theorem dX2_law_5 : eb_dc cX2_law 5 (.aload_n 0) 1 6 := by decide +kernel
theorem dX2_law_6 : eb_dc cX2_law 6 (.iload_n 1) 1 7 := by decide +kernel
theorem dX2_law_7 : eb_dc cX2_law 7 (.invokevirtual 170) 3 10 := by decide +kernel
theorem dX2_law_10 : eb_dc cX2_law 10 (.istore_n 2) 1 11 := by decide +kernel
theorem dX2_law_11 : eb_dc cX2_law 11 (.iload_n 2) 1 12 := by decide +kernel
theorem dX2_law_12 : eb_dj cX2_law 12 (.ifCond .ge 5) 5 15 17 := by decide +kernel
theorem dX2_law_15 : eb_dc cX2_law 15 (.iload_n 2) 1 16 := by decide +kernel
theorem dX2_law_16 : eb_dc cX2_law 16 (.ireturn) 1 17 := by decide +kernel
theorem dX2_law_17 : eb_dc cX2_law 17 (.iconst 0) 1 18 := by decide +kernel
theorem dX2_law_18 : eb_dc cX2_law 18 (.istore_n 3) 1 19 := by decide +kernel
theorem dX2_law_19 : eb_dc cX2_law 19 (.iconst 0) 1 20 := by decide +kernel
theorem dX2_law_20 : eb_dc cX2_law 20 (.istore 4) 2 22 := by decide +kernel
theorem dX2_law_22 : eb_dc cX2_law 22 (.iload 4) 2 24 := by decide +kernel
theorem dX2_law_24 : eb_dc cX2_law 24 (.aload_n 0) 1 25 := by decide +kernel
theorem dX2_law_25 : eb_dc cX2_law 25 (.getfield 138) 3 28 := by decide +kernel
theorem dX2_law_28 : eb_dj cX2_law 28 (.if_icmp .ge 35) 35 31 63 := by decide +kernel
theorem dX2_law_31 : eb_dc cX2_law 31 (.iload_n 3) 1 32 := by decide +kernel
theorem dX2_law_32 : eb_dc cX2_law 32 (.iload 4) 2 34 := by decide +kernel
theorem dX2_law_34 : eb_dc cX2_law 34 (.iconst 2) 1 35 := by decide +kernel
theorem dX2_law_35 : eb_dc cX2_law 35 (.irem) 1 36 := by decide +kernel
theorem dX2_law_36 : eb_dj cX2_law 36 (.ifCond .ne 12) 12 39 48 := by decide +kernel
theorem dX2_law_39 : eb_dc cX2_law 39 (.aload_n 0) 1 40 := by decide +kernel
theorem dX2_law_40 : eb_dc cX2_law 40 (.iload 4) 2 42 := by decide +kernel
theorem dX2_law_42 : eb_dc cX2_law 42 (.invokevirtual 200) 3 45 := by decide +kernel
theorem dX2_law_45 : eb_dj cX2_law 45 (.goto 10) 10 48 55 := by decide +kernel
theorem dX2_law_48 : eb_dc cX2_law 48 (.aload_n 0) 1 49 := by decide +kernel
theorem dX2_law_49 : eb_dc cX2_law 49 (.iload 4) 2 51 := by decide +kernel
theorem dX2_law_51 : eb_dc cX2_law 51 (.invokevirtual 200) 3 54 := by decide +kernel
theorem dX2_law_54 : eb_dc cX2_law 54 (.ineg) 1 55 := by decide +kernel
theorem dX2_law_55 : eb_dc cX2_law 55 (.iadd) 1 56 := by decide +kernel
theorem dX2_law_56 : eb_dc cX2_law 56 (.istore_n 3) 1 57 := by decide +kernel
theorem dX2_law_57 : eb_dc cX2_law 57 (.iinc 4 1) 3 60 := by decide +kernel
theorem dX2_law_60 : eb_dj cX2_law 60 (.goto (-38)) (-38) 63 22 := by decide +kernel
theorem dX2_law_63 : eb_dc cX2_law 63 (.iload_n 3) 1 64 := by decide +kernel
theorem dX2_law_64 : eb_dc cX2_law 64 (.ireturn) 1 65 := by decide +kernel
theorem ctX2_law {l : Launch} {Γ : eb_C} {ad : Nat → Nat} {ix : Nat → Option Nat} {σ : eb_MS} {a1 : Int32} {K : Int32 → eb_MS → Prop} (hi : ms_inv ad ix) (h : MX2_law σ a1 K) : eb_Ct l Γ yX2_law cX2_law 5 (some .int) rmX2_law [.ref (ad 0), .int a1] (ms_st Γ ad ix σ) (em_I Γ ad ix K) := by
  refine eb_of (by decide) (Nat.le_of_ble_eq_true rfl) (fun X P hP _ => ?_)
  show eb_G l Γ P X cX2_law RX2 5 (some .int) rmX2_law 0 [(0, .ref (ad 0)), (1, .int a1)] [] (ms_st Γ ad ix σ) 0 0
  refine eg_aload_n 0 dX2_law_0 rfl rfl ?_
  refine eg_iconst dX2_law_1 kc_0 ?_
  refine em_puts 0 rfl q1142 dX2_law_2 hi (fun g1 eg1 => ?_)
  replace h := h g1 eg1
  refine eg_aload_n 0 dX2_law_5 rfl rfl ?_
  refine eg_iload_n 1 dX2_law_6 rfl rfl ?_
  refine em_cvi (rest := []) (ctX2_refuses hi h) hi (lw_V q1290 q1292 qs39 q77 q1293) rfl nX2_refuses ⟨Nat.le_of_ble_eq_true rfl, Nat.le_of_ble_eq_true rfl⟩ ⟨rfl, rfl⟩ ⟨Nat.zero_le _, Nat.zero_le _⟩ rfl rfl (Nat.le_of_ble_eq_true rfl) dX2_law_7 (fun v2 g3 h => ?_)
  refine eg_istore_n (lv' := [(2, .int v2), (0, .ref (ad 0)), (1, .int a1)]) dX2_law_10 rfl (Nat.le_of_ble_eq_true rfl) rfl ?_
  refine eg_iload_n 0 dX2_law_11 rfl rfl ?_
  refine eg_if_ge dX2_law_12 (fun c17 => ?_) (fun c17 => ?_)
  · replace h := h.1 c17
    refine eg_iconst dX2_law_17 kc_0 ?_
    refine eg_istore_n (lv' := [(3, .int 0), (2, .int v2), (0, .ref (ad 0)), (1, .int a1)]) dX2_law_18 rfl (Nat.le_of_ble_eq_true rfl) rfl ?_
    refine eg_iconst dX2_law_19 kc_0 ?_
    refine eg_istore (lv' := [(4, .int 0), (3, .int 0), (2, .int v2), (0, .ref (ad 0)), (1, .int a1)]) dX2_law_20 (Nat.le_of_ble_eq_true rfl) rfl ?_
    refine eg_sub [3, 1, 0] rfl ?_
    refine eb_loop3_e (J := fun (x3_4 : Int32) (x4_5 : Int32) (g6 : eb_MS) => eb_G l Γ P X cX2_law RX2 5 (some .int) rmX2_law 22 [(0, .ref (ad 0)), (3, .int x3_4), (4, .int x4_5)] [] (ms_st Γ ad ix g6) 0 0) h ?_
    intro r7 hr7 x3_4 x4_5 g6 h
    refine eg_iload 2 dX2_law_22 rfl ?_
    refine eg_aload_n 0 dX2_law_24 rfl rfl ?_
    refine em_gets 6 rfl q1148 dX2_law_25 hi ?_
    refine eg_icmp_ge dX2_law_28 (fun c16 => ?_) (fun c16 => ?_)
    · replace h := h.1 c16
      refine eg_iload_n 1 dX2_law_63 rfl rfl ?_
      exact eg_iret dX2_law_64 (Nat.zero_le _) (Nat.zero_le _) (hP _ _ ⟨_, _, rfl, rfl, h⟩)
    · replace h := h.2 c16
      refine eg_iload_n 1 dX2_law_31 rfl rfl ?_
      refine eg_iload 2 dX2_law_32 rfl ?_
      refine eg_iconst dX2_law_34 kc_2 ?_
      refine eg_irem dX2_law_35 (by decide) ?_
      refine eb_jp2_e (J := fun (s8 : Int32) (g9 : eb_MS) => eb_G l Γ P X cX2_law RX2 5 (some .int) rmX2_law 55 [(0, .ref (ad 0)), (4, .int x4_5)] [.int s8, .int x3_4] (ms_st Γ ad ix g9) 0 0) h ?_ ?_
      · intro s8 g9 h
        refine eg_iadd dX2_law_55 ?_
        refine eg_istore_n (lv' := [(3, .int (x3_4 + s8)), (0, .ref (ad 0)), (4, .int x4_5)]) dX2_law_56 rfl (Nat.le_of_ble_eq_true rfl) rfl ?_
        refine eg_iinc (j := 2) (lv' := [(4, .int (x4_5 + 1)), (3, .int (x3_4 + s8)), (0, .ref (ad 0))]) dX2_law_57 rfl (by rw [kc_1]) (Nat.le_of_ble_eq_true rfl) rfl ?_
        refine eg_goto dX2_law_60 ?_
        exact eg_sub [2, 1, 0] rfl (hr7 (x3_4 + s8) (x4_5 + 1) g9 h)
      · intro k10 hk10 h
        refine eg_if_ne dX2_law_36 (fun c15 => ?_) (fun c15 => ?_)
        · replace h := h.2 c15
          refine eg_aload_n 0 dX2_law_48 rfl rfl ?_
          refine eg_iload 2 dX2_law_49 rfl ?_
          refine em_cvi (rest := [.int x3_4]) (ctX2_countOf hi h) hi (lw_V q1436 q1438 qs55 q77 q1439) rfl nX2_countOf ⟨Nat.le_of_ble_eq_true rfl, Nat.le_of_ble_eq_true rfl⟩ ⟨rfl, rfl⟩ ⟨Nat.zero_le _, Nat.zero_le _⟩ rfl rfl (Nat.le_of_ble_eq_true rfl) dX2_law_51 (fun v11 g12 h => ?_)
          refine eg_ineg dX2_law_54 ?_
          exact eg_sub [0, 2] rfl (hk10 (-v11) g12 h)
        · replace h := h.1 c15
          refine eg_aload_n 0 dX2_law_39 rfl rfl ?_
          refine eg_iload 2 dX2_law_40 rfl ?_
          refine em_cvi (rest := [.int x3_4]) (ctX2_countOf hi h) hi (lw_V q1436 q1438 qs55 q77 q1439) rfl nX2_countOf ⟨Nat.le_of_ble_eq_true rfl, Nat.le_of_ble_eq_true rfl⟩ ⟨rfl, rfl⟩ ⟨Nat.zero_le _, Nat.zero_le _⟩ rfl rfl (Nat.le_of_ble_eq_true rfl) dX2_law_42 (fun v13 g14 h => ?_)
          refine eg_goto dX2_law_45 ?_
          exact eg_sub [0, 2] rfl (hk10 v13 g14 h)
  · replace h := h.2 c17
    refine eg_iload_n 0 dX2_law_15 rfl rfl ?_
    exact eg_iret dX2_law_16 (Nat.zero_le _) (Nat.zero_le _) (hP _ _ ⟨_, _, rfl, rfl, h⟩)
def MX2_moves (σ : eb_MS) (a1 : Int32) (a2 : Int32) (a3 : Int32) (K : Int32 → eb_MS → Prop) : Prop :=
  ms_ws σ 0 0 (fun g1 => eb_jp1 (fun (s2 : Int32) => MX2_refusesOf g1 a1 s2 (fun v3 g4 => eb_br (0 ≤ v3) (eb_br ((g4.1 8) ≤ a2) (K (-2) g4) (eb_br (a3 < (g4.1 16)) (eb_jp1 (fun (x5_5 : Int32) => MX2_productOf g4 a2 x5_5 (fun v6 => eb_rd (g4.2.1 15) 500 v6 (fun v8 => K v8 g4))) (fun k9 => eb_loop1 (fun r11 (x5_10 : Int32) => eb_rd (g4.2.1 15) 500 x5_10 (fun v12 => eb_br (v12 = a3) (k9 x5_10) (r11 (x5_10 + 1)))) 0)) (K (-2) g4))) (K v3 g4))) (fun k17 => eb_br (a3 ≤ a2) (k17 a3) (k17 a2)))
abbrev rmX2_moves : Room := { frames := 7, cells := 0, slots := 0, locals := 166 }
theorem nX2_moves : eb_ar yX2_moves 3 := by decide +kernel
theorem dX2_moves_0 : eb_dc cX2_moves 0 (.aload_n 0) 1 1 := by decide +kernel
theorem dX2_moves_1 : eb_dc cX2_moves 1 (.iconst 0) 1 2 := by decide +kernel
theorem dX2_moves_2 : eb_dc cX2_moves 2 (.putfield 106) 3 5 := by decide +kernel
theorem dX2_moves_5 : eb_dc cX2_moves 5 (.aload_n 0) 1 6 := by decide +kernel
theorem dX2_moves_6 : eb_dc cX2_moves 6 (.iload_n 1) 1 7 := by decide +kernel
theorem dX2_moves_7 : eb_dc cX2_moves 7 (.iload_n 2) 1 8 := by decide +kernel
theorem dX2_moves_8 : eb_dc cX2_moves 8 (.iload_n 3) 1 9 := by decide +kernel
theorem dX2_moves_9 : eb_dj cX2_moves 9 (.if_icmp .ge 7) 7 12 16 := by decide +kernel
theorem dX2_moves_12 : eb_dc cX2_moves 12 (.iload_n 2) 1 13 := by decide +kernel
theorem dX2_moves_13 : eb_dj cX2_moves 13 (.goto 4) 4 16 17 := by decide +kernel
theorem dX2_moves_16 : eb_dc cX2_moves 16 (.iload_n 3) 1 17 := by decide +kernel
theorem dX2_moves_17 : eb_dc cX2_moves 17 (.invokevirtual 173) 3 20 := by decide +kernel
theorem dX2_moves_20 : eb_dc cX2_moves 20 (.istore 4) 2 22 := by decide +kernel
theorem dX2_moves_22 : eb_dc cX2_moves 22 (.iload 4) 2 24 := by decide +kernel
theorem dX2_moves_24 : eb_dj cX2_moves 24 (.ifCond .ge 6) 6 27 30 := by decide +kernel
theorem dX2_moves_27 : eb_dc cX2_moves 27 (.iload 4) 2 29 := by decide +kernel
theorem dX2_moves_29 : eb_dc cX2_moves 29 (.ireturn) 1 30 := by decide +kernel
theorem dX2_moves_30 : eb_dc cX2_moves 30 (.iload_n 2) 1 31 := by decide +kernel
theorem dX2_moves_31 : eb_dc cX2_moves 31 (.aload_n 0) 1 32 := by decide +kernel
theorem dX2_moves_32 : eb_dc cX2_moves 32 (.getfield 135) 3 35 := by decide +kernel
theorem dX2_moves_35 : eb_dj cX2_moves 35 (.if_icmp .ge 11) 11 38 46 := by decide +kernel
theorem dX2_moves_38 : eb_dc cX2_moves 38 (.iload_n 3) 1 39 := by decide +kernel
theorem dX2_moves_39 : eb_dc cX2_moves 39 (.aload_n 0) 1 40 := by decide +kernel
theorem dX2_moves_40 : eb_dc cX2_moves 40 (.getfield 161) 3 43 := by decide +kernel
theorem dX2_moves_43 : eb_dj cX2_moves 43 (.if_icmp .lt 6) 6 46 49 := by decide +kernel
theorem dX2_moves_46 : eb_dc cX2_moves 46 (.bipush (-2)) 2 48 := by decide +kernel
theorem dX2_moves_48 : eb_dc cX2_moves 48 (.ireturn) 1 49 := by decide +kernel
theorem dX2_moves_49 : eb_dc cX2_moves 49 (.iconst 0) 1 50 := by decide +kernel
theorem dX2_moves_50 : eb_dc cX2_moves 50 (.istore 5) 2 52 := by decide +kernel
theorem dX2_moves_52 : eb_dc cX2_moves 52 (.aload_n 0) 1 53 := by decide +kernel
theorem dX2_moves_53 : eb_dc cX2_moves 53 (.getfield 44) 3 56 := by decide +kernel
theorem dX2_moves_56 : eb_dc cX2_moves 56 (.iload 5) 2 58 := by decide +kernel
theorem dX2_moves_58 : eb_dc cX2_moves 58 (.iaload) 1 59 := by decide +kernel
theorem dX2_moves_59 : eb_dc cX2_moves 59 (.iload_n 3) 1 60 := by decide +kernel
theorem dX2_moves_60 : eb_dj cX2_moves 60 (.if_icmp .eq 9) 9 63 69 := by decide +kernel
theorem dX2_moves_63 : eb_dc cX2_moves 63 (.iinc 5 1) 3 66 := by decide +kernel
theorem dX2_moves_66 : eb_dj cX2_moves 66 (.goto (-14)) (-14) 69 52 := by decide +kernel
theorem dX2_moves_69 : eb_dc cX2_moves 69 (.aload_n 0) 1 70 := by decide +kernel
theorem dX2_moves_70 : eb_dc cX2_moves 70 (.getfield 44) 3 73 := by decide +kernel
theorem dX2_moves_73 : eb_dc cX2_moves 73 (.aload_n 0) 1 74 := by decide +kernel
theorem dX2_moves_74 : eb_dc cX2_moves 74 (.iload_n 2) 1 75 := by decide +kernel
theorem dX2_moves_75 : eb_dc cX2_moves 75 (.iload 5) 2 77 := by decide +kernel
theorem dX2_moves_77 : eb_dc cX2_moves 77 (.invokevirtual 176) 3 80 := by decide +kernel
theorem dX2_moves_80 : eb_dc cX2_moves 80 (.iaload) 1 81 := by decide +kernel
theorem dX2_moves_81 : eb_dc cX2_moves 81 (.ireturn) 1 82 := by decide +kernel
theorem ctX2_moves {l : Launch} {Γ : eb_C} {ad : Nat → Nat} {ix : Nat → Option Nat} {σ : eb_MS} {a1 : Int32} {a2 : Int32} {a3 : Int32} {K : Int32 → eb_MS → Prop} (hi : ms_inv ad ix) (h : MX2_moves σ a1 a2 a3 K) : eb_Ct l Γ yX2_moves cX2_moves 6 (some .int) rmX2_moves [.ref (ad 0), .int a1, .int a2, .int a3] (ms_st Γ ad ix σ) (em_I Γ ad ix K) := by
  refine eb_of (by decide) (Nat.le_of_ble_eq_true rfl) (fun X P hP _ => ?_)
  show eb_G l Γ P X cX2_moves RX2 6 (some .int) rmX2_moves 0 [(0, .ref (ad 0)), (1, .int a1), (2, .int a2), (3, .int a3)] [] (ms_st Γ ad ix σ) 0 0
  refine eg_aload_n 0 dX2_moves_0 rfl rfl ?_
  refine eg_iconst dX2_moves_1 kc_0 ?_
  refine em_puts 0 rfl q1142 dX2_moves_2 hi (fun g1 eg1 => ?_)
  replace h := h g1 eg1
  refine eg_aload_n 0 dX2_moves_5 rfl rfl ?_
  refine eg_iload_n 1 dX2_moves_6 rfl rfl ?_
  refine eg_iload_n 2 dX2_moves_7 rfl rfl ?_
  refine eg_iload_n 3 dX2_moves_8 rfl rfl ?_
  refine eb_jp1_e (J := fun (s2 : Int32) => eb_G l Γ P X cX2_moves RX2 6 (some .int) rmX2_moves 17 [(0, .ref (ad 0)), (2, .int a2), (3, .int a3)] [.int s2, .int a1, .ref (ad 0)] (ms_st Γ ad ix g1) 0 0) h ?_ ?_
  · intro s2 h
    refine em_cvi (rest := []) (ctX2_refusesOf hi h) hi (lw_V q1329 q1331 qs47 q77 q1332) rfl nX2_refusesOf ⟨Nat.le_of_ble_eq_true rfl, Nat.le_of_ble_eq_true rfl⟩ ⟨rfl, rfl⟩ ⟨Nat.zero_le _, Nat.zero_le _⟩ rfl rfl (Nat.le_of_ble_eq_true rfl) dX2_moves_17 (fun v3 g4 h => ?_)
    refine eg_istore (lv' := [(4, .int v3), (0, .ref (ad 0)), (2, .int a2), (3, .int a3)]) dX2_moves_20 (Nat.le_of_ble_eq_true rfl) rfl ?_
    refine eg_iload 0 dX2_moves_22 rfl ?_
    refine eg_if_ge dX2_moves_24 (fun c16 => ?_) (fun c16 => ?_)
    · replace h := h.1 c16
      refine eg_iload_n 2 dX2_moves_30 rfl rfl ?_
      refine eg_aload_n 1 dX2_moves_31 rfl rfl ?_
      refine em_gets 8 rfl q1150 dX2_moves_32 hi ?_
      refine eg_icmp_ge dX2_moves_35 (fun c15 => ?_) (fun c15 => ?_)
      · replace h := h.1 c15
        refine eg_bipush dX2_moves_46 kb_m2 ?_
        exact eg_iret dX2_moves_48 (Nat.zero_le _) (Nat.zero_le _) (hP _ _ ⟨_, _, rfl, rfl, h⟩)
      · replace h := h.2 c15
        refine eg_iload_n 3 dX2_moves_38 rfl rfl ?_
        refine eg_aload_n 1 dX2_moves_39 rfl rfl ?_
        refine em_gets 16 rfl q1158 dX2_moves_40 hi ?_
        refine eg_icmp_lt dX2_moves_43 (fun c14 => ?_) (fun c14 => ?_)
        · replace h := h.1 c14
          refine eg_iconst dX2_moves_49 kc_0 ?_
          refine eg_istore (lv' := [(5, .int 0), (4, .int v3), (0, .ref (ad 0)), (2, .int a2), (3, .int a3)]) dX2_moves_50 (Nat.le_of_ble_eq_true rfl) rfl ?_
          refine eb_jp1_e (J := fun (x5_5 : Int32) => eb_G l Γ P X cX2_moves RX2 6 (some .int) rmX2_moves 69 [(0, .ref (ad 0)), (2, .int a2), (5, .int x5_5)] [] (ms_st Γ ad ix g4) 0 0) h ?_ ?_
          · intro x5_5 h
            refine eg_aload_n 0 dX2_moves_69 rfl rfl ?_
            refine em_geta 15 rfl q1157 dX2_moves_70 hi ?_
            refine eg_aload_n 0 dX2_moves_73 rfl rfl ?_
            refine eg_iload_n 1 dX2_moves_74 rfl rfl ?_
            refine eg_iload 2 dX2_moves_75 rfl ?_
            refine em_cvp (rest := [.ref (ad 15)]) (ctX2_productOf hi h) hi (lw_V q1349 q1351 qs49 q77 q1352) rfl nX2_productOf ⟨Nat.le_of_ble_eq_true rfl, Nat.le_of_ble_eq_true rfl⟩ ⟨rfl, rfl⟩ ⟨Nat.zero_le _, Nat.zero_le _⟩ rfl rfl (Nat.le_of_ble_eq_true rfl) dX2_moves_77 (fun v6 h => ?_)
            obtain ⟨hb, h⟩ := h
            refine em_iald 15 rfl hb dX2_moves_80 hi (fun v8 ev8 => ?_)
            replace h := h v8 ev8
            exact eg_iret dX2_moves_81 (Nat.zero_le _) (Nat.zero_le _) (hP _ _ ⟨_, _, rfl, rfl, h⟩)
          · intro k9 hk9 h
            refine eg_sub [2, 3, 4, 0] rfl ?_
            refine eb_loop1_e (J := fun (x5_10 : Int32) => eb_G l Γ P X cX2_moves RX2 6 (some .int) rmX2_moves 52 [(0, .ref (ad 0)), (2, .int a2), (3, .int a3), (5, .int x5_10)] [] (ms_st Γ ad ix g4) 0 0) h ?_
            intro r11 hr11 x5_10 h
            refine eg_aload_n 0 dX2_moves_52 rfl rfl ?_
            refine em_geta 15 rfl q1157 dX2_moves_53 hi ?_
            refine eg_iload 3 dX2_moves_56 rfl ?_
            obtain ⟨hb, h⟩ := h
            refine em_iald 15 rfl hb dX2_moves_58 hi (fun v12 ev12 => ?_)
            replace h := h v12 ev12
            refine eg_iload_n 2 dX2_moves_59 rfl rfl ?_
            refine eg_icmp_eq dX2_moves_60 (fun c13 => ?_) (fun c13 => ?_)
            · replace h := h.1 c13
              exact eg_sub [0, 1, 3] rfl (hk9 x5_10 h)
            · replace h := h.2 c13
              refine eg_iinc (j := 3) (lv' := [(5, .int (x5_10 + 1)), (0, .ref (ad 0)), (2, .int a2), (3, .int a3)]) dX2_moves_63 rfl (by rw [kc_1]) (Nat.le_of_ble_eq_true rfl) rfl ?_
              refine eg_goto dX2_moves_66 ?_
              exact eg_sub [1, 2, 3, 0] rfl (hr11 (x5_10 + 1) h)
        · replace h := h.2 c14
          refine eg_bipush dX2_moves_46 kb_m2 ?_
          exact eg_iret dX2_moves_48 (Nat.zero_le _) (Nat.zero_le _) (hP _ _ ⟨_, _, rfl, rfl, h⟩)
    · replace h := h.2 c16
      refine eg_iload 0 dX2_moves_27 rfl ?_
      exact eg_iret dX2_moves_29 (Nat.zero_le _) (Nat.zero_le _) (hP _ _ ⟨_, _, rfl, rfl, h⟩)
  · intro k17 hk17 h
    refine eg_icmp_ge dX2_moves_9 (fun c18 => ?_) (fun c18 => ?_)
    · replace h := h.1 c18
      refine eg_iload_n 3 dX2_moves_16 rfl rfl ?_
      exact eg_sub [0, 2, 3] rfl (hk17 a3 h)
    · replace h := h.2 c18
      refine eg_iload_n 2 dX2_moves_12 rfl rfl ?_
      refine eg_goto dX2_moves_13 ?_
      exact eg_sub [0, 2, 3] rfl (hk17 a2 h)
def MX2_joins (σ : eb_MS) (K : eb_MS → Prop) : Prop :=
  eb_jp1 (fun (g1 : eb_MS) => eb_loop2 (fun r4 (x1_2 : Int32) (g3 : eb_MS) => eb_br ((g3.1 8) ≤ x1_2) (K g3) (eb_jp1 (fun (g5 : eb_MS) => r4 (x1_2 + 1) g5) (fun k6 => eb_loop2 (fun r9 (x2_7 : Int32) (g8 : eb_MS) => eb_br ((g8.1 6) ≤ x2_7) (k6 g8) (eb_jp1 (fun (g10 : eb_MS) => r9 (x2_7 + 1) g10) (fun k11 => eb_br (((eb_shr (g8.1 7) x2_7) &&& 1) = 1) (eb_rd (g8.2.1 15) 500 x1_2 (fun v12 => eb_rd (g8.2.1 11) 2000 (((4 * x1_2) + x2_7)) (fun v13 => eb_rd (g8.2.1 15) 500 v13 (fun v14 => ms_wr g8 26 250000 (((500 * v12) + v14)) (vp_nar .boolean 1) (fun g15 => k11 g15))))) (k11 g8)))) 0 g3))) 0 g1) (fun k19 => eb_loop2 (fun r22 (x1_20 : Int32) (g21 : eb_MS) => eb_br (250000 ≤ x1_20) (k19 g21) (ms_wr g21 26 250000 x1_20 (vp_nar .boolean 0) (fun g23 => r22 (x1_20 + 1) g23))) 0 σ)
abbrev rmX2_joins : Room := { frames := 1, cells := 0, slots := 0, locals := 12 }
theorem nX2_joins : eb_ar yX2_joins 0 := by decide +kernel
theorem dX2_joins_0 : eb_dc cX2_joins 0 (.iconst 0) 1 1 := by decide +kernel
theorem dX2_joins_1 : eb_dc cX2_joins 1 (.istore_n 1) 1 2 := by decide +kernel
theorem dX2_joins_2 : eb_dc cX2_joins 2 (.iload_n 1) 1 3 := by decide +kernel
theorem dX2_joins_3 : eb_dc cX2_joins 3 (.ldc 73) 2 5 := by decide +kernel
theorem dX2_joins_5 : eb_dj cX2_joins 5 (.if_icmp .ge 16) 16 8 21 := by decide +kernel
theorem dX2_joins_8 : eb_dc cX2_joins 8 (.aload_n 0) 1 9 := by decide +kernel
theorem dX2_joins_9 : eb_dc cX2_joins 9 (.getfield 74) 3 12 := by decide +kernel
theorem dX2_joins_12 : eb_dc cX2_joins 12 (.iload_n 1) 1 13 := by decide +kernel
theorem dX2_joins_13 : eb_dc cX2_joins 13 (.iconst 0) 1 14 := by decide +kernel
theorem dX2_joins_14 : eb_dc cX2_joins 14 (.bastore) 1 15 := by decide +kernel
theorem dX2_joins_15 : eb_dc cX2_joins 15 (.iinc 1 1) 3 18 := by decide +kernel
theorem dX2_joins_18 : eb_dj cX2_joins 18 (.goto (-16)) (-16) 21 2 := by decide +kernel
theorem dX2_joins_21 : eb_dc cX2_joins 21 (.iconst 0) 1 22 := by decide +kernel
theorem dX2_joins_22 : eb_dc cX2_joins 22 (.istore_n 1) 1 23 := by decide +kernel
theorem dX2_joins_23 : eb_dc cX2_joins 23 (.iload_n 1) 1 24 := by decide +kernel
theorem dX2_joins_24 : eb_dc cX2_joins 24 (.aload_n 0) 1 25 := by decide +kernel
theorem dX2_joins_25 : eb_dc cX2_joins 25 (.getfield 135) 3 28 := by decide +kernel
theorem dX2_joins_28 : eb_dj cX2_joins 28 (.if_icmp .ge 69) 69 31 97 := by decide +kernel
theorem dX2_joins_31 : eb_dc cX2_joins 31 (.iconst 0) 1 32 := by decide +kernel
theorem dX2_joins_32 : eb_dc cX2_joins 32 (.istore_n 2) 1 33 := by decide +kernel
theorem dX2_joins_33 : eb_dc cX2_joins 33 (.iload_n 2) 1 34 := by decide +kernel
theorem dX2_joins_34 : eb_dc cX2_joins 34 (.aload_n 0) 1 35 := by decide +kernel
theorem dX2_joins_35 : eb_dc cX2_joins 35 (.getfield 138) 3 38 := by decide +kernel
theorem dX2_joins_38 : eb_dj cX2_joins 38 (.if_icmp .ge 53) 53 41 91 := by decide +kernel
theorem dX2_joins_41 : eb_dc cX2_joins 41 (.aload_n 0) 1 42 := by decide +kernel
theorem dX2_joins_42 : eb_dc cX2_joins 42 (.getfield 141) 3 45 := by decide +kernel
theorem dX2_joins_45 : eb_dc cX2_joins 45 (.iload_n 2) 1 46 := by decide +kernel
theorem dX2_joins_46 : eb_dc cX2_joins 46 (.ishr) 1 47 := by decide +kernel
theorem dX2_joins_47 : eb_dc cX2_joins 47 (.iconst 1) 1 48 := by decide +kernel
theorem dX2_joins_48 : eb_dc cX2_joins 48 (.iand) 1 49 := by decide +kernel
theorem dX2_joins_49 : eb_dc cX2_joins 49 (.iconst 1) 1 50 := by decide +kernel
theorem dX2_joins_50 : eb_dj cX2_joins 50 (.if_icmp .ne 35) 35 53 85 := by decide +kernel
theorem dX2_joins_53 : eb_dc cX2_joins 53 (.aload_n 0) 1 54 := by decide +kernel
theorem dX2_joins_54 : eb_dc cX2_joins 54 (.getfield 74) 3 57 := by decide +kernel
theorem dX2_joins_57 : eb_dc cX2_joins 57 (.sipush 500) 3 60 := by decide +kernel
theorem dX2_joins_60 : eb_dc cX2_joins 60 (.aload_n 0) 1 61 := by decide +kernel
theorem dX2_joins_61 : eb_dc cX2_joins 61 (.getfield 44) 3 64 := by decide +kernel
theorem dX2_joins_64 : eb_dc cX2_joins 64 (.iload_n 1) 1 65 := by decide +kernel
theorem dX2_joins_65 : eb_dc cX2_joins 65 (.iaload) 1 66 := by decide +kernel
theorem dX2_joins_66 : eb_dc cX2_joins 66 (.imul) 1 67 := by decide +kernel
theorem dX2_joins_67 : eb_dc cX2_joins 67 (.aload_n 0) 1 68 := by decide +kernel
theorem dX2_joins_68 : eb_dc cX2_joins 68 (.getfield 44) 3 71 := by decide +kernel
theorem dX2_joins_71 : eb_dc cX2_joins 71 (.aload_n 0) 1 72 := by decide +kernel
theorem dX2_joins_72 : eb_dc cX2_joins 72 (.getfield 32) 3 75 := by decide +kernel
theorem dX2_joins_75 : eb_dc cX2_joins 75 (.iconst 4) 1 76 := by decide +kernel
theorem dX2_joins_76 : eb_dc cX2_joins 76 (.iload_n 1) 1 77 := by decide +kernel
theorem dX2_joins_77 : eb_dc cX2_joins 77 (.imul) 1 78 := by decide +kernel
theorem dX2_joins_78 : eb_dc cX2_joins 78 (.iload_n 2) 1 79 := by decide +kernel
theorem dX2_joins_79 : eb_dc cX2_joins 79 (.iadd) 1 80 := by decide +kernel
theorem dX2_joins_80 : eb_dc cX2_joins 80 (.iaload) 1 81 := by decide +kernel
theorem dX2_joins_81 : eb_dc cX2_joins 81 (.iaload) 1 82 := by decide +kernel
theorem dX2_joins_82 : eb_dc cX2_joins 82 (.iadd) 1 83 := by decide +kernel
theorem dX2_joins_83 : eb_dc cX2_joins 83 (.iconst 1) 1 84 := by decide +kernel
theorem dX2_joins_84 : eb_dc cX2_joins 84 (.bastore) 1 85 := by decide +kernel
theorem dX2_joins_85 : eb_dc cX2_joins 85 (.iinc 2 1) 3 88 := by decide +kernel
theorem dX2_joins_88 : eb_dj cX2_joins 88 (.goto (-55)) (-55) 91 33 := by decide +kernel
theorem dX2_joins_91 : eb_dc cX2_joins 91 (.iinc 1 1) 3 94 := by decide +kernel
theorem dX2_joins_94 : eb_dj cX2_joins 94 (.goto (-71)) (-71) 97 23 := by decide +kernel
theorem dX2_joins_97 : eb_dc cX2_joins 97 (.return_) 1 98 := by decide +kernel
theorem ctX2_joins {l : Launch} {Γ : eb_C} {ad : Nat → Nat} {ix : Nat → Option Nat} {σ : eb_MS} {K : eb_MS → Prop} (hi : ms_inv ad ix) (h : MX2_joins σ K) : eb_Ct l Γ yX2_joins cX2_joins 3 (none) rmX2_joins [.ref (ad 0)] (ms_st Γ ad ix σ) (em_V Γ ad ix K) := by
  refine eb_of (by decide) (Nat.le_of_ble_eq_true rfl) (fun X P hP _ => ?_)
  show eb_G l Γ P X cX2_joins RX2 3 (none) rmX2_joins 0 [(0, .ref (ad 0))] [] (ms_st Γ ad ix σ) 0 0
  refine eg_iconst dX2_joins_0 kc_0 ?_
  refine eg_istore_n (lv' := [(1, .int 0), (0, .ref (ad 0))]) dX2_joins_1 rfl (Nat.le_of_ble_eq_true rfl) rfl ?_
  refine eb_jp1_e (J := fun (g1 : eb_MS) => eb_G l Γ P X cX2_joins RX2 3 (none) rmX2_joins 21 [(0, .ref (ad 0))] [] (ms_st Γ ad ix g1) 0 0) h ?_ ?_
  · intro g1 h
    refine eg_iconst dX2_joins_21 kc_0 ?_
    refine eg_istore_n (lv' := [(1, .int 0), (0, .ref (ad 0))]) dX2_joins_22 rfl (Nat.le_of_ble_eq_true rfl) rfl ?_
    refine eg_sub [1, 0] rfl ?_
    refine eb_loop2_e (J := fun (x1_2 : Int32) (g3 : eb_MS) => eb_G l Γ P X cX2_joins RX2 3 (none) rmX2_joins 23 [(0, .ref (ad 0)), (1, .int x1_2)] [] (ms_st Γ ad ix g3) 0 0) h ?_
    intro r4 hr4 x1_2 g3 h
    refine eg_iload_n 1 dX2_joins_23 rfl rfl ?_
    refine eg_aload_n 0 dX2_joins_24 rfl rfl ?_
    refine em_gets 8 rfl q1150 dX2_joins_25 hi ?_
    refine eg_icmp_ge dX2_joins_28 (fun c18 => ?_) (fun c18 => ?_)
    · replace h := h.1 c18
      exact eg_vret dX2_joins_97 (Nat.zero_le _) (Nat.zero_le _) (hP _ _ ⟨_, rfl, rfl, h⟩)
    · replace h := h.2 c18
      refine eg_iconst dX2_joins_31 kc_0 ?_
      refine eg_istore_n (lv' := [(2, .int 0), (0, .ref (ad 0)), (1, .int x1_2)]) dX2_joins_32 rfl (Nat.le_of_ble_eq_true rfl) rfl ?_
      refine eb_jp1_e (J := fun (g5 : eb_MS) => eb_G l Γ P X cX2_joins RX2 3 (none) rmX2_joins 91 [(0, .ref (ad 0)), (1, .int x1_2)] [] (ms_st Γ ad ix g5) 0 0) h ?_ ?_
      · intro g5 h
        refine eg_iinc (j := 1) (lv' := [(1, .int (x1_2 + 1)), (0, .ref (ad 0))]) dX2_joins_91 rfl (by rw [kc_1]) (Nat.le_of_ble_eq_true rfl) rfl ?_
        refine eg_goto dX2_joins_94 ?_
        exact eg_sub [1, 0] rfl (hr4 (x1_2 + 1) g5 h)
      · intro k6 hk6 h
        refine eg_sub [1, 2, 0] rfl ?_
        refine eb_loop2_e (J := fun (x2_7 : Int32) (g8 : eb_MS) => eb_G l Γ P X cX2_joins RX2 3 (none) rmX2_joins 33 [(0, .ref (ad 0)), (1, .int x1_2), (2, .int x2_7)] [] (ms_st Γ ad ix g8) 0 0) h ?_
        intro r9 hr9 x2_7 g8 h
        refine eg_iload_n 2 dX2_joins_33 rfl rfl ?_
        refine eg_aload_n 0 dX2_joins_34 rfl rfl ?_
        refine em_gets 6 rfl q1148 dX2_joins_35 hi ?_
        refine eg_icmp_ge dX2_joins_38 (fun c17 => ?_) (fun c17 => ?_)
        · replace h := h.1 c17
          exact eg_sub [0, 1] rfl (hk6 g8 h)
        · replace h := h.2 c17
          refine eg_aload_n 0 dX2_joins_41 rfl rfl ?_
          refine em_gets 7 rfl q1149 dX2_joins_42 hi ?_
          refine eg_iload_n 2 dX2_joins_45 rfl rfl ?_
          refine eg_ishr dX2_joins_46 ?_
          refine eg_iconst dX2_joins_47 kc_1 ?_
          refine eg_iand dX2_joins_48 ?_
          refine eg_iconst dX2_joins_49 kc_1 ?_
          refine eb_jp1_e (J := fun (g10 : eb_MS) => eb_G l Γ P X cX2_joins RX2 3 (none) rmX2_joins 85 [(0, .ref (ad 0)), (1, .int x1_2), (2, .int x2_7)] [] (ms_st Γ ad ix g10) 0 0) h ?_ ?_
          · intro g10 h
            refine eg_iinc (j := 2) (lv' := [(2, .int (x2_7 + 1)), (0, .ref (ad 0)), (1, .int x1_2)]) dX2_joins_85 rfl (by rw [kc_1]) (Nat.le_of_ble_eq_true rfl) rfl ?_
            refine eg_goto dX2_joins_88 ?_
            exact eg_sub [1, 2, 0] rfl (hr9 (x2_7 + 1) g10 h)
          · intro k11 hk11 h
            refine eg_icmp_ne dX2_joins_50 (fun c16 => ?_) (fun c16 => ?_)
            · replace h := h.2 c16
              exact hk11 g8 h
            · replace h := h.1 c16
              refine eg_aload_n 0 dX2_joins_53 rfl rfl ?_
              refine em_geta 26 rfl q1168 dX2_joins_54 hi ?_
              refine eg_sipush dX2_joins_57 ks_500 ?_
              refine eg_aload_n 0 dX2_joins_60 rfl rfl ?_
              refine em_geta 15 rfl q1157 dX2_joins_61 hi ?_
              refine eg_iload_n 1 dX2_joins_64 rfl rfl ?_
              obtain ⟨hb, h⟩ := h
              refine em_iald 15 rfl hb dX2_joins_65 hi (fun v12 ev12 => ?_)
              replace h := h v12 ev12
              refine eg_imul dX2_joins_66 ?_
              refine eg_aload_n 0 dX2_joins_67 rfl rfl ?_
              refine em_geta 15 rfl q1157 dX2_joins_68 hi ?_
              refine eg_aload_n 0 dX2_joins_71 rfl rfl ?_
              refine em_geta 11 rfl q1153 dX2_joins_72 hi ?_
              refine eg_iconst dX2_joins_75 kc_4 ?_
              refine eg_iload_n 1 dX2_joins_76 rfl rfl ?_
              refine eg_imul dX2_joins_77 ?_
              refine eg_iload_n 2 dX2_joins_78 rfl rfl ?_
              refine eg_iadd dX2_joins_79 ?_
              obtain ⟨hb, h⟩ := h
              refine em_iald 11 rfl hb dX2_joins_80 hi (fun v13 ev13 => ?_)
              replace h := h v13 ev13
              obtain ⟨hb, h⟩ := h
              refine em_iald 15 rfl hb dX2_joins_81 hi (fun v14 ev14 => ?_)
              replace h := h v14 ev14
              refine eg_iadd dX2_joins_82 ?_
              refine eg_iconst dX2_joins_83 kc_1 ?_
              obtain ⟨hb, h⟩ := h
              refine em_zast 26 rfl hb dX2_joins_84 hi (fun g15 eg15 => ?_)
              replace h := h g15 eg15
              exact hk11 g15 h
  · intro k19 hk19 h
    refine eg_sub [1, 0] rfl ?_
    refine eb_loop2_e (J := fun (x1_20 : Int32) (g21 : eb_MS) => eb_G l Γ P X cX2_joins RX2 3 (none) rmX2_joins 2 [(0, .ref (ad 0)), (1, .int x1_20)] [] (ms_st Γ ad ix g21) 0 0) h ?_
    intro r22 hr22 x1_20 g21 h
    refine eg_iload_n 1 dX2_joins_2 rfl rfl ?_
    refine eg_ldc dX2_joins_3 q1134 ?_
    refine eg_icmp_ge dX2_joins_5 (fun c24 => ?_) (fun c24 => ?_)
    · replace h := h.1 c24
      exact eg_sub [0] rfl (hk19 g21 h)
    · replace h := h.2 c24
      refine eg_aload_n 0 dX2_joins_8 rfl rfl ?_
      refine em_geta 26 rfl q1168 dX2_joins_9 hi ?_
      refine eg_iload_n 1 dX2_joins_12 rfl rfl ?_
      refine eg_iconst dX2_joins_13 kc_0 ?_
      obtain ⟨hb, h⟩ := h
      refine em_zast 26 rfl hb dX2_joins_14 hi (fun g23 eg23 => ?_)
      replace h := h g23 eg23
      refine eg_iinc (j := 1) (lv' := [(1, .int (x1_20 + 1)), (0, .ref (ad 0))]) dX2_joins_15 rfl (by rw [kc_1]) (Nat.le_of_ble_eq_true rfl) rfl ?_
      refine eg_goto dX2_joins_18 ?_
      exact eg_sub [1, 0] rfl (hr22 (x1_20 + 1) g23 h)
def MX2_degreeOf (σ : eb_MS) (a1 : Int32) (a2 : Int32) (K : Int32 → Prop) : Prop :=
  eb_loop2 (fun r3 (x3_1 : Int32) (x4_2 : Int32) => eb_br (a2 ≤ x4_2) (K x3_1) (eb_rd (σ.2.1 26) 250000 (((500 * a1) + x4_2)) (fun v4 => eb_jp1 (fun (s5 : Int32) => r3 (x3_1 + s5) (x4_2 + 1)) (fun k6 => eb_br (v4 = 0) (k6 0) (k6 1))))) 0 0
abbrev rmX2_degreeOf : Room := { frames := 1, cells := 0, slots := 0, locals := 12 }
theorem nX2_degreeOf : eb_ar yX2_degreeOf 2 := by decide +kernel
theorem dX2_degreeOf_0 : eb_dc cX2_degreeOf 0 (.iconst 0) 1 1 := by decide +kernel
theorem dX2_degreeOf_1 : eb_dc cX2_degreeOf 1 (.istore_n 3) 1 2 := by decide +kernel
theorem dX2_degreeOf_2 : eb_dc cX2_degreeOf 2 (.iconst 0) 1 3 := by decide +kernel
theorem dX2_degreeOf_3 : eb_dc cX2_degreeOf 3 (.istore 4) 2 5 := by decide +kernel
theorem dX2_degreeOf_5 : eb_dc cX2_degreeOf 5 (.iload 4) 2 7 := by decide +kernel
theorem dX2_degreeOf_7 : eb_dc cX2_degreeOf 7 (.iload_n 2) 1 8 := by decide +kernel
theorem dX2_degreeOf_8 : eb_dj cX2_degreeOf 8 (.if_icmp .ge 33) 33 11 41 := by decide +kernel
theorem dX2_degreeOf_11 : eb_dc cX2_degreeOf 11 (.iload_n 3) 1 12 := by decide +kernel
theorem dX2_degreeOf_12 : eb_dc cX2_degreeOf 12 (.aload_n 0) 1 13 := by decide +kernel
theorem dX2_degreeOf_13 : eb_dc cX2_degreeOf 13 (.getfield 74) 3 16 := by decide +kernel
theorem dX2_degreeOf_16 : eb_dc cX2_degreeOf 16 (.sipush 500) 3 19 := by decide +kernel
theorem dX2_degreeOf_19 : eb_dc cX2_degreeOf 19 (.iload_n 1) 1 20 := by decide +kernel
theorem dX2_degreeOf_20 : eb_dc cX2_degreeOf 20 (.imul) 1 21 := by decide +kernel
theorem dX2_degreeOf_21 : eb_dc cX2_degreeOf 21 (.iload 4) 2 23 := by decide +kernel
theorem dX2_degreeOf_23 : eb_dc cX2_degreeOf 23 (.iadd) 1 24 := by decide +kernel
theorem dX2_degreeOf_24 : eb_dc cX2_degreeOf 24 (.baload) 1 25 := by decide +kernel
theorem dX2_degreeOf_25 : eb_dj cX2_degreeOf 25 (.ifCond .eq 7) 7 28 32 := by decide +kernel
theorem dX2_degreeOf_28 : eb_dc cX2_degreeOf 28 (.iconst 1) 1 29 := by decide +kernel
theorem dX2_degreeOf_29 : eb_dj cX2_degreeOf 29 (.goto 4) 4 32 33 := by decide +kernel
theorem dX2_degreeOf_32 : eb_dc cX2_degreeOf 32 (.iconst 0) 1 33 := by decide +kernel
theorem dX2_degreeOf_33 : eb_dc cX2_degreeOf 33 (.iadd) 1 34 := by decide +kernel
theorem dX2_degreeOf_34 : eb_dc cX2_degreeOf 34 (.istore_n 3) 1 35 := by decide +kernel
theorem dX2_degreeOf_35 : eb_dc cX2_degreeOf 35 (.iinc 4 1) 3 38 := by decide +kernel
theorem dX2_degreeOf_38 : eb_dj cX2_degreeOf 38 (.goto (-33)) (-33) 41 5 := by decide +kernel
theorem dX2_degreeOf_41 : eb_dc cX2_degreeOf 41 (.iload_n 3) 1 42 := by decide +kernel
theorem dX2_degreeOf_42 : eb_dc cX2_degreeOf 42 (.ireturn) 1 43 := by decide +kernel
theorem ctX2_degreeOf {l : Launch} {Γ : eb_C} {ad : Nat → Nat} {ix : Nat → Option Nat} {σ : eb_MS} {a1 : Int32} {a2 : Int32} {K : Int32 → Prop} (hi : ms_inv ad ix) (h : MX2_degreeOf σ a1 a2 K) : eb_Ct l Γ yX2_degreeOf cX2_degreeOf 5 (some .int) rmX2_degreeOf [.ref (ad 0), .int a1, .int a2] (ms_st Γ ad ix σ) (eb_pI (ms_st Γ ad ix σ) K) := by
  refine eb_of (by decide) (Nat.le_of_ble_eq_true rfl) (fun X P hP _ => ?_)
  show eb_G l Γ P X cX2_degreeOf RX2 5 (some .int) rmX2_degreeOf 0 [(0, .ref (ad 0)), (1, .int a1), (2, .int a2)] [] (ms_st Γ ad ix σ) 0 0
  refine eg_iconst dX2_degreeOf_0 kc_0 ?_
  refine eg_istore_n (lv' := [(3, .int 0), (0, .ref (ad 0)), (1, .int a1), (2, .int a2)]) dX2_degreeOf_1 rfl (Nat.le_of_ble_eq_true rfl) rfl ?_
  refine eg_iconst dX2_degreeOf_2 kc_0 ?_
  refine eg_istore (lv' := [(4, .int 0), (3, .int 0), (0, .ref (ad 0)), (1, .int a1), (2, .int a2)]) dX2_degreeOf_3 (Nat.le_of_ble_eq_true rfl) rfl ?_
  refine eg_sub [2, 3, 4, 1, 0] rfl ?_
  refine eb_loop2_e (J := fun (x3_1 : Int32) (x4_2 : Int32) => eb_G l Γ P X cX2_degreeOf RX2 5 (some .int) rmX2_degreeOf 5 [(0, .ref (ad 0)), (1, .int a1), (2, .int a2), (3, .int x3_1), (4, .int x4_2)] [] (ms_st Γ ad ix σ) 0 0) h ?_
  intro r3 hr3 x3_1 x4_2 h
  refine eg_iload 4 dX2_degreeOf_5 rfl ?_
  refine eg_iload_n 2 dX2_degreeOf_7 rfl rfl ?_
  refine eg_icmp_ge dX2_degreeOf_8 (fun c8 => ?_) (fun c8 => ?_)
  · replace h := h.1 c8
    refine eg_iload_n 3 dX2_degreeOf_41 rfl rfl ?_
    exact eg_iret dX2_degreeOf_42 (Nat.zero_le _) (Nat.zero_le _) (hP _ _ ⟨_, rfl, rfl, h⟩)
  · replace h := h.2 c8
    refine eg_iload_n 3 dX2_degreeOf_11 rfl rfl ?_
    refine eg_aload_n 0 dX2_degreeOf_12 rfl rfl ?_
    refine em_geta 26 rfl q1168 dX2_degreeOf_13 hi ?_
    refine eg_sipush dX2_degreeOf_16 ks_500 ?_
    refine eg_iload_n 1 dX2_degreeOf_19 rfl rfl ?_
    refine eg_imul dX2_degreeOf_20 ?_
    refine eg_iload 4 dX2_degreeOf_21 rfl ?_
    refine eg_iadd dX2_degreeOf_23 ?_
    obtain ⟨hb, h⟩ := h
    refine em_zald 26 rfl hb dX2_degreeOf_24 hi (fun v4 ev4 => ?_)
    replace h := h v4 ev4
    refine eb_jp1_e (J := fun (s5 : Int32) => eb_G l Γ P X cX2_degreeOf RX2 5 (some .int) rmX2_degreeOf 33 [(0, .ref (ad 0)), (1, .int a1), (2, .int a2), (4, .int x4_2)] [.int s5, .int x3_1] (ms_st Γ ad ix σ) 0 0) h ?_ ?_
    · intro s5 h
      refine eg_iadd dX2_degreeOf_33 ?_
      refine eg_istore_n (lv' := [(3, .int (x3_1 + s5)), (0, .ref (ad 0)), (1, .int a1), (2, .int a2), (4, .int x4_2)]) dX2_degreeOf_34 rfl (Nat.le_of_ble_eq_true rfl) rfl ?_
      refine eg_iinc (j := 4) (lv' := [(4, .int (x4_2 + 1)), (3, .int (x3_1 + s5)), (0, .ref (ad 0)), (1, .int a1), (2, .int a2)]) dX2_degreeOf_35 rfl (by rw [kc_1]) (Nat.le_of_ble_eq_true rfl) rfl ?_
      refine eg_goto dX2_degreeOf_38 ?_
      exact eg_sub [2, 3, 4, 1, 0] rfl (hr3 (x3_1 + s5) (x4_2 + 1) h)
    · intro k6 hk6 h
      refine eg_if_eq dX2_degreeOf_25 (fun c7 => ?_) (fun c7 => ?_)
      · replace h := h.1 c7
        refine eg_iconst dX2_degreeOf_32 kc_0 ?_
        exact eg_sub [0, 1, 2, 4] rfl (hk6 0 h)
      · replace h := h.2 c7
        refine eg_iconst dX2_degreeOf_28 kc_1 ?_
        refine eg_goto dX2_degreeOf_29 ?_
        exact eg_sub [0, 1, 2, 4] rfl (hk6 1 h)
def MX2_degree (σ : eb_MS) (a1 : Int32) (a2 : Int32) (K : Int32 → eb_MS → Prop) : Prop :=
  ms_ws σ 0 0 (fun g1 => MX2_refusesOf g1 a1 a2 (fun v2 g3 => eb_br (0 ≤ v2) (MX2_joins g3  (fun g5 => eb_br ((g5.1 16) ≤ a2) (K (-2) g5) (MX2_degreeOf g5 a2 (g5.1 16) (fun v6 => K v6 g5)))) (K v2 g3)))
abbrev rmX2_degree : Room := { frames := 7, cells := 0, slots := 0, locals := 166 }
theorem nX2_degree : eb_ar yX2_degree 2 := by decide +kernel
theorem dX2_degree_0 : eb_dc cX2_degree 0 (.aload_n 0) 1 1 := by decide +kernel
theorem dX2_degree_1 : eb_dc cX2_degree 1 (.iconst 0) 1 2 := by decide +kernel
theorem dX2_degree_2 : eb_dc cX2_degree 2 (.putfield 106) 3 5 := by decide +kernel
theorem dX2_degree_5 : eb_dc cX2_degree 5 (.aload_n 0) 1 6 := by decide +kernel
theorem dX2_degree_6 : eb_dc cX2_degree 6 (.iload_n 1) 1 7 := by decide +kernel
theorem dX2_degree_7 : eb_dc cX2_degree 7 (.iload_n 2) 1 8 := by decide +kernel
theorem dX2_degree_8 : eb_dc cX2_degree 8 (.invokevirtual 173) 3 11 := by decide +kernel
theorem dX2_degree_11 : eb_dc cX2_degree 11 (.istore_n 3) 1 12 := by decide +kernel
theorem dX2_degree_12 : eb_dc cX2_degree 12 (.iload_n 3) 1 13 := by decide +kernel
theorem dX2_degree_13 : eb_dj cX2_degree 13 (.ifCond .ge 5) 5 16 18 := by decide +kernel
theorem dX2_degree_16 : eb_dc cX2_degree 16 (.iload_n 3) 1 17 := by decide +kernel
theorem dX2_degree_17 : eb_dc cX2_degree 17 (.ireturn) 1 18 := by decide +kernel
theorem dX2_degree_18 : eb_dc cX2_degree 18 (.aload_n 0) 1 19 := by decide +kernel
theorem dX2_degree_19 : eb_dc cX2_degree 19 (.invokevirtual 203) 3 22 := by decide +kernel
theorem dX2_degree_22 : eb_dc cX2_degree 22 (.iload_n 2) 1 23 := by decide +kernel
theorem dX2_degree_23 : eb_dc cX2_degree 23 (.aload_n 0) 1 24 := by decide +kernel
theorem dX2_degree_24 : eb_dc cX2_degree 24 (.getfield 161) 3 27 := by decide +kernel
theorem dX2_degree_27 : eb_dj cX2_degree 27 (.if_icmp .ge 15) 15 30 42 := by decide +kernel
theorem dX2_degree_30 : eb_dc cX2_degree 30 (.aload_n 0) 1 31 := by decide +kernel
theorem dX2_degree_31 : eb_dc cX2_degree 31 (.iload_n 2) 1 32 := by decide +kernel
theorem dX2_degree_32 : eb_dc cX2_degree 32 (.aload_n 0) 1 33 := by decide +kernel
theorem dX2_degree_33 : eb_dc cX2_degree 33 (.getfield 161) 3 36 := by decide +kernel
theorem dX2_degree_36 : eb_dc cX2_degree 36 (.invokevirtual 206) 3 39 := by decide +kernel
theorem dX2_degree_39 : eb_dj cX2_degree 39 (.goto 5) 5 42 44 := by decide +kernel
theorem dX2_degree_42 : eb_dc cX2_degree 42 (.bipush (-2)) 2 44 := by decide +kernel
theorem dX2_degree_44 : eb_dc cX2_degree 44 (.ireturn) 1 45 := by decide +kernel
theorem ctX2_degree {l : Launch} {Γ : eb_C} {ad : Nat → Nat} {ix : Nat → Option Nat} {σ : eb_MS} {a1 : Int32} {a2 : Int32} {K : Int32 → eb_MS → Prop} (hi : ms_inv ad ix) (h : MX2_degree σ a1 a2 K) : eb_Ct l Γ yX2_degree cX2_degree 4 (some .int) rmX2_degree [.ref (ad 0), .int a1, .int a2] (ms_st Γ ad ix σ) (em_I Γ ad ix K) := by
  refine eb_of (by decide) (Nat.le_of_ble_eq_true rfl) (fun X P hP _ => ?_)
  show eb_G l Γ P X cX2_degree RX2 4 (some .int) rmX2_degree 0 [(0, .ref (ad 0)), (1, .int a1), (2, .int a2)] [] (ms_st Γ ad ix σ) 0 0
  refine eg_aload_n 0 dX2_degree_0 rfl rfl ?_
  refine eg_iconst dX2_degree_1 kc_0 ?_
  refine em_puts 0 rfl q1142 dX2_degree_2 hi (fun g1 eg1 => ?_)
  replace h := h g1 eg1
  refine eg_aload_n 0 dX2_degree_5 rfl rfl ?_
  refine eg_iload_n 1 dX2_degree_6 rfl rfl ?_
  refine eg_iload_n 2 dX2_degree_7 rfl rfl ?_
  refine em_cvi (rest := []) (ctX2_refusesOf hi h) hi (lw_V q1329 q1331 qs47 q77 q1332) rfl nX2_refusesOf ⟨Nat.le_of_ble_eq_true rfl, Nat.le_of_ble_eq_true rfl⟩ ⟨rfl, rfl⟩ ⟨Nat.zero_le _, Nat.zero_le _⟩ rfl rfl (Nat.le_of_ble_eq_true rfl) dX2_degree_8 (fun v2 g3 h => ?_)
  refine eg_istore_n (lv' := [(3, .int v2), (0, .ref (ad 0)), (1, .int a1), (2, .int a2)]) dX2_degree_11 rfl (Nat.le_of_ble_eq_true rfl) rfl ?_
  refine eg_iload_n 0 dX2_degree_12 rfl rfl ?_
  refine eg_if_ge dX2_degree_13 (fun c9 => ?_) (fun c9 => ?_)
  · replace h := h.1 c9
    refine eg_aload_n 1 dX2_degree_18 rfl rfl ?_
    refine em_cvv (rest := []) (ctX2_joins hi h) hi (lw_V q1452 q1454 qs56 q77 q1455) rfl nX2_joins ⟨Nat.le_of_ble_eq_true rfl, Nat.le_of_ble_eq_true rfl⟩ ⟨rfl, rfl⟩ ⟨Nat.zero_le _, Nat.zero_le _⟩ rfl rfl (Nat.le_of_ble_eq_true rfl) dX2_degree_19 (fun g5 h => ?_)
    refine eg_iload_n 3 dX2_degree_22 rfl rfl ?_
    refine eg_aload_n 1 dX2_degree_23 rfl rfl ?_
    refine em_gets 16 rfl q1158 dX2_degree_24 hi ?_
    refine eg_icmp_ge dX2_degree_27 (fun c8 => ?_) (fun c8 => ?_)
    · replace h := h.1 c8
      refine eg_bipush dX2_degree_42 kb_m2 ?_
      exact eg_iret dX2_degree_44 (Nat.zero_le _) (Nat.zero_le _) (hP _ _ ⟨_, _, rfl, rfl, h⟩)
    · replace h := h.2 c8
      refine eg_aload_n 1 dX2_degree_30 rfl rfl ?_
      refine eg_iload_n 3 dX2_degree_31 rfl rfl ?_
      refine eg_aload_n 1 dX2_degree_32 rfl rfl ?_
      refine em_gets 16 rfl q1158 dX2_degree_33 hi ?_
      refine em_cvp (rest := []) (ctX2_degreeOf hi h) hi (lw_V q1456 q1458 qs57 q77 q1459) rfl nX2_degreeOf ⟨Nat.le_of_ble_eq_true rfl, Nat.le_of_ble_eq_true rfl⟩ ⟨rfl, rfl⟩ ⟨Nat.zero_le _, Nat.zero_le _⟩ rfl rfl (Nat.le_of_ble_eq_true rfl) dX2_degree_36 (fun v6 h => ?_)
      refine eg_goto dX2_degree_39 ?_
      exact eg_iret dX2_degree_44 (Nat.zero_le _) (Nat.zero_le _) (hP _ _ ⟨_, _, rfl, rfl, h⟩)
  · replace h := h.2 c9
    refine eg_iload_n 0 dX2_degree_16 rfl rfl ?_
    exact eg_iret dX2_degree_17 (Nat.zero_le _) (Nat.zero_le _) (hP _ _ ⟨_, _, rfl, rfl, h⟩)
