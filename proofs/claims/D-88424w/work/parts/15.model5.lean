set_option maxRecDepth 100000
set_option maxHeartbeats 4000000
def MX2_told (σ : eb_MS) (a1 : Int32) (a2 : Int32) (K : Int32 → Prop) : Prop :=
  eb_br ((σ.1 31) ≤ a1) ((¬ (σ.1 31) = 0) ∧ (eb_rd (σ.2.1 30) 64 ((eb_rem (((((2 * (σ.1 31)) + a1) - (σ.1 31)) - a2)) (σ.1 31))) (fun v1 => K v1))) ((¬ (σ.1 31) = 0) ∧ (eb_rd (σ.2.1 30) 64 ((eb_rem (a1 + a2) (σ.1 31))) (fun v2 => K v2)))
abbrev rmX2_told : Room := { frames := 1, cells := 0, slots := 0, locals := 12 }
theorem nX2_told : eb_ar yX2_told 2 := by decide +kernel
theorem dX2_told_0 : eb_dc cX2_told 0 (.iload_n 1) 1 1 := by decide +kernel
theorem dX2_told_1 : eb_dc cX2_told 1 (.aload_n 0) 1 2 := by decide +kernel
theorem dX2_told_2 : eb_dc cX2_told 2 (.getfield 217) 3 5 := by decide +kernel
theorem dX2_told_5 : eb_dj cX2_told 5 (.if_icmp .ge 19) 19 8 24 := by decide +kernel
theorem dX2_told_8 : eb_dc cX2_told 8 (.aload_n 0) 1 9 := by decide +kernel
theorem dX2_told_9 : eb_dc cX2_told 9 (.getfield 86) 3 12 := by decide +kernel
theorem dX2_told_12 : eb_dc cX2_told 12 (.iload_n 1) 1 13 := by decide +kernel
theorem dX2_told_13 : eb_dc cX2_told 13 (.iload_n 2) 1 14 := by decide +kernel
theorem dX2_told_14 : eb_dc cX2_told 14 (.iadd) 1 15 := by decide +kernel
theorem dX2_told_15 : eb_dc cX2_told 15 (.aload_n 0) 1 16 := by decide +kernel
theorem dX2_told_16 : eb_dc cX2_told 16 (.getfield 217) 3 19 := by decide +kernel
theorem dX2_told_19 : eb_dc cX2_told 19 (.irem) 1 20 := by decide +kernel
theorem dX2_told_20 : eb_dc cX2_told 20 (.iaload) 1 21 := by decide +kernel
theorem dX2_told_21 : eb_dj cX2_told 21 (.goto 28) 28 24 49 := by decide +kernel
theorem dX2_told_24 : eb_dc cX2_told 24 (.aload_n 0) 1 25 := by decide +kernel
theorem dX2_told_25 : eb_dc cX2_told 25 (.getfield 86) 3 28 := by decide +kernel
theorem dX2_told_28 : eb_dc cX2_told 28 (.iconst 2) 1 29 := by decide +kernel
theorem dX2_told_29 : eb_dc cX2_told 29 (.aload_n 0) 1 30 := by decide +kernel
theorem dX2_told_30 : eb_dc cX2_told 30 (.getfield 217) 3 33 := by decide +kernel
theorem dX2_told_33 : eb_dc cX2_told 33 (.imul) 1 34 := by decide +kernel
theorem dX2_told_34 : eb_dc cX2_told 34 (.iload_n 1) 1 35 := by decide +kernel
theorem dX2_told_35 : eb_dc cX2_told 35 (.iadd) 1 36 := by decide +kernel
theorem dX2_told_36 : eb_dc cX2_told 36 (.aload_n 0) 1 37 := by decide +kernel
theorem dX2_told_37 : eb_dc cX2_told 37 (.getfield 217) 3 40 := by decide +kernel
theorem dX2_told_40 : eb_dc cX2_told 40 (.isub) 1 41 := by decide +kernel
theorem dX2_told_41 : eb_dc cX2_told 41 (.iload_n 2) 1 42 := by decide +kernel
theorem dX2_told_42 : eb_dc cX2_told 42 (.isub) 1 43 := by decide +kernel
theorem dX2_told_43 : eb_dc cX2_told 43 (.aload_n 0) 1 44 := by decide +kernel
theorem dX2_told_44 : eb_dc cX2_told 44 (.getfield 217) 3 47 := by decide +kernel
theorem dX2_told_47 : eb_dc cX2_told 47 (.irem) 1 48 := by decide +kernel
theorem dX2_told_48 : eb_dc cX2_told 48 (.iaload) 1 49 := by decide +kernel
theorem dX2_told_49 : eb_dc cX2_told 49 (.ireturn) 1 50 := by decide +kernel
theorem ctX2_told {l : Launch} {Γ : eb_C} {ad : Nat → Nat} {ix : Nat → Option Nat} {σ : eb_MS} {a1 : Int32} {a2 : Int32} {K : Int32 → Prop} (hi : ms_inv ad ix) (h : MX2_told σ a1 a2 K) : eb_Ct l Γ yX2_told cX2_told 3 (some .int) rmX2_told [.ref (ad 0), .int a1, .int a2] (ms_st Γ ad ix σ) (eb_pI (ms_st Γ ad ix σ) K) := by
  refine eb_of (by decide) (Nat.le_of_ble_eq_true rfl) (fun X P hP _ => ?_)
  show eb_G l Γ P X cX2_told RX2 3 (some .int) rmX2_told 0 [(0, .ref (ad 0)), (1, .int a1), (2, .int a2)] [] (ms_st Γ ad ix σ) 0 0
  refine eg_iload_n 1 dX2_told_0 rfl rfl ?_
  refine eg_aload_n 0 dX2_told_1 rfl rfl ?_
  refine em_gets 31 rfl q1173 dX2_told_2 hi ?_
  refine eg_icmp_ge dX2_told_5 (fun c3 => ?_) (fun c3 => ?_)
  · replace h := h.1 c3
    refine eg_aload_n 0 dX2_told_24 rfl rfl ?_
    refine em_geta 30 rfl q1172 dX2_told_25 hi ?_
    refine eg_iconst dX2_told_28 kc_2 ?_
    refine eg_aload_n 0 dX2_told_29 rfl rfl ?_
    refine em_gets 31 rfl q1173 dX2_told_30 hi ?_
    refine eg_imul dX2_told_33 ?_
    refine eg_iload_n 1 dX2_told_34 rfl rfl ?_
    refine eg_iadd dX2_told_35 ?_
    refine eg_aload_n 0 dX2_told_36 rfl rfl ?_
    refine em_gets 31 rfl q1173 dX2_told_37 hi ?_
    refine eg_isub dX2_told_40 ?_
    refine eg_iload_n 2 dX2_told_41 rfl rfl ?_
    refine eg_isub dX2_told_42 ?_
    refine eg_aload_n 0 dX2_told_43 rfl rfl ?_
    refine em_gets 31 rfl q1173 dX2_told_44 hi ?_
    obtain ⟨hne, h⟩ := h
    refine eg_irem dX2_told_47 hne ?_
    obtain ⟨hb, h⟩ := h
    refine em_iald 30 rfl hb dX2_told_48 hi (fun v1 ev1 => ?_)
    replace h := h v1 ev1
    exact eg_iret dX2_told_49 (Nat.zero_le _) (Nat.zero_le _) (hP _ _ ⟨_, rfl, rfl, h⟩)
  · replace h := h.2 c3
    refine eg_aload_n 0 dX2_told_8 rfl rfl ?_
    refine em_geta 30 rfl q1172 dX2_told_9 hi ?_
    refine eg_iload_n 1 dX2_told_12 rfl rfl ?_
    refine eg_iload_n 2 dX2_told_13 rfl rfl ?_
    refine eg_iadd dX2_told_14 ?_
    refine eg_aload_n 0 dX2_told_15 rfl rfl ?_
    refine em_gets 31 rfl q1173 dX2_told_16 hi ?_
    obtain ⟨hne, h⟩ := h
    refine eg_irem dX2_told_19 hne ?_
    obtain ⟨hb, h⟩ := h
    refine em_iald 30 rfl hb dX2_told_20 hi (fun v2 ev2 => ?_)
    replace h := h v2 ev2
    refine eg_goto dX2_told_21 ?_
    exact eg_iret dX2_told_49 (Nat.zero_le _) (Nat.zero_le _) (hP _ _ ⟨_, rfl, rfl, h⟩)
def MX2_isLess (σ : eb_MS) (a1 : Int32) (a2 : Int32) (K : Int32 → Prop) : Prop :=
  eb_loop1 (fun r2 (x3_1 : Int32) => eb_br ((σ.1 31) ≤ x3_1) (K 0) (MX2_told σ a1 x3_1 (fun v3 => MX2_told σ a2 x3_1 (fun v5 => eb_br (v3 = v5) (r2 (x3_1 + 1)) (MX2_told σ a1 x3_1 (fun v7 => MX2_told σ a2 x3_1 (fun v9 => eb_br (v9 ≤ v7) (K 0) (K 1)))))))) 0
abbrev rmX2_isLess : Room := { frames := 2, cells := 0, slots := 0, locals := 34 }
theorem nX2_isLess : eb_ar yX2_isLess 2 := by decide +kernel
theorem dX2_isLess_0 : eb_dc cX2_isLess 0 (.iconst 0) 1 1 := by decide +kernel
theorem dX2_isLess_1 : eb_dc cX2_isLess 1 (.istore_n 3) 1 2 := by decide +kernel
theorem dX2_isLess_2 : eb_dc cX2_isLess 2 (.iload_n 3) 1 3 := by decide +kernel
theorem dX2_isLess_3 : eb_dc cX2_isLess 3 (.aload_n 0) 1 4 := by decide +kernel
theorem dX2_isLess_4 : eb_dc cX2_isLess 4 (.getfield 217) 3 7 := by decide +kernel
theorem dX2_isLess_7 : eb_dj cX2_isLess 7 (.if_icmp .ge 45) 45 10 52 := by decide +kernel
theorem dX2_isLess_10 : eb_dc cX2_isLess 10 (.aload_n 0) 1 11 := by decide +kernel
theorem dX2_isLess_11 : eb_dc cX2_isLess 11 (.iload_n 1) 1 12 := by decide +kernel
theorem dX2_isLess_12 : eb_dc cX2_isLess 12 (.iload_n 3) 1 13 := by decide +kernel
theorem dX2_isLess_13 : eb_dc cX2_isLess 13 (.invokevirtual 232) 3 16 := by decide +kernel
theorem dX2_isLess_16 : eb_dc cX2_isLess 16 (.aload_n 0) 1 17 := by decide +kernel
theorem dX2_isLess_17 : eb_dc cX2_isLess 17 (.iload_n 2) 1 18 := by decide +kernel
theorem dX2_isLess_18 : eb_dc cX2_isLess 18 (.iload_n 3) 1 19 := by decide +kernel
theorem dX2_isLess_19 : eb_dc cX2_isLess 19 (.invokevirtual 232) 3 22 := by decide +kernel
theorem dX2_isLess_22 : eb_dj cX2_isLess 22 (.if_icmp .eq 24) 24 25 46 := by decide +kernel
theorem dX2_isLess_25 : eb_dc cX2_isLess 25 (.aload_n 0) 1 26 := by decide +kernel
theorem dX2_isLess_26 : eb_dc cX2_isLess 26 (.iload_n 1) 1 27 := by decide +kernel
theorem dX2_isLess_27 : eb_dc cX2_isLess 27 (.iload_n 3) 1 28 := by decide +kernel
theorem dX2_isLess_28 : eb_dc cX2_isLess 28 (.invokevirtual 232) 3 31 := by decide +kernel
theorem dX2_isLess_31 : eb_dc cX2_isLess 31 (.aload_n 0) 1 32 := by decide +kernel
theorem dX2_isLess_32 : eb_dc cX2_isLess 32 (.iload_n 2) 1 33 := by decide +kernel
theorem dX2_isLess_33 : eb_dc cX2_isLess 33 (.iload_n 3) 1 34 := by decide +kernel
theorem dX2_isLess_34 : eb_dc cX2_isLess 34 (.invokevirtual 232) 3 37 := by decide +kernel
theorem dX2_isLess_37 : eb_dj cX2_isLess 37 (.if_icmp .ge 7) 7 40 44 := by decide +kernel
theorem dX2_isLess_40 : eb_dc cX2_isLess 40 (.iconst 1) 1 41 := by decide +kernel
theorem dX2_isLess_41 : eb_dj cX2_isLess 41 (.goto 4) 4 44 45 := by decide +kernel
theorem dX2_isLess_44 : eb_dc cX2_isLess 44 (.iconst 0) 1 45 := by decide +kernel
theorem dX2_isLess_45 : eb_dc cX2_isLess 45 (.ireturn) 1 46 := by decide +kernel
theorem dX2_isLess_46 : eb_dc cX2_isLess 46 (.iinc 3 1) 3 49 := by decide +kernel
theorem dX2_isLess_49 : eb_dj cX2_isLess 49 (.goto (-47)) (-47) 52 2 := by decide +kernel
theorem dX2_isLess_52 : eb_dc cX2_isLess 52 (.iconst 0) 1 53 := by decide +kernel
theorem dX2_isLess_53 : eb_dc cX2_isLess 53 (.ireturn) 1 54 := by decide +kernel
theorem ctX2_isLess {l : Launch} {Γ : eb_C} {ad : Nat → Nat} {ix : Nat → Option Nat} {σ : eb_MS} {a1 : Int32} {a2 : Int32} {K : Int32 → Prop} (hi : ms_inv ad ix) (h : MX2_isLess σ a1 a2 K) : eb_Ct l Γ yX2_isLess cX2_isLess 4 (some .boolean) rmX2_isLess [.ref (ad 0), .int a1, .int a2] (ms_st Γ ad ix σ) (eb_pI (ms_st Γ ad ix σ) K) := by
  refine eb_of (by decide) (Nat.le_of_ble_eq_true rfl) (fun X P hP _ => ?_)
  show eb_G l Γ P X cX2_isLess RX2 4 (some .boolean) rmX2_isLess 0 [(0, .ref (ad 0)), (1, .int a1), (2, .int a2)] [] (ms_st Γ ad ix σ) 0 0
  refine eg_iconst dX2_isLess_0 kc_0 ?_
  refine eg_istore_n (lv' := [(3, .int 0), (0, .ref (ad 0)), (1, .int a1), (2, .int a2)]) dX2_isLess_1 rfl (Nat.le_of_ble_eq_true rfl) rfl ?_
  refine eg_sub [1, 2, 3, 0] rfl ?_
  refine eb_loop1_e (J := fun (x3_1 : Int32) => eb_G l Γ P X cX2_isLess RX2 4 (some .boolean) rmX2_isLess 2 [(0, .ref (ad 0)), (1, .int a1), (2, .int a2), (3, .int x3_1)] [] (ms_st Γ ad ix σ) 0 0) h ?_
  intro r2 hr2 x3_1 h
  refine eg_iload_n 3 dX2_isLess_2 rfl rfl ?_
  refine eg_aload_n 0 dX2_isLess_3 rfl rfl ?_
  refine em_gets 31 rfl q1173 dX2_isLess_4 hi ?_
  refine eg_icmp_ge dX2_isLess_7 (fun c13 => ?_) (fun c13 => ?_)
  · replace h := h.1 c13
    refine eg_iconst dX2_isLess_52 kc_0 ?_
    exact eg_zret dX2_isLess_53 rfl (Nat.zero_le _) (Nat.zero_le _) (hP _ _ ⟨_, rfl, rfl, h⟩)
  · replace h := h.2 c13
    refine eg_aload_n 0 dX2_isLess_10 rfl rfl ?_
    refine eg_iload_n 1 dX2_isLess_11 rfl rfl ?_
    refine eg_iload_n 3 dX2_isLess_12 rfl rfl ?_
    refine em_cvp (rest := []) (ctX2_told hi h) hi (lw_V q1513 q1515 qs66 q77 q1516) rfl nX2_told ⟨Nat.le_of_ble_eq_true rfl, Nat.le_of_ble_eq_true rfl⟩ ⟨rfl, rfl⟩ ⟨Nat.zero_le _, Nat.zero_le _⟩ rfl rfl (Nat.le_of_ble_eq_true rfl) dX2_isLess_13 (fun v3 h => ?_)
    refine eg_aload_n 0 dX2_isLess_16 rfl rfl ?_
    refine eg_iload_n 2 dX2_isLess_17 rfl rfl ?_
    refine eg_iload_n 3 dX2_isLess_18 rfl rfl ?_
    refine em_cvp (rest := [.int v3]) (ctX2_told hi h) hi (lw_V q1513 q1515 qs66 q77 q1516) rfl nX2_told ⟨Nat.le_of_ble_eq_true rfl, Nat.le_of_ble_eq_true rfl⟩ ⟨rfl, rfl⟩ ⟨Nat.zero_le _, Nat.zero_le _⟩ rfl rfl (Nat.le_of_ble_eq_true rfl) dX2_isLess_19 (fun v5 h => ?_)
    refine eg_icmp_eq dX2_isLess_22 (fun c12 => ?_) (fun c12 => ?_)
    · replace h := h.1 c12
      refine eg_iinc (j := 3) (lv' := [(3, .int (x3_1 + 1)), (0, .ref (ad 0)), (1, .int a1), (2, .int a2)]) dX2_isLess_46 rfl (by rw [kc_1]) (Nat.le_of_ble_eq_true rfl) rfl ?_
      refine eg_goto dX2_isLess_49 ?_
      exact eg_sub [1, 2, 3, 0] rfl (hr2 (x3_1 + 1) h)
    · replace h := h.2 c12
      refine eg_aload_n 0 dX2_isLess_25 rfl rfl ?_
      refine eg_iload_n 1 dX2_isLess_26 rfl rfl ?_
      refine eg_iload_n 3 dX2_isLess_27 rfl rfl ?_
      refine em_cvp (rest := []) (ctX2_told hi h) hi (lw_V q1513 q1515 qs66 q77 q1516) rfl nX2_told ⟨Nat.le_of_ble_eq_true rfl, Nat.le_of_ble_eq_true rfl⟩ ⟨rfl, rfl⟩ ⟨Nat.zero_le _, Nat.zero_le _⟩ rfl rfl (Nat.le_of_ble_eq_true rfl) dX2_isLess_28 (fun v7 h => ?_)
      refine eg_aload_n 0 dX2_isLess_31 rfl rfl ?_
      refine eg_iload_n 2 dX2_isLess_32 rfl rfl ?_
      refine eg_iload_n 3 dX2_isLess_33 rfl rfl ?_
      refine em_cvp (rest := [.int v7]) (ctX2_told hi h) hi (lw_V q1513 q1515 qs66 q77 q1516) rfl nX2_told ⟨Nat.le_of_ble_eq_true rfl, Nat.le_of_ble_eq_true rfl⟩ ⟨rfl, rfl⟩ ⟨Nat.zero_le _, Nat.zero_le _⟩ rfl rfl (Nat.le_of_ble_eq_true rfl) dX2_isLess_34 (fun v9 h => ?_)
      refine eg_icmp_ge dX2_isLess_37 (fun c11 => ?_) (fun c11 => ?_)
      · replace h := h.1 c11
        refine eg_iconst dX2_isLess_44 kc_0 ?_
        exact eg_zret dX2_isLess_45 rfl (Nat.zero_le _) (Nat.zero_le _) (hP _ _ ⟨_, rfl, rfl, h⟩)
      · replace h := h.2 c11
        refine eg_iconst dX2_isLess_40 kc_1 ?_
        refine eg_goto dX2_isLess_41 ?_
        exact eg_zret dX2_isLess_45 rfl (Nat.zero_le _) (Nat.zero_le _) (hP _ _ ⟨_, rfl, rfl, h⟩)
def MX2_rounds (σ : eb_MS) (K : eb_MS → Prop) : Prop :=
  MX2_faces σ  (fun g2 => ms_ws g2 31 0 (fun g3 => eb_jp1 (fun (x1_4 : Int32) => eb_br (x1_4 = (-1)) (K g3) (MX2_edgeWith g3 x1_4 (-1) (fun v5 => eb_jp1 (fun (g7 : eb_MS) => eb_jp1 (fun (x4_8 : Int32) => eb_jp1 (fun (g9 : eb_MS) => eb_loop2 (fun r12 (x5_10 : Int32) (g11 : eb_MS) => eb_br ((g11.1 31) ≤ x5_10) (K g11) (eb_rd (g11.2.1 30) 64 (32 + x5_10) (fun v13 => ms_wr g11 30 64 x5_10 v13 (fun g14 => r12 (x5_10 + 1) g14)))) 0 g9) (fun k16 => eb_loop2 (fun r19 (x5_17 : Int32) (g18 : eb_MS) => eb_br ((g18.1 31) ≤ x5_17) (k16 g18) (MX2_told g18 x4_8 x5_17 (fun v20 => ms_wr g18 30 64 (32 + x5_17) v20 (fun g22 => r19 (x5_17 + 1) g22)))) 0 g7)) (fun k24 => eb_loop2 (fun r27 (x4_25 : Int32) (x5_26 : Int32) => eb_br ((2 * (g7.1 31)) ≤ x5_26) (k24 x4_25) (MX2_isLess g7 x5_26 x4_25 (fun v28 => eb_jp1 (fun (s30 : Int32) => r27 s30 (x5_26 + 1)) (fun k31 => eb_br (v28 = 0) (k31 x4_25) (k31 x5_26))))) 0 1)) (fun k34 => eb_loop3 (fun r38 (x2_35 : Int32) (x3_36 : Int32) (g37 : eb_MS) => MX2_faceSize g37 x2_35 (fun v39 g40 => ms_wr g40 30 64 (g37.1 31) v39 (fun g41 => ms_ws g41 31 (((g41.1 31) + 1)) (fun g42 => MX2_faceWith g42 x3_36 x2_35 (fun v43 => eb_jp1 (fun (s45 : Int32) => MX2_edgeWith g42 s45 x3_36 (fun v46 => eb_br (s45 = x1_4) (k34 g42) (r38 s45 v46 g42))) (fun k49 => eb_br (v43 = (-1)) (k49 x1_4) (k49 v43))))))) x1_4 v5 g3)))) (fun k52 => eb_loop2 (fun r55 (x1_53 : Int32) (x2_54 : Int32) => eb_br (x2_54 < 0) (k52 x1_53) (eb_rd (g3.2.1 29) 3 x2_54 (fun v56 => eb_jp1 (fun (s57 : Int32) => r55 s57 ((x2_54 + (-1)))) (fun k58 => eb_br (v56 ≤ 0) (k58 x1_53) (eb_rd (g3.2.1 28) 1500 (500 * x2_54) (fun v59 => k58 (((500 * x2_54) + v59)))))))) (-1) 2)))
abbrev rmX2_rounds : Room := { frames := 6, cells := 0, slots := 0, locals := 134 }
theorem nX2_rounds : eb_ar yX2_rounds 0 := by decide +kernel
theorem dX2_rounds_0 : eb_dc cX2_rounds 0 (.aload_n 0) 1 1 := by decide +kernel
theorem dX2_rounds_1 : eb_dc cX2_rounds 1 (.invokevirtual 214) 3 4 := by decide +kernel
theorem dX2_rounds_4 : eb_dc cX2_rounds 4 (.aload_n 0) 1 5 := by decide +kernel
theorem dX2_rounds_5 : eb_dc cX2_rounds 5 (.iconst 0) 1 6 := by decide +kernel
theorem dX2_rounds_6 : eb_dc cX2_rounds 6 (.putfield 217) 3 9 := by decide +kernel
theorem dX2_rounds_9 : eb_dc cX2_rounds 9 (.iconst (-1)) 1 10 := by decide +kernel
theorem dX2_rounds_10 : eb_dc cX2_rounds 10 (.istore_n 1) 1 11 := by decide +kernel
theorem dX2_rounds_11 : eb_dc cX2_rounds 11 (.iconst 2) 1 12 := by decide +kernel
theorem dX2_rounds_12 : eb_dc cX2_rounds 12 (.istore_n 2) 1 13 := by decide +kernel
theorem dX2_rounds_13 : eb_dc cX2_rounds 13 (.iload_n 2) 1 14 := by decide +kernel
theorem dX2_rounds_14 : eb_dj cX2_rounds 14 (.ifCond .lt 39) 39 17 53 := by decide +kernel
theorem dX2_rounds_17 : eb_dc cX2_rounds 17 (.aload_n 0) 1 18 := by decide +kernel
theorem dX2_rounds_18 : eb_dc cX2_rounds 18 (.getfield 83) 3 21 := by decide +kernel
theorem dX2_rounds_21 : eb_dc cX2_rounds 21 (.iload_n 2) 1 22 := by decide +kernel
theorem dX2_rounds_22 : eb_dc cX2_rounds 22 (.iaload) 1 23 := by decide +kernel
theorem dX2_rounds_23 : eb_dj cX2_rounds 23 (.ifCond .le 22) 22 26 45 := by decide +kernel
theorem dX2_rounds_26 : eb_dc cX2_rounds 26 (.sipush 500) 3 29 := by decide +kernel
theorem dX2_rounds_29 : eb_dc cX2_rounds 29 (.iload_n 2) 1 30 := by decide +kernel
theorem dX2_rounds_30 : eb_dc cX2_rounds 30 (.imul) 1 31 := by decide +kernel
theorem dX2_rounds_31 : eb_dc cX2_rounds 31 (.aload_n 0) 1 32 := by decide +kernel
theorem dX2_rounds_32 : eb_dc cX2_rounds 32 (.getfield 80) 3 35 := by decide +kernel
theorem dX2_rounds_35 : eb_dc cX2_rounds 35 (.sipush 500) 3 38 := by decide +kernel
theorem dX2_rounds_38 : eb_dc cX2_rounds 38 (.iload_n 2) 1 39 := by decide +kernel
theorem dX2_rounds_39 : eb_dc cX2_rounds 39 (.imul) 1 40 := by decide +kernel
theorem dX2_rounds_40 : eb_dc cX2_rounds 40 (.iaload) 1 41 := by decide +kernel
theorem dX2_rounds_41 : eb_dc cX2_rounds 41 (.iadd) 1 42 := by decide +kernel
theorem dX2_rounds_42 : eb_dj cX2_rounds 42 (.goto 4) 4 45 46 := by decide +kernel
theorem dX2_rounds_45 : eb_dc cX2_rounds 45 (.iload_n 1) 1 46 := by decide +kernel
theorem dX2_rounds_46 : eb_dc cX2_rounds 46 (.istore_n 1) 1 47 := by decide +kernel
theorem dX2_rounds_47 : eb_dc cX2_rounds 47 (.iinc 2 (-1)) 3 50 := by decide +kernel
theorem dX2_rounds_50 : eb_dj cX2_rounds 50 (.goto (-37)) (-37) 53 13 := by decide +kernel
theorem dX2_rounds_53 : eb_dc cX2_rounds 53 (.iload_n 1) 1 54 := by decide +kernel
theorem dX2_rounds_54 : eb_dc cX2_rounds 54 (.iconst (-1)) 1 55 := by decide +kernel
theorem dX2_rounds_55 : eb_dj cX2_rounds 55 (.if_icmp .ne 4) 4 58 59 := by decide +kernel
theorem dX2_rounds_58 : eb_dc cX2_rounds 58 (.return_) 1 59 := by decide +kernel
theorem dX2_rounds_59 : eb_dc cX2_rounds 59 (.iload_n 1) 1 60 := by decide +kernel
theorem dX2_rounds_60 : eb_dc cX2_rounds 60 (.istore_n 2) 1 61 := by decide +kernel
theorem dX2_rounds_61 : eb_dc cX2_rounds 61 (.aload_n 0) 1 62 := by decide +kernel
theorem dX2_rounds_62 : eb_dc cX2_rounds 62 (.iload_n 2) 1 63 := by decide +kernel
theorem dX2_rounds_63 : eb_dc cX2_rounds 63 (.iconst (-1)) 1 64 := by decide +kernel
theorem dX2_rounds_64 : eb_dc cX2_rounds 64 (.invokevirtual 220) 3 67 := by decide +kernel
theorem dX2_rounds_67 : eb_dc cX2_rounds 67 (.istore_n 3) 1 68 := by decide +kernel
theorem dX2_rounds_68 : eb_dc cX2_rounds 68 (.aload_n 0) 1 69 := by decide +kernel
theorem dX2_rounds_69 : eb_dc cX2_rounds 69 (.getfield 86) 3 72 := by decide +kernel
theorem dX2_rounds_72 : eb_dc cX2_rounds 72 (.aload_n 0) 1 73 := by decide +kernel
theorem dX2_rounds_73 : eb_dc cX2_rounds 73 (.getfield 217) 3 76 := by decide +kernel
theorem dX2_rounds_76 : eb_dc cX2_rounds 76 (.aload_n 0) 1 77 := by decide +kernel
theorem dX2_rounds_77 : eb_dc cX2_rounds 77 (.iload_n 2) 1 78 := by decide +kernel
theorem dX2_rounds_78 : eb_dc cX2_rounds 78 (.invokevirtual 223) 3 81 := by decide +kernel
theorem dX2_rounds_81 : eb_dc cX2_rounds 81 (.iastore) 1 82 := by decide +kernel
theorem dX2_rounds_82 : eb_dc cX2_rounds 82 (.aload_n 0) 1 83 := by decide +kernel
theorem dX2_rounds_83 : eb_dc cX2_rounds 83 (.dup) 1 84 := by decide +kernel
theorem dX2_rounds_84 : eb_dc cX2_rounds 84 (.getfield 217) 3 87 := by decide +kernel
theorem dX2_rounds_87 : eb_dc cX2_rounds 87 (.iconst 1) 1 88 := by decide +kernel
theorem dX2_rounds_88 : eb_dc cX2_rounds 88 (.iadd) 1 89 := by decide +kernel
theorem dX2_rounds_89 : eb_dc cX2_rounds 89 (.putfield 217) 3 92 := by decide +kernel
theorem dX2_rounds_92 : eb_dc cX2_rounds 92 (.aload_n 0) 1 93 := by decide +kernel
theorem dX2_rounds_93 : eb_dc cX2_rounds 93 (.iload_n 3) 1 94 := by decide +kernel
theorem dX2_rounds_94 : eb_dc cX2_rounds 94 (.iload_n 2) 1 95 := by decide +kernel
theorem dX2_rounds_95 : eb_dc cX2_rounds 95 (.invokevirtual 226) 3 98 := by decide +kernel
theorem dX2_rounds_98 : eb_dc cX2_rounds 98 (.istore 4) 2 100 := by decide +kernel
theorem dX2_rounds_100 : eb_dc cX2_rounds 100 (.iload 4) 2 102 := by decide +kernel
theorem dX2_rounds_102 : eb_dc cX2_rounds 102 (.iconst (-1)) 1 103 := by decide +kernel
theorem dX2_rounds_103 : eb_dj cX2_rounds 103 (.if_icmp .ne 7) 7 106 110 := by decide +kernel
theorem dX2_rounds_106 : eb_dc cX2_rounds 106 (.iload_n 1) 1 107 := by decide +kernel
theorem dX2_rounds_107 : eb_dj cX2_rounds 107 (.goto 5) 5 110 112 := by decide +kernel
theorem dX2_rounds_110 : eb_dc cX2_rounds 110 (.iload 4) 2 112 := by decide +kernel
theorem dX2_rounds_112 : eb_dc cX2_rounds 112 (.istore_n 2) 1 113 := by decide +kernel
theorem dX2_rounds_113 : eb_dc cX2_rounds 113 (.aload_n 0) 1 114 := by decide +kernel
theorem dX2_rounds_114 : eb_dc cX2_rounds 114 (.iload_n 2) 1 115 := by decide +kernel
theorem dX2_rounds_115 : eb_dc cX2_rounds 115 (.iload_n 3) 1 116 := by decide +kernel
theorem dX2_rounds_116 : eb_dc cX2_rounds 116 (.invokevirtual 220) 3 119 := by decide +kernel
theorem dX2_rounds_119 : eb_dc cX2_rounds 119 (.istore_n 3) 1 120 := by decide +kernel
theorem dX2_rounds_120 : eb_dc cX2_rounds 120 (.iload_n 2) 1 121 := by decide +kernel
theorem dX2_rounds_121 : eb_dc cX2_rounds 121 (.iload_n 1) 1 122 := by decide +kernel
theorem dX2_rounds_122 : eb_dj cX2_rounds 122 (.if_icmp .ne (-54)) (-54) 125 68 := by decide +kernel
theorem dX2_rounds_125 : eb_dc cX2_rounds 125 (.iconst 0) 1 126 := by decide +kernel
theorem dX2_rounds_126 : eb_dc cX2_rounds 126 (.istore 4) 2 128 := by decide +kernel
theorem dX2_rounds_128 : eb_dc cX2_rounds 128 (.iconst 1) 1 129 := by decide +kernel
theorem dX2_rounds_129 : eb_dc cX2_rounds 129 (.istore 5) 2 131 := by decide +kernel
theorem dX2_rounds_131 : eb_dc cX2_rounds 131 (.iload 5) 2 133 := by decide +kernel
theorem dX2_rounds_133 : eb_dc cX2_rounds 133 (.iconst 2) 1 134 := by decide +kernel
theorem dX2_rounds_134 : eb_dc cX2_rounds 134 (.aload_n 0) 1 135 := by decide +kernel
theorem dX2_rounds_135 : eb_dc cX2_rounds 135 (.getfield 217) 3 138 := by decide +kernel
theorem dX2_rounds_138 : eb_dc cX2_rounds 138 (.imul) 1 139 := by decide +kernel
theorem dX2_rounds_139 : eb_dj cX2_rounds 139 (.if_icmp .ge 29) 29 142 168 := by decide +kernel
theorem dX2_rounds_142 : eb_dc cX2_rounds 142 (.aload_n 0) 1 143 := by decide +kernel
theorem dX2_rounds_143 : eb_dc cX2_rounds 143 (.iload 5) 2 145 := by decide +kernel
theorem dX2_rounds_145 : eb_dc cX2_rounds 145 (.iload 4) 2 147 := by decide +kernel
theorem dX2_rounds_147 : eb_dc cX2_rounds 147 (.invokevirtual 229) 3 150 := by decide +kernel
theorem dX2_rounds_150 : eb_dj cX2_rounds 150 (.ifCond .eq 8) 8 153 158 := by decide +kernel
theorem dX2_rounds_153 : eb_dc cX2_rounds 153 (.iload 5) 2 155 := by decide +kernel
theorem dX2_rounds_155 : eb_dj cX2_rounds 155 (.goto 5) 5 158 160 := by decide +kernel
theorem dX2_rounds_158 : eb_dc cX2_rounds 158 (.iload 4) 2 160 := by decide +kernel
theorem dX2_rounds_160 : eb_dc cX2_rounds 160 (.istore 4) 2 162 := by decide +kernel
theorem dX2_rounds_162 : eb_dc cX2_rounds 162 (.iinc 5 1) 3 165 := by decide +kernel
theorem dX2_rounds_165 : eb_dj cX2_rounds 165 (.goto (-34)) (-34) 168 131 := by decide +kernel
theorem dX2_rounds_168 : eb_dc cX2_rounds 168 (.iconst 0) 1 169 := by decide +kernel
theorem dX2_rounds_169 : eb_dc cX2_rounds 169 (.istore 5) 2 171 := by decide +kernel
theorem dX2_rounds_171 : eb_dc cX2_rounds 171 (.iload 5) 2 173 := by decide +kernel
theorem dX2_rounds_173 : eb_dc cX2_rounds 173 (.aload_n 0) 1 174 := by decide +kernel
theorem dX2_rounds_174 : eb_dc cX2_rounds 174 (.getfield 217) 3 177 := by decide +kernel
theorem dX2_rounds_177 : eb_dj cX2_rounds 177 (.if_icmp .ge 27) 27 180 204 := by decide +kernel
theorem dX2_rounds_180 : eb_dc cX2_rounds 180 (.aload_n 0) 1 181 := by decide +kernel
theorem dX2_rounds_181 : eb_dc cX2_rounds 181 (.getfield 86) 3 184 := by decide +kernel
theorem dX2_rounds_184 : eb_dc cX2_rounds 184 (.bipush 32) 2 186 := by decide +kernel
theorem dX2_rounds_186 : eb_dc cX2_rounds 186 (.iload 5) 2 188 := by decide +kernel
theorem dX2_rounds_188 : eb_dc cX2_rounds 188 (.iadd) 1 189 := by decide +kernel
theorem dX2_rounds_189 : eb_dc cX2_rounds 189 (.aload_n 0) 1 190 := by decide +kernel
theorem dX2_rounds_190 : eb_dc cX2_rounds 190 (.iload 4) 2 192 := by decide +kernel
theorem dX2_rounds_192 : eb_dc cX2_rounds 192 (.iload 5) 2 194 := by decide +kernel
theorem dX2_rounds_194 : eb_dc cX2_rounds 194 (.invokevirtual 232) 3 197 := by decide +kernel
theorem dX2_rounds_197 : eb_dc cX2_rounds 197 (.iastore) 1 198 := by decide +kernel
theorem dX2_rounds_198 : eb_dc cX2_rounds 198 (.iinc 5 1) 3 201 := by decide +kernel
theorem dX2_rounds_201 : eb_dj cX2_rounds 201 (.goto (-30)) (-30) 204 171 := by decide +kernel
theorem dX2_rounds_204 : eb_dc cX2_rounds 204 (.iconst 0) 1 205 := by decide +kernel
theorem dX2_rounds_205 : eb_dc cX2_rounds 205 (.istore 5) 2 207 := by decide +kernel
theorem dX2_rounds_207 : eb_dc cX2_rounds 207 (.iload 5) 2 209 := by decide +kernel
theorem dX2_rounds_209 : eb_dc cX2_rounds 209 (.aload_n 0) 1 210 := by decide +kernel
theorem dX2_rounds_210 : eb_dc cX2_rounds 210 (.getfield 217) 3 213 := by decide +kernel
theorem dX2_rounds_213 : eb_dj cX2_rounds 213 (.if_icmp .ge 26) 26 216 239 := by decide +kernel
theorem dX2_rounds_216 : eb_dc cX2_rounds 216 (.aload_n 0) 1 217 := by decide +kernel
theorem dX2_rounds_217 : eb_dc cX2_rounds 217 (.getfield 86) 3 220 := by decide +kernel
theorem dX2_rounds_220 : eb_dc cX2_rounds 220 (.iload 5) 2 222 := by decide +kernel
theorem dX2_rounds_222 : eb_dc cX2_rounds 222 (.aload_n 0) 1 223 := by decide +kernel
theorem dX2_rounds_223 : eb_dc cX2_rounds 223 (.getfield 86) 3 226 := by decide +kernel
theorem dX2_rounds_226 : eb_dc cX2_rounds 226 (.bipush 32) 2 228 := by decide +kernel
theorem dX2_rounds_228 : eb_dc cX2_rounds 228 (.iload 5) 2 230 := by decide +kernel
theorem dX2_rounds_230 : eb_dc cX2_rounds 230 (.iadd) 1 231 := by decide +kernel
theorem dX2_rounds_231 : eb_dc cX2_rounds 231 (.iaload) 1 232 := by decide +kernel
theorem dX2_rounds_232 : eb_dc cX2_rounds 232 (.iastore) 1 233 := by decide +kernel
theorem dX2_rounds_233 : eb_dc cX2_rounds 233 (.iinc 5 1) 3 236 := by decide +kernel
theorem dX2_rounds_236 : eb_dj cX2_rounds 236 (.goto (-29)) (-29) 239 207 := by decide +kernel
theorem dX2_rounds_239 : eb_dc cX2_rounds 239 (.return_) 1 240 := by decide +kernel
theorem ctX2_rounds {l : Launch} {Γ : eb_C} {ad : Nat → Nat} {ix : Nat → Option Nat} {σ : eb_MS} {K : eb_MS → Prop} (hi : ms_inv ad ix) (h : MX2_rounds σ K) : eb_Ct l Γ yX2_rounds cX2_rounds 6 (none) rmX2_rounds [.ref (ad 0)] (ms_st Γ ad ix σ) (em_V Γ ad ix K) := by
  refine eb_of (by decide) (Nat.le_of_ble_eq_true rfl) (fun X P hP _ => ?_)
  show eb_G l Γ P X cX2_rounds RX2 6 (none) rmX2_rounds 0 [(0, .ref (ad 0))] [] (ms_st Γ ad ix σ) 0 0
  refine eg_aload_n 0 dX2_rounds_0 rfl rfl ?_
  refine em_cvv (rest := []) (ctX2_faces hi h) hi (lw_V q1493 q1495 qs61 q77 q1496) rfl nX2_faces ⟨Nat.le_of_ble_eq_true rfl, Nat.le_of_ble_eq_true rfl⟩ ⟨rfl, rfl⟩ ⟨Nat.zero_le _, Nat.zero_le _⟩ rfl rfl (Nat.le_of_ble_eq_true rfl) dX2_rounds_1 (fun g2 h => ?_)
  refine eg_aload_n 0 dX2_rounds_4 rfl rfl ?_
  refine eg_iconst dX2_rounds_5 kc_0 ?_
  refine em_puts 31 rfl q1173 dX2_rounds_6 hi (fun g3 eg3 => ?_)
  replace h := h g3 eg3
  refine eg_iconst dX2_rounds_9 kc_m1 ?_
  refine eg_istore_n (lv' := [(1, .int (-1)), (0, .ref (ad 0))]) dX2_rounds_10 rfl (Nat.le_of_ble_eq_true rfl) rfl ?_
  refine eg_iconst dX2_rounds_11 kc_2 ?_
  refine eg_istore_n (lv' := [(2, .int 2), (1, .int (-1)), (0, .ref (ad 0))]) dX2_rounds_12 rfl (Nat.le_of_ble_eq_true rfl) rfl ?_
  refine eb_jp1_e (J := fun (x1_4 : Int32) => eb_G l Γ P X cX2_rounds RX2 6 (none) rmX2_rounds 53 [(0, .ref (ad 0)), (1, .int x1_4)] [] (ms_st Γ ad ix g3) 0 0) h ?_ ?_
  · intro x1_4 h
    refine eg_iload_n 1 dX2_rounds_53 rfl rfl ?_
    refine eg_iconst dX2_rounds_54 kc_m1 ?_
    refine eg_icmp_ne dX2_rounds_55 (fun c51 => ?_) (fun c51 => ?_)
    · replace h := h.2 c51
      refine eg_iload_n 1 dX2_rounds_59 rfl rfl ?_
      refine eg_istore_n (lv' := [(2, .int x1_4), (0, .ref (ad 0)), (1, .int x1_4)]) dX2_rounds_60 rfl (Nat.le_of_ble_eq_true rfl) rfl ?_
      refine eg_aload_n 1 dX2_rounds_61 rfl rfl ?_
      refine eg_iload_n 0 dX2_rounds_62 rfl rfl ?_
      refine eg_iconst dX2_rounds_63 kc_m1 ?_
      refine em_cvp (rest := []) (ctX2_edgeWith hi h) hi (lw_V q1497 q1499 qs62 q77 q1500) rfl nX2_edgeWith ⟨Nat.le_of_ble_eq_true rfl, Nat.le_of_ble_eq_true rfl⟩ ⟨rfl, rfl⟩ ⟨Nat.zero_le _, Nat.zero_le _⟩ rfl rfl (Nat.le_of_ble_eq_true rfl) dX2_rounds_64 (fun v5 h => ?_)
      refine eg_istore_n (lv' := [(3, .int v5), (2, .int x1_4), (0, .ref (ad 0)), (1, .int x1_4)]) dX2_rounds_67 rfl (Nat.le_of_ble_eq_true rfl) rfl ?_
      refine eb_jp1_e (J := fun (g7 : eb_MS) => eb_G l Γ P X cX2_rounds RX2 6 (none) rmX2_rounds 125 [(0, .ref (ad 0))] [] (ms_st Γ ad ix g7) 0 0) h ?_ ?_
      · intro g7 h
        refine eg_iconst dX2_rounds_125 kc_0 ?_
        refine eg_istore (lv' := [(4, .int 0), (0, .ref (ad 0))]) dX2_rounds_126 (Nat.le_of_ble_eq_true rfl) rfl ?_
        refine eg_iconst dX2_rounds_128 kc_1 ?_
        refine eg_istore (lv' := [(5, .int 1), (4, .int 0), (0, .ref (ad 0))]) dX2_rounds_129 (Nat.le_of_ble_eq_true rfl) rfl ?_
        refine eb_jp1_e (J := fun (x4_8 : Int32) => eb_G l Γ P X cX2_rounds RX2 6 (none) rmX2_rounds 168 [(0, .ref (ad 0)), (4, .int x4_8)] [] (ms_st Γ ad ix g7) 0 0) h ?_ ?_
        · intro x4_8 h
          refine eg_iconst dX2_rounds_168 kc_0 ?_
          refine eg_istore (lv' := [(5, .int 0), (0, .ref (ad 0)), (4, .int x4_8)]) dX2_rounds_169 (Nat.le_of_ble_eq_true rfl) rfl ?_
          refine eb_jp1_e (J := fun (g9 : eb_MS) => eb_G l Γ P X cX2_rounds RX2 6 (none) rmX2_rounds 204 [(0, .ref (ad 0))] [] (ms_st Γ ad ix g9) 0 0) h ?_ ?_
          · intro g9 h
            refine eg_iconst dX2_rounds_204 kc_0 ?_
            refine eg_istore (lv' := [(5, .int 0), (0, .ref (ad 0))]) dX2_rounds_205 (Nat.le_of_ble_eq_true rfl) rfl ?_
            refine eg_sub [1, 0] rfl ?_
            refine eb_loop2_e (J := fun (x5_10 : Int32) (g11 : eb_MS) => eb_G l Γ P X cX2_rounds RX2 6 (none) rmX2_rounds 207 [(0, .ref (ad 0)), (5, .int x5_10)] [] (ms_st Γ ad ix g11) 0 0) h ?_
            intro r12 hr12 x5_10 g11 h
            refine eg_iload 1 dX2_rounds_207 rfl ?_
            refine eg_aload_n 0 dX2_rounds_209 rfl rfl ?_
            refine em_gets 31 rfl q1173 dX2_rounds_210 hi ?_
            refine eg_icmp_ge dX2_rounds_213 (fun c15 => ?_) (fun c15 => ?_)
            · replace h := h.1 c15
              exact eg_vret dX2_rounds_239 (Nat.zero_le _) (Nat.zero_le _) (hP _ _ ⟨_, rfl, rfl, h⟩)
            · replace h := h.2 c15
              refine eg_aload_n 0 dX2_rounds_216 rfl rfl ?_
              refine em_geta 30 rfl q1172 dX2_rounds_217 hi ?_
              refine eg_iload 1 dX2_rounds_220 rfl ?_
              refine eg_aload_n 0 dX2_rounds_222 rfl rfl ?_
              refine em_geta 30 rfl q1172 dX2_rounds_223 hi ?_
              refine eg_bipush dX2_rounds_226 kb_32 ?_
              refine eg_iload 1 dX2_rounds_228 rfl ?_
              refine eg_iadd dX2_rounds_230 ?_
              obtain ⟨hb, h⟩ := h
              refine em_iald 30 rfl hb dX2_rounds_231 hi (fun v13 ev13 => ?_)
              replace h := h v13 ev13
              obtain ⟨hb, h⟩ := h
              refine em_iast 30 rfl hb dX2_rounds_232 hi (fun g14 eg14 => ?_)
              replace h := h g14 eg14
              refine eg_iinc (j := 1) (lv' := [(5, .int (x5_10 + 1)), (0, .ref (ad 0))]) dX2_rounds_233 rfl (by rw [kc_1]) (Nat.le_of_ble_eq_true rfl) rfl ?_
              refine eg_goto dX2_rounds_236 ?_
              exact eg_sub [1, 0] rfl (hr12 (x5_10 + 1) g14 h)
          · intro k16 hk16 h
            refine eg_sub [1, 2, 0] rfl ?_
            refine eb_loop2_e (J := fun (x5_17 : Int32) (g18 : eb_MS) => eb_G l Γ P X cX2_rounds RX2 6 (none) rmX2_rounds 171 [(0, .ref (ad 0)), (4, .int x4_8), (5, .int x5_17)] [] (ms_st Γ ad ix g18) 0 0) h ?_
            intro r19 hr19 x5_17 g18 h
            refine eg_iload 2 dX2_rounds_171 rfl ?_
            refine eg_aload_n 0 dX2_rounds_173 rfl rfl ?_
            refine em_gets 31 rfl q1173 dX2_rounds_174 hi ?_
            refine eg_icmp_ge dX2_rounds_177 (fun c23 => ?_) (fun c23 => ?_)
            · replace h := h.1 c23
              exact eg_sub [0] rfl (hk16 g18 h)
            · replace h := h.2 c23
              refine eg_aload_n 0 dX2_rounds_180 rfl rfl ?_
              refine em_geta 30 rfl q1172 dX2_rounds_181 hi ?_
              refine eg_bipush dX2_rounds_184 kb_32 ?_
              refine eg_iload 2 dX2_rounds_186 rfl ?_
              refine eg_iadd dX2_rounds_188 ?_
              refine eg_aload_n 0 dX2_rounds_189 rfl rfl ?_
              refine eg_iload 1 dX2_rounds_190 rfl ?_
              refine eg_iload 2 dX2_rounds_192 rfl ?_
              refine em_cvp (rest := [.int (32 + x5_17), .ref (ad 30)]) (ctX2_told hi h) hi (lw_V q1513 q1515 qs66 q77 q1516) rfl nX2_told ⟨Nat.le_of_ble_eq_true rfl, Nat.le_of_ble_eq_true rfl⟩ ⟨rfl, rfl⟩ ⟨Nat.zero_le _, Nat.zero_le _⟩ rfl rfl (Nat.le_of_ble_eq_true rfl) dX2_rounds_194 (fun v20 h => ?_)
              obtain ⟨hb, h⟩ := h
              refine em_iast 30 rfl hb dX2_rounds_197 hi (fun g22 eg22 => ?_)
              replace h := h g22 eg22
              refine eg_iinc (j := 2) (lv' := [(5, .int (x5_17 + 1)), (0, .ref (ad 0)), (4, .int x4_8)]) dX2_rounds_198 rfl (by rw [kc_1]) (Nat.le_of_ble_eq_true rfl) rfl ?_
              refine eg_goto dX2_rounds_201 ?_
              exact eg_sub [1, 2, 0] rfl (hr19 (x5_17 + 1) g22 h)
        · intro k24 hk24 h
          refine eg_sub [2, 1, 0] rfl ?_
          refine eb_loop2_e (J := fun (x4_25 : Int32) (x5_26 : Int32) => eb_G l Γ P X cX2_rounds RX2 6 (none) rmX2_rounds 131 [(0, .ref (ad 0)), (4, .int x4_25), (5, .int x5_26)] [] (ms_st Γ ad ix g7) 0 0) h ?_
          intro r27 hr27 x4_25 x5_26 h
          refine eg_iload 2 dX2_rounds_131 rfl ?_
          refine eg_iconst dX2_rounds_133 kc_2 ?_
          refine eg_aload_n 0 dX2_rounds_134 rfl rfl ?_
          refine em_gets 31 rfl q1173 dX2_rounds_135 hi ?_
          refine eg_imul dX2_rounds_138 ?_
          refine eg_icmp_ge dX2_rounds_139 (fun c33 => ?_) (fun c33 => ?_)
          · replace h := h.1 c33
            exact eg_sub [0, 1] rfl (hk24 x4_25 h)
          · replace h := h.2 c33
            refine eg_aload_n 0 dX2_rounds_142 rfl rfl ?_
            refine eg_iload 2 dX2_rounds_143 rfl ?_
            refine eg_iload 1 dX2_rounds_145 rfl ?_
            refine em_cvp (rest := []) (ctX2_isLess hi h) hi (lw_V q1509 q1511 qs65 q77 q1512) rfl nX2_isLess ⟨Nat.le_of_ble_eq_true rfl, Nat.le_of_ble_eq_true rfl⟩ ⟨rfl, rfl⟩ ⟨Nat.zero_le _, Nat.zero_le _⟩ rfl rfl (Nat.le_of_ble_eq_true rfl) dX2_rounds_147 (fun v28 h => ?_)
            refine eb_jp1_e (J := fun (s30 : Int32) => eb_G l Γ P X cX2_rounds RX2 6 (none) rmX2_rounds 160 [(0, .ref (ad 0)), (5, .int x5_26)] [.int s30] (ms_st Γ ad ix g7) 0 0) h ?_ ?_
            · intro s30 h
              refine eg_istore (lv' := [(4, .int s30), (0, .ref (ad 0)), (5, .int x5_26)]) dX2_rounds_160 (Nat.le_of_ble_eq_true rfl) rfl ?_
              refine eg_iinc (j := 2) (lv' := [(5, .int (x5_26 + 1)), (4, .int s30), (0, .ref (ad 0))]) dX2_rounds_162 rfl (by rw [kc_1]) (Nat.le_of_ble_eq_true rfl) rfl ?_
              refine eg_goto dX2_rounds_165 ?_
              exact eg_sub [2, 1, 0] rfl (hr27 s30 (x5_26 + 1) h)
            · intro k31 hk31 h
              refine eg_if_eq dX2_rounds_150 (fun c32 => ?_) (fun c32 => ?_)
              · replace h := h.1 c32
                refine eg_iload 1 dX2_rounds_158 rfl ?_
                exact eg_sub [0, 2] rfl (hk31 x4_25 h)
              · replace h := h.2 c32
                refine eg_iload 2 dX2_rounds_153 rfl ?_
                refine eg_goto dX2_rounds_155 ?_
                exact eg_sub [0, 2] rfl (hk31 x5_26 h)
      · intro k34 hk34 h
        refine eg_sub [2, 3, 1, 0] rfl ?_
        refine eb_loop3_e (J := fun (x2_35 : Int32) (x3_36 : Int32) (g37 : eb_MS) => eb_G l Γ P X cX2_rounds RX2 6 (none) rmX2_rounds 68 [(0, .ref (ad 0)), (1, .int x1_4), (2, .int x2_35), (3, .int x3_36)] [] (ms_st Γ ad ix g37) 0 0) h ?_
        intro r38 hr38 x2_35 x3_36 g37 h
        refine eg_aload_n 0 dX2_rounds_68 rfl rfl ?_
        refine em_geta 30 rfl q1172 dX2_rounds_69 hi ?_
        refine eg_aload_n 0 dX2_rounds_72 rfl rfl ?_
        refine em_gets 31 rfl q1173 dX2_rounds_73 hi ?_
        refine eg_aload_n 0 dX2_rounds_76 rfl rfl ?_
        refine eg_iload_n 2 dX2_rounds_77 rfl rfl ?_
        refine em_cvi (rest := [.int (g37.1 31), .ref (ad 30)]) (ctX2_faceSize hi h) hi (lw_V q1501 q1503 qs63 q77 q1504) rfl nX2_faceSize ⟨Nat.le_of_ble_eq_true rfl, Nat.le_of_ble_eq_true rfl⟩ ⟨rfl, rfl⟩ ⟨Nat.zero_le _, Nat.zero_le _⟩ rfl rfl (Nat.le_of_ble_eq_true rfl) dX2_rounds_78 (fun v39 g40 h => ?_)
        obtain ⟨hb, h⟩ := h
        refine em_iast 30 rfl hb dX2_rounds_81 hi (fun g41 eg41 => ?_)
        replace h := h g41 eg41
        refine eg_aload_n 0 dX2_rounds_82 rfl rfl ?_
        refine eg_dup dX2_rounds_83 rfl ?_
        refine em_gets 31 rfl q1173 dX2_rounds_84 hi ?_
        refine eg_iconst dX2_rounds_87 kc_1 ?_
        refine eg_iadd dX2_rounds_88 ?_
        refine em_puts 31 rfl q1173 dX2_rounds_89 hi (fun g42 eg42 => ?_)
        replace h := h g42 eg42
        refine eg_aload_n 0 dX2_rounds_92 rfl rfl ?_
        refine eg_iload_n 3 dX2_rounds_93 rfl rfl ?_
        refine eg_iload_n 2 dX2_rounds_94 rfl rfl ?_
        refine em_cvp (rest := []) (ctX2_faceWith hi h) hi (lw_V q1505 q1507 qs64 q77 q1508) rfl nX2_faceWith ⟨Nat.le_of_ble_eq_true rfl, Nat.le_of_ble_eq_true rfl⟩ ⟨rfl, rfl⟩ ⟨Nat.zero_le _, Nat.zero_le _⟩ rfl rfl (Nat.le_of_ble_eq_true rfl) dX2_rounds_95 (fun v43 h => ?_)
        refine eg_istore (lv' := [(4, .int v43), (0, .ref (ad 0)), (1, .int x1_4), (2, .int x2_35), (3, .int x3_36)]) dX2_rounds_98 (Nat.le_of_ble_eq_true rfl) rfl ?_
        refine eg_iload 0 dX2_rounds_100 rfl ?_
        refine eg_iconst dX2_rounds_102 kc_m1 ?_
        refine eb_jp1_e (J := fun (s45 : Int32) => eb_G l Γ P X cX2_rounds RX2 6 (none) rmX2_rounds 112 [(0, .ref (ad 0)), (1, .int x1_4), (3, .int x3_36)] [.int s45] (ms_st Γ ad ix g42) 0 0) h ?_ ?_
        · intro s45 h
          refine eg_istore_n (lv' := [(2, .int s45), (0, .ref (ad 0)), (1, .int x1_4), (3, .int x3_36)]) dX2_rounds_112 rfl (Nat.le_of_ble_eq_true rfl) rfl ?_
          refine eg_aload_n 1 dX2_rounds_113 rfl rfl ?_
          refine eg_iload_n 0 dX2_rounds_114 rfl rfl ?_
          refine eg_iload_n 3 dX2_rounds_115 rfl rfl ?_
          refine em_cvp (rest := []) (ctX2_edgeWith hi h) hi (lw_V q1497 q1499 qs62 q77 q1500) rfl nX2_edgeWith ⟨Nat.le_of_ble_eq_true rfl, Nat.le_of_ble_eq_true rfl⟩ ⟨rfl, rfl⟩ ⟨Nat.zero_le _, Nat.zero_le _⟩ rfl rfl (Nat.le_of_ble_eq_true rfl) dX2_rounds_116 (fun v46 h => ?_)
          refine eg_istore_n (lv' := [(3, .int v46), (2, .int s45), (0, .ref (ad 0)), (1, .int x1_4)]) dX2_rounds_119 rfl (Nat.le_of_ble_eq_true rfl) rfl ?_
          refine eg_iload_n 1 dX2_rounds_120 rfl rfl ?_
          refine eg_iload_n 3 dX2_rounds_121 rfl rfl ?_
          refine eg_icmp_ne dX2_rounds_122 (fun c48 => ?_) (fun c48 => ?_)
          · replace h := h.2 c48
            exact eg_sub [2, 3, 1, 0] rfl (hr38 s45 v46 g42 h)
          · replace h := h.1 c48
            exact eg_sub [2] rfl (hk34 g42 h)
        · intro k49 hk49 h
          refine eg_icmp_ne dX2_rounds_103 (fun c50 => ?_) (fun c50 => ?_)
          · replace h := h.2 c50
            refine eg_iload 0 dX2_rounds_110 rfl ?_
            exact eg_sub [1, 2, 4] rfl (hk49 v43 h)
          · replace h := h.1 c50
            refine eg_iload_n 2 dX2_rounds_106 rfl rfl ?_
            refine eg_goto dX2_rounds_107 ?_
            exact eg_sub [1, 2, 4] rfl (hk49 x1_4 h)
    · replace h := h.1 c51
      exact eg_vret dX2_rounds_58 (Nat.zero_le _) (Nat.zero_le _) (hP _ _ ⟨_, rfl, rfl, h⟩)
  · intro k52 hk52 h
    refine eg_sub [2, 1, 0] rfl ?_
    refine eb_loop2_e (J := fun (x1_53 : Int32) (x2_54 : Int32) => eb_G l Γ P X cX2_rounds RX2 6 (none) rmX2_rounds 13 [(0, .ref (ad 0)), (1, .int x1_53), (2, .int x2_54)] [] (ms_st Γ ad ix g3) 0 0) h ?_
    intro r55 hr55 x1_53 x2_54 h
    refine eg_iload_n 2 dX2_rounds_13 rfl rfl ?_
    refine eg_if_lt dX2_rounds_14 (fun c61 => ?_) (fun c61 => ?_)
    · replace h := h.1 c61
      exact eg_sub [0, 1] rfl (hk52 x1_53 h)
    · replace h := h.2 c61
      refine eg_aload_n 0 dX2_rounds_17 rfl rfl ?_
      refine em_geta 29 rfl q1171 dX2_rounds_18 hi ?_
      refine eg_iload_n 2 dX2_rounds_21 rfl rfl ?_
      obtain ⟨hb, h⟩ := h
      refine em_iald 29 rfl hb dX2_rounds_22 hi (fun v56 ev56 => ?_)
      replace h := h v56 ev56
      refine eb_jp1_e (J := fun (s57 : Int32) => eb_G l Γ P X cX2_rounds RX2 6 (none) rmX2_rounds 46 [(0, .ref (ad 0)), (2, .int x2_54)] [.int s57] (ms_st Γ ad ix g3) 0 0) h ?_ ?_
      · intro s57 h
        refine eg_istore_n (lv' := [(1, .int s57), (0, .ref (ad 0)), (2, .int x2_54)]) dX2_rounds_46 rfl (Nat.le_of_ble_eq_true rfl) rfl ?_
        refine eg_iinc (j := 2) (lv' := [(2, .int (x2_54 + (-1))), (1, .int s57), (0, .ref (ad 0))]) dX2_rounds_47 rfl (by rw [kc_m1]) (Nat.le_of_ble_eq_true rfl) rfl ?_
        refine eg_goto dX2_rounds_50 ?_
        exact eg_sub [2, 1, 0] rfl (hr55 s57 ((x2_54 + (-1))) h)
      · intro k58 hk58 h
        refine eg_if_le dX2_rounds_23 (fun c60 => ?_) (fun c60 => ?_)
        · replace h := h.1 c60
          refine eg_iload_n 1 dX2_rounds_45 rfl rfl ?_
          exact eg_sub [0, 2] rfl (hk58 x1_53 h)
        · replace h := h.2 c60
          refine eg_sipush dX2_rounds_26 ks_500 ?_
          refine eg_iload_n 2 dX2_rounds_29 rfl rfl ?_
          refine eg_imul dX2_rounds_30 ?_
          refine eg_aload_n 0 dX2_rounds_31 rfl rfl ?_
          refine em_geta 28 rfl q1170 dX2_rounds_32 hi ?_
          refine eg_sipush dX2_rounds_35 ks_500 ?_
          refine eg_iload_n 2 dX2_rounds_38 rfl rfl ?_
          refine eg_imul dX2_rounds_39 ?_
          obtain ⟨hb, h⟩ := h
          refine em_iald 28 rfl hb dX2_rounds_40 hi (fun v59 ev59 => ?_)
          replace h := h v59 ev59
          refine eg_iadd dX2_rounds_41 ?_
          refine eg_goto dX2_rounds_42 ?_
          exact eg_sub [0, 2] rfl (hk58 (((500 * x2_54) + v59)) h)
def MX2_round (σ : eb_MS) (a1 : Int32) (a2 : Int32) (K : Int32 → eb_MS → Prop) : Prop :=
  ms_ws σ 0 0 (fun g1 => eb_br ((-1) ≤ a2) (MX2_refusesThree g1 a1 (fun v2 g3 => eb_br (0 ≤ v2) (MX2_rounds g3  (fun g5 => eb_br (a2 = (-1)) (K (g5.1 31) g5) (eb_br ((g5.1 31) ≤ a2) (K (-1) g5) (eb_rd (g5.2.1 30) 64 a2 (fun v6 => K v6 g5))))) (K v2 g3))) (K (-2) g1))
abbrev rmX2_round : Room := { frames := 7, cells := 0, slots := 0, locals := 165 }
theorem nX2_round : eb_ar yX2_round 2 := by decide +kernel
theorem dX2_round_0 : eb_dc cX2_round 0 (.aload_n 0) 1 1 := by decide +kernel
theorem dX2_round_1 : eb_dc cX2_round 1 (.iconst 0) 1 2 := by decide +kernel
theorem dX2_round_2 : eb_dc cX2_round 2 (.putfield 106) 3 5 := by decide +kernel
theorem dX2_round_5 : eb_dc cX2_round 5 (.iload_n 2) 1 6 := by decide +kernel
theorem dX2_round_6 : eb_dc cX2_round 6 (.iconst (-1)) 1 7 := by decide +kernel
theorem dX2_round_7 : eb_dj cX2_round 7 (.if_icmp .ge 6) 6 10 13 := by decide +kernel
theorem dX2_round_10 : eb_dc cX2_round 10 (.bipush (-2)) 2 12 := by decide +kernel
theorem dX2_round_12 : eb_dc cX2_round 12 (.ireturn) 1 13 := by decide +kernel
theorem dX2_round_13 : eb_dc cX2_round 13 (.aload_n 0) 1 14 := by decide +kernel
theorem dX2_round_14 : eb_dc cX2_round 14 (.iload_n 1) 1 15 := by decide +kernel
theorem dX2_round_15 : eb_dc cX2_round 15 (.invokevirtual 235) 3 18 := by decide +kernel
theorem dX2_round_18 : eb_dc cX2_round 18 (.istore_n 3) 1 19 := by decide +kernel
theorem dX2_round_19 : eb_dc cX2_round 19 (.iload_n 3) 1 20 := by decide +kernel
theorem dX2_round_20 : eb_dj cX2_round 20 (.ifCond .ge 5) 5 23 25 := by decide +kernel
theorem dX2_round_23 : eb_dc cX2_round 23 (.iload_n 3) 1 24 := by decide +kernel
theorem dX2_round_24 : eb_dc cX2_round 24 (.ireturn) 1 25 := by decide +kernel
theorem dX2_round_25 : eb_dc cX2_round 25 (.aload_n 0) 1 26 := by decide +kernel
theorem dX2_round_26 : eb_dc cX2_round 26 (.invokevirtual 238) 3 29 := by decide +kernel
theorem dX2_round_29 : eb_dc cX2_round 29 (.iload_n 2) 1 30 := by decide +kernel
theorem dX2_round_30 : eb_dc cX2_round 30 (.iconst (-1)) 1 31 := by decide +kernel
theorem dX2_round_31 : eb_dj cX2_round 31 (.if_icmp .ne 10) 10 34 41 := by decide +kernel
theorem dX2_round_34 : eb_dc cX2_round 34 (.aload_n 0) 1 35 := by decide +kernel
theorem dX2_round_35 : eb_dc cX2_round 35 (.getfield 217) 3 38 := by decide +kernel
theorem dX2_round_38 : eb_dj cX2_round 38 (.goto 21) 21 41 59 := by decide +kernel
theorem dX2_round_41 : eb_dc cX2_round 41 (.iload_n 2) 1 42 := by decide +kernel
theorem dX2_round_42 : eb_dc cX2_round 42 (.aload_n 0) 1 43 := by decide +kernel
theorem dX2_round_43 : eb_dc cX2_round 43 (.getfield 217) 3 46 := by decide +kernel
theorem dX2_round_46 : eb_dj cX2_round 46 (.if_icmp .ge 12) 12 49 58 := by decide +kernel
theorem dX2_round_49 : eb_dc cX2_round 49 (.aload_n 0) 1 50 := by decide +kernel
theorem dX2_round_50 : eb_dc cX2_round 50 (.getfield 86) 3 53 := by decide +kernel
theorem dX2_round_53 : eb_dc cX2_round 53 (.iload_n 2) 1 54 := by decide +kernel
theorem dX2_round_54 : eb_dc cX2_round 54 (.iaload) 1 55 := by decide +kernel
theorem dX2_round_55 : eb_dj cX2_round 55 (.goto 4) 4 58 59 := by decide +kernel
theorem dX2_round_58 : eb_dc cX2_round 58 (.iconst (-1)) 1 59 := by decide +kernel
theorem dX2_round_59 : eb_dc cX2_round 59 (.ireturn) 1 60 := by decide +kernel
theorem ctX2_round {l : Launch} {Γ : eb_C} {ad : Nat → Nat} {ix : Nat → Option Nat} {σ : eb_MS} {a1 : Int32} {a2 : Int32} {K : Int32 → eb_MS → Prop} (hi : ms_inv ad ix) (h : MX2_round σ a1 a2 K) : eb_Ct l Γ yX2_round cX2_round 4 (some .int) rmX2_round [.ref (ad 0), .int a1, .int a2] (ms_st Γ ad ix σ) (em_I Γ ad ix K) := by
  refine eb_of (by decide) (Nat.le_of_ble_eq_true rfl) (fun X P hP _ => ?_)
  show eb_G l Γ P X cX2_round RX2 4 (some .int) rmX2_round 0 [(0, .ref (ad 0)), (1, .int a1), (2, .int a2)] [] (ms_st Γ ad ix σ) 0 0
  refine eg_aload_n 0 dX2_round_0 rfl rfl ?_
  refine eg_iconst dX2_round_1 kc_0 ?_
  refine em_puts 0 rfl q1142 dX2_round_2 hi (fun g1 eg1 => ?_)
  replace h := h g1 eg1
  refine eg_iload_n 2 dX2_round_5 rfl rfl ?_
  refine eg_iconst dX2_round_6 kc_m1 ?_
  refine eg_icmp_ge dX2_round_7 (fun c10 => ?_) (fun c10 => ?_)
  · replace h := h.1 c10
    refine eg_aload_n 0 dX2_round_13 rfl rfl ?_
    refine eg_iload_n 1 dX2_round_14 rfl rfl ?_
    refine em_cvi (rest := []) (ctX2_refusesThree hi h) hi (lw_V q1485 q1487 qs59 q77 q1488) rfl nX2_refusesThree ⟨Nat.le_of_ble_eq_true rfl, Nat.le_of_ble_eq_true rfl⟩ ⟨rfl, rfl⟩ ⟨Nat.zero_le _, Nat.zero_le _⟩ rfl rfl (Nat.le_of_ble_eq_true rfl) dX2_round_15 (fun v2 g3 h => ?_)
    refine eg_istore_n (lv' := [(3, .int v2), (0, .ref (ad 0)), (1, .int a1), (2, .int a2)]) dX2_round_18 rfl (Nat.le_of_ble_eq_true rfl) rfl ?_
    refine eg_iload_n 0 dX2_round_19 rfl rfl ?_
    refine eg_if_ge dX2_round_20 (fun c9 => ?_) (fun c9 => ?_)
    · replace h := h.1 c9
      refine eg_aload_n 1 dX2_round_25 rfl rfl ?_
      refine em_cvv (rest := []) (ctX2_rounds hi h) hi (lw_V q1489 q1491 qs60 q77 q1492) rfl nX2_rounds ⟨Nat.le_of_ble_eq_true rfl, Nat.le_of_ble_eq_true rfl⟩ ⟨rfl, rfl⟩ ⟨Nat.zero_le _, Nat.zero_le _⟩ rfl rfl (Nat.le_of_ble_eq_true rfl) dX2_round_26 (fun g5 h => ?_)
      refine eg_iload_n 3 dX2_round_29 rfl rfl ?_
      refine eg_iconst dX2_round_30 kc_m1 ?_
      refine eg_icmp_ne dX2_round_31 (fun c8 => ?_) (fun c8 => ?_)
      · replace h := h.2 c8
        refine eg_iload_n 3 dX2_round_41 rfl rfl ?_
        refine eg_aload_n 1 dX2_round_42 rfl rfl ?_
        refine em_gets 31 rfl q1173 dX2_round_43 hi ?_
        refine eg_icmp_ge dX2_round_46 (fun c7 => ?_) (fun c7 => ?_)
        · replace h := h.1 c7
          refine eg_iconst dX2_round_58 kc_m1 ?_
          exact eg_iret dX2_round_59 (Nat.zero_le _) (Nat.zero_le _) (hP _ _ ⟨_, _, rfl, rfl, h⟩)
        · replace h := h.2 c7
          refine eg_aload_n 1 dX2_round_49 rfl rfl ?_
          refine em_geta 30 rfl q1172 dX2_round_50 hi ?_
          refine eg_iload_n 3 dX2_round_53 rfl rfl ?_
          obtain ⟨hb, h⟩ := h
          refine em_iald 30 rfl hb dX2_round_54 hi (fun v6 ev6 => ?_)
          replace h := h v6 ev6
          refine eg_goto dX2_round_55 ?_
          exact eg_iret dX2_round_59 (Nat.zero_le _) (Nat.zero_le _) (hP _ _ ⟨_, _, rfl, rfl, h⟩)
      · replace h := h.1 c8
        refine eg_aload_n 1 dX2_round_34 rfl rfl ?_
        refine em_gets 31 rfl q1173 dX2_round_35 hi ?_
        refine eg_goto dX2_round_38 ?_
        exact eg_iret dX2_round_59 (Nat.zero_le _) (Nat.zero_le _) (hP _ _ ⟨_, _, rfl, rfl, h⟩)
    · replace h := h.2 c9
      refine eg_iload_n 0 dX2_round_23 rfl rfl ?_
      exact eg_iret dX2_round_24 (Nat.zero_le _) (Nat.zero_le _) (hP _ _ ⟨_, _, rfl, rfl, h⟩)
  · replace h := h.2 c10
    refine eg_bipush dX2_round_10 kb_m2 ?_
    exact eg_iret dX2_round_12 (Nat.zero_le _) (Nat.zero_le _) (hP _ _ ⟨_, _, rfl, rfl, h⟩)
def MX2_signs (σ : eb_MS) (a1 : Int32) (K : eb_MS → Prop) : Prop :=
  MX2_rounds σ  (fun g2 => eb_jp1 (fun (g3 : eb_MS) => MX2_countOf g3 0 (fun v4 g5 => ms_wr g5 32 210 a1 v4 (fun g6 => MX2_countOf g6 1 (fun v7 g8 => ms_wr g8 32 210 (a1 + 1) v7 (fun g9 => MX2_countOf g9 2 (fun v10 g11 => ms_wr g11 32 210 (a1 + 2) v10 (fun g12 => MX2_isKind g12 (g12.1 5) 7 (fun v13 => eb_jp1 (fun (s15 : Int32) => ms_wr g12 32 210 (a1 + 3) s15 (fun g16 => K g16)) (fun k17 => eb_br (v13 = 0) (k17 0) (k17 1)))))))))) (fun k19 => eb_loop2 (fun r22 (x2_20 : Int32) (g21 : eb_MS) => eb_br (30 ≤ x2_20) (k19 g21) (eb_jp1 (fun (s23 : Int32) => ms_wr g21 32 210 (a1 + x2_20) s23 (fun g24 => r22 (x2_20 + 1) g24)) (fun k25 => eb_br (4 ≤ x2_20) (eb_br ((g21.1 31) ≤ (x2_20 - 4)) (k25 0) (eb_rd (g21.2.1 30) 64 (x2_20 - 4) (fun v26 => k25 v26))) (k25 0)))) 0 g2))
abbrev rmX2_signs : Room := { frames := 7, cells := 0, slots := 0, locals := 159 }
theorem nX2_signs : eb_ar yX2_signs 1 := by decide +kernel
theorem dX2_signs_0 : eb_dc cX2_signs 0 (.aload_n 0) 1 1 := by decide +kernel
theorem dX2_signs_1 : eb_dc cX2_signs 1 (.invokevirtual 238) 3 4 := by decide +kernel
theorem dX2_signs_4 : eb_dc cX2_signs 4 (.iconst 0) 1 5 := by decide +kernel
theorem dX2_signs_5 : eb_dc cX2_signs 5 (.istore_n 2) 1 6 := by decide +kernel
theorem dX2_signs_6 : eb_dc cX2_signs 6 (.iload_n 2) 1 7 := by decide +kernel
theorem dX2_signs_7 : eb_dc cX2_signs 7 (.bipush 30) 2 9 := by decide +kernel
theorem dX2_signs_9 : eb_dj cX2_signs 9 (.if_icmp .ge 48) 48 12 57 := by decide +kernel
theorem dX2_signs_12 : eb_dc cX2_signs 12 (.aload_n 0) 1 13 := by decide +kernel
theorem dX2_signs_13 : eb_dc cX2_signs 13 (.getfield 89) 3 16 := by decide +kernel
theorem dX2_signs_16 : eb_dc cX2_signs 16 (.iload_n 1) 1 17 := by decide +kernel
theorem dX2_signs_17 : eb_dc cX2_signs 17 (.iload_n 2) 1 18 := by decide +kernel
theorem dX2_signs_18 : eb_dc cX2_signs 18 (.iadd) 1 19 := by decide +kernel
theorem dX2_signs_19 : eb_dc cX2_signs 19 (.iload_n 2) 1 20 := by decide +kernel
theorem dX2_signs_20 : eb_dc cX2_signs 20 (.iconst 4) 1 21 := by decide +kernel
theorem dX2_signs_21 : eb_dj cX2_signs 21 (.if_icmp .ge 7) 7 24 28 := by decide +kernel
theorem dX2_signs_24 : eb_dc cX2_signs 24 (.iconst 0) 1 25 := by decide +kernel
theorem dX2_signs_25 : eb_dj cX2_signs 25 (.goto 25) 25 28 50 := by decide +kernel
theorem dX2_signs_28 : eb_dc cX2_signs 28 (.iload_n 2) 1 29 := by decide +kernel
theorem dX2_signs_29 : eb_dc cX2_signs 29 (.iconst 4) 1 30 := by decide +kernel
theorem dX2_signs_30 : eb_dc cX2_signs 30 (.isub) 1 31 := by decide +kernel
theorem dX2_signs_31 : eb_dc cX2_signs 31 (.aload_n 0) 1 32 := by decide +kernel
theorem dX2_signs_32 : eb_dc cX2_signs 32 (.getfield 217) 3 35 := by decide +kernel
theorem dX2_signs_35 : eb_dj cX2_signs 35 (.if_icmp .ge 14) 14 38 49 := by decide +kernel
theorem dX2_signs_38 : eb_dc cX2_signs 38 (.aload_n 0) 1 39 := by decide +kernel
theorem dX2_signs_39 : eb_dc cX2_signs 39 (.getfield 86) 3 42 := by decide +kernel
theorem dX2_signs_42 : eb_dc cX2_signs 42 (.iload_n 2) 1 43 := by decide +kernel
theorem dX2_signs_43 : eb_dc cX2_signs 43 (.iconst 4) 1 44 := by decide +kernel
theorem dX2_signs_44 : eb_dc cX2_signs 44 (.isub) 1 45 := by decide +kernel
theorem dX2_signs_45 : eb_dc cX2_signs 45 (.iaload) 1 46 := by decide +kernel
theorem dX2_signs_46 : eb_dj cX2_signs 46 (.goto 4) 4 49 50 := by decide +kernel
theorem dX2_signs_49 : eb_dc cX2_signs 49 (.iconst 0) 1 50 := by decide +kernel
theorem dX2_signs_50 : eb_dc cX2_signs 50 (.iastore) 1 51 := by decide +kernel
theorem dX2_signs_51 : eb_dc cX2_signs 51 (.iinc 2 1) 3 54 := by decide +kernel
theorem dX2_signs_54 : eb_dj cX2_signs 54 (.goto (-48)) (-48) 57 6 := by decide +kernel
theorem dX2_signs_57 : eb_dc cX2_signs 57 (.aload_n 0) 1 58 := by decide +kernel
theorem dX2_signs_58 : eb_dc cX2_signs 58 (.getfield 89) 3 61 := by decide +kernel
theorem dX2_signs_61 : eb_dc cX2_signs 61 (.iload_n 1) 1 62 := by decide +kernel
theorem dX2_signs_62 : eb_dc cX2_signs 62 (.aload_n 0) 1 63 := by decide +kernel
theorem dX2_signs_63 : eb_dc cX2_signs 63 (.iconst 0) 1 64 := by decide +kernel
theorem dX2_signs_64 : eb_dc cX2_signs 64 (.invokevirtual 200) 3 67 := by decide +kernel
theorem dX2_signs_67 : eb_dc cX2_signs 67 (.iastore) 1 68 := by decide +kernel
theorem dX2_signs_68 : eb_dc cX2_signs 68 (.aload_n 0) 1 69 := by decide +kernel
theorem dX2_signs_69 : eb_dc cX2_signs 69 (.getfield 89) 3 72 := by decide +kernel
theorem dX2_signs_72 : eb_dc cX2_signs 72 (.iload_n 1) 1 73 := by decide +kernel
theorem dX2_signs_73 : eb_dc cX2_signs 73 (.iconst 1) 1 74 := by decide +kernel
theorem dX2_signs_74 : eb_dc cX2_signs 74 (.iadd) 1 75 := by decide +kernel
theorem dX2_signs_75 : eb_dc cX2_signs 75 (.aload_n 0) 1 76 := by decide +kernel
theorem dX2_signs_76 : eb_dc cX2_signs 76 (.iconst 1) 1 77 := by decide +kernel
theorem dX2_signs_77 : eb_dc cX2_signs 77 (.invokevirtual 200) 3 80 := by decide +kernel
theorem dX2_signs_80 : eb_dc cX2_signs 80 (.iastore) 1 81 := by decide +kernel
theorem dX2_signs_81 : eb_dc cX2_signs 81 (.aload_n 0) 1 82 := by decide +kernel
theorem dX2_signs_82 : eb_dc cX2_signs 82 (.getfield 89) 3 85 := by decide +kernel
theorem dX2_signs_85 : eb_dc cX2_signs 85 (.iload_n 1) 1 86 := by decide +kernel
theorem dX2_signs_86 : eb_dc cX2_signs 86 (.iconst 2) 1 87 := by decide +kernel
theorem dX2_signs_87 : eb_dc cX2_signs 87 (.iadd) 1 88 := by decide +kernel
theorem dX2_signs_88 : eb_dc cX2_signs 88 (.aload_n 0) 1 89 := by decide +kernel
theorem dX2_signs_89 : eb_dc cX2_signs 89 (.iconst 2) 1 90 := by decide +kernel
theorem dX2_signs_90 : eb_dc cX2_signs 90 (.invokevirtual 200) 3 93 := by decide +kernel
theorem dX2_signs_93 : eb_dc cX2_signs 93 (.iastore) 1 94 := by decide +kernel
theorem dX2_signs_94 : eb_dc cX2_signs 94 (.aload_n 0) 1 95 := by decide +kernel
theorem dX2_signs_95 : eb_dc cX2_signs 95 (.getfield 89) 3 98 := by decide +kernel
theorem dX2_signs_98 : eb_dc cX2_signs 98 (.iload_n 1) 1 99 := by decide +kernel
theorem dX2_signs_99 : eb_dc cX2_signs 99 (.iconst 3) 1 100 := by decide +kernel
theorem dX2_signs_100 : eb_dc cX2_signs 100 (.iadd) 1 101 := by decide +kernel
theorem dX2_signs_101 : eb_dc cX2_signs 101 (.aload_n 0) 1 102 := by decide +kernel
theorem dX2_signs_102 : eb_dc cX2_signs 102 (.aload_n 0) 1 103 := by decide +kernel
theorem dX2_signs_103 : eb_dc cX2_signs 103 (.getfield 22) 3 106 := by decide +kernel
theorem dX2_signs_106 : eb_dc cX2_signs 106 (.bipush 7) 2 108 := by decide +kernel
theorem dX2_signs_108 : eb_dc cX2_signs 108 (.invokevirtual 188) 3 111 := by decide +kernel
theorem dX2_signs_111 : eb_dj cX2_signs 111 (.ifCond .eq 7) 7 114 118 := by decide +kernel
theorem dX2_signs_114 : eb_dc cX2_signs 114 (.iconst 1) 1 115 := by decide +kernel
theorem dX2_signs_115 : eb_dj cX2_signs 115 (.goto 4) 4 118 119 := by decide +kernel
theorem dX2_signs_118 : eb_dc cX2_signs 118 (.iconst 0) 1 119 := by decide +kernel
theorem dX2_signs_119 : eb_dc cX2_signs 119 (.iastore) 1 120 := by decide +kernel
theorem dX2_signs_120 : eb_dc cX2_signs 120 (.return_) 1 121 := by decide +kernel
theorem ctX2_signs {l : Launch} {Γ : eb_C} {ad : Nat → Nat} {ix : Nat → Option Nat} {σ : eb_MS} {a1 : Int32} {K : eb_MS → Prop} (hi : ms_inv ad ix) (h : MX2_signs σ a1 K) : eb_Ct l Γ yX2_signs cX2_signs 3 (none) rmX2_signs [.ref (ad 0), .int a1] (ms_st Γ ad ix σ) (em_V Γ ad ix K) := by
  refine eb_of (by decide) (Nat.le_of_ble_eq_true rfl) (fun X P hP _ => ?_)
  show eb_G l Γ P X cX2_signs RX2 3 (none) rmX2_signs 0 [(0, .ref (ad 0)), (1, .int a1)] [] (ms_st Γ ad ix σ) 0 0
  refine eg_aload_n 0 dX2_signs_0 rfl rfl ?_
  refine em_cvv (rest := []) (ctX2_rounds hi h) hi (lw_V q1489 q1491 qs60 q77 q1492) rfl nX2_rounds ⟨Nat.le_of_ble_eq_true rfl, Nat.le_of_ble_eq_true rfl⟩ ⟨rfl, rfl⟩ ⟨Nat.zero_le _, Nat.zero_le _⟩ rfl rfl (Nat.le_of_ble_eq_true rfl) dX2_signs_1 (fun g2 h => ?_)
  refine eg_iconst dX2_signs_4 kc_0 ?_
  refine eg_istore_n (lv' := [(2, .int 0), (0, .ref (ad 0)), (1, .int a1)]) dX2_signs_5 rfl (Nat.le_of_ble_eq_true rfl) rfl ?_
  refine eb_jp1_e (J := fun (g3 : eb_MS) => eb_G l Γ P X cX2_signs RX2 3 (none) rmX2_signs 57 [(0, .ref (ad 0)), (1, .int a1)] [] (ms_st Γ ad ix g3) 0 0) h ?_ ?_
  · intro g3 h
    refine eg_aload_n 0 dX2_signs_57 rfl rfl ?_
    refine em_geta 32 rfl q1174 dX2_signs_58 hi ?_
    refine eg_iload_n 1 dX2_signs_61 rfl rfl ?_
    refine eg_aload_n 0 dX2_signs_62 rfl rfl ?_
    refine eg_iconst dX2_signs_63 kc_0 ?_
    refine em_cvi (rest := [.int a1, .ref (ad 32)]) (ctX2_countOf hi h) hi (lw_V q1436 q1438 qs55 q77 q1439) rfl nX2_countOf ⟨Nat.le_of_ble_eq_true rfl, Nat.le_of_ble_eq_true rfl⟩ ⟨rfl, rfl⟩ ⟨Nat.zero_le _, Nat.zero_le _⟩ rfl rfl (Nat.le_of_ble_eq_true rfl) dX2_signs_64 (fun v4 g5 h => ?_)
    obtain ⟨hb, h⟩ := h
    refine em_iast 32 rfl hb dX2_signs_67 hi (fun g6 eg6 => ?_)
    replace h := h g6 eg6
    refine eg_aload_n 0 dX2_signs_68 rfl rfl ?_
    refine em_geta 32 rfl q1174 dX2_signs_69 hi ?_
    refine eg_iload_n 1 dX2_signs_72 rfl rfl ?_
    refine eg_iconst dX2_signs_73 kc_1 ?_
    refine eg_iadd dX2_signs_74 ?_
    refine eg_aload_n 0 dX2_signs_75 rfl rfl ?_
    refine eg_iconst dX2_signs_76 kc_1 ?_
    refine em_cvi (rest := [.int (a1 + 1), .ref (ad 32)]) (ctX2_countOf hi h) hi (lw_V q1436 q1438 qs55 q77 q1439) rfl nX2_countOf ⟨Nat.le_of_ble_eq_true rfl, Nat.le_of_ble_eq_true rfl⟩ ⟨rfl, rfl⟩ ⟨Nat.zero_le _, Nat.zero_le _⟩ rfl rfl (Nat.le_of_ble_eq_true rfl) dX2_signs_77 (fun v7 g8 h => ?_)
    obtain ⟨hb, h⟩ := h
    refine em_iast 32 rfl hb dX2_signs_80 hi (fun g9 eg9 => ?_)
    replace h := h g9 eg9
    refine eg_aload_n 0 dX2_signs_81 rfl rfl ?_
    refine em_geta 32 rfl q1174 dX2_signs_82 hi ?_
    refine eg_iload_n 1 dX2_signs_85 rfl rfl ?_
    refine eg_iconst dX2_signs_86 kc_2 ?_
    refine eg_iadd dX2_signs_87 ?_
    refine eg_aload_n 0 dX2_signs_88 rfl rfl ?_
    refine eg_iconst dX2_signs_89 kc_2 ?_
    refine em_cvi (rest := [.int (a1 + 2), .ref (ad 32)]) (ctX2_countOf hi h) hi (lw_V q1436 q1438 qs55 q77 q1439) rfl nX2_countOf ⟨Nat.le_of_ble_eq_true rfl, Nat.le_of_ble_eq_true rfl⟩ ⟨rfl, rfl⟩ ⟨Nat.zero_le _, Nat.zero_le _⟩ rfl rfl (Nat.le_of_ble_eq_true rfl) dX2_signs_90 (fun v10 g11 h => ?_)
    obtain ⟨hb, h⟩ := h
    refine em_iast 32 rfl hb dX2_signs_93 hi (fun g12 eg12 => ?_)
    replace h := h g12 eg12
    refine eg_aload_n 0 dX2_signs_94 rfl rfl ?_
    refine em_geta 32 rfl q1174 dX2_signs_95 hi ?_
    refine eg_iload_n 1 dX2_signs_98 rfl rfl ?_
    refine eg_iconst dX2_signs_99 kc_3 ?_
    refine eg_iadd dX2_signs_100 ?_
    refine eg_aload_n 0 dX2_signs_101 rfl rfl ?_
    refine eg_aload_n 0 dX2_signs_102 rfl rfl ?_
    refine em_gets 5 rfl q1147 dX2_signs_103 hi ?_
    refine eg_bipush dX2_signs_106 kb_7 ?_
    refine em_cvp (rest := [.int (a1 + 3), .ref (ad 32)]) (ctX2_isKind hi h) hi (lw_V q1385 q1387 qs52 q77 q1388) rfl nX2_isKind ⟨Nat.le_of_ble_eq_true rfl, Nat.le_of_ble_eq_true rfl⟩ ⟨rfl, rfl⟩ ⟨Nat.zero_le _, Nat.zero_le _⟩ rfl rfl (Nat.le_of_ble_eq_true rfl) dX2_signs_108 (fun v13 h => ?_)
    refine eb_jp1_e (J := fun (s15 : Int32) => eb_G l Γ P X cX2_signs RX2 3 (none) rmX2_signs 119 [] [.int s15, .int (a1 + 3), .ref (ad 32)] (ms_st Γ ad ix g12) 0 0) h ?_ ?_
    · intro s15 h
      obtain ⟨hb, h⟩ := h
      refine em_iast 32 rfl hb dX2_signs_119 hi (fun g16 eg16 => ?_)
      replace h := h g16 eg16
      exact eg_vret dX2_signs_120 (Nat.zero_le _) (Nat.zero_le _) (hP _ _ ⟨_, rfl, rfl, h⟩)
    · intro k17 hk17 h
      refine eg_if_eq dX2_signs_111 (fun c18 => ?_) (fun c18 => ?_)
      · replace h := h.1 c18
        refine eg_iconst dX2_signs_118 kc_0 ?_
        exact eg_sub [] rfl (hk17 0 h)
      · replace h := h.2 c18
        refine eg_iconst dX2_signs_114 kc_1 ?_
        refine eg_goto dX2_signs_115 ?_
        exact eg_sub [] rfl (hk17 1 h)
  · intro k19 hk19 h
    refine eg_sub [1, 2, 0] rfl ?_
    refine eb_loop2_e (J := fun (x2_20 : Int32) (g21 : eb_MS) => eb_G l Γ P X cX2_signs RX2 3 (none) rmX2_signs 6 [(0, .ref (ad 0)), (1, .int a1), (2, .int x2_20)] [] (ms_st Γ ad ix g21) 0 0) h ?_
    intro r22 hr22 x2_20 g21 h
    refine eg_iload_n 2 dX2_signs_6 rfl rfl ?_
    refine eg_bipush dX2_signs_7 kb_30 ?_
    refine eg_icmp_ge dX2_signs_9 (fun c29 => ?_) (fun c29 => ?_)
    · replace h := h.1 c29
      exact eg_sub [0, 1] rfl (hk19 g21 h)
    · replace h := h.2 c29
      refine eg_aload_n 0 dX2_signs_12 rfl rfl ?_
      refine em_geta 32 rfl q1174 dX2_signs_13 hi ?_
      refine eg_iload_n 1 dX2_signs_16 rfl rfl ?_
      refine eg_iload_n 2 dX2_signs_17 rfl rfl ?_
      refine eg_iadd dX2_signs_18 ?_
      refine eg_iload_n 2 dX2_signs_19 rfl rfl ?_
      refine eg_iconst dX2_signs_20 kc_4 ?_
      refine eb_jp1_e (J := fun (s23 : Int32) => eb_G l Γ P X cX2_signs RX2 3 (none) rmX2_signs 50 [(0, .ref (ad 0)), (1, .int a1), (2, .int x2_20)] [.int s23, .int (a1 + x2_20), .ref (ad 32)] (ms_st Γ ad ix g21) 0 0) h ?_ ?_
      · intro s23 h
        obtain ⟨hb, h⟩ := h
        refine em_iast 32 rfl hb dX2_signs_50 hi (fun g24 eg24 => ?_)
        replace h := h g24 eg24
        refine eg_iinc (j := 2) (lv' := [(2, .int (x2_20 + 1)), (0, .ref (ad 0)), (1, .int a1)]) dX2_signs_51 rfl (by rw [kc_1]) (Nat.le_of_ble_eq_true rfl) rfl ?_
        refine eg_goto dX2_signs_54 ?_
        exact eg_sub [1, 2, 0] rfl (hr22 (x2_20 + 1) g24 h)
      · intro k25 hk25 h
        refine eg_icmp_ge dX2_signs_21 (fun c28 => ?_) (fun c28 => ?_)
        · replace h := h.1 c28
          refine eg_iload_n 2 dX2_signs_28 rfl rfl ?_
          refine eg_iconst dX2_signs_29 kc_4 ?_
          refine eg_isub dX2_signs_30 ?_
          refine eg_aload_n 0 dX2_signs_31 rfl rfl ?_
          refine em_gets 31 rfl q1173 dX2_signs_32 hi ?_
          refine eg_icmp_ge dX2_signs_35 (fun c27 => ?_) (fun c27 => ?_)
          · replace h := h.1 c27
            refine eg_iconst dX2_signs_49 kc_0 ?_
            exact hk25 0 h
          · replace h := h.2 c27
            refine eg_aload_n 0 dX2_signs_38 rfl rfl ?_
            refine em_geta 30 rfl q1172 dX2_signs_39 hi ?_
            refine eg_iload_n 2 dX2_signs_42 rfl rfl ?_
            refine eg_iconst dX2_signs_43 kc_4 ?_
            refine eg_isub dX2_signs_44 ?_
            obtain ⟨hb, h⟩ := h
            refine em_iald 30 rfl hb dX2_signs_45 hi (fun v26 ev26 => ?_)
            replace h := h v26 ev26
            refine eg_goto dX2_signs_46 ?_
            exact hk25 v26 h
        · replace h := h.2 c28
          refine eg_iconst dX2_signs_24 kc_0 ?_
          refine eg_goto dX2_signs_25 ?_
          exact hk25 0 h
def MX2_isLike (σ : eb_MS) (a1 : Int32) (a2 : Int32) (K : Int32 → Prop) : Prop :=
  eb_loop2 (fun r3 (x3_1 : Int32) (x4_2 : Int32) => eb_br (30 ≤ x4_2) (eb_zb x3_1 ∧ K x3_1) (eb_rd (σ.2.1 32) 210 (a1 + x4_2) (fun v4 => eb_rd (σ.2.1 32) 210 (a2 + x4_2) (fun v5 => eb_jp1 (fun (s6 : Int32) => r3 (x3_1 &&& s6) (x4_2 + 1)) (fun k7 => eb_br (v4 = v5) (k7 1) (k7 0)))))) 1 0
abbrev rmX2_isLike : Room := { frames := 1, cells := 0, slots := 0, locals := 12 }
theorem nX2_isLike : eb_ar yX2_isLike 2 := by decide +kernel
theorem dX2_isLike_0 : eb_dc cX2_isLike 0 (.iconst 1) 1 1 := by decide +kernel
theorem dX2_isLike_1 : eb_dc cX2_isLike 1 (.istore_n 3) 1 2 := by decide +kernel
theorem dX2_isLike_2 : eb_dc cX2_isLike 2 (.iconst 0) 1 3 := by decide +kernel
theorem dX2_isLike_3 : eb_dc cX2_isLike 3 (.istore 4) 2 5 := by decide +kernel
theorem dX2_isLike_5 : eb_dc cX2_isLike 5 (.iload 4) 2 7 := by decide +kernel
theorem dX2_isLike_7 : eb_dc cX2_isLike 7 (.bipush 30) 2 9 := by decide +kernel
theorem dX2_isLike_9 : eb_dj cX2_isLike 9 (.if_icmp .ge 38) 38 12 47 := by decide +kernel
theorem dX2_isLike_12 : eb_dc cX2_isLike 12 (.iload_n 3) 1 13 := by decide +kernel
theorem dX2_isLike_13 : eb_dc cX2_isLike 13 (.aload_n 0) 1 14 := by decide +kernel
theorem dX2_isLike_14 : eb_dc cX2_isLike 14 (.getfield 89) 3 17 := by decide +kernel
theorem dX2_isLike_17 : eb_dc cX2_isLike 17 (.iload_n 1) 1 18 := by decide +kernel
theorem dX2_isLike_18 : eb_dc cX2_isLike 18 (.iload 4) 2 20 := by decide +kernel
theorem dX2_isLike_20 : eb_dc cX2_isLike 20 (.iadd) 1 21 := by decide +kernel
theorem dX2_isLike_21 : eb_dc cX2_isLike 21 (.iaload) 1 22 := by decide +kernel
theorem dX2_isLike_22 : eb_dc cX2_isLike 22 (.aload_n 0) 1 23 := by decide +kernel
theorem dX2_isLike_23 : eb_dc cX2_isLike 23 (.getfield 89) 3 26 := by decide +kernel
theorem dX2_isLike_26 : eb_dc cX2_isLike 26 (.iload_n 2) 1 27 := by decide +kernel
theorem dX2_isLike_27 : eb_dc cX2_isLike 27 (.iload 4) 2 29 := by decide +kernel
theorem dX2_isLike_29 : eb_dc cX2_isLike 29 (.iadd) 1 30 := by decide +kernel
theorem dX2_isLike_30 : eb_dc cX2_isLike 30 (.iaload) 1 31 := by decide +kernel
theorem dX2_isLike_31 : eb_dj cX2_isLike 31 (.if_icmp .ne 7) 7 34 38 := by decide +kernel
theorem dX2_isLike_34 : eb_dc cX2_isLike 34 (.iconst 1) 1 35 := by decide +kernel
theorem dX2_isLike_35 : eb_dj cX2_isLike 35 (.goto 4) 4 38 39 := by decide +kernel
theorem dX2_isLike_38 : eb_dc cX2_isLike 38 (.iconst 0) 1 39 := by decide +kernel
theorem dX2_isLike_39 : eb_dc cX2_isLike 39 (.iand) 1 40 := by decide +kernel
theorem dX2_isLike_40 : eb_dc cX2_isLike 40 (.istore_n 3) 1 41 := by decide +kernel
theorem dX2_isLike_41 : eb_dc cX2_isLike 41 (.iinc 4 1) 3 44 := by decide +kernel
theorem dX2_isLike_44 : eb_dj cX2_isLike 44 (.goto (-39)) (-39) 47 5 := by decide +kernel
theorem dX2_isLike_47 : eb_dc cX2_isLike 47 (.iload_n 3) 1 48 := by decide +kernel
theorem dX2_isLike_48 : eb_dc cX2_isLike 48 (.ireturn) 1 49 := by decide +kernel
theorem ctX2_isLike {l : Launch} {Γ : eb_C} {ad : Nat → Nat} {ix : Nat → Option Nat} {σ : eb_MS} {a1 : Int32} {a2 : Int32} {K : Int32 → Prop} (hi : ms_inv ad ix) (h : MX2_isLike σ a1 a2 K) : eb_Ct l Γ yX2_isLike cX2_isLike 5 (some .boolean) rmX2_isLike [.ref (ad 0), .int a1, .int a2] (ms_st Γ ad ix σ) (eb_pI (ms_st Γ ad ix σ) K) := by
  refine eb_of (by decide) (Nat.le_of_ble_eq_true rfl) (fun X P hP _ => ?_)
  show eb_G l Γ P X cX2_isLike RX2 5 (some .boolean) rmX2_isLike 0 [(0, .ref (ad 0)), (1, .int a1), (2, .int a2)] [] (ms_st Γ ad ix σ) 0 0
  refine eg_iconst dX2_isLike_0 kc_1 ?_
  refine eg_istore_n (lv' := [(3, .int 1), (0, .ref (ad 0)), (1, .int a1), (2, .int a2)]) dX2_isLike_1 rfl (Nat.le_of_ble_eq_true rfl) rfl ?_
  refine eg_iconst dX2_isLike_2 kc_0 ?_
  refine eg_istore (lv' := [(4, .int 0), (3, .int 1), (0, .ref (ad 0)), (1, .int a1), (2, .int a2)]) dX2_isLike_3 (Nat.le_of_ble_eq_true rfl) rfl ?_
  refine eg_sub [2, 3, 4, 1, 0] rfl ?_
  refine eb_loop2_e (J := fun (x3_1 : Int32) (x4_2 : Int32) => eb_G l Γ P X cX2_isLike RX2 5 (some .boolean) rmX2_isLike 5 [(0, .ref (ad 0)), (1, .int a1), (2, .int a2), (3, .int x3_1), (4, .int x4_2)] [] (ms_st Γ ad ix σ) 0 0) h ?_
  intro r3 hr3 x3_1 x4_2 h
  refine eg_iload 4 dX2_isLike_5 rfl ?_
  refine eg_bipush dX2_isLike_7 kb_30 ?_
  refine eg_icmp_ge dX2_isLike_9 (fun c9 => ?_) (fun c9 => ?_)
  · replace h := h.1 c9
    refine eg_iload_n 3 dX2_isLike_47 rfl rfl ?_
    exact eg_zret dX2_isLike_48 h.1.nar (Nat.zero_le _) (Nat.zero_le _) (hP _ _ ⟨_, rfl, rfl, h.2⟩)
  · replace h := h.2 c9
    refine eg_iload_n 3 dX2_isLike_12 rfl rfl ?_
    refine eg_aload_n 0 dX2_isLike_13 rfl rfl ?_
    refine em_geta 32 rfl q1174 dX2_isLike_14 hi ?_
    refine eg_iload_n 1 dX2_isLike_17 rfl rfl ?_
    refine eg_iload 4 dX2_isLike_18 rfl ?_
    refine eg_iadd dX2_isLike_20 ?_
    obtain ⟨hb, h⟩ := h
    refine em_iald 32 rfl hb dX2_isLike_21 hi (fun v4 ev4 => ?_)
    replace h := h v4 ev4
    refine eg_aload_n 0 dX2_isLike_22 rfl rfl ?_
    refine em_geta 32 rfl q1174 dX2_isLike_23 hi ?_
    refine eg_iload_n 2 dX2_isLike_26 rfl rfl ?_
    refine eg_iload 4 dX2_isLike_27 rfl ?_
    refine eg_iadd dX2_isLike_29 ?_
    obtain ⟨hb, h⟩ := h
    refine em_iald 32 rfl hb dX2_isLike_30 hi (fun v5 ev5 => ?_)
    replace h := h v5 ev5
    refine eb_jp1_e (J := fun (s6 : Int32) => eb_G l Γ P X cX2_isLike RX2 5 (some .boolean) rmX2_isLike 39 [(0, .ref (ad 0)), (1, .int a1), (2, .int a2), (4, .int x4_2)] [.int s6, .int x3_1] (ms_st Γ ad ix σ) 0 0) h ?_ ?_
    · intro s6 h
      refine eg_iand dX2_isLike_39 ?_
      refine eg_istore_n (lv' := [(3, .int (x3_1 &&& s6)), (0, .ref (ad 0)), (1, .int a1), (2, .int a2), (4, .int x4_2)]) dX2_isLike_40 rfl (Nat.le_of_ble_eq_true rfl) rfl ?_
      refine eg_iinc (j := 4) (lv' := [(4, .int (x4_2 + 1)), (3, .int (x3_1 &&& s6)), (0, .ref (ad 0)), (1, .int a1), (2, .int a2)]) dX2_isLike_41 rfl (by rw [kc_1]) (Nat.le_of_ble_eq_true rfl) rfl ?_
      refine eg_goto dX2_isLike_44 ?_
      exact eg_sub [2, 3, 4, 1, 0] rfl (hr3 (x3_1 &&& s6) (x4_2 + 1) h)
    · intro k7 hk7 h
      refine eg_icmp_ne dX2_isLike_31 (fun c8 => ?_) (fun c8 => ?_)
      · replace h := h.2 c8
        refine eg_iconst dX2_isLike_38 kc_0 ?_
        exact eg_sub [0, 1, 2, 4] rfl (hk7 0 h)
      · replace h := h.1 c8
        refine eg_iconst dX2_isLike_34 kc_1 ?_
        refine eg_goto dX2_isLike_35 ?_
        exact eg_sub [0, 1, 2, 4] rfl (hk7 1 h)
def MX2_alike (σ : eb_MS) (a1 : Int32) (a2 : Int32) (K : Int32 → eb_MS → Prop) : Prop :=
  ms_ws σ 0 0 (fun g1 => MX2_isBody a1 (fun v2 => eb_br (v2 = 0) (K (-2) g1) (MX2_isBody a2 (fun v4 => eb_br (v4 = 0) (K (-2) g1) (MX2_sizeOf g1 a1 (fun v6 => eb_br (v6 = 0) (K (-5) g1) (MX2_sizeOf g1 a2 (fun v8 => eb_br (v8 = 0) (K (-5) g1) (eb_rd (g1.2.1 1) 4 a1 (fun v10 => eb_br (v10 = 3) (eb_rd (g1.2.1 1) 4 a2 (fun v11 => eb_br (v11 = 3) (MX2_loads g1 a1 (fun v12 g13 => MX2_signs g13 0 (fun g15 => MX2_loads g15 a2 (fun v16 g17 => MX2_signs g17 30 (fun g19 => MX2_isLike g19 0 30 (fun v20 => eb_br (v20 = 0) (K 0 g19) (K 1 g19))))))) (K (-3) g1))) (K (-3) g1)))))))))))
abbrev rmX2_alike : Room := { frames := 8, cells := 0, slots := 0, locals := 181 }
theorem nX2_alike : eb_ar yX2_alike 2 := by decide +kernel
theorem dX2_alike_0 : eb_dc cX2_alike 0 (.aload_n 0) 1 1 := by decide +kernel
theorem dX2_alike_1 : eb_dc cX2_alike 1 (.iconst 0) 1 2 := by decide +kernel
theorem dX2_alike_2 : eb_dc cX2_alike 2 (.putfield 106) 3 5 := by decide +kernel
theorem dX2_alike_5 : eb_dc cX2_alike 5 (.iload_n 1) 1 6 := by decide +kernel
theorem dX2_alike_6 : eb_dc cX2_alike 6 (.invokestatic 113) 3 9 := by decide +kernel
theorem dX2_alike_9 : eb_dj cX2_alike 9 (.ifCond .eq 10) 10 12 19 := by decide +kernel
theorem dX2_alike_12 : eb_dc cX2_alike 12 (.iload_n 2) 1 13 := by decide +kernel
theorem dX2_alike_13 : eb_dc cX2_alike 13 (.invokestatic 113) 3 16 := by decide +kernel
theorem dX2_alike_16 : eb_dj cX2_alike 16 (.ifCond .ne 6) 6 19 22 := by decide +kernel
theorem dX2_alike_19 : eb_dc cX2_alike 19 (.bipush (-2)) 2 21 := by decide +kernel
theorem dX2_alike_21 : eb_dc cX2_alike 21 (.ireturn) 1 22 := by decide +kernel
theorem dX2_alike_22 : eb_dc cX2_alike 22 (.aload_n 0) 1 23 := by decide +kernel
theorem dX2_alike_23 : eb_dc cX2_alike 23 (.iload_n 1) 1 24 := by decide +kernel
theorem dX2_alike_24 : eb_dc cX2_alike 24 (.invokevirtual 144) 3 27 := by decide +kernel
theorem dX2_alike_27 : eb_dj cX2_alike 27 (.ifCond .eq 11) 11 30 38 := by decide +kernel
theorem dX2_alike_30 : eb_dc cX2_alike 30 (.aload_n 0) 1 31 := by decide +kernel
theorem dX2_alike_31 : eb_dc cX2_alike 31 (.iload_n 2) 1 32 := by decide +kernel
theorem dX2_alike_32 : eb_dc cX2_alike 32 (.invokevirtual 144) 3 35 := by decide +kernel
theorem dX2_alike_35 : eb_dj cX2_alike 35 (.ifCond .ne 6) 6 38 41 := by decide +kernel
theorem dX2_alike_38 : eb_dc cX2_alike 38 (.bipush (-5)) 2 40 := by decide +kernel
theorem dX2_alike_40 : eb_dc cX2_alike 40 (.ireturn) 1 41 := by decide +kernel
theorem dX2_alike_41 : eb_dc cX2_alike 41 (.aload_n 0) 1 42 := by decide +kernel
theorem dX2_alike_42 : eb_dc cX2_alike 42 (.getfield 7) 3 45 := by decide +kernel
theorem dX2_alike_45 : eb_dc cX2_alike 45 (.iload_n 1) 1 46 := by decide +kernel
theorem dX2_alike_46 : eb_dc cX2_alike 46 (.iaload) 1 47 := by decide +kernel
theorem dX2_alike_47 : eb_dc cX2_alike 47 (.iconst 3) 1 48 := by decide +kernel
theorem dX2_alike_48 : eb_dj cX2_alike 48 (.if_icmp .ne 13) 13 51 61 := by decide +kernel
theorem dX2_alike_51 : eb_dc cX2_alike 51 (.aload_n 0) 1 52 := by decide +kernel
theorem dX2_alike_52 : eb_dc cX2_alike 52 (.getfield 7) 3 55 := by decide +kernel
theorem dX2_alike_55 : eb_dc cX2_alike 55 (.iload_n 2) 1 56 := by decide +kernel
theorem dX2_alike_56 : eb_dc cX2_alike 56 (.iaload) 1 57 := by decide +kernel
theorem dX2_alike_57 : eb_dc cX2_alike 57 (.iconst 3) 1 58 := by decide +kernel
theorem dX2_alike_58 : eb_dj cX2_alike 58 (.if_icmp .eq 6) 6 61 64 := by decide +kernel
theorem dX2_alike_61 : eb_dc cX2_alike 61 (.bipush (-3)) 2 63 := by decide +kernel
theorem dX2_alike_63 : eb_dc cX2_alike 63 (.ireturn) 1 64 := by decide +kernel
theorem dX2_alike_64 : eb_dc cX2_alike 64 (.aload_n 0) 1 65 := by decide +kernel
theorem dX2_alike_65 : eb_dc cX2_alike 65 (.iload_n 1) 1 66 := by decide +kernel
theorem dX2_alike_66 : eb_dc cX2_alike 66 (.invokevirtual 164) 3 69 := by decide +kernel
theorem dX2_alike_69 : eb_dc cX2_alike 69 (.pop) 1 70 := by decide +kernel
theorem dX2_alike_70 : eb_dc cX2_alike 70 (.aload_n 0) 1 71 := by decide +kernel
theorem dX2_alike_71 : eb_dc cX2_alike 71 (.iconst 0) 1 72 := by decide +kernel
theorem dX2_alike_72 : eb_dc cX2_alike 72 (.invokevirtual 241) 3 75 := by decide +kernel
theorem dX2_alike_75 : eb_dc cX2_alike 75 (.aload_n 0) 1 76 := by decide +kernel
theorem dX2_alike_76 : eb_dc cX2_alike 76 (.iload_n 2) 1 77 := by decide +kernel
theorem dX2_alike_77 : eb_dc cX2_alike 77 (.invokevirtual 164) 3 80 := by decide +kernel
theorem dX2_alike_80 : eb_dc cX2_alike 80 (.pop) 1 81 := by decide +kernel
theorem dX2_alike_81 : eb_dc cX2_alike 81 (.aload_n 0) 1 82 := by decide +kernel
theorem dX2_alike_82 : eb_dc cX2_alike 82 (.bipush 30) 2 84 := by decide +kernel
theorem dX2_alike_84 : eb_dc cX2_alike 84 (.invokevirtual 241) 3 87 := by decide +kernel
theorem dX2_alike_87 : eb_dc cX2_alike 87 (.aload_n 0) 1 88 := by decide +kernel
theorem dX2_alike_88 : eb_dc cX2_alike 88 (.iconst 0) 1 89 := by decide +kernel
theorem dX2_alike_89 : eb_dc cX2_alike 89 (.bipush 30) 2 91 := by decide +kernel
theorem dX2_alike_91 : eb_dc cX2_alike 91 (.invokevirtual 244) 3 94 := by decide +kernel
theorem dX2_alike_94 : eb_dj cX2_alike 94 (.ifCond .eq 7) 7 97 101 := by decide +kernel
theorem dX2_alike_97 : eb_dc cX2_alike 97 (.iconst 1) 1 98 := by decide +kernel
theorem dX2_alike_98 : eb_dj cX2_alike 98 (.goto 4) 4 101 102 := by decide +kernel
theorem dX2_alike_101 : eb_dc cX2_alike 101 (.iconst 0) 1 102 := by decide +kernel
theorem dX2_alike_102 : eb_dc cX2_alike 102 (.ireturn) 1 103 := by decide +kernel
theorem ctX2_alike {l : Launch} {Γ : eb_C} {ad : Nat → Nat} {ix : Nat → Option Nat} {σ : eb_MS} {a1 : Int32} {a2 : Int32} {K : Int32 → eb_MS → Prop} (hi : ms_inv ad ix) (h : MX2_alike σ a1 a2 K) : eb_Ct l Γ yX2_alike cX2_alike 3 (some .int) rmX2_alike [.ref (ad 0), .int a1, .int a2] (ms_st Γ ad ix σ) (em_I Γ ad ix K) := by
  refine eb_of (by decide) (Nat.le_of_ble_eq_true rfl) (fun X P hP _ => ?_)
  show eb_G l Γ P X cX2_alike RX2 3 (some .int) rmX2_alike 0 [(0, .ref (ad 0)), (1, .int a1), (2, .int a2)] [] (ms_st Γ ad ix σ) 0 0
  refine eg_aload_n 0 dX2_alike_0 rfl rfl ?_
  refine eg_iconst dX2_alike_1 kc_0 ?_
  refine em_puts 0 rfl q1142 dX2_alike_2 hi (fun g1 eg1 => ?_)
  replace h := h g1 eg1
  refine eg_iload_n 1 dX2_alike_5 rfl rfl ?_
  refine eg_csp (rest := []) (ctX2_isBody h) (lw_S q1252 q1253 q77 q1254) nX2_isBody ⟨Nat.le_of_ble_eq_true rfl, Nat.le_of_ble_eq_true rfl⟩ ⟨rfl, rfl⟩ ⟨Nat.zero_le _, Nat.zero_le _⟩ rfl rfl (Nat.le_of_ble_eq_true rfl) dX2_alike_6 (fun v2 h => ?_)
  refine eg_if_eq dX2_alike_9 (fun c28 => ?_) (fun c28 => ?_)
  · replace h := h.1 c28
    refine eg_bipush dX2_alike_19 kb_m2 ?_
    exact eg_iret dX2_alike_21 (Nat.zero_le _) (Nat.zero_le _) (hP _ _ ⟨_, _, rfl, rfl, h⟩)
  · replace h := h.2 c28
    refine eg_iload_n 2 dX2_alike_12 rfl rfl ?_
    refine eg_csp (rest := []) (ctX2_isBody h) (lw_S q1252 q1253 q77 q1254) nX2_isBody ⟨Nat.le_of_ble_eq_true rfl, Nat.le_of_ble_eq_true rfl⟩ ⟨rfl, rfl⟩ ⟨Nat.zero_le _, Nat.zero_le _⟩ rfl rfl (Nat.le_of_ble_eq_true rfl) dX2_alike_13 (fun v4 h => ?_)
    refine eg_if_ne dX2_alike_16 (fun c27 => ?_) (fun c27 => ?_)
    · replace h := h.2 c27
      refine eg_aload_n 0 dX2_alike_22 rfl rfl ?_
      refine eg_iload_n 1 dX2_alike_23 rfl rfl ?_
      refine em_cvp (rest := []) (ctX2_sizeOf hi h) hi (lw_V q1298 q1300 qs41 q77 q1301) rfl nX2_sizeOf ⟨Nat.le_of_ble_eq_true rfl, Nat.le_of_ble_eq_true rfl⟩ ⟨rfl, rfl⟩ ⟨Nat.zero_le _, Nat.zero_le _⟩ rfl rfl (Nat.le_of_ble_eq_true rfl) dX2_alike_24 (fun v6 h => ?_)
      refine eg_if_eq dX2_alike_27 (fun c26 => ?_) (fun c26 => ?_)
      · replace h := h.1 c26
        refine eg_bipush dX2_alike_38 kb_m5 ?_
        exact eg_iret dX2_alike_40 (Nat.zero_le _) (Nat.zero_le _) (hP _ _ ⟨_, _, rfl, rfl, h⟩)
      · replace h := h.2 c26
        refine eg_aload_n 0 dX2_alike_30 rfl rfl ?_
        refine eg_iload_n 2 dX2_alike_31 rfl rfl ?_
        refine em_cvp (rest := []) (ctX2_sizeOf hi h) hi (lw_V q1298 q1300 qs41 q77 q1301) rfl nX2_sizeOf ⟨Nat.le_of_ble_eq_true rfl, Nat.le_of_ble_eq_true rfl⟩ ⟨rfl, rfl⟩ ⟨Nat.zero_le _, Nat.zero_le _⟩ rfl rfl (Nat.le_of_ble_eq_true rfl) dX2_alike_32 (fun v8 h => ?_)
        refine eg_if_ne dX2_alike_35 (fun c25 => ?_) (fun c25 => ?_)
        · replace h := h.2 c25
          refine eg_aload_n 0 dX2_alike_41 rfl rfl ?_
          refine em_geta 1 rfl q1143 dX2_alike_42 hi ?_
          refine eg_iload_n 1 dX2_alike_45 rfl rfl ?_
          obtain ⟨hb, h⟩ := h
          refine em_iald 1 rfl hb dX2_alike_46 hi (fun v10 ev10 => ?_)
          replace h := h v10 ev10
          refine eg_iconst dX2_alike_47 kc_3 ?_
          refine eg_icmp_ne dX2_alike_48 (fun c24 => ?_) (fun c24 => ?_)
          · replace h := h.2 c24
            refine eg_bipush dX2_alike_61 kb_m3 ?_
            exact eg_iret dX2_alike_63 (Nat.zero_le _) (Nat.zero_le _) (hP _ _ ⟨_, _, rfl, rfl, h⟩)
          · replace h := h.1 c24
            refine eg_aload_n 0 dX2_alike_51 rfl rfl ?_
            refine em_geta 1 rfl q1143 dX2_alike_52 hi ?_
            refine eg_iload_n 2 dX2_alike_55 rfl rfl ?_
            obtain ⟨hb, h⟩ := h
            refine em_iald 1 rfl hb dX2_alike_56 hi (fun v11 ev11 => ?_)
            replace h := h v11 ev11
            refine eg_iconst dX2_alike_57 kc_3 ?_
            refine eg_icmp_eq dX2_alike_58 (fun c23 => ?_) (fun c23 => ?_)
            · replace h := h.1 c23
              refine eg_aload_n 0 dX2_alike_64 rfl rfl ?_
              refine eg_iload_n 1 dX2_alike_65 rfl rfl ?_
              refine em_cvi (rest := []) (ctX2_loads hi h) hi (lw_V q1294 q1296 qs40 q77 q1297) rfl nX2_loads ⟨Nat.le_of_ble_eq_true rfl, Nat.le_of_ble_eq_true rfl⟩ ⟨rfl, rfl⟩ ⟨Nat.zero_le _, Nat.zero_le _⟩ rfl rfl (Nat.le_of_ble_eq_true rfl) dX2_alike_66 (fun v12 g13 h => ?_)
              refine eg_pop dX2_alike_69 rfl ?_
              refine eg_aload_n 0 dX2_alike_70 rfl rfl ?_
              refine eg_iconst dX2_alike_71 kc_0 ?_
              refine em_cvv (rest := []) (ctX2_signs hi h) hi (lw_V q1521 q1523 qs67 q77 q1524) rfl nX2_signs ⟨Nat.le_of_ble_eq_true rfl, Nat.le_of_ble_eq_true rfl⟩ ⟨rfl, rfl⟩ ⟨Nat.zero_le _, Nat.zero_le _⟩ rfl rfl (Nat.le_of_ble_eq_true rfl) dX2_alike_72 (fun g15 h => ?_)
              refine eg_aload_n 0 dX2_alike_75 rfl rfl ?_
              refine eg_iload_n 2 dX2_alike_76 rfl rfl ?_
              refine em_cvi (rest := []) (ctX2_loads hi h) hi (lw_V q1294 q1296 qs40 q77 q1297) rfl nX2_loads ⟨Nat.le_of_ble_eq_true rfl, Nat.le_of_ble_eq_true rfl⟩ ⟨rfl, rfl⟩ ⟨Nat.zero_le _, Nat.zero_le _⟩ rfl rfl (Nat.le_of_ble_eq_true rfl) dX2_alike_77 (fun v16 g17 h => ?_)
              refine eg_pop dX2_alike_80 rfl ?_
              refine eg_aload_n 0 dX2_alike_81 rfl rfl ?_
              refine eg_bipush dX2_alike_82 kb_30 ?_
              refine em_cvv (rest := []) (ctX2_signs hi h) hi (lw_V q1521 q1523 qs67 q77 q1524) rfl nX2_signs ⟨Nat.le_of_ble_eq_true rfl, Nat.le_of_ble_eq_true rfl⟩ ⟨rfl, rfl⟩ ⟨Nat.zero_le _, Nat.zero_le _⟩ rfl rfl (Nat.le_of_ble_eq_true rfl) dX2_alike_84 (fun g19 h => ?_)
              refine eg_aload_n 0 dX2_alike_87 rfl rfl ?_
              refine eg_iconst dX2_alike_88 kc_0 ?_
              refine eg_bipush dX2_alike_89 kb_30 ?_
              refine em_cvp (rest := []) (ctX2_isLike hi h) hi (lw_V q1525 q1527 qs68 q77 q1528) rfl nX2_isLike ⟨Nat.le_of_ble_eq_true rfl, Nat.le_of_ble_eq_true rfl⟩ ⟨rfl, rfl⟩ ⟨Nat.zero_le _, Nat.zero_le _⟩ rfl rfl (Nat.le_of_ble_eq_true rfl) dX2_alike_91 (fun v20 h => ?_)
              refine eg_if_eq dX2_alike_94 (fun c22 => ?_) (fun c22 => ?_)
              · replace h := h.1 c22
                refine eg_iconst dX2_alike_101 kc_0 ?_
                exact eg_iret dX2_alike_102 (Nat.zero_le _) (Nat.zero_le _) (hP _ _ ⟨_, _, rfl, rfl, h⟩)
              · replace h := h.2 c22
                refine eg_iconst dX2_alike_97 kc_1 ?_
                refine eg_goto dX2_alike_98 ?_
                exact eg_iret dX2_alike_102 (Nat.zero_le _) (Nat.zero_le _) (hP _ _ ⟨_, _, rfl, rfl, h⟩)
            · replace h := h.2 c23
              refine eg_bipush dX2_alike_61 kb_m3 ?_
              exact eg_iret dX2_alike_63 (Nat.zero_le _) (Nat.zero_le _) (hP _ _ ⟨_, _, rfl, rfl, h⟩)
        · replace h := h.1 c25
          refine eg_bipush dX2_alike_38 kb_m5 ?_
          exact eg_iret dX2_alike_40 (Nat.zero_le _) (Nat.zero_le _) (hP _ _ ⟨_, _, rfl, rfl, h⟩)
    · replace h := h.1 c27
      refine eg_bipush dX2_alike_19 kb_m2 ?_
      exact eg_iret dX2_alike_21 (Nat.zero_le _) (Nat.zero_le _) (hP _ _ ⟨_, _, rfl, rfl, h⟩)
def MX2_unlike (σ : eb_MS) (a1 : Int32) (K : Int32 → eb_MS → Prop) : Prop :=
  ms_ws σ 0 0 (fun g1 => MX2_refusesThree g1 a1 (fun v2 g3 => eb_br (0 ≤ v2) (eb_rd (g3.2.1 3) 4 a1 (fun v4 => eb_jp2 (fun (x4_5 : Int32) (g6 : eb_MS) => ms_wr g6 3 4 a1 v4 (fun g7 => ms_ws g7 5 (-1) (fun g8 => K x4_5 g8))) (fun k9 => eb_loop3 (fun r13 (x4_10 : Int32) (x5_11 : Int32) (g12 : eb_MS) => eb_br (8 ≤ x5_11) (k9 x4_10 g12) (ms_wr g12 3 4 a1 x5_11 (fun g14 => ms_ws g14 5 (-1) (fun g15 => MX2_loads g15 a1 (fun v16 g17 => MX2_signs g17 (30 * x4_10) (fun g19 => eb_jp1 (fun (x6_20 : Int32) => eb_jp1 (fun (s21 : Int32) => r13 (x4_10 + s21) (x5_11 + 1) g19) (fun k22 => eb_br (x6_20 = 0) (k22 0) (k22 1))) (fun k24 => eb_loop2 (fun r27 (x6_25 : Int32) (x7_26 : Int32) => eb_br (x4_10 ≤ x7_26) (k24 x6_25) (MX2_isLike g19 (30 * x7_26) (30 * x4_10) (fun v28 => eb_jp1 (fun (s30 : Int32) => r27 (x6_25 &&& s30) (x7_26 + 1)) (fun k31 => eb_br (v28 = 0) (k31 1) (k31 0))))) 1 0))))))) 0 1 g3))) (K v2 g3)))
abbrev rmX2_unlike : Room := { frames := 8, cells := 0, slots := 0, locals := 181 }
theorem nX2_unlike : eb_ar yX2_unlike 1 := by decide +kernel
theorem dX2_unlike_0 : eb_dc cX2_unlike 0 (.aload_n 0) 1 1 := by decide +kernel
theorem dX2_unlike_1 : eb_dc cX2_unlike 1 (.iconst 0) 1 2 := by decide +kernel
theorem dX2_unlike_2 : eb_dc cX2_unlike 2 (.putfield 106) 3 5 := by decide +kernel
theorem dX2_unlike_5 : eb_dc cX2_unlike 5 (.aload_n 0) 1 6 := by decide +kernel
theorem dX2_unlike_6 : eb_dc cX2_unlike 6 (.iload_n 1) 1 7 := by decide +kernel
theorem dX2_unlike_7 : eb_dc cX2_unlike 7 (.invokevirtual 235) 3 10 := by decide +kernel
theorem dX2_unlike_10 : eb_dc cX2_unlike 10 (.istore_n 2) 1 11 := by decide +kernel
theorem dX2_unlike_11 : eb_dc cX2_unlike 11 (.iload_n 2) 1 12 := by decide +kernel
theorem dX2_unlike_12 : eb_dj cX2_unlike 12 (.ifCond .ge 5) 5 15 17 := by decide +kernel
theorem dX2_unlike_15 : eb_dc cX2_unlike 15 (.iload_n 2) 1 16 := by decide +kernel
theorem dX2_unlike_16 : eb_dc cX2_unlike 16 (.ireturn) 1 17 := by decide +kernel
theorem dX2_unlike_17 : eb_dc cX2_unlike 17 (.aload_n 0) 1 18 := by decide +kernel
theorem dX2_unlike_18 : eb_dc cX2_unlike 18 (.getfield 16) 3 21 := by decide +kernel
theorem dX2_unlike_21 : eb_dc cX2_unlike 21 (.iload_n 1) 1 22 := by decide +kernel
theorem dX2_unlike_22 : eb_dc cX2_unlike 22 (.iaload) 1 23 := by decide +kernel
theorem dX2_unlike_23 : eb_dc cX2_unlike 23 (.istore_n 3) 1 24 := by decide +kernel
theorem dX2_unlike_24 : eb_dc cX2_unlike 24 (.iconst 0) 1 25 := by decide +kernel
theorem dX2_unlike_25 : eb_dc cX2_unlike 25 (.istore 4) 2 27 := by decide +kernel
theorem dX2_unlike_27 : eb_dc cX2_unlike 27 (.iconst 1) 1 28 := by decide +kernel
theorem dX2_unlike_28 : eb_dc cX2_unlike 28 (.istore 5) 2 30 := by decide +kernel
theorem dX2_unlike_30 : eb_dc cX2_unlike 30 (.iload 5) 2 32 := by decide +kernel
theorem dX2_unlike_32 : eb_dc cX2_unlike 32 (.bipush 8) 2 34 := by decide +kernel
theorem dX2_unlike_34 : eb_dj cX2_unlike 34 (.if_icmp .ge 98) 98 37 132 := by decide +kernel
theorem dX2_unlike_37 : eb_dc cX2_unlike 37 (.aload_n 0) 1 38 := by decide +kernel
theorem dX2_unlike_38 : eb_dc cX2_unlike 38 (.getfield 16) 3 41 := by decide +kernel
theorem dX2_unlike_41 : eb_dc cX2_unlike 41 (.iload_n 1) 1 42 := by decide +kernel
theorem dX2_unlike_42 : eb_dc cX2_unlike 42 (.iload 5) 2 44 := by decide +kernel
theorem dX2_unlike_44 : eb_dc cX2_unlike 44 (.iastore) 1 45 := by decide +kernel
theorem dX2_unlike_45 : eb_dc cX2_unlike 45 (.aload_n 0) 1 46 := by decide +kernel
theorem dX2_unlike_46 : eb_dc cX2_unlike 46 (.iconst (-1)) 1 47 := by decide +kernel
theorem dX2_unlike_47 : eb_dc cX2_unlike 47 (.putfield 22) 3 50 := by decide +kernel
theorem dX2_unlike_50 : eb_dc cX2_unlike 50 (.aload_n 0) 1 51 := by decide +kernel
theorem dX2_unlike_51 : eb_dc cX2_unlike 51 (.iload_n 1) 1 52 := by decide +kernel
theorem dX2_unlike_52 : eb_dc cX2_unlike 52 (.invokevirtual 164) 3 55 := by decide +kernel
theorem dX2_unlike_55 : eb_dc cX2_unlike 55 (.pop) 1 56 := by decide +kernel
theorem dX2_unlike_56 : eb_dc cX2_unlike 56 (.aload_n 0) 1 57 := by decide +kernel
theorem dX2_unlike_57 : eb_dc cX2_unlike 57 (.bipush 30) 2 59 := by decide +kernel
theorem dX2_unlike_59 : eb_dc cX2_unlike 59 (.iload 4) 2 61 := by decide +kernel
theorem dX2_unlike_61 : eb_dc cX2_unlike 61 (.imul) 1 62 := by decide +kernel
theorem dX2_unlike_62 : eb_dc cX2_unlike 62 (.invokevirtual 241) 3 65 := by decide +kernel
theorem dX2_unlike_65 : eb_dc cX2_unlike 65 (.iconst 1) 1 66 := by decide +kernel
theorem dX2_unlike_66 : eb_dc cX2_unlike 66 (.istore 6) 2 68 := by decide +kernel
theorem dX2_unlike_68 : eb_dc cX2_unlike 68 (.iconst 0) 1 69 := by decide +kernel
theorem dX2_unlike_69 : eb_dc cX2_unlike 69 (.istore 7) 2 71 := by decide +kernel
theorem dX2_unlike_71 : eb_dc cX2_unlike 71 (.iload 7) 2 73 := by decide +kernel
theorem dX2_unlike_73 : eb_dc cX2_unlike 73 (.iload 4) 2 75 := by decide +kernel
theorem dX2_unlike_75 : eb_dj cX2_unlike 75 (.if_icmp .ge 36) 36 78 111 := by decide +kernel
theorem dX2_unlike_78 : eb_dc cX2_unlike 78 (.iload 6) 2 80 := by decide +kernel
theorem dX2_unlike_80 : eb_dc cX2_unlike 80 (.aload_n 0) 1 81 := by decide +kernel
theorem dX2_unlike_81 : eb_dc cX2_unlike 81 (.bipush 30) 2 83 := by decide +kernel
theorem dX2_unlike_83 : eb_dc cX2_unlike 83 (.iload 7) 2 85 := by decide +kernel
theorem dX2_unlike_85 : eb_dc cX2_unlike 85 (.imul) 1 86 := by decide +kernel
theorem dX2_unlike_86 : eb_dc cX2_unlike 86 (.bipush 30) 2 88 := by decide +kernel
theorem dX2_unlike_88 : eb_dc cX2_unlike 88 (.iload 4) 2 90 := by decide +kernel
theorem dX2_unlike_90 : eb_dc cX2_unlike 90 (.imul) 1 91 := by decide +kernel
theorem dX2_unlike_91 : eb_dc cX2_unlike 91 (.invokevirtual 244) 3 94 := by decide +kernel
theorem dX2_unlike_94 : eb_dj cX2_unlike 94 (.ifCond .ne 7) 7 97 101 := by decide +kernel
theorem dX2_unlike_97 : eb_dc cX2_unlike 97 (.iconst 1) 1 98 := by decide +kernel
theorem dX2_unlike_98 : eb_dj cX2_unlike 98 (.goto 4) 4 101 102 := by decide +kernel
theorem dX2_unlike_101 : eb_dc cX2_unlike 101 (.iconst 0) 1 102 := by decide +kernel
theorem dX2_unlike_102 : eb_dc cX2_unlike 102 (.iand) 1 103 := by decide +kernel
theorem dX2_unlike_103 : eb_dc cX2_unlike 103 (.istore 6) 2 105 := by decide +kernel
theorem dX2_unlike_105 : eb_dc cX2_unlike 105 (.iinc 7 1) 3 108 := by decide +kernel
theorem dX2_unlike_108 : eb_dj cX2_unlike 108 (.goto (-37)) (-37) 111 71 := by decide +kernel
theorem dX2_unlike_111 : eb_dc cX2_unlike 111 (.iload 4) 2 113 := by decide +kernel
theorem dX2_unlike_113 : eb_dc cX2_unlike 113 (.iload 6) 2 115 := by decide +kernel
theorem dX2_unlike_115 : eb_dj cX2_unlike 115 (.ifCond .eq 7) 7 118 122 := by decide +kernel
theorem dX2_unlike_118 : eb_dc cX2_unlike 118 (.iconst 1) 1 119 := by decide +kernel
theorem dX2_unlike_119 : eb_dj cX2_unlike 119 (.goto 4) 4 122 123 := by decide +kernel
theorem dX2_unlike_122 : eb_dc cX2_unlike 122 (.iconst 0) 1 123 := by decide +kernel
theorem dX2_unlike_123 : eb_dc cX2_unlike 123 (.iadd) 1 124 := by decide +kernel
theorem dX2_unlike_124 : eb_dc cX2_unlike 124 (.istore 4) 2 126 := by decide +kernel
theorem dX2_unlike_126 : eb_dc cX2_unlike 126 (.iinc 5 1) 3 129 := by decide +kernel
theorem dX2_unlike_129 : eb_dj cX2_unlike 129 (.goto (-99)) (-99) 132 30 := by decide +kernel
theorem dX2_unlike_132 : eb_dc cX2_unlike 132 (.aload_n 0) 1 133 := by decide +kernel
theorem dX2_unlike_133 : eb_dc cX2_unlike 133 (.getfield 16) 3 136 := by decide +kernel
theorem dX2_unlike_136 : eb_dc cX2_unlike 136 (.iload_n 1) 1 137 := by decide +kernel
theorem dX2_unlike_137 : eb_dc cX2_unlike 137 (.iload_n 3) 1 138 := by decide +kernel
theorem dX2_unlike_138 : eb_dc cX2_unlike 138 (.iastore) 1 139 := by decide +kernel
theorem dX2_unlike_139 : eb_dc cX2_unlike 139 (.aload_n 0) 1 140 := by decide +kernel
theorem dX2_unlike_140 : eb_dc cX2_unlike 140 (.iconst (-1)) 1 141 := by decide +kernel
theorem dX2_unlike_141 : eb_dc cX2_unlike 141 (.putfield 22) 3 144 := by decide +kernel
theorem dX2_unlike_144 : eb_dc cX2_unlike 144 (.iload 4) 2 146 := by decide +kernel
theorem dX2_unlike_146 : eb_dc cX2_unlike 146 (.ireturn) 1 147 := by decide +kernel
theorem ctX2_unlike {l : Launch} {Γ : eb_C} {ad : Nat → Nat} {ix : Nat → Option Nat} {σ : eb_MS} {a1 : Int32} {K : Int32 → eb_MS → Prop} (hi : ms_inv ad ix) (h : MX2_unlike σ a1 K) : eb_Ct l Γ yX2_unlike cX2_unlike 8 (some .int) rmX2_unlike [.ref (ad 0), .int a1] (ms_st Γ ad ix σ) (em_I Γ ad ix K) := by
  refine eb_of (by decide) (Nat.le_of_ble_eq_true rfl) (fun X P hP _ => ?_)
  show eb_G l Γ P X cX2_unlike RX2 8 (some .int) rmX2_unlike 0 [(0, .ref (ad 0)), (1, .int a1)] [] (ms_st Γ ad ix σ) 0 0
  refine eg_aload_n 0 dX2_unlike_0 rfl rfl ?_
  refine eg_iconst dX2_unlike_1 kc_0 ?_
  refine em_puts 0 rfl q1142 dX2_unlike_2 hi (fun g1 eg1 => ?_)
  replace h := h g1 eg1
  refine eg_aload_n 0 dX2_unlike_5 rfl rfl ?_
  refine eg_iload_n 1 dX2_unlike_6 rfl rfl ?_
  refine em_cvi (rest := []) (ctX2_refusesThree hi h) hi (lw_V q1485 q1487 qs59 q77 q1488) rfl nX2_refusesThree ⟨Nat.le_of_ble_eq_true rfl, Nat.le_of_ble_eq_true rfl⟩ ⟨rfl, rfl⟩ ⟨Nat.zero_le _, Nat.zero_le _⟩ rfl rfl (Nat.le_of_ble_eq_true rfl) dX2_unlike_7 (fun v2 g3 h => ?_)
  refine eg_istore_n (lv' := [(2, .int v2), (0, .ref (ad 0)), (1, .int a1)]) dX2_unlike_10 rfl (Nat.le_of_ble_eq_true rfl) rfl ?_
  refine eg_iload_n 0 dX2_unlike_11 rfl rfl ?_
  refine eg_if_ge dX2_unlike_12 (fun c35 => ?_) (fun c35 => ?_)
  · replace h := h.1 c35
    refine eg_aload_n 1 dX2_unlike_17 rfl rfl ?_
    refine em_geta 3 rfl q1145 dX2_unlike_18 hi ?_
    refine eg_iload_n 2 dX2_unlike_21 rfl rfl ?_
    obtain ⟨hb, h⟩ := h
    refine em_iald 3 rfl hb dX2_unlike_22 hi (fun v4 ev4 => ?_)
    replace h := h v4 ev4
    refine eg_istore_n (lv' := [(3, .int v4), (2, .int v2), (0, .ref (ad 0)), (1, .int a1)]) dX2_unlike_23 rfl (Nat.le_of_ble_eq_true rfl) rfl ?_
    refine eg_iconst dX2_unlike_24 kc_0 ?_
    refine eg_istore (lv' := [(4, .int 0), (3, .int v4), (2, .int v2), (0, .ref (ad 0)), (1, .int a1)]) dX2_unlike_25 (Nat.le_of_ble_eq_true rfl) rfl ?_
    refine eg_iconst dX2_unlike_27 kc_1 ?_
    refine eg_istore (lv' := [(5, .int 1), (4, .int 0), (3, .int v4), (2, .int v2), (0, .ref (ad 0)), (1, .int a1)]) dX2_unlike_28 (Nat.le_of_ble_eq_true rfl) rfl ?_
    refine eb_jp2_e (J := fun (x4_5 : Int32) (g6 : eb_MS) => eb_G l Γ P X cX2_unlike RX2 8 (some .int) rmX2_unlike 132 [(0, .ref (ad 0)), (1, .int a1), (3, .int v4), (4, .int x4_5)] [] (ms_st Γ ad ix g6) 0 0) h ?_ ?_
    · intro x4_5 g6 h
      refine eg_aload_n 0 dX2_unlike_132 rfl rfl ?_
      refine em_geta 3 rfl q1145 dX2_unlike_133 hi ?_
      refine eg_iload_n 1 dX2_unlike_136 rfl rfl ?_
      refine eg_iload_n 2 dX2_unlike_137 rfl rfl ?_
      obtain ⟨hb, h⟩ := h
      refine em_iast 3 rfl hb dX2_unlike_138 hi (fun g7 eg7 => ?_)
      replace h := h g7 eg7
      refine eg_aload_n 0 dX2_unlike_139 rfl rfl ?_
      refine eg_iconst dX2_unlike_140 kc_m1 ?_
      refine em_puts 5 rfl q1147 dX2_unlike_141 hi (fun g8 eg8 => ?_)
      replace h := h g8 eg8
      refine eg_iload 3 dX2_unlike_144 rfl ?_
      exact eg_iret dX2_unlike_146 (Nat.zero_le _) (Nat.zero_le _) (hP _ _ ⟨_, _, rfl, rfl, h⟩)
    · intro k9 hk9 h
      refine eg_sub [4, 5, 2, 1, 0] rfl ?_
      refine eb_loop3_e (J := fun (x4_10 : Int32) (x5_11 : Int32) (g12 : eb_MS) => eb_G l Γ P X cX2_unlike RX2 8 (some .int) rmX2_unlike 30 [(0, .ref (ad 0)), (1, .int a1), (3, .int v4), (4, .int x4_10), (5, .int x5_11)] [] (ms_st Γ ad ix g12) 0 0) h ?_
      intro r13 hr13 x4_10 x5_11 g12 h
      refine eg_iload 4 dX2_unlike_30 rfl ?_
      refine eg_bipush dX2_unlike_32 kb_8 ?_
      refine eg_icmp_ge dX2_unlike_34 (fun c34 => ?_) (fun c34 => ?_)
      · replace h := h.1 c34
        exact eg_sub [0, 1, 2, 3] rfl (hk9 x4_10 g12 h)
      · replace h := h.2 c34
        refine eg_aload_n 0 dX2_unlike_37 rfl rfl ?_
        refine em_geta 3 rfl q1145 dX2_unlike_38 hi ?_
        refine eg_iload_n 1 dX2_unlike_41 rfl rfl ?_
        refine eg_iload 4 dX2_unlike_42 rfl ?_
        obtain ⟨hb, h⟩ := h
        refine em_iast 3 rfl hb dX2_unlike_44 hi (fun g14 eg14 => ?_)
        replace h := h g14 eg14
        refine eg_aload_n 0 dX2_unlike_45 rfl rfl ?_
        refine eg_iconst dX2_unlike_46 kc_m1 ?_
        refine em_puts 5 rfl q1147 dX2_unlike_47 hi (fun g15 eg15 => ?_)
        replace h := h g15 eg15
        refine eg_aload_n 0 dX2_unlike_50 rfl rfl ?_
        refine eg_iload_n 1 dX2_unlike_51 rfl rfl ?_
        refine em_cvi (rest := []) (ctX2_loads hi h) hi (lw_V q1294 q1296 qs40 q77 q1297) rfl nX2_loads ⟨Nat.le_of_ble_eq_true rfl, Nat.le_of_ble_eq_true rfl⟩ ⟨rfl, rfl⟩ ⟨Nat.zero_le _, Nat.zero_le _⟩ rfl rfl (Nat.le_of_ble_eq_true rfl) dX2_unlike_52 (fun v16 g17 h => ?_)
        refine eg_pop dX2_unlike_55 rfl ?_
        refine eg_aload_n 0 dX2_unlike_56 rfl rfl ?_
        refine eg_bipush dX2_unlike_57 kb_30 ?_
        refine eg_iload 3 dX2_unlike_59 rfl ?_
        refine eg_imul dX2_unlike_61 ?_
        refine em_cvv (rest := []) (ctX2_signs hi h) hi (lw_V q1521 q1523 qs67 q77 q1524) rfl nX2_signs ⟨Nat.le_of_ble_eq_true rfl, Nat.le_of_ble_eq_true rfl⟩ ⟨rfl, rfl⟩ ⟨Nat.zero_le _, Nat.zero_le _⟩ rfl rfl (Nat.le_of_ble_eq_true rfl) dX2_unlike_62 (fun g19 h => ?_)
        refine eg_iconst dX2_unlike_65 kc_1 ?_
        refine eg_istore (lv' := [(6, .int 1), (0, .ref (ad 0)), (1, .int a1), (3, .int v4), (4, .int x4_10), (5, .int x5_11)]) dX2_unlike_66 (Nat.le_of_ble_eq_true rfl) rfl ?_
        refine eg_iconst dX2_unlike_68 kc_0 ?_
        refine eg_istore (lv' := [(7, .int 0), (6, .int 1), (0, .ref (ad 0)), (1, .int a1), (3, .int v4), (4, .int x4_10), (5, .int x5_11)]) dX2_unlike_69 (Nat.le_of_ble_eq_true rfl) rfl ?_
        refine eb_jp1_e (J := fun (x6_20 : Int32) => eb_G l Γ P X cX2_unlike RX2 8 (some .int) rmX2_unlike 111 [(0, .ref (ad 0)), (1, .int a1), (3, .int v4), (4, .int x4_10), (5, .int x5_11), (6, .int x6_20)] [] (ms_st Γ ad ix g19) 0 0) h ?_ ?_
        · intro x6_20 h
          refine eg_iload 3 dX2_unlike_111 rfl ?_
          refine eg_iload 5 dX2_unlike_113 rfl ?_
          refine eb_jp1_e (J := fun (s21 : Int32) => eb_G l Γ P X cX2_unlike RX2 8 (some .int) rmX2_unlike 123 [(0, .ref (ad 0)), (1, .int a1), (3, .int v4), (5, .int x5_11)] [.int s21, .int x4_10] (ms_st Γ ad ix g19) 0 0) h ?_ ?_
          · intro s21 h
            refine eg_iadd dX2_unlike_123 ?_
            refine eg_istore (lv' := [(4, .int (x4_10 + s21)), (0, .ref (ad 0)), (1, .int a1), (3, .int v4), (5, .int x5_11)]) dX2_unlike_124 (Nat.le_of_ble_eq_true rfl) rfl ?_
            refine eg_iinc (j := 4) (lv' := [(5, .int (x5_11 + 1)), (4, .int (x4_10 + s21)), (0, .ref (ad 0)), (1, .int a1), (3, .int v4)]) dX2_unlike_126 rfl (by rw [kc_1]) (Nat.le_of_ble_eq_true rfl) rfl ?_
            refine eg_goto dX2_unlike_129 ?_
            exact eg_sub [2, 3, 4, 1, 0] rfl (hr13 (x4_10 + s21) (x5_11 + 1) g19 h)
          · intro k22 hk22 h
            refine eg_if_eq dX2_unlike_115 (fun c23 => ?_) (fun c23 => ?_)
            · replace h := h.1 c23
              refine eg_iconst dX2_unlike_122 kc_0 ?_
              exact eg_sub [0, 1, 2, 4] rfl (hk22 0 h)
            · replace h := h.2 c23
              refine eg_iconst dX2_unlike_118 kc_1 ?_
              refine eg_goto dX2_unlike_119 ?_
              exact eg_sub [0, 1, 2, 4] rfl (hk22 1 h)
        · intro k24 hk24 h
          refine eg_sub [2, 3, 4, 5, 6, 1, 0] rfl ?_
          refine eb_loop2_e (J := fun (x6_25 : Int32) (x7_26 : Int32) => eb_G l Γ P X cX2_unlike RX2 8 (some .int) rmX2_unlike 71 [(0, .ref (ad 0)), (1, .int a1), (3, .int v4), (4, .int x4_10), (5, .int x5_11), (6, .int x6_25), (7, .int x7_26)] [] (ms_st Γ ad ix g19) 0 0) h ?_
          intro r27 hr27 x6_25 x7_26 h
          refine eg_iload 6 dX2_unlike_71 rfl ?_
          refine eg_iload 3 dX2_unlike_73 rfl ?_
          refine eg_icmp_ge dX2_unlike_75 (fun c33 => ?_) (fun c33 => ?_)
          · replace h := h.1 c33
            exact eg_sub [0, 1, 2, 3, 4, 5] rfl (hk24 x6_25 h)
          · replace h := h.2 c33
            refine eg_iload 5 dX2_unlike_78 rfl ?_
            refine eg_aload_n 0 dX2_unlike_80 rfl rfl ?_
            refine eg_bipush dX2_unlike_81 kb_30 ?_
            refine eg_iload 6 dX2_unlike_83 rfl ?_
            refine eg_imul dX2_unlike_85 ?_
            refine eg_bipush dX2_unlike_86 kb_30 ?_
            refine eg_iload 3 dX2_unlike_88 rfl ?_
            refine eg_imul dX2_unlike_90 ?_
            refine em_cvp (rest := [.int x6_25]) (ctX2_isLike hi h) hi (lw_V q1525 q1527 qs68 q77 q1528) rfl nX2_isLike ⟨Nat.le_of_ble_eq_true rfl, Nat.le_of_ble_eq_true rfl⟩ ⟨rfl, rfl⟩ ⟨Nat.zero_le _, Nat.zero_le _⟩ rfl rfl (Nat.le_of_ble_eq_true rfl) dX2_unlike_91 (fun v28 h => ?_)
            refine eb_jp1_e (J := fun (s30 : Int32) => eb_G l Γ P X cX2_unlike RX2 8 (some .int) rmX2_unlike 102 [(0, .ref (ad 0)), (1, .int a1), (3, .int v4), (4, .int x4_10), (5, .int x5_11), (7, .int x7_26)] [.int s30, .int x6_25] (ms_st Γ ad ix g19) 0 0) h ?_ ?_
            · intro s30 h
              refine eg_iand dX2_unlike_102 ?_
              refine eg_istore (lv' := [(6, .int (x6_25 &&& s30)), (0, .ref (ad 0)), (1, .int a1), (3, .int v4), (4, .int x4_10), (5, .int x5_11), (7, .int x7_26)]) dX2_unlike_103 (Nat.le_of_ble_eq_true rfl) rfl ?_
              refine eg_iinc (j := 6) (lv' := [(7, .int (x7_26 + 1)), (6, .int (x6_25 &&& s30)), (0, .ref (ad 0)), (1, .int a1), (3, .int v4), (4, .int x4_10), (5, .int x5_11)]) dX2_unlike_105 rfl (by rw [kc_1]) (Nat.le_of_ble_eq_true rfl) rfl ?_
              refine eg_goto dX2_unlike_108 ?_
              exact eg_sub [2, 3, 4, 5, 6, 1, 0] rfl (hr27 (x6_25 &&& s30) (x7_26 + 1) h)
            · intro k31 hk31 h
              refine eg_if_ne dX2_unlike_94 (fun c32 => ?_) (fun c32 => ?_)
              · replace h := h.2 c32
                refine eg_iconst dX2_unlike_101 kc_0 ?_
                exact eg_sub [0, 1, 2, 3, 4, 6] rfl (hk31 0 h)
              · replace h := h.1 c32
                refine eg_iconst dX2_unlike_97 kc_1 ?_
                refine eg_goto dX2_unlike_98 ?_
                exact eg_sub [0, 1, 2, 3, 4, 6] rfl (hk31 1 h)
  · replace h := h.2 c35
    refine eg_iload_n 0 dX2_unlike_15 rfl rfl ?_
    exact eg_iret dX2_unlike_16 (Nat.zero_le _) (Nat.zero_le _) (hP _ _ ⟨_, _, rfl, rfl, h⟩)
def MX2_snubs (σ : eb_MS) (K : Int32 → eb_MS → Prop) : Prop :=
  eb_jp2 (fun (x1_1 : Int32) (g2 : eb_MS) => eb_jp1 (fun (g3 : eb_MS) => eb_loop2 (fun r6 (x2_4 : Int32) (g5 : eb_MS) => eb_br ((g5.1 8) ≤ x2_4) (K x1_1 g5) (eb_jp1 (fun (g7 : eb_MS) => r6 (x2_4 + 1) g7) (fun k8 => eb_loop2 (fun r11 (x3_9 : Int32) (g10 : eb_MS) => eb_br (3 ≤ x3_9) (k8 g10) (eb_rd (g10.2.1 33) 500 x2_4 (fun v12 => eb_br (v12 < 0) (k8 g10) (eb_jp1 (fun (g13 : eb_MS) => r11 (x3_9 + 1) g13) (fun k14 => eb_loop2 (fun r17 (x4_15 : Int32) (g16 : eb_MS) => eb_br (3 ≤ x4_15) (k14 g16) (eb_rd (g16.2.1 11) 2000 (((4 * x2_4) + x3_9)) (fun v18 => eb_rd (g16.2.1 11) 2000 (((4 * v18) + x4_15)) (fun v19 => eb_jp1 (fun (g20 : eb_MS) => r17 (x4_15 + 1) g20) (fun k21 => eb_br (x3_9 = x4_15) (k21 g16) (eb_rd (g16.2.1 33) 500 x2_4 (fun v22 => eb_rd (g16.2.1 33) 500 v19 (fun v23 => ms_wr g16 26 250000 (((500 * v22) + v23)) (vp_nar .boolean 1) (fun g24 => eb_rd (g24.2.1 33) 500 v19 (fun v25 => eb_rd (g24.2.1 33) 500 x2_4 (fun v26 => ms_wr g24 26 250000 (((500 * v25) + v26)) (vp_nar .boolean 1) (fun g27 => k21 g27)))))))))))) 0 g10))))) 0 g5))) 0 g3) (fun k33 => eb_loop2 (fun r36 (x2_34 : Int32) (g35 : eb_MS) => eb_br (250000 ≤ x2_34) (k33 g35) (ms_wr g35 26 250000 x2_34 (vp_nar .boolean 0) (fun g37 => r36 (x2_34 + 1) g37))) 0 g2)) (fun k39 => eb_loop3 (fun r43 (x1_40 : Int32) (x2_41 : Int32) (g42 : eb_MS) => eb_br ((g42.1 8) ≤ x2_41) (k39 x1_40 g42) (eb_rd (g42.2.1 12) 500 x2_41 (fun v44 => eb_jp1 (fun (s45 : Int32) => ms_wr g42 33 500 x2_41 s45 (fun g46 => eb_rd (g46.2.1 12) 500 x2_41 (fun v47 => eb_jp1 (fun (s48 : Int32) => r43 (x1_40 + s48) (x2_41 + 1) g46) (fun k49 => eb_br ((eb_rem v47 2) = 0) (k49 1) (k49 0))))) (fun k51 => eb_br ((eb_rem v44 2) = 0) (k51 x1_40) (k51 (-1)))))) 0 0 σ)
abbrev rmX2_snubs : Room := { frames := 1, cells := 0, slots := 0, locals := 12 }
theorem nX2_snubs : eb_ar yX2_snubs 0 := by decide +kernel
theorem dX2_snubs_0 : eb_dc cX2_snubs 0 (.iconst 0) 1 1 := by decide +kernel
theorem dX2_snubs_1 : eb_dc cX2_snubs 1 (.istore_n 1) 1 2 := by decide +kernel
theorem dX2_snubs_2 : eb_dc cX2_snubs 2 (.iconst 0) 1 3 := by decide +kernel
theorem dX2_snubs_3 : eb_dc cX2_snubs 3 (.istore_n 2) 1 4 := by decide +kernel
theorem dX2_snubs_4 : eb_dc cX2_snubs 4 (.iload_n 2) 1 5 := by decide +kernel
theorem dX2_snubs_5 : eb_dc cX2_snubs 5 (.aload_n 0) 1 6 := by decide +kernel
theorem dX2_snubs_6 : eb_dc cX2_snubs 6 (.getfield 135) 3 9 := by decide +kernel
theorem dX2_snubs_9 : eb_dj cX2_snubs 9 (.if_icmp .ge 50) 50 12 59 := by decide +kernel
theorem dX2_snubs_12 : eb_dc cX2_snubs 12 (.aload_n 0) 1 13 := by decide +kernel
theorem dX2_snubs_13 : eb_dc cX2_snubs 13 (.getfield 92) 3 16 := by decide +kernel
theorem dX2_snubs_16 : eb_dc cX2_snubs 16 (.iload_n 2) 1 17 := by decide +kernel
theorem dX2_snubs_17 : eb_dc cX2_snubs 17 (.aload_n 0) 1 18 := by decide +kernel
theorem dX2_snubs_18 : eb_dc cX2_snubs 18 (.getfield 35) 3 21 := by decide +kernel
theorem dX2_snubs_21 : eb_dc cX2_snubs 21 (.iload_n 2) 1 22 := by decide +kernel
theorem dX2_snubs_22 : eb_dc cX2_snubs 22 (.iaload) 1 23 := by decide +kernel
theorem dX2_snubs_23 : eb_dc cX2_snubs 23 (.iconst 2) 1 24 := by decide +kernel
theorem dX2_snubs_24 : eb_dc cX2_snubs 24 (.irem) 1 25 := by decide +kernel
theorem dX2_snubs_25 : eb_dj cX2_snubs 25 (.ifCond .ne 7) 7 28 32 := by decide +kernel
theorem dX2_snubs_28 : eb_dc cX2_snubs 28 (.iload_n 1) 1 29 := by decide +kernel
theorem dX2_snubs_29 : eb_dj cX2_snubs 29 (.goto 4) 4 32 33 := by decide +kernel
theorem dX2_snubs_32 : eb_dc cX2_snubs 32 (.iconst (-1)) 1 33 := by decide +kernel
theorem dX2_snubs_33 : eb_dc cX2_snubs 33 (.iastore) 1 34 := by decide +kernel
theorem dX2_snubs_34 : eb_dc cX2_snubs 34 (.iload_n 1) 1 35 := by decide +kernel
theorem dX2_snubs_35 : eb_dc cX2_snubs 35 (.aload_n 0) 1 36 := by decide +kernel
theorem dX2_snubs_36 : eb_dc cX2_snubs 36 (.getfield 35) 3 39 := by decide +kernel
theorem dX2_snubs_39 : eb_dc cX2_snubs 39 (.iload_n 2) 1 40 := by decide +kernel
theorem dX2_snubs_40 : eb_dc cX2_snubs 40 (.iaload) 1 41 := by decide +kernel
theorem dX2_snubs_41 : eb_dc cX2_snubs 41 (.iconst 2) 1 42 := by decide +kernel
theorem dX2_snubs_42 : eb_dc cX2_snubs 42 (.irem) 1 43 := by decide +kernel
theorem dX2_snubs_43 : eb_dj cX2_snubs 43 (.ifCond .ne 7) 7 46 50 := by decide +kernel
theorem dX2_snubs_46 : eb_dc cX2_snubs 46 (.iconst 1) 1 47 := by decide +kernel
theorem dX2_snubs_47 : eb_dj cX2_snubs 47 (.goto 4) 4 50 51 := by decide +kernel
theorem dX2_snubs_50 : eb_dc cX2_snubs 50 (.iconst 0) 1 51 := by decide +kernel
theorem dX2_snubs_51 : eb_dc cX2_snubs 51 (.iadd) 1 52 := by decide +kernel
theorem dX2_snubs_52 : eb_dc cX2_snubs 52 (.istore_n 1) 1 53 := by decide +kernel
theorem dX2_snubs_53 : eb_dc cX2_snubs 53 (.iinc 2 1) 3 56 := by decide +kernel
theorem dX2_snubs_56 : eb_dj cX2_snubs 56 (.goto (-52)) (-52) 59 4 := by decide +kernel
theorem dX2_snubs_59 : eb_dc cX2_snubs 59 (.iconst 0) 1 60 := by decide +kernel
theorem dX2_snubs_60 : eb_dc cX2_snubs 60 (.istore_n 2) 1 61 := by decide +kernel
theorem dX2_snubs_61 : eb_dc cX2_snubs 61 (.iload_n 2) 1 62 := by decide +kernel
theorem dX2_snubs_62 : eb_dc cX2_snubs 62 (.ldc 73) 2 64 := by decide +kernel
theorem dX2_snubs_64 : eb_dj cX2_snubs 64 (.if_icmp .ge 16) 16 67 80 := by decide +kernel
theorem dX2_snubs_67 : eb_dc cX2_snubs 67 (.aload_n 0) 1 68 := by decide +kernel
theorem dX2_snubs_68 : eb_dc cX2_snubs 68 (.getfield 74) 3 71 := by decide +kernel
theorem dX2_snubs_71 : eb_dc cX2_snubs 71 (.iload_n 2) 1 72 := by decide +kernel
theorem dX2_snubs_72 : eb_dc cX2_snubs 72 (.iconst 0) 1 73 := by decide +kernel
theorem dX2_snubs_73 : eb_dc cX2_snubs 73 (.bastore) 1 74 := by decide +kernel
theorem dX2_snubs_74 : eb_dc cX2_snubs 74 (.iinc 2 1) 3 77 := by decide +kernel
theorem dX2_snubs_77 : eb_dj cX2_snubs 77 (.goto (-16)) (-16) 80 61 := by decide +kernel
theorem dX2_snubs_80 : eb_dc cX2_snubs 80 (.iconst 0) 1 81 := by decide +kernel
theorem dX2_snubs_81 : eb_dc cX2_snubs 81 (.istore_n 2) 1 82 := by decide +kernel
theorem dX2_snubs_82 : eb_dc cX2_snubs 82 (.iload_n 2) 1 83 := by decide +kernel
theorem dX2_snubs_83 : eb_dc cX2_snubs 83 (.aload_n 0) 1 84 := by decide +kernel
theorem dX2_snubs_84 : eb_dc cX2_snubs 84 (.getfield 135) 3 87 := by decide +kernel
theorem dX2_snubs_87 : eb_dj cX2_snubs 87 (.if_icmp .ge 122) 122 90 209 := by decide +kernel
theorem dX2_snubs_90 : eb_dc cX2_snubs 90 (.iconst 0) 1 91 := by decide +kernel
theorem dX2_snubs_91 : eb_dc cX2_snubs 91 (.istore_n 3) 1 92 := by decide +kernel
theorem dX2_snubs_92 : eb_dc cX2_snubs 92 (.iload_n 3) 1 93 := by decide +kernel
theorem dX2_snubs_93 : eb_dc cX2_snubs 93 (.iconst 3) 1 94 := by decide +kernel
theorem dX2_snubs_94 : eb_dj cX2_snubs 94 (.if_icmp .ge 109) 109 97 203 := by decide +kernel
theorem dX2_snubs_97 : eb_dc cX2_snubs 97 (.aload_n 0) 1 98 := by decide +kernel
theorem dX2_snubs_98 : eb_dc cX2_snubs 98 (.getfield 92) 3 101 := by decide +kernel
theorem dX2_snubs_101 : eb_dc cX2_snubs 101 (.iload_n 2) 1 102 := by decide +kernel
theorem dX2_snubs_102 : eb_dc cX2_snubs 102 (.iaload) 1 103 := by decide +kernel
theorem dX2_snubs_103 : eb_dj cX2_snubs 103 (.ifCond .lt 100) 100 106 203 := by decide +kernel
theorem dX2_snubs_106 : eb_dc cX2_snubs 106 (.iconst 0) 1 107 := by decide +kernel
theorem dX2_snubs_107 : eb_dc cX2_snubs 107 (.istore 4) 2 109 := by decide +kernel
theorem dX2_snubs_109 : eb_dc cX2_snubs 109 (.iload 4) 2 111 := by decide +kernel
theorem dX2_snubs_111 : eb_dc cX2_snubs 111 (.iconst 3) 1 112 := by decide +kernel
theorem dX2_snubs_112 : eb_dj cX2_snubs 112 (.if_icmp .ge 85) 85 115 197 := by decide +kernel
theorem dX2_snubs_115 : eb_dc cX2_snubs 115 (.aload_n 0) 1 116 := by decide +kernel
theorem dX2_snubs_116 : eb_dc cX2_snubs 116 (.getfield 32) 3 119 := by decide +kernel
theorem dX2_snubs_119 : eb_dc cX2_snubs 119 (.iconst 4) 1 120 := by decide +kernel
theorem dX2_snubs_120 : eb_dc cX2_snubs 120 (.aload_n 0) 1 121 := by decide +kernel
theorem dX2_snubs_121 : eb_dc cX2_snubs 121 (.getfield 32) 3 124 := by decide +kernel
theorem dX2_snubs_124 : eb_dc cX2_snubs 124 (.iconst 4) 1 125 := by decide +kernel
theorem dX2_snubs_125 : eb_dc cX2_snubs 125 (.iload_n 2) 1 126 := by decide +kernel
theorem dX2_snubs_126 : eb_dc cX2_snubs 126 (.imul) 1 127 := by decide +kernel
theorem dX2_snubs_127 : eb_dc cX2_snubs 127 (.iload_n 3) 1 128 := by decide +kernel
theorem dX2_snubs_128 : eb_dc cX2_snubs 128 (.iadd) 1 129 := by decide +kernel
theorem dX2_snubs_129 : eb_dc cX2_snubs 129 (.iaload) 1 130 := by decide +kernel
theorem dX2_snubs_130 : eb_dc cX2_snubs 130 (.imul) 1 131 := by decide +kernel
theorem dX2_snubs_131 : eb_dc cX2_snubs 131 (.iload 4) 2 133 := by decide +kernel
theorem dX2_snubs_133 : eb_dc cX2_snubs 133 (.iadd) 1 134 := by decide +kernel
theorem dX2_snubs_134 : eb_dc cX2_snubs 134 (.iaload) 1 135 := by decide +kernel
theorem dX2_snubs_135 : eb_dc cX2_snubs 135 (.istore 5) 2 137 := by decide +kernel
theorem dX2_snubs_137 : eb_dc cX2_snubs 137 (.iload_n 3) 1 138 := by decide +kernel
theorem dX2_snubs_138 : eb_dc cX2_snubs 138 (.iload 4) 2 140 := by decide +kernel
theorem dX2_snubs_140 : eb_dj cX2_snubs 140 (.if_icmp .eq 51) 51 143 191 := by decide +kernel
theorem dX2_snubs_143 : eb_dc cX2_snubs 143 (.aload_n 0) 1 144 := by decide +kernel
theorem dX2_snubs_144 : eb_dc cX2_snubs 144 (.getfield 74) 3 147 := by decide +kernel
theorem dX2_snubs_147 : eb_dc cX2_snubs 147 (.sipush 500) 3 150 := by decide +kernel
theorem dX2_snubs_150 : eb_dc cX2_snubs 150 (.aload_n 0) 1 151 := by decide +kernel
theorem dX2_snubs_151 : eb_dc cX2_snubs 151 (.getfield 92) 3 154 := by decide +kernel
theorem dX2_snubs_154 : eb_dc cX2_snubs 154 (.iload_n 2) 1 155 := by decide +kernel
theorem dX2_snubs_155 : eb_dc cX2_snubs 155 (.iaload) 1 156 := by decide +kernel
theorem dX2_snubs_156 : eb_dc cX2_snubs 156 (.imul) 1 157 := by decide +kernel
theorem dX2_snubs_157 : eb_dc cX2_snubs 157 (.aload_n 0) 1 158 := by decide +kernel
theorem dX2_snubs_158 : eb_dc cX2_snubs 158 (.getfield 92) 3 161 := by decide +kernel
theorem dX2_snubs_161 : eb_dc cX2_snubs 161 (.iload 5) 2 163 := by decide +kernel
theorem dX2_snubs_163 : eb_dc cX2_snubs 163 (.iaload) 1 164 := by decide +kernel
theorem dX2_snubs_164 : eb_dc cX2_snubs 164 (.iadd) 1 165 := by decide +kernel
theorem dX2_snubs_165 : eb_dc cX2_snubs 165 (.iconst 1) 1 166 := by decide +kernel
theorem dX2_snubs_166 : eb_dc cX2_snubs 166 (.bastore) 1 167 := by decide +kernel
theorem dX2_snubs_167 : eb_dc cX2_snubs 167 (.aload_n 0) 1 168 := by decide +kernel
theorem dX2_snubs_168 : eb_dc cX2_snubs 168 (.getfield 74) 3 171 := by decide +kernel
theorem dX2_snubs_171 : eb_dc cX2_snubs 171 (.sipush 500) 3 174 := by decide +kernel
theorem dX2_snubs_174 : eb_dc cX2_snubs 174 (.aload_n 0) 1 175 := by decide +kernel
theorem dX2_snubs_175 : eb_dc cX2_snubs 175 (.getfield 92) 3 178 := by decide +kernel
theorem dX2_snubs_178 : eb_dc cX2_snubs 178 (.iload 5) 2 180 := by decide +kernel
theorem dX2_snubs_180 : eb_dc cX2_snubs 180 (.iaload) 1 181 := by decide +kernel
theorem dX2_snubs_181 : eb_dc cX2_snubs 181 (.imul) 1 182 := by decide +kernel
theorem dX2_snubs_182 : eb_dc cX2_snubs 182 (.aload_n 0) 1 183 := by decide +kernel
theorem dX2_snubs_183 : eb_dc cX2_snubs 183 (.getfield 92) 3 186 := by decide +kernel
theorem dX2_snubs_186 : eb_dc cX2_snubs 186 (.iload_n 2) 1 187 := by decide +kernel
theorem dX2_snubs_187 : eb_dc cX2_snubs 187 (.iaload) 1 188 := by decide +kernel
theorem dX2_snubs_188 : eb_dc cX2_snubs 188 (.iadd) 1 189 := by decide +kernel
theorem dX2_snubs_189 : eb_dc cX2_snubs 189 (.iconst 1) 1 190 := by decide +kernel
theorem dX2_snubs_190 : eb_dc cX2_snubs 190 (.bastore) 1 191 := by decide +kernel
theorem dX2_snubs_191 : eb_dc cX2_snubs 191 (.iinc 4 1) 3 194 := by decide +kernel
theorem dX2_snubs_194 : eb_dj cX2_snubs 194 (.goto (-85)) (-85) 197 109 := by decide +kernel
theorem dX2_snubs_197 : eb_dc cX2_snubs 197 (.iinc 3 1) 3 200 := by decide +kernel
theorem dX2_snubs_200 : eb_dj cX2_snubs 200 (.goto (-108)) (-108) 203 92 := by decide +kernel
theorem dX2_snubs_203 : eb_dc cX2_snubs 203 (.iinc 2 1) 3 206 := by decide +kernel
theorem dX2_snubs_206 : eb_dj cX2_snubs 206 (.goto (-124)) (-124) 209 82 := by decide +kernel
theorem dX2_snubs_209 : eb_dc cX2_snubs 209 (.iload_n 1) 1 210 := by decide +kernel
theorem dX2_snubs_210 : eb_dc cX2_snubs 210 (.ireturn) 1 211 := by decide +kernel
theorem ctX2_snubs {l : Launch} {Γ : eb_C} {ad : Nat → Nat} {ix : Nat → Option Nat} {σ : eb_MS} {K : Int32 → eb_MS → Prop} (hi : ms_inv ad ix) (h : MX2_snubs σ K) : eb_Ct l Γ yX2_snubs cX2_snubs 6 (some .int) rmX2_snubs [.ref (ad 0)] (ms_st Γ ad ix σ) (em_I Γ ad ix K) := by
  refine eb_of (by decide) (Nat.le_of_ble_eq_true rfl) (fun X P hP _ => ?_)
  show eb_G l Γ P X cX2_snubs RX2 6 (some .int) rmX2_snubs 0 [(0, .ref (ad 0))] [] (ms_st Γ ad ix σ) 0 0
  refine eg_iconst dX2_snubs_0 kc_0 ?_
  refine eg_istore_n (lv' := [(1, .int 0), (0, .ref (ad 0))]) dX2_snubs_1 rfl (Nat.le_of_ble_eq_true rfl) rfl ?_
  refine eg_iconst dX2_snubs_2 kc_0 ?_
  refine eg_istore_n (lv' := [(2, .int 0), (1, .int 0), (0, .ref (ad 0))]) dX2_snubs_3 rfl (Nat.le_of_ble_eq_true rfl) rfl ?_
  refine eb_jp2_e (J := fun (x1_1 : Int32) (g2 : eb_MS) => eb_G l Γ P X cX2_snubs RX2 6 (some .int) rmX2_snubs 59 [(0, .ref (ad 0)), (1, .int x1_1)] [] (ms_st Γ ad ix g2) 0 0) h ?_ ?_
  · intro x1_1 g2 h
    refine eg_iconst dX2_snubs_59 kc_0 ?_
    refine eg_istore_n (lv' := [(2, .int 0), (0, .ref (ad 0)), (1, .int x1_1)]) dX2_snubs_60 rfl (Nat.le_of_ble_eq_true rfl) rfl ?_
    refine eb_jp1_e (J := fun (g3 : eb_MS) => eb_G l Γ P X cX2_snubs RX2 6 (some .int) rmX2_snubs 80 [(0, .ref (ad 0)), (1, .int x1_1)] [] (ms_st Γ ad ix g3) 0 0) h ?_ ?_
    · intro g3 h
      refine eg_iconst dX2_snubs_80 kc_0 ?_
      refine eg_istore_n (lv' := [(2, .int 0), (0, .ref (ad 0)), (1, .int x1_1)]) dX2_snubs_81 rfl (Nat.le_of_ble_eq_true rfl) rfl ?_
      refine eg_sub [1, 2, 0] rfl ?_
      refine eb_loop2_e (J := fun (x2_4 : Int32) (g5 : eb_MS) => eb_G l Γ P X cX2_snubs RX2 6 (some .int) rmX2_snubs 82 [(0, .ref (ad 0)), (1, .int x1_1), (2, .int x2_4)] [] (ms_st Γ ad ix g5) 0 0) h ?_
      intro r6 hr6 x2_4 g5 h
      refine eg_iload_n 2 dX2_snubs_82 rfl rfl ?_
      refine eg_aload_n 0 dX2_snubs_83 rfl rfl ?_
      refine em_gets 8 rfl q1150 dX2_snubs_84 hi ?_
      refine eg_icmp_ge dX2_snubs_87 (fun c32 => ?_) (fun c32 => ?_)
      · replace h := h.1 c32
        refine eg_iload_n 1 dX2_snubs_209 rfl rfl ?_
        exact eg_iret dX2_snubs_210 (Nat.zero_le _) (Nat.zero_le _) (hP _ _ ⟨_, _, rfl, rfl, h⟩)
      · replace h := h.2 c32
        refine eg_iconst dX2_snubs_90 kc_0 ?_
        refine eg_istore_n (lv' := [(3, .int 0), (0, .ref (ad 0)), (1, .int x1_1), (2, .int x2_4)]) dX2_snubs_91 rfl (Nat.le_of_ble_eq_true rfl) rfl ?_
        refine eb_jp1_e (J := fun (g7 : eb_MS) => eb_G l Γ P X cX2_snubs RX2 6 (some .int) rmX2_snubs 203 [(0, .ref (ad 0)), (1, .int x1_1), (2, .int x2_4)] [] (ms_st Γ ad ix g7) 0 0) h ?_ ?_
        · intro g7 h
          refine eg_iinc (j := 2) (lv' := [(2, .int (x2_4 + 1)), (0, .ref (ad 0)), (1, .int x1_1)]) dX2_snubs_203 rfl (by rw [kc_1]) (Nat.le_of_ble_eq_true rfl) rfl ?_
          refine eg_goto dX2_snubs_206 ?_
          exact eg_sub [1, 2, 0] rfl (hr6 (x2_4 + 1) g7 h)
        · intro k8 hk8 h
          refine eg_sub [1, 2, 3, 0] rfl ?_
          refine eb_loop2_e (J := fun (x3_9 : Int32) (g10 : eb_MS) => eb_G l Γ P X cX2_snubs RX2 6 (some .int) rmX2_snubs 92 [(0, .ref (ad 0)), (1, .int x1_1), (2, .int x2_4), (3, .int x3_9)] [] (ms_st Γ ad ix g10) 0 0) h ?_
          intro r11 hr11 x3_9 g10 h
          refine eg_iload_n 3 dX2_snubs_92 rfl rfl ?_
          refine eg_iconst dX2_snubs_93 kc_3 ?_
          refine eg_icmp_ge dX2_snubs_94 (fun c31 => ?_) (fun c31 => ?_)
          · replace h := h.1 c31
            exact eg_sub [0, 1, 2] rfl (hk8 g10 h)
          · replace h := h.2 c31
            refine eg_aload_n 0 dX2_snubs_97 rfl rfl ?_
            refine em_geta 33 rfl q1175 dX2_snubs_98 hi ?_
            refine eg_iload_n 2 dX2_snubs_101 rfl rfl ?_
            obtain ⟨hb, h⟩ := h
            refine em_iald 33 rfl hb dX2_snubs_102 hi (fun v12 ev12 => ?_)
            replace h := h v12 ev12
            refine eg_if_lt dX2_snubs_103 (fun c30 => ?_) (fun c30 => ?_)
            · replace h := h.1 c30
              exact eg_sub [0, 1, 2] rfl (hk8 g10 h)
            · replace h := h.2 c30
              refine eg_iconst dX2_snubs_106 kc_0 ?_
              refine eg_istore (lv' := [(4, .int 0), (0, .ref (ad 0)), (1, .int x1_1), (2, .int x2_4), (3, .int x3_9)]) dX2_snubs_107 (Nat.le_of_ble_eq_true rfl) rfl ?_
              refine eb_jp1_e (J := fun (g13 : eb_MS) => eb_G l Γ P X cX2_snubs RX2 6 (some .int) rmX2_snubs 197 [(0, .ref (ad 0)), (1, .int x1_1), (2, .int x2_4), (3, .int x3_9)] [] (ms_st Γ ad ix g13) 0 0) h ?_ ?_
              · intro g13 h
                refine eg_iinc (j := 3) (lv' := [(3, .int (x3_9 + 1)), (0, .ref (ad 0)), (1, .int x1_1), (2, .int x2_4)]) dX2_snubs_197 rfl (by rw [kc_1]) (Nat.le_of_ble_eq_true rfl) rfl ?_
                refine eg_goto dX2_snubs_200 ?_
                exact eg_sub [1, 2, 3, 0] rfl (hr11 (x3_9 + 1) g13 h)
              · intro k14 hk14 h
                refine eg_sub [1, 2, 3, 4, 0] rfl ?_
                refine eb_loop2_e (J := fun (x4_15 : Int32) (g16 : eb_MS) => eb_G l Γ P X cX2_snubs RX2 6 (some .int) rmX2_snubs 109 [(0, .ref (ad 0)), (1, .int x1_1), (2, .int x2_4), (3, .int x3_9), (4, .int x4_15)] [] (ms_st Γ ad ix g16) 0 0) h ?_
                intro r17 hr17 x4_15 g16 h
                refine eg_iload 4 dX2_snubs_109 rfl ?_
                refine eg_iconst dX2_snubs_111 kc_3 ?_
                refine eg_icmp_ge dX2_snubs_112 (fun c29 => ?_) (fun c29 => ?_)
                · replace h := h.1 c29
                  exact eg_sub [0, 1, 2, 3] rfl (hk14 g16 h)
                · replace h := h.2 c29
                  refine eg_aload_n 0 dX2_snubs_115 rfl rfl ?_
                  refine em_geta 11 rfl q1153 dX2_snubs_116 hi ?_
                  refine eg_iconst dX2_snubs_119 kc_4 ?_
                  refine eg_aload_n 0 dX2_snubs_120 rfl rfl ?_
                  refine em_geta 11 rfl q1153 dX2_snubs_121 hi ?_
                  refine eg_iconst dX2_snubs_124 kc_4 ?_
                  refine eg_iload_n 2 dX2_snubs_125 rfl rfl ?_
                  refine eg_imul dX2_snubs_126 ?_
                  refine eg_iload_n 3 dX2_snubs_127 rfl rfl ?_
                  refine eg_iadd dX2_snubs_128 ?_
                  obtain ⟨hb, h⟩ := h
                  refine em_iald 11 rfl hb dX2_snubs_129 hi (fun v18 ev18 => ?_)
                  replace h := h v18 ev18
                  refine eg_imul dX2_snubs_130 ?_
                  refine eg_iload 4 dX2_snubs_131 rfl ?_
                  refine eg_iadd dX2_snubs_133 ?_
                  obtain ⟨hb, h⟩ := h
                  refine em_iald 11 rfl hb dX2_snubs_134 hi (fun v19 ev19 => ?_)
                  replace h := h v19 ev19
                  refine eg_istore (lv' := [(5, .int v19), (0, .ref (ad 0)), (1, .int x1_1), (2, .int x2_4), (3, .int x3_9), (4, .int x4_15)]) dX2_snubs_135 (Nat.le_of_ble_eq_true rfl) rfl ?_
                  refine eg_iload_n 4 dX2_snubs_137 rfl rfl ?_
                  refine eg_iload 5 dX2_snubs_138 rfl ?_
                  refine eb_jp1_e (J := fun (g20 : eb_MS) => eb_G l Γ P X cX2_snubs RX2 6 (some .int) rmX2_snubs 191 [(0, .ref (ad 0)), (1, .int x1_1), (2, .int x2_4), (3, .int x3_9), (4, .int x4_15)] [] (ms_st Γ ad ix g20) 0 0) h ?_ ?_
                  · intro g20 h
                    refine eg_iinc (j := 4) (lv' := [(4, .int (x4_15 + 1)), (0, .ref (ad 0)), (1, .int x1_1), (2, .int x2_4), (3, .int x3_9)]) dX2_snubs_191 rfl (by rw [kc_1]) (Nat.le_of_ble_eq_true rfl) rfl ?_
                    refine eg_goto dX2_snubs_194 ?_
                    exact eg_sub [1, 2, 3, 4, 0] rfl (hr17 (x4_15 + 1) g20 h)
                  · intro k21 hk21 h
                    refine eg_icmp_eq dX2_snubs_140 (fun c28 => ?_) (fun c28 => ?_)
                    · replace h := h.1 c28
                      exact eg_sub [1, 2, 3, 4, 5] rfl (hk21 g16 h)
                    · replace h := h.2 c28
                      refine eg_aload_n 1 dX2_snubs_143 rfl rfl ?_
                      refine em_geta 26 rfl q1168 dX2_snubs_144 hi ?_
                      refine eg_sipush dX2_snubs_147 ks_500 ?_
                      refine eg_aload_n 1 dX2_snubs_150 rfl rfl ?_
                      refine em_geta 33 rfl q1175 dX2_snubs_151 hi ?_
                      refine eg_iload_n 3 dX2_snubs_154 rfl rfl ?_
                      obtain ⟨hb, h⟩ := h
                      refine em_iald 33 rfl hb dX2_snubs_155 hi (fun v22 ev22 => ?_)
                      replace h := h v22 ev22
                      refine eg_imul dX2_snubs_156 ?_
                      refine eg_aload_n 1 dX2_snubs_157 rfl rfl ?_
                      refine em_geta 33 rfl q1175 dX2_snubs_158 hi ?_
                      refine eg_iload 0 dX2_snubs_161 rfl ?_
                      obtain ⟨hb, h⟩ := h
                      refine em_iald 33 rfl hb dX2_snubs_163 hi (fun v23 ev23 => ?_)
                      replace h := h v23 ev23
                      refine eg_iadd dX2_snubs_164 ?_
                      refine eg_iconst dX2_snubs_165 kc_1 ?_
                      obtain ⟨hb, h⟩ := h
                      refine em_zast 26 rfl hb dX2_snubs_166 hi (fun g24 eg24 => ?_)
                      replace h := h g24 eg24
                      refine eg_aload_n 1 dX2_snubs_167 rfl rfl ?_
                      refine em_geta 26 rfl q1168 dX2_snubs_168 hi ?_
                      refine eg_sipush dX2_snubs_171 ks_500 ?_
                      refine eg_aload_n 1 dX2_snubs_174 rfl rfl ?_
                      refine em_geta 33 rfl q1175 dX2_snubs_175 hi ?_
                      refine eg_iload 0 dX2_snubs_178 rfl ?_
                      obtain ⟨hb, h⟩ := h
                      refine em_iald 33 rfl hb dX2_snubs_180 hi (fun v25 ev25 => ?_)
                      replace h := h v25 ev25
                      refine eg_imul dX2_snubs_181 ?_
                      refine eg_aload_n 1 dX2_snubs_182 rfl rfl ?_
                      refine em_geta 33 rfl q1175 dX2_snubs_183 hi ?_
                      refine eg_iload_n 3 dX2_snubs_186 rfl rfl ?_
                      obtain ⟨hb, h⟩ := h
                      refine em_iald 33 rfl hb dX2_snubs_187 hi (fun v26 ev26 => ?_)
                      replace h := h v26 ev26
                      refine eg_iadd dX2_snubs_188 ?_
                      refine eg_iconst dX2_snubs_189 kc_1 ?_
                      obtain ⟨hb, h⟩ := h
                      refine em_zast 26 rfl hb dX2_snubs_190 hi (fun g27 eg27 => ?_)
                      replace h := h g27 eg27
                      exact eg_sub [1, 2, 3, 4, 5] rfl (hk21 g27 h)
    · intro k33 hk33 h
      refine eg_sub [1, 2, 0] rfl ?_
      refine eb_loop2_e (J := fun (x2_34 : Int32) (g35 : eb_MS) => eb_G l Γ P X cX2_snubs RX2 6 (some .int) rmX2_snubs 61 [(0, .ref (ad 0)), (1, .int x1_1), (2, .int x2_34)] [] (ms_st Γ ad ix g35) 0 0) h ?_
      intro r36 hr36 x2_34 g35 h
      refine eg_iload_n 2 dX2_snubs_61 rfl rfl ?_
      refine eg_ldc dX2_snubs_62 q1134 ?_
      refine eg_icmp_ge dX2_snubs_64 (fun c38 => ?_) (fun c38 => ?_)
      · replace h := h.1 c38
        exact eg_sub [0, 1] rfl (hk33 g35 h)
      · replace h := h.2 c38
        refine eg_aload_n 0 dX2_snubs_67 rfl rfl ?_
        refine em_geta 26 rfl q1168 dX2_snubs_68 hi ?_
        refine eg_iload_n 2 dX2_snubs_71 rfl rfl ?_
        refine eg_iconst dX2_snubs_72 kc_0 ?_
        obtain ⟨hb, h⟩ := h
        refine em_zast 26 rfl hb dX2_snubs_73 hi (fun g37 eg37 => ?_)
        replace h := h g37 eg37
        refine eg_iinc (j := 2) (lv' := [(2, .int (x2_34 + 1)), (0, .ref (ad 0)), (1, .int x1_1)]) dX2_snubs_74 rfl (by rw [kc_1]) (Nat.le_of_ble_eq_true rfl) rfl ?_
        refine eg_goto dX2_snubs_77 ?_
        exact eg_sub [1, 2, 0] rfl (hr36 (x2_34 + 1) g37 h)
  · intro k39 hk39 h
    refine eg_sub [2, 1, 0] rfl ?_
    refine eb_loop3_e (J := fun (x1_40 : Int32) (x2_41 : Int32) (g42 : eb_MS) => eb_G l Γ P X cX2_snubs RX2 6 (some .int) rmX2_snubs 4 [(0, .ref (ad 0)), (1, .int x1_40), (2, .int x2_41)] [] (ms_st Γ ad ix g42) 0 0) h ?_
    intro r43 hr43 x1_40 x2_41 g42 h
    refine eg_iload_n 2 dX2_snubs_4 rfl rfl ?_
    refine eg_aload_n 0 dX2_snubs_5 rfl rfl ?_
    refine em_gets 8 rfl q1150 dX2_snubs_6 hi ?_
    refine eg_icmp_ge dX2_snubs_9 (fun c53 => ?_) (fun c53 => ?_)
    · replace h := h.1 c53
      exact eg_sub [0, 1] rfl (hk39 x1_40 g42 h)
    · replace h := h.2 c53
      refine eg_aload_n 0 dX2_snubs_12 rfl rfl ?_
      refine em_geta 33 rfl q1175 dX2_snubs_13 hi ?_
      refine eg_iload_n 2 dX2_snubs_16 rfl rfl ?_
      refine eg_aload_n 0 dX2_snubs_17 rfl rfl ?_
      refine em_geta 12 rfl q1154 dX2_snubs_18 hi ?_
      refine eg_iload_n 2 dX2_snubs_21 rfl rfl ?_
      obtain ⟨hb, h⟩ := h
      refine em_iald 12 rfl hb dX2_snubs_22 hi (fun v44 ev44 => ?_)
      replace h := h v44 ev44
      refine eg_iconst dX2_snubs_23 kc_2 ?_
      refine eg_irem dX2_snubs_24 (by decide) ?_
      refine eb_jp1_e (J := fun (s45 : Int32) => eb_G l Γ P X cX2_snubs RX2 6 (some .int) rmX2_snubs 33 [(0, .ref (ad 0)), (1, .int x1_40), (2, .int x2_41)] [.int s45, .int x2_41, .ref (ad 33)] (ms_st Γ ad ix g42) 0 0) h ?_ ?_
      · intro s45 h
        obtain ⟨hb, h⟩ := h
        refine em_iast 33 rfl hb dX2_snubs_33 hi (fun g46 eg46 => ?_)
        replace h := h g46 eg46
        refine eg_iload_n 1 dX2_snubs_34 rfl rfl ?_
        refine eg_aload_n 0 dX2_snubs_35 rfl rfl ?_
        refine em_geta 12 rfl q1154 dX2_snubs_36 hi ?_
        refine eg_iload_n 2 dX2_snubs_39 rfl rfl ?_
        obtain ⟨hb, h⟩ := h
        refine em_iald 12 rfl hb dX2_snubs_40 hi (fun v47 ev47 => ?_)
        replace h := h v47 ev47
        refine eg_iconst dX2_snubs_41 kc_2 ?_
        refine eg_irem dX2_snubs_42 (by decide) ?_
        refine eb_jp1_e (J := fun (s48 : Int32) => eb_G l Γ P X cX2_snubs RX2 6 (some .int) rmX2_snubs 51 [(0, .ref (ad 0)), (2, .int x2_41)] [.int s48, .int x1_40] (ms_st Γ ad ix g46) 0 0) h ?_ ?_
        · intro s48 h
          refine eg_iadd dX2_snubs_51 ?_
          refine eg_istore_n (lv' := [(1, .int (x1_40 + s48)), (0, .ref (ad 0)), (2, .int x2_41)]) dX2_snubs_52 rfl (Nat.le_of_ble_eq_true rfl) rfl ?_
          refine eg_iinc (j := 2) (lv' := [(2, .int (x2_41 + 1)), (1, .int (x1_40 + s48)), (0, .ref (ad 0))]) dX2_snubs_53 rfl (by rw [kc_1]) (Nat.le_of_ble_eq_true rfl) rfl ?_
          refine eg_goto dX2_snubs_56 ?_
          exact eg_sub [2, 1, 0] rfl (hr43 (x1_40 + s48) (x2_41 + 1) g46 h)
        · intro k49 hk49 h
          refine eg_if_ne dX2_snubs_43 (fun c50 => ?_) (fun c50 => ?_)
          · replace h := h.2 c50
            refine eg_iconst dX2_snubs_50 kc_0 ?_
            exact eg_sub [0, 2] rfl (hk49 0 h)
          · replace h := h.1 c50
            refine eg_iconst dX2_snubs_46 kc_1 ?_
            refine eg_goto dX2_snubs_47 ?_
            exact eg_sub [0, 2] rfl (hk49 1 h)
      · intro k51 hk51 h
        refine eg_if_ne dX2_snubs_25 (fun c52 => ?_) (fun c52 => ?_)
        · replace h := h.2 c52
          refine eg_iconst dX2_snubs_32 kc_m1 ?_
          exact hk51 (-1) h
        · replace h := h.1 c52
          refine eg_iload_n 1 dX2_snubs_28 rfl rfl ?_
          refine eg_goto dX2_snubs_29 ?_
          exact hk51 x1_40 h
