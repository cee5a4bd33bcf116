set_option maxRecDepth 100000
set_option maxHeartbeats 4000000
def MX2_renews (σ : eb_MS) (a1 : Int32) (a2 : Int32) (K : eb_MS → Prop) : Prop :=
  ms_wr σ 1 4 a1 a2 (fun g1 => ms_wr g1 3 4 a1 1 (fun g2 => eb_loop2 (fun r5 (x3_3 : Int32) (g4 : eb_MS) => eb_br (16 ≤ x3_3) (K g4) (ms_wr g4 2 64 (((16 * a1) + x3_3)) 2 (fun g6 => r5 (x3_3 + 1) g6))) 0 g2))
abbrev rmX2_renews : Room := { frames := 1, cells := 0, slots := 0, locals := 12 }
theorem nX2_renews : eb_ar yX2_renews 2 := by decide +kernel
theorem dX2_renews_0 : eb_dc cX2_renews 0 (.aload_n 0) 1 1 := by decide +kernel
theorem dX2_renews_1 : eb_dc cX2_renews 1 (.getfield 7) 3 4 := by decide +kernel
theorem dX2_renews_4 : eb_dc cX2_renews 4 (.iload_n 1) 1 5 := by decide +kernel
theorem dX2_renews_5 : eb_dc cX2_renews 5 (.iload_n 2) 1 6 := by decide +kernel
theorem dX2_renews_6 : eb_dc cX2_renews 6 (.iastore) 1 7 := by decide +kernel
theorem dX2_renews_7 : eb_dc cX2_renews 7 (.aload_n 0) 1 8 := by decide +kernel
theorem dX2_renews_8 : eb_dc cX2_renews 8 (.getfield 16) 3 11 := by decide +kernel
theorem dX2_renews_11 : eb_dc cX2_renews 11 (.iload_n 1) 1 12 := by decide +kernel
theorem dX2_renews_12 : eb_dc cX2_renews 12 (.iconst 1) 1 13 := by decide +kernel
theorem dX2_renews_13 : eb_dc cX2_renews 13 (.iastore) 1 14 := by decide +kernel
theorem dX2_renews_14 : eb_dc cX2_renews 14 (.iconst 0) 1 15 := by decide +kernel
theorem dX2_renews_15 : eb_dc cX2_renews 15 (.istore_n 3) 1 16 := by decide +kernel
theorem dX2_renews_16 : eb_dc cX2_renews 16 (.iload_n 3) 1 17 := by decide +kernel
theorem dX2_renews_17 : eb_dc cX2_renews 17 (.bipush 16) 2 19 := by decide +kernel
theorem dX2_renews_19 : eb_dj cX2_renews 19 (.if_icmp .ge 21) 21 22 40 := by decide +kernel
theorem dX2_renews_22 : eb_dc cX2_renews 22 (.aload_n 0) 1 23 := by decide +kernel
theorem dX2_renews_23 : eb_dc cX2_renews 23 (.getfield 13) 3 26 := by decide +kernel
theorem dX2_renews_26 : eb_dc cX2_renews 26 (.bipush 16) 2 28 := by decide +kernel
theorem dX2_renews_28 : eb_dc cX2_renews 28 (.iload_n 1) 1 29 := by decide +kernel
theorem dX2_renews_29 : eb_dc cX2_renews 29 (.imul) 1 30 := by decide +kernel
theorem dX2_renews_30 : eb_dc cX2_renews 30 (.iload_n 3) 1 31 := by decide +kernel
theorem dX2_renews_31 : eb_dc cX2_renews 31 (.iadd) 1 32 := by decide +kernel
theorem dX2_renews_32 : eb_dc cX2_renews 32 (.iconst 2) 1 33 := by decide +kernel
theorem dX2_renews_33 : eb_dc cX2_renews 33 (.iastore) 1 34 := by decide +kernel
theorem dX2_renews_34 : eb_dc cX2_renews 34 (.iinc 3 1) 3 37 := by decide +kernel
theorem dX2_renews_37 : eb_dj cX2_renews 37 (.goto (-21)) (-21) 40 16 := by decide +kernel
theorem dX2_renews_40 : eb_dc cX2_renews 40 (.return_) 1 41 := by decide +kernel
theorem ctX2_renews {l : Launch} {Γ : eb_C} {ad : Nat → Nat} {ix : Nat → Option Nat} {σ : eb_MS} {a1 : Int32} {a2 : Int32} {K : eb_MS → Prop} (hi : ms_inv ad ix) (h : MX2_renews σ a1 a2 K) : eb_Ct l Γ yX2_renews cX2_renews 4 (none) rmX2_renews [.ref (ad 0), .int a1, .int a2] (ms_st Γ ad ix σ) (em_V Γ ad ix K) := by
  refine eb_of (by decide) (Nat.le_of_ble_eq_true rfl) (fun X P hP _ => ?_)
  show eb_G l Γ P X cX2_renews RX2 4 (none) rmX2_renews 0 [(0, .ref (ad 0)), (1, .int a1), (2, .int a2)] [] (ms_st Γ ad ix σ) 0 0
  refine eg_aload_n 0 dX2_renews_0 rfl rfl ?_
  refine em_geta 1 rfl q1143 dX2_renews_1 hi ?_
  refine eg_iload_n 1 dX2_renews_4 rfl rfl ?_
  refine eg_iload_n 2 dX2_renews_5 rfl rfl ?_
  obtain ⟨hb, h⟩ := h
  refine em_iast 1 rfl hb dX2_renews_6 hi (fun g1 eg1 => ?_)
  replace h := h g1 eg1
  refine eg_aload_n 0 dX2_renews_7 rfl rfl ?_
  refine em_geta 3 rfl q1145 dX2_renews_8 hi ?_
  refine eg_iload_n 1 dX2_renews_11 rfl rfl ?_
  refine eg_iconst dX2_renews_12 kc_1 ?_
  obtain ⟨hb, h⟩ := h
  refine em_iast 3 rfl hb dX2_renews_13 hi (fun g2 eg2 => ?_)
  replace h := h g2 eg2
  refine eg_iconst dX2_renews_14 kc_0 ?_
  refine eg_istore_n (lv' := [(3, .int 0), (0, .ref (ad 0)), (1, .int a1), (2, .int a2)]) dX2_renews_15 rfl (Nat.le_of_ble_eq_true rfl) rfl ?_
  refine eg_sub [1, 2, 0] rfl ?_
  refine eb_loop2_e (J := fun (x3_3 : Int32) (g4 : eb_MS) => eb_G l Γ P X cX2_renews RX2 4 (none) rmX2_renews 16 [(0, .ref (ad 0)), (1, .int a1), (3, .int x3_3)] [] (ms_st Γ ad ix g4) 0 0) h ?_
  intro r5 hr5 x3_3 g4 h
  refine eg_iload_n 2 dX2_renews_16 rfl rfl ?_
  refine eg_bipush dX2_renews_17 kb_16 ?_
  refine eg_icmp_ge dX2_renews_19 (fun c7 => ?_) (fun c7 => ?_)
  · replace h := h.1 c7
    exact eg_vret dX2_renews_40 (Nat.zero_le _) (Nat.zero_le _) (hP _ _ ⟨_, rfl, rfl, h⟩)
  · replace h := h.2 c7
    refine eg_aload_n 0 dX2_renews_22 rfl rfl ?_
    refine em_geta 2 rfl q1144 dX2_renews_23 hi ?_
    refine eg_bipush dX2_renews_26 kb_16 ?_
    refine eg_iload_n 1 dX2_renews_28 rfl rfl ?_
    refine eg_imul dX2_renews_29 ?_
    refine eg_iload_n 2 dX2_renews_30 rfl rfl ?_
    refine eg_iadd dX2_renews_31 ?_
    refine eg_iconst dX2_renews_32 kc_2 ?_
    obtain ⟨hb, h⟩ := h
    refine em_iast 2 rfl hb dX2_renews_33 hi (fun g6 eg6 => ?_)
    replace h := h g6 eg6
    refine eg_iinc (j := 2) (lv' := [(3, .int (x3_3 + 1)), (0, .ref (ad 0)), (1, .int a1)]) dX2_renews_34 rfl (by rw [kc_1]) (Nat.le_of_ble_eq_true rfl) rfl ?_
    refine eg_goto dX2_renews_37 ?_
    exact eg_sub [1, 2, 0] rfl (hr5 (x3_3 + 1) g6 h)
def MX2_rootOf  (a0 : Int32) (K : Int32 → Prop) : Prop :=
  eb_loop1 (fun r2 (x1_1 : Int32) => eb_br ((eb_rem (x1_1 * x1_1) 241) = a0) (K x1_1) (r2 (x1_1 + 1))) 1
abbrev rmX2_rootOf : Room := { frames := 1, cells := 0, slots := 0, locals := 12 }
theorem nX2_rootOf : eb_ar yX2_rootOf 1 := by decide +kernel
theorem dX2_rootOf_0 : eb_dc cX2_rootOf 0 (.iconst 1) 1 1 := by decide +kernel
theorem dX2_rootOf_1 : eb_dc cX2_rootOf 1 (.istore_n 1) 1 2 := by decide +kernel
theorem dX2_rootOf_2 : eb_dc cX2_rootOf 2 (.iload_n 1) 1 3 := by decide +kernel
theorem dX2_rootOf_3 : eb_dc cX2_rootOf 3 (.iload_n 1) 1 4 := by decide +kernel
theorem dX2_rootOf_4 : eb_dc cX2_rootOf 4 (.imul) 1 5 := by decide +kernel
theorem dX2_rootOf_5 : eb_dc cX2_rootOf 5 (.sipush 241) 3 8 := by decide +kernel
theorem dX2_rootOf_8 : eb_dc cX2_rootOf 8 (.irem) 1 9 := by decide +kernel
theorem dX2_rootOf_9 : eb_dc cX2_rootOf 9 (.iload_n 0) 1 10 := by decide +kernel
theorem dX2_rootOf_10 : eb_dj cX2_rootOf 10 (.if_icmp .eq 9) 9 13 19 := by decide +kernel
theorem dX2_rootOf_13 : eb_dc cX2_rootOf 13 (.iinc 1 1) 3 16 := by decide +kernel
theorem dX2_rootOf_16 : eb_dj cX2_rootOf 16 (.goto (-14)) (-14) 19 2 := by decide +kernel
theorem dX2_rootOf_19 : eb_dc cX2_rootOf 19 (.iload_n 1) 1 20 := by decide +kernel
theorem dX2_rootOf_20 : eb_dc cX2_rootOf 20 (.ireturn) 1 21 := by decide +kernel
theorem ctX2_rootOf {l : Launch} {Γ : eb_C} {st : eb_S} {a0 : Int32} {K : Int32 → Prop} (h : MX2_rootOf a0 K) : eb_Ct l Γ yX2_rootOf cX2_rootOf 2 (some .int) rmX2_rootOf [.int a0] st (eb_pI st K) := by
  refine eb_of (by decide) (Nat.le_of_ble_eq_true rfl) (fun X P hP _ => ?_)
  show eb_G l Γ P X cX2_rootOf RX2 2 (some .int) rmX2_rootOf 0 [(0, .int a0)] [] st 0 0
  refine eg_iconst dX2_rootOf_0 kc_1 ?_
  refine eg_istore_n (lv' := [(1, .int 1), (0, .int a0)]) dX2_rootOf_1 rfl (Nat.le_of_ble_eq_true rfl) rfl ?_
  refine eg_sub [1, 0] rfl ?_
  refine eb_loop1_e (J := fun (x1_1 : Int32) => eb_G l Γ P X cX2_rootOf RX2 2 (some .int) rmX2_rootOf 2 [(0, .int a0), (1, .int x1_1)] [] st 0 0) h ?_
  intro r2 hr2 x1_1 h
  refine eg_iload_n 1 dX2_rootOf_2 rfl rfl ?_
  refine eg_iload_n 1 dX2_rootOf_3 rfl rfl ?_
  refine eg_imul dX2_rootOf_4 ?_
  refine eg_sipush dX2_rootOf_5 ks_241 ?_
  refine eg_irem dX2_rootOf_8 (by decide) ?_
  refine eg_iload_n 0 dX2_rootOf_9 rfl rfl ?_
  refine eg_icmp_eq dX2_rootOf_10 (fun c3 => ?_) (fun c3 => ?_)
  · replace h := h.1 c3
    refine eg_iload_n 1 dX2_rootOf_19 rfl rfl ?_
    exact eg_iret dX2_rootOf_20 (Nat.zero_le _) (Nat.zero_le _) (hP _ _ ⟨_, rfl, rfl, h⟩)
  · replace h := h.2 c3
    refine eg_iinc (j := 1) (lv' := [(1, .int (x1_1 + 1)), (0, .int a0)]) dX2_rootOf_13 rfl (by rw [kc_1]) (Nat.le_of_ble_eq_true rfl) rfl ?_
    refine eg_goto dX2_rootOf_16 ?_
    exact eg_sub [1, 0] rfl (hr2 (x1_1 + 1) h)
def MX2_in  (a0 : Int32) (a1 : Int32) (a2 : Int32) (K : Int32 → Prop) : Prop :=
  eb_br (a0 < a1) (K 0) (eb_br (a2 < a0) (K 0) (K 1))
abbrev rmX2_in : Room := { frames := 1, cells := 0, slots := 0, locals := 12 }
theorem nX2_in : eb_ar yX2_in 3 := by decide +kernel
theorem dX2_in_0 : eb_dc cX2_in 0 (.iload_n 0) 1 1 := by decide +kernel
theorem dX2_in_1 : eb_dc cX2_in 1 (.iload_n 1) 1 2 := by decide +kernel
theorem dX2_in_2 : eb_dj cX2_in 2 (.if_icmp .lt 12) 12 5 14 := by decide +kernel
theorem dX2_in_5 : eb_dc cX2_in 5 (.iload_n 0) 1 6 := by decide +kernel
theorem dX2_in_6 : eb_dc cX2_in 6 (.iload_n 2) 1 7 := by decide +kernel
theorem dX2_in_7 : eb_dj cX2_in 7 (.if_icmp .gt 7) 7 10 14 := by decide +kernel
theorem dX2_in_10 : eb_dc cX2_in 10 (.iconst 1) 1 11 := by decide +kernel
theorem dX2_in_11 : eb_dj cX2_in 11 (.goto 4) 4 14 15 := by decide +kernel
theorem dX2_in_14 : eb_dc cX2_in 14 (.iconst 0) 1 15 := by decide +kernel
theorem dX2_in_15 : eb_dc cX2_in 15 (.ireturn) 1 16 := by decide +kernel
theorem ctX2_in {l : Launch} {Γ : eb_C} {st : eb_S} {a0 : Int32} {a1 : Int32} {a2 : Int32} {K : Int32 → Prop} (h : MX2_in a0 a1 a2 K) : eb_Ct l Γ yX2_in cX2_in 3 (some .boolean) rmX2_in [.int a0, .int a1, .int a2] st (eb_pI st K) := by
  refine eb_of (by decide) (Nat.le_of_ble_eq_true rfl) (fun X P hP _ => ?_)
  show eb_G l Γ P X cX2_in RX2 3 (some .boolean) rmX2_in 0 [(0, .int a0), (1, .int a1), (2, .int a2)] [] st 0 0
  refine eg_iload_n 0 dX2_in_0 rfl rfl ?_
  refine eg_iload_n 1 dX2_in_1 rfl rfl ?_
  refine eg_icmp_lt dX2_in_2 (fun c2 => ?_) (fun c2 => ?_)
  · replace h := h.1 c2
    refine eg_iconst dX2_in_14 kc_0 ?_
    exact eg_zret dX2_in_15 rfl (Nat.zero_le _) (Nat.zero_le _) (hP _ _ ⟨_, rfl, rfl, h⟩)
  · replace h := h.2 c2
    refine eg_iload_n 0 dX2_in_5 rfl rfl ?_
    refine eg_iload_n 2 dX2_in_6 rfl rfl ?_
    refine eg_icmp_gt dX2_in_7 (fun c1 => ?_) (fun c1 => ?_)
    · replace h := h.1 c1
      refine eg_iconst dX2_in_14 kc_0 ?_
      exact eg_zret dX2_in_15 rfl (Nat.zero_le _) (Nat.zero_le _) (hP _ _ ⟨_, rfl, rfl, h⟩)
    · replace h := h.2 c1
      refine eg_iconst dX2_in_10 kc_1 ?_
      refine eg_goto dX2_in_11 ?_
      exact eg_zret dX2_in_15 rfl (Nat.zero_le _) (Nat.zero_le _) (hP _ _ ⟨_, rfl, rfl, h⟩)
def MX2_isBody  (a0 : Int32) (K : Int32 → Prop) : Prop :=
  MX2_in a0 0 3 (fun v1 => eb_zb v1 ∧ K v1)
abbrev rmX2_isBody : Room := { frames := 2, cells := 0, slots := 0, locals := 34 }
theorem nX2_isBody : eb_ar yX2_isBody 1 := by decide +kernel
theorem dX2_isBody_0 : eb_dc cX2_isBody 0 (.iload_n 0) 1 1 := by decide +kernel
theorem dX2_isBody_1 : eb_dc cX2_isBody 1 (.iconst 0) 1 2 := by decide +kernel
theorem dX2_isBody_2 : eb_dc cX2_isBody 2 (.iconst 3) 1 3 := by decide +kernel
theorem dX2_isBody_3 : eb_dc cX2_isBody 3 (.invokestatic 109) 3 6 := by decide +kernel
theorem dX2_isBody_6 : eb_dc cX2_isBody 6 (.ireturn) 1 7 := by decide +kernel
theorem ctX2_isBody {l : Launch} {Γ : eb_C} {st : eb_S} {a0 : Int32} {K : Int32 → Prop} (h : MX2_isBody a0 K) : eb_Ct l Γ yX2_isBody cX2_isBody 1 (some .boolean) rmX2_isBody [.int a0] st (eb_pI st K) := by
  refine eb_of (by decide) (Nat.le_of_ble_eq_true rfl) (fun X P hP _ => ?_)
  show eb_G l Γ P X cX2_isBody RX2 1 (some .boolean) rmX2_isBody 0 [(0, .int a0)] [] st 0 0
  refine eg_iload_n 0 dX2_isBody_0 rfl rfl ?_
  refine eg_iconst dX2_isBody_1 kc_0 ?_
  refine eg_iconst dX2_isBody_2 kc_3 ?_
  refine eg_csp (rest := []) (ctX2_in h) (lw_S q1255 q1256 q77 q1257) nX2_in ⟨Nat.le_of_ble_eq_true rfl, Nat.le_of_ble_eq_true rfl⟩ ⟨rfl, rfl⟩ ⟨Nat.zero_le _, Nat.zero_le _⟩ rfl rfl (Nat.le_of_ble_eq_true rfl) dX2_isBody_3 (fun v1 h => ?_)
  exact eg_zret dX2_isBody_6 h.1.nar (Nat.zero_le _) (Nat.zero_le _) (hP _ _ ⟨_, rfl, rfl, h.2⟩)
def MX2_body (σ : eb_MS) (a1 : Int32) (a2 : Int32) (K : Int32 → eb_MS → Prop) : Prop :=
  ms_ws σ 0 0 (fun g1 => MX2_isBody a1 (fun v2 => eb_br (v2 = 0) (K (-2) g1) (MX2_in a2 1 4 (fun v4 => eb_br (v4 = 0) (K (-2) g1) (MX2_renews g1 a1 a2 (fun g7 => ms_ws g7 5 (-1) (fun g8 => K 1 g8)))))))
abbrev rmX2_body : Room := { frames := 3, cells := 0, slots := 0, locals := 54 }
theorem nX2_body : eb_ar yX2_body 2 := by decide +kernel
theorem dX2_body_0 : eb_dc cX2_body 0 (.aload_n 0) 1 1 := by decide +kernel
theorem dX2_body_1 : eb_dc cX2_body 1 (.iconst 0) 1 2 := by decide +kernel
theorem dX2_body_2 : eb_dc cX2_body 2 (.putfield 106) 3 5 := by decide +kernel
theorem dX2_body_5 : eb_dc cX2_body 5 (.iload_n 1) 1 6 := by decide +kernel
theorem dX2_body_6 : eb_dc cX2_body 6 (.invokestatic 113) 3 9 := by decide +kernel
theorem dX2_body_9 : eb_dj cX2_body 9 (.ifCond .eq 12) 12 12 21 := by decide +kernel
theorem dX2_body_12 : eb_dc cX2_body 12 (.iload_n 2) 1 13 := by decide +kernel
theorem dX2_body_13 : eb_dc cX2_body 13 (.iconst 1) 1 14 := by decide +kernel
theorem dX2_body_14 : eb_dc cX2_body 14 (.iconst 4) 1 15 := by decide +kernel
theorem dX2_body_15 : eb_dc cX2_body 15 (.invokestatic 109) 3 18 := by decide +kernel
theorem dX2_body_18 : eb_dj cX2_body 18 (.ifCond .ne 6) 6 21 24 := by decide +kernel
theorem dX2_body_21 : eb_dc cX2_body 21 (.bipush (-2)) 2 23 := by decide +kernel
theorem dX2_body_23 : eb_dc cX2_body 23 (.ireturn) 1 24 := by decide +kernel
theorem dX2_body_24 : eb_dc cX2_body 24 (.aload_n 0) 1 25 := by decide +kernel
theorem dX2_body_25 : eb_dc cX2_body 25 (.iload_n 1) 1 26 := by decide +kernel
theorem dX2_body_26 : eb_dc cX2_body 26 (.iload_n 2) 1 27 := by decide +kernel
theorem dX2_body_27 : eb_dc cX2_body 27 (.invokevirtual 98) 3 30 := by decide +kernel
theorem dX2_body_30 : eb_dc cX2_body 30 (.aload_n 0) 1 31 := by decide +kernel
theorem dX2_body_31 : eb_dc cX2_body 31 (.iconst (-1)) 1 32 := by decide +kernel
theorem dX2_body_32 : eb_dc cX2_body 32 (.putfield 22) 3 35 := by decide +kernel
theorem dX2_body_35 : eb_dc cX2_body 35 (.iconst 1) 1 36 := by decide +kernel
theorem dX2_body_36 : eb_dc cX2_body 36 (.ireturn) 1 37 := by decide +kernel
theorem ctX2_body {l : Launch} {Γ : eb_C} {ad : Nat → Nat} {ix : Nat → Option Nat} {σ : eb_MS} {a1 : Int32} {a2 : Int32} {K : Int32 → eb_MS → Prop} (hi : ms_inv ad ix) (h : MX2_body σ a1 a2 K) : eb_Ct l Γ yX2_body cX2_body 3 (some .int) rmX2_body [.ref (ad 0), .int a1, .int a2] (ms_st Γ ad ix σ) (em_I Γ ad ix K) := by
  refine eb_of (by decide) (Nat.le_of_ble_eq_true rfl) (fun X P hP _ => ?_)
  show eb_G l Γ P X cX2_body RX2 3 (some .int) rmX2_body 0 [(0, .ref (ad 0)), (1, .int a1), (2, .int a2)] [] (ms_st Γ ad ix σ) 0 0
  refine eg_aload_n 0 dX2_body_0 rfl rfl ?_
  refine eg_iconst dX2_body_1 kc_0 ?_
  refine em_puts 0 rfl q1142 dX2_body_2 hi (fun g1 eg1 => ?_)
  replace h := h g1 eg1
  refine eg_iload_n 1 dX2_body_5 rfl rfl ?_
  refine eg_csp (rest := []) (ctX2_isBody h) (lw_S q1252 q1253 q77 q1254) nX2_isBody ⟨Nat.le_of_ble_eq_true rfl, Nat.le_of_ble_eq_true rfl⟩ ⟨rfl, rfl⟩ ⟨Nat.zero_le _, Nat.zero_le _⟩ rfl rfl (Nat.le_of_ble_eq_true rfl) dX2_body_6 (fun v2 h => ?_)
  refine eg_if_eq dX2_body_9 (fun c10 => ?_) (fun c10 => ?_)
  · replace h := h.1 c10
    refine eg_bipush dX2_body_21 kb_m2 ?_
    exact eg_iret dX2_body_23 (Nat.zero_le _) (Nat.zero_le _) (hP _ _ ⟨_, _, rfl, rfl, h⟩)
  · replace h := h.2 c10
    refine eg_iload_n 2 dX2_body_12 rfl rfl ?_
    refine eg_iconst dX2_body_13 kc_1 ?_
    refine eg_iconst dX2_body_14 kc_4 ?_
    refine eg_csp (rest := []) (ctX2_in h) (lw_S q1255 q1256 q77 q1257) nX2_in ⟨Nat.le_of_ble_eq_true rfl, Nat.le_of_ble_eq_true rfl⟩ ⟨rfl, rfl⟩ ⟨Nat.zero_le _, Nat.zero_le _⟩ rfl rfl (Nat.le_of_ble_eq_true rfl) dX2_body_15 (fun v4 h => ?_)
    refine eg_if_ne dX2_body_18 (fun c9 => ?_) (fun c9 => ?_)
    · replace h := h.2 c9
      refine eg_aload_n 0 dX2_body_24 rfl rfl ?_
      refine eg_iload_n 1 dX2_body_25 rfl rfl ?_
      refine eg_iload_n 2 dX2_body_26 rfl rfl ?_
      refine em_cvv (rest := []) (ctX2_renews hi h) hi (lw_V q1135 q1137 qs35 q77 q1138) rfl nX2_renews ⟨Nat.le_of_ble_eq_true rfl, Nat.le_of_ble_eq_true rfl⟩ ⟨rfl, rfl⟩ ⟨Nat.zero_le _, Nat.zero_le _⟩ rfl rfl (Nat.le_of_ble_eq_true rfl) dX2_body_27 (fun g7 h => ?_)
      refine eg_aload_n 0 dX2_body_30 rfl rfl ?_
      refine eg_iconst dX2_body_31 kc_m1 ?_
      refine em_puts 5 rfl q1147 dX2_body_32 hi (fun g8 eg8 => ?_)
      replace h := h g8 eg8
      refine eg_iconst dX2_body_35 kc_1 ?_
      exact eg_iret dX2_body_36 (Nat.zero_le _) (Nat.zero_le _) (hP _ _ ⟨_, _, rfl, rfl, h⟩)
    · replace h := h.1 c9
      refine eg_bipush dX2_body_21 kb_m2 ?_
      exact eg_iret dX2_body_23 (Nat.zero_le _) (Nat.zero_le _) (hP _ _ ⟨_, _, rfl, rfl, h⟩)
def MX2_isMirror (σ : eb_MS) (a1 : Int32) (a2 : Int32) (K : Int32 → Prop) : Prop :=
  eb_rd (σ.2.1 1) 4 a1 (fun v1 => MX2_in a2 0 (v1 - 1) (fun v2 => eb_zb v2 ∧ K v2))
abbrev rmX2_isMirror : Room := { frames := 2, cells := 0, slots := 0, locals := 34 }
theorem nX2_isMirror : eb_ar yX2_isMirror 2 := by decide +kernel
theorem dX2_isMirror_0 : eb_dc cX2_isMirror 0 (.iload_n 2) 1 1 := by decide +kernel
theorem dX2_isMirror_1 : eb_dc cX2_isMirror 1 (.iconst 0) 1 2 := by decide +kernel
theorem dX2_isMirror_2 : eb_dc cX2_isMirror 2 (.aload_n 0) 1 3 := by decide +kernel
theorem dX2_isMirror_3 : eb_dc cX2_isMirror 3 (.getfield 7) 3 6 := by decide +kernel
theorem dX2_isMirror_6 : eb_dc cX2_isMirror 6 (.iload_n 1) 1 7 := by decide +kernel
theorem dX2_isMirror_7 : eb_dc cX2_isMirror 7 (.iaload) 1 8 := by decide +kernel
theorem dX2_isMirror_8 : eb_dc cX2_isMirror 8 (.iconst 1) 1 9 := by decide +kernel
theorem dX2_isMirror_9 : eb_dc cX2_isMirror 9 (.isub) 1 10 := by decide +kernel
theorem dX2_isMirror_10 : eb_dc cX2_isMirror 10 (.invokestatic 109) 3 13 := by decide +kernel
theorem dX2_isMirror_13 : eb_dc cX2_isMirror 13 (.ireturn) 1 14 := by decide +kernel
theorem ctX2_isMirror {l : Launch} {Γ : eb_C} {ad : Nat → Nat} {ix : Nat → Option Nat} {σ : eb_MS} {a1 : Int32} {a2 : Int32} {K : Int32 → Prop} (hi : ms_inv ad ix) (h : MX2_isMirror σ a1 a2 K) : eb_Ct l Γ yX2_isMirror cX2_isMirror 3 (some .boolean) rmX2_isMirror [.ref (ad 0), .int a1, .int a2] (ms_st Γ ad ix σ) (eb_pI (ms_st Γ ad ix σ) K) := by
  refine eb_of (by decide) (Nat.le_of_ble_eq_true rfl) (fun X P hP _ => ?_)
  show eb_G l Γ P X cX2_isMirror RX2 3 (some .boolean) rmX2_isMirror 0 [(0, .ref (ad 0)), (1, .int a1), (2, .int a2)] [] (ms_st Γ ad ix σ) 0 0
  refine eg_iload_n 2 dX2_isMirror_0 rfl rfl ?_
  refine eg_iconst dX2_isMirror_1 kc_0 ?_
  refine eg_aload_n 0 dX2_isMirror_2 rfl rfl ?_
  refine em_geta 1 rfl q1143 dX2_isMirror_3 hi ?_
  refine eg_iload_n 1 dX2_isMirror_6 rfl rfl ?_
  obtain ⟨hb, h⟩ := h
  refine em_iald 1 rfl hb dX2_isMirror_7 hi (fun v1 ev1 => ?_)
  replace h := h v1 ev1
  refine eg_iconst dX2_isMirror_8 kc_1 ?_
  refine eg_isub dX2_isMirror_9 ?_
  refine eg_csp (rest := []) (ctX2_in h) (lw_S q1255 q1256 q77 q1257) nX2_in ⟨Nat.le_of_ble_eq_true rfl, Nat.le_of_ble_eq_true rfl⟩ ⟨rfl, rfl⟩ ⟨Nat.zero_le _, Nat.zero_le _⟩ rfl rfl (Nat.le_of_ble_eq_true rfl) dX2_isMirror_10 (fun v2 h => ?_)
  exact eg_zret dX2_isMirror_13 h.1.nar (Nat.zero_le _) (Nat.zero_le _) (hP _ _ ⟨_, rfl, rfl, h.2⟩)
def MX2_angleOf (σ : eb_MS) (a1 : Int32) (a2 : Int32) (a3 : Int32) (K : Int32 → Prop) : Prop :=
  eb_rd (σ.2.1 2) 64 ((((16 * a1) + (4 * a2)) + a3)) (fun v1 => K v1)
abbrev rmX2_angleOf : Room := { frames := 1, cells := 0, slots := 0, locals := 12 }
theorem nX2_angleOf : eb_ar yX2_angleOf 3 := by decide +kernel
theorem dX2_angleOf_0 : eb_dc cX2_angleOf 0 (.aload_n 0) 1 1 := by decide +kernel
theorem dX2_angleOf_1 : eb_dc cX2_angleOf 1 (.getfield 13) 3 4 := by decide +kernel
theorem dX2_angleOf_4 : eb_dc cX2_angleOf 4 (.bipush 16) 2 6 := by decide +kernel
theorem dX2_angleOf_6 : eb_dc cX2_angleOf 6 (.iload_n 1) 1 7 := by decide +kernel
theorem dX2_angleOf_7 : eb_dc cX2_angleOf 7 (.imul) 1 8 := by decide +kernel
theorem dX2_angleOf_8 : eb_dc cX2_angleOf 8 (.iconst 4) 1 9 := by decide +kernel
theorem dX2_angleOf_9 : eb_dc cX2_angleOf 9 (.iload_n 2) 1 10 := by decide +kernel
theorem dX2_angleOf_10 : eb_dc cX2_angleOf 10 (.imul) 1 11 := by decide +kernel
theorem dX2_angleOf_11 : eb_dc cX2_angleOf 11 (.iadd) 1 12 := by decide +kernel
theorem dX2_angleOf_12 : eb_dc cX2_angleOf 12 (.iload_n 3) 1 13 := by decide +kernel
theorem dX2_angleOf_13 : eb_dc cX2_angleOf 13 (.iadd) 1 14 := by decide +kernel
theorem dX2_angleOf_14 : eb_dc cX2_angleOf 14 (.iaload) 1 15 := by decide +kernel
theorem dX2_angleOf_15 : eb_dc cX2_angleOf 15 (.ireturn) 1 16 := by decide +kernel
theorem ctX2_angleOf {l : Launch} {Γ : eb_C} {ad : Nat → Nat} {ix : Nat → Option Nat} {σ : eb_MS} {a1 : Int32} {a2 : Int32} {a3 : Int32} {K : Int32 → Prop} (hi : ms_inv ad ix) (h : MX2_angleOf σ a1 a2 a3 K) : eb_Ct l Γ yX2_angleOf cX2_angleOf 4 (some .int) rmX2_angleOf [.ref (ad 0), .int a1, .int a2, .int a3] (ms_st Γ ad ix σ) (eb_pI (ms_st Γ ad ix σ) K) := by
  refine eb_of (by decide) (Nat.le_of_ble_eq_true rfl) (fun X P hP _ => ?_)
  show eb_G l Γ P X cX2_angleOf RX2 4 (some .int) rmX2_angleOf 0 [(0, .ref (ad 0)), (1, .int a1), (2, .int a2), (3, .int a3)] [] (ms_st Γ ad ix σ) 0 0
  refine eg_aload_n 0 dX2_angleOf_0 rfl rfl ?_
  refine em_geta 2 rfl q1144 dX2_angleOf_1 hi ?_
  refine eg_bipush dX2_angleOf_4 kb_16 ?_
  refine eg_iload_n 1 dX2_angleOf_6 rfl rfl ?_
  refine eg_imul dX2_angleOf_7 ?_
  refine eg_iconst dX2_angleOf_8 kc_4 ?_
  refine eg_iload_n 2 dX2_angleOf_9 rfl rfl ?_
  refine eg_imul dX2_angleOf_10 ?_
  refine eg_iadd dX2_angleOf_11 ?_
  refine eg_iload_n 3 dX2_angleOf_12 rfl rfl ?_
  refine eg_iadd dX2_angleOf_13 ?_
  obtain ⟨hb, h⟩ := h
  refine em_iald 2 rfl hb dX2_angleOf_14 hi (fun v1 ev1 => ?_)
  replace h := h v1 ev1
  exact eg_iret dX2_angleOf_15 (Nat.zero_le _) (Nat.zero_le _) (hP _ _ ⟨_, rfl, rfl, h⟩)
def MX2_angle (σ : eb_MS) (a1 : Int32) (a2 : Int32) (a3 : Int32) (a4 : Int32) (K : Int32 → eb_MS → Prop) : Prop :=
  ms_ws σ 0 0 (fun g1 => MX2_isBody a1 (fun v2 => eb_br (v2 = 0) (K (-2) g1) (MX2_isMirror g1 a1 a2 (fun v4 => eb_br (v4 = 0) (K (-2) g1) (MX2_isMirror g1 a1 a3 (fun v6 => eb_br (v6 = 0) (K (-2) g1) (eb_br (a2 = a3) (K (-2) g1) (MX2_in a4 2 6 (fun v8 => eb_br (v8 = 0) (K (-2) g1) (MX2_angleOf g1 a1 a2 a3 (fun v10 => ms_wr g1 2 64 ((((16 * a1) + (4 * a2)) + a3)) a4 (fun g12 => ms_wr g12 2 64 ((((16 * a1) + (4 * a3)) + a2)) a4 (fun g13 => ms_ws g13 5 (-1) (fun g14 => K v10 g14))))))))))))))
abbrev rmX2_angle : Room := { frames := 3, cells := 0, slots := 0, locals := 56 }
theorem nX2_angle : eb_ar yX2_angle 4 := by decide +kernel
theorem dX2_angle_0 : eb_dc cX2_angle 0 (.aload_n 0) 1 1 := by decide +kernel
theorem dX2_angle_1 : eb_dc cX2_angle 1 (.iconst 0) 1 2 := by decide +kernel
theorem dX2_angle_2 : eb_dc cX2_angle 2 (.putfield 106) 3 5 := by decide +kernel
theorem dX2_angle_5 : eb_dc cX2_angle 5 (.iload_n 1) 1 6 := by decide +kernel
theorem dX2_angle_6 : eb_dc cX2_angle 6 (.invokestatic 113) 3 9 := by decide +kernel
theorem dX2_angle_9 : eb_dj cX2_angle 9 (.ifCond .eq 37) 37 12 46 := by decide +kernel
theorem dX2_angle_12 : eb_dc cX2_angle 12 (.aload_n 0) 1 13 := by decide +kernel
theorem dX2_angle_13 : eb_dc cX2_angle 13 (.iload_n 1) 1 14 := by decide +kernel
theorem dX2_angle_14 : eb_dc cX2_angle 14 (.iload_n 2) 1 15 := by decide +kernel
theorem dX2_angle_15 : eb_dc cX2_angle 15 (.invokevirtual 117) 3 18 := by decide +kernel
theorem dX2_angle_18 : eb_dj cX2_angle 18 (.ifCond .eq 28) 28 21 46 := by decide +kernel
theorem dX2_angle_21 : eb_dc cX2_angle 21 (.aload_n 0) 1 22 := by decide +kernel
theorem dX2_angle_22 : eb_dc cX2_angle 22 (.iload_n 1) 1 23 := by decide +kernel
theorem dX2_angle_23 : eb_dc cX2_angle 23 (.iload_n 3) 1 24 := by decide +kernel
theorem dX2_angle_24 : eb_dc cX2_angle 24 (.invokevirtual 117) 3 27 := by decide +kernel
theorem dX2_angle_27 : eb_dj cX2_angle 27 (.ifCond .eq 19) 19 30 46 := by decide +kernel
theorem dX2_angle_30 : eb_dc cX2_angle 30 (.iload_n 2) 1 31 := by decide +kernel
theorem dX2_angle_31 : eb_dc cX2_angle 31 (.iload_n 3) 1 32 := by decide +kernel
theorem dX2_angle_32 : eb_dj cX2_angle 32 (.if_icmp .eq 14) 14 35 46 := by decide +kernel
theorem dX2_angle_35 : eb_dc cX2_angle 35 (.iload 4) 2 37 := by decide +kernel
theorem dX2_angle_37 : eb_dc cX2_angle 37 (.iconst 2) 1 38 := by decide +kernel
theorem dX2_angle_38 : eb_dc cX2_angle 38 (.bipush 6) 2 40 := by decide +kernel
theorem dX2_angle_40 : eb_dc cX2_angle 40 (.invokestatic 109) 3 43 := by decide +kernel
theorem dX2_angle_43 : eb_dj cX2_angle 43 (.ifCond .ne 6) 6 46 49 := by decide +kernel
theorem dX2_angle_46 : eb_dc cX2_angle 46 (.bipush (-2)) 2 48 := by decide +kernel
theorem dX2_angle_48 : eb_dc cX2_angle 48 (.ireturn) 1 49 := by decide +kernel
theorem dX2_angle_49 : eb_dc cX2_angle 49 (.aload_n 0) 1 50 := by decide +kernel
theorem dX2_angle_50 : eb_dc cX2_angle 50 (.iload_n 1) 1 51 := by decide +kernel
theorem dX2_angle_51 : eb_dc cX2_angle 51 (.iload_n 2) 1 52 := by decide +kernel
theorem dX2_angle_52 : eb_dc cX2_angle 52 (.iload_n 3) 1 53 := by decide +kernel
theorem dX2_angle_53 : eb_dc cX2_angle 53 (.invokevirtual 121) 3 56 := by decide +kernel
theorem dX2_angle_56 : eb_dc cX2_angle 56 (.istore 5) 2 58 := by decide +kernel
theorem dX2_angle_58 : eb_dc cX2_angle 58 (.aload_n 0) 1 59 := by decide +kernel
theorem dX2_angle_59 : eb_dc cX2_angle 59 (.getfield 13) 3 62 := by decide +kernel
theorem dX2_angle_62 : eb_dc cX2_angle 62 (.bipush 16) 2 64 := by decide +kernel
theorem dX2_angle_64 : eb_dc cX2_angle 64 (.iload_n 1) 1 65 := by decide +kernel
theorem dX2_angle_65 : eb_dc cX2_angle 65 (.imul) 1 66 := by decide +kernel
theorem dX2_angle_66 : eb_dc cX2_angle 66 (.iconst 4) 1 67 := by decide +kernel
theorem dX2_angle_67 : eb_dc cX2_angle 67 (.iload_n 2) 1 68 := by decide +kernel
theorem dX2_angle_68 : eb_dc cX2_angle 68 (.imul) 1 69 := by decide +kernel
theorem dX2_angle_69 : eb_dc cX2_angle 69 (.iadd) 1 70 := by decide +kernel
theorem dX2_angle_70 : eb_dc cX2_angle 70 (.iload_n 3) 1 71 := by decide +kernel
theorem dX2_angle_71 : eb_dc cX2_angle 71 (.iadd) 1 72 := by decide +kernel
theorem dX2_angle_72 : eb_dc cX2_angle 72 (.iload 4) 2 74 := by decide +kernel
theorem dX2_angle_74 : eb_dc cX2_angle 74 (.iastore) 1 75 := by decide +kernel
theorem dX2_angle_75 : eb_dc cX2_angle 75 (.aload_n 0) 1 76 := by decide +kernel
theorem dX2_angle_76 : eb_dc cX2_angle 76 (.getfield 13) 3 79 := by decide +kernel
theorem dX2_angle_79 : eb_dc cX2_angle 79 (.bipush 16) 2 81 := by decide +kernel
theorem dX2_angle_81 : eb_dc cX2_angle 81 (.iload_n 1) 1 82 := by decide +kernel
theorem dX2_angle_82 : eb_dc cX2_angle 82 (.imul) 1 83 := by decide +kernel
theorem dX2_angle_83 : eb_dc cX2_angle 83 (.iconst 4) 1 84 := by decide +kernel
theorem dX2_angle_84 : eb_dc cX2_angle 84 (.iload_n 3) 1 85 := by decide +kernel
theorem dX2_angle_85 : eb_dc cX2_angle 85 (.imul) 1 86 := by decide +kernel
theorem dX2_angle_86 : eb_dc cX2_angle 86 (.iadd) 1 87 := by decide +kernel
theorem dX2_angle_87 : eb_dc cX2_angle 87 (.iload_n 2) 1 88 := by decide +kernel
theorem dX2_angle_88 : eb_dc cX2_angle 88 (.iadd) 1 89 := by decide +kernel
theorem dX2_angle_89 : eb_dc cX2_angle 89 (.iload 4) 2 91 := by decide +kernel
theorem dX2_angle_91 : eb_dc cX2_angle 91 (.iastore) 1 92 := by decide +kernel
theorem dX2_angle_92 : eb_dc cX2_angle 92 (.aload_n 0) 1 93 := by decide +kernel
theorem dX2_angle_93 : eb_dc cX2_angle 93 (.iconst (-1)) 1 94 := by decide +kernel
theorem dX2_angle_94 : eb_dc cX2_angle 94 (.putfield 22) 3 97 := by decide +kernel
theorem dX2_angle_97 : eb_dc cX2_angle 97 (.iload 5) 2 99 := by decide +kernel
theorem dX2_angle_99 : eb_dc cX2_angle 99 (.ireturn) 1 100 := by decide +kernel
theorem ctX2_angle {l : Launch} {Γ : eb_C} {ad : Nat → Nat} {ix : Nat → Option Nat} {σ : eb_MS} {a1 : Int32} {a2 : Int32} {a3 : Int32} {a4 : Int32} {K : Int32 → eb_MS → Prop} (hi : ms_inv ad ix) (h : MX2_angle σ a1 a2 a3 a4 K) : eb_Ct l Γ yX2_angle cX2_angle 6 (some .int) rmX2_angle [.ref (ad 0), .int a1, .int a2, .int a3, .int a4] (ms_st Γ ad ix σ) (em_I Γ ad ix K) := by
  refine eb_of (by decide) (Nat.le_of_ble_eq_true rfl) (fun X P hP _ => ?_)
  show eb_G l Γ P X cX2_angle RX2 6 (some .int) rmX2_angle 0 [(0, .ref (ad 0)), (1, .int a1), (2, .int a2), (3, .int a3), (4, .int a4)] [] (ms_st Γ ad ix σ) 0 0
  refine eg_aload_n 0 dX2_angle_0 rfl rfl ?_
  refine eg_iconst dX2_angle_1 kc_0 ?_
  refine em_puts 0 rfl q1142 dX2_angle_2 hi (fun g1 eg1 => ?_)
  replace h := h g1 eg1
  refine eg_iload_n 1 dX2_angle_5 rfl rfl ?_
  refine eg_csp (rest := []) (ctX2_isBody h) (lw_S q1252 q1253 q77 q1254) nX2_isBody ⟨Nat.le_of_ble_eq_true rfl, Nat.le_of_ble_eq_true rfl⟩ ⟨rfl, rfl⟩ ⟨Nat.zero_le _, Nat.zero_le _⟩ rfl rfl (Nat.le_of_ble_eq_true rfl) dX2_angle_6 (fun v2 h => ?_)
  refine eg_if_eq dX2_angle_9 (fun c19 => ?_) (fun c19 => ?_)
  · replace h := h.1 c19
    refine eg_bipush dX2_angle_46 kb_m2 ?_
    exact eg_iret dX2_angle_48 (Nat.zero_le _) (Nat.zero_le _) (hP _ _ ⟨_, _, rfl, rfl, h⟩)
  · replace h := h.2 c19
    refine eg_aload_n 0 dX2_angle_12 rfl rfl ?_
    refine eg_iload_n 1 dX2_angle_13 rfl rfl ?_
    refine eg_iload_n 2 dX2_angle_14 rfl rfl ?_
    refine em_cvp (rest := []) (ctX2_isMirror hi h) hi (lw_V q1262 q1264 qs36 q77 q1265) rfl nX2_isMirror ⟨Nat.le_of_ble_eq_true rfl, Nat.le_of_ble_eq_true rfl⟩ ⟨rfl, rfl⟩ ⟨Nat.zero_le _, Nat.zero_le _⟩ rfl rfl (Nat.le_of_ble_eq_true rfl) dX2_angle_15 (fun v4 h => ?_)
    refine eg_if_eq dX2_angle_18 (fun c18 => ?_) (fun c18 => ?_)
    · replace h := h.1 c18
      refine eg_bipush dX2_angle_46 kb_m2 ?_
      exact eg_iret dX2_angle_48 (Nat.zero_le _) (Nat.zero_le _) (hP _ _ ⟨_, _, rfl, rfl, h⟩)
    · replace h := h.2 c18
      refine eg_aload_n 0 dX2_angle_21 rfl rfl ?_
      refine eg_iload_n 1 dX2_angle_22 rfl rfl ?_
      refine eg_iload_n 3 dX2_angle_23 rfl rfl ?_
      refine em_cvp (rest := []) (ctX2_isMirror hi h) hi (lw_V q1262 q1264 qs36 q77 q1265) rfl nX2_isMirror ⟨Nat.le_of_ble_eq_true rfl, Nat.le_of_ble_eq_true rfl⟩ ⟨rfl, rfl⟩ ⟨Nat.zero_le _, Nat.zero_le _⟩ rfl rfl (Nat.le_of_ble_eq_true rfl) dX2_angle_24 (fun v6 h => ?_)
      refine eg_if_eq dX2_angle_27 (fun c17 => ?_) (fun c17 => ?_)
      · replace h := h.1 c17
        refine eg_bipush dX2_angle_46 kb_m2 ?_
        exact eg_iret dX2_angle_48 (Nat.zero_le _) (Nat.zero_le _) (hP _ _ ⟨_, _, rfl, rfl, h⟩)
      · replace h := h.2 c17
        refine eg_iload_n 2 dX2_angle_30 rfl rfl ?_
        refine eg_iload_n 3 dX2_angle_31 rfl rfl ?_
        refine eg_icmp_eq dX2_angle_32 (fun c16 => ?_) (fun c16 => ?_)
        · replace h := h.1 c16
          refine eg_bipush dX2_angle_46 kb_m2 ?_
          exact eg_iret dX2_angle_48 (Nat.zero_le _) (Nat.zero_le _) (hP _ _ ⟨_, _, rfl, rfl, h⟩)
        · replace h := h.2 c16
          refine eg_iload 4 dX2_angle_35 rfl ?_
          refine eg_iconst dX2_angle_37 kc_2 ?_
          refine eg_bipush dX2_angle_38 kb_6 ?_
          refine eg_csp (rest := []) (ctX2_in h) (lw_S q1255 q1256 q77 q1257) nX2_in ⟨Nat.le_of_ble_eq_true rfl, Nat.le_of_ble_eq_true rfl⟩ ⟨rfl, rfl⟩ ⟨Nat.zero_le _, Nat.zero_le _⟩ rfl rfl (Nat.le_of_ble_eq_true rfl) dX2_angle_40 (fun v8 h => ?_)
          refine eg_if_ne dX2_angle_43 (fun c15 => ?_) (fun c15 => ?_)
          · replace h := h.2 c15
            refine eg_aload_n 0 dX2_angle_49 rfl rfl ?_
            refine eg_iload_n 1 dX2_angle_50 rfl rfl ?_
            refine eg_iload_n 2 dX2_angle_51 rfl rfl ?_
            refine eg_iload_n 3 dX2_angle_52 rfl rfl ?_
            refine em_cvp (rest := []) (ctX2_angleOf hi h) hi (lw_V q1266 q1268 qs37 q77 q1269) rfl nX2_angleOf ⟨Nat.le_of_ble_eq_true rfl, Nat.le_of_ble_eq_true rfl⟩ ⟨rfl, rfl⟩ ⟨Nat.zero_le _, Nat.zero_le _⟩ rfl rfl (Nat.le_of_ble_eq_true rfl) dX2_angle_53 (fun v10 h => ?_)
            refine eg_istore (lv' := [(5, .int v10), (0, .ref (ad 0)), (1, .int a1), (2, .int a2), (3, .int a3), (4, .int a4)]) dX2_angle_56 (Nat.le_of_ble_eq_true rfl) rfl ?_
            refine eg_aload_n 1 dX2_angle_58 rfl rfl ?_
            refine em_geta 2 rfl q1144 dX2_angle_59 hi ?_
            refine eg_bipush dX2_angle_62 kb_16 ?_
            refine eg_iload_n 2 dX2_angle_64 rfl rfl ?_
            refine eg_imul dX2_angle_65 ?_
            refine eg_iconst dX2_angle_66 kc_4 ?_
            refine eg_iload_n 3 dX2_angle_67 rfl rfl ?_
            refine eg_imul dX2_angle_68 ?_
            refine eg_iadd dX2_angle_69 ?_
            refine eg_iload_n 4 dX2_angle_70 rfl rfl ?_
            refine eg_iadd dX2_angle_71 ?_
            refine eg_iload 5 dX2_angle_72 rfl ?_
            obtain ⟨hb, h⟩ := h
            refine em_iast 2 rfl hb dX2_angle_74 hi (fun g12 eg12 => ?_)
            replace h := h g12 eg12
            refine eg_aload_n 1 dX2_angle_75 rfl rfl ?_
            refine em_geta 2 rfl q1144 dX2_angle_76 hi ?_
            refine eg_bipush dX2_angle_79 kb_16 ?_
            refine eg_iload_n 2 dX2_angle_81 rfl rfl ?_
            refine eg_imul dX2_angle_82 ?_
            refine eg_iconst dX2_angle_83 kc_4 ?_
            refine eg_iload_n 4 dX2_angle_84 rfl rfl ?_
            refine eg_imul dX2_angle_85 ?_
            refine eg_iadd dX2_angle_86 ?_
            refine eg_iload_n 3 dX2_angle_87 rfl rfl ?_
            refine eg_iadd dX2_angle_88 ?_
            refine eg_iload 5 dX2_angle_89 rfl ?_
            obtain ⟨hb, h⟩ := h
            refine em_iast 2 rfl hb dX2_angle_91 hi (fun g13 eg13 => ?_)
            replace h := h g13 eg13
            refine eg_aload_n 1 dX2_angle_92 rfl rfl ?_
            refine eg_iconst dX2_angle_93 kc_m1 ?_
            refine em_puts 5 rfl q1147 dX2_angle_94 hi (fun g14 eg14 => ?_)
            replace h := h g14 eg14
            refine eg_iload 0 dX2_angle_97 rfl ?_
            exact eg_iret dX2_angle_99 (Nat.zero_le _) (Nat.zero_le _) (hP _ _ ⟨_, _, rfl, rfl, h⟩)
          · replace h := h.1 c15
            refine eg_bipush dX2_angle_46 kb_m2 ?_
            exact eg_iret dX2_angle_48 (Nat.zero_le _) (Nat.zero_le _) (hP _ _ ⟨_, _, rfl, rfl, h⟩)
def MX2_ring (σ : eb_MS) (a1 : Int32) (a2 : Int32) (K : Int32 → eb_MS → Prop) : Prop :=
  ms_ws σ 0 0 (fun g1 => MX2_isBody a1 (fun v2 => eb_br (v2 = 0) (K (-2) g1) (eb_rd (g1.2.1 1) 4 a1 (fun v4 => MX2_in a2 1 (((eb_shl 1 v4) - 1)) (fun v5 => eb_br (v5 = 0) (K (-2) g1) (eb_rd (g1.2.1 3) 4 a1 (fun v7 => ms_wr g1 3 4 a1 a2 (fun g8 => ms_ws g8 5 (-1) (fun g9 => K v7 g9)))))))))
abbrev rmX2_ring : Room := { frames := 3, cells := 0, slots := 0, locals := 54 }
theorem nX2_ring : eb_ar yX2_ring 2 := by decide +kernel
theorem dX2_ring_0 : eb_dc cX2_ring 0 (.aload_n 0) 1 1 := by decide +kernel
theorem dX2_ring_1 : eb_dc cX2_ring 1 (.iconst 0) 1 2 := by decide +kernel
theorem dX2_ring_2 : eb_dc cX2_ring 2 (.putfield 106) 3 5 := by decide +kernel
theorem dX2_ring_5 : eb_dc cX2_ring 5 (.iload_n 1) 1 6 := by decide +kernel
theorem dX2_ring_6 : eb_dc cX2_ring 6 (.invokestatic 113) 3 9 := by decide +kernel
theorem dX2_ring_9 : eb_dj cX2_ring 9 (.ifCond .eq 21) 21 12 30 := by decide +kernel
theorem dX2_ring_12 : eb_dc cX2_ring 12 (.iload_n 2) 1 13 := by decide +kernel
theorem dX2_ring_13 : eb_dc cX2_ring 13 (.iconst 1) 1 14 := by decide +kernel
theorem dX2_ring_14 : eb_dc cX2_ring 14 (.iconst 1) 1 15 := by decide +kernel
theorem dX2_ring_15 : eb_dc cX2_ring 15 (.aload_n 0) 1 16 := by decide +kernel
theorem dX2_ring_16 : eb_dc cX2_ring 16 (.getfield 7) 3 19 := by decide +kernel
theorem dX2_ring_19 : eb_dc cX2_ring 19 (.iload_n 1) 1 20 := by decide +kernel
theorem dX2_ring_20 : eb_dc cX2_ring 20 (.iaload) 1 21 := by decide +kernel
theorem dX2_ring_21 : eb_dc cX2_ring 21 (.ishl) 1 22 := by decide +kernel
theorem dX2_ring_22 : eb_dc cX2_ring 22 (.iconst 1) 1 23 := by decide +kernel
theorem dX2_ring_23 : eb_dc cX2_ring 23 (.isub) 1 24 := by decide +kernel
theorem dX2_ring_24 : eb_dc cX2_ring 24 (.invokestatic 109) 3 27 := by decide +kernel
theorem dX2_ring_27 : eb_dj cX2_ring 27 (.ifCond .ne 6) 6 30 33 := by decide +kernel
theorem dX2_ring_30 : eb_dc cX2_ring 30 (.bipush (-2)) 2 32 := by decide +kernel
theorem dX2_ring_32 : eb_dc cX2_ring 32 (.ireturn) 1 33 := by decide +kernel
theorem dX2_ring_33 : eb_dc cX2_ring 33 (.aload_n 0) 1 34 := by decide +kernel
theorem dX2_ring_34 : eb_dc cX2_ring 34 (.getfield 16) 3 37 := by decide +kernel
theorem dX2_ring_37 : eb_dc cX2_ring 37 (.iload_n 1) 1 38 := by decide +kernel
theorem dX2_ring_38 : eb_dc cX2_ring 38 (.iaload) 1 39 := by decide +kernel
theorem dX2_ring_39 : eb_dc cX2_ring 39 (.istore_n 3) 1 40 := by decide +kernel
theorem dX2_ring_40 : eb_dc cX2_ring 40 (.aload_n 0) 1 41 := by decide +kernel
theorem dX2_ring_41 : eb_dc cX2_ring 41 (.getfield 16) 3 44 := by decide +kernel
theorem dX2_ring_44 : eb_dc cX2_ring 44 (.iload_n 1) 1 45 := by decide +kernel
theorem dX2_ring_45 : eb_dc cX2_ring 45 (.iload_n 2) 1 46 := by decide +kernel
theorem dX2_ring_46 : eb_dc cX2_ring 46 (.iastore) 1 47 := by decide +kernel
theorem dX2_ring_47 : eb_dc cX2_ring 47 (.aload_n 0) 1 48 := by decide +kernel
theorem dX2_ring_48 : eb_dc cX2_ring 48 (.iconst (-1)) 1 49 := by decide +kernel
theorem dX2_ring_49 : eb_dc cX2_ring 49 (.putfield 22) 3 52 := by decide +kernel
theorem dX2_ring_52 : eb_dc cX2_ring 52 (.iload_n 3) 1 53 := by decide +kernel
theorem dX2_ring_53 : eb_dc cX2_ring 53 (.ireturn) 1 54 := by decide +kernel
theorem ctX2_ring {l : Launch} {Γ : eb_C} {ad : Nat → Nat} {ix : Nat → Option Nat} {σ : eb_MS} {a1 : Int32} {a2 : Int32} {K : Int32 → eb_MS → Prop} (hi : ms_inv ad ix) (h : MX2_ring σ a1 a2 K) : eb_Ct l Γ yX2_ring cX2_ring 4 (some .int) rmX2_ring [.ref (ad 0), .int a1, .int a2] (ms_st Γ ad ix σ) (em_I Γ ad ix K) := by
  refine eb_of (by decide) (Nat.le_of_ble_eq_true rfl) (fun X P hP _ => ?_)
  show eb_G l Γ P X cX2_ring RX2 4 (some .int) rmX2_ring 0 [(0, .ref (ad 0)), (1, .int a1), (2, .int a2)] [] (ms_st Γ ad ix σ) 0 0
  refine eg_aload_n 0 dX2_ring_0 rfl rfl ?_
  refine eg_iconst dX2_ring_1 kc_0 ?_
  refine em_puts 0 rfl q1142 dX2_ring_2 hi (fun g1 eg1 => ?_)
  replace h := h g1 eg1
  refine eg_iload_n 1 dX2_ring_5 rfl rfl ?_
  refine eg_csp (rest := []) (ctX2_isBody h) (lw_S q1252 q1253 q77 q1254) nX2_isBody ⟨Nat.le_of_ble_eq_true rfl, Nat.le_of_ble_eq_true rfl⟩ ⟨rfl, rfl⟩ ⟨Nat.zero_le _, Nat.zero_le _⟩ rfl rfl (Nat.le_of_ble_eq_true rfl) dX2_ring_6 (fun v2 h => ?_)
  refine eg_if_eq dX2_ring_9 (fun c11 => ?_) (fun c11 => ?_)
  · replace h := h.1 c11
    refine eg_bipush dX2_ring_30 kb_m2 ?_
    exact eg_iret dX2_ring_32 (Nat.zero_le _) (Nat.zero_le _) (hP _ _ ⟨_, _, rfl, rfl, h⟩)
  · replace h := h.2 c11
    refine eg_iload_n 2 dX2_ring_12 rfl rfl ?_
    refine eg_iconst dX2_ring_13 kc_1 ?_
    refine eg_iconst dX2_ring_14 kc_1 ?_
    refine eg_aload_n 0 dX2_ring_15 rfl rfl ?_
    refine em_geta 1 rfl q1143 dX2_ring_16 hi ?_
    refine eg_iload_n 1 dX2_ring_19 rfl rfl ?_
    obtain ⟨hb, h⟩ := h
    refine em_iald 1 rfl hb dX2_ring_20 hi (fun v4 ev4 => ?_)
    replace h := h v4 ev4
    refine eg_ishl dX2_ring_21 ?_
    refine eg_iconst dX2_ring_22 kc_1 ?_
    refine eg_isub dX2_ring_23 ?_
    refine eg_csp (rest := []) (ctX2_in h) (lw_S q1255 q1256 q77 q1257) nX2_in ⟨Nat.le_of_ble_eq_true rfl, Nat.le_of_ble_eq_true rfl⟩ ⟨rfl, rfl⟩ ⟨Nat.zero_le _, Nat.zero_le _⟩ rfl rfl (Nat.le_of_ble_eq_true rfl) dX2_ring_24 (fun v5 h => ?_)
    refine eg_if_ne dX2_ring_27 (fun c10 => ?_) (fun c10 => ?_)
    · replace h := h.2 c10
      refine eg_aload_n 0 dX2_ring_33 rfl rfl ?_
      refine em_geta 3 rfl q1145 dX2_ring_34 hi ?_
      refine eg_iload_n 1 dX2_ring_37 rfl rfl ?_
      obtain ⟨hb, h⟩ := h
      refine em_iald 3 rfl hb dX2_ring_38 hi (fun v7 ev7 => ?_)
      replace h := h v7 ev7
      refine eg_istore_n (lv' := [(3, .int v7), (0, .ref (ad 0)), (1, .int a1), (2, .int a2)]) dX2_ring_39 rfl (Nat.le_of_ble_eq_true rfl) rfl ?_
      refine eg_aload_n 1 dX2_ring_40 rfl rfl ?_
      refine em_geta 3 rfl q1145 dX2_ring_41 hi ?_
      refine eg_iload_n 2 dX2_ring_44 rfl rfl ?_
      refine eg_iload_n 3 dX2_ring_45 rfl rfl ?_
      obtain ⟨hb, h⟩ := h
      refine em_iast 3 rfl hb dX2_ring_46 hi (fun g8 eg8 => ?_)
      replace h := h g8 eg8
      refine eg_aload_n 1 dX2_ring_47 rfl rfl ?_
      refine eg_iconst dX2_ring_48 kc_m1 ?_
      refine em_puts 5 rfl q1147 dX2_ring_49 hi (fun g9 eg9 => ?_)
      replace h := h g9 eg9
      refine eg_iload_n 0 dX2_ring_52 rfl rfl ?_
      exact eg_iret dX2_ring_53 (Nat.zero_le _) (Nat.zero_le _) (hP _ _ ⟨_, _, rfl, rfl, h⟩)
    · replace h := h.1 c10
      refine eg_bipush dX2_ring_30 kb_m2 ?_
      exact eg_iret dX2_ring_32 (Nat.zero_le _) (Nat.zero_le _) (hP _ _ ⟨_, _, rfl, rfl, h⟩)
def MX2_order (σ : eb_MS) (a1 : Int32) (a2 : Int32) (a3 : Int32) (K : Int32 → eb_MS → Prop) : Prop :=
  ms_ws σ 0 0 (fun g1 => MX2_isBody a1 (fun v2 => eb_br (v2 = 0) (K (-2) g1) (MX2_isBody a3 (fun v4 => eb_br (v4 = 0) (K (-2) g1) (eb_br (0 ≤ a2) (eb_rd (g1.2.1 1) 4 a1 (fun v6 => eb_jp3 (fun (x5_7 : Int32) (x6_8 : Int32) (g9 : eb_MS) => eb_br (x5_7 = 0) (eb_br (x6_8 = ((eb_shl 1 v6) - 1)) (eb_jp1 (fun (g10 : eb_MS) => eb_jp1 (fun (x7_11 : Int32) => ms_wr g10 1 4 a3 v6 (fun g12 => ms_wr g12 3 4 a3 x7_11 (fun g13 => eb_jp1 (fun (g14 : eb_MS) => ms_ws g14 5 (-1) (fun g15 => K 1 g15)) (fun k16 => eb_loop2 (fun r19 (x8_17 : Int32) (g18 : eb_MS) => eb_br (16 ≤ x8_17) (k16 g18) (eb_rd (g18.2.1 10) 16 x8_17 (fun v20 => ms_wr g18 2 64 (((16 * a3) + x8_17)) v20 (fun g21 => r19 (x8_17 + 1) g21)))) 0 g13)))) (fun k23 => eb_loop2 (fun r26 (x7_24 : Int32) (x8_25 : Int32) => eb_br (v6 ≤ x8_25) (k23 x7_24) (eb_rd (g10.2.1 3) 4 a1 (fun v27 => eb_rd (g10.2.1 34) 4 x8_25 (fun v28 => eb_let ((x7_24 ||| (eb_shl (((eb_shr v27 v28) &&& 1)) x8_25))) (fun v29 => r26 v29 (x8_25 + 1)))))) 0 0)) (fun k31 => eb_loop2 (fun r34 (x7_32 : Int32) (g33 : eb_MS) => eb_br (16 ≤ x7_32) (k31 g33) (eb_jp1 (fun (s35 : Int32) => eb_jp1 (fun (s36 : Int32) => ms_wr g33 10 16 x7_32 s36 (fun g37 => r34 (x7_32 + 1) g37)) (fun k38 => eb_br (s35 = 0) (k38 2) (eb_rd (g33.2.1 34) 4 (x7_32 / 4) (fun v39 => eb_rd (g33.2.1 34) 4 (eb_rem x7_32 4) (fun v40 => MX2_angleOf g33 a1 v39 v40 (fun v41 => k38 v41)))))) (fun k44 => eb_br (v6 ≤ (x7_32 / 4)) (k44 0) (eb_br (v6 ≤ (eb_rem x7_32 4)) (k44 0) (eb_br ((x7_32 / 4) = (eb_rem x7_32 4)) (k44 0) (k44 1)))))) 0 g9)) (K (-2) g9)) (K (-2) g9)) (fun k51 => eb_loop4 (fun r56 (x5_52 : Int32) (x6_53 : Int32) (x7_54 : Int32) (g55 : eb_MS) => eb_br (x7_54 < 0) (k51 x5_52 x6_53 g55) (ms_wr g55 34 4 x7_54 (eb_rem x5_52 10) (fun g57 => eb_rd (g57.2.1 34) 4 x7_54 (fun v58 => eb_jp1 (fun (s59 : Int32) => r56 (x5_52 / 10) (x6_53 ||| s59) ((x7_54 + (-1))) g57) (fun k60 => eb_br (v6 ≤ v58) (k60 0) (eb_rd (g57.2.1 34) 4 x7_54 (fun v61 => k60 (eb_shl 1 v61)))))))) a2 0 (v6 - 1) g1))) (K (-2) g1))))))
abbrev rmX2_order : Room := { frames := 3, cells := 0, slots := 0, locals := 54 }
theorem nX2_order : eb_ar yX2_order 3 := by decide +kernel
theorem dX2_order_0 : eb_dc cX2_order 0 (.aload_n 0) 1 1 := by decide +kernel
theorem dX2_order_1 : eb_dc cX2_order 1 (.iconst 0) 1 2 := by decide +kernel
theorem dX2_order_2 : eb_dc cX2_order 2 (.putfield 106) 3 5 := by decide +kernel
theorem dX2_order_5 : eb_dc cX2_order 5 (.iload_n 1) 1 6 := by decide +kernel
theorem dX2_order_6 : eb_dc cX2_order 6 (.invokestatic 113) 3 9 := by decide +kernel
theorem dX2_order_9 : eb_dj cX2_order 9 (.ifCond .eq 14) 14 12 23 := by decide +kernel
theorem dX2_order_12 : eb_dc cX2_order 12 (.iload_n 3) 1 13 := by decide +kernel
theorem dX2_order_13 : eb_dc cX2_order 13 (.invokestatic 113) 3 16 := by decide +kernel
theorem dX2_order_16 : eb_dj cX2_order 16 (.ifCond .eq 7) 7 19 23 := by decide +kernel
theorem dX2_order_19 : eb_dc cX2_order 19 (.iload_n 2) 1 20 := by decide +kernel
theorem dX2_order_20 : eb_dj cX2_order 20 (.ifCond .ge 6) 6 23 26 := by decide +kernel
theorem dX2_order_23 : eb_dc cX2_order 23 (.bipush (-2)) 2 25 := by decide +kernel
theorem dX2_order_25 : eb_dc cX2_order 25 (.ireturn) 1 26 := by decide +kernel
theorem dX2_order_26 : eb_dc cX2_order 26 (.aload_n 0) 1 27 := by decide +kernel
theorem dX2_order_27 : eb_dc cX2_order 27 (.getfield 7) 3 30 := by decide +kernel
theorem dX2_order_30 : eb_dc cX2_order 30 (.iload_n 1) 1 31 := by decide +kernel
theorem dX2_order_31 : eb_dc cX2_order 31 (.iaload) 1 32 := by decide +kernel
theorem dX2_order_32 : eb_dc cX2_order 32 (.istore 4) 2 34 := by decide +kernel
theorem dX2_order_34 : eb_dc cX2_order 34 (.iload_n 2) 1 35 := by decide +kernel
theorem dX2_order_35 : eb_dc cX2_order 35 (.istore 5) 2 37 := by decide +kernel
theorem dX2_order_37 : eb_dc cX2_order 37 (.iconst 0) 1 38 := by decide +kernel
theorem dX2_order_38 : eb_dc cX2_order 38 (.istore 6) 2 40 := by decide +kernel
theorem dX2_order_40 : eb_dc cX2_order 40 (.iload 4) 2 42 := by decide +kernel
theorem dX2_order_42 : eb_dc cX2_order 42 (.iconst 1) 1 43 := by decide +kernel
theorem dX2_order_43 : eb_dc cX2_order 43 (.isub) 1 44 := by decide +kernel
theorem dX2_order_44 : eb_dc cX2_order 44 (.istore 7) 2 46 := by decide +kernel
theorem dX2_order_46 : eb_dc cX2_order 46 (.iload 7) 2 48 := by decide +kernel
theorem dX2_order_48 : eb_dj cX2_order 48 (.ifCond .lt 58) 58 51 106 := by decide +kernel
theorem dX2_order_51 : eb_dc cX2_order 51 (.aload_n 0) 1 52 := by decide +kernel
theorem dX2_order_52 : eb_dc cX2_order 52 (.getfield 95) 3 55 := by decide +kernel
theorem dX2_order_55 : eb_dc cX2_order 55 (.iload 7) 2 57 := by decide +kernel
theorem dX2_order_57 : eb_dc cX2_order 57 (.iload 5) 2 59 := by decide +kernel
theorem dX2_order_59 : eb_dc cX2_order 59 (.bipush 10) 2 61 := by decide +kernel
theorem dX2_order_61 : eb_dc cX2_order 61 (.irem) 1 62 := by decide +kernel
theorem dX2_order_62 : eb_dc cX2_order 62 (.iastore) 1 63 := by decide +kernel
theorem dX2_order_63 : eb_dc cX2_order 63 (.iload 5) 2 65 := by decide +kernel
theorem dX2_order_65 : eb_dc cX2_order 65 (.bipush 10) 2 67 := by decide +kernel
theorem dX2_order_67 : eb_dc cX2_order 67 (.idiv) 1 68 := by decide +kernel
theorem dX2_order_68 : eb_dc cX2_order 68 (.istore 5) 2 70 := by decide +kernel
theorem dX2_order_70 : eb_dc cX2_order 70 (.iload 6) 2 72 := by decide +kernel
theorem dX2_order_72 : eb_dc cX2_order 72 (.aload_n 0) 1 73 := by decide +kernel
theorem dX2_order_73 : eb_dc cX2_order 73 (.getfield 95) 3 76 := by decide +kernel
theorem dX2_order_76 : eb_dc cX2_order 76 (.iload 7) 2 78 := by decide +kernel
theorem dX2_order_78 : eb_dc cX2_order 78 (.iaload) 1 79 := by decide +kernel
theorem dX2_order_79 : eb_dc cX2_order 79 (.iload 4) 2 81 := by decide +kernel
theorem dX2_order_81 : eb_dj cX2_order 81 (.if_icmp .ge 15) 15 84 96 := by decide +kernel
theorem dX2_order_84 : eb_dc cX2_order 84 (.iconst 1) 1 85 := by decide +kernel
theorem dX2_order_85 : eb_dc cX2_order 85 (.aload_n 0) 1 86 := by decide +kernel
theorem dX2_order_86 : eb_dc cX2_order 86 (.getfield 95) 3 89 := by decide +kernel
theorem dX2_order_89 : eb_dc cX2_order 89 (.iload 7) 2 91 := by decide +kernel
theorem dX2_order_91 : eb_dc cX2_order 91 (.iaload) 1 92 := by decide +kernel
theorem dX2_order_92 : eb_dc cX2_order 92 (.ishl) 1 93 := by decide +kernel
theorem dX2_order_93 : eb_dj cX2_order 93 (.goto 4) 4 96 97 := by decide +kernel
theorem dX2_order_96 : eb_dc cX2_order 96 (.iconst 0) 1 97 := by decide +kernel
theorem dX2_order_97 : eb_dc cX2_order 97 (.ior) 1 98 := by decide +kernel
theorem dX2_order_98 : eb_dc cX2_order 98 (.istore 6) 2 100 := by decide +kernel
theorem dX2_order_100 : eb_dc cX2_order 100 (.iinc 7 (-1)) 3 103 := by decide +kernel
theorem dX2_order_103 : eb_dj cX2_order 103 (.goto (-57)) (-57) 106 46 := by decide +kernel
theorem dX2_order_106 : eb_dc cX2_order 106 (.iload 5) 2 108 := by decide +kernel
theorem dX2_order_108 : eb_dj cX2_order 108 (.ifCond .ne 14) 14 111 122 := by decide +kernel
theorem dX2_order_111 : eb_dc cX2_order 111 (.iload 6) 2 113 := by decide +kernel
theorem dX2_order_113 : eb_dc cX2_order 113 (.iconst 1) 1 114 := by decide +kernel
theorem dX2_order_114 : eb_dc cX2_order 114 (.iload 4) 2 116 := by decide +kernel
theorem dX2_order_116 : eb_dc cX2_order 116 (.ishl) 1 117 := by decide +kernel
theorem dX2_order_117 : eb_dc cX2_order 117 (.iconst 1) 1 118 := by decide +kernel
theorem dX2_order_118 : eb_dc cX2_order 118 (.isub) 1 119 := by decide +kernel
theorem dX2_order_119 : eb_dj cX2_order 119 (.if_icmp .eq 6) 6 122 125 := by decide +kernel
theorem dX2_order_122 : eb_dc cX2_order 122 (.bipush (-2)) 2 124 := by decide +kernel
theorem dX2_order_124 : eb_dc cX2_order 124 (.ireturn) 1 125 := by decide +kernel
theorem dX2_order_125 : eb_dc cX2_order 125 (.iconst 0) 1 126 := by decide +kernel
theorem dX2_order_126 : eb_dc cX2_order 126 (.istore 7) 2 128 := by decide +kernel
theorem dX2_order_128 : eb_dc cX2_order 128 (.iload 7) 2 130 := by decide +kernel
theorem dX2_order_130 : eb_dc cX2_order 130 (.bipush 16) 2 132 := by decide +kernel
theorem dX2_order_132 : eb_dj cX2_order 132 (.if_icmp .ge 84) 84 135 216 := by decide +kernel
theorem dX2_order_135 : eb_dc cX2_order 135 (.iload 7) 2 137 := by decide +kernel
theorem dX2_order_137 : eb_dc cX2_order 137 (.iconst 4) 1 138 := by decide +kernel
theorem dX2_order_138 : eb_dc cX2_order 138 (.idiv) 1 139 := by decide +kernel
theorem dX2_order_139 : eb_dc cX2_order 139 (.iload 4) 2 141 := by decide +kernel
theorem dX2_order_141 : eb_dj cX2_order 141 (.if_icmp .ge 27) 27 144 168 := by decide +kernel
theorem dX2_order_144 : eb_dc cX2_order 144 (.iload 7) 2 146 := by decide +kernel
theorem dX2_order_146 : eb_dc cX2_order 146 (.iconst 4) 1 147 := by decide +kernel
theorem dX2_order_147 : eb_dc cX2_order 147 (.irem) 1 148 := by decide +kernel
theorem dX2_order_148 : eb_dc cX2_order 148 (.iload 4) 2 150 := by decide +kernel
theorem dX2_order_150 : eb_dj cX2_order 150 (.if_icmp .ge 18) 18 153 168 := by decide +kernel
theorem dX2_order_153 : eb_dc cX2_order 153 (.iload 7) 2 155 := by decide +kernel
theorem dX2_order_155 : eb_dc cX2_order 155 (.iconst 4) 1 156 := by decide +kernel
theorem dX2_order_156 : eb_dc cX2_order 156 (.idiv) 1 157 := by decide +kernel
theorem dX2_order_157 : eb_dc cX2_order 157 (.iload 7) 2 159 := by decide +kernel
theorem dX2_order_159 : eb_dc cX2_order 159 (.iconst 4) 1 160 := by decide +kernel
theorem dX2_order_160 : eb_dc cX2_order 160 (.irem) 1 161 := by decide +kernel
theorem dX2_order_161 : eb_dj cX2_order 161 (.if_icmp .eq 7) 7 164 168 := by decide +kernel
theorem dX2_order_164 : eb_dc cX2_order 164 (.iconst 1) 1 165 := by decide +kernel
theorem dX2_order_165 : eb_dj cX2_order 165 (.goto 4) 4 168 169 := by decide +kernel
theorem dX2_order_168 : eb_dc cX2_order 168 (.iconst 0) 1 169 := by decide +kernel
theorem dX2_order_169 : eb_dc cX2_order 169 (.istore 8) 2 171 := by decide +kernel
theorem dX2_order_171 : eb_dc cX2_order 171 (.aload_n 0) 1 172 := by decide +kernel
theorem dX2_order_172 : eb_dc cX2_order 172 (.getfield 29) 3 175 := by decide +kernel
theorem dX2_order_175 : eb_dc cX2_order 175 (.iload 7) 2 177 := by decide +kernel
theorem dX2_order_177 : eb_dc cX2_order 177 (.iload 8) 2 179 := by decide +kernel
theorem dX2_order_179 : eb_dj cX2_order 179 (.ifCond .eq 29) 29 182 208 := by decide +kernel
theorem dX2_order_182 : eb_dc cX2_order 182 (.aload_n 0) 1 183 := by decide +kernel
theorem dX2_order_183 : eb_dc cX2_order 183 (.iload_n 1) 1 184 := by decide +kernel
theorem dX2_order_184 : eb_dc cX2_order 184 (.aload_n 0) 1 185 := by decide +kernel
theorem dX2_order_185 : eb_dc cX2_order 185 (.getfield 95) 3 188 := by decide +kernel
theorem dX2_order_188 : eb_dc cX2_order 188 (.iload 7) 2 190 := by decide +kernel
theorem dX2_order_190 : eb_dc cX2_order 190 (.iconst 4) 1 191 := by decide +kernel
theorem dX2_order_191 : eb_dc cX2_order 191 (.idiv) 1 192 := by decide +kernel
theorem dX2_order_192 : eb_dc cX2_order 192 (.iaload) 1 193 := by decide +kernel
theorem dX2_order_193 : eb_dc cX2_order 193 (.aload_n 0) 1 194 := by decide +kernel
theorem dX2_order_194 : eb_dc cX2_order 194 (.getfield 95) 3 197 := by decide +kernel
theorem dX2_order_197 : eb_dc cX2_order 197 (.iload 7) 2 199 := by decide +kernel
theorem dX2_order_199 : eb_dc cX2_order 199 (.iconst 4) 1 200 := by decide +kernel
theorem dX2_order_200 : eb_dc cX2_order 200 (.irem) 1 201 := by decide +kernel
theorem dX2_order_201 : eb_dc cX2_order 201 (.iaload) 1 202 := by decide +kernel
theorem dX2_order_202 : eb_dc cX2_order 202 (.invokevirtual 121) 3 205 := by decide +kernel
theorem dX2_order_205 : eb_dj cX2_order 205 (.goto 4) 4 208 209 := by decide +kernel
theorem dX2_order_208 : eb_dc cX2_order 208 (.iconst 2) 1 209 := by decide +kernel
theorem dX2_order_209 : eb_dc cX2_order 209 (.iastore) 1 210 := by decide +kernel
theorem dX2_order_210 : eb_dc cX2_order 210 (.iinc 7 1) 3 213 := by decide +kernel
theorem dX2_order_213 : eb_dj cX2_order 213 (.goto (-85)) (-85) 216 128 := by decide +kernel
theorem dX2_order_216 : eb_dc cX2_order 216 (.iconst 0) 1 217 := by decide +kernel
theorem dX2_order_217 : eb_dc cX2_order 217 (.istore 7) 2 219 := by decide +kernel
theorem dX2_order_219 : eb_dc cX2_order 219 (.iconst 0) 1 220 := by decide +kernel
theorem dX2_order_220 : eb_dc cX2_order 220 (.istore 8) 2 222 := by decide +kernel
theorem dX2_order_222 : eb_dc cX2_order 222 (.iload 8) 2 224 := by decide +kernel
theorem dX2_order_224 : eb_dc cX2_order 224 (.iload 4) 2 226 := by decide +kernel
theorem dX2_order_226 : eb_dj cX2_order 226 (.if_icmp .ge 33) 33 229 259 := by decide +kernel
theorem dX2_order_229 : eb_dc cX2_order 229 (.iload 7) 2 231 := by decide +kernel
theorem dX2_order_231 : eb_dc cX2_order 231 (.aload_n 0) 1 232 := by decide +kernel
theorem dX2_order_232 : eb_dc cX2_order 232 (.getfield 16) 3 235 := by decide +kernel
theorem dX2_order_235 : eb_dc cX2_order 235 (.iload_n 1) 1 236 := by decide +kernel
theorem dX2_order_236 : eb_dc cX2_order 236 (.iaload) 1 237 := by decide +kernel
theorem dX2_order_237 : eb_dc cX2_order 237 (.aload_n 0) 1 238 := by decide +kernel
theorem dX2_order_238 : eb_dc cX2_order 238 (.getfield 95) 3 241 := by decide +kernel
theorem dX2_order_241 : eb_dc cX2_order 241 (.iload 8) 2 243 := by decide +kernel
theorem dX2_order_243 : eb_dc cX2_order 243 (.iaload) 1 244 := by decide +kernel
theorem dX2_order_244 : eb_dc cX2_order 244 (.ishr) 1 245 := by decide +kernel
theorem dX2_order_245 : eb_dc cX2_order 245 (.iconst 1) 1 246 := by decide +kernel
theorem dX2_order_246 : eb_dc cX2_order 246 (.iand) 1 247 := by decide +kernel
theorem dX2_order_247 : eb_dc cX2_order 247 (.iload 8) 2 249 := by decide +kernel
theorem dX2_order_249 : eb_dc cX2_order 249 (.ishl) 1 250 := by decide +kernel
theorem dX2_order_250 : eb_dc cX2_order 250 (.ior) 1 251 := by decide +kernel
theorem dX2_order_251 : eb_dc cX2_order 251 (.istore 7) 2 253 := by decide +kernel
theorem dX2_order_253 : eb_dc cX2_order 253 (.iinc 8 1) 3 256 := by decide +kernel
theorem dX2_order_256 : eb_dj cX2_order 256 (.goto (-34)) (-34) 259 222 := by decide +kernel
theorem dX2_order_259 : eb_dc cX2_order 259 (.aload_n 0) 1 260 := by decide +kernel
theorem dX2_order_260 : eb_dc cX2_order 260 (.getfield 7) 3 263 := by decide +kernel
theorem dX2_order_263 : eb_dc cX2_order 263 (.iload_n 3) 1 264 := by decide +kernel
theorem dX2_order_264 : eb_dc cX2_order 264 (.iload 4) 2 266 := by decide +kernel
theorem dX2_order_266 : eb_dc cX2_order 266 (.iastore) 1 267 := by decide +kernel
theorem dX2_order_267 : eb_dc cX2_order 267 (.aload_n 0) 1 268 := by decide +kernel
theorem dX2_order_268 : eb_dc cX2_order 268 (.getfield 16) 3 271 := by decide +kernel
theorem dX2_order_271 : eb_dc cX2_order 271 (.iload_n 3) 1 272 := by decide +kernel
theorem dX2_order_272 : eb_dc cX2_order 272 (.iload 7) 2 274 := by decide +kernel
theorem dX2_order_274 : eb_dc cX2_order 274 (.iastore) 1 275 := by decide +kernel
theorem dX2_order_275 : eb_dc cX2_order 275 (.iconst 0) 1 276 := by decide +kernel
theorem dX2_order_276 : eb_dc cX2_order 276 (.istore 8) 2 278 := by decide +kernel
theorem dX2_order_278 : eb_dc cX2_order 278 (.iload 8) 2 280 := by decide +kernel
theorem dX2_order_280 : eb_dc cX2_order 280 (.bipush 16) 2 282 := by decide +kernel
theorem dX2_order_282 : eb_dj cX2_order 282 (.if_icmp .ge 28) 28 285 310 := by decide +kernel
theorem dX2_order_285 : eb_dc cX2_order 285 (.aload_n 0) 1 286 := by decide +kernel
theorem dX2_order_286 : eb_dc cX2_order 286 (.getfield 13) 3 289 := by decide +kernel
theorem dX2_order_289 : eb_dc cX2_order 289 (.bipush 16) 2 291 := by decide +kernel
theorem dX2_order_291 : eb_dc cX2_order 291 (.iload_n 3) 1 292 := by decide +kernel
theorem dX2_order_292 : eb_dc cX2_order 292 (.imul) 1 293 := by decide +kernel
theorem dX2_order_293 : eb_dc cX2_order 293 (.iload 8) 2 295 := by decide +kernel
theorem dX2_order_295 : eb_dc cX2_order 295 (.iadd) 1 296 := by decide +kernel
theorem dX2_order_296 : eb_dc cX2_order 296 (.aload_n 0) 1 297 := by decide +kernel
theorem dX2_order_297 : eb_dc cX2_order 297 (.getfield 29) 3 300 := by decide +kernel
theorem dX2_order_300 : eb_dc cX2_order 300 (.iload 8) 2 302 := by decide +kernel
theorem dX2_order_302 : eb_dc cX2_order 302 (.iaload) 1 303 := by decide +kernel
theorem dX2_order_303 : eb_dc cX2_order 303 (.iastore) 1 304 := by decide +kernel
theorem dX2_order_304 : eb_dc cX2_order 304 (.iinc 8 1) 3 307 := by decide +kernel
theorem dX2_order_307 : eb_dj cX2_order 307 (.goto (-29)) (-29) 310 278 := by decide +kernel
theorem dX2_order_310 : eb_dc cX2_order 310 (.aload_n 0) 1 311 := by decide +kernel
theorem dX2_order_311 : eb_dc cX2_order 311 (.iconst (-1)) 1 312 := by decide +kernel
theorem dX2_order_312 : eb_dc cX2_order 312 (.putfield 22) 3 315 := by decide +kernel
theorem dX2_order_315 : eb_dc cX2_order 315 (.iconst 1) 1 316 := by decide +kernel
theorem dX2_order_316 : eb_dc cX2_order 316 (.ireturn) 1 317 := by decide +kernel
theorem ctX2_order {l : Launch} {Γ : eb_C} {ad : Nat → Nat} {ix : Nat → Option Nat} {σ : eb_MS} {a1 : Int32} {a2 : Int32} {a3 : Int32} {K : Int32 → eb_MS → Prop} (hi : ms_inv ad ix) (h : MX2_order σ a1 a2 a3 K) : eb_Ct l Γ yX2_order cX2_order 9 (some .int) rmX2_order [.ref (ad 0), .int a1, .int a2, .int a3] (ms_st Γ ad ix σ) (em_I Γ ad ix K) := by
  refine eb_of (by decide) (Nat.le_of_ble_eq_true rfl) (fun X P hP _ => ?_)
  show eb_G l Γ P X cX2_order RX2 9 (some .int) rmX2_order 0 [(0, .ref (ad 0)), (1, .int a1), (2, .int a2), (3, .int a3)] [] (ms_st Γ ad ix σ) 0 0
  refine eg_aload_n 0 dX2_order_0 rfl rfl ?_
  refine eg_iconst dX2_order_1 kc_0 ?_
  refine em_puts 0 rfl q1142 dX2_order_2 hi (fun g1 eg1 => ?_)
  replace h := h g1 eg1
  refine eg_iload_n 1 dX2_order_5 rfl rfl ?_
  refine eg_csp (rest := []) (ctX2_isBody h) (lw_S q1252 q1253 q77 q1254) nX2_isBody ⟨Nat.le_of_ble_eq_true rfl, Nat.le_of_ble_eq_true rfl⟩ ⟨rfl, rfl⟩ ⟨Nat.zero_le _, Nat.zero_le _⟩ rfl rfl (Nat.le_of_ble_eq_true rfl) dX2_order_6 (fun v2 h => ?_)
  refine eg_if_eq dX2_order_9 (fun c66 => ?_) (fun c66 => ?_)
  · replace h := h.1 c66
    refine eg_bipush dX2_order_23 kb_m2 ?_
    exact eg_iret dX2_order_25 (Nat.zero_le _) (Nat.zero_le _) (hP _ _ ⟨_, _, rfl, rfl, h⟩)
  · replace h := h.2 c66
    refine eg_iload_n 3 dX2_order_12 rfl rfl ?_
    refine eg_csp (rest := []) (ctX2_isBody h) (lw_S q1252 q1253 q77 q1254) nX2_isBody ⟨Nat.le_of_ble_eq_true rfl, Nat.le_of_ble_eq_true rfl⟩ ⟨rfl, rfl⟩ ⟨Nat.zero_le _, Nat.zero_le _⟩ rfl rfl (Nat.le_of_ble_eq_true rfl) dX2_order_13 (fun v4 h => ?_)
    refine eg_if_eq dX2_order_16 (fun c65 => ?_) (fun c65 => ?_)
    · replace h := h.1 c65
      refine eg_bipush dX2_order_23 kb_m2 ?_
      exact eg_iret dX2_order_25 (Nat.zero_le _) (Nat.zero_le _) (hP _ _ ⟨_, _, rfl, rfl, h⟩)
    · replace h := h.2 c65
      refine eg_iload_n 2 dX2_order_19 rfl rfl ?_
      refine eg_if_ge dX2_order_20 (fun c64 => ?_) (fun c64 => ?_)
      · replace h := h.1 c64
        refine eg_aload_n 0 dX2_order_26 rfl rfl ?_
        refine em_geta 1 rfl q1143 dX2_order_27 hi ?_
        refine eg_iload_n 1 dX2_order_30 rfl rfl ?_
        obtain ⟨hb, h⟩ := h
        refine em_iald 1 rfl hb dX2_order_31 hi (fun v6 ev6 => ?_)
        replace h := h v6 ev6
        refine eg_istore (lv' := [(4, .int v6), (0, .ref (ad 0)), (1, .int a1), (2, .int a2), (3, .int a3)]) dX2_order_32 (Nat.le_of_ble_eq_true rfl) rfl ?_
        refine eg_iload_n 3 dX2_order_34 rfl rfl ?_
        refine eg_istore (lv' := [(5, .int a2), (4, .int v6), (0, .ref (ad 0)), (1, .int a1), (2, .int a2), (3, .int a3)]) dX2_order_35 (Nat.le_of_ble_eq_true rfl) rfl ?_
        refine eg_iconst dX2_order_37 kc_0 ?_
        refine eg_istore (lv' := [(6, .int 0), (5, .int a2), (4, .int v6), (0, .ref (ad 0)), (1, .int a1), (2, .int a2), (3, .int a3)]) dX2_order_38 (Nat.le_of_ble_eq_true rfl) rfl ?_
        refine eg_iload 2 dX2_order_40 rfl ?_
        refine eg_iconst dX2_order_42 kc_1 ?_
        refine eg_isub dX2_order_43 ?_
        refine eg_istore (lv' := [(7, .int (v6 - 1)), (6, .int 0), (5, .int a2), (4, .int v6), (0, .ref (ad 0)), (1, .int a1), (2, .int a2), (3, .int a3)]) dX2_order_44 (Nat.le_of_ble_eq_true rfl) rfl ?_
        refine eb_jp3_e (J := fun (x5_7 : Int32) (x6_8 : Int32) (g9 : eb_MS) => eb_G l Γ P X cX2_order RX2 9 (some .int) rmX2_order 106 [(0, .ref (ad 0)), (1, .int a1), (3, .int a3), (4, .int v6), (5, .int x5_7), (6, .int x6_8)] [] (ms_st Γ ad ix g9) 0 0) h ?_ ?_
        · intro x5_7 x6_8 g9 h
          refine eg_iload 4 dX2_order_106 rfl ?_
          refine eg_if_ne dX2_order_108 (fun c50 => ?_) (fun c50 => ?_)
          · replace h := h.2 c50
            refine eg_bipush dX2_order_122 kb_m2 ?_
            exact eg_iret dX2_order_124 (Nat.zero_le _) (Nat.zero_le _) (hP _ _ ⟨_, _, rfl, rfl, h⟩)
          · replace h := h.1 c50
            refine eg_iload 5 dX2_order_111 rfl ?_
            refine eg_iconst dX2_order_113 kc_1 ?_
            refine eg_iload 3 dX2_order_114 rfl ?_
            refine eg_ishl dX2_order_116 ?_
            refine eg_iconst dX2_order_117 kc_1 ?_
            refine eg_isub dX2_order_118 ?_
            refine eg_icmp_eq dX2_order_119 (fun c49 => ?_) (fun c49 => ?_)
            · replace h := h.1 c49
              refine eg_iconst dX2_order_125 kc_0 ?_
              refine eg_istore (lv' := [(7, .int 0), (0, .ref (ad 0)), (1, .int a1), (3, .int a3), (4, .int v6), (5, .int x5_7), (6, .int x6_8)]) dX2_order_126 (Nat.le_of_ble_eq_true rfl) rfl ?_
              refine eb_jp1_e (J := fun (g10 : eb_MS) => eb_G l Γ P X cX2_order RX2 9 (some .int) rmX2_order 216 [(0, .ref (ad 0)), (1, .int a1), (3, .int a3), (4, .int v6)] [] (ms_st Γ ad ix g10) 0 0) h ?_ ?_
              · intro g10 h
                refine eg_iconst dX2_order_216 kc_0 ?_
                refine eg_istore (lv' := [(7, .int 0), (0, .ref (ad 0)), (1, .int a1), (3, .int a3), (4, .int v6)]) dX2_order_217 (Nat.le_of_ble_eq_true rfl) rfl ?_
                refine eg_iconst dX2_order_219 kc_0 ?_
                refine eg_istore (lv' := [(8, .int 0), (7, .int 0), (0, .ref (ad 0)), (1, .int a1), (3, .int a3), (4, .int v6)]) dX2_order_220 (Nat.le_of_ble_eq_true rfl) rfl ?_
                refine eb_jp1_e (J := fun (x7_11 : Int32) => eb_G l Γ P X cX2_order RX2 9 (some .int) rmX2_order 259 [(0, .ref (ad 0)), (3, .int a3), (4, .int v6), (7, .int x7_11)] [] (ms_st Γ ad ix g10) 0 0) h ?_ ?_
                · intro x7_11 h
                  refine eg_aload_n 0 dX2_order_259 rfl rfl ?_
                  refine em_geta 1 rfl q1143 dX2_order_260 hi ?_
                  refine eg_iload_n 1 dX2_order_263 rfl rfl ?_
                  refine eg_iload 2 dX2_order_264 rfl ?_
                  obtain ⟨hb, h⟩ := h
                  refine em_iast 1 rfl hb dX2_order_266 hi (fun g12 eg12 => ?_)
                  replace h := h g12 eg12
                  refine eg_aload_n 0 dX2_order_267 rfl rfl ?_
                  refine em_geta 3 rfl q1145 dX2_order_268 hi ?_
                  refine eg_iload_n 1 dX2_order_271 rfl rfl ?_
                  refine eg_iload 3 dX2_order_272 rfl ?_
                  obtain ⟨hb, h⟩ := h
                  refine em_iast 3 rfl hb dX2_order_274 hi (fun g13 eg13 => ?_)
                  replace h := h g13 eg13
                  refine eg_iconst dX2_order_275 kc_0 ?_
                  refine eg_istore (lv' := [(8, .int 0), (0, .ref (ad 0)), (3, .int a3), (4, .int v6), (7, .int x7_11)]) dX2_order_276 (Nat.le_of_ble_eq_true rfl) rfl ?_
                  refine eb_jp1_e (J := fun (g14 : eb_MS) => eb_G l Γ P X cX2_order RX2 9 (some .int) rmX2_order 310 [(0, .ref (ad 0))] [] (ms_st Γ ad ix g14) 0 0) h ?_ ?_
                  · intro g14 h
                    refine eg_aload_n 0 dX2_order_310 rfl rfl ?_
                    refine eg_iconst dX2_order_311 kc_m1 ?_
                    refine em_puts 5 rfl q1147 dX2_order_312 hi (fun g15 eg15 => ?_)
                    replace h := h g15 eg15
                    refine eg_iconst dX2_order_315 kc_1 ?_
                    exact eg_iret dX2_order_316 (Nat.zero_le _) (Nat.zero_le _) (hP _ _ ⟨_, _, rfl, rfl, h⟩)
                  · intro k16 hk16 h
                    refine eg_sub [1, 2, 0] rfl ?_
                    refine eb_loop2_e (J := fun (x8_17 : Int32) (g18 : eb_MS) => eb_G l Γ P X cX2_order RX2 9 (some .int) rmX2_order 278 [(0, .ref (ad 0)), (3, .int a3), (8, .int x8_17)] [] (ms_st Γ ad ix g18) 0 0) h ?_
                    intro r19 hr19 x8_17 g18 h
                    refine eg_iload 2 dX2_order_278 rfl ?_
                    refine eg_bipush dX2_order_280 kb_16 ?_
                    refine eg_icmp_ge dX2_order_282 (fun c22 => ?_) (fun c22 => ?_)
                    · replace h := h.1 c22
                      exact eg_sub [0] rfl (hk16 g18 h)
                    · replace h := h.2 c22
                      refine eg_aload_n 0 dX2_order_285 rfl rfl ?_
                      refine em_geta 2 rfl q1144 dX2_order_286 hi ?_
                      refine eg_bipush dX2_order_289 kb_16 ?_
                      refine eg_iload_n 1 dX2_order_291 rfl rfl ?_
                      refine eg_imul dX2_order_292 ?_
                      refine eg_iload 2 dX2_order_293 rfl ?_
                      refine eg_iadd dX2_order_295 ?_
                      refine eg_aload_n 0 dX2_order_296 rfl rfl ?_
                      refine em_geta 10 rfl q1152 dX2_order_297 hi ?_
                      refine eg_iload 2 dX2_order_300 rfl ?_
                      obtain ⟨hb, h⟩ := h
                      refine em_iald 10 rfl hb dX2_order_302 hi (fun v20 ev20 => ?_)
                      replace h := h v20 ev20
                      obtain ⟨hb, h⟩ := h
                      refine em_iast 2 rfl hb dX2_order_303 hi (fun g21 eg21 => ?_)
                      replace h := h g21 eg21
                      refine eg_iinc (j := 2) (lv' := [(8, .int (x8_17 + 1)), (0, .ref (ad 0)), (3, .int a3)]) dX2_order_304 rfl (by rw [kc_1]) (Nat.le_of_ble_eq_true rfl) rfl ?_
                      refine eg_goto dX2_order_307 ?_
                      exact eg_sub [1, 2, 0] rfl (hr19 (x8_17 + 1) g21 h)
                · intro k23 hk23 h
                  refine eg_sub [2, 3, 4, 5, 1, 0] rfl ?_
                  refine eb_loop2_e (J := fun (x7_24 : Int32) (x8_25 : Int32) => eb_G l Γ P X cX2_order RX2 9 (some .int) rmX2_order 222 [(0, .ref (ad 0)), (1, .int a1), (3, .int a3), (4, .int v6), (7, .int x7_24), (8, .int x8_25)] [] (ms_st Γ ad ix g10) 0 0) h ?_
                  intro r26 hr26 x7_24 x8_25 h
                  refine eg_iload 5 dX2_order_222 rfl ?_
                  refine eg_iload 3 dX2_order_224 rfl ?_
                  refine eg_icmp_ge dX2_order_226 (fun c30 => ?_) (fun c30 => ?_)
                  · replace h := h.1 c30
                    exact eg_sub [0, 2, 3, 4] rfl (hk23 x7_24 h)
                  · replace h := h.2 c30
                    refine eg_iload 4 dX2_order_229 rfl ?_
                    refine eg_aload_n 0 dX2_order_231 rfl rfl ?_
                    refine em_geta 3 rfl q1145 dX2_order_232 hi ?_
                    refine eg_iload_n 1 dX2_order_235 rfl rfl ?_
                    obtain ⟨hb, h⟩ := h
                    refine em_iald 3 rfl hb dX2_order_236 hi (fun v27 ev27 => ?_)
                    replace h := h v27 ev27
                    refine eg_aload_n 0 dX2_order_237 rfl rfl ?_
                    refine em_geta 34 rfl q1176 dX2_order_238 hi ?_
                    refine eg_iload 5 dX2_order_241 rfl ?_
                    obtain ⟨hb, h⟩ := h
                    refine em_iald 34 rfl hb dX2_order_243 hi (fun v28 ev28 => ?_)
                    replace h := h v28 ev28
                    refine eg_ishr dX2_order_244 ?_
                    refine eg_iconst dX2_order_245 kc_1 ?_
                    refine eg_iand dX2_order_246 ?_
                    refine eg_iload 5 dX2_order_247 rfl ?_
                    refine eg_ishl dX2_order_249 ?_
                    refine eg_ior dX2_order_250 ?_
                    refine eg_leti (fun v29 ev29 => ?_)
                    replace h := h v29 ev29
                    refine eg_istore (lv' := [(7, .int v29), (0, .ref (ad 0)), (1, .int a1), (3, .int a3), (4, .int v6), (8, .int x8_25)]) dX2_order_251 (Nat.le_of_ble_eq_true rfl) rfl ?_
                    refine eg_iinc (j := 5) (lv' := [(8, .int (x8_25 + 1)), (7, .int v29), (0, .ref (ad 0)), (1, .int a1), (3, .int a3), (4, .int v6)]) dX2_order_253 rfl (by rw [kc_1]) (Nat.le_of_ble_eq_true rfl) rfl ?_
                    refine eg_goto dX2_order_256 ?_
                    exact eg_sub [2, 3, 4, 5, 1, 0] rfl (hr26 v29 (x8_25 + 1) h)
              · intro k31 hk31 h
                refine eg_sub [1, 2, 3, 4, 0] rfl ?_
                refine eb_loop2_e (J := fun (x7_32 : Int32) (g33 : eb_MS) => eb_G l Γ P X cX2_order RX2 9 (some .int) rmX2_order 128 [(0, .ref (ad 0)), (1, .int a1), (3, .int a3), (4, .int v6), (7, .int x7_32)] [] (ms_st Γ ad ix g33) 0 0) h ?_
                intro r34 hr34 x7_32 g33 h
                refine eg_iload 4 dX2_order_128 rfl ?_
                refine eg_bipush dX2_order_130 kb_16 ?_
                refine eg_icmp_ge dX2_order_132 (fun c48 => ?_) (fun c48 => ?_)
                · replace h := h.1 c48
                  exact eg_sub [0, 1, 2, 3] rfl (hk31 g33 h)
                · replace h := h.2 c48
                  refine eg_iload 4 dX2_order_135 rfl ?_
                  refine eg_iconst dX2_order_137 kc_4 ?_
                  refine eg_idiv dX2_order_138 (by decide) ?_
                  refine eg_iload 3 dX2_order_139 rfl ?_
                  refine eb_jp1_e (J := fun (s35 : Int32) => eb_G l Γ P X cX2_order RX2 9 (some .int) rmX2_order 169 [(0, .ref (ad 0)), (1, .int a1), (3, .int a3), (4, .int v6), (7, .int x7_32)] [.int s35] (ms_st Γ ad ix g33) 0 0) h ?_ ?_
                  · intro s35 h
                    refine eg_istore (lv' := [(8, .int s35), (0, .ref (ad 0)), (1, .int a1), (3, .int a3), (4, .int v6), (7, .int x7_32)]) dX2_order_169 (Nat.le_of_ble_eq_true rfl) rfl ?_
                    refine eg_aload_n 1 dX2_order_171 rfl rfl ?_
                    refine em_geta 10 rfl q1152 dX2_order_172 hi ?_
                    refine eg_iload 5 dX2_order_175 rfl ?_
                    refine eg_iload 0 dX2_order_177 rfl ?_
                    refine eb_jp1_e (J := fun (s36 : Int32) => eb_G l Γ P X cX2_order RX2 9 (some .int) rmX2_order 209 [(0, .ref (ad 0)), (1, .int a1), (3, .int a3), (4, .int v6), (7, .int x7_32)] [.int s36, .int x7_32, .ref (ad 10)] (ms_st Γ ad ix g33) 0 0) h ?_ ?_
                    · intro s36 h
                      obtain ⟨hb, h⟩ := h
                      refine em_iast 10 rfl hb dX2_order_209 hi (fun g37 eg37 => ?_)
                      replace h := h g37 eg37
                      refine eg_iinc (j := 4) (lv' := [(7, .int (x7_32 + 1)), (0, .ref (ad 0)), (1, .int a1), (3, .int a3), (4, .int v6)]) dX2_order_210 rfl (by rw [kc_1]) (Nat.le_of_ble_eq_true rfl) rfl ?_
                      refine eg_goto dX2_order_213 ?_
                      exact eg_sub [1, 2, 3, 4, 0] rfl (hr34 (x7_32 + 1) g37 h)
                    · intro k38 hk38 h
                      refine eg_if_eq dX2_order_179 (fun c43 => ?_) (fun c43 => ?_)
                      · replace h := h.1 c43
                        refine eg_iconst dX2_order_208 kc_2 ?_
                        exact eg_sub [1, 2, 3, 4, 5] rfl (hk38 2 h)
                      · replace h := h.2 c43
                        refine eg_aload_n 1 dX2_order_182 rfl rfl ?_
                        refine eg_iload_n 2 dX2_order_183 rfl rfl ?_
                        refine eg_aload_n 1 dX2_order_184 rfl rfl ?_
                        refine em_geta 34 rfl q1176 dX2_order_185 hi ?_
                        refine eg_iload 5 dX2_order_188 rfl ?_
                        refine eg_iconst dX2_order_190 kc_4 ?_
                        refine eg_idiv dX2_order_191 (by decide) ?_
                        obtain ⟨hb, h⟩ := h
                        refine em_iald 34 rfl hb dX2_order_192 hi (fun v39 ev39 => ?_)
                        replace h := h v39 ev39
                        refine eg_aload_n 1 dX2_order_193 rfl rfl ?_
                        refine em_geta 34 rfl q1176 dX2_order_194 hi ?_
                        refine eg_iload 5 dX2_order_197 rfl ?_
                        refine eg_iconst dX2_order_199 kc_4 ?_
                        refine eg_irem dX2_order_200 (by decide) ?_
                        obtain ⟨hb, h⟩ := h
                        refine em_iald 34 rfl hb dX2_order_201 hi (fun v40 ev40 => ?_)
                        replace h := h v40 ev40
                        refine em_cvp (rest := [.int x7_32, .ref (ad 10)]) (ctX2_angleOf hi h) hi (lw_V q1266 q1268 qs37 q77 q1269) rfl nX2_angleOf ⟨Nat.le_of_ble_eq_true rfl, Nat.le_of_ble_eq_true rfl⟩ ⟨rfl, rfl⟩ ⟨Nat.zero_le _, Nat.zero_le _⟩ rfl rfl (Nat.le_of_ble_eq_true rfl) dX2_order_202 (fun v41 h => ?_)
                        refine eg_goto dX2_order_205 ?_
                        exact eg_sub [1, 2, 3, 4, 5] rfl (hk38 v41 h)
                  · intro k44 hk44 h
                    refine eg_icmp_ge dX2_order_141 (fun c47 => ?_) (fun c47 => ?_)
                    · replace h := h.1 c47
                      refine eg_iconst dX2_order_168 kc_0 ?_
                      exact hk44 0 h
                    · replace h := h.2 c47
                      refine eg_iload 4 dX2_order_144 rfl ?_
                      refine eg_iconst dX2_order_146 kc_4 ?_
                      refine eg_irem dX2_order_147 (by decide) ?_
                      refine eg_iload 3 dX2_order_148 rfl ?_
                      refine eg_icmp_ge dX2_order_150 (fun c46 => ?_) (fun c46 => ?_)
                      · replace h := h.1 c46
                        refine eg_iconst dX2_order_168 kc_0 ?_
                        exact hk44 0 h
                      · replace h := h.2 c46
                        refine eg_iload 4 dX2_order_153 rfl ?_
                        refine eg_iconst dX2_order_155 kc_4 ?_
                        refine eg_idiv dX2_order_156 (by decide) ?_
                        refine eg_iload 4 dX2_order_157 rfl ?_
                        refine eg_iconst dX2_order_159 kc_4 ?_
                        refine eg_irem dX2_order_160 (by decide) ?_
                        refine eg_icmp_eq dX2_order_161 (fun c45 => ?_) (fun c45 => ?_)
                        · replace h := h.1 c45
                          refine eg_iconst dX2_order_168 kc_0 ?_
                          exact hk44 0 h
                        · replace h := h.2 c45
                          refine eg_iconst dX2_order_164 kc_1 ?_
                          refine eg_goto dX2_order_165 ?_
                          exact hk44 1 h
            · replace h := h.2 c49
              refine eg_bipush dX2_order_122 kb_m2 ?_
              exact eg_iret dX2_order_124 (Nat.zero_le _) (Nat.zero_le _) (hP _ _ ⟨_, _, rfl, rfl, h⟩)
        · intro k51 hk51 h
          refine eg_sub [4, 5, 7, 3, 2, 1, 0] rfl ?_
          refine eb_loop4_e (J := fun (x5_52 : Int32) (x6_53 : Int32) (x7_54 : Int32) (g55 : eb_MS) => eb_G l Γ P X cX2_order RX2 9 (some .int) rmX2_order 46 [(0, .ref (ad 0)), (1, .int a1), (3, .int a3), (4, .int v6), (5, .int x5_52), (6, .int x6_53), (7, .int x7_54)] [] (ms_st Γ ad ix g55) 0 0) h ?_
          intro r56 hr56 x5_52 x6_53 x7_54 g55 h
          refine eg_iload 6 dX2_order_46 rfl ?_
          refine eg_if_lt dX2_order_48 (fun c63 => ?_) (fun c63 => ?_)
          · replace h := h.1 c63
            exact eg_sub [0, 1, 2, 3, 4, 5] rfl (hk51 x5_52 x6_53 g55 h)
          · replace h := h.2 c63
            refine eg_aload_n 0 dX2_order_51 rfl rfl ?_
            refine em_geta 34 rfl q1176 dX2_order_52 hi ?_
            refine eg_iload 6 dX2_order_55 rfl ?_
            refine eg_iload 4 dX2_order_57 rfl ?_
            refine eg_bipush dX2_order_59 kb_10 ?_
            refine eg_irem dX2_order_61 (by decide) ?_
            obtain ⟨hb, h⟩ := h
            refine em_iast 34 rfl hb dX2_order_62 hi (fun g57 eg57 => ?_)
            replace h := h g57 eg57
            refine eg_iload 4 dX2_order_63 rfl ?_
            refine eg_bipush dX2_order_65 kb_10 ?_
            refine eg_idiv dX2_order_67 (by decide) ?_
            refine eg_istore (lv' := [(5, .int (x5_52 / 10)), (0, .ref (ad 0)), (1, .int a1), (3, .int a3), (4, .int v6), (6, .int x6_53), (7, .int x7_54)]) dX2_order_68 (Nat.le_of_ble_eq_true rfl) rfl ?_
            refine eg_iload 5 dX2_order_70 rfl ?_
            refine eg_aload_n 1 dX2_order_72 rfl rfl ?_
            refine em_geta 34 rfl q1176 dX2_order_73 hi ?_
            refine eg_iload 6 dX2_order_76 rfl ?_
            obtain ⟨hb, h⟩ := h
            refine em_iald 34 rfl hb dX2_order_78 hi (fun v58 ev58 => ?_)
            replace h := h v58 ev58
            refine eg_iload 4 dX2_order_79 rfl ?_
            refine eb_jp1_e (J := fun (s59 : Int32) => eb_G l Γ P X cX2_order RX2 9 (some .int) rmX2_order 97 [(0, .ref (ad 0)), (1, .int a1), (3, .int a3), (4, .int v6), (5, .int (x5_52 / 10)), (7, .int x7_54)] [.int s59, .int x6_53] (ms_st Γ ad ix g57) 0 0) h ?_ ?_
            · intro s59 h
              refine eg_ior dX2_order_97 ?_
              refine eg_istore (lv' := [(6, .int (x6_53 ||| s59)), (0, .ref (ad 0)), (1, .int a1), (3, .int a3), (4, .int v6), (5, .int (x5_52 / 10)), (7, .int x7_54)]) dX2_order_98 (Nat.le_of_ble_eq_true rfl) rfl ?_
              refine eg_iinc (j := 6) (lv' := [(7, .int (x7_54 + (-1))), (6, .int (x6_53 ||| s59)), (0, .ref (ad 0)), (1, .int a1), (3, .int a3), (4, .int v6), (5, .int (x5_52 / 10))]) dX2_order_100 rfl (by rw [kc_m1]) (Nat.le_of_ble_eq_true rfl) rfl ?_
              refine eg_goto dX2_order_103 ?_
              exact eg_sub [2, 3, 4, 5, 6, 1, 0] rfl (hr56 (x5_52 / 10) (x6_53 ||| s59) ((x7_54 + (-1))) g57 h)
            · intro k60 hk60 h
              refine eg_icmp_ge dX2_order_81 (fun c62 => ?_) (fun c62 => ?_)
              · replace h := h.1 c62
                refine eg_iconst dX2_order_96 kc_0 ?_
                exact eg_sub [1, 2, 3, 4, 0, 6] rfl (hk60 0 h)
              · replace h := h.2 c62
                refine eg_iconst dX2_order_84 kc_1 ?_
                refine eg_aload_n 1 dX2_order_85 rfl rfl ?_
                refine em_geta 34 rfl q1176 dX2_order_86 hi ?_
                refine eg_iload 6 dX2_order_89 rfl ?_
                obtain ⟨hb, h⟩ := h
                refine em_iald 34 rfl hb dX2_order_91 hi (fun v61 ev61 => ?_)
                replace h := h v61 ev61
                refine eg_ishl dX2_order_92 ?_
                refine eg_goto dX2_order_93 ?_
                exact eg_sub [1, 2, 3, 4, 0, 6] rfl (hk60 (eb_shl 1 v61) h)
      · replace h := h.2 c64
        refine eg_bipush dX2_order_23 kb_m2 ?_
        exact eg_iret dX2_order_25 (Nat.zero_le _) (Nat.zero_le _) (hP _ _ ⟨_, _, rfl, rfl, h⟩)
def MX2_joinedTo (σ : eb_MS) (a1 : Int32) (a2 : Int32) (K : Int32 → Prop) : Prop :=
  eb_loop2 (fun r3 (x3_1 : Int32) (x4_2 : Int32) => eb_rd (σ.2.1 1) 4 a1 (fun v4 => eb_br (v4 ≤ x4_2) (K x3_1) (eb_jp1 (fun (s5 : Int32) => r3 (x3_1 ||| s5) (x4_2 + 1)) (fun k6 => eb_br (x4_2 = a2) (k6 0) (MX2_angleOf σ a1 a2 x4_2 (fun v7 => eb_br (v7 ≤ 2) (k6 0) (k6 (eb_shl 1 x4_2)))))))) 0 0
abbrev rmX2_joinedTo : Room := { frames := 2, cells := 0, slots := 0, locals := 35 }
theorem nX2_joinedTo : eb_ar yX2_joinedTo 2 := by decide +kernel
theorem dX2_joinedTo_0 : eb_dc cX2_joinedTo 0 (.iconst 0) 1 1 := by decide +kernel
theorem dX2_joinedTo_1 : eb_dc cX2_joinedTo 1 (.istore_n 3) 1 2 := by decide +kernel
theorem dX2_joinedTo_2 : eb_dc cX2_joinedTo 2 (.iconst 0) 1 3 := by decide +kernel
theorem dX2_joinedTo_3 : eb_dc cX2_joinedTo 3 (.istore 4) 2 5 := by decide +kernel
theorem dX2_joinedTo_5 : eb_dc cX2_joinedTo 5 (.iload 4) 2 7 := by decide +kernel
theorem dX2_joinedTo_7 : eb_dc cX2_joinedTo 7 (.aload_n 0) 1 8 := by decide +kernel
theorem dX2_joinedTo_8 : eb_dc cX2_joinedTo 8 (.getfield 7) 3 11 := by decide +kernel
theorem dX2_joinedTo_11 : eb_dc cX2_joinedTo 11 (.iload_n 1) 1 12 := by decide +kernel
theorem dX2_joinedTo_12 : eb_dc cX2_joinedTo 12 (.iaload) 1 13 := by decide +kernel
theorem dX2_joinedTo_13 : eb_dj cX2_joinedTo 13 (.if_icmp .ge 38) 38 16 51 := by decide +kernel
theorem dX2_joinedTo_16 : eb_dc cX2_joinedTo 16 (.iload_n 3) 1 17 := by decide +kernel
theorem dX2_joinedTo_17 : eb_dc cX2_joinedTo 17 (.iload 4) 2 19 := by decide +kernel
theorem dX2_joinedTo_19 : eb_dc cX2_joinedTo 19 (.iload_n 2) 1 20 := by decide +kernel
theorem dX2_joinedTo_20 : eb_dj cX2_joinedTo 20 (.if_icmp .eq 22) 22 23 42 := by decide +kernel
theorem dX2_joinedTo_23 : eb_dc cX2_joinedTo 23 (.aload_n 0) 1 24 := by decide +kernel
theorem dX2_joinedTo_24 : eb_dc cX2_joinedTo 24 (.iload_n 1) 1 25 := by decide +kernel
theorem dX2_joinedTo_25 : eb_dc cX2_joinedTo 25 (.iload_n 2) 1 26 := by decide +kernel
theorem dX2_joinedTo_26 : eb_dc cX2_joinedTo 26 (.iload 4) 2 28 := by decide +kernel
theorem dX2_joinedTo_28 : eb_dc cX2_joinedTo 28 (.invokevirtual 121) 3 31 := by decide +kernel
theorem dX2_joinedTo_31 : eb_dc cX2_joinedTo 31 (.iconst 2) 1 32 := by decide +kernel
theorem dX2_joinedTo_32 : eb_dj cX2_joinedTo 32 (.if_icmp .le 10) 10 35 42 := by decide +kernel
theorem dX2_joinedTo_35 : eb_dc cX2_joinedTo 35 (.iconst 1) 1 36 := by decide +kernel
theorem dX2_joinedTo_36 : eb_dc cX2_joinedTo 36 (.iload 4) 2 38 := by decide +kernel
theorem dX2_joinedTo_38 : eb_dc cX2_joinedTo 38 (.ishl) 1 39 := by decide +kernel
theorem dX2_joinedTo_39 : eb_dj cX2_joinedTo 39 (.goto 4) 4 42 43 := by decide +kernel
theorem dX2_joinedTo_42 : eb_dc cX2_joinedTo 42 (.iconst 0) 1 43 := by decide +kernel
theorem dX2_joinedTo_43 : eb_dc cX2_joinedTo 43 (.ior) 1 44 := by decide +kernel
theorem dX2_joinedTo_44 : eb_dc cX2_joinedTo 44 (.istore_n 3) 1 45 := by decide +kernel
theorem dX2_joinedTo_45 : eb_dc cX2_joinedTo 45 (.iinc 4 1) 3 48 := by decide +kernel
theorem dX2_joinedTo_48 : eb_dj cX2_joinedTo 48 (.goto (-43)) (-43) 51 5 := by decide +kernel
theorem dX2_joinedTo_51 : eb_dc cX2_joinedTo 51 (.iload_n 3) 1 52 := by decide +kernel
theorem dX2_joinedTo_52 : eb_dc cX2_joinedTo 52 (.ireturn) 1 53 := by decide +kernel
theorem ctX2_joinedTo {l : Launch} {Γ : eb_C} {ad : Nat → Nat} {ix : Nat → Option Nat} {σ : eb_MS} {a1 : Int32} {a2 : Int32} {K : Int32 → Prop} (hi : ms_inv ad ix) (h : MX2_joinedTo σ a1 a2 K) : eb_Ct l Γ yX2_joinedTo cX2_joinedTo 5 (some .int) rmX2_joinedTo [.ref (ad 0), .int a1, .int a2] (ms_st Γ ad ix σ) (eb_pI (ms_st Γ ad ix σ) K) := by
  refine eb_of (by decide) (Nat.le_of_ble_eq_true rfl) (fun X P hP _ => ?_)
  show eb_G l Γ P X cX2_joinedTo RX2 5 (some .int) rmX2_joinedTo 0 [(0, .ref (ad 0)), (1, .int a1), (2, .int a2)] [] (ms_st Γ ad ix σ) 0 0
  refine eg_iconst dX2_joinedTo_0 kc_0 ?_
  refine eg_istore_n (lv' := [(3, .int 0), (0, .ref (ad 0)), (1, .int a1), (2, .int a2)]) dX2_joinedTo_1 rfl (Nat.le_of_ble_eq_true rfl) rfl ?_
  refine eg_iconst dX2_joinedTo_2 kc_0 ?_
  refine eg_istore (lv' := [(4, .int 0), (3, .int 0), (0, .ref (ad 0)), (1, .int a1), (2, .int a2)]) dX2_joinedTo_3 (Nat.le_of_ble_eq_true rfl) rfl ?_
  refine eg_sub [2, 3, 4, 1, 0] rfl ?_
  refine eb_loop2_e (J := fun (x3_1 : Int32) (x4_2 : Int32) => eb_G l Γ P X cX2_joinedTo RX2 5 (some .int) rmX2_joinedTo 5 [(0, .ref (ad 0)), (1, .int a1), (2, .int a2), (3, .int x3_1), (4, .int x4_2)] [] (ms_st Γ ad ix σ) 0 0) h ?_
  intro r3 hr3 x3_1 x4_2 h
  refine eg_iload 4 dX2_joinedTo_5 rfl ?_
  refine eg_aload_n 0 dX2_joinedTo_7 rfl rfl ?_
  refine em_geta 1 rfl q1143 dX2_joinedTo_8 hi ?_
  refine eg_iload_n 1 dX2_joinedTo_11 rfl rfl ?_
  obtain ⟨hb, h⟩ := h
  refine em_iald 1 rfl hb dX2_joinedTo_12 hi (fun v4 ev4 => ?_)
  replace h := h v4 ev4
  refine eg_icmp_ge dX2_joinedTo_13 (fun c11 => ?_) (fun c11 => ?_)
  · replace h := h.1 c11
    refine eg_iload_n 3 dX2_joinedTo_51 rfl rfl ?_
    exact eg_iret dX2_joinedTo_52 (Nat.zero_le _) (Nat.zero_le _) (hP _ _ ⟨_, rfl, rfl, h⟩)
  · replace h := h.2 c11
    refine eg_iload_n 3 dX2_joinedTo_16 rfl rfl ?_
    refine eg_iload 4 dX2_joinedTo_17 rfl ?_
    refine eg_iload_n 2 dX2_joinedTo_19 rfl rfl ?_
    refine eb_jp1_e (J := fun (s5 : Int32) => eb_G l Γ P X cX2_joinedTo RX2 5 (some .int) rmX2_joinedTo 43 [(0, .ref (ad 0)), (1, .int a1), (2, .int a2), (4, .int x4_2)] [.int s5, .int x3_1] (ms_st Γ ad ix σ) 0 0) h ?_ ?_
    · intro s5 h
      refine eg_ior dX2_joinedTo_43 ?_
      refine eg_istore_n (lv' := [(3, .int (x3_1 ||| s5)), (0, .ref (ad 0)), (1, .int a1), (2, .int a2), (4, .int x4_2)]) dX2_joinedTo_44 rfl (Nat.le_of_ble_eq_true rfl) rfl ?_
      refine eg_iinc (j := 4) (lv' := [(4, .int (x4_2 + 1)), (3, .int (x3_1 ||| s5)), (0, .ref (ad 0)), (1, .int a1), (2, .int a2)]) dX2_joinedTo_45 rfl (by rw [kc_1]) (Nat.le_of_ble_eq_true rfl) rfl ?_
      refine eg_goto dX2_joinedTo_48 ?_
      exact eg_sub [2, 3, 4, 1, 0] rfl (hr3 (x3_1 ||| s5) (x4_2 + 1) h)
    · intro k6 hk6 h
      refine eg_icmp_eq dX2_joinedTo_20 (fun c10 => ?_) (fun c10 => ?_)
      · replace h := h.1 c10
        refine eg_iconst dX2_joinedTo_42 kc_0 ?_
        exact eg_sub [0, 1, 2, 4] rfl (hk6 0 h)
      · replace h := h.2 c10
        refine eg_aload_n 0 dX2_joinedTo_23 rfl rfl ?_
        refine eg_iload_n 1 dX2_joinedTo_24 rfl rfl ?_
        refine eg_iload_n 2 dX2_joinedTo_25 rfl rfl ?_
        refine eg_iload 4 dX2_joinedTo_26 rfl ?_
        refine em_cvp (rest := [.int x3_1]) (ctX2_angleOf hi h) hi (lw_V q1266 q1268 qs37 q77 q1269) rfl nX2_angleOf ⟨Nat.le_of_ble_eq_true rfl, Nat.le_of_ble_eq_true rfl⟩ ⟨rfl, rfl⟩ ⟨Nat.zero_le _, Nat.zero_le _⟩ rfl rfl (Nat.le_of_ble_eq_true rfl) dX2_joinedTo_28 (fun v7 h => ?_)
        refine eg_iconst dX2_joinedTo_31 kc_2 ?_
        refine eg_icmp_le dX2_joinedTo_32 (fun c9 => ?_) (fun c9 => ?_)
        · replace h := h.1 c9
          refine eg_iconst dX2_joinedTo_42 kc_0 ?_
          exact eg_sub [0, 1, 2, 4] rfl (hk6 0 h)
        · replace h := h.2 c9
          refine eg_iconst dX2_joinedTo_35 kc_1 ?_
          refine eg_iload 4 dX2_joinedTo_36 rfl ?_
          refine eg_ishl dX2_joinedTo_38 ?_
          refine eg_goto dX2_joinedTo_39 ?_
          exact eg_sub [0, 1, 2, 4] rfl (hk6 (eb_shl 1 x4_2) h)
def MX2_about (σ : eb_MS) (a1 : Int32) (a2 : Int32) (a3 : Int32) (K : Int32 → eb_MS → Prop) : Prop :=
  ms_ws σ 0 0 (fun g1 => MX2_isBody a1 (fun v2 => eb_br (v2 = 0) (K (-2) g1) (MX2_in a2 0 2 (fun v4 => eb_br (v4 = 0) (K (-2) g1) (eb_jp0 (eb_br (a2 = 0) (eb_rd (g1.2.1 1) 4 a1 (fun v10 => K v10 g1)) (eb_br (a2 = 1) (eb_rd (g1.2.1 3) 4 a1 (fun v8 => K v8 g1)) (MX2_joinedTo g1 a1 a3 (fun v6 => K v6 g1)))) (fun k12 => eb_br (a2 = 2) (MX2_isMirror g1 a1 a3 (fun v13 => eb_br (v13 = 0) (K (-2) g1) (k12))) (k12)))))))
abbrev rmX2_about : Room := { frames := 3, cells := 0, slots := 0, locals := 59 }
theorem nX2_about : eb_ar yX2_about 3 := by decide +kernel
theorem dX2_about_0 : eb_dc cX2_about 0 (.aload_n 0) 1 1 := by decide +kernel
theorem dX2_about_1 : eb_dc cX2_about 1 (.iconst 0) 1 2 := by decide +kernel
theorem dX2_about_2 : eb_dc cX2_about 2 (.putfield 106) 3 5 := by decide +kernel
theorem dX2_about_5 : eb_dc cX2_about 5 (.iload_n 1) 1 6 := by decide +kernel
theorem dX2_about_6 : eb_dc cX2_about 6 (.invokestatic 113) 3 9 := by decide +kernel
theorem dX2_about_9 : eb_dj cX2_about 9 (.ifCond .eq 26) 26 12 35 := by decide +kernel
theorem dX2_about_12 : eb_dc cX2_about 12 (.iload_n 2) 1 13 := by decide +kernel
theorem dX2_about_13 : eb_dc cX2_about 13 (.iconst 0) 1 14 := by decide +kernel
theorem dX2_about_14 : eb_dc cX2_about 14 (.iconst 2) 1 15 := by decide +kernel
theorem dX2_about_15 : eb_dc cX2_about 15 (.invokestatic 109) 3 18 := by decide +kernel
theorem dX2_about_18 : eb_dj cX2_about 18 (.ifCond .eq 17) 17 21 35 := by decide +kernel
theorem dX2_about_21 : eb_dc cX2_about 21 (.iload_n 2) 1 22 := by decide +kernel
theorem dX2_about_22 : eb_dc cX2_about 22 (.iconst 2) 1 23 := by decide +kernel
theorem dX2_about_23 : eb_dj cX2_about 23 (.if_icmp .ne 15) 15 26 38 := by decide +kernel
theorem dX2_about_26 : eb_dc cX2_about 26 (.aload_n 0) 1 27 := by decide +kernel
theorem dX2_about_27 : eb_dc cX2_about 27 (.iload_n 1) 1 28 := by decide +kernel
theorem dX2_about_28 : eb_dc cX2_about 28 (.iload_n 3) 1 29 := by decide +kernel
theorem dX2_about_29 : eb_dc cX2_about 29 (.invokevirtual 117) 3 32 := by decide +kernel
theorem dX2_about_32 : eb_dj cX2_about 32 (.ifCond .ne 6) 6 35 38 := by decide +kernel
theorem dX2_about_35 : eb_dc cX2_about 35 (.bipush (-2)) 2 37 := by decide +kernel
theorem dX2_about_37 : eb_dc cX2_about 37 (.ireturn) 1 38 := by decide +kernel
theorem dX2_about_38 : eb_dc cX2_about 38 (.iload_n 2) 1 39 := by decide +kernel
theorem dX2_about_39 : eb_dj cX2_about 39 (.ifCond .ne 12) 12 42 51 := by decide +kernel
theorem dX2_about_42 : eb_dc cX2_about 42 (.aload_n 0) 1 43 := by decide +kernel
theorem dX2_about_43 : eb_dc cX2_about 43 (.getfield 7) 3 46 := by decide +kernel
theorem dX2_about_46 : eb_dc cX2_about 46 (.iload_n 1) 1 47 := by decide +kernel
theorem dX2_about_47 : eb_dc cX2_about 47 (.iaload) 1 48 := by decide +kernel
theorem dX2_about_48 : eb_dj cX2_about 48 (.goto 23) 23 51 71 := by decide +kernel
theorem dX2_about_51 : eb_dc cX2_about 51 (.iload_n 2) 1 52 := by decide +kernel
theorem dX2_about_52 : eb_dc cX2_about 52 (.iconst 1) 1 53 := by decide +kernel
theorem dX2_about_53 : eb_dj cX2_about 53 (.if_icmp .ne 12) 12 56 65 := by decide +kernel
theorem dX2_about_56 : eb_dc cX2_about 56 (.aload_n 0) 1 57 := by decide +kernel
theorem dX2_about_57 : eb_dc cX2_about 57 (.getfield 16) 3 60 := by decide +kernel
theorem dX2_about_60 : eb_dc cX2_about 60 (.iload_n 1) 1 61 := by decide +kernel
theorem dX2_about_61 : eb_dc cX2_about 61 (.iaload) 1 62 := by decide +kernel
theorem dX2_about_62 : eb_dj cX2_about 62 (.goto 9) 9 65 71 := by decide +kernel
theorem dX2_about_65 : eb_dc cX2_about 65 (.aload_n 0) 1 66 := by decide +kernel
theorem dX2_about_66 : eb_dc cX2_about 66 (.iload_n 1) 1 67 := by decide +kernel
theorem dX2_about_67 : eb_dc cX2_about 67 (.iload_n 3) 1 68 := by decide +kernel
theorem dX2_about_68 : eb_dc cX2_about 68 (.invokevirtual 125) 3 71 := by decide +kernel
theorem dX2_about_71 : eb_dc cX2_about 71 (.ireturn) 1 72 := by decide +kernel
theorem ctX2_about {l : Launch} {Γ : eb_C} {ad : Nat → Nat} {ix : Nat → Option Nat} {σ : eb_MS} {a1 : Int32} {a2 : Int32} {a3 : Int32} {K : Int32 → eb_MS → Prop} (hi : ms_inv ad ix) (h : MX2_about σ a1 a2 a3 K) : eb_Ct l Γ yX2_about cX2_about 4 (some .int) rmX2_about [.ref (ad 0), .int a1, .int a2, .int a3] (ms_st Γ ad ix σ) (em_I Γ ad ix K) := by
  refine eb_of (by decide) (Nat.le_of_ble_eq_true rfl) (fun X P hP _ => ?_)
  show eb_G l Γ P X cX2_about RX2 4 (some .int) rmX2_about 0 [(0, .ref (ad 0)), (1, .int a1), (2, .int a2), (3, .int a3)] [] (ms_st Γ ad ix σ) 0 0
  refine eg_aload_n 0 dX2_about_0 rfl rfl ?_
  refine eg_iconst dX2_about_1 kc_0 ?_
  refine em_puts 0 rfl q1142 dX2_about_2 hi (fun g1 eg1 => ?_)
  replace h := h g1 eg1
  refine eg_iload_n 1 dX2_about_5 rfl rfl ?_
  refine eg_csp (rest := []) (ctX2_isBody h) (lw_S q1252 q1253 q77 q1254) nX2_isBody ⟨Nat.le_of_ble_eq_true rfl, Nat.le_of_ble_eq_true rfl⟩ ⟨rfl, rfl⟩ ⟨Nat.zero_le _, Nat.zero_le _⟩ rfl rfl (Nat.le_of_ble_eq_true rfl) dX2_about_6 (fun v2 h => ?_)
  refine eg_if_eq dX2_about_9 (fun c18 => ?_) (fun c18 => ?_)
  · replace h := h.1 c18
    refine eg_bipush dX2_about_35 kb_m2 ?_
    exact eg_iret dX2_about_37 (Nat.zero_le _) (Nat.zero_le _) (hP _ _ ⟨_, _, rfl, rfl, h⟩)
  · replace h := h.2 c18
    refine eg_iload_n 2 dX2_about_12 rfl rfl ?_
    refine eg_iconst dX2_about_13 kc_0 ?_
    refine eg_iconst dX2_about_14 kc_2 ?_
    refine eg_csp (rest := []) (ctX2_in h) (lw_S q1255 q1256 q77 q1257) nX2_in ⟨Nat.le_of_ble_eq_true rfl, Nat.le_of_ble_eq_true rfl⟩ ⟨rfl, rfl⟩ ⟨Nat.zero_le _, Nat.zero_le _⟩ rfl rfl (Nat.le_of_ble_eq_true rfl) dX2_about_15 (fun v4 h => ?_)
    refine eg_if_eq dX2_about_18 (fun c17 => ?_) (fun c17 => ?_)
    · replace h := h.1 c17
      refine eg_bipush dX2_about_35 kb_m2 ?_
      exact eg_iret dX2_about_37 (Nat.zero_le _) (Nat.zero_le _) (hP _ _ ⟨_, _, rfl, rfl, h⟩)
    · replace h := h.2 c17
      refine eg_iload_n 2 dX2_about_21 rfl rfl ?_
      refine eg_iconst dX2_about_22 kc_2 ?_
      refine eb_jp0_e (J := eb_G l Γ P X cX2_about RX2 4 (some .int) rmX2_about 38 [(0, .ref (ad 0)), (1, .int a1), (2, .int a2), (3, .int a3)] [] (ms_st Γ ad ix g1) 0 0) h ?_ ?_
      · intro  h
        refine eg_iload_n 2 dX2_about_38 rfl rfl ?_
        refine eg_if_ne dX2_about_39 (fun c11 => ?_) (fun c11 => ?_)
        · replace h := h.2 c11
          refine eg_iload_n 2 dX2_about_51 rfl rfl ?_
          refine eg_iconst dX2_about_52 kc_1 ?_
          refine eg_icmp_ne dX2_about_53 (fun c9 => ?_) (fun c9 => ?_)
          · replace h := h.2 c9
            refine eg_aload_n 0 dX2_about_65 rfl rfl ?_
            refine eg_iload_n 1 dX2_about_66 rfl rfl ?_
            refine eg_iload_n 3 dX2_about_67 rfl rfl ?_
            refine em_cvp (rest := []) (ctX2_joinedTo hi h) hi (lw_V q1282 q1284 qs38 q77 q1285) rfl nX2_joinedTo ⟨Nat.le_of_ble_eq_true rfl, Nat.le_of_ble_eq_true rfl⟩ ⟨rfl, rfl⟩ ⟨Nat.zero_le _, Nat.zero_le _⟩ rfl rfl (Nat.le_of_ble_eq_true rfl) dX2_about_68 (fun v6 h => ?_)
            exact eg_iret dX2_about_71 (Nat.zero_le _) (Nat.zero_le _) (hP _ _ ⟨_, _, rfl, rfl, h⟩)
          · replace h := h.1 c9
            refine eg_aload_n 0 dX2_about_56 rfl rfl ?_
            refine em_geta 3 rfl q1145 dX2_about_57 hi ?_
            refine eg_iload_n 1 dX2_about_60 rfl rfl ?_
            obtain ⟨hb, h⟩ := h
            refine em_iald 3 rfl hb dX2_about_61 hi (fun v8 ev8 => ?_)
            replace h := h v8 ev8
            refine eg_goto dX2_about_62 ?_
            exact eg_iret dX2_about_71 (Nat.zero_le _) (Nat.zero_le _) (hP _ _ ⟨_, _, rfl, rfl, h⟩)
        · replace h := h.1 c11
          refine eg_aload_n 0 dX2_about_42 rfl rfl ?_
          refine em_geta 1 rfl q1143 dX2_about_43 hi ?_
          refine eg_iload_n 1 dX2_about_46 rfl rfl ?_
          obtain ⟨hb, h⟩ := h
          refine em_iald 1 rfl hb dX2_about_47 hi (fun v10 ev10 => ?_)
          replace h := h v10 ev10
          refine eg_goto dX2_about_48 ?_
          exact eg_iret dX2_about_71 (Nat.zero_le _) (Nat.zero_le _) (hP _ _ ⟨_, _, rfl, rfl, h⟩)
      · intro k12 hk12 h
        refine eg_icmp_ne dX2_about_23 (fun c16 => ?_) (fun c16 => ?_)
        · replace h := h.2 c16
          exact hk12 h
        · replace h := h.1 c16
          refine eg_aload_n 0 dX2_about_26 rfl rfl ?_
          refine eg_iload_n 1 dX2_about_27 rfl rfl ?_
          refine eg_iload_n 3 dX2_about_28 rfl rfl ?_
          refine em_cvp (rest := []) (ctX2_isMirror hi h) hi (lw_V q1262 q1264 qs36 q77 q1265) rfl nX2_isMirror ⟨Nat.le_of_ble_eq_true rfl, Nat.le_of_ble_eq_true rfl⟩ ⟨rfl, rfl⟩ ⟨Nat.zero_le _, Nat.zero_le _⟩ rfl rfl (Nat.le_of_ble_eq_true rfl) dX2_about_29 (fun v13 h => ?_)
          refine eg_if_ne dX2_about_32 (fun c15 => ?_) (fun c15 => ?_)
          · replace h := h.2 c15
            exact hk12 h
          · replace h := h.1 c15
            refine eg_bipush dX2_about_35 kb_m2 ?_
            exact eg_iret dX2_about_37 (Nat.zero_le _) (Nat.zero_le _) (hP _ _ ⟨_, _, rfl, rfl, h⟩)
def MX2_bits  (a0 : Int32) (K : Int32 → Prop) : Prop :=
  eb_loop2 (fun r3 (x1_1 : Int32) (x2_2 : Int32) => eb_br (4 ≤ x2_2) (K x1_1) (r3 ((x1_1 + ((eb_shr a0 x2_2) &&& 1))) (x2_2 + 1))) 0 0
abbrev rmX2_bits : Room := { frames := 1, cells := 0, slots := 0, locals := 12 }
theorem nX2_bits : eb_ar yX2_bits 1 := by decide +kernel
theorem dX2_bits_0 : eb_dc cX2_bits 0 (.iconst 0) 1 1 := by decide +kernel
theorem dX2_bits_1 : eb_dc cX2_bits 1 (.istore_n 1) 1 2 := by decide +kernel
theorem dX2_bits_2 : eb_dc cX2_bits 2 (.iconst 0) 1 3 := by decide +kernel
theorem dX2_bits_3 : eb_dc cX2_bits 3 (.istore_n 2) 1 4 := by decide +kernel
theorem dX2_bits_4 : eb_dc cX2_bits 4 (.iload_n 2) 1 5 := by decide +kernel
theorem dX2_bits_5 : eb_dc cX2_bits 5 (.iconst 4) 1 6 := by decide +kernel
theorem dX2_bits_6 : eb_dj cX2_bits 6 (.if_icmp .ge 17) 17 9 23 := by decide +kernel
theorem dX2_bits_9 : eb_dc cX2_bits 9 (.iload_n 1) 1 10 := by decide +kernel
theorem dX2_bits_10 : eb_dc cX2_bits 10 (.iload_n 0) 1 11 := by decide +kernel
theorem dX2_bits_11 : eb_dc cX2_bits 11 (.iload_n 2) 1 12 := by decide +kernel
theorem dX2_bits_12 : eb_dc cX2_bits 12 (.ishr) 1 13 := by decide +kernel
theorem dX2_bits_13 : eb_dc cX2_bits 13 (.iconst 1) 1 14 := by decide +kernel
theorem dX2_bits_14 : eb_dc cX2_bits 14 (.iand) 1 15 := by decide +kernel
theorem dX2_bits_15 : eb_dc cX2_bits 15 (.iadd) 1 16 := by decide +kernel
theorem dX2_bits_16 : eb_dc cX2_bits 16 (.istore_n 1) 1 17 := by decide +kernel
theorem dX2_bits_17 : eb_dc cX2_bits 17 (.iinc 2 1) 3 20 := by decide +kernel
theorem dX2_bits_20 : eb_dj cX2_bits 20 (.goto (-16)) (-16) 23 4 := by decide +kernel
theorem dX2_bits_23 : eb_dc cX2_bits 23 (.iload_n 1) 1 24 := by decide +kernel
theorem dX2_bits_24 : eb_dc cX2_bits 24 (.ireturn) 1 25 := by decide +kernel
theorem ctX2_bits {l : Launch} {Γ : eb_C} {st : eb_S} {a0 : Int32} {K : Int32 → Prop} (h : MX2_bits a0 K) : eb_Ct l Γ yX2_bits cX2_bits 3 (some .int) rmX2_bits [.int a0] st (eb_pI st K) := by
  refine eb_of (by decide) (Nat.le_of_ble_eq_true rfl) (fun X P hP _ => ?_)
  show eb_G l Γ P X cX2_bits RX2 3 (some .int) rmX2_bits 0 [(0, .int a0)] [] st 0 0
  refine eg_iconst dX2_bits_0 kc_0 ?_
  refine eg_istore_n (lv' := [(1, .int 0), (0, .int a0)]) dX2_bits_1 rfl (Nat.le_of_ble_eq_true rfl) rfl ?_
  refine eg_iconst dX2_bits_2 kc_0 ?_
  refine eg_istore_n (lv' := [(2, .int 0), (1, .int 0), (0, .int a0)]) dX2_bits_3 rfl (Nat.le_of_ble_eq_true rfl) rfl ?_
  refine eg_sub [2, 1, 0] rfl ?_
  refine eb_loop2_e (J := fun (x1_1 : Int32) (x2_2 : Int32) => eb_G l Γ P X cX2_bits RX2 3 (some .int) rmX2_bits 4 [(0, .int a0), (1, .int x1_1), (2, .int x2_2)] [] st 0 0) h ?_
  intro r3 hr3 x1_1 x2_2 h
  refine eg_iload_n 2 dX2_bits_4 rfl rfl ?_
  refine eg_iconst dX2_bits_5 kc_4 ?_
  refine eg_icmp_ge dX2_bits_6 (fun c4 => ?_) (fun c4 => ?_)
  · replace h := h.1 c4
    refine eg_iload_n 1 dX2_bits_23 rfl rfl ?_
    exact eg_iret dX2_bits_24 (Nat.zero_le _) (Nat.zero_le _) (hP _ _ ⟨_, rfl, rfl, h⟩)
  · replace h := h.2 c4
    refine eg_iload_n 1 dX2_bits_9 rfl rfl ?_
    refine eg_iload_n 0 dX2_bits_10 rfl rfl ?_
    refine eg_iload_n 2 dX2_bits_11 rfl rfl ?_
    refine eg_ishr dX2_bits_12 ?_
    refine eg_iconst dX2_bits_13 kc_1 ?_
    refine eg_iand dX2_bits_14 ?_
    refine eg_iadd dX2_bits_15 ?_
    refine eg_istore_n (lv' := [(1, .int (x1_1 + ((eb_shr a0 x2_2) &&& 1))), (0, .int a0), (2, .int x2_2)]) dX2_bits_16 rfl (Nat.le_of_ble_eq_true rfl) rfl ?_
    refine eg_iinc (j := 2) (lv' := [(2, .int (x2_2 + 1)), (1, .int (x1_1 + ((eb_shr a0 x2_2) &&& 1))), (0, .int a0)]) dX2_bits_17 rfl (by rw [kc_1]) (Nat.le_of_ble_eq_true rfl) rfl ?_
    refine eg_goto dX2_bits_20 ?_
    exact eg_sub [2, 1, 0] rfl (hr3 ((x1_1 + ((eb_shr a0 x2_2) &&& 1))) (x2_2 + 1) h)
def MX2_makes (σ : eb_MS) (a1 : Int32) (a2 : Int32) (K : Int32 → Prop) : Prop :=
  MX2_bits a2 (fun v1 => eb_jp6 (fun (x4_3 : Int32) (x5_4 : Int32) (x6_5 : Int32) (x7_6 : Int32) (x8_7 : Int32) (x9_8 : Int32) => eb_br (v1 = 1) (K 2) (eb_br (v1 = 2) (eb_jp1 (fun (x10_23 : Int32) => K (2 * x10_23)) (fun k24 => eb_loop2 (fun r27 (x10_25 : Int32) (x11_26 : Int32) => eb_br (4 ≤ x11_26) (k24 x10_25) (eb_jp1 (fun (x10_28 : Int32) => r27 x10_28 (x11_26 + 1)) (fun k29 => eb_loop2 (fun r32 (x10_30 : Int32) (x12_31 : Int32) => eb_br (4 ≤ x12_31) (k29 x10_30) (eb_jp1 (fun (s33 : Int32) => r32 s33 (x12_31 + 1)) (fun k34 => eb_jp0 (k34 x10_30) (fun k35 => eb_br (((eb_shr a2 x11_26) &&& 1) = 1) (eb_br (((eb_shr a2 x12_31) &&& 1) = 1) (MX2_angleOf σ a1 x11_26 x12_31 (fun v36 => k34 v36)) (k35)) (k35))))) x10_25 (x11_26 + 1)))) 2 0)) (eb_br (x4_3 = (v1 - 1)) (eb_br (v1 = 3) (eb_br (x5_4 = 2) (K 24) (eb_jp0 (eb_br (x5_4 = 1) (eb_br (x7_6 = 1) (K 120) (K 0)) (K 0)) (fun k17 => eb_br (x5_4 = 1) (eb_br (x6_5 = 1) (K 48) (k17)) (k17)))) (eb_br (x8_7 = 3) (eb_br (x5_4 = 3) (K 192) (K 0)) (eb_br (x5_4 = 3) (K 120) (eb_br (x5_4 = 2) (eb_br (x6_5 = 1) (eb_br (x9_8 = 1) (K 384) (K 0)) (K 0)) (K 0))))) (K 0)))) (fun k44 => eb_loop7 (fun r52 (x4_45 : Int32) (x5_46 : Int32) (x6_47 : Int32) (x7_48 : Int32) (x8_49 : Int32) (x9_50 : Int32) (x10_51 : Int32) => eb_br (4 ≤ x10_51) (k44 x4_45 x5_46 x6_47 x7_48 x8_49 x9_50) (eb_jp6 (fun (x4_53 : Int32) (x5_54 : Int32) (x6_55 : Int32) (x7_56 : Int32) (x8_57 : Int32) (x9_58 : Int32) => r52 x4_53 x5_54 x6_55 x7_56 x8_57 x9_58 (x10_51 + 1)) (fun k59 => eb_br (((eb_shr a2 x10_51) &&& 1) = 1) (MX2_joinedTo σ a1 x10_51 (fun v60 => MX2_bits v60 (fun v62 => eb_jp1 (fun (s64 : Int32) => eb_loop6 (fun r71 (x4_65 : Int32) (x5_66 : Int32) (x6_67 : Int32) (x7_68 : Int32) (x9_69 : Int32) (x12_70 : Int32) => eb_br (4 ≤ x12_70) (k59 x4_65 x5_66 x6_67 x7_68 s64 x9_69) (eb_jp1 (fun (s72 : Int32) => eb_jp1 (fun (s73 : Int32) => eb_jp1 (fun (s74 : Int32) => eb_jp1 (fun (s75 : Int32) => eb_jp1 (fun (s76 : Int32) => eb_jp1 (fun (s77 : Int32) => r71 (x4_65 + s73) (x5_66 + s74) (x6_67 + s75) (x7_68 + s76) (x9_69 + s77) (x12_70 + 1)) (fun k78 => eb_br (s72 = 4) (eb_br (v62 = 1) (k78 1) (MX2_joinedTo σ a1 x12_70 (fun v79 => MX2_bits v79 (fun v81 => eb_br (v81 = 1) (k78 1) (k78 0))))) (k78 0))) (fun k86 => eb_br (s72 = 5) (k86 1) (k86 0))) (fun k88 => eb_br (s72 = 4) (k88 1) (k88 0))) (fun k90 => eb_br (s72 = 3) (k90 1) (k90 0))) (fun k92 => eb_br (s72 ≤ 2) (k92 0) (k92 1))) (fun k94 => eb_br (((eb_shr a2 x12_70) &&& 1) = 1) (MX2_angleOf σ a1 x10_51 x12_70 (fun v95 => k94 v95)) (k94 2)))) x4_45 x5_46 x6_47 x7_48 x9_50 (x10_51 + 1)) (fun k99 => eb_br (v62 ≤ x8_49) (k99 x8_49) (k99 v62))))) (k59 x4_45 x5_46 x6_47 x7_48 x8_49 x9_50)))) 0 0 0 0 0 0 0))
abbrev rmX2_makes : Room := { frames := 3, cells := 0, slots := 0, locals := 59 }
theorem nX2_makes : eb_ar yX2_makes 2 := by decide +kernel
theorem dX2_makes_0 : eb_dc cX2_makes 0 (.iload_n 2) 1 1 := by decide +kernel
theorem dX2_makes_1 : eb_dc cX2_makes 1 (.invokestatic 129) 3 4 := by decide +kernel
theorem dX2_makes_4 : eb_dc cX2_makes 4 (.istore_n 3) 1 5 := by decide +kernel
theorem dX2_makes_5 : eb_dc cX2_makes 5 (.iconst 0) 1 6 := by decide +kernel
theorem dX2_makes_6 : eb_dc cX2_makes 6 (.istore 4) 2 8 := by decide +kernel
theorem dX2_makes_8 : eb_dc cX2_makes 8 (.iconst 0) 1 9 := by decide +kernel
theorem dX2_makes_9 : eb_dc cX2_makes 9 (.istore 5) 2 11 := by decide +kernel
theorem dX2_makes_11 : eb_dc cX2_makes 11 (.iconst 0) 1 12 := by decide +kernel
theorem dX2_makes_12 : eb_dc cX2_makes 12 (.istore 6) 2 14 := by decide +kernel
theorem dX2_makes_14 : eb_dc cX2_makes 14 (.iconst 0) 1 15 := by decide +kernel
theorem dX2_makes_15 : eb_dc cX2_makes 15 (.istore 7) 2 17 := by decide +kernel
theorem dX2_makes_17 : eb_dc cX2_makes 17 (.iconst 0) 1 18 := by decide +kernel
theorem dX2_makes_18 : eb_dc cX2_makes 18 (.istore 8) 2 20 := by decide +kernel
theorem dX2_makes_20 : eb_dc cX2_makes 20 (.iconst 0) 1 21 := by decide +kernel
theorem dX2_makes_21 : eb_dc cX2_makes 21 (.istore 9) 2 23 := by decide +kernel
theorem dX2_makes_23 : eb_dc cX2_makes 23 (.iconst 0) 1 24 := by decide +kernel
theorem dX2_makes_24 : eb_dc cX2_makes 24 (.istore 10) 2 26 := by decide +kernel
theorem dX2_makes_26 : eb_dc cX2_makes 26 (.iload 10) 2 28 := by decide +kernel
theorem dX2_makes_28 : eb_dc cX2_makes 28 (.iconst 4) 1 29 := by decide +kernel
theorem dX2_makes_29 : eb_dj cX2_makes 29 (.if_icmp .ge 190) 190 32 219 := by decide +kernel
theorem dX2_makes_32 : eb_dc cX2_makes 32 (.iload_n 2) 1 33 := by decide +kernel
theorem dX2_makes_33 : eb_dc cX2_makes 33 (.iload 10) 2 35 := by decide +kernel
theorem dX2_makes_35 : eb_dc cX2_makes 35 (.ishr) 1 36 := by decide +kernel
theorem dX2_makes_36 : eb_dc cX2_makes 36 (.iconst 1) 1 37 := by decide +kernel
theorem dX2_makes_37 : eb_dc cX2_makes 37 (.iand) 1 38 := by decide +kernel
theorem dX2_makes_38 : eb_dc cX2_makes 38 (.iconst 1) 1 39 := by decide +kernel
theorem dX2_makes_39 : eb_dj cX2_makes 39 (.if_icmp .ne 174) 174 42 213 := by decide +kernel
theorem dX2_makes_42 : eb_dc cX2_makes 42 (.aload_n 0) 1 43 := by decide +kernel
theorem dX2_makes_43 : eb_dc cX2_makes 43 (.iload_n 1) 1 44 := by decide +kernel
theorem dX2_makes_44 : eb_dc cX2_makes 44 (.iload 10) 2 46 := by decide +kernel
theorem dX2_makes_46 : eb_dc cX2_makes 46 (.invokevirtual 125) 3 49 := by decide +kernel
theorem dX2_makes_49 : eb_dc cX2_makes 49 (.invokestatic 129) 3 52 := by decide +kernel
theorem dX2_makes_52 : eb_dc cX2_makes 52 (.istore 11) 2 54 := by decide +kernel
theorem dX2_makes_54 : eb_dc cX2_makes 54 (.iload 11) 2 56 := by decide +kernel
theorem dX2_makes_56 : eb_dc cX2_makes 56 (.iload 8) 2 58 := by decide +kernel
theorem dX2_makes_58 : eb_dj cX2_makes 58 (.if_icmp .le 8) 8 61 66 := by decide +kernel
theorem dX2_makes_61 : eb_dc cX2_makes 61 (.iload 11) 2 63 := by decide +kernel
theorem dX2_makes_63 : eb_dj cX2_makes 63 (.goto 5) 5 66 68 := by decide +kernel
theorem dX2_makes_66 : eb_dc cX2_makes 66 (.iload 8) 2 68 := by decide +kernel
theorem dX2_makes_68 : eb_dc cX2_makes 68 (.istore 8) 2 70 := by decide +kernel
theorem dX2_makes_70 : eb_dc cX2_makes 70 (.iload 10) 2 72 := by decide +kernel
theorem dX2_makes_72 : eb_dc cX2_makes 72 (.iconst 1) 1 73 := by decide +kernel
theorem dX2_makes_73 : eb_dc cX2_makes 73 (.iadd) 1 74 := by decide +kernel
theorem dX2_makes_74 : eb_dc cX2_makes 74 (.istore 12) 2 76 := by decide +kernel
theorem dX2_makes_76 : eb_dc cX2_makes 76 (.iload 12) 2 78 := by decide +kernel
theorem dX2_makes_78 : eb_dc cX2_makes 78 (.iconst 4) 1 79 := by decide +kernel
theorem dX2_makes_79 : eb_dj cX2_makes 79 (.if_icmp .ge 134) 134 82 213 := by decide +kernel
theorem dX2_makes_82 : eb_dc cX2_makes 82 (.iload_n 2) 1 83 := by decide +kernel
theorem dX2_makes_83 : eb_dc cX2_makes 83 (.iload 12) 2 85 := by decide +kernel
theorem dX2_makes_85 : eb_dc cX2_makes 85 (.ishr) 1 86 := by decide +kernel
theorem dX2_makes_86 : eb_dc cX2_makes 86 (.iconst 1) 1 87 := by decide +kernel
theorem dX2_makes_87 : eb_dc cX2_makes 87 (.iand) 1 88 := by decide +kernel
theorem dX2_makes_88 : eb_dc cX2_makes 88 (.iconst 1) 1 89 := by decide +kernel
theorem dX2_makes_89 : eb_dj cX2_makes 89 (.if_icmp .ne 15) 15 92 104 := by decide +kernel
theorem dX2_makes_92 : eb_dc cX2_makes 92 (.aload_n 0) 1 93 := by decide +kernel
theorem dX2_makes_93 : eb_dc cX2_makes 93 (.iload_n 1) 1 94 := by decide +kernel
theorem dX2_makes_94 : eb_dc cX2_makes 94 (.iload 10) 2 96 := by decide +kernel
theorem dX2_makes_96 : eb_dc cX2_makes 96 (.iload 12) 2 98 := by decide +kernel
theorem dX2_makes_98 : eb_dc cX2_makes 98 (.invokevirtual 121) 3 101 := by decide +kernel
theorem dX2_makes_101 : eb_dj cX2_makes 101 (.goto 4) 4 104 105 := by decide +kernel
theorem dX2_makes_104 : eb_dc cX2_makes 104 (.iconst 2) 1 105 := by decide +kernel
theorem dX2_makes_105 : eb_dc cX2_makes 105 (.istore 13) 2 107 := by decide +kernel
theorem dX2_makes_107 : eb_dc cX2_makes 107 (.iload 4) 2 109 := by decide +kernel
theorem dX2_makes_109 : eb_dc cX2_makes 109 (.iload 13) 2 111 := by decide +kernel
theorem dX2_makes_111 : eb_dc cX2_makes 111 (.iconst 2) 1 112 := by decide +kernel
theorem dX2_makes_112 : eb_dj cX2_makes 112 (.if_icmp .le 7) 7 115 119 := by decide +kernel
theorem dX2_makes_115 : eb_dc cX2_makes 115 (.iconst 1) 1 116 := by decide +kernel
theorem dX2_makes_116 : eb_dj cX2_makes 116 (.goto 4) 4 119 120 := by decide +kernel
theorem dX2_makes_119 : eb_dc cX2_makes 119 (.iconst 0) 1 120 := by decide +kernel
theorem dX2_makes_120 : eb_dc cX2_makes 120 (.iadd) 1 121 := by decide +kernel
theorem dX2_makes_121 : eb_dc cX2_makes 121 (.istore 4) 2 123 := by decide +kernel
theorem dX2_makes_123 : eb_dc cX2_makes 123 (.iload 5) 2 125 := by decide +kernel
theorem dX2_makes_125 : eb_dc cX2_makes 125 (.iload 13) 2 127 := by decide +kernel
theorem dX2_makes_127 : eb_dc cX2_makes 127 (.iconst 3) 1 128 := by decide +kernel
theorem dX2_makes_128 : eb_dj cX2_makes 128 (.if_icmp .ne 7) 7 131 135 := by decide +kernel
theorem dX2_makes_131 : eb_dc cX2_makes 131 (.iconst 1) 1 132 := by decide +kernel
theorem dX2_makes_132 : eb_dj cX2_makes 132 (.goto 4) 4 135 136 := by decide +kernel
theorem dX2_makes_135 : eb_dc cX2_makes 135 (.iconst 0) 1 136 := by decide +kernel
theorem dX2_makes_136 : eb_dc cX2_makes 136 (.iadd) 1 137 := by decide +kernel
theorem dX2_makes_137 : eb_dc cX2_makes 137 (.istore 5) 2 139 := by decide +kernel
theorem dX2_makes_139 : eb_dc cX2_makes 139 (.iload 6) 2 141 := by decide +kernel
theorem dX2_makes_141 : eb_dc cX2_makes 141 (.iload 13) 2 143 := by decide +kernel
theorem dX2_makes_143 : eb_dc cX2_makes 143 (.iconst 4) 1 144 := by decide +kernel
theorem dX2_makes_144 : eb_dj cX2_makes 144 (.if_icmp .ne 7) 7 147 151 := by decide +kernel
theorem dX2_makes_147 : eb_dc cX2_makes 147 (.iconst 1) 1 148 := by decide +kernel
theorem dX2_makes_148 : eb_dj cX2_makes 148 (.goto 4) 4 151 152 := by decide +kernel
theorem dX2_makes_151 : eb_dc cX2_makes 151 (.iconst 0) 1 152 := by decide +kernel
theorem dX2_makes_152 : eb_dc cX2_makes 152 (.iadd) 1 153 := by decide +kernel
theorem dX2_makes_153 : eb_dc cX2_makes 153 (.istore 6) 2 155 := by decide +kernel
theorem dX2_makes_155 : eb_dc cX2_makes 155 (.iload 7) 2 157 := by decide +kernel
theorem dX2_makes_157 : eb_dc cX2_makes 157 (.iload 13) 2 159 := by decide +kernel
theorem dX2_makes_159 : eb_dc cX2_makes 159 (.iconst 5) 1 160 := by decide +kernel
theorem dX2_makes_160 : eb_dj cX2_makes 160 (.if_icmp .ne 7) 7 163 167 := by decide +kernel
theorem dX2_makes_163 : eb_dc cX2_makes 163 (.iconst 1) 1 164 := by decide +kernel
theorem dX2_makes_164 : eb_dj cX2_makes 164 (.goto 4) 4 167 168 := by decide +kernel
theorem dX2_makes_167 : eb_dc cX2_makes 167 (.iconst 0) 1 168 := by decide +kernel
theorem dX2_makes_168 : eb_dc cX2_makes 168 (.iadd) 1 169 := by decide +kernel
theorem dX2_makes_169 : eb_dc cX2_makes 169 (.istore 7) 2 171 := by decide +kernel
theorem dX2_makes_171 : eb_dc cX2_makes 171 (.iload 9) 2 173 := by decide +kernel
theorem dX2_makes_173 : eb_dc cX2_makes 173 (.iload 13) 2 175 := by decide +kernel
theorem dX2_makes_175 : eb_dc cX2_makes 175 (.iconst 4) 1 176 := by decide +kernel
theorem dX2_makes_176 : eb_dj cX2_makes 176 (.if_icmp .ne 27) 27 179 203 := by decide +kernel
theorem dX2_makes_179 : eb_dc cX2_makes 179 (.iload 11) 2 181 := by decide +kernel
theorem dX2_makes_181 : eb_dc cX2_makes 181 (.iconst 1) 1 182 := by decide +kernel
theorem dX2_makes_182 : eb_dj cX2_makes 182 (.if_icmp .eq 17) 17 185 199 := by decide +kernel
theorem dX2_makes_185 : eb_dc cX2_makes 185 (.aload_n 0) 1 186 := by decide +kernel
theorem dX2_makes_186 : eb_dc cX2_makes 186 (.iload_n 1) 1 187 := by decide +kernel
theorem dX2_makes_187 : eb_dc cX2_makes 187 (.iload 12) 2 189 := by decide +kernel
theorem dX2_makes_189 : eb_dc cX2_makes 189 (.invokevirtual 125) 3 192 := by decide +kernel
theorem dX2_makes_192 : eb_dc cX2_makes 192 (.invokestatic 129) 3 195 := by decide +kernel
theorem dX2_makes_195 : eb_dc cX2_makes 195 (.iconst 1) 1 196 := by decide +kernel
theorem dX2_makes_196 : eb_dj cX2_makes 196 (.if_icmp .ne 7) 7 199 203 := by decide +kernel
theorem dX2_makes_199 : eb_dc cX2_makes 199 (.iconst 1) 1 200 := by decide +kernel
theorem dX2_makes_200 : eb_dj cX2_makes 200 (.goto 4) 4 203 204 := by decide +kernel
theorem dX2_makes_203 : eb_dc cX2_makes 203 (.iconst 0) 1 204 := by decide +kernel
theorem dX2_makes_204 : eb_dc cX2_makes 204 (.iadd) 1 205 := by decide +kernel
theorem dX2_makes_205 : eb_dc cX2_makes 205 (.istore 9) 2 207 := by decide +kernel
theorem dX2_makes_207 : eb_dc cX2_makes 207 (.iinc 12 1) 3 210 := by decide +kernel
theorem dX2_makes_210 : eb_dj cX2_makes 210 (.goto (-134)) (-134) 213 76 := by decide +kernel
theorem dX2_makes_213 : eb_dc cX2_makes 213 (.iinc 10 1) 3 216 := by decide +kernel
theorem dX2_makes_216 : eb_dj cX2_makes 216 (.goto (-190)) (-190) 219 26 := by decide +kernel
theorem dX2_makes_219 : eb_dc cX2_makes 219 (.iload_n 3) 1 220 := by decide +kernel
theorem dX2_makes_220 : eb_dc cX2_makes 220 (.iconst 1) 1 221 := by decide +kernel
theorem dX2_makes_221 : eb_dj cX2_makes 221 (.if_icmp .ne 5) 5 224 226 := by decide +kernel
theorem dX2_makes_224 : eb_dc cX2_makes 224 (.iconst 2) 1 225 := by decide +kernel
theorem dX2_makes_225 : eb_dc cX2_makes 225 (.ireturn) 1 226 := by decide +kernel
theorem dX2_makes_226 : eb_dc cX2_makes 226 (.iload_n 3) 1 227 := by decide +kernel
theorem dX2_makes_227 : eb_dc cX2_makes 227 (.iconst 2) 1 228 := by decide +kernel
theorem dX2_makes_228 : eb_dj cX2_makes 228 (.if_icmp .ne 80) 80 231 308 := by decide +kernel
theorem dX2_makes_231 : eb_dc cX2_makes 231 (.iconst 2) 1 232 := by decide +kernel
theorem dX2_makes_232 : eb_dc cX2_makes 232 (.istore 10) 2 234 := by decide +kernel
theorem dX2_makes_234 : eb_dc cX2_makes 234 (.iconst 0) 1 235 := by decide +kernel
theorem dX2_makes_235 : eb_dc cX2_makes 235 (.istore 11) 2 237 := by decide +kernel
theorem dX2_makes_237 : eb_dc cX2_makes 237 (.iload 11) 2 239 := by decide +kernel
theorem dX2_makes_239 : eb_dc cX2_makes 239 (.iconst 4) 1 240 := by decide +kernel
theorem dX2_makes_240 : eb_dj cX2_makes 240 (.if_icmp .ge 63) 63 243 303 := by decide +kernel
theorem dX2_makes_243 : eb_dc cX2_makes 243 (.iload 11) 2 245 := by decide +kernel
theorem dX2_makes_245 : eb_dc cX2_makes 245 (.iconst 1) 1 246 := by decide +kernel
theorem dX2_makes_246 : eb_dc cX2_makes 246 (.iadd) 1 247 := by decide +kernel
theorem dX2_makes_247 : eb_dc cX2_makes 247 (.istore 12) 2 249 := by decide +kernel
theorem dX2_makes_249 : eb_dc cX2_makes 249 (.iload 12) 2 251 := by decide +kernel
theorem dX2_makes_251 : eb_dc cX2_makes 251 (.iconst 4) 1 252 := by decide +kernel
theorem dX2_makes_252 : eb_dj cX2_makes 252 (.if_icmp .ge 45) 45 255 297 := by decide +kernel
theorem dX2_makes_255 : eb_dc cX2_makes 255 (.iload_n 2) 1 256 := by decide +kernel
theorem dX2_makes_256 : eb_dc cX2_makes 256 (.iload 11) 2 258 := by decide +kernel
theorem dX2_makes_258 : eb_dc cX2_makes 258 (.ishr) 1 259 := by decide +kernel
theorem dX2_makes_259 : eb_dc cX2_makes 259 (.iconst 1) 1 260 := by decide +kernel
theorem dX2_makes_260 : eb_dc cX2_makes 260 (.iand) 1 261 := by decide +kernel
theorem dX2_makes_261 : eb_dc cX2_makes 261 (.iconst 1) 1 262 := by decide +kernel
theorem dX2_makes_262 : eb_dj cX2_makes 262 (.if_icmp .ne 25) 25 265 287 := by decide +kernel
theorem dX2_makes_265 : eb_dc cX2_makes 265 (.iload_n 2) 1 266 := by decide +kernel
theorem dX2_makes_266 : eb_dc cX2_makes 266 (.iload 12) 2 268 := by decide +kernel
theorem dX2_makes_268 : eb_dc cX2_makes 268 (.ishr) 1 269 := by decide +kernel
theorem dX2_makes_269 : eb_dc cX2_makes 269 (.iconst 1) 1 270 := by decide +kernel
theorem dX2_makes_270 : eb_dc cX2_makes 270 (.iand) 1 271 := by decide +kernel
theorem dX2_makes_271 : eb_dc cX2_makes 271 (.iconst 1) 1 272 := by decide +kernel
theorem dX2_makes_272 : eb_dj cX2_makes 272 (.if_icmp .ne 15) 15 275 287 := by decide +kernel
theorem dX2_makes_275 : eb_dc cX2_makes 275 (.aload_n 0) 1 276 := by decide +kernel
theorem dX2_makes_276 : eb_dc cX2_makes 276 (.iload_n 1) 1 277 := by decide +kernel
theorem dX2_makes_277 : eb_dc cX2_makes 277 (.iload 11) 2 279 := by decide +kernel
theorem dX2_makes_279 : eb_dc cX2_makes 279 (.iload 12) 2 281 := by decide +kernel
theorem dX2_makes_281 : eb_dc cX2_makes 281 (.invokevirtual 121) 3 284 := by decide +kernel
theorem dX2_makes_284 : eb_dj cX2_makes 284 (.goto 5) 5 287 289 := by decide +kernel
theorem dX2_makes_287 : eb_dc cX2_makes 287 (.iload 10) 2 289 := by decide +kernel
theorem dX2_makes_289 : eb_dc cX2_makes 289 (.istore 10) 2 291 := by decide +kernel
theorem dX2_makes_291 : eb_dc cX2_makes 291 (.iinc 12 1) 3 294 := by decide +kernel
theorem dX2_makes_294 : eb_dj cX2_makes 294 (.goto (-45)) (-45) 297 249 := by decide +kernel
theorem dX2_makes_297 : eb_dc cX2_makes 297 (.iinc 11 1) 3 300 := by decide +kernel
theorem dX2_makes_300 : eb_dj cX2_makes 300 (.goto (-63)) (-63) 303 237 := by decide +kernel
theorem dX2_makes_303 : eb_dc cX2_makes 303 (.iconst 2) 1 304 := by decide +kernel
theorem dX2_makes_304 : eb_dc cX2_makes 304 (.iload 10) 2 306 := by decide +kernel
theorem dX2_makes_306 : eb_dc cX2_makes 306 (.imul) 1 307 := by decide +kernel
theorem dX2_makes_307 : eb_dc cX2_makes 307 (.ireturn) 1 308 := by decide +kernel
theorem dX2_makes_308 : eb_dc cX2_makes 308 (.iload 4) 2 310 := by decide +kernel
theorem dX2_makes_310 : eb_dc cX2_makes 310 (.iload_n 3) 1 311 := by decide +kernel
theorem dX2_makes_311 : eb_dc cX2_makes 311 (.iconst 1) 1 312 := by decide +kernel
theorem dX2_makes_312 : eb_dc cX2_makes 312 (.isub) 1 313 := by decide +kernel
theorem dX2_makes_313 : eb_dj cX2_makes 313 (.if_icmp .eq 5) 5 316 318 := by decide +kernel
theorem dX2_makes_316 : eb_dc cX2_makes 316 (.iconst 0) 1 317 := by decide +kernel
theorem dX2_makes_317 : eb_dc cX2_makes 317 (.ireturn) 1 318 := by decide +kernel
theorem dX2_makes_318 : eb_dc cX2_makes 318 (.iload_n 3) 1 319 := by decide +kernel
theorem dX2_makes_319 : eb_dc cX2_makes 319 (.iconst 3) 1 320 := by decide +kernel
theorem dX2_makes_320 : eb_dj cX2_makes 320 (.if_icmp .ne 50) 50 323 370 := by decide +kernel
theorem dX2_makes_323 : eb_dc cX2_makes 323 (.iload 5) 2 325 := by decide +kernel
theorem dX2_makes_325 : eb_dc cX2_makes 325 (.iconst 2) 1 326 := by decide +kernel
theorem dX2_makes_326 : eb_dj cX2_makes 326 (.if_icmp .ne 8) 8 329 334 := by decide +kernel
theorem dX2_makes_329 : eb_dc cX2_makes 329 (.bipush 24) 2 331 := by decide +kernel
theorem dX2_makes_331 : eb_dj cX2_makes 331 (.goto 38) 38 334 369 := by decide +kernel
theorem dX2_makes_334 : eb_dc cX2_makes 334 (.iload 5) 2 336 := by decide +kernel
theorem dX2_makes_336 : eb_dc cX2_makes 336 (.iconst 1) 1 337 := by decide +kernel
theorem dX2_makes_337 : eb_dj cX2_makes 337 (.if_icmp .ne 14) 14 340 351 := by decide +kernel
theorem dX2_makes_340 : eb_dc cX2_makes 340 (.iload 6) 2 342 := by decide +kernel
theorem dX2_makes_342 : eb_dc cX2_makes 342 (.iconst 1) 1 343 := by decide +kernel
theorem dX2_makes_343 : eb_dj cX2_makes 343 (.if_icmp .ne 8) 8 346 351 := by decide +kernel
theorem dX2_makes_346 : eb_dc cX2_makes 346 (.bipush 48) 2 348 := by decide +kernel
theorem dX2_makes_348 : eb_dj cX2_makes 348 (.goto 21) 21 351 369 := by decide +kernel
theorem dX2_makes_351 : eb_dc cX2_makes 351 (.iload 5) 2 353 := by decide +kernel
theorem dX2_makes_353 : eb_dc cX2_makes 353 (.iconst 1) 1 354 := by decide +kernel
theorem dX2_makes_354 : eb_dj cX2_makes 354 (.if_icmp .ne 14) 14 357 368 := by decide +kernel
theorem dX2_makes_357 : eb_dc cX2_makes 357 (.iload 7) 2 359 := by decide +kernel
theorem dX2_makes_359 : eb_dc cX2_makes 359 (.iconst 1) 1 360 := by decide +kernel
theorem dX2_makes_360 : eb_dj cX2_makes 360 (.if_icmp .ne 8) 8 363 368 := by decide +kernel
theorem dX2_makes_363 : eb_dc cX2_makes 363 (.bipush 120) 2 365 := by decide +kernel
theorem dX2_makes_365 : eb_dj cX2_makes 365 (.goto 4) 4 368 369 := by decide +kernel
theorem dX2_makes_368 : eb_dc cX2_makes 368 (.iconst 0) 1 369 := by decide +kernel
theorem dX2_makes_369 : eb_dc cX2_makes 369 (.ireturn) 1 370 := by decide +kernel
theorem dX2_makes_370 : eb_dc cX2_makes 370 (.iload 8) 2 372 := by decide +kernel
theorem dX2_makes_372 : eb_dc cX2_makes 372 (.iconst 3) 1 373 := by decide +kernel
theorem dX2_makes_373 : eb_dj cX2_makes 373 (.if_icmp .ne 17) 17 376 390 := by decide +kernel
theorem dX2_makes_376 : eb_dc cX2_makes 376 (.iload 5) 2 378 := by decide +kernel
theorem dX2_makes_378 : eb_dc cX2_makes 378 (.iconst 3) 1 379 := by decide +kernel
theorem dX2_makes_379 : eb_dj cX2_makes 379 (.if_icmp .ne 9) 9 382 388 := by decide +kernel
theorem dX2_makes_382 : eb_dc cX2_makes 382 (.sipush 192) 3 385 := by decide +kernel
theorem dX2_makes_385 : eb_dj cX2_makes 385 (.goto 4) 4 388 389 := by decide +kernel
theorem dX2_makes_388 : eb_dc cX2_makes 388 (.iconst 0) 1 389 := by decide +kernel
theorem dX2_makes_389 : eb_dc cX2_makes 389 (.ireturn) 1 390 := by decide +kernel
theorem dX2_makes_390 : eb_dc cX2_makes 390 (.iload 5) 2 392 := by decide +kernel
theorem dX2_makes_392 : eb_dc cX2_makes 392 (.iconst 3) 1 393 := by decide +kernel
theorem dX2_makes_393 : eb_dj cX2_makes 393 (.if_icmp .ne 8) 8 396 401 := by decide +kernel
theorem dX2_makes_396 : eb_dc cX2_makes 396 (.bipush 120) 2 398 := by decide +kernel
theorem dX2_makes_398 : eb_dj cX2_makes 398 (.goto 28) 28 401 426 := by decide +kernel
theorem dX2_makes_401 : eb_dc cX2_makes 401 (.iload 5) 2 403 := by decide +kernel
theorem dX2_makes_403 : eb_dc cX2_makes 403 (.iconst 2) 1 404 := by decide +kernel
theorem dX2_makes_404 : eb_dj cX2_makes 404 (.if_icmp .ne 21) 21 407 425 := by decide +kernel
theorem dX2_makes_407 : eb_dc cX2_makes 407 (.iload 6) 2 409 := by decide +kernel
theorem dX2_makes_409 : eb_dc cX2_makes 409 (.iconst 1) 1 410 := by decide +kernel
theorem dX2_makes_410 : eb_dj cX2_makes 410 (.if_icmp .ne 15) 15 413 425 := by decide +kernel
theorem dX2_makes_413 : eb_dc cX2_makes 413 (.iload 9) 2 415 := by decide +kernel
theorem dX2_makes_415 : eb_dc cX2_makes 415 (.iconst 1) 1 416 := by decide +kernel
theorem dX2_makes_416 : eb_dj cX2_makes 416 (.if_icmp .ne 9) 9 419 425 := by decide +kernel
theorem dX2_makes_419 : eb_dc cX2_makes 419 (.sipush 384) 3 422 := by decide +kernel
theorem dX2_makes_422 : eb_dj cX2_makes 422 (.goto 4) 4 425 426 := by decide +kernel
theorem dX2_makes_425 : eb_dc cX2_makes 425 (.iconst 0) 1 426 := by decide +kernel
theorem dX2_makes_426 : eb_dc cX2_makes 426 (.ireturn) 1 427 := by decide +kernel
theorem ctX2_makes {l : Launch} {Γ : eb_C} {ad : Nat → Nat} {ix : Nat → Option Nat} {σ : eb_MS} {a1 : Int32} {a2 : Int32} {K : Int32 → Prop} (hi : ms_inv ad ix) (h : MX2_makes σ a1 a2 K) : eb_Ct l Γ yX2_makes cX2_makes 14 (some .int) rmX2_makes [.ref (ad 0), .int a1, .int a2] (ms_st Γ ad ix σ) (eb_pI (ms_st Γ ad ix σ) K) := by
  refine eb_of (by decide) (Nat.le_of_ble_eq_true rfl) (fun X P hP _ => ?_)
  show eb_G l Γ P X cX2_makes RX2 14 (some .int) rmX2_makes 0 [(0, .ref (ad 0)), (1, .int a1), (2, .int a2)] [] (ms_st Γ ad ix σ) 0 0
  refine eg_iload_n 2 dX2_makes_0 rfl rfl ?_
  refine eg_csp (rest := []) (ctX2_bits h) (lw_S q1306 q1307 q77 q1308) nX2_bits ⟨Nat.le_of_ble_eq_true rfl, Nat.le_of_ble_eq_true rfl⟩ ⟨rfl, rfl⟩ ⟨Nat.zero_le _, Nat.zero_le _⟩ rfl rfl (Nat.le_of_ble_eq_true rfl) dX2_makes_1 (fun v1 h => ?_)
  refine eg_istore_n (lv' := [(3, .int v1), (0, .ref (ad 0)), (1, .int a1), (2, .int a2)]) dX2_makes_4 rfl (Nat.le_of_ble_eq_true rfl) rfl ?_
  refine eg_iconst dX2_makes_5 kc_0 ?_
  refine eg_istore (lv' := [(4, .int 0), (3, .int v1), (0, .ref (ad 0)), (1, .int a1), (2, .int a2)]) dX2_makes_6 (Nat.le_of_ble_eq_true rfl) rfl ?_
  refine eg_iconst dX2_makes_8 kc_0 ?_
  refine eg_istore (lv' := [(5, .int 0), (4, .int 0), (3, .int v1), (0, .ref (ad 0)), (1, .int a1), (2, .int a2)]) dX2_makes_9 (Nat.le_of_ble_eq_true rfl) rfl ?_
  refine eg_iconst dX2_makes_11 kc_0 ?_
  refine eg_istore (lv' := [(6, .int 0), (5, .int 0), (4, .int 0), (3, .int v1), (0, .ref (ad 0)), (1, .int a1), (2, .int a2)]) dX2_makes_12 (Nat.le_of_ble_eq_true rfl) rfl ?_
  refine eg_iconst dX2_makes_14 kc_0 ?_
  refine eg_istore (lv' := [(7, .int 0), (6, .int 0), (5, .int 0), (4, .int 0), (3, .int v1), (0, .ref (ad 0)), (1, .int a1), (2, .int a2)]) dX2_makes_15 (Nat.le_of_ble_eq_true rfl) rfl ?_
  refine eg_iconst dX2_makes_17 kc_0 ?_
  refine eg_istore (lv' := [(8, .int 0), (7, .int 0), (6, .int 0), (5, .int 0), (4, .int 0), (3, .int v1), (0, .ref (ad 0)), (1, .int a1), (2, .int a2)]) dX2_makes_18 (Nat.le_of_ble_eq_true rfl) rfl ?_
  refine eg_iconst dX2_makes_20 kc_0 ?_
  refine eg_istore (lv' := [(9, .int 0), (8, .int 0), (7, .int 0), (6, .int 0), (5, .int 0), (4, .int 0), (3, .int v1), (0, .ref (ad 0)), (1, .int a1), (2, .int a2)]) dX2_makes_21 (Nat.le_of_ble_eq_true rfl) rfl ?_
  refine eg_iconst dX2_makes_23 kc_0 ?_
  refine eg_istore (lv' := [(10, .int 0), (9, .int 0), (8, .int 0), (7, .int 0), (6, .int 0), (5, .int 0), (4, .int 0), (3, .int v1), (0, .ref (ad 0)), (1, .int a1), (2, .int a2)]) dX2_makes_24 (Nat.le_of_ble_eq_true rfl) rfl ?_
  refine eb_jp6_e (J := fun (x4_3 : Int32) (x5_4 : Int32) (x6_5 : Int32) (x7_6 : Int32) (x8_7 : Int32) (x9_8 : Int32) => eb_G l Γ P X cX2_makes RX2 14 (some .int) rmX2_makes 219 [(0, .ref (ad 0)), (1, .int a1), (2, .int a2), (3, .int v1), (4, .int x4_3), (5, .int x5_4), (6, .int x6_5), (7, .int x7_6), (8, .int x8_7), (9, .int x9_8)] [] (ms_st Γ ad ix σ) 0 0) h ?_ ?_
  · intro x4_3 x5_4 x6_5 x7_6 x8_7 x9_8 h
    refine eg_iload_n 3 dX2_makes_219 rfl rfl ?_
    refine eg_iconst dX2_makes_220 kc_1 ?_
    refine eg_icmp_ne dX2_makes_221 (fun c43 => ?_) (fun c43 => ?_)
    · replace h := h.2 c43
      refine eg_iload_n 3 dX2_makes_226 rfl rfl ?_
      refine eg_iconst dX2_makes_227 kc_2 ?_
      refine eg_icmp_ne dX2_makes_228 (fun c42 => ?_) (fun c42 => ?_)
      · replace h := h.2 c42
        refine eg_iload 4 dX2_makes_308 rfl ?_
        refine eg_iload_n 3 dX2_makes_310 rfl rfl ?_
        refine eg_iconst dX2_makes_311 kc_1 ?_
        refine eg_isub dX2_makes_312 ?_
        refine eg_icmp_eq dX2_makes_313 (fun c22 => ?_) (fun c22 => ?_)
        · replace h := h.1 c22
          refine eg_iload_n 3 dX2_makes_318 rfl rfl ?_
          refine eg_iconst dX2_makes_319 kc_3 ?_
          refine eg_icmp_ne dX2_makes_320 (fun c21 => ?_) (fun c21 => ?_)
          · replace h := h.2 c21
            refine eg_iload 8 dX2_makes_370 rfl ?_
            refine eg_iconst dX2_makes_372 kc_3 ?_
            refine eg_icmp_ne dX2_makes_373 (fun c14 => ?_) (fun c14 => ?_)
            · replace h := h.2 c14
              refine eg_iload 5 dX2_makes_390 rfl ?_
              refine eg_iconst dX2_makes_392 kc_3 ?_
              refine eg_icmp_ne dX2_makes_393 (fun c12 => ?_) (fun c12 => ?_)
              · replace h := h.2 c12
                refine eg_iload 5 dX2_makes_401 rfl ?_
                refine eg_iconst dX2_makes_403 kc_2 ?_
                refine eg_icmp_ne dX2_makes_404 (fun c11 => ?_) (fun c11 => ?_)
                · replace h := h.2 c11
                  refine eg_iconst dX2_makes_425 kc_0 ?_
                  exact eg_iret dX2_makes_426 (Nat.zero_le _) (Nat.zero_le _) (hP _ _ ⟨_, rfl, rfl, h⟩)
                · replace h := h.1 c11
                  refine eg_iload 6 dX2_makes_407 rfl ?_
                  refine eg_iconst dX2_makes_409 kc_1 ?_
                  refine eg_icmp_ne dX2_makes_410 (fun c10 => ?_) (fun c10 => ?_)
                  · replace h := h.2 c10
                    refine eg_iconst dX2_makes_425 kc_0 ?_
                    exact eg_iret dX2_makes_426 (Nat.zero_le _) (Nat.zero_le _) (hP _ _ ⟨_, rfl, rfl, h⟩)
                  · replace h := h.1 c10
                    refine eg_iload 9 dX2_makes_413 rfl ?_
                    refine eg_iconst dX2_makes_415 kc_1 ?_
                    refine eg_icmp_ne dX2_makes_416 (fun c9 => ?_) (fun c9 => ?_)
                    · replace h := h.2 c9
                      refine eg_iconst dX2_makes_425 kc_0 ?_
                      exact eg_iret dX2_makes_426 (Nat.zero_le _) (Nat.zero_le _) (hP _ _ ⟨_, rfl, rfl, h⟩)
                    · replace h := h.1 c9
                      refine eg_sipush dX2_makes_419 ks_384 ?_
                      refine eg_goto dX2_makes_422 ?_
                      exact eg_iret dX2_makes_426 (Nat.zero_le _) (Nat.zero_le _) (hP _ _ ⟨_, rfl, rfl, h⟩)
              · replace h := h.1 c12
                refine eg_bipush dX2_makes_396 kb_120 ?_
                refine eg_goto dX2_makes_398 ?_
                exact eg_iret dX2_makes_426 (Nat.zero_le _) (Nat.zero_le _) (hP _ _ ⟨_, rfl, rfl, h⟩)
            · replace h := h.1 c14
              refine eg_iload 5 dX2_makes_376 rfl ?_
              refine eg_iconst dX2_makes_378 kc_3 ?_
              refine eg_icmp_ne dX2_makes_379 (fun c13 => ?_) (fun c13 => ?_)
              · replace h := h.2 c13
                refine eg_iconst dX2_makes_388 kc_0 ?_
                exact eg_iret dX2_makes_389 (Nat.zero_le _) (Nat.zero_le _) (hP _ _ ⟨_, rfl, rfl, h⟩)
              · replace h := h.1 c13
                refine eg_sipush dX2_makes_382 ks_192 ?_
                refine eg_goto dX2_makes_385 ?_
                exact eg_iret dX2_makes_389 (Nat.zero_le _) (Nat.zero_le _) (hP _ _ ⟨_, rfl, rfl, h⟩)
          · replace h := h.1 c21
            refine eg_iload 5 dX2_makes_323 rfl ?_
            refine eg_iconst dX2_makes_325 kc_2 ?_
            refine eg_icmp_ne dX2_makes_326 (fun c20 => ?_) (fun c20 => ?_)
            · replace h := h.2 c20
              refine eg_iload 5 dX2_makes_334 rfl ?_
              refine eg_iconst dX2_makes_336 kc_1 ?_
              refine eb_jp0_e (J := eb_G l Γ P X cX2_makes RX2 14 (some .int) rmX2_makes 351 [(5, .int x5_4), (7, .int x7_6)] [] (ms_st Γ ad ix σ) 0 0) h ?_ ?_
              · intro  h
                refine eg_iload 0 dX2_makes_351 rfl ?_
                refine eg_iconst dX2_makes_353 kc_1 ?_
                refine eg_icmp_ne dX2_makes_354 (fun c16 => ?_) (fun c16 => ?_)
                · replace h := h.2 c16
                  refine eg_iconst dX2_makes_368 kc_0 ?_
                  exact eg_iret dX2_makes_369 (Nat.zero_le _) (Nat.zero_le _) (hP _ _ ⟨_, rfl, rfl, h⟩)
                · replace h := h.1 c16
                  refine eg_iload 1 dX2_makes_357 rfl ?_
                  refine eg_iconst dX2_makes_359 kc_1 ?_
                  refine eg_icmp_ne dX2_makes_360 (fun c15 => ?_) (fun c15 => ?_)
                  · replace h := h.2 c15
                    refine eg_iconst dX2_makes_368 kc_0 ?_
                    exact eg_iret dX2_makes_369 (Nat.zero_le _) (Nat.zero_le _) (hP _ _ ⟨_, rfl, rfl, h⟩)
                  · replace h := h.1 c15
                    refine eg_bipush dX2_makes_363 kb_120 ?_
                    refine eg_goto dX2_makes_365 ?_
                    exact eg_iret dX2_makes_369 (Nat.zero_le _) (Nat.zero_le _) (hP _ _ ⟨_, rfl, rfl, h⟩)
              · intro k17 hk17 h
                refine eg_icmp_ne dX2_makes_337 (fun c19 => ?_) (fun c19 => ?_)
                · replace h := h.2 c19
                  exact eg_sub [5, 7] rfl (hk17 h)
                · replace h := h.1 c19
                  refine eg_iload 6 dX2_makes_340 rfl ?_
                  refine eg_iconst dX2_makes_342 kc_1 ?_
                  refine eg_icmp_ne dX2_makes_343 (fun c18 => ?_) (fun c18 => ?_)
                  · replace h := h.2 c18
                    exact eg_sub [5, 7] rfl (hk17 h)
                  · replace h := h.1 c18
                    refine eg_bipush dX2_makes_346 kb_48 ?_
                    refine eg_goto dX2_makes_348 ?_
                    exact eg_iret dX2_makes_369 (Nat.zero_le _) (Nat.zero_le _) (hP _ _ ⟨_, rfl, rfl, h⟩)
            · replace h := h.1 c20
              refine eg_bipush dX2_makes_329 kb_24 ?_
              refine eg_goto dX2_makes_331 ?_
              exact eg_iret dX2_makes_369 (Nat.zero_le _) (Nat.zero_le _) (hP _ _ ⟨_, rfl, rfl, h⟩)
        · replace h := h.2 c22
          refine eg_iconst dX2_makes_316 kc_0 ?_
          exact eg_iret dX2_makes_317 (Nat.zero_le _) (Nat.zero_le _) (hP _ _ ⟨_, rfl, rfl, h⟩)
      · replace h := h.1 c42
        refine eg_iconst dX2_makes_231 kc_2 ?_
        refine eg_istore (lv' := [(10, .int 2), (0, .ref (ad 0)), (1, .int a1), (2, .int a2), (3, .int v1), (4, .int x4_3), (5, .int x5_4), (6, .int x6_5), (7, .int x7_6), (8, .int x8_7), (9, .int x9_8)]) dX2_makes_232 (Nat.le_of_ble_eq_true rfl) rfl ?_
        refine eg_iconst dX2_makes_234 kc_0 ?_
        refine eg_istore (lv' := [(11, .int 0), (10, .int 2), (0, .ref (ad 0)), (1, .int a1), (2, .int a2), (3, .int v1), (4, .int x4_3), (5, .int x5_4), (6, .int x6_5), (7, .int x7_6), (8, .int x8_7), (9, .int x9_8)]) dX2_makes_235 (Nat.le_of_ble_eq_true rfl) rfl ?_
        refine eb_jp1_e (J := fun (x10_23 : Int32) => eb_G l Γ P X cX2_makes RX2 14 (some .int) rmX2_makes 303 [(10, .int x10_23)] [] (ms_st Γ ad ix σ) 0 0) h ?_ ?_
        · intro x10_23 h
          refine eg_iconst dX2_makes_303 kc_2 ?_
          refine eg_iload 0 dX2_makes_304 rfl ?_
          refine eg_imul dX2_makes_306 ?_
          exact eg_iret dX2_makes_307 (Nat.zero_le _) (Nat.zero_le _) (hP _ _ ⟨_, rfl, rfl, h⟩)
        · intro k24 hk24 h
          refine eg_sub [2, 3, 4, 1, 0] rfl ?_
          refine eb_loop2_e (J := fun (x10_25 : Int32) (x11_26 : Int32) => eb_G l Γ P X cX2_makes RX2 14 (some .int) rmX2_makes 237 [(0, .ref (ad 0)), (1, .int a1), (2, .int a2), (10, .int x10_25), (11, .int x11_26)] [] (ms_st Γ ad ix σ) 0 0) h ?_
          intro r27 hr27 x10_25 x11_26 h
          refine eg_iload 4 dX2_makes_237 rfl ?_
          refine eg_iconst dX2_makes_239 kc_4 ?_
          refine eg_icmp_ge dX2_makes_240 (fun c41 => ?_) (fun c41 => ?_)
          · replace h := h.1 c41
            exact eg_sub [3] rfl (hk24 x10_25 h)
          · replace h := h.2 c41
            refine eg_iload 4 dX2_makes_243 rfl ?_
            refine eg_iconst dX2_makes_245 kc_1 ?_
            refine eg_iadd dX2_makes_246 ?_
            refine eg_istore (lv' := [(12, .int (x11_26 + 1)), (0, .ref (ad 0)), (1, .int a1), (2, .int a2), (10, .int x10_25), (11, .int x11_26)]) dX2_makes_247 (Nat.le_of_ble_eq_true rfl) rfl ?_
            refine eb_jp1_e (J := fun (x10_28 : Int32) => eb_G l Γ P X cX2_makes RX2 14 (some .int) rmX2_makes 297 [(0, .ref (ad 0)), (1, .int a1), (2, .int a2), (10, .int x10_28), (11, .int x11_26)] [] (ms_st Γ ad ix σ) 0 0) h ?_ ?_
            · intro x10_28 h
              refine eg_iinc (j := 4) (lv' := [(11, .int (x11_26 + 1)), (0, .ref (ad 0)), (1, .int a1), (2, .int a2), (10, .int x10_28)]) dX2_makes_297 rfl (by rw [kc_1]) (Nat.le_of_ble_eq_true rfl) rfl ?_
              refine eg_goto dX2_makes_300 ?_
              exact eg_sub [1, 2, 3, 4, 0] rfl (hr27 x10_28 (x11_26 + 1) h)
            · intro k29 hk29 h
              refine eg_sub [1, 2, 3, 4, 5, 0] rfl ?_
              refine eb_loop2_e (J := fun (x10_30 : Int32) (x12_31 : Int32) => eb_G l Γ P X cX2_makes RX2 14 (some .int) rmX2_makes 249 [(0, .ref (ad 0)), (1, .int a1), (2, .int a2), (10, .int x10_30), (11, .int x11_26), (12, .int x12_31)] [] (ms_st Γ ad ix σ) 0 0) h ?_
              intro r32 hr32 x10_30 x12_31 h
              refine eg_iload 5 dX2_makes_249 rfl ?_
              refine eg_iconst dX2_makes_251 kc_4 ?_
              refine eg_icmp_ge dX2_makes_252 (fun c40 => ?_) (fun c40 => ?_)
              · replace h := h.1 c40
                exact eg_sub [0, 1, 2, 3, 4] rfl (hk29 x10_30 h)
              · replace h := h.2 c40
                refine eg_iload_n 2 dX2_makes_255 rfl rfl ?_
                refine eg_iload 4 dX2_makes_256 rfl ?_
                refine eg_ishr dX2_makes_258 ?_
                refine eg_iconst dX2_makes_259 kc_1 ?_
                refine eg_iand dX2_makes_260 ?_
                refine eg_iconst dX2_makes_261 kc_1 ?_
                refine eb_jp1_e (J := fun (s33 : Int32) => eb_G l Γ P X cX2_makes RX2 14 (some .int) rmX2_makes 289 [(0, .ref (ad 0)), (1, .int a1), (2, .int a2), (11, .int x11_26), (12, .int x12_31)] [.int s33] (ms_st Γ ad ix σ) 0 0) h ?_ ?_
                · intro s33 h
                  refine eg_istore (lv' := [(10, .int s33), (0, .ref (ad 0)), (1, .int a1), (2, .int a2), (11, .int x11_26), (12, .int x12_31)]) dX2_makes_289 (Nat.le_of_ble_eq_true rfl) rfl ?_
                  refine eg_iinc (j := 5) (lv' := [(12, .int (x12_31 + 1)), (10, .int s33), (0, .ref (ad 0)), (1, .int a1), (2, .int a2), (11, .int x11_26)]) dX2_makes_291 rfl (by rw [kc_1]) (Nat.le_of_ble_eq_true rfl) rfl ?_
                  refine eg_goto dX2_makes_294 ?_
                  exact eg_sub [2, 3, 4, 1, 5, 0] rfl (hr32 s33 (x12_31 + 1) h)
                · intro k34 hk34 h
                  refine eb_jp0_e (J := eb_G l Γ P X cX2_makes RX2 14 (some .int) rmX2_makes 287 [(0, .ref (ad 0)), (1, .int a1), (2, .int a2), (10, .int x10_30), (11, .int x11_26), (12, .int x12_31)] [] (ms_st Γ ad ix σ) 0 0) h ?_ ?_
                  · intro  h
                    refine eg_iload 3 dX2_makes_287 rfl ?_
                    exact eg_sub [0, 1, 2, 4, 5] rfl (hk34 x10_30 h)
                  · intro k35 hk35 h
                    refine eg_icmp_ne dX2_makes_262 (fun c39 => ?_) (fun c39 => ?_)
                    · replace h := h.2 c39
                      exact hk35 h
                    · replace h := h.1 c39
                      refine eg_iload_n 2 dX2_makes_265 rfl rfl ?_
                      refine eg_iload 5 dX2_makes_266 rfl ?_
                      refine eg_ishr dX2_makes_268 ?_
                      refine eg_iconst dX2_makes_269 kc_1 ?_
                      refine eg_iand dX2_makes_270 ?_
                      refine eg_iconst dX2_makes_271 kc_1 ?_
                      refine eg_icmp_ne dX2_makes_272 (fun c38 => ?_) (fun c38 => ?_)
                      · replace h := h.2 c38
                        exact hk35 h
                      · replace h := h.1 c38
                        refine eg_aload_n 0 dX2_makes_275 rfl rfl ?_
                        refine eg_iload_n 1 dX2_makes_276 rfl rfl ?_
                        refine eg_iload 4 dX2_makes_277 rfl ?_
                        refine eg_iload 5 dX2_makes_279 rfl ?_
                        refine em_cvp (rest := []) (ctX2_angleOf hi h) hi (lw_V q1266 q1268 qs37 q77 q1269) rfl nX2_angleOf ⟨Nat.le_of_ble_eq_true rfl, Nat.le_of_ble_eq_true rfl⟩ ⟨rfl, rfl⟩ ⟨Nat.zero_le _, Nat.zero_le _⟩ rfl rfl (Nat.le_of_ble_eq_true rfl) dX2_makes_281 (fun v36 h => ?_)
                        refine eg_goto dX2_makes_284 ?_
                        exact eg_sub [0, 1, 2, 4, 5] rfl (hk34 v36 h)
    · replace h := h.1 c43
      refine eg_iconst dX2_makes_224 kc_2 ?_
      exact eg_iret dX2_makes_225 (Nat.zero_le _) (Nat.zero_le _) (hP _ _ ⟨_, rfl, rfl, h⟩)
  · intro k44 hk44 h
    refine eg_sub [8, 9, 10, 7, 6, 5, 4, 3, 2, 1, 0] rfl ?_
    refine eb_loop7_e (J := fun (x4_45 : Int32) (x5_46 : Int32) (x6_47 : Int32) (x7_48 : Int32) (x8_49 : Int32) (x9_50 : Int32) (x10_51 : Int32) => eb_G l Γ P X cX2_makes RX2 14 (some .int) rmX2_makes 26 [(0, .ref (ad 0)), (1, .int a1), (2, .int a2), (3, .int v1), (4, .int x4_45), (5, .int x5_46), (6, .int x6_47), (7, .int x7_48), (8, .int x8_49), (9, .int x9_50), (10, .int x10_51)] [] (ms_st Γ ad ix σ) 0 0) h ?_
    intro r52 hr52 x4_45 x5_46 x6_47 x7_48 x8_49 x9_50 x10_51 h
    refine eg_iload 10 dX2_makes_26 rfl ?_
    refine eg_iconst dX2_makes_28 kc_4 ?_
    refine eg_icmp_ge dX2_makes_29 (fun c102 => ?_) (fun c102 => ?_)
    · replace h := h.1 c102
      exact eg_sub [0, 1, 2, 3, 4, 5, 6, 7, 8, 9] rfl (hk44 x4_45 x5_46 x6_47 x7_48 x8_49 x9_50 h)
    · replace h := h.2 c102
      refine eg_iload_n 2 dX2_makes_32 rfl rfl ?_
      refine eg_iload 10 dX2_makes_33 rfl ?_
      refine eg_ishr dX2_makes_35 ?_
      refine eg_iconst dX2_makes_36 kc_1 ?_
      refine eg_iand dX2_makes_37 ?_
      refine eg_iconst dX2_makes_38 kc_1 ?_
      refine eb_jp6_e (J := fun (x4_53 : Int32) (x5_54 : Int32) (x6_55 : Int32) (x7_56 : Int32) (x8_57 : Int32) (x9_58 : Int32) => eb_G l Γ P X cX2_makes RX2 14 (some .int) rmX2_makes 213 [(0, .ref (ad 0)), (1, .int a1), (2, .int a2), (3, .int v1), (4, .int x4_53), (5, .int x5_54), (6, .int x6_55), (7, .int x7_56), (8, .int x8_57), (9, .int x9_58), (10, .int x10_51)] [] (ms_st Γ ad ix σ) 0 0) h ?_ ?_
      · intro x4_53 x5_54 x6_55 x7_56 x8_57 x9_58 h
        refine eg_iinc (j := 10) (lv' := [(10, .int (x10_51 + 1)), (0, .ref (ad 0)), (1, .int a1), (2, .int a2), (3, .int v1), (4, .int x4_53), (5, .int x5_54), (6, .int x6_55), (7, .int x7_56), (8, .int x8_57), (9, .int x9_58)]) dX2_makes_213 rfl (by rw [kc_1]) (Nat.le_of_ble_eq_true rfl) rfl ?_
        refine eg_goto dX2_makes_216 ?_
        exact eg_sub [1, 2, 3, 4, 5, 6, 7, 8, 9, 10, 0] rfl (hr52 x4_53 x5_54 x6_55 x7_56 x8_57 x9_58 (x10_51 + 1) h)
      · intro k59 hk59 h
        refine eg_icmp_ne dX2_makes_39 (fun c101 => ?_) (fun c101 => ?_)
        · replace h := h.2 c101
          exact hk59 x4_45 x5_46 x6_47 x7_48 x8_49 x9_50 h
        · replace h := h.1 c101
          refine eg_aload_n 0 dX2_makes_42 rfl rfl ?_
          refine eg_iload_n 1 dX2_makes_43 rfl rfl ?_
          refine eg_iload 10 dX2_makes_44 rfl ?_
          refine em_cvp (rest := []) (ctX2_joinedTo hi h) hi (lw_V q1282 q1284 qs38 q77 q1285) rfl nX2_joinedTo ⟨Nat.le_of_ble_eq_true rfl, Nat.le_of_ble_eq_true rfl⟩ ⟨rfl, rfl⟩ ⟨Nat.zero_le _, Nat.zero_le _⟩ rfl rfl (Nat.le_of_ble_eq_true rfl) dX2_makes_46 (fun v60 h => ?_)
          refine eg_csp (rest := []) (ctX2_bits h) (lw_S q1306 q1307 q77 q1308) nX2_bits ⟨Nat.le_of_ble_eq_true rfl, Nat.le_of_ble_eq_true rfl⟩ ⟨rfl, rfl⟩ ⟨Nat.zero_le _, Nat.zero_le _⟩ rfl rfl (Nat.le_of_ble_eq_true rfl) dX2_makes_49 (fun v62 h => ?_)
          refine eg_istore (lv' := [(11, .int v62), (0, .ref (ad 0)), (1, .int a1), (2, .int a2), (3, .int v1), (4, .int x4_45), (5, .int x5_46), (6, .int x6_47), (7, .int x7_48), (8, .int x8_49), (9, .int x9_50), (10, .int x10_51)]) dX2_makes_52 (Nat.le_of_ble_eq_true rfl) rfl ?_
          refine eg_iload 0 dX2_makes_54 rfl ?_
          refine eg_iload 9 dX2_makes_56 rfl ?_
          refine eb_jp1_e (J := fun (s64 : Int32) => eb_G l Γ P X cX2_makes RX2 14 (some .int) rmX2_makes 68 [(0, .ref (ad 0)), (1, .int a1), (2, .int a2), (3, .int v1), (4, .int x4_45), (5, .int x5_46), (6, .int x6_47), (7, .int x7_48), (9, .int x9_50), (10, .int x10_51), (11, .int v62)] [.int s64] (ms_st Γ ad ix σ) 0 0) h ?_ ?_
          · intro s64 h
            refine eg_istore (lv' := [(8, .int s64), (0, .ref (ad 0)), (1, .int a1), (2, .int a2), (3, .int v1), (4, .int x4_45), (5, .int x5_46), (6, .int x6_47), (7, .int x7_48), (9, .int x9_50), (10, .int x10_51), (11, .int v62)]) dX2_makes_68 (Nat.le_of_ble_eq_true rfl) rfl ?_
            refine eg_iload 10 dX2_makes_70 rfl ?_
            refine eg_iconst dX2_makes_72 kc_1 ?_
            refine eg_iadd dX2_makes_73 ?_
            refine eg_istore (lv' := [(12, .int (x10_51 + 1)), (8, .int s64), (0, .ref (ad 0)), (1, .int a1), (2, .int a2), (3, .int v1), (4, .int x4_45), (5, .int x5_46), (6, .int x6_47), (7, .int x7_48), (9, .int x9_50), (10, .int x10_51), (11, .int v62)]) dX2_makes_74 (Nat.le_of_ble_eq_true rfl) rfl ?_
            refine eg_sub [2, 3, 4, 5, 6, 7, 8, 9, 1, 10, 11, 12, 0] rfl ?_
            refine eb_loop6_e (J := fun (x4_65 : Int32) (x5_66 : Int32) (x6_67 : Int32) (x7_68 : Int32) (x9_69 : Int32) (x12_70 : Int32) => eb_G l Γ P X cX2_makes RX2 14 (some .int) rmX2_makes 76 [(0, .ref (ad 0)), (1, .int a1), (2, .int a2), (3, .int v1), (4, .int x4_65), (5, .int x5_66), (6, .int x6_67), (7, .int x7_68), (8, .int s64), (9, .int x9_69), (10, .int x10_51), (11, .int v62), (12, .int x12_70)] [] (ms_st Γ ad ix σ) 0 0) h ?_
            intro r71 hr71 x4_65 x5_66 x6_67 x7_68 x9_69 x12_70 h
            refine eg_iload 12 dX2_makes_76 rfl ?_
            refine eg_iconst dX2_makes_78 kc_4 ?_
            refine eg_icmp_ge dX2_makes_79 (fun c98 => ?_) (fun c98 => ?_)
            · replace h := h.1 c98
              exact eg_sub [0, 1, 2, 3, 4, 5, 6, 7, 8, 9, 10] rfl (hk59 x4_65 x5_66 x6_67 x7_68 s64 x9_69 h)
            · replace h := h.2 c98
              refine eg_iload_n 2 dX2_makes_82 rfl rfl ?_
              refine eg_iload 12 dX2_makes_83 rfl ?_
              refine eg_ishr dX2_makes_85 ?_
              refine eg_iconst dX2_makes_86 kc_1 ?_
              refine eg_iand dX2_makes_87 ?_
              refine eg_iconst dX2_makes_88 kc_1 ?_
              refine eb_jp1_e (J := fun (s72 : Int32) => eb_G l Γ P X cX2_makes RX2 14 (some .int) rmX2_makes 105 [(0, .ref (ad 0)), (1, .int a1), (2, .int a2), (3, .int v1), (4, .int x4_65), (5, .int x5_66), (6, .int x6_67), (7, .int x7_68), (8, .int s64), (9, .int x9_69), (10, .int x10_51), (11, .int v62), (12, .int x12_70)] [.int s72] (ms_st Γ ad ix σ) 0 0) h ?_ ?_
              · intro s72 h
                refine eg_istore (lv' := [(13, .int s72), (0, .ref (ad 0)), (1, .int a1), (2, .int a2), (3, .int v1), (4, .int x4_65), (5, .int x5_66), (6, .int x6_67), (7, .int x7_68), (8, .int s64), (9, .int x9_69), (10, .int x10_51), (11, .int v62), (12, .int x12_70)]) dX2_makes_105 (Nat.le_of_ble_eq_true rfl) rfl ?_
                refine eg_iload 5 dX2_makes_107 rfl ?_
                refine eg_iload 0 dX2_makes_109 rfl ?_
                refine eg_iconst dX2_makes_111 kc_2 ?_
                refine eb_jp1_e (J := fun (s73 : Int32) => eb_G l Γ P X cX2_makes RX2 14 (some .int) rmX2_makes 120 [(0, .ref (ad 0)), (1, .int a1), (2, .int a2), (3, .int v1), (5, .int x5_66), (6, .int x6_67), (7, .int x7_68), (8, .int s64), (9, .int x9_69), (10, .int x10_51), (11, .int v62), (12, .int x12_70), (13, .int s72)] [.int s73, .int x4_65] (ms_st Γ ad ix σ) 0 0) h ?_ ?_
                · intro s73 h
                  refine eg_iadd dX2_makes_120 ?_
                  refine eg_istore (lv' := [(4, .int (x4_65 + s73)), (0, .ref (ad 0)), (1, .int a1), (2, .int a2), (3, .int v1), (5, .int x5_66), (6, .int x6_67), (7, .int x7_68), (8, .int s64), (9, .int x9_69), (10, .int x10_51), (11, .int v62), (12, .int x12_70), (13, .int s72)]) dX2_makes_121 (Nat.le_of_ble_eq_true rfl) rfl ?_
                  refine eg_iload 5 dX2_makes_123 rfl ?_
                  refine eg_iload 13 dX2_makes_125 rfl ?_
                  refine eg_iconst dX2_makes_127 kc_3 ?_
                  refine eb_jp1_e (J := fun (s74 : Int32) => eb_G l Γ P X cX2_makes RX2 14 (some .int) rmX2_makes 136 [(0, .ref (ad 0)), (1, .int a1), (2, .int a2), (3, .int v1), (4, .int (x4_65 + s73)), (6, .int x6_67), (7, .int x7_68), (8, .int s64), (9, .int x9_69), (10, .int x10_51), (11, .int v62), (12, .int x12_70), (13, .int s72)] [.int s74, .int x5_66] (ms_st Γ ad ix σ) 0 0) h ?_ ?_
                  · intro s74 h
                    refine eg_iadd dX2_makes_136 ?_
                    refine eg_istore (lv' := [(5, .int (x5_66 + s74)), (0, .ref (ad 0)), (1, .int a1), (2, .int a2), (3, .int v1), (4, .int (x4_65 + s73)), (6, .int x6_67), (7, .int x7_68), (8, .int s64), (9, .int x9_69), (10, .int x10_51), (11, .int v62), (12, .int x12_70), (13, .int s72)]) dX2_makes_137 (Nat.le_of_ble_eq_true rfl) rfl ?_
                    refine eg_iload 6 dX2_makes_139 rfl ?_
                    refine eg_iload 13 dX2_makes_141 rfl ?_
                    refine eg_iconst dX2_makes_143 kc_4 ?_
                    refine eb_jp1_e (J := fun (s75 : Int32) => eb_G l Γ P X cX2_makes RX2 14 (some .int) rmX2_makes 152 [(0, .ref (ad 0)), (1, .int a1), (2, .int a2), (3, .int v1), (4, .int (x4_65 + s73)), (5, .int (x5_66 + s74)), (7, .int x7_68), (8, .int s64), (9, .int x9_69), (10, .int x10_51), (11, .int v62), (12, .int x12_70), (13, .int s72)] [.int s75, .int x6_67] (ms_st Γ ad ix σ) 0 0) h ?_ ?_
                    · intro s75 h
                      refine eg_iadd dX2_makes_152 ?_
                      refine eg_istore (lv' := [(6, .int (x6_67 + s75)), (0, .ref (ad 0)), (1, .int a1), (2, .int a2), (3, .int v1), (4, .int (x4_65 + s73)), (5, .int (x5_66 + s74)), (7, .int x7_68), (8, .int s64), (9, .int x9_69), (10, .int x10_51), (11, .int v62), (12, .int x12_70), (13, .int s72)]) dX2_makes_153 (Nat.le_of_ble_eq_true rfl) rfl ?_
                      refine eg_iload 7 dX2_makes_155 rfl ?_
                      refine eg_iload 13 dX2_makes_157 rfl ?_
                      refine eg_iconst dX2_makes_159 kc_5 ?_
                      refine eb_jp1_e (J := fun (s76 : Int32) => eb_G l Γ P X cX2_makes RX2 14 (some .int) rmX2_makes 168 [(0, .ref (ad 0)), (1, .int a1), (2, .int a2), (3, .int v1), (4, .int (x4_65 + s73)), (5, .int (x5_66 + s74)), (6, .int (x6_67 + s75)), (8, .int s64), (9, .int x9_69), (10, .int x10_51), (11, .int v62), (12, .int x12_70), (13, .int s72)] [.int s76, .int x7_68] (ms_st Γ ad ix σ) 0 0) h ?_ ?_
                      · intro s76 h
                        refine eg_iadd dX2_makes_168 ?_
                        refine eg_istore (lv' := [(7, .int (x7_68 + s76)), (0, .ref (ad 0)), (1, .int a1), (2, .int a2), (3, .int v1), (4, .int (x4_65 + s73)), (5, .int (x5_66 + s74)), (6, .int (x6_67 + s75)), (8, .int s64), (9, .int x9_69), (10, .int x10_51), (11, .int v62), (12, .int x12_70), (13, .int s72)]) dX2_makes_169 (Nat.le_of_ble_eq_true rfl) rfl ?_
                        refine eg_iload 9 dX2_makes_171 rfl ?_
                        refine eg_iload 13 dX2_makes_173 rfl ?_
                        refine eg_iconst dX2_makes_175 kc_4 ?_
                        refine eb_jp1_e (J := fun (s77 : Int32) => eb_G l Γ P X cX2_makes RX2 14 (some .int) rmX2_makes 204 [(0, .ref (ad 0)), (1, .int a1), (2, .int a2), (3, .int v1), (4, .int (x4_65 + s73)), (5, .int (x5_66 + s74)), (6, .int (x6_67 + s75)), (7, .int (x7_68 + s76)), (8, .int s64), (10, .int x10_51), (11, .int v62), (12, .int x12_70)] [.int s77, .int x9_69] (ms_st Γ ad ix σ) 0 0) h ?_ ?_
                        · intro s77 h
                          refine eg_iadd dX2_makes_204 ?_
                          refine eg_istore (lv' := [(9, .int (x9_69 + s77)), (0, .ref (ad 0)), (1, .int a1), (2, .int a2), (3, .int v1), (4, .int (x4_65 + s73)), (5, .int (x5_66 + s74)), (6, .int (x6_67 + s75)), (7, .int (x7_68 + s76)), (8, .int s64), (10, .int x10_51), (11, .int v62), (12, .int x12_70)]) dX2_makes_205 (Nat.le_of_ble_eq_true rfl) rfl ?_
                          refine eg_iinc (j := 12) (lv' := [(12, .int (x12_70 + 1)), (9, .int (x9_69 + s77)), (0, .ref (ad 0)), (1, .int a1), (2, .int a2), (3, .int v1), (4, .int (x4_65 + s73)), (5, .int (x5_66 + s74)), (6, .int (x6_67 + s75)), (7, .int (x7_68 + s76)), (8, .int s64), (10, .int x10_51), (11, .int v62)]) dX2_makes_207 rfl (by rw [kc_1]) (Nat.le_of_ble_eq_true rfl) rfl ?_
                          refine eg_goto dX2_makes_210 ?_
                          exact eg_sub [2, 3, 4, 5, 6, 7, 8, 9, 10, 1, 11, 12, 0] rfl (hr71 (x4_65 + s73) (x5_66 + s74) (x6_67 + s75) (x7_68 + s76) (x9_69 + s77) (x12_70 + 1) h)
                        · intro k78 hk78 h
                          refine eg_icmp_ne dX2_makes_176 (fun c85 => ?_) (fun c85 => ?_)
                          · replace h := h.2 c85
                            refine eg_iconst dX2_makes_203 kc_0 ?_
                            exact eg_sub [1, 2, 3, 4, 5, 6, 7, 0, 8, 10, 11, 12] rfl (hk78 0 h)
                          · replace h := h.1 c85
                            refine eg_iload 11 dX2_makes_179 rfl ?_
                            refine eg_iconst dX2_makes_181 kc_1 ?_
                            refine eg_icmp_eq dX2_makes_182 (fun c84 => ?_) (fun c84 => ?_)
                            · replace h := h.1 c84
                              refine eg_iconst dX2_makes_199 kc_1 ?_
                              refine eg_goto dX2_makes_200 ?_
                              exact eg_sub [1, 2, 3, 4, 5, 6, 7, 0, 8, 10, 11, 12] rfl (hk78 1 h)
                            · replace h := h.2 c84
                              refine eg_aload_n 1 dX2_makes_185 rfl rfl ?_
                              refine eg_iload_n 2 dX2_makes_186 rfl rfl ?_
                              refine eg_iload 12 dX2_makes_187 rfl ?_
                              refine em_cvp (rest := [.int x9_69]) (ctX2_joinedTo hi h) hi (lw_V q1282 q1284 qs38 q77 q1285) rfl nX2_joinedTo ⟨Nat.le_of_ble_eq_true rfl, Nat.le_of_ble_eq_true rfl⟩ ⟨rfl, rfl⟩ ⟨Nat.zero_le _, Nat.zero_le _⟩ rfl rfl (Nat.le_of_ble_eq_true rfl) dX2_makes_189 (fun v79 h => ?_)
                              refine eg_csp (rest := [.int x9_69]) (ctX2_bits h) (lw_S q1306 q1307 q77 q1308) nX2_bits ⟨Nat.le_of_ble_eq_true rfl, Nat.le_of_ble_eq_true rfl⟩ ⟨rfl, rfl⟩ ⟨Nat.zero_le _, Nat.zero_le _⟩ rfl rfl (Nat.le_of_ble_eq_true rfl) dX2_makes_192 (fun v81 h => ?_)
                              refine eg_iconst dX2_makes_195 kc_1 ?_
                              refine eg_icmp_ne dX2_makes_196 (fun c83 => ?_) (fun c83 => ?_)
                              · replace h := h.2 c83
                                refine eg_iconst dX2_makes_203 kc_0 ?_
                                exact eg_sub [1, 2, 3, 4, 5, 6, 7, 0, 8, 10, 11, 12] rfl (hk78 0 h)
                              · replace h := h.1 c83
                                refine eg_iconst dX2_makes_199 kc_1 ?_
                                refine eg_goto dX2_makes_200 ?_
                                exact eg_sub [1, 2, 3, 4, 5, 6, 7, 0, 8, 10, 11, 12] rfl (hk78 1 h)
                      · intro k86 hk86 h
                        refine eg_icmp_ne dX2_makes_160 (fun c87 => ?_) (fun c87 => ?_)
                        · replace h := h.2 c87
                          refine eg_iconst dX2_makes_167 kc_0 ?_
                          exact eg_sub [1, 2, 3, 4, 5, 6, 0, 8, 9, 10, 11, 12, 13] rfl (hk86 0 h)
                        · replace h := h.1 c87
                          refine eg_iconst dX2_makes_163 kc_1 ?_
                          refine eg_goto dX2_makes_164 ?_
                          exact eg_sub [1, 2, 3, 4, 5, 6, 0, 8, 9, 10, 11, 12, 13] rfl (hk86 1 h)
                    · intro k88 hk88 h
                      refine eg_icmp_ne dX2_makes_144 (fun c89 => ?_) (fun c89 => ?_)
                      · replace h := h.2 c89
                        refine eg_iconst dX2_makes_151 kc_0 ?_
                        exact eg_sub [1, 2, 3, 4, 5, 0, 7, 8, 9, 10, 11, 12, 13] rfl (hk88 0 h)
                      · replace h := h.1 c89
                        refine eg_iconst dX2_makes_147 kc_1 ?_
                        refine eg_goto dX2_makes_148 ?_
                        exact eg_sub [1, 2, 3, 4, 5, 0, 7, 8, 9, 10, 11, 12, 13] rfl (hk88 1 h)
                  · intro k90 hk90 h
                    refine eg_icmp_ne dX2_makes_128 (fun c91 => ?_) (fun c91 => ?_)
                    · replace h := h.2 c91
                      refine eg_iconst dX2_makes_135 kc_0 ?_
                      exact eg_sub [1, 2, 3, 4, 0, 6, 7, 8, 9, 10, 11, 12, 13] rfl (hk90 0 h)
                    · replace h := h.1 c91
                      refine eg_iconst dX2_makes_131 kc_1 ?_
                      refine eg_goto dX2_makes_132 ?_
                      exact eg_sub [1, 2, 3, 4, 0, 6, 7, 8, 9, 10, 11, 12, 13] rfl (hk90 1 h)
                · intro k92 hk92 h
                  refine eg_icmp_le dX2_makes_112 (fun c93 => ?_) (fun c93 => ?_)
                  · replace h := h.1 c93
                    refine eg_iconst dX2_makes_119 kc_0 ?_
                    exact eg_sub [1, 2, 3, 4, 6, 7, 8, 9, 10, 11, 12, 13, 0] rfl (hk92 0 h)
                  · replace h := h.2 c93
                    refine eg_iconst dX2_makes_115 kc_1 ?_
                    refine eg_goto dX2_makes_116 ?_
                    exact eg_sub [1, 2, 3, 4, 6, 7, 8, 9, 10, 11, 12, 13, 0] rfl (hk92 1 h)
              · intro k94 hk94 h
                refine eg_icmp_ne dX2_makes_89 (fun c97 => ?_) (fun c97 => ?_)
                · replace h := h.2 c97
                  refine eg_iconst dX2_makes_104 kc_2 ?_
                  exact hk94 2 h
                · replace h := h.1 c97
                  refine eg_aload_n 0 dX2_makes_92 rfl rfl ?_
                  refine eg_iload_n 1 dX2_makes_93 rfl rfl ?_
                  refine eg_iload 10 dX2_makes_94 rfl ?_
                  refine eg_iload 12 dX2_makes_96 rfl ?_
                  refine em_cvp (rest := []) (ctX2_angleOf hi h) hi (lw_V q1266 q1268 qs37 q77 q1269) rfl nX2_angleOf ⟨Nat.le_of_ble_eq_true rfl, Nat.le_of_ble_eq_true rfl⟩ ⟨rfl, rfl⟩ ⟨Nat.zero_le _, Nat.zero_le _⟩ rfl rfl (Nat.le_of_ble_eq_true rfl) dX2_makes_98 (fun v95 h => ?_)
                  refine eg_goto dX2_makes_101 ?_
                  exact hk94 v95 h
          · intro k99 hk99 h
            refine eg_icmp_le dX2_makes_58 (fun c100 => ?_) (fun c100 => ?_)
            · replace h := h.1 c100
              refine eg_iload 9 dX2_makes_66 rfl ?_
              exact eg_sub [1, 2, 3, 4, 5, 6, 7, 8, 10, 11, 0] rfl (hk99 x8_49 h)
            · replace h := h.2 c100
              refine eg_iload 0 dX2_makes_61 rfl ?_
              refine eg_goto dX2_makes_63 ?_
              exact eg_sub [1, 2, 3, 4, 5, 6, 7, 8, 10, 11, 0] rfl (hk99 v62 h)
