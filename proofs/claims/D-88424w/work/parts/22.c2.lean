set_option maxRecDepth 100000
set_option maxHeartbeats 4000000
def MX8_letter (Γ : eb_C) (st : eb_S) (a0 : Nat) (a1 : Int32) (a2 : Int32) (K : Int32 → Prop) : Prop :=
  eb_gr st a0 7 5 (fun v1 => eb_nn v1 (fun p2 => eb_li Γ st p2 4 a1 (fun v3 => eb_jp1 (fun (x3_4 : Int32) => eb_gr st a0 7 4 (fun v5 => eb_nn v5 (fun p6 => eb_li Γ st p6 4 x3_4 (fun v7 => K v7)))) (fun k8 => eb_loop2 (fun r11 (x3_9 : Int32) (x4_10 : Int32) => eb_br (x4_10 ≤ a2) (k8 x3_9) (eb_gr st a0 7 3 (fun v12 => eb_nn v12 (fun p13 => eb_li Γ st p13 3 x3_9 (fun v14 => r11 v14 ((x4_10 + (-1)))))))) a1 (v3 - 1)))))
abbrev rmX8_letter : Room := { frames := 1, cells := 0, slots := 0, locals := 12 }
theorem nX8_letter : eb_ar yX8_letter 2 := by decide +kernel
theorem dX8_letter_0 : eb_dc cX8_letter 0 (.iload_n 1) 1 1 := by decide +kernel
theorem dX8_letter_1 : eb_dc cX8_letter 1 (.istore_n 3) 1 2 := by decide +kernel
theorem dX8_letter_2 : eb_dc cX8_letter 2 (.aload_n 0) 1 3 := by decide +kernel
theorem dX8_letter_3 : eb_dc cX8_letter 3 (.getfield 19) 3 6 := by decide +kernel
theorem dX8_letter_6 : eb_dc cX8_letter 6 (.iload_n 1) 1 7 := by decide +kernel
theorem dX8_letter_7 : eb_dc cX8_letter 7 (.baload) 1 8 := by decide +kernel
theorem dX8_letter_8 : eb_dc cX8_letter 8 (.iconst 1) 1 9 := by decide +kernel
theorem dX8_letter_9 : eb_dc cX8_letter 9 (.isub) 1 10 := by decide +kernel
theorem dX8_letter_10 : eb_dc cX8_letter 10 (.istore 4) 2 12 := by decide +kernel
theorem dX8_letter_12 : eb_dc cX8_letter 12 (.iload 4) 2 14 := by decide +kernel
theorem dX8_letter_14 : eb_dc cX8_letter 14 (.iload_n 2) 1 15 := by decide +kernel
theorem dX8_letter_15 : eb_dj cX8_letter 15 (.if_icmp .le 16) 16 18 31 := by decide +kernel
theorem dX8_letter_18 : eb_dc cX8_letter 18 (.aload_n 0) 1 19 := by decide +kernel
theorem dX8_letter_19 : eb_dc cX8_letter 19 (.getfield 9) 3 22 := by decide +kernel
theorem dX8_letter_22 : eb_dc cX8_letter 22 (.iload_n 3) 1 23 := by decide +kernel
theorem dX8_letter_23 : eb_dc cX8_letter 23 (.saload) 1 24 := by decide +kernel
theorem dX8_letter_24 : eb_dc cX8_letter 24 (.istore_n 3) 1 25 := by decide +kernel
theorem dX8_letter_25 : eb_dc cX8_letter 25 (.iinc 4 (-1)) 3 28 := by decide +kernel
theorem dX8_letter_28 : eb_dj cX8_letter 28 (.goto (-16)) (-16) 31 12 := by decide +kernel
theorem dX8_letter_31 : eb_dc cX8_letter 31 (.aload_n 0) 1 32 := by decide +kernel
theorem dX8_letter_32 : eb_dc cX8_letter 32 (.getfield 15) 3 35 := by decide +kernel
theorem dX8_letter_35 : eb_dc cX8_letter 35 (.iload_n 3) 1 36 := by decide +kernel
theorem dX8_letter_36 : eb_dc cX8_letter 36 (.baload) 1 37 := by decide +kernel
theorem dX8_letter_37 : eb_dc cX8_letter 37 (.ireturn) 1 38 := by decide +kernel
theorem ctX8_letter {l : Launch} {Γ : eb_C} {st : eb_S} {a0 : Nat} {a1 : Int32} {a2 : Int32} {K : Int32 → Prop} (h : MX8_letter Γ st a0 a1 a2 K) : eb_Ct l Γ yX8_letter cX8_letter 5 (some .int) rmX8_letter [.ref a0, .int a1, .int a2] st (eb_pI st K) := by
  refine eb_of (by decide) (Nat.le_of_ble_eq_true rfl) (fun X P hP hX0 => ?_)
  show eb_G l Γ P X cX8_letter RX8 5 (some .int) rmX8_letter 0 [(0, .ref a0), (1, .int a1), (2, .int a2)] [] st 0 0
  refine eg_iload_n 1 dX8_letter_0 rfl rfl ?_
  refine eg_istore_n (lv' := [(3, .int a1), (0, .ref a0), (1, .int a1), (2, .int a2)]) dX8_letter_1 rfl (Nat.le_of_ble_eq_true rfl) rfl ?_
  refine eg_aload_n 1 dX8_letter_2 rfl rfl ?_
  obtain ⟨fs, v1, he, hv, h⟩ := h
  refine eg_get 5 in_X8 he rfl (Nat.le_of_ble_eq_true rfl) q400 rfl hv dX8_letter_3 ?_
  refine eg_iload_n 2 dX8_letter_6 rfl rfl ?_
  obtain ⟨p2, rfl, h⟩ := h
  obtain ⟨nA, fA, he, hb, h⟩ := h
  refine eh_bald he hb dX8_letter_7 (fun v3 ev3 => ?_)
  replace h := h v3 ev3
  refine eg_iconst dX8_letter_8 kc_1 ?_
  refine eg_isub dX8_letter_9 ?_
  refine eg_istore (lv' := [(4, .int (v3 - 1)), (3, .int a1), (0, .ref a0), (1, .int a1), (2, .int a2)]) dX8_letter_10 (Nat.le_of_ble_eq_true rfl) rfl ?_
  refine eb_jp1_e (J := fun (x3_4 : Int32) => eb_G l Γ P X cX8_letter RX8 5 (some .int) rmX8_letter 31 [(0, .ref a0), (3, .int x3_4)] [] st 0 0) h ?_ ?_
  · clear h
    intro x3_4 h
    refine eg_aload_n 0 dX8_letter_31 rfl rfl ?_
    obtain ⟨fs, v5, he, hv, h⟩ := h
    refine eg_get 4 in_X8 he rfl (Nat.le_of_ble_eq_true rfl) q399 rfl hv dX8_letter_32 ?_
    refine eg_iload_n 1 dX8_letter_35 rfl rfl ?_
    obtain ⟨p6, rfl, h⟩ := h
    obtain ⟨nA, fA, he, hb, h⟩ := h
    refine eh_bald he hb dX8_letter_36 (fun v7 ev7 => ?_)
    replace h := h v7 ev7
    exact eg_iret dX8_letter_37 (Nat.zero_le _) (Nat.zero_le _) (hP _ _ ⟨_, rfl, rfl, h⟩)
  · clear h
    intro k8 hk8 h
    refine eg_sub [2, 4, 1, 0] rfl ?_
    refine eb_loop2_e (J := fun (x3_9 : Int32) (x4_10 : Int32) => eb_G l Γ P X cX8_letter RX8 5 (some .int) rmX8_letter 12 [(0, .ref a0), (2, .int a2), (3, .int x3_9), (4, .int x4_10)] [] st 0 0) h ?_
    clear h
    intro r11 hr11 x3_9 x4_10 h
    refine eg_iload 3 dX8_letter_12 rfl ?_
    refine eg_iload_n 1 dX8_letter_14 rfl rfl ?_
    refine eg_icmp_le dX8_letter_15 (fun c15 => ?_) (fun c15 => ?_)
    · replace h := h.1 c15
      exact eg_sub [0, 2] rfl (hk8 x3_9 h)
    · replace h := h.2 c15
      refine eg_aload_n 0 dX8_letter_18 rfl rfl ?_
      obtain ⟨fs, v12, he, hv, h⟩ := h
      refine eg_get 3 in_X8 he rfl (Nat.le_of_ble_eq_true rfl) q398 rfl hv dX8_letter_19 ?_
      refine eg_iload_n 2 dX8_letter_22 rfl rfl ?_
      obtain ⟨p13, rfl, h⟩ := h
      obtain ⟨nA, fA, he, hb, h⟩ := h
      refine eh_sald he hb dX8_letter_23 (fun v14 ev14 => ?_)
      replace h := h v14 ev14
      refine eg_istore_n (lv' := [(3, .int v14), (0, .ref a0), (2, .int a2), (4, .int x4_10)]) dX8_letter_24 rfl (Nat.le_of_ble_eq_true rfl) rfl ?_
      refine eg_iinc (j := 3) (lv' := [(4, .int (x4_10 + (-1))), (3, .int v14), (0, .ref a0), (2, .int a2)]) dX8_letter_25 rfl (by rw [kc_m1]) (Nat.le_of_ble_eq_true rfl) rfl ?_
      refine eg_goto dX8_letter_28 ?_
      exact eg_sub [2, 3, 1, 0] rfl (hr11 v14 ((x4_10 + (-1))) h)
def MX8_by (Γ : eb_C) (st : eb_S) (a0 : Nat) (a1 : Int32) (a2 : Int32) (K : Int32 → Prop) : Prop :=
  eb_gr st a0 7 2 (fun v1 => eb_gi st a0 7 0 (fun v2 => eb_nn v1 (fun p3 => eb_li Γ st p3 3 (((v2 * a1) + a2)) (fun v4 => K v4))))
abbrev rmX8_by : Room := { frames := 1, cells := 0, slots := 0, locals := 12 }
theorem nX8_by : eb_ar yX8_by 2 := by decide +kernel
theorem dX8_by_0 : eb_dc cX8_by 0 (.aload_n 0) 1 1 := by decide +kernel
theorem dX8_by_1 : eb_dc cX8_by 1 (.getfield 29) 3 4 := by decide +kernel
theorem dX8_by_4 : eb_dc cX8_by 4 (.aload_n 0) 1 5 := by decide +kernel
theorem dX8_by_5 : eb_dc cX8_by 5 (.getfield 28) 3 8 := by decide +kernel
theorem dX8_by_8 : eb_dc cX8_by 8 (.iload_n 1) 1 9 := by decide +kernel
theorem dX8_by_9 : eb_dc cX8_by 9 (.imul) 1 10 := by decide +kernel
theorem dX8_by_10 : eb_dc cX8_by 10 (.iload_n 2) 1 11 := by decide +kernel
theorem dX8_by_11 : eb_dc cX8_by 11 (.iadd) 1 12 := by decide +kernel
theorem dX8_by_12 : eb_dc cX8_by 12 (.saload) 1 13 := by decide +kernel
theorem dX8_by_13 : eb_dc cX8_by 13 (.ireturn) 1 14 := by decide +kernel
theorem ctX8_by {l : Launch} {Γ : eb_C} {st : eb_S} {a0 : Nat} {a1 : Int32} {a2 : Int32} {K : Int32 → Prop} (h : MX8_by Γ st a0 a1 a2 K) : eb_Ct l Γ yX8_by cX8_by 3 (some .int) rmX8_by [.ref a0, .int a1, .int a2] st (eb_pI st K) := by
  refine eb_of (by decide) (Nat.le_of_ble_eq_true rfl) (fun X P hP hX0 => ?_)
  show eb_G l Γ P X cX8_by RX8 3 (some .int) rmX8_by 0 [(0, .ref a0), (1, .int a1), (2, .int a2)] [] st 0 0
  refine eg_aload_n 0 dX8_by_0 rfl rfl ?_
  obtain ⟨fs, v1, he, hv, h⟩ := h
  refine eg_get 2 in_X8 he rfl (Nat.le_of_ble_eq_true rfl) q397 rfl hv dX8_by_1 ?_
  refine eg_aload_n 0 dX8_by_4 rfl rfl ?_
  obtain ⟨fs, v2, he, hv, h⟩ := h
  refine eg_get 0 in_X8 he rfl (Nat.le_of_ble_eq_true rfl) q389 rfl hv dX8_by_5 ?_
  refine eg_iload_n 1 dX8_by_8 rfl rfl ?_
  refine eg_imul dX8_by_9 ?_
  refine eg_iload_n 2 dX8_by_10 rfl rfl ?_
  refine eg_iadd dX8_by_11 ?_
  obtain ⟨p3, rfl, h⟩ := h
  obtain ⟨nA, fA, he, hb, h⟩ := h
  refine eh_sald he hb dX8_by_12 (fun v4 ev4 => ?_)
  replace h := h v4 ev4
  exact eg_iret dX8_by_13 (Nat.zero_le _) (Nat.zero_le _) (hP _ _ ⟨_, rfl, rfl, h⟩)
def MX8_product (Γ : eb_C) : Nat → eb_S → Nat → Int32 → Int32 → (Int32 → Prop) → Prop
  | 0, _, _, _, _, _ => False
  | d + 1, st, a0, a1, a2, K => eb_br (a2 = 0) (K a1) (eb_gr st a0 7 3 (fun v1 => eb_nn v1 (fun p2 => eb_li Γ st p2 3 a2 (fun v3 => eb_cs st a0 [7] ∧ MX8_product Γ d st a0 a1 v3 (fun v4 => eb_gr st a0 7 4 (fun v8 => eb_nn v8 (fun p9 => eb_li Γ st p9 4 a2 (fun v10 => eb_cs st a0 [7] ∧ MX8_by Γ st a0 v4 v10 (fun v11 => K v11)))))))))
def rmX8_product (d : Nat) : Room := { frames := 2 + d, cells := 0, slots := 0, locals := 34 + 22 * d }
theorem nX8_product : eb_ar yX8_product 2 := by decide +kernel
theorem dX8_product_0 : eb_dc cX8_product 0 (.iload_n 2) 1 1 := by decide +kernel
theorem dX8_product_1 : eb_dj cX8_product 1 (.ifCond .ne 7) 7 4 8 := by decide +kernel
theorem dX8_product_4 : eb_dc cX8_product 4 (.iload_n 1) 1 5 := by decide +kernel
theorem dX8_product_5 : eb_dj cX8_product 5 (.goto 24) 24 8 29 := by decide +kernel
theorem dX8_product_8 : eb_dc cX8_product 8 (.aload_n 0) 1 9 := by decide +kernel
theorem dX8_product_9 : eb_dc cX8_product 9 (.aload_n 0) 1 10 := by decide +kernel
theorem dX8_product_10 : eb_dc cX8_product 10 (.iload_n 1) 1 11 := by decide +kernel
theorem dX8_product_11 : eb_dc cX8_product 11 (.aload_n 0) 1 12 := by decide +kernel
theorem dX8_product_12 : eb_dc cX8_product 12 (.getfield 9) 3 15 := by decide +kernel
theorem dX8_product_15 : eb_dc cX8_product 15 (.iload_n 2) 1 16 := by decide +kernel
theorem dX8_product_16 : eb_dc cX8_product 16 (.saload) 1 17 := by decide +kernel
theorem dX8_product_17 : eb_dc cX8_product 17 (.invokevirtual 44) 3 20 := by decide +kernel
theorem dX8_product_20 : eb_dc cX8_product 20 (.aload_n 0) 1 21 := by decide +kernel
theorem dX8_product_21 : eb_dc cX8_product 21 (.getfield 15) 3 24 := by decide +kernel
theorem dX8_product_24 : eb_dc cX8_product 24 (.iload_n 2) 1 25 := by decide +kernel
theorem dX8_product_25 : eb_dc cX8_product 25 (.baload) 1 26 := by decide +kernel
theorem dX8_product_26 : eb_dc cX8_product 26 (.invokevirtual 47) 3 29 := by decide +kernel
theorem dX8_product_29 : eb_dc cX8_product 29 (.ireturn) 1 30 := by decide +kernel
theorem ctX8_product {l : Launch} {Γ : eb_C} : ∀ (d : Nat) {st : eb_S} {a0 : Nat} {a1 : Int32} {a2 : Int32} {K : Int32 → Prop}, MX8_product Γ d st a0 a1 a2 K → eb_Ct l Γ yX8_product cX8_product 3 (some .int) (rmX8_product d) [.ref a0, .int a1, .int a2] st (eb_pI st K) := by
  intro d
  induction d with
  | zero => intro st a0 a1 a2 K h; exact absurd h id
  | succ d ih =>
  intro st a0 a1 a2 K h
  unfold MX8_product at h
  refine eb_of (by decide) (Nat.le_of_ble_eq_true rfl) (fun X P hP hX0 => ?_)
  show eb_G l Γ P X cX8_product RX8 3 (some .int) (rmX8_product (d + 1)) 0 [(0, .ref a0), (1, .int a1), (2, .int a2)] [] st 0 0
  refine eg_iload_n 2 dX8_product_0 rfl rfl ?_
  refine eg_if_ne dX8_product_1 (fun c15 => ?_) (fun c15 => ?_)
  · replace h := h.2 c15
    refine eg_aload_n 0 dX8_product_8 rfl rfl ?_
    refine eg_aload_n 0 dX8_product_9 rfl rfl ?_
    refine eg_iload_n 1 dX8_product_10 rfl rfl ?_
    refine eg_aload_n 0 dX8_product_11 rfl rfl ?_
    obtain ⟨fs, v1, he, hv, h⟩ := h
    refine eg_get 3 in_X8 he rfl (Nat.le_of_ble_eq_true rfl) q398 rfl hv dX8_product_12 ?_
    refine eg_iload_n 2 dX8_product_15 rfl rfl ?_
    obtain ⟨p2, rfl, h⟩ := h
    obtain ⟨nA, fA, he, hb, h⟩ := h
    refine eh_sald he hb dX8_product_16 (fun v3 ev3 => ?_)
    replace h := h v3 ev3
    obtain ⟨hcs, h⟩ := h
    have hM0 := h
    clear h
    refine ec_VIp (rest := [.ref a0]) (ih hM0) (lw_V q447 q444 q445 q84 q446) rfl rfl hcs nX8_product ⟨by simp [rmX8_product]; try omega, by simp [rmX8_product]; try omega⟩ ⟨rfl, rfl⟩ ⟨Nat.zero_le _, Nat.zero_le _⟩ rfl rfl (Nat.le_of_ble_eq_true rfl) dX8_product_17 (fun v4 h => ?_)
    clear hM0
    refine eg_aload_n 0 dX8_product_20 rfl rfl ?_
    obtain ⟨fs, v8, he, hv, h⟩ := h
    refine eg_get 4 in_X8 he rfl (Nat.le_of_ble_eq_true rfl) q399 rfl hv dX8_product_21 ?_
    refine eg_iload_n 2 dX8_product_24 rfl rfl ?_
    obtain ⟨p9, rfl, h⟩ := h
    obtain ⟨nA, fA, he, hb, h⟩ := h
    refine eh_bald he hb dX8_product_25 (fun v10 ev10 => ?_)
    replace h := h v10 ev10
    obtain ⟨hcs, h⟩ := h
    have hM0 := h
    clear h
    refine ec_VIp (rest := []) (ctX8_by hM0) (lw_V q448 q436 q437 q84 q438) rfl rfl hcs nX8_by ⟨by simp [rmX8_product, rmX8_by]; try omega, by simp [rmX8_product, rmX8_by]; try omega⟩ ⟨rfl, rfl⟩ ⟨Nat.zero_le _, Nat.zero_le _⟩ rfl rfl (Nat.le_of_ble_eq_true rfl) dX8_product_26 (fun v11 h => ?_)
    clear hM0
    exact eg_iret dX8_product_29 (Nat.zero_le _) (Nat.zero_le _) (hP _ _ ⟨_, rfl, rfl, h⟩)
  · replace h := h.1 c15
    refine eg_iload_n 1 dX8_product_4 rfl rfl ?_
    refine eg_goto dX8_product_5 ?_
    exact eg_iret dX8_product_29 (Nat.zero_le _) (Nat.zero_le _) (hP _ _ ⟨_, rfl, rfl, h⟩)
def MX8_inverse (Γ : eb_C) (st : eb_S) (a0 : Nat) (a1 : Int32) (K : Int32 → Prop) : Prop :=
  eb_loop2 (fun r3 (x2_1 : Int32) (x3_2 : Int32) => eb_br (x3_2 ≤ 0) (K x2_1) (eb_gr st a0 7 4 (fun v4 => eb_nn v4 (fun p5 => eb_li Γ st p5 4 x3_2 (fun v6 => eb_cs st a0 [7] ∧ MX8_by Γ st a0 x2_1 v6 (fun v7 => eb_gr st a0 7 3 (fun v11 => eb_nn v11 (fun p12 => eb_li Γ st p12 3 x3_2 (fun v13 => r3 v7 v13))))))))) 0 a1
abbrev rmX8_inverse : Room := { frames := 2, cells := 0, slots := 0, locals := 34 }
theorem nX8_inverse : eb_ar yX8_inverse 1 := by decide +kernel
theorem dX8_inverse_0 : eb_dc cX8_inverse 0 (.iconst 0) 1 1 := by decide +kernel
theorem dX8_inverse_1 : eb_dc cX8_inverse 1 (.istore_n 2) 1 2 := by decide +kernel
theorem dX8_inverse_2 : eb_dc cX8_inverse 2 (.iload_n 1) 1 3 := by decide +kernel
theorem dX8_inverse_3 : eb_dc cX8_inverse 3 (.istore_n 3) 1 4 := by decide +kernel
theorem dX8_inverse_4 : eb_dc cX8_inverse 4 (.iload_n 3) 1 5 := by decide +kernel
theorem dX8_inverse_5 : eb_dj cX8_inverse 5 (.ifCond .le 25) 25 8 30 := by decide +kernel
theorem dX8_inverse_8 : eb_dc cX8_inverse 8 (.aload_n 0) 1 9 := by decide +kernel
theorem dX8_inverse_9 : eb_dc cX8_inverse 9 (.iload_n 2) 1 10 := by decide +kernel
theorem dX8_inverse_10 : eb_dc cX8_inverse 10 (.aload_n 0) 1 11 := by decide +kernel
theorem dX8_inverse_11 : eb_dc cX8_inverse 11 (.getfield 15) 3 14 := by decide +kernel
theorem dX8_inverse_14 : eb_dc cX8_inverse 14 (.iload_n 3) 1 15 := by decide +kernel
theorem dX8_inverse_15 : eb_dc cX8_inverse 15 (.baload) 1 16 := by decide +kernel
theorem dX8_inverse_16 : eb_dc cX8_inverse 16 (.invokevirtual 47) 3 19 := by decide +kernel
theorem dX8_inverse_19 : eb_dc cX8_inverse 19 (.istore_n 2) 1 20 := by decide +kernel
theorem dX8_inverse_20 : eb_dc cX8_inverse 20 (.aload_n 0) 1 21 := by decide +kernel
theorem dX8_inverse_21 : eb_dc cX8_inverse 21 (.getfield 9) 3 24 := by decide +kernel
theorem dX8_inverse_24 : eb_dc cX8_inverse 24 (.iload_n 3) 1 25 := by decide +kernel
theorem dX8_inverse_25 : eb_dc cX8_inverse 25 (.saload) 1 26 := by decide +kernel
theorem dX8_inverse_26 : eb_dc cX8_inverse 26 (.istore_n 3) 1 27 := by decide +kernel
theorem dX8_inverse_27 : eb_dj cX8_inverse 27 (.goto (-23)) (-23) 30 4 := by decide +kernel
theorem dX8_inverse_30 : eb_dc cX8_inverse 30 (.iload_n 2) 1 31 := by decide +kernel
theorem dX8_inverse_31 : eb_dc cX8_inverse 31 (.ireturn) 1 32 := by decide +kernel
theorem ctX8_inverse {l : Launch} {Γ : eb_C} {st : eb_S} {a0 : Nat} {a1 : Int32} {K : Int32 → Prop} (h : MX8_inverse Γ st a0 a1 K) : eb_Ct l Γ yX8_inverse cX8_inverse 4 (some .int) rmX8_inverse [.ref a0, .int a1] st (eb_pI st K) := by
  refine eb_of (by decide) (Nat.le_of_ble_eq_true rfl) (fun X P hP hX0 => ?_)
  show eb_G l Γ P X cX8_inverse RX8 4 (some .int) rmX8_inverse 0 [(0, .ref a0), (1, .int a1)] [] st 0 0
  refine eg_iconst dX8_inverse_0 kc_0 ?_
  refine eg_istore_n (lv' := [(2, .int 0), (0, .ref a0), (1, .int a1)]) dX8_inverse_1 rfl (Nat.le_of_ble_eq_true rfl) rfl ?_
  refine eg_iload_n 2 dX8_inverse_2 rfl rfl ?_
  refine eg_istore_n (lv' := [(3, .int a1), (2, .int 0), (0, .ref a0), (1, .int a1)]) dX8_inverse_3 rfl (Nat.le_of_ble_eq_true rfl) rfl ?_
  refine eg_sub [2, 1, 0] rfl ?_
  refine eb_loop2_e (J := fun (x2_1 : Int32) (x3_2 : Int32) => eb_G l Γ P X cX8_inverse RX8 4 (some .int) rmX8_inverse 4 [(0, .ref a0), (2, .int x2_1), (3, .int x3_2)] [] st 0 0) h ?_
  clear h
  intro r3 hr3 x2_1 x3_2 h
  refine eg_iload_n 2 dX8_inverse_4 rfl rfl ?_
  refine eg_if_le dX8_inverse_5 (fun c14 => ?_) (fun c14 => ?_)
  · replace h := h.1 c14
    refine eg_iload_n 1 dX8_inverse_30 rfl rfl ?_
    exact eg_iret dX8_inverse_31 (Nat.zero_le _) (Nat.zero_le _) (hP _ _ ⟨_, rfl, rfl, h⟩)
  · replace h := h.2 c14
    refine eg_aload_n 0 dX8_inverse_8 rfl rfl ?_
    refine eg_iload_n 1 dX8_inverse_9 rfl rfl ?_
    refine eg_aload_n 0 dX8_inverse_10 rfl rfl ?_
    obtain ⟨fs, v4, he, hv, h⟩ := h
    refine eg_get 4 in_X8 he rfl (Nat.le_of_ble_eq_true rfl) q399 rfl hv dX8_inverse_11 ?_
    refine eg_iload_n 2 dX8_inverse_14 rfl rfl ?_
    obtain ⟨p5, rfl, h⟩ := h
    obtain ⟨nA, fA, he, hb, h⟩ := h
    refine eh_bald he hb dX8_inverse_15 (fun v6 ev6 => ?_)
    replace h := h v6 ev6
    obtain ⟨hcs, h⟩ := h
    have hM0 := h
    clear h
    refine ec_VIp (rest := []) (ctX8_by hM0) (lw_V q448 q436 q437 q84 q438) rfl rfl hcs nX8_by ⟨Nat.le_of_ble_eq_true rfl, Nat.le_of_ble_eq_true rfl⟩ ⟨rfl, rfl⟩ ⟨Nat.zero_le _, Nat.zero_le _⟩ rfl rfl (Nat.le_of_ble_eq_true rfl) dX8_inverse_16 (fun v7 h => ?_)
    clear hM0
    refine eg_istore_n (lv' := [(2, .int v7), (0, .ref a0), (3, .int x3_2)]) dX8_inverse_19 rfl (Nat.le_of_ble_eq_true rfl) rfl ?_
    refine eg_aload_n 1 dX8_inverse_20 rfl rfl ?_
    obtain ⟨fs, v11, he, hv, h⟩ := h
    refine eg_get 3 in_X8 he rfl (Nat.le_of_ble_eq_true rfl) q398 rfl hv dX8_inverse_21 ?_
    refine eg_iload_n 2 dX8_inverse_24 rfl rfl ?_
    obtain ⟨p12, rfl, h⟩ := h
    obtain ⟨nA, fA, he, hb, h⟩ := h
    refine eh_sald he hb dX8_inverse_25 (fun v13 ev13 => ?_)
    replace h := h v13 ev13
    refine eg_istore_n (lv' := [(3, .int v13), (2, .int v7), (0, .ref a0)]) dX8_inverse_26 rfl (Nat.le_of_ble_eq_true rfl) rfl ?_
    refine eg_goto dX8_inverse_27 ?_
    exact eg_sub [2, 1, 0] rfl (hr3 v7 v13 h)
def MX8_turns (Γ : eb_C) (st : eb_S) (a0 : Nat) (a1 : Int32) (K : Int32 → Prop) : Prop :=
  eb_loop2 (fun r3 (x2_1 : Int32) (x3_2 : Int32) => eb_br (x3_2 = 0) (K x2_1) (eb_cs st a0 [7] ∧ MX8_product Γ 20 st a0 x3_2 a1 (fun v4 => r3 (x2_1 + 1) v4))) 1 a1
abbrev rmX8_turns : Room := { frames := 23, cells := 0, slots := 0, locals := 496 }
theorem nX8_turns : eb_ar yX8_turns 1 := by decide +kernel
theorem dX8_turns_0 : eb_dc cX8_turns 0 (.iconst 1) 1 1 := by decide +kernel
theorem dX8_turns_1 : eb_dc cX8_turns 1 (.istore_n 2) 1 2 := by decide +kernel
theorem dX8_turns_2 : eb_dc cX8_turns 2 (.iload_n 1) 1 3 := by decide +kernel
theorem dX8_turns_3 : eb_dc cX8_turns 3 (.istore_n 3) 1 4 := by decide +kernel
theorem dX8_turns_4 : eb_dc cX8_turns 4 (.iload_n 3) 1 5 := by decide +kernel
theorem dX8_turns_5 : eb_dj cX8_turns 5 (.ifCond .eq 16) 16 8 21 := by decide +kernel
theorem dX8_turns_8 : eb_dc cX8_turns 8 (.iinc 2 1) 3 11 := by decide +kernel
theorem dX8_turns_11 : eb_dc cX8_turns 11 (.aload_n 0) 1 12 := by decide +kernel
theorem dX8_turns_12 : eb_dc cX8_turns 12 (.iload_n 3) 1 13 := by decide +kernel
theorem dX8_turns_13 : eb_dc cX8_turns 13 (.iload_n 1) 1 14 := by decide +kernel
theorem dX8_turns_14 : eb_dc cX8_turns 14 (.invokevirtual 44) 3 17 := by decide +kernel
theorem dX8_turns_17 : eb_dc cX8_turns 17 (.istore_n 3) 1 18 := by decide +kernel
theorem dX8_turns_18 : eb_dj cX8_turns 18 (.goto (-14)) (-14) 21 4 := by decide +kernel
theorem dX8_turns_21 : eb_dc cX8_turns 21 (.iload_n 2) 1 22 := by decide +kernel
theorem dX8_turns_22 : eb_dc cX8_turns 22 (.ireturn) 1 23 := by decide +kernel
theorem ctX8_turns {l : Launch} {Γ : eb_C} {st : eb_S} {a0 : Nat} {a1 : Int32} {K : Int32 → Prop} (h : MX8_turns Γ st a0 a1 K) : eb_Ct l Γ yX8_turns cX8_turns 4 (some .int) rmX8_turns [.ref a0, .int a1] st (eb_pI st K) := by
  refine eb_of (by decide) (Nat.le_of_ble_eq_true rfl) (fun X P hP hX0 => ?_)
  show eb_G l Γ P X cX8_turns RX8 4 (some .int) rmX8_turns 0 [(0, .ref a0), (1, .int a1)] [] st 0 0
  refine eg_iconst dX8_turns_0 kc_1 ?_
  refine eg_istore_n (lv' := [(2, .int 1), (0, .ref a0), (1, .int a1)]) dX8_turns_1 rfl (Nat.le_of_ble_eq_true rfl) rfl ?_
  refine eg_iload_n 2 dX8_turns_2 rfl rfl ?_
  refine eg_istore_n (lv' := [(3, .int a1), (2, .int 1), (0, .ref a0), (1, .int a1)]) dX8_turns_3 rfl (Nat.le_of_ble_eq_true rfl) rfl ?_
  refine eg_sub [2, 3, 1, 0] rfl ?_
  refine eb_loop2_e (J := fun (x2_1 : Int32) (x3_2 : Int32) => eb_G l Γ P X cX8_turns RX8 4 (some .int) rmX8_turns 4 [(0, .ref a0), (1, .int a1), (2, .int x2_1), (3, .int x3_2)] [] st 0 0) h ?_
  clear h
  intro r3 hr3 x2_1 x3_2 h
  refine eg_iload_n 3 dX8_turns_4 rfl rfl ?_
  refine eg_if_eq dX8_turns_5 (fun c8 => ?_) (fun c8 => ?_)
  · replace h := h.1 c8
    refine eg_iload_n 2 dX8_turns_21 rfl rfl ?_
    exact eg_iret dX8_turns_22 (Nat.zero_le _) (Nat.zero_le _) (hP _ _ ⟨_, rfl, rfl, h⟩)
  · replace h := h.2 c8
    refine eg_iinc (j := 2) (lv' := [(2, .int (x2_1 + 1)), (0, .ref a0), (1, .int a1), (3, .int x3_2)]) dX8_turns_8 rfl (by rw [kc_1]) (Nat.le_of_ble_eq_true rfl) rfl ?_
    refine eg_aload_n 1 dX8_turns_11 rfl rfl ?_
    refine eg_iload_n 3 dX8_turns_12 rfl rfl ?_
    refine eg_iload_n 2 dX8_turns_13 rfl rfl ?_
    obtain ⟨hcs, h⟩ := h
    have hM0 := h
    clear h
    refine ec_VIp (rest := []) (ctX8_product 20 hM0) (lw_V q447 q444 q445 q84 q446) rfl rfl hcs nX8_product ⟨by show _ ≤ _; simp [rmX8_product]; try omega, by show _ ≤ _; simp [rmX8_product]; try omega⟩ ⟨rfl, rfl⟩ ⟨Nat.zero_le _, Nat.zero_le _⟩ rfl rfl (Nat.le_of_ble_eq_true rfl) dX8_turns_14 (fun v4 h => ?_)
    clear hM0
    refine eg_istore_n (lv' := [(3, .int v4), (2, .int (x2_1 + 1)), (0, .ref a0), (1, .int a1)]) dX8_turns_17 rfl (Nat.le_of_ble_eq_true rfl) rfl ?_
    refine eg_goto dX8_turns_18 ?_
    exact eg_sub [2, 3, 1, 0] rfl (hr3 (x2_1 + 1) v4 h)
def MX8_isHalf (Γ : eb_C) (st : eb_S) (a0 : Nat) (a1 : Int32) (K : Int32 → Prop) : Prop :=
  eb_gr st a0 7 5 (fun v1 => eb_nn v1 (fun p2 => eb_li Γ st p2 4 a1 (fun v3 => eb_br ((eb_rem v3 2) = 0) (K 1) (K 0))))
abbrev rmX8_isHalf : Room := { frames := 1, cells := 0, slots := 0, locals := 12 }
theorem nX8_isHalf : eb_ar yX8_isHalf 1 := by decide +kernel
theorem dX8_isHalf_0 : eb_dc cX8_isHalf 0 (.aload_n 0) 1 1 := by decide +kernel
theorem dX8_isHalf_1 : eb_dc cX8_isHalf 1 (.getfield 19) 3 4 := by decide +kernel
theorem dX8_isHalf_4 : eb_dc cX8_isHalf 4 (.iload_n 1) 1 5 := by decide +kernel
theorem dX8_isHalf_5 : eb_dc cX8_isHalf 5 (.baload) 1 6 := by decide +kernel
theorem dX8_isHalf_6 : eb_dc cX8_isHalf 6 (.iconst 2) 1 7 := by decide +kernel
theorem dX8_isHalf_7 : eb_dc cX8_isHalf 7 (.irem) 1 8 := by decide +kernel
theorem dX8_isHalf_8 : eb_dj cX8_isHalf 8 (.ifCond .ne 7) 7 11 15 := by decide +kernel
theorem dX8_isHalf_11 : eb_dc cX8_isHalf 11 (.iconst 1) 1 12 := by decide +kernel
theorem dX8_isHalf_12 : eb_dj cX8_isHalf 12 (.goto 4) 4 15 16 := by decide +kernel
theorem dX8_isHalf_15 : eb_dc cX8_isHalf 15 (.iconst 0) 1 16 := by decide +kernel
theorem dX8_isHalf_16 : eb_dc cX8_isHalf 16 (.ireturn) 1 17 := by decide +kernel
theorem ctX8_isHalf {l : Launch} {Γ : eb_C} {st : eb_S} {a0 : Nat} {a1 : Int32} {K : Int32 → Prop} (h : MX8_isHalf Γ st a0 a1 K) : eb_Ct l Γ yX8_isHalf cX8_isHalf 2 (some .boolean) rmX8_isHalf [.ref a0, .int a1] st (eb_pI st K) := by
  refine eb_of (by decide) (Nat.le_of_ble_eq_true rfl) (fun X P hP hX0 => ?_)
  show eb_G l Γ P X cX8_isHalf RX8 2 (some .boolean) rmX8_isHalf 0 [(0, .ref a0), (1, .int a1)] [] st 0 0
  refine eg_aload_n 0 dX8_isHalf_0 rfl rfl ?_
  obtain ⟨fs, v1, he, hv, h⟩ := h
  refine eg_get 5 in_X8 he rfl (Nat.le_of_ble_eq_true rfl) q400 rfl hv dX8_isHalf_1 ?_
  refine eg_iload_n 1 dX8_isHalf_4 rfl rfl ?_
  obtain ⟨p2, rfl, h⟩ := h
  obtain ⟨nA, fA, he, hb, h⟩ := h
  refine eh_bald he hb dX8_isHalf_5 (fun v3 ev3 => ?_)
  replace h := h v3 ev3
  refine eg_iconst dX8_isHalf_6 kc_2 ?_
  refine eg_irem dX8_isHalf_7 (by decide) ?_
  refine eg_if_ne dX8_isHalf_8 (fun c4 => ?_) (fun c4 => ?_)
  · replace h := h.2 c4
    refine eg_iconst dX8_isHalf_15 kc_0 ?_
    exact eg_zret dX8_isHalf_16 rfl (Nat.zero_le _) (Nat.zero_le _) (hP _ _ ⟨_, rfl, rfl, h⟩)
  · replace h := h.1 c4
    refine eg_iconst dX8_isHalf_11 kc_1 ?_
    refine eg_goto dX8_isHalf_12 ?_
    exact eg_zret dX8_isHalf_16 rfl (Nat.zero_le _) (Nat.zero_le _) (hP _ _ ⟨_, rfl, rfl, h⟩)
def MJ3_init (Γ : eb_C) (st : eb_S) (a0 : Nat) (K : eb_S → Prop) : Prop :=
  K st
abbrev rmJ3_init : Room := { frames := 2, cells := 0, slots := 0, locals := 40 }
theorem nJ3_init : eb_ar yJ3_init 0 := by decide +kernel
theorem dJ3_init_0 : eb_dc cJ3_init 0 (.aload_n 0) 1 1 := by decide +kernel
theorem dJ3_init_1 : eb_dc cJ3_init 1 (.invokespecial 1) 3 4 := by decide +kernel
theorem dJ3_init_4 : eb_dc cJ3_init 4 (.return_) 1 5 := by decide +kernel
theorem ctJ3_init {l : Launch} {Γ : eb_C} {st : eb_S} {a0 : Nat} {K : eb_S → Prop} (h : MJ3_init Γ st a0 K) : eb_Ct l Γ yJ3_init cJ3_init 1 (none) rmJ3_init [.ref a0] st (eb_oV K) := by
  refine eb_of (by decide) (Nat.le_of_ble_eq_true rfl) (fun X P hP hX0 => ?_)
  replace hX0 := hX0 rfl
  show eb_G l Γ P X cJ3_init RJ3 1 (none) rmJ3_init 0 [(0, .ref a0)] [] st 0 0
  refine eg_aload_n 0 dJ3_init_0 rfl rfl ?_
  refine eg_objInit q868 q104 q105 dJ3_init_1 (Nat.le_of_ble_eq_true rfl) (Nat.le_of_ble_eq_true rfl) ?_
  exact eg_vret dJ3_init_4 (Nat.zero_le _) (Nat.zero_le _) (hP _ _ ⟨rfl, h⟩)
def MX1_init (Γ : eb_C) (bc bs : Nat) (st : eb_S) (a0 : Nat) (a1 : Int32) (K : eb_S → Prop) : Prop :=
  eb_mk st (eb_ia Γ 0 16 (fun _ => 0)) 16 bc bs 0 0 (fun p1 g2 => eb_pt g2 a0 1 1 (.ref p1) (fun g3 => eb_pt g3 a0 1 2 (.int 1) (fun g4 => eb_mk g4 (eb_ra Γ 6 16 (fun _ => none)) 16 bc bs (0 + 1) (0 + 16) (fun p5 g6 => eb_pt g6 a0 1 5 (.ref p5) (fun g7 => eb_mk g7 (eb_ia Γ 0 16 (fun _ => 0)) 16 bc bs (((0 + 1) + 1)) (((0 + 16) + 16)) (fun p8 g9 => eb_pt g9 a0 1 6 (.ref p8) (fun g10 => eb_pt g10 a0 1 0 (.int a1) (fun g11 => eb_gr g11 a0 1 1 (fun v12 => eb_nn v12 (fun p13 => MJ0_fill Γ g11 p13 2 (fun g15 => K g15)))))))))))
abbrev rmX1_init (bc bs : Nat) : Room := { frames := 2, cells := bc, slots := bs, locals := 40 }
theorem nX1_init : eb_ar yX1_init 1 := by decide +kernel
theorem dX1_init_0 : eb_dc cX1_init 0 (.aload_n 0) 1 1 := by decide +kernel
theorem dX1_init_1 : eb_dc cX1_init 1 (.invokespecial 3) 3 4 := by decide +kernel
theorem dX1_init_4 : eb_dc cX1_init 4 (.aload_n 0) 1 5 := by decide +kernel
theorem dX1_init_5 : eb_dc cX1_init 5 (.bipush 16) 2 7 := by decide +kernel
theorem dX1_init_7 : eb_dc cX1_init 7 (.newarray .int) 2 9 := by decide +kernel
theorem dX1_init_9 : eb_dc cX1_init 9 (.putfield 9) 3 12 := by decide +kernel
theorem dX1_init_12 : eb_dc cX1_init 12 (.aload_n 0) 1 13 := by decide +kernel
theorem dX1_init_13 : eb_dc cX1_init 13 (.iconst 1) 1 14 := by decide +kernel
theorem dX1_init_14 : eb_dc cX1_init 14 (.putfield 15) 3 17 := by decide +kernel
theorem dX1_init_17 : eb_dc cX1_init 17 (.aload_n 0) 1 18 := by decide +kernel
theorem dX1_init_18 : eb_dc cX1_init 18 (.bipush 16) 2 20 := by decide +kernel
theorem dX1_init_20 : eb_dc cX1_init 20 (.anewarray 19) 3 23 := by decide +kernel
theorem dX1_init_23 : eb_dc cX1_init 23 (.putfield 21) 3 26 := by decide +kernel
theorem dX1_init_26 : eb_dc cX1_init 26 (.aload_n 0) 1 27 := by decide +kernel
theorem dX1_init_27 : eb_dc cX1_init 27 (.bipush 16) 2 29 := by decide +kernel
theorem dX1_init_29 : eb_dc cX1_init 29 (.newarray .int) 2 31 := by decide +kernel
theorem dX1_init_31 : eb_dc cX1_init 31 (.putfield 25) 3 34 := by decide +kernel
theorem dX1_init_34 : eb_dc cX1_init 34 (.aload_n 0) 1 35 := by decide +kernel
theorem dX1_init_35 : eb_dc cX1_init 35 (.iload_n 1) 1 36 := by decide +kernel
theorem dX1_init_36 : eb_dc cX1_init 36 (.putfield 28) 3 39 := by decide +kernel
theorem dX1_init_39 : eb_dc cX1_init 39 (.aload_n 0) 1 40 := by decide +kernel
theorem dX1_init_40 : eb_dc cX1_init 40 (.getfield 9) 3 43 := by decide +kernel
theorem dX1_init_43 : eb_dc cX1_init 43 (.iconst 2) 1 44 := by decide +kernel
theorem dX1_init_44 : eb_dc cX1_init 44 (.invokestatic 31) 3 47 := by decide +kernel
theorem dX1_init_47 : eb_dc cX1_init 47 (.return_) 1 48 := by decide +kernel
theorem ctX1_init {l : Launch} {Γ : eb_C} {bc bs : Nat} {st : eb_S} {a0 : Nat} {a1 : Int32} {K : eb_S → Prop} (h : MX1_init Γ bc bs st a0 a1 K) : eb_Ct l Γ yX1_init cX1_init 2 (none) (rmX1_init bc bs) [.ref a0, .int a1] st (eb_oV K) := by
  refine eb_of (by decide) (Nat.le_of_ble_eq_true rfl) (fun X P hP hX0 => ?_)
  replace hX0 := hX0 rfl
  suffices hgo : (0 ≤ bc ∧ 0 ≤ bs) → eb_G l Γ P X cX1_init RX1 2 (none) (rmX1_init bc bs) 0 [(0, .ref a0), (1, .int a1)] [] st 0 0 from hgo ⟨Nat.zero_le _, Nat.zero_le _⟩
  intro hu
  refine eg_aload_n 0 dX1_init_0 rfl rfl ?_
  refine eg_objInit q112 q104 q105 dX1_init_1 (Nat.le_of_ble_eq_true rfl) (Nat.le_of_ble_eq_true rfl) ?_
  refine eg_aload_n 0 dX1_init_4 rfl rfl ?_
  refine eg_bipush dX1_init_5 kb_16 ?_
  obtain ⟨hc1, hs1, h⟩ := h
  refine eh_new_i q158 rfl ⟨by decide, by decide⟩ hc1 hs1 dX1_init_7 (fun p1 qp1 g2 eg2 => ?_)
  replace h := h p1 qp1 g2 eg2
  replace hu := And.intro hc1 hs1
  obtain ⟨fs, he, hlen, h⟩ := h
  refine eh_putF 1 in_X1 he rfl (Nat.le_of_ble_eq_true rfl) tyX1 tyX1_ok nmX1 q123 rfl rfl hX0 rfl rfl rfl hlen dX1_init_9 (fun g3 eg3 => ?_)
  replace h := h g3 eg3
  refine eg_aload_n 0 dX1_init_12 rfl rfl ?_
  refine eg_iconst dX1_init_13 kc_1 ?_
  obtain ⟨fs, he, hlen, h⟩ := h
  refine eh_put 2 in_X1 he rfl (Nat.le_of_ble_eq_true rfl) tyX1 tyX1_ok nmX1 q125 rfl rfl rfl rfl hlen dX1_init_14 (fun g4 eg4 => ?_)
  replace h := h g4 eg4
  refine eg_aload_n 0 dX1_init_17 rfl rfl ?_
  refine eg_bipush dX1_init_18 kb_16 ?_
  obtain ⟨hc1, hs1, h⟩ := h
  refine eg_anewA (t := 6) (ty := .short) (by decide) q113 (List.mem_of_getElem? (i := 2) rfl) rfl (⟨by decide, by decide⟩ : eb_ok1 16).1 rfl (⟨by decide, by decide⟩ : eb_ok1 16).2 hc1 hs1 dX1_init_20 (fun p5 qp5 => ?_)
  generalize eg6 : eb_up _ _ _ = g6
  replace eg6 := eg6.symm
  replace h := h p5 qp5 g6 eg6
  replace hu := And.intro hc1 hs1
  obtain ⟨fs, he, hlen, h⟩ := h
  refine eh_putF 5 in_X1 he rfl (Nat.le_of_ble_eq_true rfl) tyX1 tyX1_ok nmX1 q134 rfl rfl hX0 rfl rfl rfl hlen dX1_init_23 (fun g7 eg7 => ?_)
  replace h := h g7 eg7
  refine eg_aload_n 0 dX1_init_26 rfl rfl ?_
  refine eg_bipush dX1_init_27 kb_16 ?_
  obtain ⟨hc1, hs1, h⟩ := h
  refine eh_new_i q158 rfl ⟨by decide, by decide⟩ hc1 hs1 dX1_init_29 (fun p8 qp8 g9 eg9 => ?_)
  replace h := h p8 qp8 g9 eg9
  replace hu := And.intro hc1 hs1
  obtain ⟨fs, he, hlen, h⟩ := h
  refine eh_putF 6 in_X1 he rfl (Nat.le_of_ble_eq_true rfl) tyX1 tyX1_ok nmX1 q135 rfl rfl hX0 rfl rfl rfl hlen dX1_init_31 (fun g10 eg10 => ?_)
  replace h := h g10 eg10
  refine eg_aload_n 0 dX1_init_34 rfl rfl ?_
  refine eg_iload_n 1 dX1_init_35 rfl rfl ?_
  obtain ⟨fs, he, hlen, h⟩ := h
  refine eh_putF 0 in_X1 he rfl (Nat.le_of_ble_eq_true rfl) tyX1 tyX1_ok nmX1 q120 rfl rfl hX0 rfl rfl rfl hlen dX1_init_36 (fun g11 eg11 => ?_)
  replace h := h g11 eg11
  refine eg_aload_n 0 dX1_init_39 rfl rfl ?_
  obtain ⟨fs, v12, he, hv, h⟩ := h
  refine eg_get 1 in_X1 he rfl (Nat.le_of_ble_eq_true rfl) q123 rfl hv dX1_init_40 ?_
  refine eg_iconst dX1_init_43 kc_2 ?_
  obtain ⟨p13, rfl, h⟩ := h
  have hM0 := h
  clear h
  refine ec_SVw (rest := []) (ctJ0_fill hM0) (lw_S q115 q116 q76 q117) nJ0_fill ⟨Nat.le_of_ble_eq_true rfl, Nat.le_of_ble_eq_true rfl⟩ ⟨rfl, rfl⟩ hu rfl rfl (Nat.le_of_ble_eq_true rfl) dX1_init_44 (fun g15 h => ?_)
  clear hM0
  exact eg_vret dX1_init_47 hu.1 hu.2 (hP _ _ ⟨rfl, h⟩)
def MX0_init (Γ : eb_C) (bc bs : Nat) (st : eb_S) (a0 : Nat) (K : eb_S → Prop) : Prop :=
  eb_mk st (eb_ra Γ 7 4 (fun _ => none)) 4 bc bs 0 0 (fun p1 g2 => eb_pt g2 a0 0 0 (.ref p1) (fun g3 => eb_mk g3 (eb_ia Γ 0 125 (fun _ => 0)) 125 bc bs (0 + 1) (0 + 4) (fun p4 g5 => eb_pt g5 a0 0 5 (.ref p4) (fun g6 => eb_loop4 (fun r11 (x1_7 : Int32) (g8 : eb_S) (u9 : Nat) (w10 : Nat) => eb_br (4 ≤ x1_7) (K g8) (eb_gr g8 a0 0 0 (fun v12 => eb_mk g8 (.inr (1, [.int 0, .null, .int 0, .null, .int 0, .null, .null, .null, .null])) 9 bc bs u9 w10 (fun p13 g14 => ∃ c17 s18 : Nat, ((u9 + 1) + c17 ≤ bc ∧ (w10 + 9) + s18 ≤ bs) ∧ MX1_init Γ c17 s18 g14 p13 1 (fun g16 => eb_nn v12 (fun p19 => eb_cs g16 p13 [1] ∧ (eb_wr Γ g16 p19 7 x1_7 (some p13) (fun g20 => r11 (x1_7 + 1) g20 (((u9 + 1) + c17)) (((w10 + 9) + s18)))))))))) 0 g6 (((0 + 1) + 1)) (((0 + 4) + 125))))))
abbrev rmX0_init (bc bs : Nat) : Room := { frames := 3, cells := bc, slots := bs, locals := 61 }
theorem nX0_init : eb_ar yX0_init 0 := by decide +kernel
theorem dX0_init_0 : eb_dc cX0_init 0 (.aload_n 0) 1 1 := by decide +kernel
theorem dX0_init_1 : eb_dc cX0_init 1 (.invokespecial 7) 3 4 := by decide +kernel
theorem dX0_init_4 : eb_dc cX0_init 4 (.aload_n 0) 1 5 := by decide +kernel
theorem dX0_init_5 : eb_dc cX0_init 5 (.iconst 4) 1 6 := by decide +kernel
theorem dX0_init_6 : eb_dc cX0_init 6 (.anewarray 13) 3 9 := by decide +kernel
theorem dX0_init_9 : eb_dc cX0_init 9 (.putfield 15) 3 12 := by decide +kernel
theorem dX0_init_12 : eb_dc cX0_init 12 (.aload_n 0) 1 13 := by decide +kernel
theorem dX0_init_13 : eb_dc cX0_init 13 (.bipush 125) 2 15 := by decide +kernel
theorem dX0_init_15 : eb_dc cX0_init 15 (.newarray .int) 2 17 := by decide +kernel
theorem dX0_init_17 : eb_dc cX0_init 17 (.putfield 19) 3 20 := by decide +kernel
theorem dX0_init_20 : eb_dc cX0_init 20 (.iconst 0) 1 21 := by decide +kernel
theorem dX0_init_21 : eb_dc cX0_init 21 (.istore_n 1) 1 22 := by decide +kernel
theorem dX0_init_22 : eb_dc cX0_init 22 (.iload_n 1) 1 23 := by decide +kernel
theorem dX0_init_23 : eb_dc cX0_init 23 (.iconst 4) 1 24 := by decide +kernel
theorem dX0_init_24 : eb_dj cX0_init 24 (.if_icmp .ge 23) 23 27 47 := by decide +kernel
theorem dX0_init_27 : eb_dc cX0_init 27 (.aload_n 0) 1 28 := by decide +kernel
theorem dX0_init_28 : eb_dc cX0_init 28 (.getfield 15) 3 31 := by decide +kernel
theorem dX0_init_31 : eb_dc cX0_init 31 (.iload_n 1) 1 32 := by decide +kernel
theorem dX0_init_32 : eb_dc cX0_init 32 (.new 13) 3 35 := by decide +kernel
theorem dX0_init_35 : eb_dc cX0_init 35 (.dup) 1 36 := by decide +kernel
theorem dX0_init_36 : eb_dc cX0_init 36 (.iconst 1) 1 37 := by decide +kernel
theorem dX0_init_37 : eb_dc cX0_init 37 (.invokespecial 23) 3 40 := by decide +kernel
theorem dX0_init_40 : eb_dc cX0_init 40 (.aastore) 1 41 := by decide +kernel
theorem dX0_init_41 : eb_dc cX0_init 41 (.iinc 1 1) 3 44 := by decide +kernel
theorem dX0_init_44 : eb_dj cX0_init 44 (.goto (-22)) (-22) 47 22 := by decide +kernel
theorem dX0_init_47 : eb_dc cX0_init 47 (.return_) 1 48 := by decide +kernel
theorem ctX0_init {l : Launch} {Γ : eb_C} {bc bs : Nat} {st : eb_S} {a0 : Nat} {K : eb_S → Prop} (h : MX0_init Γ bc bs st a0 K) : eb_Ct l Γ yX0_init cX0_init 2 (none) (rmX0_init bc bs) [.ref a0] st (eb_oV K) := by
  refine eb_of (by decide) (Nat.le_of_ble_eq_true rfl) (fun X P hP hX0 => ?_)
  replace hX0 := hX0 rfl
  suffices hgo : (0 ≤ bc ∧ 0 ≤ bs) → eb_G l Γ P X cX0_init RX0 2 (none) (rmX0_init bc bs) 0 [(0, .ref a0)] [] st 0 0 from hgo ⟨Nat.zero_le _, Nat.zero_le _⟩
  intro hu
  refine eg_aload_n 0 dX0_init_0 rfl rfl ?_
  refine eg_objInit q103 q104 q105 dX0_init_1 (Nat.le_of_ble_eq_true rfl) (Nat.le_of_ble_eq_true rfl) ?_
  refine eg_aload_n 0 dX0_init_4 rfl rfl ?_
  refine eg_iconst dX0_init_5 kc_4 ?_
  obtain ⟨hc1, hs1, h⟩ := h
  refine eg_anew (t := 7) q106 (List.mem_of_getElem? (i := 0) rfl) rfl (⟨by decide, by decide⟩ : eb_ok1 4).1 rfl (⟨by decide, by decide⟩ : eb_ok1 4).2 hc1 hs1 dX0_init_6 (fun p1 qp1 => ?_)
  generalize eg2 : eb_up _ _ _ = g2
  replace eg2 := eg2.symm
  replace h := h p1 qp1 g2 eg2
  replace hu := And.intro hc1 hs1
  obtain ⟨fs, he, hlen, h⟩ := h
  refine eh_putF 0 in_X0 he rfl (Nat.le_of_ble_eq_true rfl) tyX0 tyX0_ok nmX0 q159 rfl rfl hX0 rfl rfl rfl hlen dX0_init_9 (fun g3 eg3 => ?_)
  replace h := h g3 eg3
  refine eg_aload_n 0 dX0_init_12 rfl rfl ?_
  refine eg_bipush dX0_init_13 kb_125 ?_
  obtain ⟨hc1, hs1, h⟩ := h
  refine eh_new_i q158 rfl ⟨by decide, by decide⟩ hc1 hs1 dX0_init_15 (fun p4 qp4 g5 eg5 => ?_)
  replace h := h p4 qp4 g5 eg5
  replace hu := And.intro hc1 hs1
  obtain ⟨fs, he, hlen, h⟩ := h
  refine eh_putF 5 in_X0 he rfl (Nat.le_of_ble_eq_true rfl) tyX0 tyX0_ok nmX0 q164 rfl rfl hX0 rfl rfl rfl hlen dX0_init_17 (fun g6 eg6 => ?_)
  replace h := h g6 eg6
  refine eg_iconst dX0_init_20 kc_0 ?_
  refine eg_istore_n (lv' := [(1, .int 0), (0, .ref a0)]) dX0_init_21 rfl (Nat.le_of_ble_eq_true rfl) rfl ?_
  refine eg_sub [1, 0] rfl ?_
  refine eb_loop4_e (J := fun (x1_7 : Int32) (g8 : eb_S) (u9 : Nat) (w10 : Nat) => (u9 ≤ bc ∧ w10 ≤ bs) → eb_G l Γ P X cX0_init RX0 2 (none) (rmX0_init bc bs) 22 [(0, .ref a0), (1, .int x1_7)] [] g8 u9 w10) h ?_ hu
  clear h
  clear hu
  intro r11 hr11 x1_7 g8 u9 w10 h hu
  refine eg_iload_n 1 dX0_init_22 rfl rfl ?_
  refine eg_iconst dX0_init_23 kc_4 ?_
  refine eg_icmp_ge dX0_init_24 (fun c21 => ?_) (fun c21 => ?_)
  · replace h := h.1 c21
    exact eg_vret dX0_init_47 hu.1 hu.2 (hP _ _ ⟨rfl, h⟩)
  · replace h := h.2 c21
    refine eg_aload_n 0 dX0_init_27 rfl rfl ?_
    obtain ⟨fs, v12, he, hv, h⟩ := h
    refine eg_get 0 in_X0 he rfl (Nat.le_of_ble_eq_true rfl) q159 rfl hv dX0_init_28 ?_
    refine eg_iload_n 1 dX0_init_31 rfl rfl ?_
    obtain ⟨hc1, hs1, h⟩ := h
    refine eh_new (ci := 1) (fs := [.int 0, .null, .int 0, .null, .int 0, .null, .null, .null, .null]) in_X1 tyX1 tyX1_ok q106 q108 q75 rfl (by decide +kernel) hc1 hs1 dX0_init_32 (fun p13 qp13 g14 eg14 => ?_)
    replace h := h p13 qp13 g14 eg14
    replace hu := And.intro hc1 hs1
    refine eg_dup dX0_init_35 rfl ?_
    refine eg_iconst dX0_init_36 kc_1 ?_
    obtain ⟨c17, s18, hca, h⟩ := h
    have hM0 := h
    clear h
    refine ec_IVa (rest := [.ref p13, .int x1_7, va_rf v12]) (ctX1_init hM0) q111 q75 q109 q110 rfl nX1_init ⟨Nat.le_of_ble_eq_true rfl, Nat.le_of_ble_eq_true rfl⟩ ⟨rfl, rfl⟩ hca rfl rfl (by simp only [List.map_cons, List.map_nil, eb_rfc]; exact Nat.le_of_ble_eq_true rfl) dX0_init_37 (fun g16 h => ?_)
    clear hM0
    replace hu := hca
    obtain ⟨p19, rfl, h⟩ := h
    obtain ⟨⟨_, fs1, hc1, he1⟩, h⟩ := h
    cases List.mem_singleton.mp hc1
    obtain ⟨nA, fA, he, hb, h⟩ := h
    refine eg_ast (t := 7) (r := (RX1, TX1, 9)) rfl rfl he he1 hb dX0_init_40 ?_
    replace h := h _ rfl
    generalize eb_up _ _ _ = g20 at h ⊢
    refine eg_iinc (j := 1) (lv' := [(1, .int (x1_7 + 1)), (0, .ref a0)]) dX0_init_41 rfl (by rw [kc_1]) (Nat.le_of_ble_eq_true rfl) rfl ?_
    refine eg_goto dX0_init_44 ?_
    exact eg_sub [1, 0] rfl (hr11 (x1_7 + 1) g20 (((u9 + 1) + c17)) (((w10 + 9) + s18)) h hu)
def MX0_in (a0 : Int32) (a1 : Int32) (a2 : Int32) (K : Int32 → Prop) : Prop :=
  eb_br (a0 < a1) (K 0) (eb_br (a2 < a0) (K 0) (K 1))
abbrev rmX0_in : Room := { frames := 1, cells := 0, slots := 0, locals := 12 }
theorem nX0_in : eb_ar yX0_in 3 := by decide +kernel
theorem dX0_in_0 : eb_dc cX0_in 0 (.iload_n 0) 1 1 := by decide +kernel
theorem dX0_in_1 : eb_dc cX0_in 1 (.iload_n 1) 1 2 := by decide +kernel
theorem dX0_in_2 : eb_dj cX0_in 2 (.if_icmp .lt 12) 12 5 14 := by decide +kernel
theorem dX0_in_5 : eb_dc cX0_in 5 (.iload_n 0) 1 6 := by decide +kernel
theorem dX0_in_6 : eb_dc cX0_in 6 (.iload_n 2) 1 7 := by decide +kernel
theorem dX0_in_7 : eb_dj cX0_in 7 (.if_icmp .gt 7) 7 10 14 := by decide +kernel
theorem dX0_in_10 : eb_dc cX0_in 10 (.iconst 1) 1 11 := by decide +kernel
theorem dX0_in_11 : eb_dj cX0_in 11 (.goto 4) 4 14 15 := by decide +kernel
theorem dX0_in_14 : eb_dc cX0_in 14 (.iconst 0) 1 15 := by decide +kernel
theorem dX0_in_15 : eb_dc cX0_in 15 (.ireturn) 1 16 := by decide +kernel
theorem ctX0_in {l : Launch} {Γ : eb_C} {st : eb_S} {a0 : Int32} {a1 : Int32} {a2 : Int32} {K : Int32 → Prop} (h : MX0_in a0 a1 a2 K) : eb_Ct l Γ yX0_in cX0_in 3 (some .boolean) rmX0_in [.int a0, .int a1, .int a2] st (eb_pI st K) := by
  refine eb_of (by decide) (Nat.le_of_ble_eq_true rfl) (fun X P hP hX0 => ?_)
  show eb_G l Γ P X cX0_in RX0 3 (some .boolean) rmX0_in 0 [(0, .int a0), (1, .int a1), (2, .int a2)] [] st 0 0
  refine eg_iload_n 0 dX0_in_0 rfl rfl ?_
  refine eg_iload_n 1 dX0_in_1 rfl rfl ?_
  refine eg_icmp_lt dX0_in_2 (fun c2 => ?_) (fun c2 => ?_)
  · replace h := h.1 c2
    refine eg_iconst dX0_in_14 kc_0 ?_
    exact eg_zret dX0_in_15 rfl (Nat.zero_le _) (Nat.zero_le _) (hP _ _ ⟨_, rfl, rfl, h⟩)
  · replace h := h.2 c2
    refine eg_iload_n 0 dX0_in_5 rfl rfl ?_
    refine eg_iload_n 2 dX0_in_6 rfl rfl ?_
    refine eg_icmp_gt dX0_in_7 (fun c1 => ?_) (fun c1 => ?_)
    · replace h := h.1 c1
      refine eg_iconst dX0_in_14 kc_0 ?_
      exact eg_zret dX0_in_15 rfl (Nat.zero_le _) (Nat.zero_le _) (hP _ _ ⟨_, rfl, rfl, h⟩)
    · replace h := h.2 c1
      refine eg_iconst dX0_in_10 kc_1 ?_
      refine eg_goto dX0_in_11 ?_
      exact eg_zret dX0_in_15 rfl (Nat.zero_le _) (Nat.zero_le _) (hP _ _ ⟨_, rfl, rfl, h⟩)
def MX0_isBody (a0 : Int32) (K : Int32 → Prop) : Prop :=
  MX0_in a0 0 3 (fun v1 => eb_zb v1 ∧ K v1)
abbrev rmX0_isBody : Room := { frames := 2, cells := 0, slots := 0, locals := 34 }
theorem nX0_isBody : eb_ar yX0_isBody 1 := by decide +kernel
theorem dX0_isBody_0 : eb_dc cX0_isBody 0 (.iload_n 0) 1 1 := by decide +kernel
theorem dX0_isBody_1 : eb_dc cX0_isBody 1 (.iconst 0) 1 2 := by decide +kernel
theorem dX0_isBody_2 : eb_dc cX0_isBody 2 (.iconst 3) 1 3 := by decide +kernel
theorem dX0_isBody_3 : eb_dc cX0_isBody 3 (.invokestatic 26) 3 6 := by decide +kernel
theorem dX0_isBody_6 : eb_dc cX0_isBody 6 (.ireturn) 1 7 := by decide +kernel
theorem ctX0_isBody {l : Launch} {Γ : eb_C} {st : eb_S} {a0 : Int32} {K : Int32 → Prop} (h : MX0_isBody a0 K) : eb_Ct l Γ yX0_isBody cX0_isBody 1 (some .boolean) rmX0_isBody [.int a0] st (eb_pI st K) := by
  refine eb_of (by decide) (Nat.le_of_ble_eq_true rfl) (fun X P hP hX0 => ?_)
  show eb_G l Γ P X cX0_isBody RX0 1 (some .boolean) rmX0_isBody 0 [(0, .int a0)] [] st 0 0
  refine eg_iload_n 0 dX0_isBody_0 rfl rfl ?_
  refine eg_iconst dX0_isBody_1 kc_0 ?_
  refine eg_iconst dX0_isBody_2 kc_3 ?_
  have hM0 := h
  clear h
  refine ec_SIp (rest := []) (ctX0_in hM0) (lw_S q185 q186 q74 q187) nX0_in ⟨Nat.le_of_ble_eq_true rfl, Nat.le_of_ble_eq_true rfl⟩ ⟨rfl, rfl⟩ ⟨Nat.zero_le _, Nat.zero_le _⟩ rfl rfl (Nat.le_of_ble_eq_true rfl) dX0_isBody_3 (fun v1 h => ?_)
  clear hM0
  exact eg_zret dX0_isBody_6 h.1.nar (Nat.zero_le _) (Nat.zero_le _) (hP _ _ ⟨_, rfl, rfl, h.2⟩)
def MX0_body (Γ : eb_C) (bc bs : Nat) (st : eb_S) (a0 : Nat) (a1 : Int32) (a2 : Int32) (K : Int32 → eb_S → Prop) : Prop :=
  MX0_isBody a1 (fun v1 => eb_br (v1 = 0) (K (-2) st) (MX0_in a2 1 4 (fun v5 => eb_br (v5 = 0) (K (-2) st) (eb_gr st a0 0 0 (fun v9 => eb_mk st (.inr (1, [.int 0, .null, .int 0, .null, .int 0, .null, .null, .null, .null])) 9 bc bs 0 0 (fun p10 g11 => ∃ c14 s15 : Nat, ((0 + 1) + c14 ≤ bc ∧ (0 + 9) + s15 ≤ bs) ∧ MX1_init Γ c14 s15 g11 p10 a2 (fun g13 => eb_nn v9 (fun p16 => eb_cs g13 p10 [1] ∧ (eb_wr Γ g13 p16 7 a1 (some p10) (fun g17 => K 1 g17))))))))))
abbrev rmX0_body (bc bs : Nat) : Room := { frames := 3, cells := bc, slots := bs, locals := 61 }
theorem nX0_body : eb_ar yX0_body 2 := by decide +kernel
theorem dX0_body_0 : eb_dc cX0_body 0 (.iload_n 1) 1 1 := by decide +kernel
theorem dX0_body_1 : eb_dc cX0_body 1 (.invokestatic 30) 3 4 := by decide +kernel
theorem dX0_body_4 : eb_dj cX0_body 4 (.ifCond .eq 12) 12 7 16 := by decide +kernel
theorem dX0_body_7 : eb_dc cX0_body 7 (.iload_n 2) 1 8 := by decide +kernel
theorem dX0_body_8 : eb_dc cX0_body 8 (.iconst 1) 1 9 := by decide +kernel
theorem dX0_body_9 : eb_dc cX0_body 9 (.iconst 4) 1 10 := by decide +kernel
theorem dX0_body_10 : eb_dc cX0_body 10 (.invokestatic 26) 3 13 := by decide +kernel
theorem dX0_body_13 : eb_dj cX0_body 13 (.ifCond .ne 6) 6 16 19 := by decide +kernel
theorem dX0_body_16 : eb_dc cX0_body 16 (.bipush (-2)) 2 18 := by decide +kernel
theorem dX0_body_18 : eb_dc cX0_body 18 (.ireturn) 1 19 := by decide +kernel
theorem dX0_body_19 : eb_dc cX0_body 19 (.aload_n 0) 1 20 := by decide +kernel
theorem dX0_body_20 : eb_dc cX0_body 20 (.getfield 15) 3 23 := by decide +kernel
theorem dX0_body_23 : eb_dc cX0_body 23 (.iload_n 1) 1 24 := by decide +kernel
theorem dX0_body_24 : eb_dc cX0_body 24 (.new 13) 3 27 := by decide +kernel
theorem dX0_body_27 : eb_dc cX0_body 27 (.dup) 1 28 := by decide +kernel
theorem dX0_body_28 : eb_dc cX0_body 28 (.iload_n 2) 1 29 := by decide +kernel
theorem dX0_body_29 : eb_dc cX0_body 29 (.invokespecial 23) 3 32 := by decide +kernel
theorem dX0_body_32 : eb_dc cX0_body 32 (.aastore) 1 33 := by decide +kernel
theorem dX0_body_33 : eb_dc cX0_body 33 (.iconst 1) 1 34 := by decide +kernel
theorem dX0_body_34 : eb_dc cX0_body 34 (.ireturn) 1 35 := by decide +kernel
theorem ctX0_body {l : Launch} {Γ : eb_C} {bc bs : Nat} {st : eb_S} {a0 : Nat} {a1 : Int32} {a2 : Int32} {K : Int32 → eb_S → Prop} (h : MX0_body Γ bc bs st a0 a1 a2 K) : eb_Ct l Γ yX0_body cX0_body 3 (some .int) (rmX0_body bc bs) [.ref a0, .int a1, .int a2] st (eb_oI K) := by
  refine eb_of (by decide) (Nat.le_of_ble_eq_true rfl) (fun X P hP hX0 => ?_)
  suffices hgo : (0 ≤ bc ∧ 0 ≤ bs) → eb_G l Γ P X cX0_body RX0 3 (some .int) (rmX0_body bc bs) 0 [(0, .ref a0), (1, .int a1), (2, .int a2)] [] st 0 0 from hgo ⟨Nat.zero_le _, Nat.zero_le _⟩
  intro hu
  refine eg_iload_n 1 dX0_body_0 rfl rfl ?_
  have hM0 := h
  clear h
  refine ec_SIp (rest := []) (ctX0_isBody hM0) (lw_S q182 q183 q74 q184) nX0_isBody ⟨Nat.le_of_ble_eq_true rfl, Nat.le_of_ble_eq_true rfl⟩ ⟨rfl, rfl⟩ hu rfl rfl (Nat.le_of_ble_eq_true rfl) dX0_body_1 (fun v1 h => ?_)
  clear hM0
  refine eg_if_eq dX0_body_4 (fun c19 => ?_) (fun c19 => ?_)
  · replace h := h.1 c19
    refine eg_bipush dX0_body_16 kb_m2 ?_
    exact eg_iret dX0_body_18 hu.1 hu.2 (hP _ _ ⟨_, rfl, h⟩)
  · replace h := h.2 c19
    refine eg_iload_n 2 dX0_body_7 rfl rfl ?_
    refine eg_iconst dX0_body_8 kc_1 ?_
    refine eg_iconst dX0_body_9 kc_4 ?_
    have hM0 := h
    clear h
    refine ec_SIp (rest := []) (ctX0_in hM0) (lw_S q185 q186 q74 q187) nX0_in ⟨Nat.le_of_ble_eq_true rfl, Nat.le_of_ble_eq_true rfl⟩ ⟨rfl, rfl⟩ hu rfl rfl (Nat.le_of_ble_eq_true rfl) dX0_body_10 (fun v5 h => ?_)
    clear hM0
    refine eg_if_ne dX0_body_13 (fun c18 => ?_) (fun c18 => ?_)
    · replace h := h.2 c18
      refine eg_aload_n 0 dX0_body_19 rfl rfl ?_
      obtain ⟨fs, v9, he, hv, h⟩ := h
      refine eg_get 0 in_X0 he rfl (Nat.le_of_ble_eq_true rfl) q159 rfl hv dX0_body_20 ?_
      refine eg_iload_n 1 dX0_body_23 rfl rfl ?_
      obtain ⟨hc1, hs1, h⟩ := h
      refine eh_new (ci := 1) (fs := [.int 0, .null, .int 0, .null, .int 0, .null, .null, .null, .null]) in_X1 tyX1 tyX1_ok q106 q108 q75 rfl (by decide +kernel) hc1 hs1 dX0_body_24 (fun p10 qp10 g11 eg11 => ?_)
      replace h := h p10 qp10 g11 eg11
      replace hu := And.intro hc1 hs1
      refine eg_dup dX0_body_27 rfl ?_
      refine eg_iload_n 2 dX0_body_28 rfl rfl ?_
      obtain ⟨c14, s15, hca, h⟩ := h
      have hM0 := h
      clear h
      refine ec_IVa (rest := [.ref p10, .int a1, va_rf v9]) (ctX1_init hM0) q111 q75 q109 q110 rfl nX1_init ⟨Nat.le_of_ble_eq_true rfl, Nat.le_of_ble_eq_true rfl⟩ ⟨rfl, rfl⟩ hca rfl rfl (by simp only [List.map_cons, List.map_nil, eb_rfc]; exact Nat.le_of_ble_eq_true rfl) dX0_body_29 (fun g13 h => ?_)
      clear hM0
      replace hu := hca
      obtain ⟨p16, rfl, h⟩ := h
      obtain ⟨⟨_, fs1, hc1, he1⟩, h⟩ := h
      cases List.mem_singleton.mp hc1
      obtain ⟨nA, fA, he, hb, h⟩ := h
      refine eg_ast (t := 7) (r := (RX1, TX1, 9)) rfl rfl he he1 hb dX0_body_32 ?_
      replace h := h _ rfl
      generalize eb_up _ _ _ = g17 at h ⊢
      refine eg_iconst dX0_body_33 kc_1 ?_
      exact eg_iret dX0_body_34 hu.1 hu.2 (hP _ _ ⟨_, rfl, h⟩)
    · replace h := h.1 c18
      refine eg_bipush dX0_body_16 kb_m2 ?_
      exact eg_iret dX0_body_18 hu.1 hu.2 (hP _ _ ⟨_, rfl, h⟩)
def MX0_isMirror (Γ : eb_C) (st : eb_S) (a0 : Nat) (a1 : Int32) (a2 : Int32) (K : Int32 → Prop) : Prop :=
  MX0_isBody a1 (fun v1 => eb_br (v1 = 0) (K 0) (eb_gr st a0 0 0 (fun v5 => eb_nn v5 (fun p6 => eb_lr Γ st p6 7 a1 (fun v7 => eb_nn v7 (fun p8 => eb_gi st p8 1 0 (fun v9 => MX0_in a2 0 (v9 - 1) (fun v10 => eb_br (v10 = 0) (K 0) (K 1)))))))))
abbrev rmX0_isMirror : Room := { frames := 3, cells := 0, slots := 0, locals := 54 }
theorem nX0_isMirror : eb_ar yX0_isMirror 2 := by decide +kernel
theorem dX0_isMirror_0 : eb_dc cX0_isMirror 0 (.iload_n 1) 1 1 := by decide +kernel
theorem dX0_isMirror_1 : eb_dc cX0_isMirror 1 (.invokestatic 30) 3 4 := by decide +kernel
theorem dX0_isMirror_4 : eb_dj cX0_isMirror 4 (.ifCond .eq 26) 26 7 30 := by decide +kernel
theorem dX0_isMirror_7 : eb_dc cX0_isMirror 7 (.iload_n 2) 1 8 := by decide +kernel
theorem dX0_isMirror_8 : eb_dc cX0_isMirror 8 (.iconst 0) 1 9 := by decide +kernel
theorem dX0_isMirror_9 : eb_dc cX0_isMirror 9 (.aload_n 0) 1 10 := by decide +kernel
theorem dX0_isMirror_10 : eb_dc cX0_isMirror 10 (.getfield 15) 3 13 := by decide +kernel
theorem dX0_isMirror_13 : eb_dc cX0_isMirror 13 (.iload_n 1) 1 14 := by decide +kernel
theorem dX0_isMirror_14 : eb_dc cX0_isMirror 14 (.aaload) 1 15 := by decide +kernel
theorem dX0_isMirror_15 : eb_dc cX0_isMirror 15 (.getfield 34) 3 18 := by decide +kernel
theorem dX0_isMirror_18 : eb_dc cX0_isMirror 18 (.iconst 1) 1 19 := by decide +kernel
theorem dX0_isMirror_19 : eb_dc cX0_isMirror 19 (.isub) 1 20 := by decide +kernel
theorem dX0_isMirror_20 : eb_dc cX0_isMirror 20 (.invokestatic 26) 3 23 := by decide +kernel
theorem dX0_isMirror_23 : eb_dj cX0_isMirror 23 (.ifCond .eq 7) 7 26 30 := by decide +kernel
theorem dX0_isMirror_26 : eb_dc cX0_isMirror 26 (.iconst 1) 1 27 := by decide +kernel
theorem dX0_isMirror_27 : eb_dj cX0_isMirror 27 (.goto 4) 4 30 31 := by decide +kernel
theorem dX0_isMirror_30 : eb_dc cX0_isMirror 30 (.iconst 0) 1 31 := by decide +kernel
theorem dX0_isMirror_31 : eb_dc cX0_isMirror 31 (.ireturn) 1 32 := by decide +kernel
theorem ctX0_isMirror {l : Launch} {Γ : eb_C} {st : eb_S} {a0 : Nat} {a1 : Int32} {a2 : Int32} {K : Int32 → Prop} (h : MX0_isMirror Γ st a0 a1 a2 K) : eb_Ct l Γ yX0_isMirror cX0_isMirror 3 (some .boolean) rmX0_isMirror [.ref a0, .int a1, .int a2] st (eb_pI st K) := by
  refine eb_of (by decide) (Nat.le_of_ble_eq_true rfl) (fun X P hP hX0 => ?_)
  show eb_G l Γ P X cX0_isMirror RX0 3 (some .boolean) rmX0_isMirror 0 [(0, .ref a0), (1, .int a1), (2, .int a2)] [] st 0 0
  refine eg_iload_n 1 dX0_isMirror_0 rfl rfl ?_
  have hM0 := h
  clear h
  refine ec_SIp (rest := []) (ctX0_isBody hM0) (lw_S q182 q183 q74 q184) nX0_isBody ⟨Nat.le_of_ble_eq_true rfl, Nat.le_of_ble_eq_true rfl⟩ ⟨rfl, rfl⟩ ⟨Nat.zero_le _, Nat.zero_le _⟩ rfl rfl (Nat.le_of_ble_eq_true rfl) dX0_isMirror_1 (fun v1 h => ?_)
  clear hM0
  refine eg_if_eq dX0_isMirror_4 (fun c15 => ?_) (fun c15 => ?_)
  · replace h := h.1 c15
    refine eg_iconst dX0_isMirror_30 kc_0 ?_
    exact eg_zret dX0_isMirror_31 rfl (Nat.zero_le _) (Nat.zero_le _) (hP _ _ ⟨_, rfl, rfl, h⟩)
  · replace h := h.2 c15
    refine eg_iload_n 2 dX0_isMirror_7 rfl rfl ?_
    refine eg_iconst dX0_isMirror_8 kc_0 ?_
    refine eg_aload_n 0 dX0_isMirror_9 rfl rfl ?_
    obtain ⟨fs, v5, he, hv, h⟩ := h
    refine eg_get 0 in_X0 he rfl (Nat.le_of_ble_eq_true rfl) q159 rfl hv dX0_isMirror_10 ?_
    refine eg_iload_n 1 dX0_isMirror_13 rfl rfl ?_
    obtain ⟨p6, rfl, h⟩ := h
    obtain ⟨nA, fA, he, hb, h⟩ := h
    refine eg_aald (t := 7) (ty := .object "EvenBodies$Body") rfl rfl he hb dX0_isMirror_14 (fun v7 ev7 => ?_)
    replace h := h v7 ev7
    obtain ⟨p8, rfl, h⟩ := h
    obtain ⟨fs, v9, he, hv, h⟩ := h
    refine eg_getN 0 in_X1 he rfl (Nat.le_of_ble_eq_true rfl) (List.mem_of_getElem? (i := 1) rfl) rfl hv dX0_isMirror_15 ?_
    refine eg_iconst dX0_isMirror_18 kc_1 ?_
    refine eg_isub dX0_isMirror_19 ?_
    have hM0 := h
    clear h
    refine ec_SIp (rest := []) (ctX0_in hM0) (lw_S q185 q186 q74 q187) nX0_in ⟨Nat.le_of_ble_eq_true rfl, Nat.le_of_ble_eq_true rfl⟩ ⟨rfl, rfl⟩ ⟨Nat.zero_le _, Nat.zero_le _⟩ rfl rfl (Nat.le_of_ble_eq_true rfl) dX0_isMirror_20 (fun v10 h => ?_)
    clear hM0
    refine eg_if_eq dX0_isMirror_23 (fun c14 => ?_) (fun c14 => ?_)
    · replace h := h.1 c14
      refine eg_iconst dX0_isMirror_30 kc_0 ?_
      exact eg_zret dX0_isMirror_31 rfl (Nat.zero_le _) (Nat.zero_le _) (hP _ _ ⟨_, rfl, rfl, h⟩)
    · replace h := h.2 c14
      refine eg_iconst dX0_isMirror_26 kc_1 ?_
      refine eg_goto dX0_isMirror_27 ?_
      exact eg_zret dX0_isMirror_31 rfl (Nat.zero_le _) (Nat.zero_le _) (hP _ _ ⟨_, rfl, rfl, h⟩)
def MX1_forgets (Γ : eb_C) (st : eb_S) (a0 : Nat) (K : eb_S → Prop) : Prop :=
  eb_gr st a0 1 5 (fun v1 => eb_nn v1 (fun p2 => MJ0_fill_2 Γ st p2 (fun g4 => eb_pt g4 a0 1 7 (.null) (fun g7 => K g7))))
abbrev rmX1_forgets : Room := { frames := 2, cells := 0, slots := 0, locals := 35 }
theorem nX1_forgets : eb_ar yX1_forgets 0 := by decide +kernel
theorem dX1_forgets_0 : eb_dc cX1_forgets 0 (.aload_n 0) 1 1 := by decide +kernel
theorem dX1_forgets_1 : eb_dc cX1_forgets 1 (.getfield 21) 3 4 := by decide +kernel
theorem dX1_forgets_4 : eb_dc cX1_forgets 4 (.aconst_null) 1 5 := by decide +kernel
theorem dX1_forgets_5 : eb_dc cX1_forgets 5 (.invokestatic 56) 3 8 := by decide +kernel
theorem dX1_forgets_8 : eb_dc cX1_forgets 8 (.aload_n 0) 1 9 := by decide +kernel
theorem dX1_forgets_9 : eb_dc cX1_forgets 9 (.aconst_null) 1 10 := by decide +kernel
theorem dX1_forgets_10 : eb_dc cX1_forgets 10 (.putfield 59) 3 13 := by decide +kernel
theorem dX1_forgets_13 : eb_dc cX1_forgets 13 (.return_) 1 14 := by decide +kernel
theorem ctX1_forgets {l : Launch} {Γ : eb_C} {st : eb_S} {a0 : Nat} {K : eb_S → Prop} (h : MX1_forgets Γ st a0 K) : eb_Ct l Γ yX1_forgets cX1_forgets 1 (none) rmX1_forgets [.ref a0] st (eb_oV K) := by
  refine eb_of (by decide) (Nat.le_of_ble_eq_true rfl) (fun X P hP hX0 => ?_)
  show eb_G l Γ P X cX1_forgets RX1 1 (none) rmX1_forgets 0 [(0, .ref a0)] [] st 0 0
  refine eg_aload_n 0 dX1_forgets_0 rfl rfl ?_
  obtain ⟨fs, v1, he, hv, h⟩ := h
  refine eg_get 5 in_X1 he rfl (Nat.le_of_ble_eq_true rfl) q134 rfl hv dX1_forgets_1 ?_
  refine eg_null dX1_forgets_4 ?_
  obtain ⟨p2, rfl, h⟩ := h
  have hM0 := h
  clear h
  refine ec_SVw (rest := []) (ctJ0_fill_2 hM0) (lw_S q208 q209 q76 q210) nJ0_fill_2 ⟨Nat.le_of_ble_eq_true rfl, Nat.le_of_ble_eq_true rfl⟩ ⟨rfl, rfl⟩ ⟨Nat.zero_le _, Nat.zero_le _⟩ rfl rfl (Nat.le_of_ble_eq_true rfl) dX1_forgets_5 (fun g4 h => ?_)
  clear hM0
  refine eg_aload_n 0 dX1_forgets_8 rfl rfl ?_
  refine eg_null dX1_forgets_9 ?_
  obtain ⟨fs, he, hlen, h⟩ := h
  refine eh_put 7 in_X1 he rfl (Nat.le_of_ble_eq_true rfl) tyX1 tyX1_ok nmX1 q136 rfl rfl rfl rfl hlen dX1_forgets_10 (fun g7 eg7 => ?_)
  replace h := h g7 eg7
  exact eg_vret dX1_forgets_13 (Nat.zero_le _) (Nat.zero_le _) (hP _ _ ⟨rfl, h⟩)
def MX1_turns (Γ : eb_C) (st : eb_S) (a0 : Nat) (a1 : Int32) (a2 : Int32) (a3 : Int32) (K : Int32 → eb_S → Prop) : Prop :=
  eb_cs st a0 [1] ∧ MX1_angle Γ st a0 a1 a2 (fun v1 => eb_gr st a0 1 1 (fun v5 => eb_nn v5 (fun p6 => eb_wi Γ st p6 0 (((4 * a1) + a2)) a3 (fun g7 => eb_gr g7 a0 1 1 (fun v8 => eb_nn v8 (fun p9 => eb_wi Γ g7 p9 0 (((4 * a2) + a1)) a3 (fun g10 => eb_pt g10 a0 1 4 (.int 0) (fun g11 => eb_pt g11 a0 1 3 (.null) (fun g12 => eb_pt g12 a0 1 8 (.null) (fun g13 => eb_cs g13 a0 [1] ∧ MX1_forgets Γ g13 a0 (fun g15 => K v1 g15)))))))))))
abbrev rmX1_turns : Room := { frames := 3, cells := 0, slots := 0, locals := 55 }
theorem nX1_turns : eb_ar yX1_turns 3 := by decide +kernel
theorem dX1_turns_0 : eb_dc cX1_turns 0 (.aload_n 0) 1 1 := by decide +kernel
theorem dX1_turns_1 : eb_dc cX1_turns 1 (.iload_n 1) 1 2 := by decide +kernel
theorem dX1_turns_2 : eb_dc cX1_turns 2 (.iload_n 2) 1 3 := by decide +kernel
theorem dX1_turns_3 : eb_dc cX1_turns 3 (.invokevirtual 37) 3 6 := by decide +kernel
theorem dX1_turns_6 : eb_dc cX1_turns 6 (.istore 4) 2 8 := by decide +kernel
theorem dX1_turns_8 : eb_dc cX1_turns 8 (.aload_n 0) 1 9 := by decide +kernel
theorem dX1_turns_9 : eb_dc cX1_turns 9 (.getfield 9) 3 12 := by decide +kernel
theorem dX1_turns_12 : eb_dc cX1_turns 12 (.iconst 4) 1 13 := by decide +kernel
theorem dX1_turns_13 : eb_dc cX1_turns 13 (.iload_n 1) 1 14 := by decide +kernel
theorem dX1_turns_14 : eb_dc cX1_turns 14 (.imul) 1 15 := by decide +kernel
theorem dX1_turns_15 : eb_dc cX1_turns 15 (.iload_n 2) 1 16 := by decide +kernel
theorem dX1_turns_16 : eb_dc cX1_turns 16 (.iadd) 1 17 := by decide +kernel
theorem dX1_turns_17 : eb_dc cX1_turns 17 (.iload_n 3) 1 18 := by decide +kernel
theorem dX1_turns_18 : eb_dc cX1_turns 18 (.iastore) 1 19 := by decide +kernel
theorem dX1_turns_19 : eb_dc cX1_turns 19 (.aload_n 0) 1 20 := by decide +kernel
theorem dX1_turns_20 : eb_dc cX1_turns 20 (.getfield 9) 3 23 := by decide +kernel
theorem dX1_turns_23 : eb_dc cX1_turns 23 (.iconst 4) 1 24 := by decide +kernel
theorem dX1_turns_24 : eb_dc cX1_turns 24 (.iload_n 2) 1 25 := by decide +kernel
theorem dX1_turns_25 : eb_dc cX1_turns 25 (.imul) 1 26 := by decide +kernel
theorem dX1_turns_26 : eb_dc cX1_turns 26 (.iload_n 1) 1 27 := by decide +kernel
theorem dX1_turns_27 : eb_dc cX1_turns 27 (.iadd) 1 28 := by decide +kernel
theorem dX1_turns_28 : eb_dc cX1_turns 28 (.iload_n 3) 1 29 := by decide +kernel
theorem dX1_turns_29 : eb_dc cX1_turns 29 (.iastore) 1 30 := by decide +kernel
theorem dX1_turns_30 : eb_dc cX1_turns 30 (.aload_n 0) 1 31 := by decide +kernel
theorem dX1_turns_31 : eb_dc cX1_turns 31 (.iconst 0) 1 32 := by decide +kernel
theorem dX1_turns_32 : eb_dc cX1_turns 32 (.putfield 41) 3 35 := by decide +kernel
theorem dX1_turns_35 : eb_dc cX1_turns 35 (.aload_n 0) 1 36 := by decide +kernel
theorem dX1_turns_36 : eb_dc cX1_turns 36 (.aconst_null) 1 37 := by decide +kernel
theorem dX1_turns_37 : eb_dc cX1_turns 37 (.putfield 45) 3 40 := by decide +kernel
theorem dX1_turns_40 : eb_dc cX1_turns 40 (.aload_n 0) 1 41 := by decide +kernel
theorem dX1_turns_41 : eb_dc cX1_turns 41 (.aconst_null) 1 42 := by decide +kernel
theorem dX1_turns_42 : eb_dc cX1_turns 42 (.putfield 49) 3 45 := by decide +kernel
theorem dX1_turns_45 : eb_dc cX1_turns 45 (.aload_n 0) 1 46 := by decide +kernel
theorem dX1_turns_46 : eb_dc cX1_turns 46 (.invokevirtual 53) 3 49 := by decide +kernel
theorem dX1_turns_49 : eb_dc cX1_turns 49 (.iload 4) 2 51 := by decide +kernel
theorem dX1_turns_51 : eb_dc cX1_turns 51 (.ireturn) 1 52 := by decide +kernel
theorem ctX1_turns {l : Launch} {Γ : eb_C} {st : eb_S} {a0 : Nat} {a1 : Int32} {a2 : Int32} {a3 : Int32} {K : Int32 → eb_S → Prop} (h : MX1_turns Γ st a0 a1 a2 a3 K) : eb_Ct l Γ yX1_turns cX1_turns 5 (some .int) rmX1_turns [.ref a0, .int a1, .int a2, .int a3] st (eb_oI K) := by
  refine eb_of (by decide) (Nat.le_of_ble_eq_true rfl) (fun X P hP hX0 => ?_)
  show eb_G l Γ P X cX1_turns RX1 5 (some .int) rmX1_turns 0 [(0, .ref a0), (1, .int a1), (2, .int a2), (3, .int a3)] [] st 0 0
  refine eg_aload_n 0 dX1_turns_0 rfl rfl ?_
  refine eg_iload_n 1 dX1_turns_1 rfl rfl ?_
  refine eg_iload_n 2 dX1_turns_2 rfl rfl ?_
  obtain ⟨hcs, h⟩ := h
  have hM0 := h
  clear h
  refine ec_VIp (rest := []) (ctX1_angle hM0) (lw_V q200 q201 q202 q75 q203) rfl rfl hcs nX1_angle ⟨Nat.le_of_ble_eq_true rfl, Nat.le_of_ble_eq_true rfl⟩ ⟨rfl, rfl⟩ ⟨Nat.zero_le _, Nat.zero_le _⟩ rfl rfl (Nat.le_of_ble_eq_true rfl) dX1_turns_3 (fun v1 h => ?_)
  clear hM0
  refine eg_istore (lv' := [(4, .int v1), (0, .ref a0), (1, .int a1), (2, .int a2), (3, .int a3)]) dX1_turns_6 (Nat.le_of_ble_eq_true rfl) rfl ?_
  refine eg_aload_n 1 dX1_turns_8 rfl rfl ?_
  obtain ⟨fs, v5, he, hv, h⟩ := h
  refine eg_get 1 in_X1 he rfl (Nat.le_of_ble_eq_true rfl) q123 rfl hv dX1_turns_9 ?_
  refine eg_iconst dX1_turns_12 kc_4 ?_
  refine eg_iload_n 2 dX1_turns_13 rfl rfl ?_
  refine eg_imul dX1_turns_14 ?_
  refine eg_iload_n 3 dX1_turns_15 rfl rfl ?_
  refine eg_iadd dX1_turns_16 ?_
  refine eg_iload_n 4 dX1_turns_17 rfl rfl ?_
  obtain ⟨p6, rfl, h⟩ := h
  obtain ⟨nA, fA, he, hb, h⟩ := h
  refine eh_iast he hb dX1_turns_18 (fun g7 eg7 => ?_)
  replace h := h g7 eg7
  refine eg_aload_n 1 dX1_turns_19 rfl rfl ?_
  obtain ⟨fs, v8, he, hv, h⟩ := h
  refine eg_get 1 in_X1 he rfl (Nat.le_of_ble_eq_true rfl) q123 rfl hv dX1_turns_20 ?_
  refine eg_iconst dX1_turns_23 kc_4 ?_
  refine eg_iload_n 3 dX1_turns_24 rfl rfl ?_
  refine eg_imul dX1_turns_25 ?_
  refine eg_iload_n 2 dX1_turns_26 rfl rfl ?_
  refine eg_iadd dX1_turns_27 ?_
  refine eg_iload_n 4 dX1_turns_28 rfl rfl ?_
  obtain ⟨p9, rfl, h⟩ := h
  obtain ⟨nA, fA, he, hb, h⟩ := h
  refine eh_iast he hb dX1_turns_29 (fun g10 eg10 => ?_)
  replace h := h g10 eg10
  refine eg_aload_n 1 dX1_turns_30 rfl rfl ?_
  refine eg_iconst dX1_turns_31 kc_0 ?_
  obtain ⟨fs, he, hlen, h⟩ := h
  refine eh_put 4 in_X1 he rfl (Nat.le_of_ble_eq_true rfl) tyX1 tyX1_ok nmX1 q133 rfl rfl rfl rfl hlen dX1_turns_32 (fun g11 eg11 => ?_)
  replace h := h g11 eg11
  refine eg_aload_n 1 dX1_turns_35 rfl rfl ?_
  refine eg_null dX1_turns_36 ?_
  obtain ⟨fs, he, hlen, h⟩ := h
  refine eh_put 3 in_X1 he rfl (Nat.le_of_ble_eq_true rfl) tyX1 tyX1_ok nmX1 q131 rfl rfl rfl rfl hlen dX1_turns_37 (fun g12 eg12 => ?_)
  replace h := h g12 eg12
  refine eg_aload_n 1 dX1_turns_40 rfl rfl ?_
  refine eg_null dX1_turns_41 ?_
  obtain ⟨fs, he, hlen, h⟩ := h
  refine eh_put 8 in_X1 he rfl (Nat.le_of_ble_eq_true rfl) tyX1 tyX1_ok nmX1 q137 rfl rfl rfl rfl hlen dX1_turns_42 (fun g13 eg13 => ?_)
  replace h := h g13 eg13
  refine eg_aload_n 1 dX1_turns_45 rfl rfl ?_
  obtain ⟨hcs, h⟩ := h
  have hM0 := h
  clear h
  refine ec_VVw (rest := []) (ctX1_forgets hM0) (lw_V q204 q205 q206 q75 q207) rfl rfl hcs nX1_forgets ⟨Nat.le_of_ble_eq_true rfl, Nat.le_of_ble_eq_true rfl⟩ ⟨rfl, rfl⟩ ⟨Nat.zero_le _, Nat.zero_le _⟩ rfl rfl (Nat.le_of_ble_eq_true rfl) dX1_turns_46 (fun g15 h => ?_)
  clear hM0
  refine eg_iload 0 dX1_turns_49 rfl ?_
  exact eg_iret dX1_turns_51 (Nat.zero_le _) (Nat.zero_le _) (hP _ _ ⟨_, rfl, h⟩)
def MX0_angle (Γ : eb_C) (st : eb_S) (a0 : Nat) (a1 : Int32) (a2 : Int32) (a3 : Int32) (a4 : Int32) (K : Int32 → eb_S → Prop) : Prop :=
  eb_cs st a0 [0] ∧ MX0_isMirror Γ st a0 a1 a2 (fun v1 => eb_jp0 (K (-2) st) (fun k5 => eb_br (v1 = 0) (k5) (eb_cs st a0 [0] ∧ MX0_isMirror Γ st a0 a1 a3 (fun v6 => eb_br (v6 = 0) (k5) (eb_br (a2 = a3) (k5) (MX0_in a4 2 6 (fun v10 => eb_br (v10 = 0) (k5) (eb_gr st a0 0 0 (fun v14 => eb_nn v14 (fun p15 => eb_lr Γ st p15 7 a1 (fun v16 => eb_nn v16 (fun p17 => eb_cs st p17 [1] ∧ MX1_turns Γ st p17 a2 a3 a4 (fun v18 g19 => K v18 g19)))))))))))))
abbrev rmX0_angle : Room := { frames := 4, cells := 0, slots := 0, locals := 79 }
theorem nX0_angle : eb_ar yX0_angle 4 := by decide +kernel
theorem dX0_angle_0 : eb_dc cX0_angle 0 (.aload_n 0) 1 1 := by decide +kernel
theorem dX0_angle_1 : eb_dc cX0_angle 1 (.iload_n 1) 1 2 := by decide +kernel
theorem dX0_angle_2 : eb_dc cX0_angle 2 (.iload_n 2) 1 3 := by decide +kernel
theorem dX0_angle_3 : eb_dc cX0_angle 3 (.invokevirtual 38) 3 6 := by decide +kernel
theorem dX0_angle_6 : eb_dj cX0_angle 6 (.ifCond .eq 44) 44 9 50 := by decide +kernel
theorem dX0_angle_9 : eb_dc cX0_angle 9 (.aload_n 0) 1 10 := by decide +kernel
theorem dX0_angle_10 : eb_dc cX0_angle 10 (.iload_n 1) 1 11 := by decide +kernel
theorem dX0_angle_11 : eb_dc cX0_angle 11 (.iload_n 3) 1 12 := by decide +kernel
theorem dX0_angle_12 : eb_dc cX0_angle 12 (.invokevirtual 38) 3 15 := by decide +kernel
theorem dX0_angle_15 : eb_dj cX0_angle 15 (.ifCond .eq 35) 35 18 50 := by decide +kernel
theorem dX0_angle_18 : eb_dc cX0_angle 18 (.iload_n 2) 1 19 := by decide +kernel
theorem dX0_angle_19 : eb_dc cX0_angle 19 (.iload_n 3) 1 20 := by decide +kernel
theorem dX0_angle_20 : eb_dj cX0_angle 20 (.if_icmp .eq 30) 30 23 50 := by decide +kernel
theorem dX0_angle_23 : eb_dc cX0_angle 23 (.iload 4) 2 25 := by decide +kernel
theorem dX0_angle_25 : eb_dc cX0_angle 25 (.iconst 2) 1 26 := by decide +kernel
theorem dX0_angle_26 : eb_dc cX0_angle 26 (.bipush 6) 2 28 := by decide +kernel
theorem dX0_angle_28 : eb_dc cX0_angle 28 (.invokestatic 26) 3 31 := by decide +kernel
theorem dX0_angle_31 : eb_dj cX0_angle 31 (.ifCond .eq 19) 19 34 50 := by decide +kernel
theorem dX0_angle_34 : eb_dc cX0_angle 34 (.aload_n 0) 1 35 := by decide +kernel
theorem dX0_angle_35 : eb_dc cX0_angle 35 (.getfield 15) 3 38 := by decide +kernel
theorem dX0_angle_38 : eb_dc cX0_angle 38 (.iload_n 1) 1 39 := by decide +kernel
theorem dX0_angle_39 : eb_dc cX0_angle 39 (.aaload) 1 40 := by decide +kernel
theorem dX0_angle_40 : eb_dc cX0_angle 40 (.iload_n 2) 1 41 := by decide +kernel
theorem dX0_angle_41 : eb_dc cX0_angle 41 (.iload_n 3) 1 42 := by decide +kernel
theorem dX0_angle_42 : eb_dc cX0_angle 42 (.iload 4) 2 44 := by decide +kernel
theorem dX0_angle_44 : eb_dc cX0_angle 44 (.invokevirtual 42) 3 47 := by decide +kernel
theorem dX0_angle_47 : eb_dj cX0_angle 47 (.goto 5) 5 50 52 := by decide +kernel
theorem dX0_angle_50 : eb_dc cX0_angle 50 (.bipush (-2)) 2 52 := by decide +kernel
theorem dX0_angle_52 : eb_dc cX0_angle 52 (.ireturn) 1 53 := by decide +kernel
theorem ctX0_angle {l : Launch} {Γ : eb_C} {st : eb_S} {a0 : Nat} {a1 : Int32} {a2 : Int32} {a3 : Int32} {a4 : Int32} {K : Int32 → eb_S → Prop} (h : MX0_angle Γ st a0 a1 a2 a3 a4 K) : eb_Ct l Γ yX0_angle cX0_angle 5 (some .int) rmX0_angle [.ref a0, .int a1, .int a2, .int a3, .int a4] st (eb_oI K) := by
  refine eb_of (by decide) (Nat.le_of_ble_eq_true rfl) (fun X P hP hX0 => ?_)
  show eb_G l Γ P X cX0_angle RX0 5 (some .int) rmX0_angle 0 [(0, .ref a0), (1, .int a1), (2, .int a2), (3, .int a3), (4, .int a4)] [] st 0 0
  refine eg_aload_n 0 dX0_angle_0 rfl rfl ?_
  refine eg_iload_n 1 dX0_angle_1 rfl rfl ?_
  refine eg_iload_n 2 dX0_angle_2 rfl rfl ?_
  obtain ⟨hcs, h⟩ := h
  have hM0 := h
  clear h
  refine ec_VIp (rest := []) (ctX0_isMirror hM0) (lw_V q192 q194 qs0 q74 q195) rfl rfl hcs nX0_isMirror ⟨Nat.le_of_ble_eq_true rfl, Nat.le_of_ble_eq_true rfl⟩ ⟨rfl, rfl⟩ ⟨Nat.zero_le _, Nat.zero_le _⟩ rfl rfl (Nat.le_of_ble_eq_true rfl) dX0_angle_3 (fun v1 h => ?_)
  clear hM0
  refine eb_jp0_e (J := eb_G l Γ P X cX0_angle RX0 5 (some .int) rmX0_angle 50 [] [] st 0 0) h ?_ ?_
  · clear h
    intro  h
    refine eg_bipush dX0_angle_50 kb_m2 ?_
    exact eg_iret dX0_angle_52 (Nat.zero_le _) (Nat.zero_le _) (hP _ _ ⟨_, rfl, h⟩)
  · clear h
    intro k5 hk5 h
    refine eg_if_eq dX0_angle_6 (fun c25 => ?_) (fun c25 => ?_)
    · replace h := h.1 c25
      exact eg_sub [] rfl (hk5 h)
    · replace h := h.2 c25
      refine eg_aload_n 0 dX0_angle_9 rfl rfl ?_
      refine eg_iload_n 1 dX0_angle_10 rfl rfl ?_
      refine eg_iload_n 3 dX0_angle_11 rfl rfl ?_
      obtain ⟨hcs, h⟩ := h
      have hM0 := h
      clear h
      refine ec_VIp (rest := []) (ctX0_isMirror hM0) (lw_V q192 q194 qs0 q74 q195) rfl rfl hcs nX0_isMirror ⟨Nat.le_of_ble_eq_true rfl, Nat.le_of_ble_eq_true rfl⟩ ⟨rfl, rfl⟩ ⟨Nat.zero_le _, Nat.zero_le _⟩ rfl rfl (Nat.le_of_ble_eq_true rfl) dX0_angle_12 (fun v6 h => ?_)
      clear hM0
      refine eg_if_eq dX0_angle_15 (fun c24 => ?_) (fun c24 => ?_)
      · replace h := h.1 c24
        exact eg_sub [] rfl (hk5 h)
      · replace h := h.2 c24
        refine eg_iload_n 2 dX0_angle_18 rfl rfl ?_
        refine eg_iload_n 3 dX0_angle_19 rfl rfl ?_
        refine eg_icmp_eq dX0_angle_20 (fun c23 => ?_) (fun c23 => ?_)
        · replace h := h.1 c23
          exact eg_sub [] rfl (hk5 h)
        · replace h := h.2 c23
          refine eg_iload 4 dX0_angle_23 rfl ?_
          refine eg_iconst dX0_angle_25 kc_2 ?_
          refine eg_bipush dX0_angle_26 kb_6 ?_
          have hM0 := h
          clear h
          refine ec_SIp (rest := []) (ctX0_in hM0) (lw_S q185 q186 q74 q187) nX0_in ⟨Nat.le_of_ble_eq_true rfl, Nat.le_of_ble_eq_true rfl⟩ ⟨rfl, rfl⟩ ⟨Nat.zero_le _, Nat.zero_le _⟩ rfl rfl (Nat.le_of_ble_eq_true rfl) dX0_angle_28 (fun v10 h => ?_)
          clear hM0
          refine eg_if_eq dX0_angle_31 (fun c22 => ?_) (fun c22 => ?_)
          · replace h := h.1 c22
            exact eg_sub [] rfl (hk5 h)
          · replace h := h.2 c22
            refine eg_aload_n 0 dX0_angle_34 rfl rfl ?_
            obtain ⟨fs, v14, he, hv, h⟩ := h
            refine eg_get 0 in_X0 he rfl (Nat.le_of_ble_eq_true rfl) q159 rfl hv dX0_angle_35 ?_
            refine eg_iload_n 1 dX0_angle_38 rfl rfl ?_
            obtain ⟨p15, rfl, h⟩ := h
            obtain ⟨nA, fA, he, hb, h⟩ := h
            refine eg_aald (t := 7) (ty := .object "EvenBodies$Body") rfl rfl he hb dX0_angle_39 (fun v16 ev16 => ?_)
            replace h := h v16 ev16
            refine eg_iload_n 2 dX0_angle_40 rfl rfl ?_
            refine eg_iload_n 3 dX0_angle_41 rfl rfl ?_
            refine eg_iload 4 dX0_angle_42 rfl ?_
            obtain ⟨p17, rfl, h⟩ := h
            obtain ⟨hcs, h⟩ := h
            have hM0 := h
            clear h
            refine ec_VIw (rest := []) (ctX1_turns hM0) (lw_V q196 q197 q198 q75 q199) rfl rfl hcs nX1_turns ⟨Nat.le_of_ble_eq_true rfl, Nat.le_of_ble_eq_true rfl⟩ ⟨rfl, rfl⟩ ⟨Nat.zero_le _, Nat.zero_le _⟩ rfl rfl (Nat.le_of_ble_eq_true rfl) dX0_angle_44 (fun v18 g19 h => ?_)
            clear hM0
            refine eg_goto dX0_angle_47 ?_
            exact eg_iret dX0_angle_52 (Nat.zero_le _) (Nat.zero_le _) (hP _ _ ⟨_, rfl, h⟩)
def MX1_all (Γ : eb_C) (st : eb_S) (a0 : Nat) (K : Int32 → Prop) : Prop :=
  eb_gi st a0 1 0 (fun v1 => K (((eb_shl 1 v1) - 1)))
abbrev rmX1_all : Room := { frames := 1, cells := 0, slots := 0, locals := 12 }
theorem nX1_all : eb_ar yX1_all 0 := by decide +kernel
theorem dX1_all_0 : eb_dc cX1_all 0 (.iconst 1) 1 1 := by decide +kernel
theorem dX1_all_1 : eb_dc cX1_all 1 (.aload_n 0) 1 2 := by decide +kernel
theorem dX1_all_2 : eb_dc cX1_all 2 (.getfield 28) 3 5 := by decide +kernel
theorem dX1_all_5 : eb_dc cX1_all 5 (.ishl) 1 6 := by decide +kernel
theorem dX1_all_6 : eb_dc cX1_all 6 (.iconst 1) 1 7 := by decide +kernel
theorem dX1_all_7 : eb_dc cX1_all 7 (.isub) 1 8 := by decide +kernel
theorem dX1_all_8 : eb_dc cX1_all 8 (.ireturn) 1 9 := by decide +kernel
theorem ctX1_all {l : Launch} {Γ : eb_C} {st : eb_S} {a0 : Nat} {K : Int32 → Prop} (h : MX1_all Γ st a0 K) : eb_Ct l Γ yX1_all cX1_all 1 (some .int) rmX1_all [.ref a0] st (eb_pI st K) := by
  refine eb_of (by decide) (Nat.le_of_ble_eq_true rfl) (fun X P hP hX0 => ?_)
  show eb_G l Γ P X cX1_all RX1 1 (some .int) rmX1_all 0 [(0, .ref a0)] [] st 0 0
  refine eg_iconst dX1_all_0 kc_1 ?_
  refine eg_aload_n 0 dX1_all_1 rfl rfl ?_
  obtain ⟨fs, v1, he, hv, h⟩ := h
  refine eg_get 0 in_X1 he rfl (Nat.le_of_ble_eq_true rfl) q120 rfl hv dX1_all_2 ?_
  refine eg_ishl dX1_all_5 ?_
  refine eg_iconst dX1_all_6 kc_1 ?_
  refine eg_isub dX1_all_7 ?_
  exact eg_iret dX1_all_8 (Nat.zero_le _) (Nat.zero_le _) (hP _ _ ⟨_, rfl, rfl, h⟩)
def MX0_ring (Γ : eb_C) (st : eb_S) (a0 : Nat) (a1 : Int32) (a2 : Int32) (K : Int32 → eb_S → Prop) : Prop :=
  MX0_isBody a1 (fun v1 => eb_br (v1 = 0) (K (-2) st) (eb_gr st a0 0 0 (fun v5 => eb_nn v5 (fun p6 => eb_lr Γ st p6 7 a1 (fun v7 => eb_nn v7 (fun p8 => eb_cs st p8 [1] ∧ MX1_all Γ st p8 (fun v9 => MX0_in a2 1 v9 (fun v13 => eb_br (v13 = 0) (K (-2) st) (eb_gr st a0 0 0 (fun v17 => eb_nn v17 (fun p18 => eb_lr Γ st p18 7 a1 (fun v19 => eb_nn v19 (fun p20 => eb_gi st p20 1 2 (fun v21 => eb_gr st a0 0 0 (fun v22 => eb_nn v22 (fun p23 => eb_lr Γ st p23 7 a1 (fun v24 => eb_nn v24 (fun p25 => eb_pt st p25 1 2 (.int a2) (fun g26 => eb_gr g26 a0 0 0 (fun v27 => eb_nn v27 (fun p28 => eb_lr Γ g26 p28 7 a1 (fun v29 => eb_nn v29 (fun p30 => eb_cs g26 p30 [1] ∧ MX1_forgets Γ g26 p30 (fun g32 => K v21 g32))))))))))))))))))))))))
abbrev rmX0_ring : Room := { frames := 3, cells := 0, slots := 0, locals := 55 }
theorem nX0_ring : eb_ar yX0_ring 2 := by decide +kernel
theorem dX0_ring_0 : eb_dc cX0_ring 0 (.iload_n 1) 1 1 := by decide +kernel
theorem dX0_ring_1 : eb_dc cX0_ring 1 (.invokestatic 30) 3 4 := by decide +kernel
theorem dX0_ring_4 : eb_dj cX0_ring 4 (.ifCond .eq 20) 20 7 24 := by decide +kernel
theorem dX0_ring_7 : eb_dc cX0_ring 7 (.iload_n 2) 1 8 := by decide +kernel
theorem dX0_ring_8 : eb_dc cX0_ring 8 (.iconst 1) 1 9 := by decide +kernel
theorem dX0_ring_9 : eb_dc cX0_ring 9 (.aload_n 0) 1 10 := by decide +kernel
theorem dX0_ring_10 : eb_dc cX0_ring 10 (.getfield 15) 3 13 := by decide +kernel
theorem dX0_ring_13 : eb_dc cX0_ring 13 (.iload_n 1) 1 14 := by decide +kernel
theorem dX0_ring_14 : eb_dc cX0_ring 14 (.aaload) 1 15 := by decide +kernel
theorem dX0_ring_15 : eb_dc cX0_ring 15 (.invokevirtual 46) 3 18 := by decide +kernel
theorem dX0_ring_18 : eb_dc cX0_ring 18 (.invokestatic 26) 3 21 := by decide +kernel
theorem dX0_ring_21 : eb_dj cX0_ring 21 (.ifCond .ne 6) 6 24 27 := by decide +kernel
theorem dX0_ring_24 : eb_dc cX0_ring 24 (.bipush (-2)) 2 26 := by decide +kernel
theorem dX0_ring_26 : eb_dc cX0_ring 26 (.ireturn) 1 27 := by decide +kernel
theorem dX0_ring_27 : eb_dc cX0_ring 27 (.aload_n 0) 1 28 := by decide +kernel
theorem dX0_ring_28 : eb_dc cX0_ring 28 (.getfield 15) 3 31 := by decide +kernel
theorem dX0_ring_31 : eb_dc cX0_ring 31 (.iload_n 1) 1 32 := by decide +kernel
theorem dX0_ring_32 : eb_dc cX0_ring 32 (.aaload) 1 33 := by decide +kernel
theorem dX0_ring_33 : eb_dc cX0_ring 33 (.getfield 50) 3 36 := by decide +kernel
theorem dX0_ring_36 : eb_dc cX0_ring 36 (.istore_n 3) 1 37 := by decide +kernel
theorem dX0_ring_37 : eb_dc cX0_ring 37 (.aload_n 0) 1 38 := by decide +kernel
theorem dX0_ring_38 : eb_dc cX0_ring 38 (.getfield 15) 3 41 := by decide +kernel
theorem dX0_ring_41 : eb_dc cX0_ring 41 (.iload_n 1) 1 42 := by decide +kernel
theorem dX0_ring_42 : eb_dc cX0_ring 42 (.aaload) 1 43 := by decide +kernel
theorem dX0_ring_43 : eb_dc cX0_ring 43 (.iload_n 2) 1 44 := by decide +kernel
theorem dX0_ring_44 : eb_dc cX0_ring 44 (.putfield 50) 3 47 := by decide +kernel
theorem dX0_ring_47 : eb_dc cX0_ring 47 (.aload_n 0) 1 48 := by decide +kernel
theorem dX0_ring_48 : eb_dc cX0_ring 48 (.getfield 15) 3 51 := by decide +kernel
theorem dX0_ring_51 : eb_dc cX0_ring 51 (.iload_n 1) 1 52 := by decide +kernel
theorem dX0_ring_52 : eb_dc cX0_ring 52 (.aaload) 1 53 := by decide +kernel
theorem dX0_ring_53 : eb_dc cX0_ring 53 (.invokevirtual 53) 3 56 := by decide +kernel
theorem dX0_ring_56 : eb_dc cX0_ring 56 (.iload_n 3) 1 57 := by decide +kernel
theorem dX0_ring_57 : eb_dc cX0_ring 57 (.ireturn) 1 58 := by decide +kernel
theorem ctX0_ring {l : Launch} {Γ : eb_C} {st : eb_S} {a0 : Nat} {a1 : Int32} {a2 : Int32} {K : Int32 → eb_S → Prop} (h : MX0_ring Γ st a0 a1 a2 K) : eb_Ct l Γ yX0_ring cX0_ring 4 (some .int) rmX0_ring [.ref a0, .int a1, .int a2] st (eb_oI K) := by
  refine eb_of (by decide) (Nat.le_of_ble_eq_true rfl) (fun X P hP hX0 => ?_)
  show eb_G l Γ P X cX0_ring RX0 4 (some .int) rmX0_ring 0 [(0, .ref a0), (1, .int a1), (2, .int a2)] [] st 0 0
  refine eg_iload_n 1 dX0_ring_0 rfl rfl ?_
  have hM0 := h
  clear h
  refine ec_SIp (rest := []) (ctX0_isBody hM0) (lw_S q182 q183 q74 q184) nX0_isBody ⟨Nat.le_of_ble_eq_true rfl, Nat.le_of_ble_eq_true rfl⟩ ⟨rfl, rfl⟩ ⟨Nat.zero_le _, Nat.zero_le _⟩ rfl rfl (Nat.le_of_ble_eq_true rfl) dX0_ring_1 (fun v1 h => ?_)
  clear hM0
  refine eg_if_eq dX0_ring_4 (fun c36 => ?_) (fun c36 => ?_)
  · replace h := h.1 c36
    refine eg_bipush dX0_ring_24 kb_m2 ?_
    exact eg_iret dX0_ring_26 (Nat.zero_le _) (Nat.zero_le _) (hP _ _ ⟨_, rfl, h⟩)
  · replace h := h.2 c36
    refine eg_iload_n 2 dX0_ring_7 rfl rfl ?_
    refine eg_iconst dX0_ring_8 kc_1 ?_
    refine eg_aload_n 0 dX0_ring_9 rfl rfl ?_
    obtain ⟨fs, v5, he, hv, h⟩ := h
    refine eg_get 0 in_X0 he rfl (Nat.le_of_ble_eq_true rfl) q159 rfl hv dX0_ring_10 ?_
    refine eg_iload_n 1 dX0_ring_13 rfl rfl ?_
    obtain ⟨p6, rfl, h⟩ := h
    obtain ⟨nA, fA, he, hb, h⟩ := h
    refine eg_aald (t := 7) (ty := .object "EvenBodies$Body") rfl rfl he hb dX0_ring_14 (fun v7 ev7 => ?_)
    replace h := h v7 ev7
    obtain ⟨p8, rfl, h⟩ := h
    obtain ⟨hcs, h⟩ := h
    have hM0 := h
    clear h
    refine ec_VIp (rest := [.int 1, .int a2]) (ctX1_all hM0) (lw_V q215 q216 q217 q75 q218) rfl rfl hcs nX1_all ⟨Nat.le_of_ble_eq_true rfl, Nat.le_of_ble_eq_true rfl⟩ ⟨rfl, rfl⟩ ⟨Nat.zero_le _, Nat.zero_le _⟩ rfl rfl (Nat.le_of_ble_eq_true rfl) dX0_ring_15 (fun v9 h => ?_)
    clear hM0
    have hM0 := h
    clear h
    refine ec_SIp (rest := []) (ctX0_in hM0) (lw_S q185 q186 q74 q187) nX0_in ⟨Nat.le_of_ble_eq_true rfl, Nat.le_of_ble_eq_true rfl⟩ ⟨rfl, rfl⟩ ⟨Nat.zero_le _, Nat.zero_le _⟩ rfl rfl (Nat.le_of_ble_eq_true rfl) dX0_ring_18 (fun v13 h => ?_)
    clear hM0
    refine eg_if_ne dX0_ring_21 (fun c35 => ?_) (fun c35 => ?_)
    · replace h := h.2 c35
      refine eg_aload_n 0 dX0_ring_27 rfl rfl ?_
      obtain ⟨fs, v17, he, hv, h⟩ := h
      refine eg_get 0 in_X0 he rfl (Nat.le_of_ble_eq_true rfl) q159 rfl hv dX0_ring_28 ?_
      refine eg_iload_n 1 dX0_ring_31 rfl rfl ?_
      obtain ⟨p18, rfl, h⟩ := h
      obtain ⟨nA, fA, he, hb, h⟩ := h
      refine eg_aald (t := 7) (ty := .object "EvenBodies$Body") rfl rfl he hb dX0_ring_32 (fun v19 ev19 => ?_)
      replace h := h v19 ev19
      obtain ⟨p20, rfl, h⟩ := h
      obtain ⟨fs, v21, he, hv, h⟩ := h
      refine eg_getN 2 in_X1 he rfl (Nat.le_of_ble_eq_true rfl) (List.mem_of_getElem? (i := 3) rfl) rfl hv dX0_ring_33 ?_
      refine eg_istore_n (lv' := [(3, .int v21), (0, .ref a0), (1, .int a1), (2, .int a2)]) dX0_ring_36 rfl (Nat.le_of_ble_eq_true rfl) rfl ?_
      refine eg_aload_n 1 dX0_ring_37 rfl rfl ?_
      obtain ⟨fs, v22, he, hv, h⟩ := h
      refine eg_get 0 in_X0 he rfl (Nat.le_of_ble_eq_true rfl) q159 rfl hv dX0_ring_38 ?_
      refine eg_iload_n 2 dX0_ring_41 rfl rfl ?_
      obtain ⟨p23, rfl, h⟩ := h
      obtain ⟨nA, fA, he, hb, h⟩ := h
      refine eg_aald (t := 7) (ty := .object "EvenBodies$Body") rfl rfl he hb dX0_ring_42 (fun v24 ev24 => ?_)
      replace h := h v24 ev24
      refine eg_iload_n 3 dX0_ring_43 rfl rfl ?_
      obtain ⟨p25, rfl, h⟩ := h
      obtain ⟨fs, he, hlen, h⟩ := h
      refine eh_putN 2 in_X1 he rfl (Nat.le_of_ble_eq_true rfl) tyX1 tyX1_ok nmX1 (List.mem_of_getElem? (i := 3) rfl) rfl rfl rfl rfl hlen dX0_ring_44 (fun g26 eg26 => ?_)
      replace h := h g26 eg26
      refine eg_aload_n 1 dX0_ring_47 rfl rfl ?_
      obtain ⟨fs, v27, he, hv, h⟩ := h
      refine eg_get 0 in_X0 he rfl (Nat.le_of_ble_eq_true rfl) q159 rfl hv dX0_ring_48 ?_
      refine eg_iload_n 2 dX0_ring_51 rfl rfl ?_
      obtain ⟨p28, rfl, h⟩ := h
      obtain ⟨nA, fA, he, hb, h⟩ := h
      refine eg_aald (t := 7) (ty := .object "EvenBodies$Body") rfl rfl he hb dX0_ring_52 (fun v29 ev29 => ?_)
      replace h := h v29 ev29
      obtain ⟨p30, rfl, h⟩ := h
      obtain ⟨hcs, h⟩ := h
      have hM0 := h
      clear h
      refine ec_VVw (rest := []) (ctX1_forgets hM0) (lw_V q219 q205 q206 q75 q207) rfl rfl hcs nX1_forgets ⟨Nat.le_of_ble_eq_true rfl, Nat.le_of_ble_eq_true rfl⟩ ⟨rfl, rfl⟩ ⟨Nat.zero_le _, Nat.zero_le _⟩ rfl rfl (Nat.le_of_ble_eq_true rfl) dX0_ring_53 (fun g32 h => ?_)
      clear hM0
      refine eg_iload_n 0 dX0_ring_56 rfl rfl ?_
      exact eg_iret dX0_ring_57 (Nat.zero_le _) (Nat.zero_le _) (hP _ _ ⟨_, rfl, h⟩)
    · replace h := h.1 c35
      refine eg_bipush dX0_ring_24 kb_m2 ?_
      exact eg_iret dX0_ring_26 (Nat.zero_le _) (Nat.zero_le _) (hP _ _ ⟨_, rfl, h⟩)
def MX0_order (Γ : eb_C) (bc bs : Nat) (st : eb_S) (a0 : Nat) (a1 : Int32) (a2 : Int32) (a3 : Int32) (K : Int32 → eb_S → Prop) : Prop :=
  MX0_isBody a1 (fun v1 => eb_br (v1 = 0) (K (-2) st) (MX0_isBody a3 (fun v5 => eb_br (v5 = 0) (K (-2) st) (eb_br (0 ≤ a2) (eb_gr st a0 0 0 (fun v9 => eb_nn v9 (fun p10 => eb_lr Γ st p10 7 a1 (fun v11 => eb_nn v11 (fun p12 => eb_gi st p12 1 0 (fun v13 => eb_ok1 v13 ∧ (eb_mk st (eb_ia Γ 0 (v13.toNatClampNeg) (fun _ => 0)) (v13.toNatClampNeg) bc bs 0 0 (fun p14 g15 => eb_jp3 (fun (x7_16 : Int32) (x8_17 : Int32) (g18 : eb_S) => eb_br (x7_16 = 0) (eb_cs g18 p12 [1] ∧ MX1_all Γ g18 p12 (fun v19 => eb_br (x8_17 = v19) (eb_mk g18 (.inr (1, [.int 0, .null, .int 0, .null, .int 0, .null, .null, .null, .null])) 9 bc bs (0 + 1) ((0 + (v13.toNatClampNeg))) (fun p23 g24 => ∃ c27 s28 : Nat, ((((0 + 1) + 1)) + c27 ≤ bc ∧ (((0 + (v13.toNatClampNeg)) + 9)) + s28 ≤ bs) ∧ MX1_init Γ c27 s28 g24 p23 v13 (fun g26 => eb_pt g26 p23 1 2 (.int 0) (fun g29 => eb_jp1 (fun (g30 : eb_S) => eb_gr g30 a0 0 0 (fun v31 => eb_nn v31 (fun p32 => eb_cs g30 p23 [1] ∧ (eb_wr Γ g30 p32 7 a3 (some p23) (fun g33 => K 1 g33))))) (fun k34 => eb_loop2 (fun r37 (x10_35 : Int32) (g36 : eb_S) => eb_br (v13 ≤ x10_35) (k34 g36) (eb_gi g36 p23 1 2 (fun v38 => eb_gi g36 p12 1 2 (fun v39 => eb_li Γ g36 p14 0 x10_35 (fun v40 => eb_pt g36 p23 1 2 (.int (v38 ||| (eb_shl (((eb_shr v39 v40) &&& 1)) x10_35))) (fun g41 => eb_jp1 (fun (g42 : eb_S) => r37 (x10_35 + 1) g42) (fun k43 => eb_loop2 (fun r46 (x11_44 : Int32) (g45 : eb_S) => eb_br (v13 ≤ x11_44) (k43 g45) (eb_gr g45 p23 1 1 (fun v47 => eb_li Γ g45 p14 0 x10_35 (fun v48 => eb_li Γ g45 p14 0 x11_44 (fun v49 => eb_cs g45 p12 [1] ∧ MX1_angle Γ g45 p12 v48 v49 (fun v50 => eb_nn v47 (fun p54 => eb_wi Γ g45 p54 0 (((4 * x10_35) + x11_44)) v50 (fun g55 => r46 (x11_44 + 1) g55)))))))) 0 g41))))))) 0 g29))))) (K (-2) g18))) (K (-2) g18)) (fun k60 => eb_loop4 (fun r65 (x7_61 : Int32) (x8_62 : Int32) (x9_63 : Int32) (g64 : eb_S) => eb_br (x9_63 < 0) (k60 x7_61 x8_62 g64) (eb_wi Γ g64 p14 0 x9_63 (eb_rem x7_61 10) (fun g66 => eb_li Γ g66 p14 0 x9_63 (fun v67 => eb_jp1 (fun (s68 : Int32) => r65 (x7_61 / 10) (x8_62 ||| s68) ((x9_63 + (-1))) g66) (fun k69 => eb_br (v13 ≤ v67) (k69 0) (eb_li Γ g66 p14 0 x9_63 (fun v70 => k69 (eb_shl 1 v70)))))))) a2 0 (v13 - 1) g15))))))))) (K (-2) st)))))
abbrev rmX0_order (bc bs : Nat) : Room := { frames := 3, cells := bc, slots := bs, locals := 61 }
theorem nX0_order : eb_ar yX0_order 3 := by decide +kernel
theorem dX0_order_0 : eb_dc cX0_order 0 (.iload_n 1) 1 1 := by decide +kernel
theorem dX0_order_1 : eb_dc cX0_order 1 (.invokestatic 30) 3 4 := by decide +kernel
theorem dX0_order_4 : eb_dj cX0_order 4 (.ifCond .eq 14) 14 7 18 := by decide +kernel
theorem dX0_order_7 : eb_dc cX0_order 7 (.iload_n 3) 1 8 := by decide +kernel
theorem dX0_order_8 : eb_dc cX0_order 8 (.invokestatic 30) 3 11 := by decide +kernel
theorem dX0_order_11 : eb_dj cX0_order 11 (.ifCond .eq 7) 7 14 18 := by decide +kernel
theorem dX0_order_14 : eb_dc cX0_order 14 (.iload_n 2) 1 15 := by decide +kernel
theorem dX0_order_15 : eb_dj cX0_order 15 (.ifCond .ge 6) 6 18 21 := by decide +kernel
theorem dX0_order_18 : eb_dc cX0_order 18 (.bipush (-2)) 2 20 := by decide +kernel
theorem dX0_order_20 : eb_dc cX0_order 20 (.ireturn) 1 21 := by decide +kernel
theorem dX0_order_21 : eb_dc cX0_order 21 (.aload_n 0) 1 22 := by decide +kernel
theorem dX0_order_22 : eb_dc cX0_order 22 (.getfield 15) 3 25 := by decide +kernel
theorem dX0_order_25 : eb_dc cX0_order 25 (.iload_n 1) 1 26 := by decide +kernel
theorem dX0_order_26 : eb_dc cX0_order 26 (.aaload) 1 27 := by decide +kernel
theorem dX0_order_27 : eb_dc cX0_order 27 (.astore 4) 2 29 := by decide +kernel
theorem dX0_order_29 : eb_dc cX0_order 29 (.aload 4) 2 31 := by decide +kernel
theorem dX0_order_31 : eb_dc cX0_order 31 (.getfield 34) 3 34 := by decide +kernel
theorem dX0_order_34 : eb_dc cX0_order 34 (.istore 5) 2 36 := by decide +kernel
theorem dX0_order_36 : eb_dc cX0_order 36 (.iload 5) 2 38 := by decide +kernel
theorem dX0_order_38 : eb_dc cX0_order 38 (.newarray .int) 2 40 := by decide +kernel
theorem dX0_order_40 : eb_dc cX0_order 40 (.astore 6) 2 42 := by decide +kernel
theorem dX0_order_42 : eb_dc cX0_order 42 (.iload_n 2) 1 43 := by decide +kernel
theorem dX0_order_43 : eb_dc cX0_order 43 (.istore 7) 2 45 := by decide +kernel
theorem dX0_order_45 : eb_dc cX0_order 45 (.iconst 0) 1 46 := by decide +kernel
theorem dX0_order_46 : eb_dc cX0_order 46 (.istore 8) 2 48 := by decide +kernel
theorem dX0_order_48 : eb_dc cX0_order 48 (.iload 5) 2 50 := by decide +kernel
theorem dX0_order_50 : eb_dc cX0_order 50 (.iconst 1) 1 51 := by decide +kernel
theorem dX0_order_51 : eb_dc cX0_order 51 (.isub) 1 52 := by decide +kernel
theorem dX0_order_52 : eb_dc cX0_order 52 (.istore 9) 2 54 := by decide +kernel
theorem dX0_order_54 : eb_dc cX0_order 54 (.iload 9) 2 56 := by decide +kernel
theorem dX0_order_56 : eb_dj cX0_order 56 (.ifCond .lt 52) 52 59 108 := by decide +kernel
theorem dX0_order_59 : eb_dc cX0_order 59 (.aload 6) 2 61 := by decide +kernel
theorem dX0_order_61 : eb_dc cX0_order 61 (.iload 9) 2 63 := by decide +kernel
theorem dX0_order_63 : eb_dc cX0_order 63 (.iload 7) 2 65 := by decide +kernel
theorem dX0_order_65 : eb_dc cX0_order 65 (.bipush 10) 2 67 := by decide +kernel
theorem dX0_order_67 : eb_dc cX0_order 67 (.irem) 1 68 := by decide +kernel
theorem dX0_order_68 : eb_dc cX0_order 68 (.iastore) 1 69 := by decide +kernel
theorem dX0_order_69 : eb_dc cX0_order 69 (.iload 7) 2 71 := by decide +kernel
theorem dX0_order_71 : eb_dc cX0_order 71 (.bipush 10) 2 73 := by decide +kernel
theorem dX0_order_73 : eb_dc cX0_order 73 (.idiv) 1 74 := by decide +kernel
theorem dX0_order_74 : eb_dc cX0_order 74 (.istore 7) 2 76 := by decide +kernel
theorem dX0_order_76 : eb_dc cX0_order 76 (.iload 8) 2 78 := by decide +kernel
theorem dX0_order_78 : eb_dc cX0_order 78 (.aload 6) 2 80 := by decide +kernel
theorem dX0_order_80 : eb_dc cX0_order 80 (.iload 9) 2 82 := by decide +kernel
theorem dX0_order_82 : eb_dc cX0_order 82 (.iaload) 1 83 := by decide +kernel
theorem dX0_order_83 : eb_dc cX0_order 83 (.iload 5) 2 85 := by decide +kernel
theorem dX0_order_85 : eb_dj cX0_order 85 (.if_icmp .ge 13) 13 88 98 := by decide +kernel
theorem dX0_order_88 : eb_dc cX0_order 88 (.iconst 1) 1 89 := by decide +kernel
theorem dX0_order_89 : eb_dc cX0_order 89 (.aload 6) 2 91 := by decide +kernel
theorem dX0_order_91 : eb_dc cX0_order 91 (.iload 9) 2 93 := by decide +kernel
theorem dX0_order_93 : eb_dc cX0_order 93 (.iaload) 1 94 := by decide +kernel
theorem dX0_order_94 : eb_dc cX0_order 94 (.ishl) 1 95 := by decide +kernel
theorem dX0_order_95 : eb_dj cX0_order 95 (.goto 4) 4 98 99 := by decide +kernel
theorem dX0_order_98 : eb_dc cX0_order 98 (.iconst 0) 1 99 := by decide +kernel
theorem dX0_order_99 : eb_dc cX0_order 99 (.ior) 1 100 := by decide +kernel
theorem dX0_order_100 : eb_dc cX0_order 100 (.istore 8) 2 102 := by decide +kernel
theorem dX0_order_102 : eb_dc cX0_order 102 (.iinc 9 (-1)) 3 105 := by decide +kernel
theorem dX0_order_105 : eb_dj cX0_order 105 (.goto (-51)) (-51) 108 54 := by decide +kernel
theorem dX0_order_108 : eb_dc cX0_order 108 (.iload 7) 2 110 := by decide +kernel
theorem dX0_order_110 : eb_dj cX0_order 110 (.ifCond .ne 13) 13 113 123 := by decide +kernel
theorem dX0_order_113 : eb_dc cX0_order 113 (.iload 8) 2 115 := by decide +kernel
theorem dX0_order_115 : eb_dc cX0_order 115 (.aload 4) 2 117 := by decide +kernel
theorem dX0_order_117 : eb_dc cX0_order 117 (.invokevirtual 46) 3 120 := by decide +kernel
theorem dX0_order_120 : eb_dj cX0_order 120 (.if_icmp .eq 6) 6 123 126 := by decide +kernel
theorem dX0_order_123 : eb_dc cX0_order 123 (.bipush (-2)) 2 125 := by decide +kernel
theorem dX0_order_125 : eb_dc cX0_order 125 (.ireturn) 1 126 := by decide +kernel
theorem dX0_order_126 : eb_dc cX0_order 126 (.new 13) 3 129 := by decide +kernel
theorem dX0_order_129 : eb_dc cX0_order 129 (.dup) 1 130 := by decide +kernel
theorem dX0_order_130 : eb_dc cX0_order 130 (.iload 5) 2 132 := by decide +kernel
theorem dX0_order_132 : eb_dc cX0_order 132 (.invokespecial 23) 3 135 := by decide +kernel
theorem dX0_order_135 : eb_dc cX0_order 135 (.astore 9) 2 137 := by decide +kernel
theorem dX0_order_137 : eb_dc cX0_order 137 (.aload 9) 2 139 := by decide +kernel
theorem dX0_order_139 : eb_dc cX0_order 139 (.iconst 0) 1 140 := by decide +kernel
theorem dX0_order_140 : eb_dc cX0_order 140 (.putfield 50) 3 143 := by decide +kernel
theorem dX0_order_143 : eb_dc cX0_order 143 (.iconst 0) 1 144 := by decide +kernel
theorem dX0_order_144 : eb_dc cX0_order 144 (.istore 10) 2 146 := by decide +kernel
theorem dX0_order_146 : eb_dc cX0_order 146 (.iload 10) 2 148 := by decide +kernel
theorem dX0_order_148 : eb_dc cX0_order 148 (.iload 5) 2 150 := by decide +kernel
theorem dX0_order_150 : eb_dj cX0_order 150 (.if_icmp .ge 79) 79 153 229 := by decide +kernel
theorem dX0_order_153 : eb_dc cX0_order 153 (.aload 9) 2 155 := by decide +kernel
theorem dX0_order_155 : eb_dc cX0_order 155 (.dup) 1 156 := by decide +kernel
theorem dX0_order_156 : eb_dc cX0_order 156 (.getfield 50) 3 159 := by decide +kernel
theorem dX0_order_159 : eb_dc cX0_order 159 (.aload 4) 2 161 := by decide +kernel
theorem dX0_order_161 : eb_dc cX0_order 161 (.getfield 50) 3 164 := by decide +kernel
theorem dX0_order_164 : eb_dc cX0_order 164 (.aload 6) 2 166 := by decide +kernel
theorem dX0_order_166 : eb_dc cX0_order 166 (.iload 10) 2 168 := by decide +kernel
theorem dX0_order_168 : eb_dc cX0_order 168 (.iaload) 1 169 := by decide +kernel
theorem dX0_order_169 : eb_dc cX0_order 169 (.ishr) 1 170 := by decide +kernel
theorem dX0_order_170 : eb_dc cX0_order 170 (.iconst 1) 1 171 := by decide +kernel
theorem dX0_order_171 : eb_dc cX0_order 171 (.iand) 1 172 := by decide +kernel
theorem dX0_order_172 : eb_dc cX0_order 172 (.iload 10) 2 174 := by decide +kernel
theorem dX0_order_174 : eb_dc cX0_order 174 (.ishl) 1 175 := by decide +kernel
theorem dX0_order_175 : eb_dc cX0_order 175 (.ior) 1 176 := by decide +kernel
theorem dX0_order_176 : eb_dc cX0_order 176 (.putfield 50) 3 179 := by decide +kernel
theorem dX0_order_179 : eb_dc cX0_order 179 (.iconst 0) 1 180 := by decide +kernel
theorem dX0_order_180 : eb_dc cX0_order 180 (.istore 11) 2 182 := by decide +kernel
theorem dX0_order_182 : eb_dc cX0_order 182 (.iload 11) 2 184 := by decide +kernel
theorem dX0_order_184 : eb_dc cX0_order 184 (.iload 5) 2 186 := by decide +kernel
theorem dX0_order_186 : eb_dj cX0_order 186 (.if_icmp .ge 37) 37 189 223 := by decide +kernel
theorem dX0_order_189 : eb_dc cX0_order 189 (.aload 9) 2 191 := by decide +kernel
theorem dX0_order_191 : eb_dc cX0_order 191 (.getfield 56) 3 194 := by decide +kernel
theorem dX0_order_194 : eb_dc cX0_order 194 (.iconst 4) 1 195 := by decide +kernel
theorem dX0_order_195 : eb_dc cX0_order 195 (.iload 10) 2 197 := by decide +kernel
theorem dX0_order_197 : eb_dc cX0_order 197 (.imul) 1 198 := by decide +kernel
theorem dX0_order_198 : eb_dc cX0_order 198 (.iload 11) 2 200 := by decide +kernel
theorem dX0_order_200 : eb_dc cX0_order 200 (.iadd) 1 201 := by decide +kernel
theorem dX0_order_201 : eb_dc cX0_order 201 (.aload 4) 2 203 := by decide +kernel
theorem dX0_order_203 : eb_dc cX0_order 203 (.aload 6) 2 205 := by decide +kernel
theorem dX0_order_205 : eb_dc cX0_order 205 (.iload 10) 2 207 := by decide +kernel
theorem dX0_order_207 : eb_dc cX0_order 207 (.iaload) 1 208 := by decide +kernel
theorem dX0_order_208 : eb_dc cX0_order 208 (.aload 6) 2 210 := by decide +kernel
theorem dX0_order_210 : eb_dc cX0_order 210 (.iload 11) 2 212 := by decide +kernel
theorem dX0_order_212 : eb_dc cX0_order 212 (.iaload) 1 213 := by decide +kernel
theorem dX0_order_213 : eb_dc cX0_order 213 (.invokevirtual 59) 3 216 := by decide +kernel
theorem dX0_order_216 : eb_dc cX0_order 216 (.iastore) 1 217 := by decide +kernel
theorem dX0_order_217 : eb_dc cX0_order 217 (.iinc 11 1) 3 220 := by decide +kernel
theorem dX0_order_220 : eb_dj cX0_order 220 (.goto (-38)) (-38) 223 182 := by decide +kernel
theorem dX0_order_223 : eb_dc cX0_order 223 (.iinc 10 1) 3 226 := by decide +kernel
theorem dX0_order_226 : eb_dj cX0_order 226 (.goto (-80)) (-80) 229 146 := by decide +kernel
theorem dX0_order_229 : eb_dc cX0_order 229 (.aload_n 0) 1 230 := by decide +kernel
theorem dX0_order_230 : eb_dc cX0_order 230 (.getfield 15) 3 233 := by decide +kernel
theorem dX0_order_233 : eb_dc cX0_order 233 (.iload_n 3) 1 234 := by decide +kernel
theorem dX0_order_234 : eb_dc cX0_order 234 (.aload 9) 2 236 := by decide +kernel
theorem dX0_order_236 : eb_dc cX0_order 236 (.aastore) 1 237 := by decide +kernel
theorem dX0_order_237 : eb_dc cX0_order 237 (.iconst 1) 1 238 := by decide +kernel
theorem dX0_order_238 : eb_dc cX0_order 238 (.ireturn) 1 239 := by decide +kernel
theorem ctX0_order {l : Launch} {Γ : eb_C} {bc bs : Nat} {st : eb_S} {a0 : Nat} {a1 : Int32} {a2 : Int32} {a3 : Int32} {K : Int32 → eb_S → Prop} (h : MX0_order Γ bc bs st a0 a1 a2 a3 K) : eb_Ct l Γ yX0_order cX0_order 12 (some .int) (rmX0_order bc bs) [.ref a0, .int a1, .int a2, .int a3] st (eb_oI K) := by
  refine eb_of (by decide) (Nat.le_of_ble_eq_true rfl) (fun X P hP hX0 => ?_)
  suffices hgo : (0 ≤ bc ∧ 0 ≤ bs) → eb_G l Γ P X cX0_order RX0 12 (some .int) (rmX0_order bc bs) 0 [(0, .ref a0), (1, .int a1), (2, .int a2), (3, .int a3)] [] st 0 0 from hgo ⟨Nat.zero_le _, Nat.zero_le _⟩
  intro hu
  refine eg_iload_n 1 dX0_order_0 rfl rfl ?_
  have hM0 := h
  clear h
  refine ec_SIp (rest := []) (ctX0_isBody hM0) (lw_S q182 q183 q74 q184) nX0_isBody ⟨Nat.le_of_ble_eq_true rfl, Nat.le_of_ble_eq_true rfl⟩ ⟨rfl, rfl⟩ hu rfl rfl (Nat.le_of_ble_eq_true rfl) dX0_order_1 (fun v1 h => ?_)
  clear hM0
  refine eg_if_eq dX0_order_4 (fun c75 => ?_) (fun c75 => ?_)
  · replace h := h.1 c75
    refine eg_bipush dX0_order_18 kb_m2 ?_
    exact eg_iret dX0_order_20 hu.1 hu.2 (hP _ _ ⟨_, rfl, h⟩)
  · replace h := h.2 c75
    refine eg_iload_n 3 dX0_order_7 rfl rfl ?_
    have hM0 := h
    clear h
    refine ec_SIp (rest := []) (ctX0_isBody hM0) (lw_S q182 q183 q74 q184) nX0_isBody ⟨Nat.le_of_ble_eq_true rfl, Nat.le_of_ble_eq_true rfl⟩ ⟨rfl, rfl⟩ hu rfl rfl (Nat.le_of_ble_eq_true rfl) dX0_order_8 (fun v5 h => ?_)
    clear hM0
    refine eg_if_eq dX0_order_11 (fun c74 => ?_) (fun c74 => ?_)
    · replace h := h.1 c74
      refine eg_bipush dX0_order_18 kb_m2 ?_
      exact eg_iret dX0_order_20 hu.1 hu.2 (hP _ _ ⟨_, rfl, h⟩)
    · replace h := h.2 c74
      refine eg_iload_n 2 dX0_order_14 rfl rfl ?_
      refine eg_if_ge dX0_order_15 (fun c73 => ?_) (fun c73 => ?_)
      · replace h := h.1 c73
        refine eg_aload_n 0 dX0_order_21 rfl rfl ?_
        obtain ⟨fs, v9, he, hv, h⟩ := h
        refine eg_get 0 in_X0 he rfl (Nat.le_of_ble_eq_true rfl) q159 rfl hv dX0_order_22 ?_
        refine eg_iload_n 1 dX0_order_25 rfl rfl ?_
        obtain ⟨p10, rfl, h⟩ := h
        obtain ⟨nA, fA, he, hb, h⟩ := h
        refine eg_aald (t := 7) (ty := .object "EvenBodies$Body") rfl rfl he hb dX0_order_26 (fun v11 ev11 => ?_)
        replace h := h v11 ev11
        refine eh_astore (i := 4) (v := v11) (lv' := [(4, va_rf v11), (0, .ref a0), (1, .int a1), (2, .int a2), (3, .int a3)]) dX0_order_27 (Nat.le_of_ble_eq_true rfl) rfl ?_
        refine eh_aload (v := v11) 0 dX0_order_29 rfl ?_
        obtain ⟨p12, rfl, h⟩ := h
        obtain ⟨fs, v13, he, hv, h⟩ := h
        refine eg_getN 0 in_X1 he rfl (Nat.le_of_ble_eq_true rfl) (List.mem_of_getElem? (i := 1) rfl) rfl hv dX0_order_31 ?_
        refine eg_istore (lv' := [(5, .int v13), (4, .ref p12), (0, .ref a0), (1, .int a1), (2, .int a2), (3, .int a3)]) dX0_order_34 (Nat.le_of_ble_eq_true rfl) rfl ?_
        refine eg_iload 0 dX0_order_36 rfl ?_
        obtain ⟨hok, h⟩ := h
        obtain ⟨hc1, hs1, h⟩ := h
        refine eh_new_i q158 rfl hok hc1 hs1 dX0_order_38 (fun p14 qp14 g15 eg15 => ?_)
        replace h := h p14 qp14 g15 eg15
        replace hu := And.intro hc1 hs1
        refine eg_astore (i := 6) (lv' := [(6, .ref p14), (5, .int v13), (4, .ref p12), (0, .ref a0), (1, .int a1), (2, .int a2), (3, .int a3)]) dX0_order_40 (Nat.le_of_ble_eq_true rfl) rfl ?_
        refine eg_iload_n 5 dX0_order_42 rfl rfl ?_
        refine eg_istore (lv' := [(7, .int a2), (6, .ref p14), (5, .int v13), (4, .ref p12), (0, .ref a0), (1, .int a1), (2, .int a2), (3, .int a3)]) dX0_order_43 (Nat.le_of_ble_eq_true rfl) rfl ?_
        refine eg_iconst dX0_order_45 kc_0 ?_
        refine eg_istore (lv' := [(8, .int 0), (7, .int a2), (6, .ref p14), (5, .int v13), (4, .ref p12), (0, .ref a0), (1, .int a1), (2, .int a2), (3, .int a3)]) dX0_order_46 (Nat.le_of_ble_eq_true rfl) rfl ?_
        refine eg_iload 3 dX0_order_48 rfl ?_
        refine eg_iconst dX0_order_50 kc_1 ?_
        refine eg_isub dX0_order_51 ?_
        refine eg_istore (lv' := [(9, .int (v13 - 1)), (8, .int 0), (7, .int a2), (6, .ref p14), (5, .int v13), (4, .ref p12), (0, .ref a0), (1, .int a1), (2, .int a2), (3, .int a3)]) dX0_order_52 (Nat.le_of_ble_eq_true rfl) rfl ?_
        refine eb_jp3_e (J := fun (x7_16 : Int32) (x8_17 : Int32) (g18 : eb_S) => ((0 + 1) ≤ bc ∧ (0 + (v13.toNatClampNeg)) ≤ bs) → eb_G l Γ P X cX0_order RX0 12 (some .int) (rmX0_order bc bs) 108 [(0, .ref a0), (3, .int a3), (4, .ref p12), (5, .int v13), (6, .ref p14), (7, .int x7_16), (8, .int x8_17)] [] g18 (0 + 1) (0 + (v13.toNatClampNeg))) h ?_ ?_
        · clear h
          intro x7_16 x8_17 g18 h hu
          refine eg_iload 5 dX0_order_108 rfl ?_
          refine eg_if_ne dX0_order_110 (fun c59 => ?_) (fun c59 => ?_)
          · replace h := h.2 c59
            refine eg_bipush dX0_order_123 kb_m2 ?_
            exact eg_iret dX0_order_125 hu.1 hu.2 (hP _ _ ⟨_, rfl, h⟩)
          · replace h := h.1 c59
            refine eg_iload 6 dX0_order_113 rfl ?_
            refine eg_aload 2 dX0_order_115 rfl ?_
            obtain ⟨hcs, h⟩ := h
            have hM0 := h
            clear h
            refine ec_VIp (rest := [.int x8_17]) (ctX1_all hM0) (lw_V q215 q216 q217 q75 q218) rfl rfl hcs nX1_all ⟨Nat.le_of_ble_eq_true rfl, Nat.le_of_ble_eq_true rfl⟩ ⟨rfl, rfl⟩ hu rfl rfl (Nat.le_of_ble_eq_true rfl) dX0_order_117 (fun v19 h => ?_)
            clear hM0
            refine eg_icmp_eq dX0_order_120 (fun c58 => ?_) (fun c58 => ?_)
            · replace h := h.1 c58
              obtain ⟨hc1, hs1, h⟩ := h
              refine eh_new (ci := 1) (fs := [.int 0, .null, .int 0, .null, .int 0, .null, .null, .null, .null]) in_X1 tyX1 tyX1_ok q106 q108 q75 rfl (by decide +kernel) hc1 hs1 dX0_order_126 (fun p23 qp23 g24 eg24 => ?_)
              replace h := h p23 qp23 g24 eg24
              replace hu := And.intro hc1 hs1
              refine eg_dup dX0_order_129 rfl ?_
              refine eg_iload 3 dX0_order_130 rfl ?_
              obtain ⟨c27, s28, hca, h⟩ := h
              have hM0 := h
              clear h
              refine ec_IVa (rest := [.ref p23]) (ctX1_init hM0) q111 q75 q109 q110 rfl nX1_init ⟨Nat.le_of_ble_eq_true rfl, Nat.le_of_ble_eq_true rfl⟩ ⟨rfl, rfl⟩ hca rfl rfl (Nat.le_of_ble_eq_true rfl) dX0_order_132 (fun g26 h => ?_)
              clear hM0
              replace hu := hca
              refine eg_astore (i := 9) (lv' := [(9, .ref p23), (0, .ref a0), (3, .int a3), (4, .ref p12), (5, .int v13), (6, .ref p14), (7, .int x7_16), (8, .int x8_17)]) dX0_order_135 (Nat.le_of_ble_eq_true rfl) rfl ?_
              refine eg_aload 0 dX0_order_137 rfl ?_
              refine eg_iconst dX0_order_139 kc_0 ?_
              obtain ⟨fs, he, hlen, h⟩ := h
              refine eh_putN 2 in_X1 he rfl (Nat.le_of_ble_eq_true rfl) tyX1 tyX1_ok nmX1 (List.mem_of_getElem? (i := 3) rfl) rfl rfl rfl rfl hlen dX0_order_140 (fun g29 eg29 => ?_)
              replace h := h g29 eg29
              refine eg_iconst dX0_order_143 kc_0 ?_
              refine eg_istore (lv' := [(10, .int 0), (9, .ref p23), (0, .ref a0), (3, .int a3), (4, .ref p12), (5, .int v13), (6, .ref p14), (7, .int x7_16), (8, .int x8_17)]) dX0_order_144 (Nat.le_of_ble_eq_true rfl) rfl ?_
              refine eb_jp1_e (J := fun (g30 : eb_S) => ((((0 + 1) + 1) + c27) ≤ bc ∧ (((0 + (v13.toNatClampNeg)) + 9) + s28) ≤ bs) → eb_G l Γ P X cX0_order RX0 12 (some .int) (rmX0_order bc bs) 229 [(0, .ref a0), (3, .int a3), (9, .ref p23)] [] g30 (((0 + 1) + 1) + c27) (((0 + (v13.toNatClampNeg)) + 9) + s28)) h ?_ ?_
              · clear h
                intro g30 h hu
                refine eg_aload_n 0 dX0_order_229 rfl rfl ?_
                obtain ⟨fs, v31, he, hv, h⟩ := h
                refine eg_get 0 in_X0 he rfl (Nat.le_of_ble_eq_true rfl) q159 rfl hv dX0_order_230 ?_
                refine eg_iload_n 1 dX0_order_233 rfl rfl ?_
                refine eg_aload 2 dX0_order_234 rfl ?_
                obtain ⟨p32, rfl, h⟩ := h
                obtain ⟨⟨_, fs1, hc1, he1⟩, h⟩ := h
                cases List.mem_singleton.mp hc1
                obtain ⟨nA, fA, he, hb, h⟩ := h
                refine eg_ast (t := 7) (r := (RX1, TX1, 9)) rfl rfl he he1 hb dX0_order_236 ?_
                replace h := h _ rfl
                generalize eb_up _ _ _ = g33 at h ⊢
                refine eg_iconst dX0_order_237 kc_1 ?_
                exact eg_iret dX0_order_238 hu.1 hu.2 (hP _ _ ⟨_, rfl, h⟩)
              · clear h
                intro k34 hk34 h
                refine eg_sub [2, 3, 4, 5, 6, 1, 0] rfl ?_
                refine eb_loop2_e (J := fun (x10_35 : Int32) (g36 : eb_S) => ((((0 + 1) + 1) + c27) ≤ bc ∧ (((0 + (v13.toNatClampNeg)) + 9) + s28) ≤ bs) → eb_G l Γ P X cX0_order RX0 12 (some .int) (rmX0_order bc bs) 146 [(0, .ref a0), (3, .int a3), (4, .ref p12), (5, .int v13), (6, .ref p14), (9, .ref p23), (10, .int x10_35)] [] g36 (((0 + 1) + 1) + c27) (((0 + (v13.toNatClampNeg)) + 9) + s28)) h ?_ hu
                clear h
                clear hu
                intro r37 hr37 x10_35 g36 h hu
                refine eg_iload 6 dX0_order_146 rfl ?_
                refine eg_iload 3 dX0_order_148 rfl ?_
                refine eg_icmp_ge dX0_order_150 (fun c57 => ?_) (fun c57 => ?_)
                · replace h := h.1 c57
                  exact eg_sub [0, 1, 5] rfl (hk34 g36 h hu)
                · replace h := h.2 c57
                  refine eg_aload 5 dX0_order_153 rfl ?_
                  refine eg_dup dX0_order_155 rfl ?_
                  obtain ⟨fs, v38, he, hv, h⟩ := h
                  refine eg_getN 2 in_X1 he rfl (Nat.le_of_ble_eq_true rfl) (List.mem_of_getElem? (i := 3) rfl) rfl hv dX0_order_156 ?_
                  refine eg_aload 2 dX0_order_159 rfl ?_
                  obtain ⟨fs, v39, he, hv, h⟩ := h
                  refine eg_getN 2 in_X1 he rfl (Nat.le_of_ble_eq_true rfl) (List.mem_of_getElem? (i := 3) rfl) rfl hv dX0_order_161 ?_
                  refine eg_aload 4 dX0_order_164 rfl ?_
                  refine eg_iload 6 dX0_order_166 rfl ?_
                  obtain ⟨nA, fA, he, hb, h⟩ := h
                  refine eh_iald he hb dX0_order_168 (fun v40 ev40 => ?_)
                  replace h := h v40 ev40
                  refine eg_ishr dX0_order_169 ?_
                  refine eg_iconst dX0_order_170 kc_1 ?_
                  refine eg_iand dX0_order_171 ?_
                  refine eg_iload 6 dX0_order_172 rfl ?_
                  refine eg_ishl dX0_order_174 ?_
                  refine eg_ior dX0_order_175 ?_
                  obtain ⟨fs, he, hlen, h⟩ := h
                  refine eh_putN 2 in_X1 he rfl (Nat.le_of_ble_eq_true rfl) tyX1 tyX1_ok nmX1 (List.mem_of_getElem? (i := 3) rfl) rfl rfl rfl rfl hlen dX0_order_176 (fun g41 eg41 => ?_)
                  replace h := h g41 eg41
                  refine eg_iconst dX0_order_179 kc_0 ?_
                  refine eg_istore (lv' := [(11, .int 0), (0, .ref a0), (3, .int a3), (4, .ref p12), (5, .int v13), (6, .ref p14), (9, .ref p23), (10, .int x10_35)]) dX0_order_180 (Nat.le_of_ble_eq_true rfl) rfl ?_
                  refine eb_jp1_e (J := fun (g42 : eb_S) => ((((0 + 1) + 1) + c27) ≤ bc ∧ (((0 + (v13.toNatClampNeg)) + 9) + s28) ≤ bs) → eb_G l Γ P X cX0_order RX0 12 (some .int) (rmX0_order bc bs) 223 [(0, .ref a0), (3, .int a3), (4, .ref p12), (5, .int v13), (6, .ref p14), (9, .ref p23), (10, .int x10_35)] [] g42 (((0 + 1) + 1) + c27) (((0 + (v13.toNatClampNeg)) + 9) + s28)) h ?_ ?_
                  · clear h
                    intro g42 h hu
                    refine eg_iinc (j := 6) (lv' := [(10, .int (x10_35 + 1)), (0, .ref a0), (3, .int a3), (4, .ref p12), (5, .int v13), (6, .ref p14), (9, .ref p23)]) dX0_order_223 rfl (by rw [kc_1]) (Nat.le_of_ble_eq_true rfl) rfl ?_
                    refine eg_goto dX0_order_226 ?_
                    exact eg_sub [1, 2, 3, 4, 5, 6, 0] rfl (hr37 (x10_35 + 1) g42 h hu)
                  · clear h
                    intro k43 hk43 h
                    refine eg_sub [1, 2, 3, 4, 5, 6, 7, 0] rfl ?_
                    refine eb_loop2_e (J := fun (x11_44 : Int32) (g45 : eb_S) => ((((0 + 1) + 1) + c27) ≤ bc ∧ (((0 + (v13.toNatClampNeg)) + 9) + s28) ≤ bs) → eb_G l Γ P X cX0_order RX0 12 (some .int) (rmX0_order bc bs) 182 [(0, .ref a0), (3, .int a3), (4, .ref p12), (5, .int v13), (6, .ref p14), (9, .ref p23), (10, .int x10_35), (11, .int x11_44)] [] g45 (((0 + 1) + 1) + c27) (((0 + (v13.toNatClampNeg)) + 9) + s28)) h ?_ hu
                    clear h
                    clear hu
                    intro r46 hr46 x11_44 g45 h hu
                    refine eg_iload 7 dX0_order_182 rfl ?_
                    refine eg_iload 3 dX0_order_184 rfl ?_
                    refine eg_icmp_ge dX0_order_186 (fun c56 => ?_) (fun c56 => ?_)
                    · replace h := h.1 c56
                      exact eg_sub [0, 1, 2, 3, 4, 5, 6] rfl (hk43 g45 h hu)
                    · replace h := h.2 c56
                      refine eg_aload 5 dX0_order_189 rfl ?_
                      obtain ⟨fs, v47, he, hv, h⟩ := h
                      refine eg_getN 1 in_X1 he rfl (Nat.le_of_ble_eq_true rfl) (List.mem_of_getElem? (i := 2) rfl) rfl hv dX0_order_191 ?_
                      refine eg_iconst dX0_order_194 kc_4 ?_
                      refine eg_iload 6 dX0_order_195 rfl ?_
                      refine eg_imul dX0_order_197 ?_
                      refine eg_iload 7 dX0_order_198 rfl ?_
                      refine eg_iadd dX0_order_200 ?_
                      refine eg_aload 2 dX0_order_201 rfl ?_
                      refine eg_aload 4 dX0_order_203 rfl ?_
                      refine eg_iload 6 dX0_order_205 rfl ?_
                      obtain ⟨nA, fA, he, hb, h⟩ := h
                      refine eh_iald he hb dX0_order_207 (fun v48 ev48 => ?_)
                      replace h := h v48 ev48
                      refine eg_aload 4 dX0_order_208 rfl ?_
                      refine eg_iload 7 dX0_order_210 rfl ?_
                      obtain ⟨nA, fA, he, hb, h⟩ := h
                      refine eh_iald he hb dX0_order_212 (fun v49 ev49 => ?_)
                      replace h := h v49 ev49
                      obtain ⟨hcs, h⟩ := h
                      have hM0 := h
                      clear h
                      refine ec_VIp (rest := [.int ((4 * x10_35) + x11_44), va_rf v47]) (ctX1_angle hM0) (lw_V q224 q201 q202 q75 q203) rfl rfl hcs nX1_angle ⟨Nat.le_of_ble_eq_true rfl, Nat.le_of_ble_eq_true rfl⟩ ⟨rfl, rfl⟩ hu rfl rfl (by simp only [List.map_cons, List.map_nil, eb_rfc]; exact Nat.le_of_ble_eq_true rfl) dX0_order_213 (fun v50 h => ?_)
                      clear hM0
                      obtain ⟨p54, rfl, h⟩ := h
                      obtain ⟨nA, fA, he, hb, h⟩ := h
                      refine eh_iast he hb dX0_order_216 (fun g55 eg55 => ?_)
                      replace h := h g55 eg55
                      refine eg_iinc (j := 7) (lv' := [(11, .int (x11_44 + 1)), (0, .ref a0), (3, .int a3), (4, .ref p12), (5, .int v13), (6, .ref p14), (9, .ref p23), (10, .int x10_35)]) dX0_order_217 rfl (by rw [kc_1]) (Nat.le_of_ble_eq_true rfl) rfl ?_
                      refine eg_goto dX0_order_220 ?_
                      exact eg_sub [1, 2, 3, 4, 5, 6, 7, 0] rfl (hr46 (x11_44 + 1) g55 h hu)
            · replace h := h.2 c58
              refine eg_bipush dX0_order_123 kb_m2 ?_
              exact eg_iret dX0_order_125 hu.1 hu.2 (hP _ _ ⟨_, rfl, h⟩)
        · clear h
          intro k60 hk60 h
          refine eg_sub [6, 9, 5, 4, 3, 2, 1, 0] rfl ?_
          refine eb_loop4_e (J := fun (x7_61 : Int32) (x8_62 : Int32) (x9_63 : Int32) (g64 : eb_S) => ((0 + 1) ≤ bc ∧ (0 + (v13.toNatClampNeg)) ≤ bs) → eb_G l Γ P X cX0_order RX0 12 (some .int) (rmX0_order bc bs) 54 [(0, .ref a0), (3, .int a3), (4, .ref p12), (5, .int v13), (6, .ref p14), (7, .int x7_61), (8, .int x8_62), (9, .int x9_63)] [] g64 (0 + 1) (0 + (v13.toNatClampNeg))) h ?_ hu
          clear h
          clear hu
          intro r65 hr65 x7_61 x8_62 x9_63 g64 h hu
          refine eg_iload 7 dX0_order_54 rfl ?_
          refine eg_if_lt dX0_order_56 (fun c72 => ?_) (fun c72 => ?_)
          · replace h := h.1 c72
            exact eg_sub [0, 1, 2, 3, 4, 5, 6] rfl (hk60 x7_61 x8_62 g64 h hu)
          · replace h := h.2 c72
            refine eg_aload 4 dX0_order_59 rfl ?_
            refine eg_iload 7 dX0_order_61 rfl ?_
            refine eg_iload 5 dX0_order_63 rfl ?_
            refine eg_bipush dX0_order_65 kb_10 ?_
            refine eg_irem dX0_order_67 (by decide) ?_
            obtain ⟨nA, fA, he, hb, h⟩ := h
            refine eh_iast he hb dX0_order_68 (fun g66 eg66 => ?_)
            replace h := h g66 eg66
            refine eg_iload 5 dX0_order_69 rfl ?_
            refine eg_bipush dX0_order_71 kb_10 ?_
            refine eg_idiv dX0_order_73 (by decide) ?_
            refine eg_istore (lv' := [(7, .int (x7_61 / 10)), (0, .ref a0), (3, .int a3), (4, .ref p12), (5, .int v13), (6, .ref p14), (8, .int x8_62), (9, .int x9_63)]) dX0_order_74 (Nat.le_of_ble_eq_true rfl) rfl ?_
            refine eg_iload 6 dX0_order_76 rfl ?_
            refine eg_aload 5 dX0_order_78 rfl ?_
            refine eg_iload 7 dX0_order_80 rfl ?_
            obtain ⟨nA, fA, he, hb, h⟩ := h
            refine eh_iald he hb dX0_order_82 (fun v67 ev67 => ?_)
            replace h := h v67 ev67
            refine eg_iload 4 dX0_order_83 rfl ?_
            refine eb_jp1_e (J := fun (s68 : Int32) => ((0 + 1) ≤ bc ∧ (0 + (v13.toNatClampNeg)) ≤ bs) → eb_G l Γ P X cX0_order RX0 12 (some .int) (rmX0_order bc bs) 99 [(0, .ref a0), (3, .int a3), (4, .ref p12), (5, .int v13), (6, .ref p14), (7, .int (x7_61 / 10)), (9, .int x9_63)] [.int s68, .int x8_62] g66 (0 + 1) (0 + (v13.toNatClampNeg))) h ?_ ?_
            · clear h
              intro s68 h hu
              refine eg_ior dX0_order_99 ?_
              refine eg_istore (lv' := [(8, .int (x8_62 ||| s68)), (0, .ref a0), (3, .int a3), (4, .ref p12), (5, .int v13), (6, .ref p14), (7, .int (x7_61 / 10)), (9, .int x9_63)]) dX0_order_100 (Nat.le_of_ble_eq_true rfl) rfl ?_
              refine eg_iinc (j := 7) (lv' := [(9, .int (x9_63 + (-1))), (8, .int (x8_62 ||| s68)), (0, .ref a0), (3, .int a3), (4, .ref p12), (5, .int v13), (6, .ref p14), (7, .int (x7_61 / 10))]) dX0_order_102 rfl (by rw [kc_m1]) (Nat.le_of_ble_eq_true rfl) rfl ?_
              refine eg_goto dX0_order_105 ?_
              exact eg_sub [2, 3, 4, 5, 6, 7, 1, 0] rfl (hr65 (x7_61 / 10) (x8_62 ||| s68) ((x9_63 + (-1))) g66 h hu)
            · clear h
              intro k69 hk69 h
              refine eg_icmp_ge dX0_order_85 (fun c71 => ?_) (fun c71 => ?_)
              · replace h := h.1 c71
                refine eg_iconst dX0_order_98 kc_0 ?_
                exact eg_sub [1, 2, 3, 4, 5, 0, 7] rfl (hk69 0 h hu)
              · replace h := h.2 c71
                refine eg_iconst dX0_order_88 kc_1 ?_
                refine eg_aload 5 dX0_order_89 rfl ?_
                refine eg_iload 7 dX0_order_91 rfl ?_
                obtain ⟨nA, fA, he, hb, h⟩ := h
                refine eh_iald he hb dX0_order_93 (fun v70 ev70 => ?_)
                replace h := h v70 ev70
                refine eg_ishl dX0_order_94 ?_
                refine eg_goto dX0_order_95 ?_
                exact eg_sub [1, 2, 3, 4, 5, 0, 7] rfl (hk69 (eb_shl 1 v70) h hu)
      · replace h := h.2 c73
        refine eg_bipush dX0_order_18 kb_m2 ?_
        exact eg_iret dX0_order_20 hu.1 hu.2 (hP _ _ ⟨_, rfl, h⟩)
