set_option maxRecDepth 100000
/-! rows that are told from all places in both directions; the least -/
def lxl (n : Nat) (A B : Nat → Nat) : Prop := ∃ k, k < n ∧ (∀ j, j < k → A j = B j) ∧ A k < B k
theorem lxl_tr {n : Nat} {A B C : Nat → Nat} (h : lxl n A B) (h' : lxl n B C) : lxl n A C := by
  obtain ⟨k, hk, h1, h2⟩ := h
  obtain ⟨l, hl, h3, h4⟩ := h'
  rcases Nat.lt_trichotomy k l with z | z | z
  · exact ⟨k, hk, fun j hj => (h1 j hj).trans (h3 j (by omega)), by rw [← h3 k z]; exact h2⟩
  · subst z
    exact ⟨k, hk, fun j hj => (h1 j hj).trans (h3 j hj), by omega⟩
  · exact ⟨l, hl, fun j hj => (h1 j (by omega)).trans (h3 j hj), by rw [h1 l z]; exact h4⟩
theorem lxl_cg {n : Nat} {A B A' B' : Nat → Nat} (h : lxl n A B) (h1 : ∀ k, k < n → A k = A' k) (h2 : ∀ k, k < n → B k = B' k) : lxl n A' B' := by
  obtain ⟨k, hk, h3, h4⟩ := h
  exact ⟨k, hk, fun j hj => by rw [← h1 j (by omega), ← h2 j (by omega)]; exact h3 j hj, by rw [← h1 k hk, ← h2 k hk]; exact h4⟩
theorem lxl_irr {n : Nat} {A : Nat → Nat} (h : lxl n A A) : False := by
  obtain ⟨k, _, _, h4⟩ := h
  omega
theorem lxl_tot {n : Nat} {A B : Nat → Nat} (h1 : ¬ lxl n A B) (h2 : ¬ lxl n B A) : ∀ k, k < n → A k = B k := by
  intro k
  induction k using Nat.strongRecOn with
  | _ k ih =>
    intro hk
    rcases Nat.lt_trichotomy (A k) (B k) with z | z | z
    · exact absurd ⟨k, hk, fun j hj => ih j hj (by omega), z⟩ h1
    · exact z
    · exact absurd ⟨k, hk, fun j hj => (ih j hj (by omega)).symm, z⟩ h2
def mnD (n : Nat) (S R : Nat → Nat) : Prop := (1 ≤ n → ∃ t w, t < n ∧ ∀ k, k < n → R k = S (pP n w t k)) ∧ ∀ t w, t < n → ¬ lxl n (fun k => S (pP n w t k)) R
theorem mnD_un {n : Nat} {S R R' : Nat → Nat} (h : mnD n S R) (h' : mnD n S R') : ∀ k, k < n → R k = R' k := by
  by_cases hn : n = 0
  · intro k hk; omega
  obtain ⟨t, w, ht, e⟩ := h.1 (by omega)
  obtain ⟨t', w', ht', e'⟩ := h'.1 (by omega)
  exact lxl_tot (fun z => h'.2 t w ht (lxl_cg z e (fun _ _ => rfl))) (fun z => h.2 t' w' ht' (lxl_cg z e' (fun _ _ => rfl)))
theorem mnD_cg {n : Nat} {S S' R R' : Nat → Nat} (h : mnD n S R) (hS : ∀ k, k < n → S k = S' k) (hR : ∀ k, k < n → R k = R' k) : mnD n S' R' := by
  refine ⟨fun hn => ?_, fun t w ht z => h.2 t w ht (lxl_cg z (fun k hk => (hS _ (pP_lt (by omega) w t k)).symm) (fun k hk => (hR k hk).symm))⟩
  obtain ⟨t, w, ht, e⟩ := h.1 hn
  exact ⟨t, w, ht, fun k hk => by rw [← hR k hk, e k hk, hS _ (pP_lt (by omega) w t k)]⟩
theorem pP_cmp : ∀ n, n < 6 → ∀ t0, t0 < n → ∀ t, t < n → ∀ k, k < n → ∀ w0 w : Bool, pP n w0 t0 (pP n w t k) = pP n (Bool.xor w0 (not w)) (pP n w0 t0 t) k := by decide +kernel
theorem pQ_P : ∀ n, n < 6 → ∀ t, t < n → ∀ w : Bool, cond w t (prI n t) < n ∧ ∀ k, k < n → pQ n w t k = pP n w (cond w t (prI n t)) k := by decide +kernel
theorem b_xx : ∀ a b : Bool, Bool.xor a (not (Bool.xor a (not b))) = b := by decide
/-- a row told from another place is as good -/
theorem mnD_ch {n t0 : Nat} {w0 : Bool} {S S' R : Nat → Nat} (hn : n < 6) (ht0 : t0 < n) (hS : ∀ k, k < n → S' k = S (pP n w0 t0 k)) (h : mnD n S' R) : mnD n S R := by
  refine ⟨fun h1 => ?_, fun t w ht z => ?_⟩
  · obtain ⟨t, w, ht, e⟩ := h.1 h1
    exact ⟨pP n w0 t0 t, Bool.xor w0 (not w), pP_lt h1 _ _ _, fun k hk => by rw [e k hk, hS _ (pP_lt h1 _ _ _), pP_cmp n hn t0 ht0 t ht k hk]⟩
  · obtain ⟨q1, q2⟩ := pI_ok n hn t0 ht0 t ht w0
    refine h.2 (pI n w0 t0 t) (Bool.xor w0 (not w)) q1 (lxl_cg z (fun k hk => ?_) (fun _ _ => rfl))
    show S (pP n w t k) = S' (pP n (Bool.xor w0 (not w)) (pI n w0 t0 t) k)
    rw [hS _ (pP_lt (by omega) _ _ _), pP_cmp n hn t0 ht0 _ q1 k hk, q2, b_xx]
/-- the least rows of the classes (printed by hull.py's tables: 5 bits a size) -/
def RL (k : Nat) : Nat := if RF k = 0 then 0 else if Rdg k = 2 then 1 else Rdg k
def rWl : List Nat := [0, 4, 4228, 3, 4227, 6, 6276, 8, 8324, 5, 5252, 10, 10372, 12, 12420, 3171, 134275, 101475, 6339, 6340, 135299, 8451, 8388, 3247203, 5285, 136323, 167075, 6341, 10563, 10436]
def RW (k i : Nat) : Nat := nthL rWl k / 2 ^ (5 * i) % 32
def lxb (n : Nat) (A B : Nat → Nat) : Bool := match n with
  | 0 => false
  | n + 1 => Nat.blt (A 0) (B 0) || (Nat.beq (A 0) (B 0) && lxb n (fun k => A (k + 1)) (fun k => B (k + 1)))
theorem lxb_iff : ∀ {n : Nat} {A B : Nat → Nat}, lxb n A B = true ↔ lxl n A B := by
  intro n
  induction n with
  | zero => intro A B; exact ⟨fun z => Bool.noConfusion z, fun ⟨k, hk, _⟩ => absurd hk (Nat.not_lt_zero _)⟩
  | succ n ih =>
    intro A B
    unfold lxb
    rw [Bool.or_eq_true, Bool.and_eq_true, ih]
    constructor
    · rintro (h | ⟨h, k, hk, h1, h2⟩)
      · exact ⟨0, by omega, fun j hj => absurd hj (Nat.not_lt_zero _), Nat.ble_eq.mp h⟩
      · refine ⟨k + 1, by omega, fun j hj => ?_, h2⟩
        match j with
        | 0 => exact Nat.eq_of_beq_eq_true h
        | j + 1 => exact h1 j (by omega)
    · rintro ⟨k, hk, h1, h2⟩
      match k with
      | 0 => exact Or.inl (Nat.ble_eq.mpr h2)
      | k + 1 => exact Or.inr ⟨nbT (h1 0 (by omega)), k, by omega, fun j hj => h1 (j + 1) (by omega), h2⟩
theorem RW_b : ∀ k, k < 30 → RL k < 6 ∧ (1 ≤ RL k → ∃ t, t < RL k ∧ ∃ w : Bool, ∀ i, i < RL k → RW k i = Rsz k 0 (pP (RL k) w t i)) ∧ ∀ t, t < RL k → ∀ w : Bool, lxb (RL k) (fun i => Rsz k 0 (pP (RL k) w t i)) (RW k) = false := by decide +kernel
theorem RW_ok {k : Nat} (hk : k < 30) : mnD (RL k) (Rsz k 0) (RW k) := by
  obtain ⟨_, h1, h2⟩ := RW_b k hk
  refine ⟨fun hn => ?_, fun t w ht z => ?_⟩
  · obtain ⟨t, ht, w, e⟩ := h1 hn
    exact ⟨t, w, ht, e⟩
  · have := h2 t ht w
    rw [lxb_iff.mpr z] at this
    exact Bool.noConfusion this
/-- a row tells its class -/
theorem RW_inj : ∀ k, k < 30 → ∀ l, l < 30 → RL k = RL l → (∀ i, i < RL k → RW k i = RW l i) → k = l := by decide +kernel
theorem RW_sm : ∀ k, k < 30 → ∀ i, i < RL k → 1 ≤ RW k i ∧ RW k i ≤ 12 := by decide +kernel
/-- sizes round corner 0 -/
noncomputable def SQ (D : eb_D) (i : Nat) : Nat := uS D (uF D 0 i)
section LX
variable {D : eb_D}
theorem u_cl (h : ok3 D) : uC D < 30 := (u_ok h.1 h.2.1 h.2.2).1.1
theorem u_RF (h : ok3 D) : duN D = RF (uC D) := (u_ok h.1 h.2.1 h.2.2).1.2.2.1
theorem SQ_R (h : ok3 D) (hF : ¬ duN D = 0) {i : Nat} (hi : i < uG D) : SQ D i = Rsz (uC D) 0 i := by
  unfold SQ
  rw [u_rsz h hF (NP0_pos h) hi, (u_per h).1]
theorem RL_g (h : ok3 D) : RL (uC D) ≤ uG D := by
  unfold RL uG
  have := u_dg h
  unfold uG at this
  split
  · omega
  · split <;> omega
theorem SQ_mn (h : ok3 D) (hF : ¬ duN D = 0) {R : Nat → Nat} (hR : mnD (RL (uC D)) (SQ D) R) : ∀ k, k < RL (uC D) → R k = RW (uC D) k :=
  mnD_un (mnD_cg hR (fun k hk => SQ_R h hF (by have := RL_g h; omega)) (fun _ _ => rfl)) (RW_ok (u_cl h))
end LX
