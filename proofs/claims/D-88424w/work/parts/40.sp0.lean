set_option maxRecDepth 100000
/-! what the model's small methods answer -/
abbrev eb_D : Type := Nat × (Nat → Nat) × Nat
/-- mirrors, angles, ringed ones: a diagram as it can be -/
def vD (D : eb_D) : Prop := (1 ≤ D.1 ∧ D.1 ≤ 4) ∧ (1 ≤ D.2.2 ∧ D.2.2 < 2 ^ D.1) ∧ ∀ i j, i < 4 → j < 4 → 2 ≤ D.2.1 (4 * i + j) ∧ D.2.1 (4 * i + j) ≤ 6 ∧ D.2.1 (4 * i + j) = D.2.1 (4 * j + i) ∧ ((i = j ∨ D.1 ≤ i ∨ D.1 ≤ j) → D.2.1 (4 * i + j) = 2)
theorem vD.ring {D : eb_D} (h : vD D) : D.2.2 < 16 := by
  obtain ⟨⟨h1, h2⟩, ⟨h3, h4⟩, -⟩ := h
  have : 2 ^ D.1 ≤ 2 ^ 4 := Nat.pow_le_pow_right (by omega) h2
  omega
/-- the model's body b is the diagram D -/
def mD (σ : eb_MS) (b : Nat) (D : eb_D) : Prop := σ.2.1 1 b = nI D.1 ∧ σ.2.1 3 b = nI D.2.2 ∧ ∀ k, k < 16 → σ.2.1 2 (16 * b + k) = nI (D.2.1 k)
theorem mk_bit1 : ∀ a, a < 16 → ∀ k, k < 4 → (eb_shr (nI a) (nI k)) &&& nI 1 = nI (bt a k) := by decide +kernel
theorem mk_shl1 : ∀ k, k < 5 → eb_shl (nI 1) (nI k) = nI (2 ^ k) := by decide +kernel
theorem bt_lt (a k : Nat) : bt a k < 2 := Nat.mod_lt _ (by decide)
theorem jnp_lt (an : Nat → Nat) (i : Nat) : ∀ m, m ≤ 4 → jnp an i m < 16 := by
  intro m
  induction m with
  | zero => intro _; exact (by decide : 0 < 16)
  | succ m ih =>
    intro hm
    refine mk_orl _ (ih (by omega)) _ ?_
    cases and (not (Nat.beq m i)) (Nat.blt 2 (an (Nat.add (Nat.mul 4 i) m)))
    · exact (by decide : 0 < 16)
    · show 2 ^ m < 16
      exact Nat.lt_of_le_of_lt (Nat.pow_le_pow_right (by omega) (show m ≤ 3 by omega)) (by decide)
section SP0
variable {σ : eb_MS} {b : Nat} {D : eb_D}
theorem sp_in {a lo hi : Int32} {K : Int32 → Prop} (h1 : lo ≤ a ∧ a ≤ hi → K 1) (h2 : ¬ (lo ≤ a ∧ a ≤ hi) → K 0) : MX2_in a lo hi K := by
  unfold MX2_in
  refine ⟨fun h => ?_, fun h => ?_⟩
  · exact h2 (fun z => by have := Int32.not_le.mpr h; exact this z.1)
  · refine ⟨fun h' => ?_, fun h' => ?_⟩
    · exact h2 (fun z => by have := Int32.not_le.mpr h'; exact this z.2)
    · exact h1 ⟨Int32.not_lt.mp h, Int32.not_lt.mp h'⟩
theorem sp_angleOf {i j : Nat} {K : Int32 → Prop} (hD : mD σ b D) (hb : b < 4) (hi : i < 4) (hj : j < 4) (hK : K (nI (D.2.1 (4 * i + j)))) : MX2_angleOf σ (nI b) (nI i) (nI j) K := by
  unfold MX2_angleOf
  rw [eb_rd_iff, nL_16, nL_4, nI_mul, nI_mul, nI_add, nI_add, nI_cl (by omega), show 16 * b + 4 * i + j = 16 * b + (4 * i + j) by omega, hD.2.2 _ (by omega)]
  exact ⟨vp_inN (by omega) (by omega), hK⟩
theorem sp_joinedTo {i : Nat} {K : Int32 → Prop} (hv : vD D) (hD : mD σ b D) (hb : b < 4) (hi : i < 4) (hK : K (nI (jnp D.2.1 i D.1))) : MX2_joinedTo σ (nI b) (nI i) K := by
  have hr := hv.1.2
  unfold MX2_joinedTo
  refine eb_loop2_i (fun s x => ∃ m, m ≤ D.1 ∧ s = nI (jnp D.2.1 i m) ∧ x = nI m) (fun s x => 8 - x.toNatClampNeg) ?_ (show ∃ m, m ≤ D.1 ∧ (0 : Int32) = nI (jnp D.2.1 i m) ∧ (0 : Int32) = nI m from ⟨0, Nat.zero_le _, rfl, rfl⟩)
  rintro R s x ⟨m, hm, rfl, rfl⟩ hR
  rw [eb_rd_iff, nI_cl (by omega), hD.1]
  refine ⟨vp_inN hb (by omega), ?_⟩
  refine ⟨fun h => ?_, fun h => ?_⟩
  · rw [nI_leE (by omega) (by omega)] at h
    rw [show m = D.1 by omega]
    exact hK
  · rw [nI_leE (by omega) (by omega)] at h
    rw [eb_jp1_iff]
    have hl := jnp_lt D.2.1 i m (by omega)
    have hang := hv.2.2 i m hi (by omega)
    have go : ∀ v : Nat, v < 16 → jnp D.2.1 i (m + 1) = Nat.lor (jnp D.2.1 i m) v → R (nI (jnp D.2.1 i m) ||| nI v) (nI m + 1) := by
      intro v hv1 e
      refine hR _ _ ⟨m + 1, by omega, ?_, by rw [nI_1]⟩ ?_
      · rw [mk_or _ hl _ hv1, e]
      · rw [nI_1, nI_cl (by omega), nI_cl (by omega)]; omega
    have hj : jnp D.2.1 i (m + 1) = Nat.lor (jnp D.2.1 i m) (cond (and (not (Nat.beq m i)) (Nat.blt 2 (D.2.1 (4 * i + m)))) (Nat.pow 2 m) 0) := rfl
    refine ⟨fun h1 => ?_, fun h1 => ?_⟩
    · rw [nI_eqI (by omega) (by omega)] at h1
      refine go 0 (by decide) ?_
      rw [hj, h1, Nat.beq_refl]
      rfl
    · rw [nI_eqI (by omega) (by omega)] at h1
      have h1' : Nat.beq m i = false := by cases hbq : Nat.beq m i with
        | false => rfl
        | true => exact absurd (Nat.eq_of_beq_eq_true hbq) h1
      refine sp_angleOf hD hb hi (by omega) ?_
      rw [nL_2]
      refine ⟨fun h2 => ?_, fun h2 => ?_⟩
      · rw [nI_leE (by omega) (by omega)] at h2
        refine go 0 (by decide) ?_
        have h3 : Nat.blt 2 (D.2.1 (4 * i + m)) = false := by
          cases hq : Nat.blt 2 (D.2.1 (4 * i + m)) with
          | false => rfl
          | true => have := Nat.le_of_ble_eq_true hq; omega
        rw [hj, h1', h3]
        rfl
      · rw [nI_leE (by omega) (by omega)] at h2
        rw [mk_shl m (by omega)]
        refine go (2 ^ m) (Nat.lt_of_le_of_lt (Nat.pow_le_pow_right (by omega) (show m ≤ 3 by omega)) (by decide)) ?_
        have h3 : Nat.blt 2 (D.2.1 (4 * i + m)) = true := Nat.ble_eq_true_of_le (by omega)
        rw [hj, h1', h3]
        rfl
end SP0
