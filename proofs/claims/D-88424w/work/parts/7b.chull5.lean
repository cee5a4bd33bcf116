set_option maxRecDepth 100000
/-! a hull is made -/
/-- a hull's cells while its faces come -/
def hB (Γ : eb_C) (st : eb_S) (q p net pj pm ps pk pr pf : Nat) (D : eb_D) (F : Nat) (A : Nat → Nat → Bool) (fj fm f3 f4 fr ff : Nat → Int32) : Prop :=
  st q = some (.inr (11, [.ref p, .ref net, .int (nI F), .ref ps, .ref pk, .ref pr, .ref pf])) ∧ nC Γ st 10 net pj pm 24 (NP D 0) [] (jnd D) fj fm ∧ st ps = some (eb_ia Γ 0 150 f3) ∧ st pk = some (eb_ia Γ 0 1800 f4) ∧ rB (NP D 0) A f3 f4 ∧ st pr = some (eb_ia Γ 0 (8 * NP D 0) fr) ∧ st pf = some (eb_ia Γ 0 (8 * NP D 0) ff)
noncomputable def foff (D : eb_D) (S : Nat) : Nat := (if 3 < S then fM D 2 else 0) + (if 5 < S then fM D 1 else 0) + (if 6 < S then fM D 0 else 0)
/-- which faces got which corners so far -/
def cHP (D : eb_D) (S m f c : Nat) : Prop := ∃ g k, g < ZD D ∧ k < 3 ∧ kdD D k = true ∧ (fS k < S ∨ (fS k = S ∧ g < m)) ∧ FkD D k g = f ∧ PN D 0 g = c
noncomputable def cHB (D : eb_D) (S m f c : Nat) : Bool := @decide (cHP D S m f c) (Classical.propDecidable _)
theorem cHB_iff {D : eb_D} {S m f c : Nat} : cHB D S m f c = true ↔ cHP D S m f c := by unfold cHB; exact @decide_eq_true_iff _ (Classical.propDecidable _)
theorem fS_v : fS 0 = 6 ∧ fS 1 = 5 ∧ fS 2 = 3 := by decide
theorem pc_2 : ∀ s, s < 8 → (pc4 s = 2 → ∃ k, k < 3 ∧ s = fS k) ∧ (¬ pc4 s = 2 → ∀ k, k < 3 → ¬ fS k = s) := by
  intro s hs
  obtain ⟨e0, e1, e2⟩ := fS_v
  have h : s = 0 ∨ s = 1 ∨ s = 2 ∨ s = 3 ∨ s = 4 ∨ s = 5 ∨ s = 6 ∨ s = 7 := by omega
  rcases h with rfl | rfl | rfl | rfl | rfl | rfl | rfl | rfl
  · exact ⟨fun z => absurd z (by decide), fun _ k hk => by have : k = 0 ∨ k = 1 ∨ k = 2 := by omega
                                                           rcases this with rfl | rfl | rfl <;> omega⟩
  · exact ⟨fun z => absurd z (by decide), fun _ k hk => by have : k = 0 ∨ k = 1 ∨ k = 2 := by omega
                                                           rcases this with rfl | rfl | rfl <;> omega⟩
  · exact ⟨fun z => absurd z (by decide), fun _ k hk => by have : k = 0 ∨ k = 1 ∨ k = 2 := by omega
                                                           rcases this with rfl | rfl | rfl <;> omega⟩
  · exact ⟨fun _ => ⟨2, by omega, e2.symm⟩, fun z => absurd (by decide) z⟩
  · exact ⟨fun z => absurd z (by decide), fun _ k hk => by have : k = 0 ∨ k = 1 ∨ k = 2 := by omega
                                                           rcases this with rfl | rfl | rfl <;> omega⟩
  · exact ⟨fun _ => ⟨1, by omega, e1.symm⟩, fun z => absurd (by decide) z⟩
  · exact ⟨fun _ => ⟨0, by omega, e0.symm⟩, fun z => absurd (by decide) z⟩
  · exact ⟨fun z => absurd z (by decide), fun _ k hk => by have : k = 0 ∨ k = 1 ∨ k = 2 := by omega
                                                           rcases this with rfl | rfl | rfl <;> omega⟩
theorem foff_k {D : eb_D} {k : Nat} (hk : k < 3) : foff D (fS k) = offF D (fM D) k ∧ foff D (fS k + 1) = foff D (fS k) + fM D k := by
  obtain ⟨e0, e1, e2⟩ := fS_v
  have : k = 0 ∨ k = 1 ∨ k = 2 := by omega
  unfold foff offF
  rcases this with rfl | rfl | rfl
  · rw [e0]; simp
  · rw [e1]; simp
  · rw [e2]; simp
theorem foff_o {D : eb_D} {S : Nat} (h : ∀ k, k < 3 → kdD D k = true → ¬ fS k = S) : foff D (S + 1) = foff D S := by
  obtain ⟨e0, e1, e2⟩ := fS_v
  have z : ∀ k, k < 3 → fS k = S → fM D k = 0 := fun k hk e => by
    unfold fM
    cases hh : isK D (fS k) with
    | false => rfl
    | true => exact absurd e (h k hk hh)
  unfold foff
  by_cases h3 : S = 3
  · have := z 2 (by omega) (by omega); subst h3; simp [this]
  · by_cases h5 : S = 5
    · have := z 1 (by omega) (by omega); subst h5; simp [this]
    · by_cases h6 : S = 6
      · have := z 0 (by omega) (by omega); subst h6; simp [this]
      · have c1 : (3 < S + 1) = (3 < S) := by rw [eq_iff_iff]; omega
        have c2 : (5 < S + 1) = (5 < S) := by rw [eq_iff_iff]; omega
        have c3 : (6 < S + 1) = (6 < S) := by rw [eq_iff_iff]; omega
        simp only [c1, c2, c3]
theorem foff_8 (D : eb_D) : foff D 8 = duN D := by unfold foff duN; simp
theorem cnB_ltP {P Q : Nat → Bool} {N v : Nat} (h : ∀ k, k < N → P k = true → Q k = true) (hv : v < N) (h1 : P v = false) (h2 : Q v = true) : cnB P N < cnB Q N := by
  have e1 : cnB (fun d => or (P d) (Nat.beq d v)) N = cnB P N + 1 := by
    refine cnB_set (v := v) h1 ?_ (fun k hk => ?_) _ hv
    · show or (P v) (Nat.beq v v) = true
      rw [nbT rfl, Bool.or_true]
    · show P k = or (P k) (Nat.beq k v)
      rw [nbF hk, Bool.or_false]
  have := cnB_mono (P := fun d => or (P d) (Nat.beq d v)) (Q := Q) N (fun k hk z => by
    have z' : or (P k) (Nat.beq k v) = true := z
    rw [Bool.or_eq_true] at z'
    rcases z' with y | y
    · exact h k hk y
    · rw [Nat.eq_of_beq_eq_true y]; exact h2)
  omega
section HI
variable {Γ : eb_C} {st st' : eb_S} {I I' : Nat → va_E → Prop} {bc bs : Nat} {a : Nat → Nat} {D : eb_D} {d : cBT} {gp : Nat}
/-- a cell that is neither the body's nor one that stays -/
def ownC (I : Nat → va_E → Prop) (a : Nat → Nat) (x : Nat) : Prop := (∀ j, j < 4 → ¬ a j = x) ∧ ∀ y, ¬ I x y
theorem bX.own {x : Nat} (h : bX Γ st I a D d gp) (hx : st x = none) : ownC I a x := ⟨fun j hj e => by have := h.1.1 j hj; rw [e, hx] at this; exact absurd this (by simp), fun y hy => by have := h.fz _ _ hy; rw [hx] at this; exact absurd this (by simp)⟩
theorem ownC.mono {x : Nat} {y : va_E} (h : ownC I a x) (hx : st x = some y) (hN : ∀ b y, I' b y → I b y ∨ (st' b = some y ∧ st b = none)) : ownC I' a x := ⟨h.1, fun z hz => by
  rcases hN _ _ hz with w | ⟨_, w⟩
  · exact h.2 z w
  · rw [hx] at w; exact absurd w (by simp)⟩
end HI
