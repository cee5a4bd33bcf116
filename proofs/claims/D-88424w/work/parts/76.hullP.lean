set_option maxRecDepth 100000
/-! a body of three mirrors: its corners' rows, chosen once -/
abbrev hT8 : Type := Nat × (Nat → Nat → Nat) × (Nat → Nat → Nat) × (Nat → Nat) × (Nat → Nat) × (Nat → Nat) × (Nat → Nat) × (Nat → Nat)
noncomputable def hX (D : eb_D) : hT8 := @dite hT8 (∃ t : hT8, hulD D t.1 t.2.1 t.2.2.1 t.2.2.2.1 t.2.2.2.2.1 t.2.2.2.2.2.1 t.2.2.2.2.2.2.1 t.2.2.2.2.2.2.2) (Classical.propDecidable _) (fun h => Classical.choose h) (fun _ => (0, fun _ _ => 0, fun _ _ => 0, fun _ => 0, fun _ => 0, fun _ => 0, fun _ => 0, fun _ => 0))
noncomputable def uC (D : eb_D) : Nat := (hX D).1
noncomputable def uN (D : eb_D) : Nat → Nat → Nat := (hX D).2.1
noncomputable def uF (D : eb_D) : Nat → Nat → Nat := (hX D).2.2.1
noncomputable def uPi (D : eb_D) : Nat → Nat := (hX D).2.2.2.1
noncomputable def uQi (D : eb_D) : Nat → Nat := (hX D).2.2.2.2.1
noncomputable def uS (D : eb_D) : Nat → Nat := (hX D).2.2.2.2.2.1
noncomputable def uEc (D : eb_D) : Nat → Nat := (hX D).2.2.2.2.2.2.1
noncomputable def uFm (D : eb_D) : Nat → Nat := (hX D).2.2.2.2.2.2.2
noncomputable def uG (D : eb_D) : Nat := Rdg (uC D)
theorem u_ok {D : eb_D} (hv : vD D) (hz : ¬ ZD D = 0) (h3 : D.1 = 3) : hulD D (uC D) (uN D) (uF D) (uPi D) (uQi D) (uS D) (uEc D) (uFm D) := by
  have hex : ∃ t : hT8, hulD D t.1 t.2.1 t.2.2.1 t.2.2.2.1 t.2.2.2.2.1 t.2.2.2.2.2.1 t.2.2.2.2.2.2.1 t.2.2.2.2.2.2.2 := by
    obtain ⟨cl, nb, fc, pi, qi, sz, ec, fm, h⟩ := hulD_ex hv hz h3
    exact ⟨(cl, nb, fc, pi, qi, sz, ec, fm), h⟩
  have e : hX D = Classical.choose hex := by unfold hX; rw [dif_pos hex]
  unfold uC uN uF uPi uQi uS uEc uFm
  rw [e]
  exact Classical.choose_spec hex
/-- a face has a corner -/
noncomputable def FA (D : eb_D) (f c : Nat) : Bool := @decide (hFA (ZD D) (PN D 0) (kdD D) (FkD D) f c) (Classical.propDecidable _)
theorem FA_iff {D : eb_D} {f c : Nat} : FA D f c = true ↔ hFA (ZD D) (PN D 0) (kdD D) (FkD D) f c := by unfold FA; exact @decide_eq_true_iff _ (Classical.propDecidable _)
theorem RN_le : ∀ k, k < 30 → RN k ≤ 120 := by decide
theorem R_dg : ∀ k, k < 30 → 1 ≤ Rdg k ∧ Rdg k ≤ 5 := by decide
theorem R_lo : ∀ k, k < 30 → tal (RN k) (fun c => or (Nat.beq c 0) (not (tal (Rdg k) (fun i => not (Nat.blt (Rnb k c i) c))))) = true := by decide +kernel
theorem tal_ex {P : Nat → Bool} : ∀ {n : Nat}, (not (tal n (fun i => not (P i)))) = true → ∃ i, i < n ∧ P i = true := by
  intro n h
  refine Classical.byContradiction (fun hn => ?_)
  have : tal n (fun i => not (P i)) = true := tal_of (fun k hk => by
    cases e : P k with
    | false => rfl
    | true => exact absurd ⟨k, hk, e⟩ hn)
  rw [this] at h
  exact absurd h (by decide)
theorem cnB_enum {N : Nat} {e : Nat → Nat} : ∀ (m : Nat) {P : Nat → Bool}, (∀ i, i < m → e i < N) → (∀ i j, i < j → j < m → ¬ e i = e j) → (∀ d, d < N → (P d = true ↔ ∃ i, i < m ∧ e i = d)) → cnB P N = m := by
  intro m
  induction m with
  | zero =>
    intro P _ _ h
    have : cnB P N = cnB (fun _ => false) N := cnB_cg N (fun k hk => by
      cases e : P k with
      | false => rfl
      | true => obtain ⟨i, hi, _⟩ := (h k hk).mp e; exact absurd hi (Nat.not_lt_zero _))
    rw [this, cnB_false (fun _ => rfl)]
  | succ m ih =>
    intro P h1 h2 h3
    have e1 := ih (P := fun d => and (P d) (not (Nat.beq d (e m)))) (fun i hi => h1 i (by omega)) (fun i j hij hj => h2 i j hij (by omega)) (fun d hd => by
      rw [Bool.and_eq_true, h3 d hd]
      constructor
      · rintro ⟨⟨i, hi, hid⟩, hn⟩
        by_cases ei : i = m
        · rw [ei] at hid
          rw [nbT hid.symm] at hn
          exact absurd hn (by decide)
        · exact ⟨i, by omega, hid⟩
      · rintro ⟨i, hi, hid⟩
        refine ⟨⟨i, by omega, hid⟩, ?_⟩
        rw [nbF (fun z => h2 i m hi (by omega) (hid.trans z))]
        rfl)
    rw [← e1]
    refine cnB_set (v := e m) ?_ ((h3 _ (h1 m (by omega))).mpr ⟨m, by omega, rfl⟩) (fun k hk => ?_) N (h1 m (by omega))
    · show and (P (e m)) (not (Nat.beq (e m) (e m))) = false
      rw [nbT rfl, Bool.not_true, Bool.and_false]
    · show and (P k) (not (Nat.beq k (e m))) = P k
      rw [nbF hk, Bool.not_false, Bool.and_true]
section HP
variable {D : eb_D}
theorem jnd_hJ (h3 : D.1 = 3) (c d : Nat) : jnd D c d = true ↔ hJ (ZD D) (PN D 0) (Tto (TD D)) (inS D.2.2) c d := by
  rw [jnd_iff]
  constructor
  · rintro ⟨g, i, hg, hi, hb, h1, h2⟩
    exact ⟨g, i, hg, by omega, nbT hb, h1, h2⟩
  · rintro ⟨g, i, hg, hi, hb, h1, h2⟩
    exact ⟨g, i, hg, by omega, Nat.eq_of_beq_eq_true hb, h1, h2⟩
/-- a body of three mirrors with a group -/
def ok3 (D : eb_D) : Prop := vD D ∧ ¬ ZD D = 0 ∧ D.1 = 3
theorem u_dg (h : ok3 D) : 1 ≤ uG D ∧ uG D ≤ 5 := R_dg _ (u_ok h.1 h.2.1 h.2.2).1.1
theorem u_N (h : ok3 D) : NP D 0 ≤ 120 ∧ duN D ≤ 64 := by
  have q := u_ok h.1 h.2.1 h.2.2
  exact ⟨by rw [q.1.2.1]; exact RN_le _ q.1.1, q.2.2.1.2⟩
theorem u_nb (h : ok3 D) {c i : Nat} (hc : c < NP D 0) (hi : i < uG D) : uN D c i < NP D 0 := ((u_ok h.1 h.2.1 h.2.2).2.2.2.2.1 c i hc hi).1
theorem u_pi (h : ok3 D) {c i : Nat} (hc : c < NP D 0) (hi : i < uG D) : uPi D (uN D c i) = Rnb (uC D) (uPi D c) i := ((u_ok h.1 h.2.1 h.2.2).2.2.2.2.1 c i hc hi).2.1
theorem u_inj (h : ok3 D) {c i j : Nat} (hc : c < NP D 0) (hi : i < uG D) (hj : j < uG D) (e : uN D c i = uN D c j) : i = j := by
  have q := (u_ok h.1 h.2.1 h.2.2).2.2.2.2.1
  rcases Nat.lt_trichotomy i j with z | z | z
  · exact absurd e ((q c j hc hj).2.2 i z)
  · exact z
  · exact absurd e.symm ((q c i hc hi).2.2 j z)
theorem u_jnd (h : ok3 D) {c d : Nat} (hc : c < NP D 0) : jnd D c d = true ↔ ∃ i, i < uG D ∧ uN D c i = d := by
  rw [jnd_hJ h.2.2]
  exact (u_ok h.1 h.2.1 h.2.2).2.2.2.2.2.1 c d hc
theorem u_deg (h : ok3 D) {c : Nat} (hc : c < NP D 0) : cnB (jnd D c) (NP D 0) = uG D :=
  cnB_enum (uG D) (fun i hi => u_nb h hc hi) (fun i j hij hj e => by have := u_inj h hc (by omega) hj e; omega) (fun d _ => u_jnd h hc)
/-- a neighbour has it as a neighbour -/
theorem u_back (h : ok3 D) {c i : Nat} (hc : c < NP D 0) (hi : i < uG D) : ∃ j, j < uG D ∧ uN D (uN D c i) j = c := by
  refine (u_jnd h (u_nb h hc hi)).mp ?_
  rw [jnd_sy h.1 h.2.1]
  exact (u_jnd h hc).mpr ⟨i, hi, rfl⟩
theorem u_ne (h : ok3 D) {c i : Nat} (hc : c < NP D 0) (hi : i < uG D) : ¬ uN D c i = c := fun e => by
  have := (u_jnd (d := c) h hc).mpr ⟨i, hi, e⟩
  rw [jnd_irr h.1 h.2.1] at this
  exact absurd this (by decide)
/-- faces with an edge's both ends, and neighbours in a face: of a solid body -/
theorem u_sol (h : ok3 D) (hd : 3 ≤ uG D) {c i : Nat} (hc : c < NP D 0) (hi : i < uG D) : uF D c i < duN D ∧ ¬ uF D c i = uF D c (prI (uG D) i) ∧ (∀ f, FA D f c = true ∧ FA D f (uN D c i) = true ↔ f = uF D c i ∨ f = uF D c (prI (uG D) i)) ∧ ∀ d, jnd D c d = true ∧ FA D (uF D c i) d = true ↔ d = uN D c i ∨ d = uN D c (nxI (uG D) i) := by
  obtain ⟨q1, q2, q3, q4⟩ := (u_ok h.1 h.2.1 h.2.2).2.2.2.2.2.2.1 hd c i hc hi
  exact ⟨q1, q2, fun f => by rw [FA_iff, FA_iff]; exact q3 f, fun d => by rw [jnd_hJ h.2.2, FA_iff]; exact q4 d⟩
/-- a polygon, or an edge alone -/
theorem u_flat (h : ok3 D) (hd : ¬ 3 ≤ uG D) : (uG D = 2 ∧ duN D = 1 ∧ ∀ c, c < NP D 0 → (∀ f, FA D f c = true ↔ f = 0) ∧ ∀ i, i < 2 → uF D c i = 0) ∨ (uG D = 1 ∧ duN D = 0 ∧ ∀ c, c < NP D 0 → uF D c 0 = 0) := by
  rcases (u_ok h.1 h.2.1 h.2.2).2.2.2.2.2.2.2.1 hd with ⟨q1, q2, q3⟩ | q
  · exact Or.inl ⟨q1, q2, fun c hc => ⟨fun f => by rw [FA_iff]; exact (q3 c hc).1 f, (q3 c hc).2⟩⟩
  · exact Or.inr q
theorem u_or (h : ok3 D) {c i j : Nat} (hc : c < NP D 0) (hi : i < uG D) (hj : j < uG D) (e : uN D (uN D c i) j = c) : uF D (uN D c i) (prI (uG D) j) = uF D c i := (u_ok h.1 h.2.1 h.2.2).2.2.2.2.2.2.2.2.1 c i j hc hi hj e
theorem u_f0 (h : ok3 D) (hF : ¬ duN D = 0) (f : Nat) : FA D f 0 = true ↔ ∃ i, i < uG D ∧ uF D 0 i = f := by
  rw [FA_iff]
  exact (u_ok h.1 h.2.1 h.2.2).2.2.2.2.2.2.2.2.2.1 hF f
theorem u_sz (h : ok3 D) {f : Nat} (hf : f < duN D) : uS D f ≤ 12 ∧ cnB (FA D f) (NP D 0) = uS D f := by
  obtain ⟨q1, B, q2, q3⟩ := (u_ok h.1 h.2.1 h.2.2).2.2.2.2.2.2.2.2.2.2.1 f hf
  refine ⟨q1, ?_⟩
  rw [← q3]
  exact cnB_cg _ (fun c _ => Bool_ext (by rw [FA_iff, q2]))
theorem u_rsz (h : ok3 D) (hF : ¬ duN D = 0) {c i : Nat} (hc : c < NP D 0) (hi : i < uG D) : uS D (uF D c i) = Rsz (uC D) (uPi D c) i := (u_ok h.1 h.2.1 h.2.2).2.2.2.2.2.2.2.2.2.2.2.1 hF c i hc hi
theorem u_ed (h : ok3 D) {i g : Nat} (hi : i < 3) (hr : inS D.2.2 i = true) (hg : g < ZD D) (f : Nat) : (∃ h k, h < ZD D ∧ k < 3 ∧ kdD D k = true ∧ ¬ k = i ∧ EkD D i h = EkD D i g ∧ FkD D k h = f) ↔ FA D f (PN D 0 g) = true ∧ FA D f (PN D 0 (Tto (TD D) g i)) = true := by
  rw [FA_iff, FA_iff]
  exact (u_ok h.1 h.2.1 h.2.2).2.2.2.2.2.2.2.2.2.2.2.2.1 i g hi hr hg f
theorem u_per (h : ok3 D) : uPi D 0 = 0 ∧ ∀ c, c < NP D 0 → (uPi D c < NP D 0 ∧ uQi D (uPi D c) = c) ∧ uQi D c < NP D 0 ∧ uPi D (uQi D c) = c := (u_ok h.1 h.2.1 h.2.2).2.2.2.1
theorem FA_lt (h : ok3 D) {f c : Nat} (hf : FA D f c = true) : f < duN D ∧ c < NP D 0 := by
  obtain ⟨g, k, hg, hk, hkd, h1, h2⟩ := FA_iff.mp hf
  rw [← h1, ← h2]
  refine ⟨?_, PN_lt D 0 hg⟩
  have := off_lt (D := D) hk (fP_lt (i := k) (g := g) (p := PN D (fS k) g) (by unfold fP; rw [show isK D (fS k) = true from hkd]; rfl) hg)
  unfold FkD
  omega
theorem NP0_pos (h : ok3 D) : 0 < NP D 0 := NP_pos h.2.1 0
/-- all corners are reached from corner 0 -/
theorem u_conn (h : ok3 D) {P : Nat → Prop} (h0 : P 0) (hs : ∀ c i, c < NP D 0 → P c → i < uG D → P (uN D c i)) : ∀ c, c < NP D 0 → P c := by
  have hN := (u_ok h.1 h.2.1 h.2.2).1
  have key : ∀ m, ∀ c, c < NP D 0 → uPi D c = m → P c := by
    intro m
    induction m using Nat.strongRecOn with
    | _ m ih =>
      intro c hc hm
      have q := (u_per h).2 c hc
      by_cases e0 : m = 0
      · have : c = 0 := by
          have q0 := (u_per h).2 0 (by omega)
          have e1 : uPi D c = uPi D 0 := by rw [hm, e0, (u_per h).1]
          exact q.1.2.symm.trans ((congrArg (uQi D) e1).trans q0.1.2)
        rw [this]; exact h0
      · have r := tal_spec (R_lo _ hN.1) m (by rw [← hN.2.1, ← hm]; exact q.1.1)
        rw [nbF e0, Bool.false_or] at r
        obtain ⟨i, hi, hlt⟩ := tal_ex r
        have hlt' : Rnb (uC D) m i < m := Nat.le_of_ble_eq_true hlt
        rw [← hm, ← u_pi h hc hi] at hlt'
        have hd := u_nb h hc hi
        have hPd := ih (uPi D (uN D c i)) (by omega) _ hd rfl
        obtain ⟨j, hj, hjc⟩ := u_back h hc hi
        rw [← hjc]
        exact hs _ j hd hPd hj
  intro c hc
  exact key _ c hc rfl
end HP
