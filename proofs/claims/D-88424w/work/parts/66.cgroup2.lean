set_option maxRecDepth 100000
/-- what a store holds -/
def atS (st : eb_S) : Nat → va_E → Prop := fun a e => st a = some e
/-- a group's cells -/
def cGr (Γ : eb_C) (I : Nat → va_E → Prop) (p : Nat) (e : tE) : Prop :=
  ∃ (pn pf pl pg : Nat) (fn ff fl fg : Nat → Int32), I p (.inr (7, [.int (nI e.1), .int (nI e.2.2.1), .ref pn, .ref pf, .ref pl, .ref pg])) ∧ I pn (eb_ia Γ 3 (e.1 * e.2.2.1) fn) ∧ I pf (eb_ia Γ 3 500 ff) ∧ I pl (eb_ia Γ 4 500 fl) ∧ I pg (eb_ia Γ 4 500 fg) ∧
    (∀ g i, g < e.2.2.1 → i < e.1 → fn (e.1 * g + i) = nI (Tto e g i)) ∧ (∀ x, x < e.2.2.1 → fg x = nI (Tlen e x)) ∧ (∀ x, x < e.2.2.1 → ¬ x = 0 → ff x = nI (Tpar e x) ∧ fl x = nI (Tlas e x)) ∧ ff 0 = -1
theorem cGr.mono {Γ : eb_C} {I I' : Nat → va_E → Prop} {p : Nat} {e : tE} (h : cGr Γ I p e) (hI : ∀ a x, I a x → I' a x) : cGr Γ I' p e := by
  obtain ⟨pn, pf, pl, pg, fn, ff, fl, fg, h1, h2, h3, h4, h5, h6⟩ := h
  exact ⟨pn, pf, pl, pg, fn, ff, fl, fg, hI _ _ h1, hI _ _ h2, hI _ _ h3, hI _ _ h4, hI _ _ h5, h6⟩
section GR2
variable {Γ : eb_C} {st : eb_S} {D : eb_D} {e : tE}
/-- while the group is made -/
def cGi (Γ : eb_C) (st0 s : eb_S) (D : eb_D) (e : tE) (a0 pn pf pl pg mk pq pc pp pm g i key m : Nat) : Prop :=
  ∃ (fn ff fl fg fd : Nat → Int32), s a0 = some (.inr (7, [.int (nI e.1), .int (nI m), .ref pn, .ref pf, .ref pl, .ref pg])) ∧ s pn = some (eb_ia Γ 3 (e.1 * e.2.2.1) fn) ∧ s pf = some (eb_ia Γ 3 500 ff) ∧ s pl = some (eb_ia Γ 4 500 fl) ∧ s pg = some (eb_ia Γ 4 500 fg) ∧
    cMk Γ [a0, pn, pf, pl, pg] s mk pq pc pp pm e.1 e.2.2.1 m (TJ e) (mirF e.1 D.2.1) fd ∧ sf [a0] st0 s ∧ 1 ≤ m ∧
    (∀ g' i', i' < e.1 → g' < e.2.2.1 → (g' < g ∨ (g' = g ∧ i' < i)) → fn (e.1 * g' + i') = nI (Tto e g' i')) ∧ (∀ x, x < m → fg x = nI (Tlen e x)) ∧ (∀ x, x < m → ¬ x = 0 → ff x = nI (Tpar e x) ∧ fl x = nI (Tlas e x) ∧ Tkey e x < key) ∧ ff 0 = -1 ∧
    ∀ x, m ≤ x → x < e.2.2.1 → key ≤ Tkey e x
/-- the cells are told apart, and are new -/
def cGd (st0 : eb_S) (a0 pn pf pl pg mk pc pp pm : Nat) : Prop :=
  (st0 pn = none ∧ st0 pf = none ∧ st0 pl = none ∧ st0 pg = none ∧ st0 mk = none ∧ st0 pc = none ∧ st0 pp = none ∧ st0 pm = none) ∧
  (¬ pn = pf ∧ ¬ pn = pl ∧ ¬ pn = pg ∧ ¬ pf = pl ∧ ¬ pf = pg ∧ ¬ pl = pg) ∧ (∀ w ∈ [mk, pc, pp, pm], ¬ a0 = w ∧ ¬ pn = w ∧ ¬ pf = w ∧ ¬ pl = w ∧ ¬ pg = w) ∧ (¬ a0 = pn ∧ ¬ a0 = pf ∧ ¬ a0 = pl ∧ ¬ a0 = pg)
theorem cMk.keep {X : List Nat} {s s' : eb_S} {p pq pc pp pm r n m w : Nat} {J M : Nat → Nat → Nat} {fd : Nat → Int32} (h : cMk Γ X s p pq pc pp pm r n m J M fd) (hs : sf [w] s s') (hw : ¬ w = p ∧ ¬ w = pc ∧ ¬ w = pp ∧ ¬ w = pm) (hX : w ∈ X) : cMk Γ X s' p pq pc pp pm r n m J M fd := by
  obtain ⟨q, F, fc, fp, c1, c2, c3, c4, c5, c6, c7, c8, c9, c10, c11, c12, c13, c14⟩ := h
  have ne : ∀ {a : Nat}, ¬ a = w → a ∉ [w] := fun h z => h (List.mem_singleton.mp z)
  refine ⟨q, F, fc, fp, hs _ _ c1 (ne (fun z => hw.1 z.symm)), hs _ _ c2 (ne (fun z => c14.1 (by rw [z]; exact hX))), fun i hi => ⟨hs _ _ (c3 i hi).1 (ne (fun z => c14.2 i hi (by rw [z]; exact hX))), (c3 i hi).2⟩, c4, hs _ _ c5 (ne (fun z => hw.2.1 z.symm)), c6, hs _ _ c7 (ne (fun z => hw.2.2.1 z.symm)), c8, hs _ _ c9 (ne (fun z => hw.2.2.2 z.symm)), c10, c11, c12, c13, c14⟩
end GR2
