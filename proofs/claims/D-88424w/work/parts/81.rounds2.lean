set_option maxRecDepth 100000
section EF
variable {D : eb_D}
theorem off_inj {k k' p p' : Nat} (hk : k < 3) (hk' : k' < 3) (hp : p < fM D k) (hp' : p' < fM D k') (e : offF D (fM D) k + p = offF D (fM D) k' + p') : k = k' ∧ p = p' := by
  unfold offF at e
  have c3 : ∀ {k : Nat}, k < 3 → k = 0 ∨ k = 1 ∨ k = 2 := fun h => by omega
  rcases c3 hk with rfl | rfl | rfl <;> rcases c3 hk' with rfl | rfl | rfl <;> simp at e <;> omega
theorem fP_iff {k g p : Nat} : fP D k g = some p ↔ kdD D k = true ∧ FqD D k g = p := by
  unfold fP kdD FqD
  cases isK D (fS k) with
  | false => exact ⟨fun z => absurd z (by simp), fun z => Bool.noConfusion z.1⟩
  | true => exact ⟨fun z => ⟨rfl, by have z' : some (PN D (fS k) g) = some p := z; injection z'⟩, fun z => by show some (PN D (fS k) g) = some p; rw [z.2]⟩
theorem eP_iff (h : ok3 D) {i g p : Nat} (hi : i < 3) : eP D i g = some p ↔ inS D.2.2 i = true ∧ EkD D i g = p := by
  have hk := (u_ok h.1 h.2.1 h.2.2).2.1 i hi
  unfold eP EkD
  rw [hk]
  cases inS D.2.2 i with
  | false => exact ⟨fun z => absurd z (by simp), fun z => Bool.noConfusion z.1⟩
  | true => exact ⟨fun z => ⟨rfl, by have z' : some (PN D (2 ^ i) g) = some p := z; injection z'⟩, fun z => by show some (PN D (2 ^ i) g) = some p; rw [z.2]⟩
theorem u_edges (h : ok3 D) (hF : ¬ duN D = 0) {j : Nat} (hj : j < uG D) (y : Nat) : (∃ g k i p q, g < ZD D ∧ k < 3 ∧ i < 3 ∧ ¬ i = k ∧ PN D 0 g = 0 ∧ fP D k g = some p ∧ eP D i g = some q ∧ 500 * k + p = uFm D j ∧ 500 * i + q = y) ↔ y = uEc D j ∨ y = uEc D (nxI (uG D) j) := by
  have q := ((u_ok h.1 h.2.1 h.2.2).2.2.2.2.2.2.2.2.2.2.2.2.2 hF j hj).1 y
  refine Iff.trans ⟨?_, ?_⟩ q
  · rintro ⟨g, k, i, p, r, z1, z2, z3, z4, z5, z6, z7, z8, z9⟩
    obtain ⟨a1, a2⟩ := fP_iff.mp z6
    obtain ⟨b1, b2⟩ := (eP_iff h z3).mp z7
    exact ⟨g, k, i, z1, z2, z3, a1, b1, z4, z5, by rw [a2]; exact z8, by rw [b2]; exact z9⟩
  · rintro ⟨g, k, i, z1, z2, z3, a1, b1, z4, z5, z8, z9⟩
    exact ⟨g, k, i, _, _, z1, z2, z3, z4, z5, fP_iff.mpr ⟨a1, rfl⟩, (eP_iff h z3).mpr ⟨b1, rfl⟩, z8, z9⟩
theorem u_faces (h : ok3 D) (hF : ¬ duN D = 0) {j : Nat} (hj : j < uG D) (y : Nat) : (∃ g k i p q, g < ZD D ∧ k < 3 ∧ i < 3 ∧ ¬ k = i ∧ PN D 0 g = 0 ∧ fP D k g = some p ∧ eP D i g = some q ∧ 500 * i + q = uEc D j ∧ 500 * k + p = y) ↔ y = uFm D j ∨ y = uFm D (prI (uG D) j) := by
  have q := ((u_ok h.1 h.2.1 h.2.2).2.2.2.2.2.2.2.2.2.2.2.2.2 hF j hj).2.1 y
  refine Iff.trans ⟨?_, ?_⟩ q
  · rintro ⟨g, k, i, p, r, z1, z2, z3, z4, z5, z6, z7, z8, z9⟩
    obtain ⟨a1, a2⟩ := fP_iff.mp z6
    obtain ⟨b1, b2⟩ := (eP_iff h z3).mp z7
    exact ⟨g, i, k, z1, z3, z2, b1, a1, z4, z5, by rw [b2]; exact z8, by rw [a2]; exact z9⟩
  · rintro ⟨g, i, k, z1, z3, z2, b1, a1, z4, z5, z8, z9⟩
    exact ⟨g, k, i, _, _, z1, z2, z3, z4, z5, fP_iff.mpr ⟨a1, rfl⟩, (eP_iff h z3).mpr ⟨b1, rfl⟩, z8, z9⟩
theorem u_ecinj (h : ok3 D) (hF : ¬ duN D = 0) {i j : Nat} (hi : i < uG D) (hj : j < uG D) (e : uEc D i = uEc D j) : i = j := by
  have q := fun {j : Nat} (hj : j < uG D) => ((u_ok h.1 h.2.1 h.2.2).2.2.2.2.2.2.2.2.2.2.2.2.2 hF j hj).2.2.1
  rcases Nat.lt_trichotomy i j with z | z | z
  · exact absurd e (q hj i z)
  · exact z
  · exact absurd e.symm (q hi j z)
theorem u_fmc (h : ok3 D) (hF : ¬ duN D = 0) {j : Nat} (hj : j < uG D) : ∃ k q, k < 3 ∧ q < 500 ∧ q < fM D k ∧ kdD D k = true ∧ uFm D j = 500 * k + q ∧ offF D (fM D) k + q = uF D 0 j := by
  obtain ⟨g, k, i, p, q, z1, z2, z3, z4, z5, z6, z7, z8, z9⟩ := (u_edges h hF hj (uEc D j)).mpr (Or.inl rfl)
  have a := fP_l5 h.1 z6 z1
  have b := fP_lt z6 z1
  have r := ((u_ok h.1 h.2.1 h.2.2).2.2.2.2.2.2.2.2.2.2.2.2.2 hF j hj).2.2.2
  refine ⟨k, p, z2, a, b, (fP_iff.mp z6).1, z8.symm, ?_⟩
  have r3 := r.2.2
  have e1 : uFm D j / 500 = k := by omega
  have e2 : uFm D j % 500 = p := by omega
  rw [e1, e2] at r3
  exact r3
theorem u_ecc (h : ok3 D) (hF : ¬ duN D = 0) {j : Nat} (hj : j < uG D) : ∃ i q, i < 3 ∧ q < 500 ∧ uEc D j = 500 * i + q := by
  obtain ⟨g, k, i, p, q, z1, z2, z3, z4, z5, z6, z7, z8, z9⟩ := (u_edges h hF hj (uEc D j)).mpr (Or.inl rfl)
  exact ⟨i, q, z3, eP_l5 h.1 z7 z1, z9.symm⟩
theorem u_fm_of (h : ok3 D) (hF : ¬ duN D = 0) {j k q : Nat} (hj : j < uG D) (hk : k < 3) (hq : q < fM D k) (e : offF D (fM D) k + q = uF D 0 j) : uFm D j = 500 * k + q := by
  obtain ⟨k', q', a1, a2, a3, a4, a5, a6⟩ := u_fmc h hF hj
  obtain ⟨e1, e2⟩ := off_inj hk a1 hq a3 (e.trans a6.symm)
  rw [a5, e1, e2]
theorem u_fminj (h : ok3 D) (hd : 3 ≤ uG D) (hF : ¬ duN D = 0) {i j : Nat} (hi : i < uG D) (hj : j < uG D) (e : uFm D i = uFm D j) : i = j := by
  obtain ⟨k, q, a1, a2, a3, a4, a5, a6⟩ := u_fmc h hF hi
  obtain ⟨k', q', b1, b2, b3, b4, b5, b6⟩ := u_fmc h hF hj
  have e1 : k = k' := by omega
  have e2 : q = q' := by omega
  subst e1; subst e2
  exact u_finj h hd (NP0_pos h) hi hj (a6.symm.trans b6)
theorem u_fmsz (h : ok3 D) (hF : ¬ duN D = 0) {j k q : Nat} (hj : j < uG D) (hk : k < 3) (hq : q < fM D k) (hkd : kdD D k = true) (e : offF D (fM D) k + q = uF D 0 j) : cnB (mkF (fun g => isO (fP D k g) q) (PN D 0) (ZD D)) (NP D 0) = SQ D j := by
  unfold SQ
  rw [← (u_sz h (u_fl h hF (NP0_pos h) hj)).2]
  refine cnB_cg _ (fun c hc => Bool_ext ?_)
  rw [mkF_ex, FA_iff]
  constructor
  · rintro ⟨g, hg, hp, rfl⟩
    have hp' : fP D k g = some q := by
      have hp : isO (fP D k g) q = true := hp
      cases ho : fP D k g with
      | none => rw [ho] at hp; exact Bool.noConfusion hp
      | some d => rw [ho] at hp; have : d = q := Nat.eq_of_beq_eq_true hp; rw [this]
    obtain ⟨a1, a2⟩ := fP_iff.mp hp'
    refine ⟨g, k, hg, hk, a1, ?_, rfl⟩
    rw [← e, ← a2]
    rfl
  · rintro ⟨g, k', hg, hk', a1, a2, rfl⟩
    have hp' : fP D k' g = some (PN D (fS k') g) := fP_iff.mpr ⟨a1, rfl⟩
    obtain ⟨e1, e2⟩ := off_inj hk' hk (fP_lt hp' hg) hq (Eq.trans a2 e.symm)
    subst e1
    refine ⟨g, hg, ?_, rfl⟩
    show isO (fP D k' g) q = true
    rw [hp', e2]
    exact nbT rfl
end EF
/-- on, or back: the edge ahead; the next face -/
def eDx (g : Nat) (w : Bool) (j : Nat) : Nat := cond w (nxI g j) j
def sDx (g : Nat) (w : Bool) (j : Nat) : Nat := cond w (nxI g j) (prI g j)
theorem sD_1 : ∀ g, g < 6 → ∀ j, j < g → ∀ w : Bool, eDx g w j < g ∧ sDx g w j < g ∧ prI g j < g ∧ nxI g j < g ∧ prI g (nxI g j) = j ∧ nxI g (prI g j) = j := by decide +kernel
theorem sD_p : ∀ g, g < 6 → ∀ j, j < g → ∀ m, m < g → ∀ w : Bool, sDx g w (pP g w j m) = pP g w j (m + 1) := by decide +kernel
theorem pP_g : ∀ g, g < 6 → ∀ j, j < g → ∀ w : Bool, pP g w j g = j := by decide +kernel
section EF2
variable {D : eb_D}
theorem u_next (h : ok3 D) (hd : 3 ≤ uG D) (hF : ¬ duN D = 0) {j : Nat} (hj : j < uG D) (w : Bool) (y : Nat) : (∃ g k i p q, g < ZD D ∧ k < 3 ∧ i < 3 ∧ ¬ k = i ∧ PN D 0 g = 0 ∧ fP D k g = some p ∧ eP D i g = some q ∧ 500 * i + q = uEc D (eDx (uG D) w j) ∧ 500 * k + p = y) ↔ y = uFm D j ∨ y = uFm D (sDx (uG D) w j) := by
  have hg := u_dg h
  obtain ⟨s1, s2, s3, s4, s5, s6⟩ := sD_1 (uG D) (by omega) j hj w
  rw [u_faces h hF s1]
  cases w with
  | true =>
    show y = uFm D (nxI (uG D) j) ∨ y = uFm D (prI (uG D) (nxI (uG D) j)) ↔ y = uFm D j ∨ y = uFm D (nxI (uG D) j)
    rw [s5]
    exact ⟨Or.symm, Or.symm⟩
  | false => exact Iff.rfl
theorem u_nextE (h : ok3 D) (hd : 3 ≤ uG D) (hF : ¬ duN D = 0) {j : Nat} (hj : j < uG D) (w : Bool) (y : Nat) : (∃ g k i p q, g < ZD D ∧ k < 3 ∧ i < 3 ∧ ¬ i = k ∧ PN D 0 g = 0 ∧ fP D k g = some p ∧ eP D i g = some q ∧ 500 * k + p = uFm D (sDx (uG D) w j) ∧ 500 * i + q = y) ↔ y = uEc D (eDx (uG D) w j) ∨ y = uEc D (eDx (uG D) w (sDx (uG D) w j)) := by
  have hg := u_dg h
  obtain ⟨s1, s2, s3, s4, s5, s6⟩ := sD_1 (uG D) (by omega) j hj w
  rw [u_edges h hF s2]
  cases w with
  | true => exact Iff.rfl
  | false =>
    show y = uEc D (prI (uG D) j) ∨ y = uEc D (nxI (uG D) (prI (uG D) j)) ↔ y = uEc D j ∨ y = uEc D (prI (uG D) j)
    rw [s6]
    exact ⟨Or.symm, Or.symm⟩
end EF2
