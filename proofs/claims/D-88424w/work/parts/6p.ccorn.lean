set_option maxRecDepth 100000
section CX
variable {Γ : eb_C} {E : cET} {st st' : eb_S} {I I' : Nat → va_E → Prop} {ad : Nat → Nat} {bd : Nat → cBT} {x : cXT} {Ds : Nat → eb_D} {p bc bs : Nat}
/-- a body with its group, wherever it lies -/
def bX (Γ : eb_C) (st : eb_S) (I : Nat → va_E → Prop) (a : Nat → Nat) (D : eb_D) (d : cBT) (gp : Nat) : Prop :=
  bC Γ st a d ∧ vD D ∧ ¬ ZD D = 0 ∧ (d.1.1 = nI D.1 ∧ d.1.2.1 = nI D.2.2 ∧ ∀ k, k < 16 → d.2.2.1 k = nI (D.2.1 k)) ∧ d.2.1.1 = some gp ∧ cGr Γ I gp (TD D) ∧ (∀ b y, I b y → st b = some y ∧ ∀ j, j < 4 → ¬ b = a j) ∧
  ∀ s q, s < 16 → d.2.2.2.1 s = some q → (∃ f, I q (eb_ia Γ 3 (ZD D) f) ∧ ∀ h, h < ZD D → f h = nI (PN D s h)) ∧ d.2.2.2.2 s = nI (NP D s)
/-- what a body keeps: all but its parts, which may become more -/
def bKK (d d' : cBT) : Prop := d'.1 = d.1 ∧ d'.2.1 = d.2.1 ∧ d'.2.2.1 = d.2.2.1 ∧ ∀ s, ¬ d.2.2.2.1 s = none → ¬ d'.2.2.2.1 s = none
theorem bKK.rf (d : cBT) : bKK d d := ⟨rfl, rfl, rfl, fun _ h => h⟩
theorem bKK.tr {d1 d2 d3 : cBT} (h : bKK d1 d2) (h' : bKK d2 d3) : bKK d1 d3 := ⟨h'.1.trans h.1, h'.2.1.trans h.2.1, h'.2.2.1.trans h.2.2.1, fun s z => h'.2.2.2 s (h.2.2.2 s z)⟩
variable {a : Nat → Nat} {D : eb_D} {d : cBT} {gp : Nat}
theorem bX.fz (h : bX Γ st I a D d gp) : ∀ b y, I b y → st b = some y := fun b y hy => (h.2.2.2.2.2.2.1 b y hy).1
theorem bX.body (h : bX Γ st I a D d gp) : cBd Γ st (a 0) D := h.1.body h.2.2.2.1
/-- cells that are not the body's are changed, more may stay -/
theorem bX.keep {W : List Nat} (h : bX Γ st I a D d gp) (hs : sf W st st') (hW : ∀ w ∈ W, (∀ j, j < 4 → ¬ a j = w) ∧ ∀ y, ¬ I w y) (hI : ∀ b y, I b y → I' b y) (hN : ∀ b y, I' b y → I b y ∨ (st' b = some y ∧ st b = none)) : bX Γ st' I' a D d gp := by
  obtain ⟨h1, h2, h3, h4, h5, h6, h7, h8⟩ := h
  refine ⟨⟨fun j hj => hs _ _ (h1.1 j hj) (fun z => (hW _ z).1 j hj rfl), h1.2⟩, h2, h3, h4, h5, h6.mono hI, fun b y hy => ?_, fun s q hs' hq => ?_⟩
  · rcases hN b y hy with z | ⟨z1, z2⟩
    · exact ⟨hs _ _ (h7 b y z).1 (fun w => (hW _ w).2 y z), (h7 b y z).2⟩
    · refine ⟨z1, fun j hj e => ?_⟩
      have := h1.1 j hj
      rw [← e, z2] at this
      exact absurd this (by simp)
  · obtain ⟨⟨f, q1, q2⟩, q3⟩ := h8 s q hs' hq
    exact ⟨⟨f, hI _ _ q1, q2⟩, q3⟩
theorem sc_partsX {s : Nat} {K : Option Nat → eb_S → Prop} (h : bX Γ st I a D d gp) (hs : s < 2 ^ D.1) (hroom : ¬ d.2.2.2.1 s = none ∨ (2 ≤ bc ∧ 1000 ≤ bs))
    (hK : ∀ st' I' d' q f, bX Γ st' I' a D d' gp → sf [a 2, a 3] st st' → (∀ b y, I b y → I' b y) → (∀ b y, I' b y → I b y ∨ (st' b = some y ∧ st b = none)) → bKK d d' → d'.2.2.2.1 s = some q → I' q (eb_ia Γ 3 (ZD D) f) → (∀ h, h < ZD D → f h = nI (PN D s h)) → d'.2.2.2.2 s = nI (NP D s) → K (some q) st') : MX1_parts Γ bc bs st (a 0) (nI s) K := by
  obtain ⟨h1, h2, h3, h4, h5, h6, h7, h8⟩ := id h
  have h16 : 2 ^ D.1 ≤ 2 ^ 4 := Nat.pow_le_pow_right (by omega) h2.1.2
  refine sc_parts h1 h2 h4 h5 h6 h.fz h3 hs hroom (fun q hq => ?_) (fun hq st' q f z1 z2 z3 z4 z5 z6 => ?_)
  · obtain ⟨⟨f, q1, q2⟩, q3⟩ := h8 s q (by omega) hq
    exact hK st I d q f h (sf.rf _ _) (fun _ _ z => z) (fun _ _ z => Or.inl z) (bKK.rf d) hq q1 q2 q3
  · have hI : ∀ b y, I b y → (fun b y => I b y ∨ (b = q ∧ y = eb_ia Γ 3 (ZD D) f)) b y := fun b y z => Or.inl z
    have ne : ∀ {i : Nat}, i < 2 → a i ∉ [a 2, a 3] := fun hi z => by
      simp only [List.mem_cons, List.not_mem_nil, or_false] at z
      rcases z with z | z
      · have := h1.2 _ 2 (by omega) (by omega) z; omega
      · have := h1.2 _ 3 (by omega) (by omega) z; omega
    refine hK st' (fun b y => I b y ∨ (b = q ∧ y = eb_ia Γ 3 (ZD D) f)) (d.1, d.2.1, d.2.2.1, va_up d.2.2.2.1 s (some q), upd d.2.2.2.2 s (nI (NP D s))) q f ⟨⟨fun j hj => ?_, h1.2⟩, h2, h3, h4, h5, h6.mono hI, fun b y hy => ?_, fun s' q' hs' hq' => ?_⟩ z1 hI (fun b y hy => hy.imp id (fun w => ⟨by rw [w.1, w.2]; exact z5, by rw [w.1]; exact z4⟩)) ⟨rfl, rfl, rfl, fun s' hs' => ?_⟩ (vu_eq _ _ _) (Or.inr ⟨rfl, rfl⟩) z6 (upd_eq _ _ _)
    · match j, hj with
      | 0, _ => exact z1 _ _ (h1.1 0 (by omega)) (ne (by omega))
      | 1, _ => exact z1 _ _ (h1.1 1 (by omega)) (ne (by omega))
      | 2, _ => exact z2
      | 3, _ => exact z3
    · rcases hy with z | ⟨rfl, rfl⟩
      · refine ⟨z1 _ _ (h7 b y z).1 (fun w => ?_), (h7 b y z).2⟩
        simp only [List.mem_cons, List.not_mem_nil, or_false] at w
        rcases w with w | w
        · exact (h7 b y z).2 2 (by omega) w
        · exact (h7 b y z).2 3 (by omega) w
      · refine ⟨z5, fun j hj e => ?_⟩
        have := h1.1 j hj
        rw [← e, z4] at this
        exact absurd this (by simp)
    · by_cases es : s' = s
      · subst es
        have e1 : va_up d.2.2.2.1 s' (some q) s' = some q' := hq'
        rw [vu_eq] at e1
        injection e1 with e1
        subst e1
        exact ⟨⟨f, Or.inr ⟨rfl, rfl⟩, z6⟩, upd_eq _ _ _⟩
      · have e1 : va_up d.2.2.2.1 s (some q) s' = some q' := hq'
        rw [vu_ne es] at e1
        obtain ⟨⟨f', q1, q2⟩, q3⟩ := h8 s' q' hs' e1
        refine ⟨⟨f', Or.inl q1, q2⟩, ?_⟩
        show upd d.2.2.2.2 s (nI (NP D s)) s' = _
        rw [upd_ne es]; exact q3
    · show ¬ va_up d.2.2.2.1 s (some q) s' = none
      by_cases e : s' = s
      · rw [e, vu_eq]; simp
      · rw [vu_ne e]; exact hs'
theorem sc_manyX {s : Nat} {K : Int32 → eb_S → Prop} (h : bX Γ st I a D d gp) (hs : s < 2 ^ D.1) (hroom : ¬ d.2.2.2.1 s = none ∨ (2 ≤ bc ∧ 1000 ≤ bs))
    (hK : ∀ st' I' d', bX Γ st' I' a D d' gp → sf [a 2, a 3] st st' → (∀ b y, I b y → I' b y) → (∀ b y, I' b y → I b y ∨ (st' b = some y ∧ st b = none)) → bKK d d' → ¬ d'.2.2.2.1 s = none → K (nI (NP D s)) st') : MX1_many Γ bc bs st (a 0) (nI s) K := by
  have h16 : 2 ^ D.1 ≤ 2 ^ 4 := Nat.pow_le_pow_right (by omega) h.2.1.1.2
  unfold MX1_many
  refine ⟨h.body.cs, bc, bs, ⟨by omega, by omega⟩, ?_⟩
  refine sc_partsX h hs hroom (fun st' I' d' q f hX hs' hI hN hk hq _ _ hn => ?_)
  refine st_gr (hX.1.1 0 (by omega)) (v := some (a 3)) rfl (st_nn (st_li (hX.1.1 3 (by omega)) (by omega) (by omega) ?_))
  rw [hn]
  exact hK st' I' d' hX hs' hI hN hk (by rw [hq]; simp)
/-- which corners were joined so far -/
def cBP (D : eb_D) (m i x y : Nat) : Prop := ∃ g i', (g < m ∨ (g = m ∧ i' < i)) ∧ g < ZD D ∧ (jnP D g i' x y ∨ jnP D g i' y x)
noncomputable def cBB (D : eb_D) (m i x y : Nat) : Bool := @decide (cBP D m i x y) (Classical.propDecidable _)
theorem cBB_iff {D : eb_D} {m i x y : Nat} : cBB D m i x y = true ↔ cBP D m i x y := by unfold cBB; exact @decide_eq_true_iff _ (Classical.propDecidable _)
theorem sc_corners {q : Nat} {K : eb_S → Prop} (h : bX Γ st I a D d gp) (hq : st q = some (.inr (10, [.int 0, .int 0, .null, .null]))) (hqI : ∀ y, ¬ I q y) (hqa : ∀ j, j < 4 → ¬ q = a j) (hbc : 4 ≤ bc) (hbs : 1000 + (NP D 0 * 24 + NP D 0) ≤ bs)
    (hK : ∀ st' I' d' pj pm fj fm, bX Γ st' I' a D d' gp → sf [q, a 2, a 3] st st' → (∀ b y, I b y → I' b y) → (∀ b y, I' b y → I b y ∨ (st' b = some y ∧ st b = none)) → bKK d d' → ¬ d'.2.2.2.1 0 = none → nC Γ st' 10 q pj pm 24 (NP D 0) [] (jnd D) fj fm → st pj = none → st pm = none → (∀ y, ¬ I' pj y) → (∀ y, ¬ I' pm y) → K st') : MX11_init Γ bc bs st q (a 0) K := by
  have hv := h.2.1
  have hz := h.2.2.1
  have hzl := ZD_le hv
  have hn0 := NP_le D 0
  have ht := TD_tfo hv hz
  have hr := hv.1
  have hring := hv.ring
  obtain ⟨hG, he1, he2, he3⟩ := TD_ok hv hz
  have hdeg : ∀ x, x < NP D 0 → cnB (jnd D x) (NP D 0) ≤ 24 := fun x hx => by
    have := deg_le hv hz hx
    split at this <;> omega
  unfold MX11_init
  refine ⟨h.body.cs, 2, 1000, ⟨by omega, by omega⟩, ?_⟩
  refine sc_manyX (s := 0) h (isK_0 D hv).2 (Or.inr ⟨Nat.le_refl _, Nat.le_refl _⟩) (fun s1 I1 d1 hX1 g1 hI1 hN1 hk1 hp1 => ?_)
  have hq1 := g1 _ _ hq (fun z => by
    simp only [List.mem_cons, List.not_mem_nil, or_false] at z
    rcases z with z | z
    · exact hqa 2 (by omega) z
    · exact hqa 3 (by omega) z)
  have hqI1 : ∀ y, ¬ I1 q y := fun y hy => by
    rcases hN1 _ _ hy with z | ⟨-, z⟩
    · exact hqI y z
    · rw [hq] at z; exact absurd z (by simp)
  refine ⟨2, NP D 0 * 24 + NP D 0, ⟨by omega, by omega⟩, ?_⟩
  refine sc_netinit (w := 24) (Or.inr (Or.inl rfl)) hq1 (by omega) (by omega) (by omega) (Nat.le_refl _) (Nat.le_refl _) (fun s2 pj pm g2 fj0 fm0 hC0 => ?_)
  have hX2 : bX Γ s2 I1 a D d1 gp := hX1.keep (I' := I1) g2 (fun w hw => by rw [List.mem_singleton.mp hw]; exact ⟨fun j hj z => hqa j hj z.symm, hqI1⟩) (fun _ _ z => z) (fun _ _ z => Or.inl z)
  refine ⟨hX2.body.cs, 0, 0, ⟨by omega, by omega⟩, ?_⟩
  refine sc_partsX (s := 0) hX2 (isK_0 D hv).2 (Or.inl hp1) (fun s3 I3 d3 r f hX3 g3 hI3 hN3 hk3 hr3 hrI hf _ => ?_)
  -- nothing was made: the parts were told before
  have pjI1 : ∀ y, ¬ I1 pj y := fun y hy => by have := hX1.fz _ _ hy; rw [fj0] at this; exact absurd this (by simp)
  have pmI1 : ∀ y, ¬ I1 pm y := fun y hy => by have := hX1.fz _ _ hy; rw [fm0] at this; exact absurd this (by simp)
  have pj2 : s2 pj = some (eb_ia Γ 0 (NP D 0 * 24) (fun _ => 0)) := hC0.2.2.1
  have pm2 : s2 pm = some (eb_ia Γ 0 (NP D 0) (fun _ => 0)) := hC0.2.2.2.1
  have pjI : ∀ y, ¬ I3 pj y := fun y hy => by
    rcases hN3 _ _ hy with z | ⟨-, z⟩
    · exact pjI1 y z
    · rw [pj2] at z; exact absurd z (by simp)
  have pmI : ∀ y, ¬ I3 pm y := fun y hy => by
    rcases hN3 _ _ hy with z | ⟨-, z⟩
    · exact pmI1 y z
    · rw [pm2] at z; exact absurd z (by simp)
  have qI3 : ∀ y, ¬ I3 q y := fun y hy => by
    rcases hN3 _ _ hy with z | ⟨-, z⟩
    · exact hqI1 y z
    · rw [hC0.2.1] at z; exact absurd z (by simp)
  have pja : ∀ j, j < 4 → ¬ pj = a j := fun j hj e => by have := hX1.1.1 j hj; rw [← e, fj0] at this; exact absurd this (by simp)
  have pma : ∀ j, j < 4 → ¬ pm = a j := fun j hj e => by have := hX1.1.1 j hj; rw [← e, fm0] at this; exact absurd this (by simp)
  have nin : ∀ {b : Nat}, (∀ j, j < 4 → ¬ b = a j) → b ∉ [a 2, a 3] := fun hb z => by
    simp only [List.mem_cons, List.not_mem_nil, or_false] at z
    rcases z with z | z
    · exact hb 2 (by omega) z
    · exact hb 3 (by omega) z
  have hC3 : nC Γ s3 10 q pj pm 24 (NP D 0) [] (fun _ _ => false) (fun _ => 0) (fun _ => 0) := ⟨hC0.1, g3 _ _ hC0.2.1 (nin hqa), g3 _ _ hC0.2.2.1 (nin pja), g3 _ _ hC0.2.2.2.1 (nin pma), hC0.2.2.2.2⟩
  have kX : ∀ s, sf [pj, pm] s3 s → bX Γ s I3 a D d3 gp := fun s hs => hX3.keep (I' := I3) hs (fun w hw => by
    simp only [List.mem_cons, List.not_mem_nil, or_false] at hw
    rcases hw with rfl | rfl
    · exact ⟨fun j hj z => pja j hj z.symm, pjI⟩
    · exact ⟨fun j hj z => pma j hj z.symm, pmI⟩) (fun _ _ z => z) (fun _ _ z => Or.inl z)
  have fjs : st pj = none := by
    cases hh : st pj with
    | none => rfl
    | some y => have := g1 _ _ hh (nin pja); rw [fj0] at this; exact absurd this (by simp)
  have fms : st pm = none := by
    cases hh : st pm with
    | none => rfl
    | some y => have := g1 _ _ hh (nin pma); rw [fm0] at this; exact absurd this (by simp)
  have fin : ∀ s fj fm, sf [pj, pm] s3 s → nC Γ s 10 q pj pm 24 (NP D 0) [] (cBB D (ZD D) 0) fj fm → K s := fun s fj fm hs hC => by
    refine hK s I3 d3 pj pm fj fm (kX s hs) (fun b y hb hw => ?_) (fun b y z => hI3 _ _ (hI1 _ _ z)) (fun b y hy => ?_) (hk1.tr hk3) (by rw [hr3]; simp) ?_ fjs fms pjI pmI
    · simp only [List.mem_cons, List.not_mem_nil, or_false] at hw
      refine hs _ _ (g3 _ _ (g2 _ _ (g1 _ _ hb (fun z => ?_)) (fun z => hw (Or.inl (List.mem_singleton.mp z)))) (fun z => ?_)) (fun z => ?_)
      · simp only [List.mem_cons, List.not_mem_nil, or_false] at z
        exact hw (Or.inr z)
      · simp only [List.mem_cons, List.not_mem_nil, or_false] at z
        exact hw (Or.inr z)
      · simp only [List.mem_cons, List.not_mem_nil, or_false] at z
        rcases z with z | z
        · rw [z, fjs] at hb; exact absurd hb (by simp)
        · rw [z, fms] at hb; exact absurd hb (by simp)
    · rcases hN3 _ _ hy with z | ⟨z1, z2⟩
      · rcases hN1 _ _ z with w | ⟨w1, w2⟩
        · exact Or.inl w
        · exact Or.inr ⟨(kX s hs).fz _ _ hy, w2⟩
      · refine Or.inr ⟨(kX s hs).fz _ _ hy, ?_⟩
        cases hh : st b with
        | none => rfl
        | some y' =>
          have hbq : ¬ b = q := fun e => qI3 y (by rw [← e]; exact hy)
          have hba : b ∉ [a 2, a 3] := nin (fun j hj e => (hX3.2.2.2.2.2.2.1 _ _ hy).2 j hj e)
          have := g2 _ _ (g1 _ _ hh hba) (fun z => hbq (List.mem_singleton.mp z))
          rw [z2] at this
          exact absurd this (by simp)
    · obtain ⟨n1, n2, n3, n4, n5, n6⟩ := hC
      refine ⟨n1, n2, n3, n4, n5.cg (fun x y hx hy => Bool_ext ?_), n6⟩
      rw [cBB_iff, jnd_iff]
      constructor
      · rintro ⟨g, i, -, hg, h1 | h1⟩
        · exact ⟨g, i, hg, h1⟩
        · exact jnd_iff.mp (by rw [jnd_sy hv hz x y]; exact jnd_iff.mpr ⟨g, i, hg, h1⟩)
      · rintro ⟨g, i, hg, h1⟩
        exact ⟨g, i, Or.inl hg, hg, Or.inl h1⟩
  refine eb_loop2_i (fun u s => ∃ m fj fm, m ≤ ZD D ∧ u = nI m ∧ sf [pj, pm] s3 s ∧ nC Γ s 10 q pj pm 24 (NP D 0) [] (cBB D m 0) fj fm) (fun u _ => 1000 - u.toNatClampNeg) ?_ ⟨0, _, _, by omega, rfl, sf.rf _ _, hC3.1, hC3.2.1, hC3.2.2.1, hC3.2.2.2.1, hC3.2.2.2.2.1.cg (fun x y _ _ => ?_), hC3.2.2.2.2.2⟩
  · rintro R u s ⟨m, fj, fm, hm, rfl, hs, hC⟩ hR
    have hXs := kX s hs
    refine st_gr (hXs.1.1 0 (by omega)) (v := some gp) (by rw [← hXs.2.2.2.2.1]; rfl) (st_nn (hXs.2.2.2.2.2.1.n hXs.fz ?_))
    rw [he3]
    refine br_le (by omega) (by omega) (fun h2 => ?_) (fun h2 => ?_)
    · rw [show m = ZD D by omega] at hC
      exact fin s fj fm hs hC
    · refine jp_1 (fun s => ∃ fj fm, sf [pj, pm] s3 s ∧ nC Γ s 10 q pj pm 24 (NP D 0) [] (cBB D (m + 1) 0) fj fm) ?_ ?_
      · rintro s ⟨fj, fm, hs, hC⟩
        rw [nI_1]
        refine hR _ _ ⟨m + 1, fj, fm, by omega, rfl, hs, hC⟩ ?_
        rw [nI_cl (by omega), nI_cl (by omega)]; omega
      · intro k20 hk20
        refine eb_loop2_i (fun u s => ∃ i fj fm, i ≤ D.1 ∧ u = nI i ∧ sf [pj, pm] s3 s ∧ nC Γ s 10 q pj pm 24 (NP D 0) [] (cBB D m i) fj fm) (fun u _ => 10 - u.toNatClampNeg) ?_ ⟨0, fj, fm, by omega, rfl, hs, hC⟩
        rintro R2 u s ⟨i, fj, fm, hi, rfl, hs, hC⟩ hR2
        have hXs := kX s hs
        refine hXs.body.r ?_
        have cgE : ∀ {m i m' i' : Nat} {fj fm : Nat → Int32}, nC Γ s 10 q pj pm 24 (NP D 0) [] (cBB D m i) fj fm → (∀ x y, cBP D m i x y ↔ cBP D m' i' x y) → nC Γ s 10 q pj pm 24 (NP D 0) [] (cBB D m' i') fj fm := fun hC he => ⟨hC.1, hC.2.1, hC.2.2.1, hC.2.2.2.1, hC.2.2.2.2.1.cg (fun x y _ _ => Bool_ext (by rw [cBB_iff, cBB_iff]; exact he x y)), hC.2.2.2.2.2⟩
        refine br_le (by omega) (by omega) (fun h3 => hk20 s ⟨fj, fm, hs, cgE hC (fun x y => ⟨fun ⟨g, j, z1, z2, z3⟩ => ⟨g, j, by omega, z2, z3⟩, fun ⟨g, j, z1, z2, z3⟩ => ⟨g, j, ?_, z2, z3⟩⟩)⟩) (fun h3 => hXs.body.g ?_)
        · have hj : j < D.1 := by rcases z3 with z3 | z3 <;> exact z3.1
          omega
        · refine jp_1 (fun s => ∃ fj fm, sf [pj, pm] s3 s ∧ nC Γ s 10 q pj pm 24 (NP D 0) [] (cBB D m (i + 1)) fj fm) ?_ ?_
          · rintro s ⟨fj, fm, hs, hC⟩
            rw [nI_1]
            refine hR2 _ _ ⟨i + 1, fj, fm, by omega, rfl, hs, hC⟩ ?_
            rw [nI_cl (by omega), nI_cl (by omega)]; omega
          · intro k27 hk27
            rw [show eb_shr (nI D.2.2) (nI i) &&& 1 = nI (bt D.2.2 i) from mk_bit _ hring _ (by omega)]
            refine br_eq (b := 1) (Nat.lt_trans (bt_lt _ _) (by decide)) (by decide) (fun h4 => ?_) (fun h4 => ?_)
            · have hti := (ht m i (by omega) (by omega)).1
              have p1 := PN_lt D 0 (show m < ZD D by omega)
              have p2 := PN_lt D 0 hti
              refine st_nn (st_li (hXs.fz _ _ hrI) (by omega) (by omega) ?_)
              rw [hf m (by omega)]
              refine st_gr (hXs.1.1 0 (by omega)) (v := some gp) (by rw [← hXs.2.2.2.2.1]; rfl) (st_nn ⟨hXs.2.2.2.2.2.1.cs hXs.fz, sc_by hG hXs.2.2.2.2.2.1 hXs.fz (by omega) (by omega) ?_⟩)
              refine st_li (hXs.fz _ _ hrI) hti (by omega) ?_
              rw [hf _ hti]
              have hJ : jnP D m i (PN D 0 m) (PN D 0 (Tto (TD D) m i)) := ⟨by omega, h4, rfl, rfl⟩
              have hjt : jnd D (PN D 0 m) (PN D 0 (Tto (TD D) m i)) = true := jnd_iff.mpr ⟨m, i, by omega, hJ⟩
              have hne : ¬ PN D 0 m = PN D 0 (Tto (TD D) m i) := fun e => by
                rw [← e, jnd_irr hv hz] at hjt
                exact absurd hjt (by decide)
              refine ⟨st_cs hC.2.1 (by simp), sc_joins (A := jnd D) hC p1 p2 (fun x y _ _ => Bool_ext ?_) hdeg (fun x y _ _ hB => ?_) (fun _ => ⟨hjt, by rw [jnd_sy hv hz]; exact hjt⟩) (fun s' fj' fm' hs' hC' => hk27 s' ⟨fj', fm', hs.tr hs', hC'.1, hC'.2.1, hC'.2.2.1, hC'.2.2.2.1, hC'.2.2.2.2.1.cg (fun x y _ _ => Bool_ext ?_), hC'.2.2.2.2.2⟩)⟩
              · rw [cBB_iff, cBB_iff]
                exact ⟨fun ⟨g, j, z1, z2, z3⟩ => ⟨g, j, z1, z2, z3.symm⟩, fun ⟨g, j, z1, z2, z3⟩ => ⟨g, j, z1, z2, z3.symm⟩⟩
              · obtain ⟨g, j, -, hg, z | z⟩ := cBB_iff.mp hB
                · exact jnd_iff.mpr ⟨g, j, hg, z⟩
                · rw [jnd_sy hv hz]; exact jnd_iff.mpr ⟨g, j, hg, z⟩
              · rw [nJ_iff, cBB_iff, cBB_iff]
                constructor
                · rintro (⟨g, j, z1, z2, z3⟩ | ⟨-, ⟨e1, e2⟩ | ⟨e1, e2⟩⟩)
                  · exact ⟨g, j, by omega, z2, z3⟩
                  · exact ⟨m, i, by omega, by omega, Or.inl ⟨by omega, h4, e1.symm, e2.symm⟩⟩
                  · exact ⟨m, i, by omega, by omega, Or.inr ⟨by omega, h4, e2.symm, e1.symm⟩⟩
                · rintro ⟨g, j, z1, z2, z3⟩
                  by_cases e : g = m ∧ j = i
                  · right
                    refine ⟨hne, ?_⟩
                    rw [e.1, e.2] at z3
                    rcases z3 with z3 | z3
                    · exact Or.inl ⟨z3.2.2.1.symm, z3.2.2.2.symm⟩
                    · exact Or.inr ⟨z3.2.2.2.symm, z3.2.2.1.symm⟩
                  · exact Or.inl ⟨g, j, by omega, z2, z3⟩
            · refine hk27 s ⟨fj, fm, hs, cgE hC (fun x y => ⟨fun ⟨g, j, z1, z2, z3⟩ => ⟨g, j, by omega, z2, z3⟩, fun ⟨g, j, z1, z2, z3⟩ => ⟨g, j, ?_, z2, z3⟩⟩)⟩
              have hj : bt D.2.2 j = 1 := by rcases z3 with z3 | z3 <;> exact z3.2.1
              by_cases e : j = i
              · rw [e] at hj; exact absurd hj h4
              · omega
  · refine Bool_ext ?_
    rw [cBB_iff]
    exact ⟨fun z => Bool.noConfusion z, fun ⟨g, j, z1, _⟩ => by omega⟩
end CX
