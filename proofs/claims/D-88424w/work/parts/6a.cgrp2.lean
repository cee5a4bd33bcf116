set_option maxRecDepth 100000
theorem jp_4 {α β γ δ : Type} {K : α → β → γ → δ → Prop} {B : (α → β → γ → δ → Prop) → Prop} (P : α → β → γ → δ → Prop) (h1 : ∀ x y z w, P x y z w → K x y z w) (h2 : ∀ k : α → β → γ → δ → Prop, (∀ x y z w, P x y z w → k x y z w) → B k) : eb_jp4 K B := h2 K h1
section CG2
variable {Γ : eb_C} {E : cET} {st st' : eb_S} {I I' : Nat → va_E → Prop} {ad : Nat → Nat} {bd : Nat → cBT} {x : cXT} {Ds : Nat → eb_D}
/-- the group is known: nothing is made -/
theorem sc_grp1 {b bc bs : Nat} {K : Option Nat → eb_S → Prop} (h : cV Γ E st I ad bd x Ds) (hb : b < 4) (hk : (bd b).1.2.2 = 1) (hK : K (bd b).2.1.1 st) : MX1_group Γ bc bs st (ad (4 * b)) K := by
  have q := h.1.1 b 0 hb (by omega)
  rw [Nat.add_zero] at q
  unfold MX1_group
  refine st_gi q rfl ?_
  rw [hk]
  refine jp_3 (fun g _ _ => g = st) (fun g _ _ hg => ?_) (fun k hk => ⟨fun z => absurd z (by decide), fun _ => hk _ _ _ rfl⟩)
  rw [hg]
  exact st_gr q rfl hK
theorem lN0 : (0 : Int64) = lN 0 := rfl
theorem lN500 : (500 : Int64) = lN 500 := rfl
theorem sc_grp {b bc bs : Nat} {K : Option Nat → eb_S → Prop} (hE : cEm E) (h : cV Γ E st I ad bd x Ds) (hb : b < 4) (hroom : (bd b).1.2.2 = 1 ∨ (22 ≤ bc ∧ 13660 ≤ bs))
    (hK : ∀ st' I' d, cV Γ E st' I' ad (upB bd b d) x Ds → d.1.2.2 = 1 → (∀ a y, I a y → I' a y) → K d.2.1.1 st') : MX1_group Γ bc bs st (ad (4 * b)) K := by
  obtain ⟨hv, hD, hkn, hp, hh, hn⟩ := h.2.2.1 b hb
  have same : (bd b).1.2.2 = 1 → MX1_group Γ bc bs st (ad (4 * b)) K := fun hk => by
    refine sc_grp1 h hb hk ?_
    have e : upB bd b (bd b) = bd := by
      funext k
      by_cases e : k = b
      · rw [e, upB_eq]
      · rw [upB_ne e]
    have := hK st I (bd b) (by rw [e]; exact h) hk (fun _ _ z => z)
    exact this
  rcases hroom with hk | ⟨hbc, hbs⟩
  · exact same hk
  rcases hkn.symm with ⟨hk1, -⟩ | ⟨hk0, hg0⟩
  · exact same hk1
  have q := h.1.1 b 0 hb (by omega)
  rw [Nat.add_zero] at q
  unfold MX1_group
  refine st_gi q rfl ?_
  rw [hk0]
  have hB := h.body hb
  refine jp_3 (fun g _ _ => ∃ I' d, cV Γ E g I' ad (upB bd b d) x Ds ∧ d.1.2.2 = 1 ∧ ∀ a y, I a y → I' a y) ?_ ?_
  · rintro g _ _ ⟨I', d, hV, hd, hm⟩
    have q' := hV.1.1 b 0 hb (by omega)
    rw [Nat.add_zero, upB_eq] at q'
    exact st_gr q' rfl (hK g I' d hV hd hm)
  · intro k6 hk6
    refine ⟨fun _ => ?_, fun z => absurd rfl z⟩
    refine st_pt q (by simp) (fun s1 g1 o1 => ?_)
    have hcs : eb_cs s1 (ad (4 * b)) [1] := st_cs o1 (List.mem_singleton.mpr rfl)
    have hB1 : cBd Γ s1 (ad (4 * b)) (Ds b) := by
      refine ⟨_, ad (4 * b + 1), (bd b).2.2.1, o1, ?_, rfl, ?_, g1 _ _ (h.1.1 b 1 hb (by omega)) (fun z => ?_), hD.2.2⟩
      · rw [← hD.1]; rfl
      · rw [← hD.2.1]; rfl
      · have := h.1.2.2 (4 * b + 1) (4 * b) (by omega) (by omega) (List.mem_singleton.mp z)
        omega
    refine ⟨hcs, sc_all hv hB1 ?_⟩
    refine jp_4 (fun y g u w => ∃ v, y = lN v ∧ v ≤ 20000 ∧ ZD (Ds b) = sz0 v ∧ sf [] s1 g ∧ u ≤ 8 ∧ w ≤ 16) ?_ (fun k31 hk31 => sc_sizes hv hB1 (by omega) (by omega) (fun v g u w z1 z2 z3 z4 z5 => hk31 _ _ _ _ ⟨v, rfl, z1, z2, z3, z4, z5⟩))
    rintro _ g u w ⟨v, rfl, hv2, hZ, hg, hu, hw⟩
    -- the end: the group, or none
    have fin : ∀ (v' : Option Nat) (s2 : eb_S) (I' : Nat → va_E → Prop), sf [] s1 s2 → (∀ a y, I a y → I' a y) → (∀ a y, I' a y → I a y ∨ (s2 a = some y ∧ st a = none)) → ((ZD (Ds b) = 0 → v' = none) ∧ (¬ ZD (Ds b) = 0 → ∃ g, v' = some g ∧ cGr Γ I' g (TD (Ds b)) ∧ st g = none)) → ∀ u' w', eb_pt s2 (ad (4 * b)) 1 3 (va_rf v') (fun g20 => k6 g20 u' w') := by
      intro v' s2 I' hs2 hII hN hv' u' w'
      refine st_pt (hs2 _ _ o1 List.not_mem_nil) (by simp) (fun s3 g3 o3 => hk6 _ _ _ ⟨I', ((nI (Ds b).1, nI (Ds b).2.2, 1), (v', (bd b).2.1.2.1, (bd b).2.1.2.2), (bd b).2.2.1, (bd b).2.2.2.1, (bd b).2.2.2.2), ?_, rfl, hII⟩)
      have hs3 : sf [ad (4 * b + 0)] st s3 := fun a y ha hw => g3 a y (hs2 a y (g1 a y ha hw) List.not_mem_nil) hw
      have nx : ∀ a, st a = none → ¬ a = ad (4 * b) := fun a ha e => by rw [e, q] at ha; exact absurd ha (by simp)
      refine h.setG hE hb (j := 0) (by omega) hs3 ?_ (fun k hk hk0' => ?_) hII (fun a y hy => ?_) ⟨hv, ⟨rfl, rfl, hD.2.2⟩, Or.inr ⟨rfl, hv'.1, fun hz => ?_⟩, ?_, ?_, ?_⟩ (fun g e => ?_)
      · rw [Nat.add_zero, o3]
        show some (Sum.inr (1, _)) = some (Sum.inr (1, _))
        rw [← hD.1, ← hD.2.1]
        rfl
      · match k, hk with
        | 0, _ => exact absurd rfl hk0'
        | 1, _ => rfl
        | 2, _ => rfl
        | 3, _ => rfl
      · rcases hN a y hy with z | ⟨z1, z2⟩
        · exact Or.inl z
        · exact Or.inr ⟨g3 _ _ z1 (fun z => nx a z2 (List.mem_singleton.mp z)), z2⟩
      · obtain ⟨gg, e1, e2, -⟩ := hv'.2 hz
        exact ⟨gg, e1, e2⟩
      · intro s q' hs hq
        obtain ⟨r1, ⟨f, r2, r3⟩, r4⟩ := hp s q' hs hq
        exact ⟨r1, ⟨f, hII _ _ r2, r3⟩, r4⟩
      · intro y hy
        exact (hE I I' hII _ y _).1 (hh y hy)
      · intro y hy
        exact (hE I I' hII _ y _).2 (hn y hy)
      · have e' : v' = some g := e
        by_cases hz : ZD (Ds b) = 0
        · rw [hv'.1 hz] at e'; exact absurd e' (by simp)
        · obtain ⟨gg, e1, -, e3⟩ := hv'.2 hz
          rw [e1] at e'
          injection e' with e'
          rw [← e']; exact Or.inr e3
    refine jp_4 (fun v' s2 _ _ => ∃ I', sf [] s1 s2 ∧ (∀ a y, I a y → I' a y) ∧ (∀ a y, I' a y → I a y ∨ (s2 a = some y ∧ st a = none)) ∧ ((ZD (Ds b) = 0 → v' = none) ∧ (¬ ZD (Ds b) = 0 → ∃ g, v' = some g ∧ cGr Γ I' g (TD (Ds b)) ∧ st g = none))) ?_ ?_
    · rintro v' s2 u' w' ⟨I', a1, a2, a3, a4⟩
      exact fin v' s2 I' a1 a2 a3 a4 u' w'
    · intro k21 hk21
      refine jp_0 (ZD (Ds b) = 0) (fun hz => hk21 _ _ _ _ ⟨I, hg, fun _ _ z => z, fun _ _ z => Or.inl z, fun _ => rfl, fun z => absurd hz z⟩) (fun k22 hk22 => ?_)
      have hz0 : sz0 v = cond (Nat.blt 500 v) 0 v := rfl
      refine ⟨fun z => hk22 ?_, fun z => ?_⟩
      · rw [lg_cmp_le, lN0, lN_le (by omega) (by omega)] at z
        rw [hZ, hz0, nlF (by omega)]
        show v = 0
        omega
      · rw [lg_cmp_le, lN0, lN_le (by omega) (by omega)] at z
        refine ⟨fun z2 => hk22 ?_, fun z2 => ?_⟩
        · rw [lg_cmp_gt, lN500, lN_lt (by omega) (by omega)] at z2
          rw [hZ, hz0, nlT z2]; rfl
        · rw [lg_cmp_gt, lN500, lN_lt (by omega) (by omega)] at z2
          have hzv : ZD (Ds b) = v := by rw [hZ, hz0, nlF z2]; rfl
          have hzn : ¬ ZD (Ds b) = 0 := by omega
          obtain ⟨hG, he1, he2, he3⟩ := TD_ok hv hzn
          refine st_mk (by omega) (by omega) (fun gp s2 f2 g2 w2 => ⟨13, 13638, ⟨by omega, by omega⟩, ?_⟩)
          have hs12 : sf [] s1 s2 := hg.tr g2
          have hB2 : cBd Γ s2 (ad (4 * b)) (Ds b) := hB1.out (W := []) hs12 (fun w hw => absurd hw List.not_mem_nil)
          rw [lN_i, ← hzv, ← he3]
          have gf1 : s1 gp = none := by
            cases hq : s1 gp with
            | none => rfl
            | some y => have := hg _ _ hq List.not_mem_nil; rw [f2] at this; exact absurd this (by simp)
          have gf : ∀ a, s2 a = none ∨ a = gp → st a = none := fun a ha => by
            have h1 : s1 a = none := by
              rcases ha with ha | ha
              · cases hq : s1 a with
                | none => rfl
                | some y => have := hs12 _ _ hq List.not_mem_nil; rw [ha] at this; exact absurd this (by simp)
              · rw [ha]; exact gf1
            refine st_fresh g1 h1 (fun e => ?_)
            rw [e, o1] at h1
            exact absurd h1 (by simp)
          refine sc_group hv hB2 hG he1 he2 w2 (Nat.le_refl _) (Nat.le_refl _) (fun s3 g3 hC => ?_)
          refine hk21 _ _ _ _ ⟨fun a y => I a y ∨ (s3 a = some y ∧ (s2 a = none ∨ a = gp)), fun a y ha _ => ?_, fun _ _ z => Or.inl z, fun a y hy => ?_, fun z => absurd z hzn, fun _ => ⟨gp, rfl, hC.mono (fun a y hy => Or.inr hy), gf gp (Or.inr rfl)⟩⟩
          · exact g3 _ _ (hs12 _ _ ha List.not_mem_nil) (fun z => by
              rw [List.mem_singleton.mp z, gf1] at ha
              exact absurd ha (by simp))
          · rcases hy with z | ⟨z1, z2⟩
            · exact Or.inl z
            · exact Or.inr ⟨z1, gf a z2⟩
end CG2
