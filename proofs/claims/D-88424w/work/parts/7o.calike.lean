set_option maxRecDepth 100000
def wcN (z m : Nat) : Int32 := if z = 0 then -5 else if m = 3 then 1 else -3
def wc (D : eb_D) : Int32 := wcN (ZD D) D.1
def alN (z y m l : Nat) (v : Int32) : Int32 := if z = 0 ∨ y = 0 then -5 else if m = 3 ∧ l = 3 then v else -3
theorem wcN_2 (z m : Nat) : ¬ wcN z m = -2 := by
  unfold wcN
  split
  · decide
  · split <;> decide
theorem wcN_1 {z m : Nat} (e : wcN z m = 1) : ¬ z = 0 ∧ m = 3 := by
  unfold wcN at e
  by_cases z1 : z = 0
  · rw [if_pos z1] at e; exact absurd e (by decide)
  · rw [if_neg z1] at e
    refine ⟨z1, ?_⟩
    by_cases z2 : m = 3
    · exact z2
    · rw [if_neg z2] at e; exact absurd e (by decide)
theorem alN_y {z y m l : Nat} {v : Int32} (h1 : ¬ z = 0 ∧ m = 3) (h2 : ¬ y = 0 ∧ l = 3) : alN z y m l v = v := by
  unfold alN
  rw [if_neg (fun w => w.elim h1.1 h2.1), if_pos ⟨h1.2, h2.2⟩]
theorem alN_n {z y m l : Nat} {v : Int32} (hn : ¬ (wcN z m = 1 ∧ wcN y l = 1)) : alN z y m l v = if wcN z m = -5 ∨ wcN y l = -5 then -5 else -3 := by
  unfold wcN at hn ⊢
  unfold alN
  by_cases z1 : z = 0
  · rw [if_pos (Or.inl z1), if_pos z1, if_pos (Or.inl rfl)]
  · by_cases z2 : y = 0
    · rw [if_pos (Or.inr z2), if_neg z1, if_pos z2, if_pos (Or.inr rfl)]
    · rw [if_neg (fun w => w.elim z1 z2)]
      simp only [if_neg z1, if_neg z2] at hn ⊢
      by_cases y1 : m = 3
      · by_cases y2 : l = 3
        · rw [if_pos y1, if_pos y2] at hn; exact absurd ⟨rfl, rfl⟩ hn
        · rw [if_neg (fun w => y2 w.2), if_pos y1, if_neg y2, if_neg (by decide)]
      · rw [if_neg (fun w => y1 w.1), if_neg y1]
        by_cases y2 : l = 3
        · rw [if_pos y2, if_neg (by decide)]
        · rw [if_neg y2, if_neg (by decide)]
noncomputable def alV (D D' : eb_D) : Int32 := alN (ZD D) (ZD D') D.1 D'.1 (nI (b1 (Nat.beq (uC D) (uC D'))))
noncomputable def aAlike (Ds : Nat → eb_D) (a d : Int32) : Int32 := if (0 ≤ a ∧ a ≤ 3) ∧ (0 ≤ d ∧ d ≤ 3) then alV (Ds a.toNatClampNeg) (Ds d.toNatClampNeg) else -2
section AL
variable {Γ : eb_C} {E : cET} {st st' : eb_S} {I I' : Nat → va_E → Prop} {ad : Nat → Nat} {bd : Nat → cBT} {x : cXT} {Ds : Nat → eb_D} {p bc bs : Nat}
/-- why not, and what was known stays known -/
theorem sc_whyM {b : Nat} {K : Int32 → eb_S → Prop} (hE : cEm E) (h : cV Γ E st I ad bd x Ds) (hb : b < 4) (hbc : 22 ≤ bc) (hbs : 13660 ≤ bs)
    (hK : ∀ st' I' bd', cV Γ E st' I' ad bd' x Ds → (∀ b', (bd b').1.2.2 = 1 → (bd' b').1.2.2 = 1) → (bd' b).1.2.2 = 1 → (∀ a y, I a y → I' a y) → K (wc (Ds b)) st') : MX0_whyHull Γ bc bs st (ad 16) (nI b) 1 K := by
  unfold MX0_whyHull
  refine ⟨h.cs0, bc, bs, ⟨by omega, by omega⟩, ?_⟩
  unfold MX0_why
  refine sc_isBody (fun hbd => ?_) (fun hbd => absurd (body_in hb) hbd)
  refine jp_0 False (fun z => z.elim) (fun k5 hk5 => ⟨fun z => absurd z (by decide), fun _ => ⟨fun hv => absurd hv (by decide), fun hv => ?_⟩⟩)
  refine h.at hb ⟨(h.body hb).cs, bc, bs, ⟨by omega, by omega⟩, ?_⟩
  refine sc_grp hE h hb (Or.inr ⟨hbc, hbs⟩) (fun st' I' d hV hk hII => ?_)
  have hk' : (upB bd b d b).1.2.2 = 1 := by rw [upB_eq]; exact hk
  have q := hV.grp hb hk'
  have mono : ∀ b', (bd b').1.2.2 = 1 → (upB bd b d b').1.2.2 = 1 := fun b' z => by
    by_cases e : b' = b
    · rw [e]; exact hk'
    · rw [upB_ne e]; exact z
  have hKK := hK st' I' _ hV mono hk' hII
  unfold wc wcN at hKK
  rw [upB_eq] at q
  by_cases hz : ZD (Ds b) = 0
  · rw [q.1 hz]
    rw [if_pos hz] at hKK
    exact ⟨fun _ => ⟨fun z => absurd z (by decide), fun _ => hKK⟩, fun _ z => absurd z (by simp)⟩
  · obtain ⟨g, g1, g2⟩ := q.2 hz
    rw [g1]
    rw [if_neg hz] at hKK
    refine ⟨fun z => absurd z (by simp), fun _ _ => ⟨fun _ => ?_, fun z => absurd rfl z⟩⟩
    have hr := (hV.v hb).1
    refine hV.at hb ((hV.body hb).r (br_eq (b := 3) (by omega) (by omega) (fun e => ?_) (fun e => ?_)))
    · rw [if_pos e] at hKK; exact hKK
    · rw [if_neg e] at hKK; exact hKK
theorem cW_alike {a d : Int32} {K : Int32 → eb_S → Prop} (hE : cEm E) (hH : ∀ I p n D, E.1 I p n D ↔ huE Γ I p n D) (hW : cW Γ E st p Ds) (hbc : 597 ≤ bc) (hbs : 53330 ≤ bs) (hK : ∀ s, cW Γ E s p Ds → K (aAlike Ds a d) s) : MX0_alike Γ bc bs st p a d K := by
  obtain ⟨I, ad, bd, x, hp, h⟩ := hW
  subst hp
  unfold aAlike at hK
  unfold MX0_alike
  have bad : ∀ {g : eb_S}, ¬ ((0 ≤ a ∧ a ≤ 3) ∧ (0 ≤ d ∧ d ≤ 3)) → cW Γ E g (ad 16) Ds → K (-2) g := fun {g} hno hg => by have := hK g hg; rw [if_neg hno] at this; exact this
  refine sc_isBody (fun hd => ?_) (fun hd => ?_)
  · obtain ⟨y, hy, rfl⟩ : ∃ b : Nat, b < 4 ∧ d = nI b := (body_or d).resolve_right (fun z => z hd)
    refine jp_4 (fun s g u w => u ≤ 22 ∧ w ≤ 13660 ∧ ∃ I bd, cV Γ E g I ad bd x Ds ∧ ((¬ (0 ≤ a ∧ a ≤ 3) ∧ s = -2) ∨ ∃ b, b < 4 ∧ a = nI b ∧ s = wc (Ds b) ∧ (bd b).1.2.2 = 1)) ?_ ?_
    · rintro s5 g6 u7 w8 ⟨hu, hw, I1, bd1, hV1, hcase⟩
      refine sc_isBody (fun hab => ?_) (fun hab => ?_)
      · rcases hcase with ⟨z, _⟩ | ⟨b, hb, rfl, rfl, hk1⟩
        · exact absurd hab z
        refine jp_4 (fun s g u w => u ≤ 44 ∧ w ≤ 27320 ∧ ∃ I bd, cV Γ E g I ad bd x Ds ∧ s = wc (Ds y) ∧ (bd b).1.2.2 = 1 ∧ (bd y).1.2.2 = 1) ?_ ?_
        · rintro s13 g14 u15 w16 ⟨hu', hw', I2, bd2, hV2, rfl, hkb, hky⟩
          have hKs : ∀ s, cW Γ E s (ad 16) Ds → K (alV (Ds b) (Ds y)) s := fun s hs => by
            have := hK s hs
            rw [if_pos ⟨body_in hb, body_in hy⟩, nI_cl (by omega), nI_cl (by omega)] at this
            exact this
          unfold alV at hKs
          have w2 : ∀ D, ¬ wc D = -2 := fun D => wcN_2 _ _
          refine ⟨fun z => absurd z (w2 _), fun _ => ⟨fun z => absurd z (w2 _), fun _ => ?_⟩⟩
          refine jp_0 (¬ (wc (Ds b) = 1 ∧ wc (Ds y) = 1)) (fun hn => ?_) (fun k20 hk20 => ?_)
          · have := hKs g14 (hV2.W rfl)
            rw [alN_n hn] at this
            have this : K (if wc (Ds b) = -5 ∨ wc (Ds y) = -5 then -5 else -3) g14 := this
            refine jp_0 (wc (Ds b) = -5 ∨ wc (Ds y) = -5) (fun z => by rw [if_pos z] at this; exact this) (fun k17 hk17 => ⟨fun z => hk17 (Or.inl z), fun z => ⟨fun z' => hk17 (Or.inr z'), fun z' => ?_⟩⟩)
            rw [if_neg (fun w => w.elim z z')] at this
            exact this
          · refine ⟨fun e1 => ⟨fun e2 => ?_, fun e2 => hk20 (fun z => e2 z.2)⟩, fun e1 => hk20 (fun z => e1 z.1)⟩
            obtain ⟨zb, b3⟩ := wcN_1 e1
            obtain ⟨zy, y3⟩ := wcN_1 e2
            refine hV2.at hb ⟨(hV2.body hb).cs, 274, 12745, ⟨by omega, by omega⟩, sc_hull hE hH hV2 hb hkb zb b3 (Nat.le_refl _) (Nat.le_refl _) (fun s3 I3 bd3 n hV3 hI3 hk3 hn => ?_)⟩
            refine hV3.at hy ⟨(hV3.body hy).cs, 274, 12745, ⟨by omega, by omega⟩, sc_hull hE hH hV3 hy (hk3 _ hky) zy y3 (Nat.le_refl _) (Nat.le_refl _) (fun s4 I4 bd4 n' hV4 hI4 hk4 hn' => st_nn (st_nn ?_))⟩
            obtain ⟨ok1, net, pj, pm, ps, pk, pr, pf, fj, fm, f3, f4, fr, ff, t, w, hSt, hr⟩ := hn.mono hI4
            obtain ⟨ok2, net', pj', pm', ps', pk', pr', pf', fj', fm', f3', f4', fr', ff', t', w', hSt', hr'⟩ := hn'
            have S1 := hSt s4 hV4.fz
            have S2 := hSt' s4 hV4.fz
            refine ⟨st_cs S1.1 (by simp), 5, 520, ⟨by omega, by omega⟩, sc_isLike ok1 ok2 S1 S2 hr hr' (Nat.le_refl _) (Nat.le_refl _) (fun s5 g5 => ?_)⟩
            have hV5 := hV4.keep (I' := I4) hE g5 (W := []) (fun w hw => absurd hw List.not_mem_nil) (fun _ _ z => z) (fun _ _ z => Or.inl z)
            have hKK := hKs s5 (hV5.W rfl)
            rw [alN_y ⟨zb, b3⟩ ⟨zy, y3⟩] at hKK
            cases hb : Nat.beq (uC (Ds b)) (uC (Ds y)) with
            | false => rw [hb] at hKK; exact ⟨fun _ => hKK, fun z => absurd rfl z⟩
            | true => rw [hb] at hKK; exact ⟨fun z => absurd z (by decide), fun _ => hKK⟩
        · intro k48 hk48
          refine ⟨fun z => absurd z (by decide), fun _ => ⟨hV1.cs0, 22, 13660, ⟨by omega, by omega⟩, sc_whyM hE hV1 hy (Nat.le_refl _) (Nat.le_refl _) (fun s I2 bd2 hV2 hm hk _ => hk48 _ _ _ _ ⟨by omega, by omega, I2, bd2, hV2, rfl, hm _ hk1, hk⟩)⟩⟩
      · refine jp_4 (fun s g _ _ => s = -2 ∧ g = g6) ?_ (fun k48 hk48 => ⟨fun _ => hk48 _ _ _ _ ⟨rfl, rfl⟩, fun z => absurd rfl z⟩)
        rintro _ _ _ _ ⟨rfl, rfl⟩
        have := bad (fun z => hab z.1) (hV1.W rfl)
        exact ⟨fun _ => this, fun _ => ⟨fun _ => this, fun z => absurd rfl z⟩⟩
    · intro k54 hk54
      refine ⟨fun z => absurd z (by decide), fun _ => ⟨h.cs0, 22, 13660, ⟨by omega, by omega⟩, ?_⟩⟩
      by_cases hab : 0 ≤ a ∧ a ≤ 3
      · obtain ⟨b, hb, rfl⟩ : ∃ b : Nat, b < 4 ∧ a = nI b := (body_or a).resolve_right (fun z => z hab)
        exact sc_whyM hE h hb (Nat.le_refl _) (Nat.le_refl _) (fun s I2 bd2 hV2 hm hk _ => hk54 _ _ _ _ ⟨by omega, by omega, I2, bd2, hV2, Or.inr ⟨b, hb, rfl, rfl, hk⟩⟩)
      · exact sc_whyH hE h rfl (Or.inr ⟨Nat.le_refl _, Nat.le_refl _⟩) (fun _ => hk54 _ _ _ _ ⟨by omega, by omega, I, bd, h, Or.inl ⟨hab, rfl⟩⟩) (fun b hb e => absurd (by rw [e]; exact body_in hb) hab) (fun b hb e => absurd (by rw [e]; exact body_in hb) hab) (fun b hb e => absurd (by rw [e]; exact body_in hb) hab)
  · refine jp_4 (fun s g u w => s = -2 ∧ cW Γ E g (ad 16) Ds ∧ u = 0 ∧ w = 0) ?_ (fun k54 hk54 => ⟨fun _ => hk54 _ _ _ _ ⟨rfl, h.W rfl, rfl, rfl⟩, fun z => absurd rfl z⟩)
    rintro _ g _ _ ⟨rfl, hg, rfl, rfl⟩
    have fin : ∀ {A : Int32 → eb_S → Prop}, True := trivial
    refine sc_isBody (fun hab => ?_) (fun hab => ?_)
    · refine jp_4 (fun _ g _ _ => cW Γ E g (ad 16) Ds) ?_ ?_
      · rintro s g' _ _ hg'
        exact ⟨fun _ => bad (fun z => hd z.2) hg', fun z => absurd rfl z⟩
      · intro k48 hk48
        obtain ⟨I1, ad1, bd1, x1, hp1, h1⟩ := hg
        refine ⟨fun z => absurd z (by decide), fun _ => ⟨by rw [← hp1]; exact h1.cs0, 22, 13660, ⟨by omega, by omega⟩, ?_⟩⟩
        exact sc_whyH hE h1 hp1 (Or.inr ⟨Nat.le_refl _, Nat.le_refl _⟩) (fun _ => hk48 _ _ _ _ (h1.W hp1)) (fun b hb e => absurd (by rw [e]; exact body_in hb) hd) (fun b hb e => absurd (by rw [e]; exact body_in hb) hd) (fun b hb e => absurd (by rw [e]; exact body_in hb) hd)
    · refine jp_4 (fun _ g _ _ => cW Γ E g (ad 16) Ds) ?_ (fun k48 hk48 => ⟨fun _ => hk48 _ _ _ _ hg, fun z => absurd rfl z⟩)
      rintro s g' _ _ hg'
      exact ⟨fun _ => bad (fun z => hd z.2) hg', fun z => absurd rfl z⟩
end AL
