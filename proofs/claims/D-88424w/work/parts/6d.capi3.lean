set_option maxRecDepth 100000
section CA3
variable {Γ : eb_C} {E : cET} {st st' : eb_S} {I I' : Nat → va_E → Prop} {ad : Nat → Nat} {bd : Nat → cBT} {x : cXT} {Ds : Nat → eb_D} {p bc bs : Nat}
/-- a body's group: refused, or looked at -/
theorem sc_wh {a v : Int32} {f : Nat → Int32} {K : Int32 → eb_S → Prop} {F : Nat → Nat → eb_S → Prop} (hE : cEm E) (hW : cW Γ E st p Ds) (hbc : 22 ≤ bc) (hbs : 13660 ≤ bs) (hv : ¬ v = 0) (hK : ∀ st', cW Γ E st' p Ds → K (gat Ds a f) st')
    (h1 : ∀ b, b < 4 → a = nI b → ¬ ZD (Ds b) = 0 → ∀ st' I' ad bd' x q, ad 16 = p → cV Γ E st' I' ad bd' x Ds → (bd' b).1.2.2 = 1 → (bd' b).2.1.1 = some q → cGr Γ I' q (TD (Ds b)) → (∀ st', cW Γ E st' p Ds → K (f b) st') → F 22 13660 st') :
    eb_cs st p [0] ∧ ∃ c3 s4 : Nat, (0 + c3 ≤ bc ∧ 0 + s4 ≤ bs) ∧ MX0_why Γ c3 s4 st p a v (fun v1 g2 => eb_br (v1 = 1) (F c3 s4 g2) (K v1 g2)) := by
  obtain ⟨I, ad, bd, x, hp, h⟩ := hW
  have hp' := hp
  subst hp'
  refine ⟨h.cs0, 22, 13660, ⟨by omega, by omega⟩, ?_⟩
  refine sc_why hE h rfl (Or.inr ⟨Nat.le_refl _, Nat.le_refl _⟩) (fun hno => ?_) (fun b hb hab _ hz st' I' bd' hV => ?_) (fun b hb hab _ hz st' I' bd' q hV hk hq hC => ?_)
  · refine ⟨fun z => absurd z (by decide), fun _ => ?_⟩
    have := hK st (h.W rfl)
    rcases hno with z | z
    · rw [gat_no z] at this; exact this
    · exact absurd z hv
  · refine ⟨fun z => absurd z (by decide), fun _ => ?_⟩
    have := hK st' (hV.W rfl)
    rw [hab, gat_z hb hz] at this
    exact this
  · refine ⟨fun _ => ?_, fun z => absurd rfl z⟩
    refine h1 b hb hab hz st' I' ad bd' x q rfl hV hk hq hC (fun s hs => ?_)
    have := hK s hs
    rw [hab, gat_f hb hz] at this
    exact this
theorem cW_size {a : Int32} {K : Int32 → eb_S → Prop} (hE : cEm E) (hW : cW Γ E st p Ds) (hbc : 22 ≤ bc) (hbs : 13660 ≤ bs) (hK : ∀ st', cW Γ E st' p Ds → K (aSize Ds a) st') : MX0_size Γ bc bs st p a K := by
  unfold MX0_size
  unfold aSize at hK
  refine sc_wh hE hW hbc hbs (by decide) hK (fun b hb hab hz st' I' ad bd' x q hp hV hk hq hC hK' => ?_)
  obtain ⟨hG, he1, he2, he3⟩ := TD_ok (hV.v hb) hz
  refine sc_at hV hp hb hab hk hq (by omega) (by omega) (hC.n hV.fz ?_)
  rw [he3]
  exact hK' _ (hV.W hp)
theorem cW_mirrors {a : Int32} {K : Int32 → eb_S → Prop} (hE : cEm E) (hW : cW Γ E st p Ds) (hbc : 23 ≤ bc) (hbs : 14160 ≤ bs) (hK : ∀ st', cW Γ E st' p Ds → K (aMirrors Ds a) st') : MX0_mirrors Γ bc bs st p a K := by
  unfold MX0_mirrors
  unfold aMirrors at hK
  refine sc_wh  hE hW (by omega) (by omega) (by decide) hK (fun b hb hab hz st' I' ad bd' x q hp hV hk hq hC hK' => ?_)
  obtain ⟨hG, he1, he2, he3⟩ := TD_ok (hV.v hb) hz
  have hzl := ZD_le (hV.v hb)
  have hr := (hV.v hb).1
  refine sc_at hV hp hb hab hk hq (by omega) (by omega) (hC.n hV.fz ?_)
  rw [he3, nI_cl (show ZD (Ds b) < 2147483648 by omega)]
  refine ⟨st_ok1 (by omega), st_mk (by omega) (by omega) (fun pw s1 f1 g1 w1 => ?_)⟩
  have hI1 : ∀ s, sf [pw] s1 s → ∀ a y, I' a y → s a = some y := fun s hs a y hy => hs _ _ (g1 _ _ (hV.fz a y hy) List.not_mem_nil) (fun z => by
    have := hV.fz a y hy
    rw [List.mem_singleton.mp z, f1] at this
    exact absurd this (by simp))
  generalize hT : TD (Ds b) = e at *
  generalize hZ : ZD (Ds b) = Z at *
  have hrz : (Ds b).1 * Z ≤ 4 * 500 := Nat.mul_le_mul hr.2 hzl
  refine jp_1 (fun s => ∃ f, sf [pw] s1 s ∧ s pw = some (eb_ia Γ 1 Z f) ∧ ∀ k, k < Z → f k = nI (b1 (mkB (Mf e) ((Ds b).1 * Z) k))) ?_ ?_
  · rintro s ⟨f, hs, hf, hm⟩
    refine sc_many hf (by omega) hm (hK' s ?_)
    have hs0 : sf [pw] st' s := fun a y ha hw => hs _ _ (g1 _ _ ha List.not_mem_nil) hw
    exact (hV.keep (I' := I') hE hs0 (fun w hw => by rw [List.mem_singleton.mp hw]; exact f1) (fun _ _ z => z) (fun _ _ z => Or.inl z)).W hp
  · intro k26 hk26
    refine eb_loop2_i (fun u s => ∃ m f, m ≤ Z ∧ u = nI m ∧ sf [pw] s1 s ∧ s pw = some (eb_ia Γ 1 Z f) ∧ ∀ k, k < Z → f k = nI (b1 (mkB (Mf e) (e.1 * m) k))) (fun u _ => 1000 - u.toNatClampNeg) ?_ ⟨0, _, by omega, rfl, sf.rf _ _, w1, fun k hk => rfl⟩
    rintro R u s ⟨m, f, hm, rfl, hs, hf, hmk⟩ hR
    refine hC.n (hI1 s hs) ?_
    rw [he3]
    refine br_le (by omega) (by omega) (fun h2 => hk26 s ⟨f, hs, hf, fun k hk => by rw [hmk k hk, show m = Z by omega, he1]⟩) (fun h2 => ?_)
    refine jp_1 (fun s => ∃ f, sf [pw] s1 s ∧ s pw = some (eb_ia Γ 1 Z f) ∧ ∀ k, k < Z → f k = nI (b1 (mkB (Mf e) (e.1 * (m + 1)) k))) ?_ ?_
    · rintro s ⟨f, hs, hf, hmk⟩
      rw [nI_1]
      refine hR _ _ ⟨m + 1, f, by omega, rfl, hs, hf, hmk⟩ ?_
      rw [nI_cl (by omega), nI_cl (by omega)]; omega
    · intro k2 hk2
      refine eb_loop2_i (fun u s => ∃ i f, i ≤ e.1 ∧ u = nI i ∧ sf [pw] s1 s ∧ s pw = some (eb_ia Γ 1 Z f) ∧ ∀ k, k < Z → f k = nI (b1 (mkB (Mf e) (e.1 * m + i) k))) (fun u _ => 10 - u.toNatClampNeg) ?_ ⟨0, f, by omega, rfl, hs, hf, hmk⟩
      rintro R2 u s ⟨i, f, hi, rfl, hs, hf, hmk⟩ hR2
      have hIs := hI1 s hs
      refine hC.r hIs ?_
      refine br_le (by omega) (by omega) (fun h3 => hk2 s ⟨f, hs, hf, fun k hk => by rw [hmk k hk, show i = e.1 by omega, Nat.mul_succ]⟩) (fun h3 => ?_)
      have ht := (hG.2.1 m (by omega) i (by omega)).1
      have hiv := Iv_lt hG (g := m) (by omega)
      have hp2 := Pr_lt hG ht _ hiv
      refine ⟨hC.cs hIs, sc_by hG hC hIs (by omega) (by omega) ⟨hC.cs hIs, sc_inverse hG hC hIs (by omega) ⟨hC.cs hIs, sc_prod hG hC hIs ht hiv ?_⟩⟩⟩
      have hMf : Pr e (Tto e m i) (Iv e m) = Mf e (e.1 * m + i) := by
        unfold Mf
        rw [Nat.mul_add_div (by omega), Nat.div_eq_of_lt (show i < e.1 by omega), Nat.add_zero, Nat.mul_add_mod, Nat.mod_eq_of_lt (show i < e.1 by omega)]
      rw [hMf] at hp2 ⊢
      rw [nar_b1]
      refine st_wi hf (by omega) (by omega) (fun s2 g2 w2 => ?_)
      rw [nI_1]
      refine hR2 _ _ ⟨i + 1, _, by omega, rfl, hs.tr g2, w2, fun k hk => ?_⟩ ?_
      · by_cases ek : k = Mf e (e.1 * m + i)
        · rw [ek, upd_eq, ← Nat.add_assoc, mkB_eq]; rfl
        · rw [upd_ne ek, ← Nat.add_assoc, mkB_ne ek]; exact hmk k hk
      · rw [nI_cl (by omega), nI_cl (by omega)]; omega
theorem cW_ofLength {a v : Int32} {K : Int32 → eb_S → Prop} (hE : cEm E) (hW : cW Γ E st p Ds) (hbc : 22 ≤ bc) (hbs : 13660 ≤ bs) (hK : ∀ st', cW Γ E st' p Ds → K (aOfLength Ds a v) st') : MX0_ofLength Γ bc bs st p a v K := by
  unfold MX0_ofLength
  unfold aOfLength at hK
  refine jp_1 (fun s => s = if 0 ≤ v then (1 : Int32) else 0) ?_ (fun k hk => ⟨fun z => hk _ (by rw [if_neg (fun y => Int32.not_lt.mpr y z)]), fun z => hk _ (by rw [if_pos (Int32.not_lt.mp z)])⟩)
  rintro _ rfl
  by_cases hv : 0 ≤ v
  · rw [if_pos hv] at hK ⊢
    obtain ⟨y, hy, rfl⟩ := nI_of (Int32.not_lt.mpr hv)
    rw [nI_cl hy] at hK
    refine sc_wh hE hW hbc hbs (by decide) hK (fun b hb hab hz st' I' ad bd' x q hp hV hk hq hC hK' => ?_)
    obtain ⟨hG, he1, he2, he3⟩ := TD_ok (hV.v hb) hz
    have hzl := ZD_le (hV.v hb)
    subst hp
    rw [hab]
    refine hV.at hb ⟨(hV.body hb).cs, 0, 0, ⟨by omega, by omega⟩, sc_grp1 hV hb hk ?_⟩
    rw [hq]
    refine eb_loop2_i (fun u z => ∃ m, m ≤ ZD (Ds b) ∧ u = nI (cnB (fun x => Nat.beq (Tlen (TD (Ds b)) x) y) m) ∧ z = nI m) (fun _ z => 1000 - z.toNatClampNeg) ?_ ⟨0, by omega, rfl, rfl⟩
    rintro R u z ⟨m, hm, rfl, rfl⟩ hR
    refine st_nn (hC.n hV.fz ?_)
    rw [he3]
    refine br_le (by omega) (by omega) (fun h2 => by rw [show m = ZD (Ds b) by omega]; exact hK' _ (hV.W rfl)) (fun h2 => ?_)
    refine hC.len hV.fz hG.1.2.2 (by omega) ?_
    have hl := (Tlen_0 hG (show m < (TD (Ds b)).2.2.1 by omega)).2
    refine jp_1 (fun u => u = nI (b1 (Nat.beq (Tlen (TD (Ds b)) m) y))) ?_ (fun k hk => br_eq (by omega) hy (fun h3 => hk _ (by rw [nbT h3]; rfl)) (fun h3 => hk _ (by rw [nbF h3]; rfl)))
    rintro _ rfl
    rw [nI_add, nI_1]
    refine hR _ _ ⟨m + 1, by omega, rfl, rfl⟩ ?_
    rw [nI_cl (by omega), nI_cl (by omega)]; omega
  · rw [if_neg hv] at hK ⊢
    obtain ⟨I, ad, bd, x, hp, h⟩ := hW
    subst hp
    exact ⟨h.cs0, 0, 0, ⟨by omega, by omega⟩, sc_why0 ⟨fun z => absurd z (by decide), fun _ => hK _ (h.W rfl)⟩⟩
theorem sc_letter {q g i : Nat} {e : tE} {K : Int32 → Prop} (hG : tG e) (h : cGr Γ I q e) (hI : ∀ a y, I a y → st a = some y) (hg : g < e.2.2.1) (hi : i < Tlen e g) (hK : K (nI (Lt e g i))) : MX8_letter Γ st q (nI g) (nI i) K := by
  have hn := hG.1.2
  have hl := (Tlen_0 hG hg).2
  unfold MX8_letter
  refine h.len hI hn.2 hg ?_
  rw [show nI (Tlen e g) - 1 = nI (Tlen e g - 1) from nI_sub (b := 1) (by omega)]
  refine jp_1 (fun y => y = nI (anc e (Tlen e g - (i + 1)) g)) ?_ ?_
  · rintro _ rfl
    have k := anc_ok hG hg (Tlen e g - (i + 1)) (by omega)
    have h0 : ¬ anc e (Tlen e g - (i + 1)) g = 0 := fun z => by rw [z, hG.2.2.1.1] at k; omega
    exact h.las hI hn.2 k.1 h0 hK
  · intro k hk
    refine eb_loop2_i (fun x y => ∃ j, j ≤ Tlen e g - (i + 1) ∧ x = nI (anc e j g) ∧ y = nI (Tlen e g - 1 - j)) (fun _ y => y.toNatClampNeg) ?_ ⟨0, Nat.zero_le _, rfl, rfl⟩
    rintro R x y ⟨j, hj, rfl, rfl⟩ hR
    have k2 := anc_ok hG hg j (by omega)
    refine br_le (by omega) (by omega) (fun h2 => hk _ (by rw [show j = Tlen e g - (i + 1) by omega])) (fun h2 => ?_)
    have h0 : ¬ anc e j g = 0 := fun z => by rw [z, hG.2.2.1.1] at k2; omega
    refine h.frm hI hn.2 k2.1 h0 ?_
    rw [show Tlen e g - 1 - j = (Tlen e g - 1 - (j + 1)) + 1 by omega, nI_p]
    refine hR _ _ ⟨j + 1, by omega, by rw [anc_s], rfl⟩ ?_
    rw [nI_cl (by omega), nI_cl (by omega)]; omega
theorem cW_letter {a g i : Int32} {K : Int32 → eb_S → Prop} (hE : cEm E) (hW : cW Γ E st p Ds) (hbc : 22 ≤ bc) (hbs : 13660 ≤ bs) (hK : ∀ st', cW Γ E st' p Ds → K (aLetter Ds a g i) st') : MX0_letter Γ bc bs st p a g i K := by
  unfold MX0_letter
  unfold aLetter at hK
  obtain ⟨I, ad, bd, x, hp, h⟩ := hW
  subst hp
  have bad : ∀ {s : eb_S} {J : Nat → va_E → Prop} {bd2 : Nat → cBT} {F : eb_S → Prop}, cV Γ E s J ad bd2 x Ds → (¬ (0 ≤ a ∧ a ≤ 3) ∨ ¬ (0 ≤ g ∧ 0 ≤ i) ∨ (∃ b y z, b < 4 ∧ a = nI b ∧ g = nI y ∧ y < 2147483648 ∧ i = nI z ∧ z < 2147483648 ∧ ¬ ZD (Ds b) = 0 ∧ ¬ y < ZD (Ds b))) → K (-2) s := fun {s J bd2 F} hV hno => by
    have := hK s (hV.W rfl)
    rcases hno with z | z | ⟨b, y, z, hb, rfl, rfl, hy, rfl, hz, hzz, hlt⟩
    · rw [gat2_no z] at this; exact this
    · rw [gat2_neg z] at this; exact this
    · rw [gat2_f hb hy hz hzz, if_neg hlt] at this; exact this
  refine ⟨h.cs0, 22, 13660, ⟨by omega, by omega⟩, ?_⟩
  refine sc_isElement hE h rfl (Or.inr ⟨Nat.le_refl _, Nat.le_refl _⟩) (fun hno => ?_) (fun b hb hab hg hz st' I' bd' hV hk => ?_) (fun b y hb hab hgy hy hz st' I' bd' hV hk => ?_)
  · refine jp_1 (fun s => s = 0) ?_ (fun k hk => ⟨fun _ => hk _ rfl, fun z => absurd rfl z⟩)
    rintro _ rfl
    refine ⟨h.cs0, 0, 0, ⟨by omega, by omega⟩, sc_why0 ⟨fun z => absurd z (by decide), fun _ => bad (F := fun _ => True) h ?_⟩⟩
    rcases hno with z | z
    · exact Or.inl z
    · exact Or.inr (Or.inl (fun y => z y.1))
  · refine jp_1 (fun s => (s = 0 ∧ ¬ 0 ≤ i) ∨ (s = 1 ∧ 0 ≤ i)) ?_ (fun k hk => ⟨fun z => absurd z (by decide), fun _ => ⟨fun z => hk _ (Or.inl ⟨rfl, fun y => Int32.not_lt.mpr y z⟩), fun z => hk _ (Or.inr ⟨rfl, Int32.not_lt.mp z⟩)⟩⟩)
    rintro s (⟨rfl, hi⟩ | ⟨rfl, hi⟩)
    · exact ⟨hV.cs0, 0, 0, ⟨by omega, by omega⟩, sc_why0 ⟨fun z => absurd z (by decide), fun _ => bad (F := fun _ => True) hV (Or.inr (Or.inl (fun y => hi y.2)))⟩⟩
    · refine ⟨hV.cs0, 0, 0, ⟨by omega, by omega⟩, sc_why hE hV rfl (Or.inl (known_of hb hab hk)) (fun z => ?_) (fun b' hb' hab' _ hz' st2 I2 bd2 hV2 => ?_) (fun b' hb' hab' _ hz' => ?_)⟩
      · rcases z with z | z
        · exact absurd (by rw [hab]; exact body_in hb) z
        · exact absurd z (by decide)
      · refine ⟨fun z => absurd z (by decide), fun _ => ?_⟩
        have := hK st2 (hV2.W rfl)
        rw [hab, gat2_z hb ⟨hg, hi⟩ hz] at this
        exact this
      · have : b = b' := (nI_eq (by omega) (by omega)).mp (hab.symm.trans hab')
        rw [← this] at hz'
        exact absurd hz hz'
  · by_cases hlt : y < ZD (Ds b)
    · rw [nlT hlt]
      refine jp_1 (fun s => (s = 0 ∧ ¬ 0 ≤ i) ∨ (s = 1 ∧ 0 ≤ i)) ?_ (fun k hk => ⟨fun z => absurd z (by decide), fun _ => ⟨fun z => hk _ (Or.inl ⟨rfl, fun y => Int32.not_lt.mpr y z⟩), fun z => hk _ (Or.inr ⟨rfl, Int32.not_lt.mp z⟩)⟩⟩)
      rintro s (⟨rfl, hi⟩ | ⟨rfl, hi⟩)
      · exact ⟨hV.cs0, 0, 0, ⟨by omega, by omega⟩, sc_why0 ⟨fun z => absurd z (by decide), fun _ => bad (F := fun _ => True) hV (Or.inr (Or.inl (fun y => hi y.2)))⟩⟩
      · obtain ⟨z, hz2, rfl⟩ := nI_of (Int32.not_lt.mpr hi)
        refine ⟨hV.cs0, 0, 0, ⟨by omega, by omega⟩, sc_why hE hV rfl (Or.inl (known_of hb hab hk)) (fun z => ?_) (fun b' hb' hab' _ hz' => ?_) (fun b' hb' hab' _ hz' st2 I2 bd2 q hV2 hk2 hq2 hC2 => ?_)⟩
        · rcases z with z | z
          · exact absurd (by rw [hab]; exact body_in hb) z
          · exact absurd z (by decide)
        · have : b = b' := (nI_eq (by omega) (by omega)).mp (hab.symm.trans hab')
          rw [← this] at hz'
          exact absurd hz' hz
        · have eb : b = b' := (nI_eq (by omega) (by omega)).mp (hab.symm.trans hab')
          subst eb
          obtain ⟨hG, he1, he2, he3⟩ := TD_ok (hV.v hb) hz
          refine ⟨fun _ => ?_, fun z => absurd rfl z⟩
          have hK2 := hK st2 (hV2.W rfl)
          rw [hab, hgy, gat2_f hb hy hz2 hz, if_pos hlt] at hK2
          refine sc_at hV2 rfl hb hab hk2 hq2 (by omega) (by omega) ?_
          rw [hgy]
          have hl := (Tlen_0 hG (show y < (TD (Ds b)).2.2.1 by omega)).2
          refine hC2.len hV2.fz hG.1.2.2 (by omega) ?_
          refine br_le (by omega) hz2 (fun h3 => ?_) (fun h3 => ?_)
          · rw [if_neg (by omega)] at hK2; exact hK2
          · rw [if_pos (by omega)] at hK2
            exact ⟨hC2.cs hV2.fz, sc_letter hG hC2 hV2.fz (by omega) (by omega) hK2⟩
    · rw [nlF hlt]
      refine jp_1 (fun s => s = 0) ?_ (fun k hk => ⟨fun _ => hk _ rfl, fun z => absurd rfl z⟩)
      rintro _ rfl
      refine ⟨hV.cs0, 0, 0, ⟨by omega, by omega⟩, sc_why0 ⟨fun z => absurd z (by decide), fun _ => bad (F := fun _ => True) hV ?_⟩⟩
      by_cases hi : 0 ≤ i
      · obtain ⟨z, hz2, rfl⟩ := nI_of (Int32.not_lt.mpr hi)
        exact Or.inr (Or.inr ⟨b, y, z, hb, hab, hgy, hy, rfl, hz2, hz, hlt⟩)
      · exact Or.inr (Or.inl (fun y => hi y.2))
theorem cW_product {a g i : Int32} {K : Int32 → eb_S → Prop} (hE : cEm E) (hW : cW Γ E st p Ds) (hbc : 22 ≤ bc) (hbs : 13660 ≤ bs) (hK : ∀ st', cW Γ E st' p Ds → K (aProduct Ds a g i) st') : MX0_product Γ bc bs st p a g i K := by
  unfold MX0_product
  unfold aProduct at hK
  obtain ⟨I, ad, bd, x, hp, h⟩ := hW
  subst hp
  refine ⟨h.cs0, 22, 13660, ⟨by omega, by omega⟩, ?_⟩
  -- both are elements, or not
  have key : ∀ (s : Int32) (st2 : eb_S) (I2 : Nat → va_E → Prop) (bd2 : Nat → cBT), cV Γ E st2 I2 ad bd2 x Ds → ((s = 0 ∧ (¬ (0 ≤ a ∧ a ≤ 3) ∨ ¬ (0 ≤ g ∧ 0 ≤ i) ∨ (∃ b y z, b < 4 ∧ a = nI b ∧ g = nI y ∧ y < 2147483648 ∧ i = nI z ∧ z < 2147483648 ∧ ¬ ZD (Ds b) = 0 ∧ ¬ (y < ZD (Ds b) ∧ z < ZD (Ds b))))) ∨ (s = 1 ∧ ∃ b, b < 4 ∧ a = nI b ∧ (bd2 b).1.2.2 = 1 ∧ ((ZD (Ds b) = 0 ∧ 0 ≤ g ∧ 0 ≤ i) ∨ (¬ ZD (Ds b) = 0 ∧ ∃ y z, g = nI y ∧ i = nI z ∧ y < ZD (Ds b) ∧ z < ZD (Ds b))))) →
      (eb_cs st2 (ad 16) [0] ∧ ∃ c11 s12 : Nat, (22 + c11 ≤ bc ∧ 13660 + s12 ≤ bs) ∧ MX0_why Γ c11 s12 st2 (ad 16) a s (fun v9 g10 => eb_br (v9 = 1) (eb_gr g10 (ad 16) 0 0 (fun v13 => eb_nn v13 (fun p14 => eb_lr Γ g10 p14 7 a (fun v15 => eb_nn v15 (fun p16 => eb_cs g10 p16 [1] ∧ ∃ c19 s20 : Nat, ((22 + c11) + c19 ≤ bc ∧ (13660 + s12) + s20 ≤ bs) ∧ MX1_group Γ c19 s20 g10 p16 (fun v17 g18 => eb_nn v17 (fun p21 => eb_cs g18 p21 [7] ∧ MX8_product Γ 20 g18 p21 g i (fun v22 => K v22 g18)))))))) (K v9 g10))) := by
    intro s st2 I2 bd2 hV hs
    rcases hs with ⟨rfl, hno⟩ | ⟨rfl, b, hb, hab, hk, hor⟩
    · refine ⟨hV.cs0, 0, 0, ⟨by omega, by omega⟩, sc_why0 ⟨fun z => absurd z (by decide), fun _ => ?_⟩⟩
      have := hK st2 (hV.W rfl)
      rcases hno with z | z | ⟨b, y, z, hb, rfl, rfl, hy, rfl, hz, hzz, hlt⟩
      · rw [gat2_no z] at this; exact this
      · rw [gat2_neg z] at this; exact this
      · rw [gat2_f hb hy hz hzz, if_neg hlt] at this; exact this
    · refine ⟨hV.cs0, 0, 0, ⟨by omega, by omega⟩, sc_why hE hV rfl (Or.inl (known_of hb hab hk)) (fun z => ?_) (fun b' hb' hab' _ hz' st3 I3 bd3 hV3 => ?_) (fun b' hb' hab' _ hz' st3 I3 bd3 q hV3 hk3 hq3 hC3 => ?_)⟩
      · rcases z with z | z
        · exact absurd (by rw [hab]; exact body_in hb) z
        · exact absurd z (by decide)
      · have eb : b = b' := (nI_eq (by omega) (by omega)).mp (hab.symm.trans hab')
        subst eb
        rcases hor with ⟨hz, hg, hi⟩ | ⟨hz, -⟩
        · refine ⟨fun z => absurd z (by decide), fun _ => ?_⟩
          have := hK st3 (hV3.W rfl)
          rw [hab, gat2_z hb ⟨hg, hi⟩ hz] at this
          exact this
        · exact absurd hz' hz
      · have eb : b = b' := (nI_eq (by omega) (by omega)).mp (hab.symm.trans hab')
        subst eb
        rcases hor with ⟨hz, -⟩ | ⟨hz, y, z, rfl, rfl, hy, hz2⟩
        · exact absurd hz hz'
        · obtain ⟨hG, he1, he2, he3⟩ := TD_ok (hV.v hb) hz
          have hzl := ZD_le (hV.v hb)
          refine ⟨fun _ => ?_, fun z => absurd rfl z⟩
          have hK2 := hK st3 (hV3.W rfl)
          rw [hab, gat2_f hb (by omega) (by omega) hz, if_pos ⟨hy, hz2⟩] at hK2
          exact sc_at hV3 rfl hb hab hk3 hq3 (by omega) (by omega) ⟨hC3.cs hV3.fz, sc_prod hG hC3 hV3.fz (by omega) (by omega) hK2⟩
  refine sc_isElement hE h rfl (Or.inr ⟨Nat.le_refl _, Nat.le_refl _⟩) (fun hno => ?_) (fun b hb hab hg hz st' I' bd' hV hk => ?_) (fun b y hb hab hgy hy hz st' I' bd' hV hk => ?_)
  · refine jp_4 (fun s g6 u w => s = 0 ∧ g6 = st ∧ u = 22 ∧ w = 13660) ?_ (fun k hk => ⟨fun _ => hk _ _ _ _ ⟨rfl, rfl, rfl, rfl⟩, fun z => absurd rfl z⟩)
    rintro s _ _ _ ⟨rfl, rfl, rfl, rfl⟩
    refine key 0 _ I bd h (Or.inl ⟨rfl, ?_⟩)
    rcases hno with z | z
    · exact Or.inl z
    · exact Or.inr (Or.inl (fun y => z y.1))
  · refine jp_4 (fun s g6 u w => (∃ I2 bd2, cV Γ E g6 I2 ad bd2 x Ds ∧ ((s = 0 ∧ ¬ 0 ≤ i) ∨ (s = 1 ∧ 0 ≤ i ∧ (bd2 b).1.2.2 = 1))) ∧ u = 22 ∧ w = 13660) ?_ (fun k hk2 => ⟨fun z => absurd z (by decide), fun _ => ⟨hV.cs0, 0, 0, ⟨by omega, by omega⟩, ?_⟩⟩)
    · rintro s g6 _ _ ⟨⟨I2, bd2, hV2, hor⟩, rfl, rfl⟩
      refine key s _ I2 bd2 hV2 ?_
      rcases hor with ⟨rfl, hi⟩ | ⟨rfl, hi, hk2⟩
      · exact Or.inl ⟨rfl, Or.inr (Or.inl (fun y => hi y.2))⟩
      · exact Or.inr ⟨rfl, b, hb, hab, hk2, Or.inl ⟨hz, hg, hi⟩⟩
    · refine sc_isElement hE hV rfl (Or.inl (known_of hb hab hk)) (fun hno => ?_) (fun b' hb' hab' hg' hz' st3 I3 bd3 hV3 hk3 => ?_) (fun b' y hb' hab' hgy hy hz' => ?_)
      · refine ⟨fun _ => hk2 _ _ _ _ ⟨⟨I', bd', hV, Or.inl ⟨rfl, ?_⟩⟩, rfl, rfl⟩, fun z => absurd rfl z⟩
        rcases hno with z | z
        · exact absurd (by rw [hab]; exact body_in hb) z
        · exact z
      · have eb : b = b' := (nI_eq (by omega) (by omega)).mp (hab.symm.trans hab')
        subst eb
        exact ⟨fun z => absurd z (by decide), fun _ => hk2 _ _ _ _ ⟨⟨I3, bd3, hV3, Or.inr ⟨rfl, hg', hk3⟩⟩, rfl, rfl⟩⟩
      · have eb : b = b' := (nI_eq (by omega) (by omega)).mp (hab.symm.trans hab')
        subst eb
        exact absurd hz hz'
  · refine jp_4 (fun s g6 u w => (∃ I2 bd2, cV Γ E g6 I2 ad bd2 x Ds ∧ ((s = 0 ∧ ¬ (y < ZD (Ds b) ∧ ∃ z, i = nI z ∧ z < ZD (Ds b))) ∨ (s = 1 ∧ y < ZD (Ds b) ∧ (∃ z, i = nI z ∧ z < ZD (Ds b)) ∧ (bd2 b).1.2.2 = 1))) ∧ u = 22 ∧ w = 13660) ?_ ?_
    · rintro s g6 _ _ ⟨⟨I2, bd2, hV2, hor⟩, rfl, rfl⟩
      refine key s _ I2 bd2 hV2 ?_
      rcases hor with ⟨rfl, hi⟩ | ⟨rfl, hi, ⟨z, z1, z2⟩, hk2⟩
      · refine Or.inl ⟨rfl, ?_⟩
        by_cases h0 : 0 ≤ i
        · obtain ⟨z, hz2, rfl⟩ := nI_of (Int32.not_lt.mpr h0)
          exact Or.inr (Or.inr ⟨b, y, z, hb, hab, hgy, hy, rfl, hz2, hz, fun q => hi ⟨q.1, z, rfl, q.2⟩⟩)
        · exact Or.inr (Or.inl (fun q => h0 q.2))
      · exact Or.inr ⟨rfl, b, hb, hab, hk2, Or.inr ⟨hz, y, z, hgy, z1, hi, z2⟩⟩
    · intro k hk2
      by_cases hlt : y < ZD (Ds b)
      · rw [nlT hlt]
        refine ⟨fun z => absurd z (by decide), fun _ => ⟨hV.cs0, 0, 0, ⟨by omega, by omega⟩, ?_⟩⟩
        refine sc_isElement hE hV rfl (Or.inl (known_of hb hab hk)) (fun hno => ?_) (fun b' hb' hab' hg' hz' => ?_) (fun b' z hb' hab' hgz hz2 hz' st3 I3 bd3 hV3 hk3 => ?_)
        · refine ⟨fun _ => hk2 _ _ _ _ ⟨⟨I', bd', hV, Or.inl ⟨rfl, fun q => ?_⟩⟩, rfl, rfl⟩, fun z => absurd rfl z⟩
          rcases hno with z | z
          · exact absurd (by rw [hab]; exact body_in hb) z
          · obtain ⟨-, w, rfl, hw⟩ := q
            have hzl := ZD_le (hV.v hb)
            exact z (nI_pos' (by omega))
        · have eb : b = b' := (nI_eq (by omega) (by omega)).mp (hab.symm.trans hab')
          subst eb
          exact absurd hz' hz
        · have eb : b = b' := (nI_eq (by omega) (by omega)).mp (hab.symm.trans hab')
          subst eb
          by_cases hlt2 : z < ZD (Ds b)
          · rw [nlT hlt2]
            exact ⟨fun z => absurd z (by decide), fun _ => hk2 _ _ _ _ ⟨⟨I3, bd3, hV3, Or.inr ⟨rfl, hlt, ⟨z, hgz, hlt2⟩, hk3⟩⟩, rfl, rfl⟩⟩
          · rw [nlF hlt2]
            refine ⟨fun _ => hk2 _ _ _ _ ⟨⟨I3, bd3, hV3, Or.inl ⟨rfl, fun q => ?_⟩⟩, rfl, rfl⟩, fun z => absurd rfl z⟩
            obtain ⟨-, w, hw1, hw2⟩ := q
            have hzl := ZD_le (hV.v hb)
            have : z = w := (nI_eq hz2 (by omega)).mp (hgz.symm.trans hw1)
            omega
      · rw [nlF hlt]
        exact ⟨fun _ => hk2 _ _ _ _ ⟨⟨I', bd', hV, Or.inl ⟨rfl, fun q => hlt q.1⟩⟩, rfl, rfl⟩, fun z => absurd rfl z⟩
end CA3
