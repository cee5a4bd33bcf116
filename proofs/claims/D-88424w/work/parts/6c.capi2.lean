set_option maxRecDepth 100000
section CA2
variable {Γ : eb_C} {E : cET} {st st' : eb_S} {I I' : Nat → va_E → Prop} {ad : Nat → Nat} {bd : Nat → cBT} {x : cXT} {Ds : Nat → eb_D} {p bc bs : Nat}
theorem cV.fz (h : cV Γ E st I ad bd x Ds) : ∀ a y, I a y → st a = some y := fun a y hy => (h.2.1 a y hy).1
theorem cV.v {b : Nat} (h : cV Γ E st I ad bd x Ds) (hb : b < 4) : vD (Ds b) := (h.2.2.1 b hb).1
theorem sc_isElement {a g : Int32} {K : Int32 → eb_S → Prop} (hE : cEm E) (h : cV Γ E st I ad bd x Ds) (hp : ad 16 = p) (hroom : (∀ b, b < 4 → a = nI b → (bd b).1.2.2 = 1) ∨ (22 ≤ bc ∧ 13660 ≤ bs)) (h0 : ¬ (0 ≤ a ∧ a ≤ 3) ∨ ¬ 0 ≤ g → K 0 st)
    (hz : ∀ b, b < 4 → a = nI b → 0 ≤ g → ZD (Ds b) = 0 → ∀ st' I' bd', cV Γ E st' I' ad bd' x Ds → (bd' b).1.2.2 = 1 → K 1 st')
    (h1 : ∀ b y, b < 4 → a = nI b → g = nI y → y < 2147483648 → ¬ ZD (Ds b) = 0 → ∀ st' I' bd', cV Γ E st' I' ad bd' x Ds → (bd' b).1.2.2 = 1 → K (nI (b1 (Nat.blt y (ZD (Ds b))))) st') : MX0_isElement Γ bc bs st p a g K := by
  subst hp
  unfold MX0_isElement
  refine sc_isBody (fun hbd => ?_) (fun hbd => ⟨fun _ => h0 (Or.inl hbd), fun z => absurd rfl z⟩)
  obtain ⟨b, hb, rfl⟩ : ∃ b : Nat, b < 4 ∧ a = nI b := (body_or a).resolve_right (fun z => z hbd)
  refine ⟨fun z => absurd z (by decide), fun _ => ⟨fun hg => h0 (Or.inr (fun z => Int32.not_lt.mpr z hg)), fun hg => ?_⟩⟩
  obtain ⟨y, hy, rfl⟩ := nI_of hg
  refine h.at hb ⟨(h.body hb).cs, bc, bs, ⟨by omega, by omega⟩, ?_⟩
  refine sc_grp2 hE h hb (hroom.imp (fun z => z b hb rfl) id) (fun st' I' bd' hV hk => ?_)
  have q := hV.grp hb hk
  by_cases hzz : ZD (Ds b) = 0
  · rw [q.1 hzz]
    exact ⟨fun _ => hz b hb rfl (Int32.not_lt.mp hg) hzz st' I' bd' hV hk, fun _ z => absurd z (by simp)⟩
  · obtain ⟨gp, g1, g2⟩ := q.2 hzz
    rw [g1]
    refine ⟨fun z => absurd z (by simp), fun _ _ => ?_⟩
    refine hV.at hb ⟨(hV.body hb).cs, 0, 0, ⟨by omega, by omega⟩, ?_⟩
    refine sc_grp1 hV hb hk ?_
    rw [g1]
    refine st_nn (g2.n hV.fz ?_)
    obtain ⟨hG, he1, he2, he3⟩ := TD_ok (hV.v hb) hzz
    have hzl := ZD_le (hV.v hb)
    rw [he3]
    have hK := h1 b y hb rfl rfl hy hzz st' I' bd' hV hk
    refine br_le (by omega) hy (fun h2 => ?_) (fun h2 => ?_)
    · rw [nlF (by omega)] at hK; exact hK
    · rw [nlT (by omega)] at hK; exact hK
theorem sc_why0 {a : Int32} {K : Int32 → eb_S → Prop} (hK : K (-2) st) : MX0_why Γ bc bs st p a 0 K := by
  unfold MX0_why
  refine sc_isBody (fun _ => ?_) (fun _ => ?_)
  · exact jp_0 True (fun _ => hK) (fun k5 hk5 => ⟨fun z => absurd z (by decide), fun _ => ⟨fun _ => hk5 trivial, fun z => absurd rfl z⟩⟩)
  · exact jp_0 True (fun _ => hK) (fun k5 hk5 => ⟨fun _ => hk5 trivial, fun z => absurd rfl z⟩)
theorem known_of {b : Nat} {a : Int32} (hb : b < 4) (hab : a = nI b) (hk : (bd b).1.2.2 = 1) : ∀ b', b' < 4 → a = nI b' → (bd b').1.2.2 = 1 := fun b' hb' e => by
  have : b = b' := (nI_eq (by omega) (by omega)).mp (hab.symm.trans e)
  rw [← this]; exact hk
/-- where a body's group is looked at once more -/
theorem sc_at {b : Nat} {a : Int32} {u w : Nat} {F : Nat → Nat → Nat → eb_S → Prop} (h : cV Γ E st I ad bd x Ds) (hp : ad 16 = p) (hb : b < 4) (hab : a = nI b) (hk : (bd b).1.2.2 = 1) {q : Nat} (hq : (bd b).2.1.1 = some q) (hu : u ≤ bc) (hw : w ≤ bs) (hF : F 0 0 q st) :
    eb_gr st p 0 0 (fun v9 => eb_nn v9 (fun p10 => eb_lr Γ st p10 7 a (fun v11 => eb_nn v11 (fun p12 => eb_cs st p12 [1] ∧ ∃ c15 s16 : Nat, (u + c15 ≤ bc ∧ w + s16 ≤ bs) ∧ MX1_group Γ c15 s16 st p12 (fun v13 g14 => eb_nn v13 (fun p17 => F c15 s16 p17 g14)))))) := by
  subst hp
  rw [hab]
  refine h.at hb ⟨(h.body hb).cs, 0, 0, ⟨by omega, by omega⟩, sc_grp1 h hb hk ?_⟩
  rw [hq]
  exact st_nn hF
/-- an element of a body: refused, or looked at -/
theorem sc_el {a g : Int32} {f : Nat → Nat → Int32} {K : Int32 → eb_S → Prop} {F : Nat → Nat → Nat → Nat → Nat → Nat → Nat → eb_S → Prop} (hE : cEm E) (hW : cW Γ E st p Ds) (hbc : 22 ≤ bc) (hbs : 13660 ≤ bs) (hK : ∀ st', cW Γ E st' p Ds → K (gatE Ds a g f) st')
    (h1 : ∀ b y, b < 4 → a = nI b → g = nI y → y < ZD (Ds b) → ¬ ZD (Ds b) = 0 → ∀ st' I' ad bd' x q, ad 16 = p → cV Γ E st' I' ad bd' x Ds → (bd' b).1.2.2 = 1 → (bd' b).2.1.1 = some q → cGr Γ I' q (TD (Ds b)) → (∀ st', cW Γ E st' p Ds → K (f b y) st') → F 22 13660 0 0 0 0 q st') :
    eb_cs st p [0] ∧ ∃ c3 s4 : Nat, (0 + c3 ≤ bc ∧ 0 + s4 ≤ bs) ∧ MX0_isElement Γ c3 s4 st p a g (fun v1 g2 => eb_cs g2 p [0] ∧ ∃ c7 s8 : Nat, ((0 + c3) + c7 ≤ bc ∧ (0 + s4) + s8 ≤ bs) ∧ MX0_why Γ c7 s8 g2 p a v1 (fun v5 g6 => eb_br (v5 = 1) (eb_gr g6 p 0 0 (fun v9 => eb_nn v9 (fun p10 => eb_lr Γ g6 p10 7 a (fun v11 => eb_nn v11 (fun p12 => eb_cs g6 p12 [1] ∧ ∃ c15 s16 : Nat, ((((0 + c3) + c7)) + c15 ≤ bc ∧ (((0 + s4) + s8)) + s16 ≤ bs) ∧ MX1_group Γ c15 s16 g6 p12 (fun v13 g14 => eb_nn v13 (fun p17 => F c3 s4 c7 s8 c15 s16 p17 g14))))))) (K v5 g6))) := by
  obtain ⟨I, ad, bd, x, hp, h⟩ := hW
  have hp' := hp
  subst hp'
  refine ⟨h.cs0, 22, 13660, ⟨by omega, by omega⟩, ?_⟩
  refine sc_isElement hE h rfl (Or.inr ⟨Nat.le_refl _, Nat.le_refl _⟩) (fun hno => ?_) (fun b hb hab hg hz st' I' bd' hV hk => ?_) (fun b y hb hab hgy hy hz st' I' bd' hV hk => ?_)
  · refine ⟨h.cs0, 0, 0, ⟨by omega, by omega⟩, sc_why0 ⟨fun z => absurd z (by decide), fun _ => ?_⟩⟩
    have := hK st (h.W rfl)
    rcases hno with z | z
    · rw [gatE_no z] at this; exact this
    · rw [gatE_neg z] at this; exact this
  · refine ⟨hV.cs0, 0, 0, ⟨by omega, by omega⟩, sc_why hE hV rfl (Or.inl (known_of hb hab hk)) (fun z => ?_) (fun b' hb' hab' _ hz' st2 I2 bd2 hV2 => ?_) (fun b' hb' hab' _ hz' => ?_)⟩
    · rcases z with z | z
      · exact absurd (by rw [hab]; exact body_in hb) z
      · exact absurd z (by decide)
    · refine ⟨fun z => absurd z (by decide), fun _ => ?_⟩
      have := hK st2 (hV2.W rfl)
      rw [hab, gatE_z hb hg hz] at this
      exact this
    · have : b = b' := (nI_eq (by omega) (by omega)).mp (hab.symm.trans hab')
      rw [← this] at hz'
      exact absurd hz hz'
  · by_cases hlt : y < ZD (Ds b)
    · rw [nlT hlt]
      refine ⟨hV.cs0, 0, 0, ⟨by omega, by omega⟩, sc_why hE hV rfl (Or.inl (known_of hb hab hk)) (fun z => ?_) (fun b' hb' hab' _ hz' => ?_) (fun b' hb' hab' _ hz' st2 I2 bd2 q hV2 hk2 hq2 hC2 => ?_)⟩
      · rcases z with z | z
        · exact absurd (by rw [hab]; exact body_in hb) z
        · exact absurd z (by decide)
      · have : b = b' := (nI_eq (by omega) (by omega)).mp (hab.symm.trans hab')
        rw [← this] at hz'
        exact absurd hz' hz
      · have eb : b = b' := (nI_eq (by omega) (by omega)).mp (hab.symm.trans hab')
        subst eb
        refine ⟨fun _ => ?_, fun z => absurd rfl z⟩
        refine sc_at hV2 rfl hb hab hk2 hq2 (by omega) (by omega) (h1 b y hb hab hgy hlt hz st2 I2 ad bd2 x q rfl hV2 hk2 hq2 hC2 (fun s hs => ?_))
        have := hK s hs
        rw [hab, hgy, gatE_f hb hy hz, if_pos hlt] at this
        exact this
    · rw [nlF hlt]
      refine ⟨hV.cs0, 0, 0, ⟨by omega, by omega⟩, sc_why0 ⟨fun z => absurd z (by decide), fun _ => ?_⟩⟩
      have := hK st' (hV.W rfl)
      rw [hab, hgy, gatE_f hb hy hz, if_neg hlt] at this
      exact this
theorem cW_length {a g : Int32} {K : Int32 → eb_S → Prop} (hE : cEm E) (hW : cW Γ E st p Ds) (hbc : 22 ≤ bc) (hbs : 13660 ≤ bs) (hK : ∀ st', cW Γ E st' p Ds → K (aLength Ds a g) st') : MX0_length Γ bc bs st p a g K := by
  unfold MX0_length
  unfold aLength at hK
  refine sc_el (F := fun c3 s4 c7 s8 c15 s16 p17 g14 => eb_gr g14 p17 7 5 (fun v18 => eb_nn v18 (fun p19 => eb_li Γ g14 p19 4 g (fun v20 => K v20 g14)))) hE hW hbc hbs hK (fun b y hb hab hgy hlt hz st' I' ad bd' x q hp hV hk hq hC hK' => ?_)
  obtain ⟨hG, he1, he2, he3⟩ := TD_ok (hV.v hb) hz
  rw [hgy]
  exact hC.len hV.fz hG.1.2.2 (by omega) (hK' _ (hV.W hp))
theorem sc_inverse {q g : Nat} {e : tE} {K : Int32 → Prop} (hG : tG e) (h : cGr Γ I q e) (hI : ∀ a y, I a y → st a = some y) (hg : g < e.2.2.1) (hK : K (nI (Iv e g))) : MX8_inverse Γ st q (nI g) K := by
  have hn := hG.1.2
  unfold MX8_inverse
  refine eb_loop2_i (fun x y => ∃ v a, v < e.2.2.1 ∧ a < e.2.2.1 ∧ x = nI v ∧ y = nI a ∧ ivd e (Tlen e a) v a = Iv e g) (fun _ y => y.toNatClampNeg) ?_ ⟨0, g, by omega, hg, rfl, rfl, rfl⟩
  rintro R x y ⟨v, a, hv, ha, rfl, rfl, hI2⟩ hR
  refine br_le (b := 0) (by omega) (by omega) (fun h0 => ?_) (fun h0 => ?_)
  · have e0 : a = 0 := by omega
    subst e0
    rw [hG.2.2.1.1] at hI2
    have hI' : v = Iv e g := hI2
    rw [hI']; exact hK
  · have h0' : ¬ a = 0 := by omega
    have k := Tkey_lt hG ha h0'
    refine h.las hI hn.2 ha h0' ⟨h.cs hI, sc_by hG h hI hv k.2.2.1 ?_⟩
    refine h.frm hI hn.2 ha h0' ?_
    refine hR _ _ ⟨_, _, (hG.2.1 v hv _ k.2.2.1).1, by omega, rfl, rfl, ?_⟩ ?_
    · rw [k.2.2.2.2.1] at hI2
      have hI' : (if a = 0 then v else ivd e (Tlen e (Tpar e a)) (Tto e v (Tlas e a)) (Tpar e a)) = Iv e g := hI2
      rw [if_neg h0'] at hI'
      exact hI'
    · rw [nI_cl (by omega), nI_cl (by omega)]; exact k.2.1
theorem cW_inverse {a g : Int32} {K : Int32 → eb_S → Prop} (hE : cEm E) (hW : cW Γ E st p Ds) (hbc : 22 ≤ bc) (hbs : 13660 ≤ bs) (hK : ∀ st', cW Γ E st' p Ds → K (aInverse Ds a g) st') : MX0_inverse Γ bc bs st p a g K := by
  unfold MX0_inverse
  unfold aInverse at hK
  refine sc_el (F := fun c3 s4 c7 s8 c15 s16 p17 g14 => eb_cs g14 p17 [7] ∧ MX8_inverse Γ g14 p17 g (fun v18 => K v18 g14)) hE hW hbc hbs hK (fun b y hb hab hgy hlt hz st' I' ad bd' x q hp hV hk hq hC hK' => ?_)
  obtain ⟨hG, he1, he2, he3⟩ := TD_ok (hV.v hb) hz
  rw [hgy]
  exact ⟨hC.cs hV.fz, sc_inverse hG hC hV.fz (by omega) (hK' _ (hV.W hp))⟩
theorem sc_turns {q g : Nat} {e : tE} {K : Int32 → Prop} (hG : tG e) (h : cGr Γ I q e) (hI : ∀ a y, I a y → st a = some y) (hg : g < e.2.2.1) (hK : K (nI (Tr e g))) : MX8_turns Γ st q (nI g) K := by
  have hn := hG.1.2
  unfold MX8_turns
  obtain ⟨k0, k1, k2, k3⟩ := pw_0 hG hg
  have hx1 : pw e g 1 = g := Pr_l hG g hg
  refine eb_loop2_i (fun n v => ∃ i, 1 ≤ i ∧ i ≤ k0 ∧ n = nI i ∧ v = nI (pw e g i) ∧ trn e g (502 - i) (pw e g i) i = Tr e g) (fun n _ => 1000 - n.toNatClampNeg) ?_ ⟨1, by omega, by omega, rfl, by rw [hx1], by rw [hx1]; rfl⟩
  rintro R n v ⟨i, i1, i2, rfl, rfl, ht⟩ hR
  have hp := pw_lt hG hg i
  rw [show 502 - i = (501 - i) + 1 by omega] at ht
  have ht' : (if pw e g i = 0 then i else trn e g (501 - i) (Pr e (pw e g i) g) (i + 1)) = Tr e g := ht
  refine br_eq (b := 0) (by omega) (by omega) (fun h0 => ?_) (fun h0 => ?_)
  · rw [if_pos h0] at ht'
    rw [ht']; exact hK
  · rw [if_neg h0] at ht'
    refine ⟨h.cs hI, sc_prod hG h hI hp hg ?_⟩
    have hik : ¬ i = k0 := fun z => h0 (by rw [z]; exact k3)
    refine hR _ _ ⟨i + 1, by omega, by omega, by rw [nI_1], rfl, ?_⟩ ?_
    · rw [show 502 - (i + 1) = 501 - i by omega]; exact ht'
    · rw [nI_1, nI_cl (by omega), nI_cl (by omega)]; omega
theorem cW_turns {a g : Int32} {K : Int32 → eb_S → Prop} (hE : cEm E) (hW : cW Γ E st p Ds) (hbc : 22 ≤ bc) (hbs : 13660 ≤ bs) (hK : ∀ st', cW Γ E st' p Ds → K (aTurns Ds a g) st') : MX0_turns Γ bc bs st p a g K := by
  unfold MX0_turns
  unfold aTurns at hK
  refine sc_el (F := fun c3 s4 c7 s8 c15 s16 p17 g14 => eb_cs g14 p17 [7] ∧ MX8_turns Γ g14 p17 g (fun v18 => K v18 g14)) hE hW hbc hbs hK (fun b y hb hab hgy hlt hz st' I' ad bd' x q hp hV hk hq hC hK' => ?_)
  obtain ⟨hG, he1, he2, he3⟩ := TD_ok (hV.v hb) hz
  rw [hgy]
  exact ⟨hC.cs hV.fz, sc_turns hG hC hV.fz (by omega) (hK' _ (hV.W hp))⟩
/-- marks in a row of booleans, counted -/
theorem sc_many {q N : Nat} {f : Nat → Int32} {P : Nat → Bool} {K : Int32 → Prop} (h : st q = some (eb_ia Γ 1 N f)) (hN : N < 2147483648) (hf : ∀ k, k < N → f k = nI (b1 (P k))) (hK : K (nI (cnB P N))) : MX0_many Γ st q K := by
  unfold MX0_many
  refine st_ln h ?_
  refine eb_loop2_i (fun x y => ∃ m, m ≤ N ∧ x = nI (cnB P m) ∧ y = nI m) (fun _ y => 2147483648 - y.toNatClampNeg) ?_ ⟨0, by omega, rfl, rfl⟩
  rintro R x y ⟨m, hm, rfl, rfl⟩ hR
  refine br_le hN (by omega) (fun h1 => by rw [show m = N by show m = N; omega]; exact hK) (fun h1 => ?_)
  have h1' : m < N := by
    have : ¬ N ≤ m := h1
    omega
  refine st_li h h1' hN ?_
  rw [hf m h1']
  refine jp_1 (fun v => v = nI (b1 (P m))) ?_ (fun k hk => cond_br (fun c => hk _ (by rw [c]; rfl)) (fun c => hk _ (by rw [c]; rfl)))
  rintro _ rfl
  rw [nI_add, nI_1]
  refine hR _ _ ⟨m + 1, by omega, rfl, rfl⟩ ?_
  rw [nI_cl (by omega), nI_cl (by omega)]; omega
theorem cW_classSize {a g : Int32} {K : Int32 → eb_S → Prop} (hE : cEm E) (hW : cW Γ E st p Ds) (hbc : 23 ≤ bc) (hbs : 14160 ≤ bs) (hK : ∀ st', cW Γ E st' p Ds → K (aClassSize Ds a g) st') : MX0_classSize Γ bc bs st p a g K := by
  unfold MX0_classSize
  unfold aClassSize at hK
  refine sc_el (F := fun c3 s4 c7 s8 c15 s16 p17 g14 => eb_gi g14 p17 7 1 (fun v18 => eb_ok1 v18 ∧ (eb_mk g14 (eb_ia Γ 1 (v18.toNatClampNeg) (fun _ => 0)) (v18.toNatClampNeg) bc bs ((((0 + c3) + c7) + c15)) ((((0 + s4) + s8) + s16)) (fun p19 g20 => eb_jp1 (fun (g21 : eb_S) => MX0_many Γ g21 p19 (fun v22 => K v22 g21)) (fun k26 => eb_loop2 (fun r29 (x6_27 : Int32) (g28 : eb_S) => eb_gi g28 p17 7 1 (fun v30 => eb_br (v30 ≤ x6_27) (k26 g28) (eb_cs g28 p17 [7] ∧ MX8_product Γ 20 g28 p17 x6_27 g (fun v31 => eb_cs g28 p17 [7] ∧ MX8_inverse Γ g28 p17 x6_27 (fun v35 => eb_cs g28 p17 [7] ∧ MX8_product Γ 20 g28 p17 v31 v35 (fun v39 => eb_wi Γ g28 p19 1 v39 (vp_nar .boolean 1) (fun g43 => r29 (x6_27 + 1) g43))))))) 0 g20))))) hE hW (by omega) (by omega) hK (fun b y hb hab hgy hlt hz st' I' ad bd' x q hp hV hk hq hC hK' => ?_)
  obtain ⟨hG, he1, he2, he3⟩ := TD_ok (hV.v hb) hz
  have hzl := ZD_le (hV.v hb)
  refine hC.n hV.fz ?_
  rw [he3, nI_cl (show ZD (Ds b) < 2147483648 by omega), hgy]
  refine ⟨st_ok1 (by omega), st_mk (by omega) (by omega) (fun pw s1 f1 g1 w1 => ?_)⟩
  have hI1 : ∀ s, sf [pw] s1 s → ∀ a y, I' a y → s a = some y := fun s hs a y hy => hs _ _ (g1 _ _ (hV.fz a y hy) List.not_mem_nil) (fun z => by
    have := hV.fz a y hy
    rw [List.mem_singleton.mp z, f1] at this
    exact absurd this (by simp))
  refine jp_1 (fun s => ∃ f, sf [pw] s1 s ∧ s pw = some (eb_ia Γ 1 (ZD (Ds b)) f) ∧ ∀ k, k < ZD (Ds b) → f k = nI (b1 (mkB (Cj (TD (Ds b)) y) (ZD (Ds b)) k))) ?_ ?_
  · rintro s ⟨f, hs, hf, hm⟩
    refine sc_many hf (by omega) hm (hK' s ?_)
    have hs0 : sf [pw] st' s := fun a y ha hw => hs _ _ (g1 _ _ ha List.not_mem_nil) hw
    exact (hV.keep (I' := I') hE hs0 (fun w hw => by rw [List.mem_singleton.mp hw]; exact f1) (fun _ _ z => z) (fun _ _ z => Or.inl z)).W hp
  · intro k26 hk26
    refine eb_loop2_i (fun u s => ∃ m f, m ≤ ZD (Ds b) ∧ u = nI m ∧ sf [pw] s1 s ∧ s pw = some (eb_ia Γ 1 (ZD (Ds b)) f) ∧ ∀ k, k < ZD (Ds b) → f k = nI (b1 (mkB (Cj (TD (Ds b)) y) m k))) (fun u _ => 1000 - u.toNatClampNeg) ?_ ⟨0, _, by omega, rfl, sf.rf _ _, w1, fun k hk => rfl⟩
    rintro R u s ⟨m, f, hm, rfl, hs, hf, hmk⟩ hR
    have hIs := hI1 s hs
    refine hC.n hIs ?_
    rw [he3]
    refine br_le (by omega) (by omega) (fun h2 => hk26 s ⟨f, hs, hf, fun k hk => by rw [hmk k hk, show m = ZD (Ds b) by omega]⟩) (fun h2 => ?_)
    have hp1 := Pr_lt hG (g := m) (by omega) y (by omega)
    have hiv := Iv_lt hG (g := m) (by omega)
    have hp2 := Pr_lt hG hp1 _ hiv
    refine ⟨hC.cs hIs, sc_prod hG hC hIs (by omega) (by omega) ⟨hC.cs hIs, sc_inverse hG hC hIs (by omega) ⟨hC.cs hIs, sc_prod hG hC hIs hp1 hiv ?_⟩⟩⟩
    have hcj : Pr (TD (Ds b)) (Pr (TD (Ds b)) m y) (Iv (TD (Ds b)) m) = Cj (TD (Ds b)) y m := rfl
    rw [hcj] at hp2 ⊢
    rw [nar_b1]
    refine st_wi hf (by omega) (by omega) (fun s2 g2 w2 => ?_)
    rw [nI_1]
    refine hR _ _ ⟨m + 1, _, by omega, rfl, hs.tr g2, w2, fun k hk => ?_⟩ ?_
    · by_cases ek : k = Cj (TD (Ds b)) y m
      · rw [ek, upd_eq, mkB_eq]; rfl
      · rw [upd_ne ek, mkB_ne ek]; exact hmk k hk
    · rw [nI_cl (by omega), nI_cl (by omega)]; omega
end CA2
