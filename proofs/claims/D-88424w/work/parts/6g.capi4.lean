set_option maxRecDepth 100000
section CA4
variable {Γ : eb_C} {E : cET} {st st' : eb_S} {I I' : Nat → va_E → Prop} {ad : Nat → Nat} {bd : Nat → cBT} {x : cXT} {Ds : Nat → eb_D} {p bc bs : Nat}
theorem okK_b {a k : Int32} {b b' s : Nat} (ok : okK Ds a k b s) (hb' : b' < 4) (h : a = nI b') : b = b' := (nI_eq (by have := ok.1; omega) (by omega)).mp (ok.2.1.symm.trans h)
/-- why a body whose group is known is looked at -/
theorem sc_whyK {a v : Int32} {b : Nat} {K : Int32 → eb_S → Prop} (hE : cEm E) (h : cV Γ E st I ad bd x Ds) (hp : ad 16 = p) (hb : b < 4) (hab : a = nI b) (hk : (bd b).1.2.2 = 1) (hv : ¬ v = 0) (h5 : ZD (Ds b) = 0 → K (-5) st) (h1 : ¬ ZD (Ds b) = 0 → ∀ q, (bd b).2.1.1 = some q → cGr Γ I q (TD (Ds b)) → K 1 st) : MX0_why Γ bc bs st p a v K := by
  subst hp
  subst hab
  unfold MX0_why
  refine sc_isBody (fun _ => ?_) (fun hn => absurd (body_in hb) hn)
  refine jp_0 False (fun z => absurd z id) (fun k5 _ => ⟨fun z => absurd z (by decide), fun _ => ⟨fun z => absurd z hv, fun _ => ?_⟩⟩)
  refine h.at hb ⟨(h.body hb).cs, 0, 0, ⟨by omega, by omega⟩, sc_grp1 h hb hk ?_⟩
  have q := h.grp hb hk
  by_cases hz : ZD (Ds b) = 0
  · rw [q.1 hz]
    exact ⟨fun _ => h5 hz, fun _ z => absurd z (by simp)⟩
  · obtain ⟨g, g1, g2⟩ := q.2 hz
    rw [g1]
    exact ⟨fun z => absurd z (by simp), fun _ _ => h1 hz g g1 g2⟩
theorem cW_parts {a k : Int32} {K : Int32 → eb_S → Prop} (hE : cEm E) (hW : cW Γ E st p Ds) (hbc : 24 ≤ bc) (hbs : 14660 ≤ bs) (h2 : (∀ b s, ¬ okK Ds a k b s) → ∀ t, cW Γ E t p Ds → K (-2) t) (h5 : ∀ b s, okK Ds a k b s → ZD (Ds b) = 0 → ∀ t, cW Γ E t p Ds → K (-5) t)
    (h1 : ∀ b s, okK Ds a k b s → ¬ ZD (Ds b) = 0 → ∀ t, cW Γ E t p Ds → K (nI (NP (Ds b) s)) t) : MX0_parts Γ bc bs st p a k K := by
  obtain ⟨I, ad, bd, x, hp, h⟩ := hW
  subst hp
  unfold MX0_parts
  refine ⟨h.cs0, sc_isKind0 h rfl (fun hno => ?_) (fun b s ok hs => ?_)⟩
  · exact ⟨h.cs0, 0, 0, ⟨by omega, by omega⟩, sc_why0 ⟨fun z => absurd z (by decide), fun _ => h2 hno _ (h.W rfl)⟩⟩
  · refine ⟨h.cs0, 22, 13660, ⟨by omega, by omega⟩, sc_why hE h rfl (Or.inr ⟨Nat.le_refl _, Nat.le_refl _⟩) (fun z => ?_) (fun b' hb' hab' _ hz' st2 I2 bd2 hV2 => ?_) (fun b' hb' hab' _ hz' st2 I2 bd2 q hV2 hk2 hq2 hC2 => ?_)⟩
    · rcases z with z | z
      · exact absurd (by rw [ok.2.1]; exact body_in ok.1) z
      · exact absurd z (by decide)
    · have eb := okK_b ok hb' hab'
      subst eb
      exact ⟨fun z => absurd z (by decide), fun _ => h5 b s ok hz' _ (hV2.W rfl)⟩
    · have eb := okK_b ok hb' hab'
      subst eb
      refine ⟨fun _ => ?_, fun z => absurd rfl z⟩
      rw [hab', ok.2.2.2.1]
      refine hV2.at hb' ⟨(hV2.body hb').cs, 2, 1000, ⟨by omega, by omega⟩, sc_many1 hE hV2 hb' hk2 hz' hs (Or.inr ⟨Nat.le_refl _, Nat.le_refl _⟩) (fun st3 I3 bd3 hV3 _ _ _ _ _ => h1 b s ok hz' _ (hV3.W rfl))⟩
/-- a part of a body: refused, or looked at -/
theorem sc_pt {a k v : Int32} {K : Int32 → eb_S → Prop} {F : Nat → Nat → Nat → Nat → eb_S → Prop} (hE : cEm E) (hW : cW Γ E st p Ds) (hbc : 24 ≤ bc) (hbs : 14660 ≤ bs) (h2 : (∀ b s, ¬ okK Ds a k b s) ∨ ¬ 0 ≤ v → ∀ t, cW Γ E t p Ds → K (-2) t) (h5 : ∀ b s, okK Ds a k b s → 0 ≤ v → ZD (Ds b) = 0 → ∀ t, cW Γ E t p Ds → K (-5) t)
    (h1' : ∀ b s y, okK Ds a k b s → v = nI y → y < 2147483648 → ¬ ZD (Ds b) = 0 → ¬ y < NP (Ds b) s → ∀ t, cW Γ E t p Ds → K (-2) t)
    (h1 : ∀ b s y, okK Ds a k b s → s < 2 ^ (Ds b).1 → v = nI y → y < NP (Ds b) s → ¬ ZD (Ds b) = 0 → ∀ st' I' ad bd' x q, ad 16 = p → cV Γ E st' I' ad bd' x Ds → (bd' b).1.2.2 = 1 → (bd' b).2.1.1 = some q → cGr Γ I' q (TD (Ds b)) → ¬ (bd' b).2.2.2.1 s = none → F 24 14660 0 0 st') :
    eb_cs st p [0] ∧ ∃ c3 s4 : Nat, (0 + c3 ≤ bc ∧ 0 + s4 ≤ bs) ∧ MX0_isPart Γ c3 s4 st p a k v (fun v1 g2 => eb_cs g2 p [0] ∧ ∃ c7 s8 : Nat, ((0 + c3) + c7 ≤ bc ∧ (0 + s4) + s8 ≤ bs) ∧ MX0_why Γ c7 s8 g2 p a v1 (fun v5 g6 => eb_br (v5 = 1) (F c3 s4 c7 s8 g6) (K v5 g6))) := by
  obtain ⟨I, ad, bd, x, hp, h⟩ := hW
  subst hp
  refine ⟨h.cs0, 24, 14660, ⟨by omega, by omega⟩, ?_⟩
  refine sc_isPart hE h rfl (Or.inr ⟨Nat.le_refl _, Nat.le_refl _⟩) (fun hno => ?_) (fun b s ok hv hz st' I' bd' hV hk => ?_) (fun b s y ok hs hvy hy hz st' I' bd' hV hk hpn => ?_)
  · exact ⟨h.cs0, 0, 0, ⟨by omega, by omega⟩, sc_why0 ⟨fun z => absurd z (by decide), fun _ => h2 hno _ (h.W rfl)⟩⟩
  · exact ⟨hV.cs0, 0, 0, ⟨by omega, by omega⟩, sc_whyK hE hV rfl ok.1 ok.2.1 hk (by decide) (fun _ => ⟨fun z => absurd z (by decide), fun _ => h5 b s ok hv hz _ (hV.W rfl)⟩) (fun z => absurd hz z)⟩
  · by_cases hlt : y < NP (Ds b) s
    · rw [nlT hlt]
      exact ⟨hV.cs0, 0, 0, ⟨by omega, by omega⟩, sc_whyK hE hV rfl ok.1 ok.2.1 hk (by decide) (fun z => absurd z hz) (fun _ q hq hC => ⟨fun _ => h1 b s y ok hs hvy hlt hz st' I' ad bd' x q rfl hV hk hq hC hpn, fun z => absurd rfl z⟩)⟩
    · rw [nlF hlt]
      exact ⟨hV.cs0, 0, 0, ⟨by omega, by omega⟩, sc_why0 ⟨fun z => absurd z (by decide), fun _ => h1' b s y ok hvy hy hz hlt _ (hV.W rfl)⟩⟩
theorem cW_least {a k v : Int32} {K : Int32 → eb_S → Prop} (hE : cEm E) (hW : cW Γ E st p Ds) (hbc : 24 ≤ bc) (hbs : 14660 ≤ bs) (h2 : (∀ b s, ¬ okK Ds a k b s) ∨ ¬ 0 ≤ v → ∀ t, cW Γ E t p Ds → K (-2) t) (h5 : ∀ b s, okK Ds a k b s → 0 ≤ v → ZD (Ds b) = 0 → ∀ t, cW Γ E t p Ds → K (-5) t)
    (h1 : ∀ b s y, okK Ds a k b s → v = nI y → ¬ ZD (Ds b) = 0 → y < NP (Ds b) s → ∀ l, l < ZD (Ds b) → isF (Ds b) s l → PN (Ds b) s l = y → ∀ t, cW Γ E t p Ds → K (nI l) t)
    (h1' : ∀ b s y, okK Ds a k b s → v = nI y → y < 2147483648 → ¬ ZD (Ds b) = 0 → ¬ y < NP (Ds b) s → ∀ t, cW Γ E t p Ds → K (-2) t) : MX0_least Γ bc bs st p a k v K := by
  unfold MX0_least
  refine sc_pt hE hW hbc hbs h2 h5 h1' (fun b s y ok hs hvy hlt hz st' I' ad bd' x q hp hV hk hq hC hpn => ?_)
  subst hp
  obtain ⟨l, l1, l2, l3⟩ := NP_ex (Ds b) s hlt
  rw [ok.2.1, ok.2.2.2.1, hvy, ← l3]
  refine hV.at ok.1 ⟨(hV.body ok.1).cs, 0, 0, ⟨by omega, by omega⟩, sc_least1 hE hV ok.1 hk hz hs (Or.inl hpn) l1 l2 (fun st2 I2 bd2 hV2 _ _ _ _ _ => h1 b s y ok hvy hz hlt l l1 l2 l3 _ (hV2.W rfl))⟩
theorem isK_0 (D : eb_D) (hv : vD D) : isK D 0 = true ∧ 0 < 2 ^ D.1 := by
  have hp : 0 < 2 ^ D.1 := Nat.one_le_two_pow
  refine ⟨?_, hp⟩
  unfold isK
  have e0 : Nat.land 0 D.2.2 = 0 := by
    have : ∀ a, a < 16 → Nat.land 0 a = 0 := by decide
    exact this _ hv.ring
  rw [nlT hp, e0, rit_fixn (rst_0 4)]
  rfl
theorem cW_corners {a k v : Int32} {K : Int32 → eb_S → Prop} (hE : cEm E) (hW : cW Γ E st p Ds) (hbc : 29 ≤ bc) (hbs : 17160 ≤ bs) (h2 : (∀ b s, ¬ okK Ds a k b s) ∨ ¬ 0 ≤ v → ∀ t, cW Γ E t p Ds → K (-2) t) (h5 : ∀ b s, okK Ds a k b s → 0 ≤ v → ZD (Ds b) = 0 → ∀ t, cW Γ E t p Ds → K (-5) t)
    (h1 : ∀ b s y, okK Ds a k b s → v = nI y → y < 2147483648 → ¬ ZD (Ds b) = 0 → ∀ t, cW Γ E t p Ds → K (if y < NP (Ds b) s then nI (cnB (cnF (Ds b) s y) (NP (Ds b) 0)) else -2) t) : MX0_corners Γ bc bs st p a k v K := by
  unfold MX0_corners
  refine sc_pt hE hW (by omega) (by omega) h2 h5 (fun b s y ok hvy hy hz hlt t ht => by have := h1 b s y ok hvy hy hz t ht; rw [if_neg hlt] at this; exact this) (fun b s y ok hs hvy hlt hz st' I' ad bd' x q hp hV hk hq hC hpn => ?_)
  subst hp
  have hv := hV.v ok.1
  have hzl := ZD_le hv
  have hn := NP_le (Ds b) s
  have hn0 := NP_le (Ds b) 0
  rw [ok.2.1, ok.2.2.2.1, hvy]
  refine hV.at ok.1 ⟨(hV.body ok.1).cs, 5, 2500, ⟨by omega, by omega⟩, sc_meets (s := 0) hE hV ok.1 hk hz (isK_0 _ hv).2 hs (by omega) (by omega) (by omega) (fun st2 I2 bd2 q2 f hV2 _ _ hq2 hf => ?_)⟩
  refine st_nn (sc_many hq2 (by omega) hf ?_)
  have := h1 b s y ok hvy (by omega) hz st2 (hV2.W rfl)
  rw [if_pos hlt] at this
  exact this
theorem cW_cornerOf {a k v i : Int32} {K : Int32 → eb_S → Prop} (hE : cEm E) (hW : cW Γ E st p Ds) (hbc : 29 ≤ bc) (hbs : 17160 ≤ bs) (h2 : (∀ b s, ¬ okK Ds a k b s) ∨ ¬ (0 ≤ v ∧ 0 ≤ i) → ∀ t, cW Γ E t p Ds → K (-2) t) (h5 : ∀ b s, okK Ds a k b s → 0 ≤ v ∧ 0 ≤ i → ZD (Ds b) = 0 → ∀ t, cW Γ E t p Ds → K (-5) t)
    (h1 : ∀ b s y z, okK Ds a k b s → v = nI y → y < 2147483648 → i = nI z → z < 2147483648 → ¬ ZD (Ds b) = 0 → ∀ t, cW Γ E t p Ds → K (if y < NP (Ds b) s then oI (nth (cnF (Ds b) s y) z (NP (Ds b) 0)) else -2) t) : MX0_cornerOf Γ bc bs st p a k v i K := by
  unfold MX0_cornerOf
  obtain ⟨I, ad, bd, x, hp, h⟩ := hW
  subst hp
  refine ⟨h.cs0, 24, 14660, ⟨by omega, by omega⟩, ?_⟩
  refine sc_isPart hE h rfl (Or.inr ⟨Nat.le_refl _, Nat.le_refl _⟩) (fun hno => ?_) (fun b s ok hv hz st' I' bd' hV hk => ?_) (fun b s y ok hs hvy hy hz st' I' bd' hV hk hpn => ?_)
  · refine jp_1 (fun s => s = 0) ?_ (fun k hk => ⟨fun _ => hk _ rfl, fun z => absurd rfl z⟩)
    rintro _ rfl
    exact ⟨h.cs0, 0, 0, ⟨by omega, by omega⟩, sc_why0 ⟨fun z => absurd z (by decide), fun _ => h2 (hno.imp id (fun z y => z y.1)) _ (h.W rfl)⟩⟩
  · refine jp_1 (fun s => (s = 0 ∧ ¬ 0 ≤ i) ∨ (s = 1 ∧ 0 ≤ i)) ?_ (fun k hk => ⟨fun z => absurd z (by decide), fun _ => ⟨fun z => hk _ (Or.inl ⟨rfl, fun y => Int32.not_lt.mpr y z⟩), fun z => hk _ (Or.inr ⟨rfl, Int32.not_lt.mp z⟩)⟩⟩)
    rintro u (⟨rfl, hi⟩ | ⟨rfl, hi⟩)
    · exact ⟨hV.cs0, 0, 0, ⟨by omega, by omega⟩, sc_why0 ⟨fun z => absurd z (by decide), fun _ => h2 (Or.inr (fun z => hi z.2)) _ (hV.W rfl)⟩⟩
    · exact ⟨hV.cs0, 0, 0, ⟨by omega, by omega⟩, sc_whyK hE hV rfl ok.1 ok.2.1 hk (by decide) (fun _ => ⟨fun z => absurd z (by decide), fun _ => h5 b s ok ⟨hv, hi⟩ hz _ (hV.W rfl)⟩) (fun z => absurd hz z)⟩
  · by_cases hlt : y < NP (Ds b) s
    · rw [nlT hlt]
      refine jp_1 (fun s => (s = 0 ∧ ¬ 0 ≤ i) ∨ (s = 1 ∧ 0 ≤ i)) ?_ (fun k hk => ⟨fun z => absurd z (by decide), fun _ => ⟨fun z => hk _ (Or.inl ⟨rfl, fun y => Int32.not_lt.mpr y z⟩), fun z => hk _ (Or.inr ⟨rfl, Int32.not_lt.mp z⟩)⟩⟩)
      rintro u (⟨rfl, hi⟩ | ⟨rfl, hi⟩)
      · exact ⟨hV.cs0, 0, 0, ⟨by omega, by omega⟩, sc_why0 ⟨fun z => absurd z (by decide), fun _ => h2 (Or.inr (fun z => hi z.2)) _ (hV.W rfl)⟩⟩
      · obtain ⟨z, hz2, rfl⟩ := nI_of (Int32.not_lt.mpr hi)
        refine ⟨hV.cs0, 0, 0, ⟨by omega, by omega⟩, sc_whyK hE hV rfl ok.1 ok.2.1 hk (by decide) (fun z => absurd z hz) (fun _ q hq hC => ⟨fun _ => ?_, fun z => absurd rfl z⟩)⟩
        have hv := hV.v ok.1
        have hzl := ZD_le hv
        have hn := NP_le (Ds b) s
        have hn0 := NP_le (Ds b) 0
        have hb := ok.1
        have e1 := ok.2.1
        have e2 := ok.2.2.2.1
        rw [e1, e2, hvy]
        refine hV.at hb ⟨(hV.body hb).cs, 5, 2500, ⟨by omega, by omega⟩, sc_meets (s := 0) hE hV hb hk hz (isK_0 _ hv).2 hs (by omega) (by omega) (by omega) (fun st2 I2 bd2 q2 f hV2 _ _ hq2 hf => ?_)⟩
        have hK := h1 b s y z ok hvy (by omega) rfl hz2 hz st2 (hV2.W rfl)
        rw [if_pos hlt] at hK
        have hf' : ∀ c, c < NP (Ds b) 0 → f c = nI (b1 (cnF (Ds b) s y c)) := hf
        refine eb_loop2_i (fun u v => ∃ c, c ≤ NP (Ds b) 0 ∧ u = nI (cnB (cnF (Ds b) s y) c) ∧ v = nI c ∧ nth (cnF (Ds b) s y) z c = none) (fun _ v => 1000 - v.toNatClampNeg) ?_ ⟨0, by omega, rfl, rfl, rfl⟩
        rintro R u v ⟨c, hc, rfl, rfl, hnone⟩ hR
        have hcl := cnB_le (cnF (Ds b) s y) c
        refine st_nn (st_ln hq2 ?_)
        show eb_br (nI (NP (Ds b) 0) ≤ nI c) _ _
        refine br_le (by omega) (by omega) (fun h3 => ?_) (fun h3 => ?_)
        · rw [show c = NP (Ds b) 0 by omega] at hnone
          rw [hnone] at hK
          exact hK
        · have hstep : nth (cnF (Ds b) s y) z (c + 1) = cond (and (cnF (Ds b) s y c) (Nat.beq (cnB (cnF (Ds b) s y) c) z)) (some c) none := by
            show (match nth (cnF (Ds b) s y) z c with | some s => some s | none => cond (and (cnF (Ds b) s y c) (Nat.beq (cnB (cnF (Ds b) s y) c) z)) (some c) none) = _
            rw [hnone]
          have hce : cnB (cnF (Ds b) s y) (c + 1) = cnB (cnF (Ds b) s y) c + b1 (cnF (Ds b) s y c) := rfl
          refine st_li hq2 (by omega) (by omega) ?_
          rw [hf' c (by omega)]
          refine jp_1 (fun u => u = nI (cnB (cnF (Ds b) s y) (c + 1)) ∧ nth (cnF (Ds b) s y) z (c + 1) = none) ?_ ?_
          · rintro _ ⟨rfl, hn1⟩
            rw [nI_1]
            refine hR _ _ ⟨c + 1, by omega, rfl, rfl, hn1⟩ ?_
            rw [nI_cl (by omega), nI_cl (by omega)]; omega
          · intro k hk
            refine cond_br (fun e => hk _ ⟨by rw [hce, e]; rfl, by rw [hstep, e]; rfl⟩) (fun e => ?_)
            refine br_eq (by omega) hz2 (fun h5 => ?_) (fun h5 => ?_)
            · have : nth (cnF (Ds b) s y) z (NP (Ds b) 0) = some c := nth_keep (n := c + 1) (by rw [hstep, e, nbT h5]; rfl) (by omega)
              rw [this] at hK
              exact hK
            · rw [nI_1]
              exact hk _ ⟨by rw [hce, e]; rfl, by rw [hstep, e, nbF h5]; rfl⟩
    · rw [nlF hlt]
      refine jp_1 (fun s => s = 0) ?_ (fun k hk => ⟨fun _ => hk _ rfl, fun z => absurd rfl z⟩)
      rintro _ rfl
      refine ⟨hV.cs0, 0, 0, ⟨by omega, by omega⟩, sc_why0 ⟨fun z => absurd z (by decide), fun _ => ?_⟩⟩
      by_cases hi : 0 ≤ i
      · obtain ⟨z, hz2, rfl⟩ := nI_of (Int32.not_lt.mpr hi)
        have := h1 b s y z ok hvy hy rfl hz2 hz st' (hV.W rfl)
        rw [if_neg hlt] at this
        exact this
      · exact h2 (Or.inr (fun z => hi z.2)) _ (hV.W rfl)
end CA4
