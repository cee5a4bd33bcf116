set_option maxRecDepth 100000
section CA5
variable {Γ : eb_C} {E : cET} {st st' : eb_S} {I I' : Nat → va_E → Prop} {ad : Nat → Nat} {bd : Nat → cBT} {x : cXT} {Ds : Nat → eb_D} {p bc bs : Nat}
theorem okK_s {a k : Int32} {b b' s s' : Nat} (ok : okK Ds a k b s) (ok' : okK Ds a k b' s') : b = b' ∧ s = s' := ⟨okK_b ok ok'.1 ok'.2.1, (nI_eq (by have := ok.2.2.1; omega) (by have := ok'.2.2.1; omega)).mp (ok.2.2.2.1.symm.trans ok'.2.2.2.1)⟩
theorem cW_partOf {a k g : Int32} {K : Int32 → eb_S → Prop} (hE : cEm E) (hW : cW Γ E st p Ds) (hbc : 24 ≤ bc) (hbs : 14660 ≤ bs) (h2 : (∀ b s, ¬ okK Ds a k b s) ∨ ¬ 0 ≤ g → ∀ t, cW Γ E t p Ds → K (-2) t) (h5 : ∀ b s, okK Ds a k b s → 0 ≤ g → ZD (Ds b) = 0 → ∀ t, cW Γ E t p Ds → K (-5) t)
    (h1 : ∀ b s y, okK Ds a k b s → g = nI y → y < 2147483648 → ¬ ZD (Ds b) = 0 → ∀ t, cW Γ E t p Ds → K (if y < ZD (Ds b) then nI (PN (Ds b) s y) else -2) t) : MX0_partOf Γ bc bs st p a k g K := by
  obtain ⟨I, ad, bd, x, hp, h⟩ := hW
  subst hp
  unfold MX0_partOf
  refine ⟨h.cs0, sc_isKind0 h rfl (fun hno => ?_) (fun b s ok hs => ?_)⟩
  · refine jp_4 (fun s g6 u w => s = 0 ∧ g6 = st ∧ u = 0 ∧ w = 0) ?_ (fun k hk => ⟨fun _ => hk _ _ _ _ ⟨rfl, rfl, rfl, rfl⟩, fun z => absurd rfl z⟩)
    rintro _ _ _ _ ⟨rfl, rfl, rfl, rfl⟩
    exact ⟨h.cs0, 0, 0, ⟨by omega, by omega⟩, sc_why0 ⟨fun z => absurd z (by decide), fun _ => h2 (Or.inl hno) _ (h.W rfl)⟩⟩
  · obtain ⟨hb, hab, hs16, hks, hKs⟩ := id ok
    have hv := h.v hb
    have hzl := ZD_le hv
    refine jp_4 (fun u g6 c w => (∃ I2 bd2, cV Γ E g6 I2 ad bd2 x Ds ∧ ((u = 0 ∧ ¬ (0 ≤ g ∧ (ZD (Ds b) = 0 ∨ ∃ y, g = nI y ∧ y < ZD (Ds b)))) ∨ (u = 1 ∧ (bd2 b).1.2.2 = 1 ∧ 0 ≤ g ∧ (ZD (Ds b) = 0 ∨ ∃ y, g = nI y ∧ y < ZD (Ds b))))) ∧ c = 22 ∧ w = 13660) ?_ ?_
    · rintro u g6 _ _ ⟨⟨I2, bd2, hV2, hor⟩, rfl, rfl⟩
      rcases hor with ⟨rfl, hno⟩ | ⟨rfl, hk2, hg, hor⟩
      · refine ⟨hV2.cs0, 0, 0, ⟨by omega, by omega⟩, sc_why0 ⟨fun z => absurd z (by decide), fun _ => ?_⟩⟩
        by_cases hg : 0 ≤ g
        · obtain ⟨y, hy, rfl⟩ := nI_of (Int32.not_lt.mpr hg)
          have hz : ¬ ZD (Ds b) = 0 := fun z => hno ⟨hg, Or.inl z⟩
          have := h1 b s y ok rfl hy hz _ (hV2.W rfl)
          rw [if_neg (fun z => hno ⟨hg, Or.inr ⟨y, rfl, z⟩⟩)] at this
          exact this
        · exact h2 (Or.inr hg) _ (hV2.W rfl)
      · refine ⟨hV2.cs0, 0, 0, ⟨by omega, by omega⟩, sc_whyK hE hV2 rfl hb hab hk2 (by decide) (fun hz => ⟨fun z => absurd z (by decide), fun _ => h5 b s ok hg hz _ (hV2.W rfl)⟩) (fun hz q hq hC => ⟨fun _ => ?_, fun z => absurd rfl z⟩)⟩
        obtain ⟨y, rfl, hy⟩ := hor.resolve_left hz
        rw [hab, hks]
        refine hV2.at hb ⟨(hV2.body hb).cs, 2, 1000, ⟨by omega, by omega⟩, sc_partsV hE hV2 hb hk2 hz hs (Or.inr ⟨Nat.le_refl _, Nat.le_refl _⟩) (fun st3 I3 bd3 q3 f hV3 _ _ _ _ _ hqI hf _ => ?_)⟩
        refine st_nn (st_li (hV3.fz _ _ hqI) hy (by omega) ?_)
        rw [hf y hy]
        have := h1 b s y ok rfl (by omega) hz _ (hV3.W rfl)
        rw [if_pos hy] at this
        exact this
    · intro k24 hk24
      refine ⟨fun z => absurd z (by decide), fun _ => ⟨h.cs0, 22, 13660, ⟨by omega, by omega⟩, ?_⟩⟩
      refine sc_isElement hE h rfl (Or.inr ⟨Nat.le_refl _, Nat.le_refl _⟩) (fun hno => ?_) (fun b' hb' hab' hg hz st' I' bd' hV hk => ?_) (fun b' y hb' hab' hgy hy hz st' I' bd' hV hk => ?_)
      · refine ⟨fun _ => hk24 _ _ _ _ ⟨⟨I, bd, h, Or.inl ⟨rfl, fun z => ?_⟩⟩, by omega, by omega⟩, fun z => absurd rfl z⟩
        rcases hno with w | w
        · exact w (by rw [hab]; exact body_in hb)
        · exact w z.1
      · have eb := okK_b ok hb' hab'
        subst eb
        exact ⟨fun z => absurd z (by decide), fun _ => hk24 _ _ _ _ ⟨⟨I', bd', hV, Or.inr ⟨rfl, hk, hg, Or.inl hz⟩⟩, by omega, by omega⟩⟩
      · have eb := okK_b ok hb' hab'
        subst eb
        by_cases hlt : y < ZD (Ds b)
        · rw [nlT hlt]
          exact ⟨fun z => absurd z (by decide), fun _ => hk24 _ _ _ _ ⟨⟨I', bd', hV, Or.inr ⟨rfl, hk, by rw [hgy]; exact nI_pos' hy, Or.inr ⟨y, hgy, hlt⟩⟩⟩, by omega, by omega⟩⟩
        · rw [nlF hlt]
          refine ⟨fun _ => hk24 _ _ _ _ ⟨⟨I', bd', hV, Or.inl ⟨rfl, fun z => ?_⟩⟩, by omega, by omega⟩, fun z => absurd rfl z⟩
          rcases z.2 with w | ⟨y', w1, w2⟩
          · exact hz w
          · have := (nI_eq hy (by omega)).mp (hgy.symm.trans w1)
            omega
theorem sc_isWithin {s s2 : Nat} {K : Int32 → Prop} (hs : s < 16) (hs2 : s2 < 16) (hK : K (nI (b1 (isW s s2)))) : MX0_isWithin (nI s) (nI s2) K := sp_isWithin hs hs2 hK
theorem mkF_both {D : eb_D} {s v s2 w : Nat} : ∀ n, mkF (fun g => Nat.beq (PN D s2 g) w) (PN D s) n v = both D s v s2 w n := by
  intro n
  induction n with
  | zero => rfl
  | succ n ih =>
    show or (mkF (fun g => Nat.beq (PN D s2 g) w) (PN D s) n v) (and (Nat.beq (PN D s2 n) w) (Nat.beq (PN D s n) v)) = or (both D s v s2 w n) (and (Nat.beq (PN D s n) v) (Nat.beq (PN D s2 n) w))
    rw [ih, Bool.and_comm (Nat.beq (PN D s2 n) w)]
/-- after one part was told, another of the same body -/
theorem sc_isPart2 {a k v : Int32} {b : Nat} {K : Int32 → eb_S → Prop} (hE : cEm E) (h : cV Γ E st I ad bd x Ds) (hp : ad 16 = p) (hb : b < 4) (hab : a = nI b) (hk : (bd b).1.2.2 = 1) (hbc : 2 ≤ bc) (hbs : 1000 ≤ bs)
    (h0 : (∀ s, ¬ okK Ds a k b s) ∨ ¬ 0 ≤ v → K 0 st) (hz : ∀ s, okK Ds a k b s → 0 ≤ v → ZD (Ds b) = 0 → ∀ st' I' bd', cV Γ E st' I' ad bd' x Ds → (bd' b).1.2.2 = 1 → K 1 st')
    (h1 : ∀ s y, okK Ds a k b s → s < 2 ^ (Ds b).1 → v = nI y → y < 2147483648 → ¬ ZD (Ds b) = 0 → ∀ st' I' bd', cV Γ E st' I' ad bd' x Ds → (bd' b).1.2.2 = 1 → K (nI (b1 (Nat.blt y (NP (Ds b) s)))) st') : MX0_isPart Γ bc bs st p a k v K := by
  refine sc_isPart hE h hp (Or.inl ⟨known_of hb hab hk, hbc, hbs⟩) (fun hno => h0 (hno.imp (fun z s ok => z b s ok) id)) (fun b' s ok hv hzz st' I' bd' hV hk' => ?_) (fun b' s y ok hs hvy hy hzz st' I' bd' hV hk' _ => ?_)
  · have eb := okK_b ok hb hab
    subst eb
    exact hz s ok hv hzz st' I' bd' hV hk'
  · have eb := okK_b ok hb hab
    subst eb
    exact h1 s y ok hs hvy hy hzz st' I' bd' hV hk'
theorem cW_liesIn {a k v k2 w : Int32} {K : Int32 → eb_S → Prop} (hE : cEm E) (hW : cW Γ E st p Ds) (hbc : 31 ≤ bc) (hbs : 18160 ≤ bs) (h2 : (∀ b s s2, ¬ (okK Ds a k b s ∧ okK Ds a k2 b s2)) ∨ ¬ (0 ≤ v ∧ 0 ≤ w) → ∀ t, cW Γ E t p Ds → K (-2) t)
    (h5 : ∀ b s s2, okK Ds a k b s → okK Ds a k2 b s2 → 0 ≤ v ∧ 0 ≤ w → ZD (Ds b) = 0 → ∀ t, cW Γ E t p Ds → K (-5) t)
    (h1 : ∀ b s s2 y z, okK Ds a k b s → okK Ds a k2 b s2 → v = nI y → y < 2147483648 → w = nI z → z < 2147483648 → ¬ ZD (Ds b) = 0 → ∀ t, cW Γ E t p Ds → K (if y < NP (Ds b) s ∧ z < NP (Ds b) s2 then nI (b1 (and (both (Ds b) s y s2 z (ZD (Ds b))) (isW s s2))) else -2) t) : MX0_liesIn Γ bc bs st p a k v k2 w K := by
  obtain ⟨I, ad, bd, x, hp, h⟩ := hW
  subst hp
  unfold MX0_liesIn
  refine ⟨h.cs0, 24, 14660, ⟨by omega, by omega⟩, ?_⟩
  -- what is common: the answer once both were looked at
  have key : ∀ (u : Int32) (g6 : eb_S) (c e : Nat) (I2 : Nat → va_E → Prop) (bd2 : Nat → cBT), cV Γ E g6 I2 ad bd2 x Ds → c ≤ 26 → e ≤ 15660 →
      ((u = 0 ∧ K (-2) g6) ∨ (u = 1 ∧ ∃ b s s2, okK Ds a k b s ∧ okK Ds a k2 b s2 ∧ s < 2 ^ (Ds b).1 ∧ s2 < 2 ^ (Ds b).1 ∧ (bd2 b).1.2.2 = 1 ∧ 0 ≤ v ∧ 0 ≤ w ∧ (ZD (Ds b) = 0 ∨ ∃ y z, v = nI y ∧ w = nI z ∧ y < NP (Ds b) s ∧ z < NP (Ds b) s2))) →
      (eb_cs g6 (ad 16) [0] ∧ ∃ c11 s12 : Nat, (c + c11 ≤ bc ∧ e + s12 ≤ bs) ∧ MX0_why Γ c11 s12 g6 (ad 16) a u (fun v9 g10 => eb_br (v9 = 1) (MX0_isWithin k k2 (fun v13 => eb_br (v13 = 0) (K 0 g10) (eb_gr g10 (ad 16) 0 0 (fun v17 => eb_nn v17 (fun p18 => eb_lr Γ g10 p18 7 a (fun v19 => eb_nn v19 (fun p20 => eb_cs g10 p20 [1] ∧ ∃ c23 s24 : Nat, ((c + c11) + c23 ≤ bc ∧ (e + s12) + s24 ≤ bs) ∧ MX1_meets Γ c23 s24 g10 p20 k k2 w (fun v21 g22 => eb_nn v21 (fun p25 => eb_li Γ g22 p25 1 v (fun v26 => eb_br (v26 = 0) (K 0 g22) (K 1 g22))))))))))) (K v9 g10))) := by
    intro u g6 c e I2 bd2 hV hc he hor
    rcases hor with ⟨rfl, hK⟩ | ⟨rfl, b, s, s2, ok, ok2, hs, hs2, hk, hv0, hw0, hor⟩
    · exact ⟨hV.cs0, 0, 0, ⟨by omega, by omega⟩, sc_why0 ⟨fun z => absurd z (by decide), fun _ => hK⟩⟩
    · have hb := ok.1
      refine ⟨hV.cs0, 0, 0, ⟨by omega, by omega⟩, sc_whyK hE hV rfl hb ok.2.1 hk (by decide) (fun hz => ⟨fun z => absurd z (by decide), fun _ => h5 b s s2 ok ok2 ⟨hv0, hw0⟩ hz _ (hV.W rfl)⟩) (fun hz q hq hC => ⟨fun _ => ?_, fun z => absurd rfl z⟩)⟩
      obtain ⟨y, z, rfl, rfl, hy, hzz⟩ := hor.resolve_left hz
      have hv := hV.v hb
      have hzl := ZD_le hv
      have hn := NP_le (Ds b) s
      have hn2 := NP_le (Ds b) s2
      have h1' := h1 b s s2 y z ok ok2 rfl (by omega) rfl (by omega) hz
      have e1 := ok.2.1
      have e2 := ok.2.2.2.1
      have e3 := ok2.2.2.2.1
      rw [e1, e2, e3]
      refine sc_isWithin ok.2.2.1 ok2.2.2.1 ?_
      refine cond_br (fun c => ?_) (fun c => ?_)
      · have := h1' g6 (hV.W rfl)
        rw [if_pos ⟨hy, hzz⟩, c, Bool.and_false] at this
        exact this
      · refine hV.at hb ⟨(hV.body hb).cs, 5, 2500, ⟨by omega, by omega⟩, sc_meets hE hV hb hk hz hs hs2 (by omega) (by omega) (by omega) (fun st2 I2 bd2 q2 f hV2 _ _ hq2 hf => ?_)⟩
        refine st_nn (st_li hq2 hy (by omega) ?_)
        rw [hf y hy, mkF_both]
        have := h1' st2 (hV2.W rfl)
        rw [if_pos ⟨hy, hzz⟩, c, Bool.and_true] at this
        exact cond_br (fun c' => by rw [c'] at this; exact this) (fun c' => by rw [c'] at this; exact this)
  refine sc_isPart hE h rfl (Or.inr ⟨Nat.le_refl _, Nat.le_refl _⟩) (fun hno => ?_) (fun b s ok hv hz st' I' bd' hV hk => ?_) (fun b s y ok hs hvy hy hz st' I' bd' hV hk hpn => ?_)
  · refine jp_4 (fun u g6 c e => u = 0 ∧ g6 = st ∧ c = 24 ∧ e = 14660) ?_ (fun k hk => ⟨fun _ => hk _ _ _ _ ⟨rfl, rfl, by omega, by omega⟩, fun z => absurd rfl z⟩)
    rintro _ _ _ _ ⟨rfl, rfl, rfl, rfl⟩
    exact key 0 _ _ _ I bd h (by omega) (by omega) (Or.inl ⟨rfl, h2 (hno.imp (fun z b s s2 y => z b s y.1) (fun z y => z y.1)) _ (h.W rfl)⟩)
  · have hb := ok.1
    refine jp_4 (fun u g6 c e => ∃ I2 bd2, cV Γ E g6 I2 ad bd2 x Ds ∧ c ≤ 26 ∧ e ≤ 15660 ∧ ((u = 0 ∧ K (-2) g6) ∨ (u = 1 ∧ (bd2 b).1.2.2 = 1 ∧ 0 ≤ w ∧ ∃ s2, okK Ds a k2 b s2))) ?_ ?_
    · rintro u g6 c e ⟨I2, bd2, hV2, hc, he, hor⟩
      refine key u g6 c e I2 bd2 hV2 hc he (hor.imp id (fun ⟨z1, z2, z3, s2, z4⟩ => ⟨z1, b, s, s2, ok, z4, (isK_lt (hV.v hb) ok.2.2.2.2).1, (isK_lt (hV.v hb) z4.2.2.2.2).1, z2, hv, z3, Or.inl hz⟩))
    · intro k30 hk30
      refine ⟨fun z => absurd z (by decide), fun _ => ⟨hV.cs0, 2, 1000, ⟨by omega, by omega⟩, ?_⟩⟩
      refine sc_isPart2 hE hV rfl hb ok.2.1 hk (Nat.le_refl _) (Nat.le_refl _) (fun hno => ?_) (fun s2 ok2 hw _ st2 I2 bd2 hV2 hk2 => ?_) (fun s2 y ok2 hs2 _ _ hz' => absurd hz hz')
      · refine ⟨fun _ => hk30 _ _ _ _ ⟨I', bd', hV, by omega, by omega, Or.inl ⟨rfl, h2 ?_ _ (hV.W rfl)⟩⟩, fun z => absurd rfl z⟩
        refine hno.imp (fun z b' s' s2 y => ?_) (fun z y => z y.2)
        have eb := okK_b ok y.2.1 y.2.2.1
        subst eb
        exact z s2 y.2
      · exact ⟨fun z => absurd z (by decide), fun _ => hk30 _ _ _ _ ⟨I2, bd2, hV2, by omega, by omega, Or.inr ⟨rfl, hk2, hw, s2, ok2⟩⟩⟩
  · have hb := ok.1
    have hzl := ZD_le (hV.v hb)
    have hn := NP_le (Ds b) s
    by_cases hlt : y < NP (Ds b) s
    · rw [nlT hlt]
      refine jp_4 (fun u g6 c e => ∃ I2 bd2, cV Γ E g6 I2 ad bd2 x Ds ∧ c ≤ 26 ∧ e ≤ 15660 ∧ ((u = 0 ∧ K (-2) g6) ∨ (u = 1 ∧ (bd2 b).1.2.2 = 1 ∧ ∃ s2 z, okK Ds a k2 b s2 ∧ w = nI z ∧ z < NP (Ds b) s2))) ?_ ?_
      · rintro u g6 c e ⟨I2, bd2, hV2, hc, he, hor⟩
        refine key u g6 c e I2 bd2 hV2 hc he (hor.imp id (fun ⟨z1, z2, s2, z, z4, z5, z6⟩ => ⟨z1, b, s, s2, ok, z4, hs, (isK_lt (hV.v hb) z4.2.2.2.2).1, z2, by rw [hvy]; exact nI_pos' hy, ?_, Or.inr ⟨y, z, hvy, z5, hlt, z6⟩⟩))
        have := NP_le (Ds b) s2
        rw [z5]; exact nI_pos' (by omega)
      · intro k30 hk30
        refine ⟨fun z => absurd z (by decide), fun _ => ⟨hV.cs0, 2, 1000, ⟨by omega, by omega⟩, ?_⟩⟩
        refine sc_isPart2 hE hV rfl hb ok.2.1 hk (Nat.le_refl _) (Nat.le_refl _) (fun hno => ?_) (fun s2 ok2 hw hz' => absurd hz' hz) (fun s2 z ok2 hs2 hwz hz2 _ st2 I2 bd2 hV2 hk2 => ?_)
        · refine ⟨fun _ => hk30 _ _ _ _ ⟨I', bd', hV, by omega, by omega, Or.inl ⟨rfl, h2 ?_ _ (hV.W rfl)⟩⟩, fun z => absurd rfl z⟩
          refine hno.imp (fun z b' s' s2 y => ?_) (fun z y => z y.2)
          have eb := okK_b ok y.2.1 y.2.2.1
          subst eb
          exact z s2 y.2
        · by_cases hlt2 : z < NP (Ds b) s2
          · rw [nlT hlt2]
            exact ⟨fun z => absurd z (by decide), fun _ => hk30 _ _ _ _ ⟨I2, bd2, hV2, by omega, by omega, Or.inr ⟨rfl, hk2, s2, z, ok2, hwz, hlt2⟩⟩⟩
          · rw [nlF hlt2]
            refine ⟨fun _ => hk30 _ _ _ _ ⟨I2, bd2, hV2, by omega, by omega, Or.inl ⟨rfl, ?_⟩⟩, fun z => absurd rfl z⟩
            have := h1 b s s2 y z ok ok2 hvy hy hwz hz2 hz _ (hV2.W rfl)
            rw [if_neg (fun q => hlt2 q.2)] at this
            exact this
    · rw [nlF hlt]
      refine jp_4 (fun u g6 c e => u = 0 ∧ g6 = st' ∧ c = 24 ∧ e = 14660) ?_ (fun k hk => ⟨fun _ => hk _ _ _ _ ⟨rfl, rfl, by omega, by omega⟩, fun z => absurd rfl z⟩)
      rintro _ _ _ _ ⟨rfl, rfl, rfl, rfl⟩
      refine key 0 _ _ _ I' bd' hV (by omega) (by omega) (Or.inl ⟨rfl, ?_⟩)
      by_cases hex : ∃ s2, okK Ds a k2 b s2
      · obtain ⟨s2, ok2⟩ := hex
        by_cases hw : 0 ≤ w
        · obtain ⟨z, hz2, rfl⟩ := nI_of (Int32.not_lt.mpr hw)
          have := h1 b s s2 y z ok ok2 hvy hy rfl hz2 hz _ (hV.W rfl)
          rw [if_neg (fun q => hlt q.1)] at this
          exact this
        · exact h2 (Or.inr (fun q => hw q.2)) _ (hV.W rfl)
      · refine h2 (Or.inl (fun b' s' s2 z => hex ⟨s2, ?_⟩)) _ (hV.W rfl)
        have eb := okK_b ok z.2.1 z.2.2.1
        subst eb
        exact z.2
theorem cW_within {a k k2 w : Int32} {K : Int32 → eb_S → Prop} (hE : cEm E) (hW : cW Γ E st p Ds) (hbc : 29 ≤ bc) (hbs : 17160 ≤ bs) (h2 : (∀ b s s2, ¬ (okK Ds a k b s ∧ okK Ds a k2 b s2)) ∨ ¬ 0 ≤ w → ∀ t, cW Γ E t p Ds → K (-2) t)
    (h5 : ∀ b s s2, okK Ds a k b s → okK Ds a k2 b s2 → 0 ≤ w → ZD (Ds b) = 0 → ∀ t, cW Γ E t p Ds → K (-5) t)
    (h1 : ∀ b s s2 z, okK Ds a k b s → okK Ds a k2 b s2 → w = nI z → z < 2147483648 → ¬ ZD (Ds b) = 0 → ∀ t, cW Γ E t p Ds → K (if z < NP (Ds b) s2 then nI (wnN (Ds b) s s2 z) else -2) t) : MX0_within Γ bc bs st p a k k2 w K := by
  obtain ⟨I, ad, bd, x, hp, h⟩ := hW
  subst hp
  unfold MX0_within
  refine ⟨h.cs0, sc_isKind0 h rfl (fun hno => ?_) (fun b s ok hs => ?_)⟩
  · refine jp_4 (fun u g6 c e => u = 0 ∧ g6 = st ∧ c = 0 ∧ e = 0) ?_ (fun k hk => ⟨fun _ => hk _ _ _ _ ⟨rfl, rfl, rfl, rfl⟩, fun z => absurd rfl z⟩)
    rintro _ _ _ _ ⟨rfl, rfl, rfl, rfl⟩
    exact ⟨h.cs0, 0, 0, ⟨by omega, by omega⟩, sc_why0 ⟨fun z => absurd z (by decide), fun _ => h2 (Or.inl (fun b s s2 y => hno b s y.1)) _ (h.W rfl)⟩⟩
  · have hb := ok.1
    have hv := h.v hb
    have hzl := ZD_le hv
    have hn := NP_le (Ds b) s
    refine jp_4 (fun u g6 c e => ∃ I2 bd2, cV Γ E g6 I2 ad bd2 x Ds ∧ c ≤ 24 ∧ e ≤ 14660 ∧ ((u = 0 ∧ K (-2) g6) ∨ (u = 1 ∧ (bd2 b).1.2.2 = 1 ∧ ∃ s2, okK Ds a k2 b s2 ∧ 0 ≤ w ∧ (ZD (Ds b) = 0 ∨ ∃ z, w = nI z ∧ z < NP (Ds b) s2)))) ?_ ?_
    · rintro u g6 c e ⟨I2, bd2, hV, hc, he, hor⟩
      rcases hor with ⟨rfl, hK⟩ | ⟨rfl, hk, s2, ok2, hw0, hor⟩
      · exact ⟨hV.cs0, 0, 0, ⟨by omega, by omega⟩, sc_why0 ⟨fun z => absurd z (by decide), fun _ => hK⟩⟩
      · refine ⟨hV.cs0, 0, 0, ⟨by omega, by omega⟩, sc_whyK hE hV rfl hb ok.2.1 hk (by decide) (fun hz => ⟨fun z => absurd z (by decide), fun _ => h5 b s s2 ok ok2 hw0 hz _ (hV.W rfl)⟩) (fun hz q hq hC => ⟨fun _ => ?_, fun z => absurd rfl z⟩)⟩
        obtain ⟨z, rfl, hzz⟩ := hor.resolve_left hz
        have hn2 := NP_le (Ds b) s2
        have hs2 := (isK_lt hv ok2.2.2.2.2).1
        have h1' := h1 b s s2 z ok ok2 rfl (by omega) hz
        have e1 := ok.2.1
        have e2 := ok.2.2.2.1
        have e3 := ok2.2.2.2.1
        rw [e1, e2, e3]
        refine sc_isWithin ok.2.2.1 ok2.2.2.1 ?_
        refine cond_br (fun c => ?_) (fun c => ?_)
        · have := h1' g6 (hV.W rfl)
          rw [if_pos hzz] at this
          unfold wnN at this
          rw [c] at this
          exact this
        · refine hV.at hb ⟨(hV.body hb).cs, 5, 2500, ⟨by omega, by omega⟩, sc_meets hE hV hb hk hz hs hs2 (by omega) (by omega) (by omega) (fun st2 I2 bd2 q2 f hV2 _ _ hq2 hf => ?_)⟩
          refine st_nn (sc_many hq2 (by omega) hf ?_)
          have := h1' st2 (hV2.W rfl)
          rw [if_pos hzz] at this
          unfold wnN at this
          rw [c] at this
          exact this
    · intro k32 hk32
      refine ⟨fun z => absurd z (by decide), fun _ => ⟨h.cs0, 24, 14660, ⟨by omega, by omega⟩, ?_⟩⟩
      refine sc_isPart hE h rfl (Or.inr ⟨Nat.le_refl _, Nat.le_refl _⟩) (fun hno => ?_) (fun b' s2 ok2 hw hz st' I' bd' hV hk => ?_) (fun b' s2 z ok2 hs2 hwz hz2 hz st' I' bd' hV hk hpn => ?_)
      · exact ⟨fun _ => hk32 _ _ _ _ ⟨I, bd, h, by omega, by omega, Or.inl ⟨rfl, h2 (hno.imp (fun z b' s' s2 y => z b' s2 y.2) id) _ (h.W rfl)⟩⟩, fun z => absurd rfl z⟩
      · have eb := okK_b ok ok2.1 ok2.2.1
        subst eb
        exact ⟨fun z => absurd z (by decide), fun _ => hk32 _ _ _ _ ⟨I', bd', hV, by omega, by omega, Or.inr ⟨rfl, hk, s2, ok2, hw, Or.inl hz⟩⟩⟩
      · have eb := okK_b ok ok2.1 ok2.2.1
        subst eb
        by_cases hlt2 : z < NP (Ds b) s2
        · rw [nlT hlt2]
          exact ⟨fun z => absurd z (by decide), fun _ => hk32 _ _ _ _ ⟨I', bd', hV, by omega, by omega, Or.inr ⟨rfl, hk, s2, ok2, by rw [hwz]; exact nI_pos' hz2, Or.inr ⟨z, hwz, hlt2⟩⟩⟩⟩
        · rw [nlF hlt2]
          refine ⟨fun _ => hk32 _ _ _ _ ⟨I', bd', hV, by omega, by omega, Or.inl ⟨rfl, ?_⟩⟩, fun z => absurd rfl z⟩
          have := h1 b s s2 z ok ok2 hwz hz2 hz _ (hV.W rfl)
          rw [if_neg hlt2] at this
          exact this
end CA5
