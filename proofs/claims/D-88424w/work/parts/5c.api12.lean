set_option maxRecDepth 100000
section API12
variable {σ : eb_MS} {Ds : Nat → eb_D}
/-- the sum of the widths' counts, by turns taken away -/
noncomputable def lwI (D : eb_D) : Nat → Int32
  | 0 => 0
  | w + 1 => lwI D w + cond (Nat.beq (w % 2) 0) (nI (cto D w 16)) (-nI (cto D w 16))
noncomputable def aLaw (Ds : Nat → eb_D) (a : Int32) : Int32 := gat Ds a (fun b => lwI (Ds b) (Ds b).1)
theorem sp_law {a : Int32} {K : Int32 → eb_MS → Prop} (hI : mI σ Ds) (hK : ∀ s, mI s Ds → K (aLaw Ds a) s) : MX2_law σ a K := by
  unfold MX2_law
  rw [ms_ws_iff]
  unfold aLaw at hK
  refine sp_refuses hI.thrown (fun h => ?_) (fun b hb hab hz s hs => ?_) (fun b hb hab hz s hs hL => ?_)
  · refine br_m2 ?_
    have := hK _ (hI.thrown (v := 0))
    rw [gat_no h] at this
    exact this
  · refine br_m5 ?_
    have := hK s hs
    rw [hab, gat_z hb hz] at this
    exact this
  · refine br_0 ?_
    rw [hab] at hK
    have hr := (hI.1 b hb).1.1
    refine eb_loop3_i (fun x y t => ∃ w, w ≤ (Ds b).1 ∧ x = lwI (Ds b) w ∧ y = nI w ∧ mI t Ds ∧ mL t b (Ds b)) (fun _ y _ => 20 - y.toNatClampNeg) ?_ ⟨0, by omega, rfl, rfl, hs, hL⟩
    rintro R x y t ⟨w, hw, rfl, rfl, ht, hLt⟩ hR
    rw [hLt.2.1]
    refine br_le (by omega) (by omega) (fun h2 => ?_) (fun h2 => ?_)
    · have := hK t ht
      rw [gat_f hb hz] at this
      rw [show w = (Ds b).1 by omega]; exact this
    · refine jp_2 (fun x t => x = cond (Nat.beq (w % 2) 0) (nI (cto (Ds b) w 16)) (-nI (cto (Ds b) w 16)) ∧ mI t Ds ∧ mL t b (Ds b)) ?_ ?_
      · rintro _ t' ⟨rfl, m1, m2⟩
        rw [nI_1]
        refine hR _ _ _ ⟨w + 1, by omega, rfl, rfl, m1, m2⟩ ?_
        rw [nI_cl (by omega), nI_cl (by omega)]; omega
      · intro k hk
        rw [show eb_rem (nI w) 2 = nI (w % 2) from nI_rem (by omega) (by omega : (2 : Nat) < 2147483648)]
        refine br_eq (b := 0) (by omega) (by omega) (fun h3 => ?_) (fun h3 => ?_)
        · refine sp_countOf ht hb hz hLt (by omega) (fun t' m1 m2 => hk _ _ ⟨by rw [nbT h3]; rfl, m1, m2⟩)
        · refine sp_countOf ht hb hz hLt (by omega) (fun t' m1 m2 => hk _ _ ⟨by rw [nbF h3]; rfl, m1, m2⟩)
theorem sp_cornerOf {a k v i : Int32} {K : Int32 → eb_MS → Prop} (hI : mI σ Ds) (h2 : (∀ b s, ¬ okK Ds a k b s) ∨ ¬ (0 ≤ v ∧ 0 ≤ i) → ∀ t, mI t Ds → K (-2) t) (h5 : ∀ b s, okK Ds a k b s → 0 ≤ v ∧ 0 ≤ i → ZD (Ds b) = 0 → ∀ t, mI t Ds → K (-5) t)
    (h1 : ∀ b s p q, okK Ds a k b s → v = nI p → p < 2147483648 → i = nI q → q < 2147483648 → ¬ ZD (Ds b) = 0 → ∀ t, mI t Ds → K (if p < NP (Ds b) s then oI (nth (cnF (Ds b) s p) q (NP (Ds b) 0)) else -2) t) : MX2_cornerOf σ a k v i K := by
  unfold MX2_cornerOf
  rw [ms_ws_iff]
  refine jp_min (fun mn hmn => ?_)
  refine sp_refusesPart hI.thrown (fun h => br_m2 (h2 (h.imp id (fun z y => z (hmn.mpr y))) _ hI.thrown)) (fun b s ok hg hz t ht => br_m5 (h5 b s ok (hmn.mp hg) hz t ht)) (fun b s ok hg hz t ht hL hP => br_0 ?_)
  have hg' := hmn.mp hg
  obtain ⟨p, hp, rfl⟩ := nI_of (Int32.not_lt.mpr hg'.1)
  obtain ⟨q, hq, rfl⟩ := nI_of (Int32.not_lt.mpr hg'.2)
  have hzl := ZD_le (hI.1 b ok.1).1
  have hnp := NP_le (Ds b) s
  have hn0 := NP_le (Ds b) 0
  rw [hP.2.1]
  refine br_lt hp (by omega) (fun h => ?_) (fun h => ?_)
  · refine sp_cornersOf ht ok.1 hz hL hP hp (fun t' ft ht' hm => ?_)
    have hK := h1 b s p q ok rfl hp rfl hq hz t' ht'
    rw [if_pos (by omega)] at hK
    have e16 : t'.1 16 = nI (NP (Ds b) 0) := by
      rw [ft.1 16 (by decide)]
      exact (hL.2.2.2.2 hz).2.2.2.2.2
    refine eb_loop2_i (fun x y => ∃ c, c ≤ NP (Ds b) 0 ∧ x = nI (cnB (cnF (Ds b) s p) c) ∧ y = nI c ∧ nth (cnF (Ds b) s p) q c = none) (fun _ y => 1000 - y.toNatClampNeg) ?_ ⟨0, by omega, rfl, rfl, rfl⟩
    rintro R x y ⟨c, hc, rfl, rfl, hnone⟩ hR
    have hcl := cnB_le (cnF (Ds b) s p) c
    rw [e16]
    refine br_le (by omega) (by omega) (fun h3 => ?_) (fun h3 => ?_)
    · rw [show c = NP (Ds b) 0 by omega] at hnone
      rw [hnone] at hK
      exact hK
    · have hstep : nth (cnF (Ds b) s p) q (c + 1) = cond (and (cnF (Ds b) s p c) (Nat.beq (cnB (cnF (Ds b) s p) c) q)) (some c) none := by
        show (match nth (cnF (Ds b) s p) q c with | some s => some s | none => cond (and (cnF (Ds b) s p c) (Nat.beq (cnB (cnF (Ds b) s p) c) q)) (some c) none) = _
        rw [hnone]
      have hce : cnB (cnF (Ds b) s p) (c + 1) = cnB (cnF (Ds b) s p) c + b1 (cnF (Ds b) s p c) := rfl
      rw [eb_rd_iff, nI_cl (by omega), hm c (by omega)]
      refine ⟨vp_inN (by omega) (by omega), ?_⟩
      refine jp_1 (fun z => z = nI (cnB (cnF (Ds b) s p) (c + 1)) ∧ nth (cnF (Ds b) s p) q (c + 1) = none) ?_ ?_
      · rintro _ ⟨rfl, hn1⟩
        rw [nI_1]
        refine hR _ _ ⟨c + 1, by omega, rfl, rfl, hn1⟩ ?_
        rw [nI_cl (by omega), nI_cl (by omega)]; omega
      · intro k hk
        cases e : cnF (Ds b) s p c with
        | true =>
          refine ⟨fun z => absurd z (by decide), fun _ => ?_⟩
          refine br_eq (by omega) hq (fun h5 => ?_) (fun h5 => ?_)
          · have : nth (cnF (Ds b) s p) q (NP (Ds b) 0) = some c := nth_keep (n := c + 1) (by rw [hstep, e, nbT h5]; rfl) (by omega)
            rw [this] at hK
            exact hK
          · rw [nI_1]
            exact hk _ ⟨by rw [hce, e]; rfl, by rw [hstep, e, nbF h5]; rfl⟩
        | false =>
          exact ⟨fun _ => hk _ ⟨by rw [hce, e]; rfl, by rw [hstep, e]; rfl⟩, fun z => absurd rfl z⟩
  · have := h1 b s p q ok rfl hp rfl hq hz t ht
    rw [if_neg (by omega)] at this
    exact this
/-- one set lies in another, and isn't it -/
def isW (s s2 : Nat) : Bool := and (not (Nat.beq s s2)) (Nat.beq (Nat.land s (15 - s2)) 0)
theorem sp_isWithin {s s2 : Nat} {K : Int32 → Prop} (hs : s < 16) (hs2 : s2 < 16) (hK : K (nI (b1 (isW s s2)))) : MX2_isWithin (nI s) (nI s2) K := by
  unfold MX2_isWithin
  refine br_eq (by omega) (by omega) (fun h => ?_) (fun h => ?_)
  · have : isW s s2 = false := by unfold isW; rw [nbT h]; rfl
    rw [this] at hK; exact hK
  · rw [mk_andn _ hs _ hs2]
    have hl := mk_andl s hs (15 - s2) (by omega)
    refine br_eq (b := 0) (by omega) (by omega) (fun h1 => ?_) (fun h1 => ?_)
    · have : isW s s2 = true := by unfold isW; rw [nbF h, nbT h1]; rfl
      rw [this] at hK; exact hK
    · have : isW s s2 = false := by unfold isW; rw [nbF h, nbF h1]; rfl
      rw [this] at hK; exact hK
/-- the parts' numbers are laid by -/
theorem sp_laid {b s : Nat} {k29 : eb_MS → Prop} {t : eb_MS} (hI : mI t Ds) (hb : b < 4) (hz : ¬ ZD (Ds b) = 0) (hL : mL t b (Ds b)) (hP : mP t (Ds b) s) (hK : ∀ t', fr [20] t t' → (∀ g, g < ZD (Ds b) → t'.2.1 20 g = nI (PN (Ds b) s g)) → k29 t') :
    eb_loop2 (fun r32 (x7_30 : Int32) (g31 : eb_MS) => eb_br ((g31.1 8) ≤ x7_30) (k29 g31) (eb_rd (g31.2.1 17) 500 x7_30 (fun v33 => ms_wr g31 20 500 x7_30 v33 (fun g34 => r32 (x7_30 + 1) g34)))) 0 t := by
  have hzl := ZD_le (hI.1 b hb).1
  have hns := NP_le (Ds b) s
  refine eb_loop2_i (fun y t' => ∃ m, m ≤ ZD (Ds b) ∧ y = nI m ∧ fr [20] t t' ∧ ∀ g, g < m → t'.2.1 20 g = nI (PN (Ds b) s g)) (fun y _ => 1000 - y.toNatClampNeg) ?_ ⟨0, by omega, rfl, fr_rf _ _, fun g hg => absurd hg (Nat.not_lt_zero _)⟩
  rintro R y t' ⟨m, hm, rfl, ft, hrow⟩ hR
  rw [ft.1 8 (by decide), hL.2.2.2.1]
  refine br_le (by omega) (by omega) (fun h2 => ?_) (fun h2 => ?_)
  · exact hK t' ft (fun g hg => hrow g (by omega))
  · rw [eb_rd_iff, nI_cl (by omega), ft.2.1 17 (by decide), hP.1 m (by omega)]
    refine ⟨vp_inN (by omega) (by omega), ?_⟩
    rw [ms_wr_iff, nI_cl (by omega), nI_1]
    refine ⟨vp_inN (by omega) (by omega), ?_⟩
    refine hR _ _ ⟨m + 1, by omega, rfl, ft.pa (by decide), fun g hg => ?_⟩ ?_
    · rw [ms_pa_eq]
      by_cases eg : g = m
      · rw [eg, upd_eq]
      · rw [upd_ne eg]; exact hrow g (by omega)
    · rw [nI_cl (by omega), nI_cl (by omega)]; omega
/-- some element lies in both parts -/
noncomputable def both (D : eb_D) (s v s2 w : Nat) : Nat → Bool
  | 0 => false
  | g + 1 => or (both D s v s2 w g) (and (Nat.beq (PN D s g) v) (Nat.beq (PN D s2 g) w))
theorem b1_or (x y : Bool) : nI (b1 x) ||| nI (b1 y) = nI (b1 (or x y)) := by cases x <;> cases y <;> rfl
theorem sp_liesIn {a k v k2 w : Int32} {K : Int32 → eb_MS → Prop} (hI : mI σ Ds) (h2 : (∀ b s s2, ¬ (okK Ds a k b s ∧ okK Ds a k2 b s2)) ∨ ¬ (0 ≤ v ∧ 0 ≤ w) → ∀ t, mI t Ds → K (-2) t)
    (h5 : ∀ b s s2, okK Ds a k b s → okK Ds a k2 b s2 → 0 ≤ v ∧ 0 ≤ w → ZD (Ds b) = 0 → ∀ t, mI t Ds → K (-5) t)
    (h1 : ∀ b s s2 p q, okK Ds a k b s → okK Ds a k2 b s2 → v = nI p → p < 2147483648 → w = nI q → q < 2147483648 → ¬ ZD (Ds b) = 0 → ∀ t, mI t Ds → K (if p < NP (Ds b) s ∧ q < NP (Ds b) s2 then nI (b1 (and (both (Ds b) s p s2 q (ZD (Ds b))) (isW s s2))) else -2) t) : MX2_liesIn σ a k v k2 w K := by
  unfold MX2_liesIn
  rw [ms_ws_iff]
  have hI0 := hI.thrown (v := 0)
  refine sp_isBody (fun h => ?_) (fun h => ?_)
  · refine ⟨fun z => absurd z (by decide), fun _ => ?_⟩
    obtain ⟨b, hb, rfl⟩ : ∃ b : Nat, b < 4 ∧ a = nI b := (body_or a).resolve_right (fun z => z h)
    have qq := hI0.1 b hb
    have h16 : 2 ^ (Ds b).1 ≤ 2 ^ 4 := Nat.pow_le_pow_right (by omega) qq.1.1.2
    have bad : (∀ s, s < 16 → k2 = nI s → ¬ isK (Ds b) s = true) → ∀ t, mI t Ds → K (-2) t := fun hn => h2 (Or.inl (fun b' s s2 z => by
      obtain ⟨c1, c2, c3, c4, c5⟩ := z.2
      have e : b = b' := (nI_eq (by omega) (by omega)).mp c2
      subst e
      exact hn s2 c3 c4 c5))
    refine sp_isKind qq.1 qq.2 hb (fun hn => ?_) (fun s2 hs2 hk2 hr => ?_) (fun s2 hs2 hk2 hr => ?_)
    · exact ⟨fun _ => bad (fun s _ hk hK => hn s (isK_lt qq.1 hK).1 hk) _ hI0, fun z => absurd rfl z⟩
    · refine ⟨fun z => absurd z (by decide), fun _ => ?_⟩
      have ok2 : okK Ds (nI b) k2 b s2 := ⟨hb, rfl, by omega, hk2, by unfold isK; rw [nlT hs2, nbT hr]; rfl⟩
      refine jp_min (fun mn hmn => ?_)
      refine sp_refusesPart hI0 (fun hx => br_m2 (h2 ?_ _ hI0)) (fun b' s ok hg hz t ht => br_m5 ?_) (fun b' s ok hg hz t ht hL hP => br_0 ?_)
      · exact hx.imp (fun z b' s s2 y => z b' s y.1) (fun z y => z (hmn.mpr y))
      · have e : b = b' := (nI_eq (by omega) (by have := ok.1; omega)).mp ok.2.1
        subst e
        exact h5 b s s2 ok ok2 (hmn.mp hg) hz t ht
      · have e : b = b' := (nI_eq (by omega) (by have := ok.1; omega)).mp ok.2.1
        subst e
        have hg' := hmn.mp hg
        obtain ⟨p, hp, rfl⟩ := nI_of (Int32.not_lt.mpr hg'.1)
        obtain ⟨q, hq, rfl⟩ := nI_of (Int32.not_lt.mpr hg'.2)
        have hK := h1 b s s2 p q ok ok2 rfl hp rfl hq hz
        have hzl := ZD_le (hI.1 b hb).1
        have hnp := NP_le (Ds b) s
        have hnp2 := NP_le (Ds b) s2
        rw [hP.2.1]
        refine br_lt hp (by omega) (fun h3 => ?_) (fun h3 => ?_)
        · refine jp_1 (fun t' => fr [20] t t' ∧ ∀ g, g < ZD (Ds b) → t'.2.1 20 g = nI (PN (Ds b) s g)) ?_ (fun k29 hk29 => sp_laid ht hb hz hL hP (fun t' f' r' => hk29 t' ⟨f', r'⟩))
          rintro t1 ⟨f1, r1⟩
          rw [hk2]
          refine sp_tells (ht.fr f1 (by decide)) hb (by omega) hz (hL.fr f1 (by decide)) (fun t2 f2 m1 m2 m3 => ?_)
          have r2 : ∀ g, g < ZD (Ds b) → t2.2.1 20 g = nI (PN (Ds b) s g) := fun g hg => by rw [f2.2.1 20 (by decide)]; exact r1 g hg
          rw [m3.2.1]
          refine br_lt hq (by omega) (fun h4 => ?_) (fun h4 => ?_)
          · refine jp_1 (fun x => x = nI (b1 (both (Ds b) s p s2 q (ZD (Ds b))))) ?_ ?_
            · rintro _ rfl
              have hK2 := hK t2 m1
              rw [if_pos ⟨h3, h4⟩] at hK2
              cases e1 : both (Ds b) s p s2 q (ZD (Ds b)) with
              | false =>
                rw [e1] at hK2
                exact ⟨fun _ => hK2, fun z => absurd rfl z⟩
              | true =>
                rw [e1, Bool.true_and] at hK2
                refine ⟨fun z => absurd z (by decide), fun _ => ?_⟩
                obtain ⟨c1, c2, c3, c4, c5⟩ := ok
                rw [c4]
                refine sp_isWithin c3 (by omega) ?_
                cases e2 : isW s s2 with
                | false => rw [e2] at hK2; exact ⟨fun _ => hK2, fun z => absurd rfl z⟩
                | true => rw [e2] at hK2; exact ⟨fun z => absurd z (by decide), fun _ => hK2⟩
            · intro k17 hk17
              refine eb_loop2_i (fun x y => ∃ m, m ≤ ZD (Ds b) ∧ x = nI (b1 (both (Ds b) s p s2 q m)) ∧ y = nI m) (fun _ y => 1000 - y.toNatClampNeg) ?_ ⟨0, by omega, rfl, rfl⟩
              rintro R x y ⟨m, hm, rfl, rfl⟩ hR
              rw [m2.2.2.2.1]
              refine br_le (by omega) (by omega) (fun h5 => ?_) (fun h5 => ?_)
              · exact hk17 _ (by rw [show m = ZD (Ds b) by omega])
              · have p1 := PN_lt (Ds b) s (show m < ZD (Ds b) by omega)
                have p2 := PN_lt (Ds b) s2 (show m < ZD (Ds b) by omega)
                rw [eb_rd_iff, nI_cl (by omega), r2 m (by omega)]
                refine ⟨vp_inN (by omega) (by omega), ?_⟩
                refine jp_1 (fun x => x = nI (b1 (and (Nat.beq (PN (Ds b) s m) p) (Nat.beq (PN (Ds b) s2 m) q)))) ?_ ?_
                · rintro _ rfl
                  rw [b1_or, nI_1]
                  refine hR _ _ ⟨m + 1, by omega, rfl, rfl⟩ ?_
                  rw [nI_cl (by omega), nI_cl (by omega)]; omega
                · intro kk hkk
                  refine br_eq (by omega) hp (fun h6 => ?_) (fun h6 => ?_)
                  · rw [eb_rd_iff, nI_cl (by omega), m3.1 m (by omega)]
                    refine ⟨vp_inN (by omega) (by omega), ?_⟩
                    refine br_eq (by omega) hq (fun h7 => hkk _ ?_) (fun h7 => hkk _ ?_)
                    · rw [nbT h6, nbT h7]; rfl
                    · rw [nbF h7, Bool.and_false]; rfl
                  · refine hkk _ ?_
                    rw [nbF h6]; rfl
          · have := hK t2 m1
            rw [if_neg (fun z => h4 z.2)] at this
            exact this
        · have := hK t ht
          rw [if_neg (fun z => h3 z.1)] at this
          exact this
    · refine ⟨fun _ => bad (fun s' hs' hk' hK => ?_) _ hI0, fun z => absurd rfl z⟩
      have e : s2 = s' := (nI_eq (by omega) (by omega)).mp (hk2.symm.trans hk')
      subst e
      unfold isK at hK
      rw [nlT hs2, nbF hr] at hK
      exact absurd hK (by decide)
  · refine ⟨fun _ => h2 (Or.inl (fun b s s2 z => h ?_)) _ hI0, fun z => absurd rfl z⟩
    obtain ⟨⟨c1, rfl, -⟩, -⟩ := z
    exact body_in c1
end API12
