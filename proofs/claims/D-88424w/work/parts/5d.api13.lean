set_option maxRecDepth 100000
section API13
variable {σ : eb_MS} {Ds : Nat → eb_D}
/-- how many parts of a kind have an element in a part -/
noncomputable def wnN (D : eb_D) (s s2 w : Nat) : Nat := cond (isW s s2) (cnB (mkF (fun g => Nat.beq (PN D s2 g) w) (PN D s) (ZD D)) (NP D s)) 0
theorem sp_within {a k k2 w : Int32} {K : Int32 → eb_MS → Prop} (hI : mI σ Ds) (h2 : (∀ b s s2, ¬ (okK Ds a k b s ∧ okK Ds a k2 b s2)) ∨ ¬ 0 ≤ w → ∀ t, mI t Ds → K (-2) t)
    (h5 : ∀ b s s2, okK Ds a k b s → okK Ds a k2 b s2 → 0 ≤ w → ZD (Ds b) = 0 → ∀ t, mI t Ds → K (-5) t)
    (h1 : ∀ b s s2 q, okK Ds a k b s → okK Ds a k2 b s2 → w = nI q → q < 2147483648 → ¬ ZD (Ds b) = 0 → ∀ t, mI t Ds → K (if q < NP (Ds b) s2 then nI (wnN (Ds b) s s2 q) else -2) t) : MX2_within σ a k k2 w K := by
  unfold MX2_within
  rw [ms_ws_iff]
  have hI0 := hI.thrown (v := 0)
  refine sp_isBody (fun h => ?_) (fun h => ?_)
  · refine ⟨fun z => absurd z (by decide), fun _ => ?_⟩
    obtain ⟨b, hb, rfl⟩ : ∃ b : Nat, b < 4 ∧ a = nI b := (body_or a).resolve_right (fun z => z h)
    have qq := hI0.1 b hb
    have h16 : 2 ^ (Ds b).1 ≤ 2 ^ 4 := Nat.pow_le_pow_right (by omega) qq.1.1.2
    have bad : (∀ s, s < 16 → k2 = nI s → ¬ isK (Ds b) s = true) → ∀ t, mI t Ds → K (-2) t := fun hn => h2 (Or.inl (fun b' s s2 z => by
      obtain ⟨c1, c2, c3, c4, c5⟩ := z.2
      have e : b = b' := (nI_eq (by omega) (by omega)).mp c2
      subst e
      exact hn s2 c3 c4 c5))
    refine sp_isKind qq.1 qq.2 hb (fun hn => ?_) (fun s2 hs2 hk2 hr => ?_) (fun s2 hs2 hk2 hr => ?_)
    · exact ⟨fun _ => bad (fun s _ hk hK => hn s (isK_lt qq.1 hK).1 hk) _ hI0, fun z => absurd rfl z⟩
    · refine ⟨fun z => absurd z (by decide), fun _ => ?_⟩
      have ok2 : okK Ds (nI b) k2 b s2 := ⟨hb, rfl, by omega, hk2, by unfold isK; rw [nlT hs2, nbT hr]; rfl⟩
      refine sp_refusesPart hI0 (fun hx => br_m2 (h2 ?_ _ hI0)) (fun b' s ok hg hz t ht => br_m5 ?_) (fun b' s ok hg hz t ht hL hP => br_0 ?_)
      · exact hx.imp (fun z b' s s2 y => z b' s y.1) id
      · have e : b = b' := (nI_eq (by omega) (by have := ok.1; omega)).mp ok.2.1
        subst e
        exact h5 b s s2 ok ok2 hg hz t ht
      · have e : b = b' := (nI_eq (by omega) (by have := ok.1; omega)).mp ok.2.1
        subst e
        obtain ⟨q, hq, rfl⟩ := nI_of (Int32.not_lt.mpr hg)
        have hK := h1 b s s2 q ok ok2 rfl hq hz
        have hzl := ZD_le (hI.1 b hb).1
        have hnp := NP_le (Ds b) s
        have hnp2 := NP_le (Ds b) s2
        obtain ⟨c1, c2, c3, c4, c5⟩ := ok
        refine jp_1 (fun t' => fr [20] t t' ∧ ∀ g, g < ZD (Ds b) → t'.2.1 20 g = nI (PN (Ds b) s g)) ?_ (fun k29 hk29 => sp_laid ht hb hz hL hP (fun t' f' r' => hk29 t' ⟨f', r'⟩))
        rintro t1 ⟨f1, r1⟩
        rw [hk2]
        refine sp_tells (ht.fr f1 (by decide)) hb (by omega) hz (hL.fr f1 (by decide)) (fun t2 f2 m1 m2 m3 => ?_)
        rw [m3.2.1]
        refine br_lt hq (by omega) (fun h4 => ?_) (fun h4 => ?_)
        · refine sp_clears (fun t3 f3 h0 => ?_)
          have r3 : ∀ g, g < ZD (Ds b) → t3.2.1 20 g = nI (PN (Ds b) s g) := fun g hg => by rw [f3.2.1 20 (by decide), f2.2.1 20 (by decide)]; exact r1 g hg
          have p3 : ∀ g, g < ZD (Ds b) → t3.2.1 17 g = nI (PN (Ds b) s2 g) := fun g hg => by rw [f3.2.1 17 (by decide)]; exact m3.1 g hg
          have i3 := m1.fr f3 (by decide)
          have l3 := m2.fr f3 (by decide)
          rw [c4]
          cases hW : isW s s2 with
          | false =>
            have hK3 := hK t3 i3
            rw [if_pos h4] at hK3
            unfold wnN at hK3
            rw [hW] at hK3
            refine eb_loop3_i (fun x y t' => x = 0 ∧ t' = t3) (fun _ _ _ => 0) ?_ ⟨rfl, rfl⟩
            rintro R x y t' ⟨rfl, rfl⟩ hR
            refine ⟨fun _ => hK3, fun _ => ?_⟩
            refine sp_isWithin c3 (by omega) ?_
            rw [hW]
            exact ⟨fun _ => hK3, fun z => absurd rfl z⟩
          | true =>
            refine eb_loop3_i (fun c y t' => ∃ m, m ≤ ZD (Ds b) ∧ c = nI (cnB (mkF (fun g => Nat.beq (PN (Ds b) s2 g) q) (PN (Ds b) s) m) (NP (Ds b) s)) ∧ y = nI m ∧ fr [23] t3 t' ∧ ∀ k, k < 500 → t'.2.1 23 k = nI (b1 (mkF (fun g => Nat.beq (PN (Ds b) s2 g) q) (PN (Ds b) s) m k))) (fun _ y _ => 1000 - y.toNatClampNeg) ?_ ⟨0, Nat.zero_le _, by rw [cnB_false (P := mkF (fun g => Nat.beq (PN (Ds b) s2 g) q) (PN (Ds b) s) 0) (fun _ => rfl)]; rfl, rfl, fr_rf _ _, fun k hk => h0 k hk⟩
            rintro R c y t' ⟨m, hm, rfl, rfl, ft, hmk⟩ hR
            rw [ft.1 8 (by decide), l3.2.2.2.1]
            refine br_le (by omega) (by omega) (fun h2 => ?_) (fun h2 => ?_)
            · have e : m = ZD (Ds b) := by omega
              subst e
              have hK3 := hK t' (i3.fr ft (by decide))
              rw [if_pos h4] at hK3
              unfold wnN at hK3
              rw [hW] at hK3
              exact hK3
            · refine sp_isWithin c3 (by omega) ?_
              rw [hW]
              refine ⟨fun z => absurd z (by decide), fun _ => ?_⟩
              have hp0 := PN_lt (Ds b) s (show m < ZD (Ds b) by omega)
              have hps := PN_lt (Ds b) s2 (show m < ZD (Ds b) by omega)
              rw [eb_rd_iff, nI_cl (by omega), ft.2.1 17 (by decide), p3 m (by omega)]
              refine ⟨vp_inN (by omega) (by omega), ?_⟩
              refine jp_2 (fun c t' => c = nI (cnB (mkF (fun g => Nat.beq (PN (Ds b) s2 g) q) (PN (Ds b) s) (m + 1)) (NP (Ds b) s)) ∧ fr [23] t3 t' ∧ ∀ k, k < 500 → t'.2.1 23 k = nI (b1 (mkF (fun g => Nat.beq (PN (Ds b) s2 g) q) (PN (Ds b) s) (m + 1) k))) ?_ ?_
              · rintro _ t' ⟨rfl, f', h'⟩
                rw [nI_1]
                refine hR _ _ _ ⟨m + 1, by omega, rfl, rfl, f', h'⟩ ?_
                rw [nI_cl (by omega), nI_cl (by omega)]; omega
              · intro k hk
                have keep : (∀ c, mkF (fun g => Nat.beq (PN (Ds b) s2 g) q) (PN (Ds b) s) (m + 1) c = mkF (fun g => Nat.beq (PN (Ds b) s2 g) q) (PN (Ds b) s) m c) → k (nI (cnB (mkF (fun g => Nat.beq (PN (Ds b) s2 g) q) (PN (Ds b) s) m) (NP (Ds b) s))) t' := fun hc =>
                  hk _ _ ⟨by rw [cnB_cg _ (fun c _ => hc c)], ft, fun c hc' => by rw [hc c]; exact hmk c hc'⟩
                refine br_eq (by omega) hq (fun h3 => ?_) (fun h3 => ?_)
                · have hPm : (fun g => Nat.beq (PN (Ds b) s2 g) q) m = true := nbT h3
                  have e15 : t'.2.1 20 m = nI (PN (Ds b) s m) := by
                    rw [ft.2.1 20 (by decide)]
                    exact r3 m (by omega)
                  rw [eb_rd_iff, nI_cl (by omega), e15]
                  refine ⟨vp_inN (by omega) (by omega), ?_⟩
                  rw [eb_rd_iff, nI_cl (by omega), hmk _ (by omega)]
                  refine ⟨vp_inN (by omega) (by omega), ?_⟩
                  cases hq : mkF (fun g => Nat.beq (PN (Ds b) s2 g) q) (PN (Ds b) s) m (PN (Ds b) s m) with
                  | true => exact ⟨fun z => absurd z (by decide), fun _ => keep (mkF_same hq)⟩
                  | false =>
                    refine ⟨fun _ => ?_, fun z => absurd rfl z⟩
                    rw [eb_rd_iff, nI_cl (by omega), e15]
                    refine ⟨vp_inN (by omega) (by omega), ?_⟩
                    rw [ms_wr_iff, nI_cl (by omega), nar_b1, nI_1]
                    refine ⟨vp_inN (by omega) (by omega), ?_⟩
                    refine hk _ _ ⟨by rw [mkF_set (P := fun g => Nat.beq (PN (Ds b) s2 g) q) hPm hq hp0], ft.pa (by decide), fun c hc => ?_⟩
                    rw [ms_pa_eq]
                    by_cases ec : c = PN (Ds b) s m
                    · rw [ec, upd_eq, mkF_eq (P := fun g => Nat.beq (PN (Ds b) s2 g) q) (f := PN (Ds b) s) hPm]; rfl
                    · rw [upd_ne ec, mkF_ne ec]; exact hmk c hc
                · have hPm : (fun g => Nat.beq (PN (Ds b) s2 g) q) m = false := nbF h3
                  exact keep (fun c => mkF_no hPm)
        · have := hK t2 m1
          rw [if_neg h4] at this
          exact this
    · refine ⟨fun _ => bad (fun s' hs' hk' hK => ?_) _ hI0, fun z => absurd rfl z⟩
      have e : s2 = s' := (nI_eq (by omega) (by omega)).mp (hk2.symm.trans hk')
      subst e
      unfold isK at hK
      rw [nlT hs2, nbF hr] at hK
      exact absurd hK (by decide)
  · refine ⟨fun _ => h2 (Or.inl (fun b s s2 z => h ?_)) _ hI0, fun z => absurd rfl z⟩
    obtain ⟨⟨c1, rfl, -⟩, -⟩ := z
    exact body_in c1
/-- a part's least element, by number -/
theorem NP_ex (D : eb_D) (s : Nat) {p : Nat} (hp : p < NP D s) : ∃ l, l < ZD D ∧ isF D s l ∧ PN D s l = p := prt_ex hp
theorem TD_tfo {D : eb_D} (hv : vD D) (hz : ¬ ZD D = 0) : tfo (ZD D) D.1 (Tto (TD D)) := by
  obtain ⟨hG, he1, he2, he3⟩ := TD_ok hv hz
  have := hG.tfo
  rw [he1, he3] at this
  exact this
theorem isF_least {D : eb_D} (hv : vD D) (hz : ¬ ZD D = 0) {s l l' : Nat} (h : isF D s l) (hl : l < ZD D) (hl' : l' < l) : ¬ PN D s l' = PN D s l :=
  fun e => h.2 l' hl' (prt_inj (TD_tfo hv hz) (by omega) hl e)
theorem sp_moves {a g c : Int32} {K : Int32 → eb_MS → Prop} (hI : mI σ Ds) (h2 : ¬ (0 ≤ a ∧ a ≤ 3) ∨ ¬ (0 ≤ g ∧ 0 ≤ c) → ∀ t, mI t Ds → K (-2) t) (h5 : ∀ b, b < 4 → a = nI b → 0 ≤ g ∧ 0 ≤ c → ZD (Ds b) = 0 → ∀ t, mI t Ds → K (-5) t)
    (h1 : ∀ b x p l, b < 4 → a = nI b → g = nI x → c = nI p → ¬ ZD (Ds b) = 0 → x < ZD (Ds b) → p < NP (Ds b) 0 → l < ZD (Ds b) → isF (Ds b) 0 l → PN (Ds b) 0 l = p → ∀ t, mI t Ds → K (nI (PN (Ds b) 0 (Pr (TD (Ds b)) x l))) t)
    (h1' : ∀ b x p, b < 4 → a = nI b → g = nI x → x < 2147483648 → c = nI p → p < 2147483648 → ¬ ZD (Ds b) = 0 → ¬ (x < ZD (Ds b) ∧ p < NP (Ds b) 0) → ∀ t, mI t Ds → K (-2) t) : MX2_moves σ a g c K := by
  unfold MX2_moves
  rw [ms_ws_iff]
  refine jp_min (fun mn hmn => ?_)
  refine sp_refusesOf hI.thrown (fun h => br_m2 (h2 (h.imp id (fun z y => z (hmn.mpr y))) _ hI.thrown)) (fun b hb hab hg hz t ht => br_m5 (h5 b hb hab (hmn.mp hg) hz t ht)) (fun b hb hab hg hz t ht hL => br_0 ?_)
  have hg' := hmn.mp hg
  obtain ⟨x, hx, rfl⟩ := nI_of (Int32.not_lt.mpr hg'.1)
  obtain ⟨p, hp, rfl⟩ := nI_of (Int32.not_lt.mpr hg'.2)
  have hv := (hI.1 b hb).1
  have hzl := ZD_le hv
  have hn0 := NP_le (Ds b) 0
  obtain ⟨hG, hE, he3, he1⟩ := hL.E hv hz
  have e16 : t.1 16 = nI (NP (Ds b) 0) := (hL.2.2.2.2 hz).2.2.2.2.2
  have e15 : ∀ m, m < ZD (Ds b) → t.2.1 15 m = nI (PN (Ds b) 0 m) := fun m hm => (hL.2.2.2.2 hz).2.2.2.2.1 m hm
  rw [hL.2.2.2.1]
  refine br_le (by omega) hx (fun h => h1' b x p hb hab rfl hx rfl hp hz (by omega) t ht) (fun h => ?_)
  rw [e16]
  refine br_lt hp (by omega) (fun h3 => ?_) (fun h3 => h1' b x p hb hab rfl hx rfl hp hz (by omega) t ht)
  obtain ⟨l, hl, hlF, hlp⟩ := NP_ex (Ds b) 0 h3
  refine jp_1 (fun y => y = nI l) ?_ ?_
  · rintro _ rfl
    refine sp_productOf hG hE (by omega) (by omega) ?_
    have hq := Pr_lt hG (g := x) (by omega) l (by omega)
    rw [eb_rd_iff, nI_cl (by omega), e15 _ (by omega)]
    exact ⟨vp_inN (by omega) (by omega), h1 b x p l hb hab rfl rfl hz (by omega) h3 hl hlF hlp t ht⟩
  · intro k hk
    refine eb_loop1_i (fun y => ∃ m, m ≤ l ∧ y = nI m) (fun y => 1000 - y.toNatClampNeg) ?_ ⟨0, by omega, rfl⟩
    rintro R y ⟨m, hm, rfl⟩ hR
    have hpm := PN_lt (Ds b) 0 (show m < ZD (Ds b) by omega)
    rw [eb_rd_iff, nI_cl (by omega), e15 m (by omega)]
    refine ⟨vp_inN (by omega) (by omega), ?_⟩
    refine br_eq (by omega) hp (fun h4 => ?_) (fun h4 => ?_)
    · refine hk _ ?_
      by_cases e : m = l
      · rw [e]
      · exact absurd (h4.trans hlp.symm) (isF_least hv hz hlF hl (by omega))
    · rw [nI_1]
      have : ¬ m = l := fun e => h4 (by rw [e]; exact hlp)
      refine hR _ ⟨m + 1, by omega, rfl⟩ ?_
      rw [nI_cl (by omega), nI_cl (by omega)]; omega
end API13
