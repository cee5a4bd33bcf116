set_option maxRecDepth 100000
section DU3
variable {Γ : eb_C} {E : cET} {st st' : eb_S} {I I' : Nat → va_E → Prop} {ad : Nat → Nat} {bd : Nat → cBT} {x : cXT} {Ds : Nat → eb_D} {p bc bs : Nat} {D : eb_D}
theorem duA_sy (h : ok3 D) (a b : Nat) : duA D a b = duA D b a := Bool_ext (by
  rw [duA_u h, duA_u h]
  exact ⟨fun ⟨h0, x, d, h1, h2, h3, h4, h5, h6⟩ => ⟨fun e => h0 e.symm, x, d, h1, h2, h5, h6, h3, h4⟩, fun ⟨h0, x, d, h1, h2, h3, h4, h5, h6⟩ => ⟨fun e => h0 e.symm, x, d, h1, h2, h5, h6, h3, h4⟩⟩)
theorem duA_irr (h : ok3 D) (a : Nat) : duA D a a = false := by
  cases hh : duA D a a with
  | false => rfl
  | true => exact absurd rfl ((duA_u h a a).mp hh).1
theorem jal_dN (h : ok3 D) : jal (duA D) (dN D) = jal (duA D) (duN D) := by
  obtain ⟨_, _, _, d4⟩ := dN_b h
  by_cases e : duN D = 0
  · rw [e]
    unfold dN
    rw [if_pos e]
    rfl
  · rw [d4 e]
theorem cW_dual {a w : Int32} {K : Int32 → eb_S → Prop} (hE : cEm E) (hH : ∀ I p n D, E.1 I p n D ↔ huE Γ I p n D) (hW : cW Γ E st p Ds) (hbc : 299 ≤ bc) (hbs : 27497 ≤ bs) (hK : ∀ s, cW Γ E s p Ds → K (aDual Ds a w) s) : MX0_dual Γ bc bs st p a w K := by
  unfold MX0_dual
  unfold aDual at hK
  refine sc_in (fun hw => ?_) (fun hw => ?_)
  · rw [if_pos hw] at hK
    refine sc_wh3 hE hW (by omega) (by omega) (by decide) hK (fun b hb hab hz h3 st' I' ad bd' x q hp hV hk hq hC hK' => ?_)
    subst hp
    rw [hab]
    refine hV.at hb ⟨(hV.body hb).cs, 274, 12745, ⟨by omega, by omega⟩, sc_hull hE hH hV hb hk hz h3 (Nat.le_refl _) (Nat.le_refl _) (fun s2 I2 bd2 n hV2 _ hk2 hn => ?_)⟩
    obtain ⟨hok, net, pj, pm, ps, pk, pr, pf, fj, fm, f3, f4, fr, ff, t, w', hSt, hr⟩ := hn
    have hS := hSt s2 hV2.fz
    obtain ⟨d1, d2, d3, d4⟩ := dN_b hok
    have hKK := hK' s2 (hV2.W rfl)
    unfold duV at hKK
    refine ⟨fun e => st_nn (st_gi hS.1 rfl ?_), fun e => ⟨fun e1 => st_nn ⟨st_cs hS.1 (by simp), 3, 1092, ⟨by omega, by omega⟩, ?_⟩, fun e1 => st_nn (st_gr hS.1 (v := some net) rfl (st_nn (st_ni hS.2.1.1 hS.2.1.2.1 rfl ?_)))⟩⟩
    · rw [if_pos e] at hKK; exact hKK
    · refine sc_dual hS hok (Nat.le_refl _) (Nat.le_refl _) (fun s3 y pj' pm' fj' fm' g3 hC3 => st_nn ⟨hC3.cs, sc_nall hC3 (by omega) (by omega) (duA_sy hok) (duA_irr hok) ?_⟩)
      have hV3 := hV2.keep (I' := I2) hE g3 (W := []) (fun w hw => absurd hw List.not_mem_nil) (fun _ _ z => z) (fun _ _ z => Or.inl z)
      have := hK' s3 (hV3.W rfl)
      unfold duV at this
      rw [if_neg e, if_pos e1] at this
      rw [jal_dN hok]
      exact this
    · rw [if_neg e, if_neg e1] at hKK; exact hKK
  · rw [if_neg hw] at hK
    obtain ⟨I, ad, bd, x, hp, h⟩ := hW
    subst hp
    exact ⟨h.cs0, 0, 0, ⟨by omega, by omega⟩, sc_whyH0 h.cs0 ⟨fun z => absurd z (by decide), fun _ => hK _ (h.W rfl)⟩⟩
theorem cW_dualDegree {a c : Int32} {K : Int32 → eb_S → Prop} (hE : cEm E) (hH : ∀ I p n D, E.1 I p n D ↔ huE Γ I p n D) (hW : cW Γ E st p Ds) (hbc : 299 ≤ bc) (hbs : 27497 ≤ bs) (hK : ∀ s, cW Γ E s p Ds → K (aDualDegree Ds a c) s) : MX0_dualDegree Γ bc bs st p a c K := by
  unfold MX0_dualDegree
  unfold aDualDegree at hK
  refine jp_1 (fun v => (v = 0 ∧ c < 0) ∨ (v = 1 ∧ ¬ c < 0)) ?_ (fun k hk => ⟨fun z => hk _ (Or.inl ⟨rfl, z⟩), fun z => hk _ (Or.inr ⟨rfl, z⟩)⟩)
  rintro _ (⟨rfl, hi⟩ | ⟨rfl, hi⟩)
  · rw [if_neg (Int32.not_le.mpr hi)] at hK
    obtain ⟨I, ad, bd, x, hp, h⟩ := hW
    subst hp
    exact ⟨h.cs0, 0, 0, ⟨by omega, by omega⟩, sc_whyH0 h.cs0 ⟨fun z => absurd z (by decide), fun _ => hK _ (h.W rfl)⟩⟩
  · rw [if_pos (Int32.not_lt.mp hi)] at hK
    obtain ⟨y, hy, rfl⟩ := nI_of hi
    rw [nI_cl hy] at hK
    refine sc_wh3 hE hW (by omega) (by omega) (by decide) hK (fun b hb hab hz h3 st' I' ad bd' x q hp hV hk hq hC hK' => ?_)
    subst hp
    rw [hab]
    refine hV.at hb ⟨(hV.body hb).cs, 274, 12745, ⟨by omega, by omega⟩, sc_hull hE hH hV hb hk hz h3 (Nat.le_refl _) (Nat.le_refl _) (fun s2 I2 bd2 n hV2 _ hk2 hn => st_nn ?_)⟩
    obtain ⟨hok, net, pj, pm, ps, pk, pr, pf, fj, fm, f3, f4, fr, ff, t, w', hSt, hr⟩ := hn
    have hS := hSt s2 hV2.fz
    obtain ⟨d1, d2, d3, d4⟩ := dN_b hok
    refine ⟨st_cs hS.1 (by simp), 3, 1092, ⟨by omega, by omega⟩, sc_dual hS hok (Nat.le_refl _) (Nat.le_refl _) (fun s3 z pj' pm' fj' fm' g3 hC3 => ?_)⟩
    have hV3 := hV2.keep (I' := I2) hE g3 (W := []) (fun w hw => absurd hw List.not_mem_nil) (fun _ _ z => z) (fun _ _ z => Or.inl z)
    have hS3 := hSt s3 hV3.fz
    have hKK := hK' s3 (hV3.W rfl)
    refine eb_loop2_i (fun u v => ∃ m, m ≤ duN (Ds b) ∧ u = nI (cnB (fun f => Nat.beq (cnB (duA (Ds b) f) (duN (Ds b))) y) m) ∧ v = nI m) (fun _ v => 1000 - v.toNatClampNeg) ?_ ⟨0, by omega, rfl, rfl⟩
    rintro R _ _ ⟨m, hm, rfl, rfl⟩ hR
    refine st_gi hS3.1 rfl (br_le (by omega) (by omega) (fun e => ?_) (fun e => st_nn ⟨hC3.cs, sc_ndeg hC3 (by omega) ?_⟩))
    · rw [show m = duN (Ds b) by omega]
      exact hKK
    · rw [d4 (by omega)]
      have hcl := cnB_le (duA (Ds b) m) (duN (Ds b))
      refine jp_1 (fun v => v = nI (b1 (Nat.beq (cnB (duA (Ds b) m) (duN (Ds b))) y))) ?_ ?_
      · rintro _ rfl
        rw [nI_1, nI_add]
        exact hR _ _ ⟨m + 1, by omega, rfl, rfl⟩ (by rw [nI_cl (by omega), nI_cl (by omega)]; omega)
      · intro k29 hk29
        refine br_eq (by omega) hy (fun e1 => ?_) (fun e1 => ?_)
        · rw [nbT e1] at hk29; exact hk29 _ rfl
        · rw [nbF e1] at hk29; exact hk29 _ rfl
theorem cW_dualFar {a : Int32} {K : Int32 → eb_S → Prop} (hE : cEm E) (hH : ∀ I p n D, E.1 I p n D ↔ huE Γ I p n D) (hW : cW Γ E st p Ds) (hbc : 427 ≤ bc) (hbs : 35689 ≤ bs) (hK : ∀ s, cW Γ E s p Ds → K (aDualFar Ds a) s) : MX0_dualFar Γ bc bs st p a K := by
  unfold MX0_dualFar
  unfold aDualFar at hK
  refine sc_wh3 hE hW (by omega) (by omega) (by decide) hK (fun b hb hab hz h3 st' I' ad bd' x q hp hV hk hq hC hK' => ?_)
  subst hp
  rw [hab]
  refine hV.at hb ⟨(hV.body hb).cs, 274, 12745, ⟨by omega, by omega⟩, sc_hull hE hH hV hb hk hz h3 (Nat.le_refl _) (Nat.le_refl _) (fun s2 I2 bd2 n hV2 _ hk2 hn => st_nn ?_)⟩
  obtain ⟨hok, net, pj, pm, ps, pk, pr, pf, fj, fm, f3, f4, fr, ff, t, w', hSt, hr⟩ := hn
  have hS := hSt s2 hV2.fz
  obtain ⟨d1, d2, d3, d4⟩ := dN_b hok
  refine ⟨st_cs hS.1 (by simp), 3, 1092, ⟨by omega, by omega⟩, sc_dual hS hok (Nat.le_refl _) (Nat.le_refl _) (fun s3 z pj' pm' fj' fm' g3 hC3 => ?_)⟩
  have k0 : ∀ s, sf [] s3 s → cV Γ E s I2 ad bd2 x Ds := fun s hs => hV2.keep (I' := I2) hE (g3.tr hs) (W := []) (fun w hw => absurd hw List.not_mem_nil) (fun _ _ z => z) (fun _ _ z => Or.inl z)
  generalize hA : duA (Ds b) = A at *
  have hbd : ∀ m, m ≤ duN (Ds b) → dfI A (duN (Ds b)) m ≤ 64 → True := fun _ _ _ => trivial
  refine eb_loop5_i (fun u v s c4 s4 => ∃ m, m ≤ duN (Ds b) ∧ u = nI (dfI A (duN (Ds b)) m) ∧ v = nI m ∧ sf [] s3 s ∧ c4 ≤ 299 + 2 * m ∧ s4 ≤ 27497 + 128 * m ∧ dfI A (duN (Ds b)) m ≤ 64) (fun _ v _ _ _ => 1000 - v.toNatClampNeg) ?_ ⟨0, by omega, rfl, rfl, sf.rf _ _, by omega, by omega, by show 0 ≤ 64; omega⟩
  rintro R _ _ s c4 s4 ⟨m, hm, rfl, rfl, hs, hc4, hs4, hle⟩ hR
  have hVs := k0 s hs
  have hSs := hSt s hVs.fz
  have hCs : nC Γ s 9 z pj' pm' 16 (dN (Ds b)) [] A fj' fm' := ⟨hC3.1, hs _ _ hC3.2.1 List.not_mem_nil, hs _ _ hC3.2.2.1 List.not_mem_nil, hs _ _ hC3.2.2.2.1 List.not_mem_nil, hC3.2.2.2.2⟩
  refine st_gi hSs.1 rfl (br_le (by omega) (by omega) (fun e => ?_) (fun e => st_nn ⟨hCs.cs, 2, 128, ⟨by omega, by omega⟩, ?_⟩))
  · rw [show m = duN (Ds b) by omega]
    exact hK' s (hVs.W rfl)
  rw [d4 (by omega)] at hCs d3
  refine sc_nfar hCs (by omega) (by omega) (Nat.le_refl _) (by omega) (fun s' pf' ff' g' _ w' hff hlt => st_nn (st_ln w' ?_))
  show eb_jp1 _ _
  refine jp_1 (fun v => v = nI (dfI A (duN (Ds b)) (m + 1)) ∧ dfI A (duN (Ds b)) (m + 1) ≤ 64) ?_ ?_
  · rintro _ ⟨rfl, hle'⟩
    rw [nI_1]
    exact hR _ _ _ _ _ ⟨m + 1, by omega, rfl, rfl, hs.tr g', by omega, by omega, hle'⟩ (by rw [nI_cl (by omega), nI_cl (by omega)]; omega)
  · intro k33 hk33
    refine eb_loop2_i (fun u v => ∃ d, d ≤ duN (Ds b) ∧ u = nI (dfJ A (duN (Ds b)) m (dfI A (duN (Ds b)) m) d) ∧ v = nI d ∧ dfJ A (duN (Ds b)) m (dfI A (duN (Ds b)) m) d ≤ 64) (fun _ v => 1000 - v.toNatClampNeg) ?_ ⟨0, by omega, rfl, rfl, hle⟩
    rintro R2 _ _ ⟨d, hd, rfl, rfl, hl⟩ hR2
    refine br_le (a := duN (Ds b)) (by omega) (by omega) (fun e2 => ?_) (fun e2 => st_li w' (by omega) (by omega) ?_)
    · have ed : d = duN (Ds b) := by omega
      rw [ed] at hl ⊢
      exact hk33 _ ⟨rfl, hl⟩
    · rw [hff d (by omega)]
      have key : ∀ v, v = nI (dfJ A (duN (Ds b)) m (dfI A (duN (Ds b)) m) (d + 1)) → dfJ A (duN (Ds b)) m (dfI A (duN (Ds b)) m) (d + 1) ≤ 64 → R2 v (nI d + 1) := fun v hv hl' => by
        rw [hv, nI_1]
        exact hR2 _ _ ⟨d + 1, by omega, rfl, rfl, hl'⟩ (by rw [nI_cl (by omega), nI_cl (by omega)]; omega)
      have hq : dfJ A (duN (Ds b)) m (dfI A (duN (Ds b)) m) (d + 1) = mxo (dfJ A (duN (Ds b)) m (dfI A (duN (Ds b)) m) d) (fo A (duN (Ds b)) m d) := rfl
      have hlt' := hlt d
      cases hfo : fo A (duN (Ds b)) m d with
      | none =>
        rw [hfo] at hq
        have hq' : _ = dfJ A (duN (Ds b)) m (dfI A (duN (Ds b)) m) d := hq
        refine ⟨fun zz => ?_, fun _ => key _ (by rw [hq']) (by omega)⟩
        have z2 : nI (dfJ A (duN (Ds b)) m (dfI A (duN (Ds b)) m) d) < -1 := zz
        exact absurd (Int32.lt_trans z2 (by decide : (-1 : Int32) < 0)) (Int32.not_lt.mpr (nI_pos' (by omega)))
      | some v =>
        have hv := hlt' v (by omega) hfo
        rw [hfo] at hq
        have hq' : _ = if v ≤ dfJ A (duN (Ds b)) m (dfI A (duN (Ds b)) m) d then dfJ A (duN (Ds b)) m (dfI A (duN (Ds b)) m) d else v := hq
        refine br_lt (b := v) (by omega) (by omega) (fun e3 => key _ ?_ ?_) (fun e3 => key _ ?_ ?_)
        · rw [hq', if_neg (by omega)]
          rfl
        · rw [hq', if_neg (by omega)]; omega
        · rw [hq', if_pos (by omega)]
        · rw [hq', if_pos (by omega)]; omega
end DU3
