set_option maxRecDepth 100000
section CA7
variable {Γ : eb_C} {E : cET} {st st' : eb_S} {I I' : Nat → va_E → Prop} {ad : Nat → Nat} {bd : Nat → cBT} {x : cXT} {Ds : Nat → eb_D} {p bc bs : Nat}
/-- corner c of a body: a part of the kind of no mirrors -/
theorem ok0 {a : Int32} {b : Nat} (h : cV Γ E st I ad bd x Ds) (hb : b < 4) (hab : a = nI b) : okK Ds a 0 b 0 := ⟨hb, hab, by omega, rfl, (isK_0 _ (h.v hb)).1⟩
theorem ok0_s {a : Int32} {b s : Nat} (ok : okK Ds a 0 b s) : s = 0 := ((nI_eq (a := 0) (by omega) (by have := ok.2.2.1; omega)).mp ok.2.2.2.1).symm
theorem sc_isCorner {a v : Int32} {K : Int32 → eb_S → Prop} (hE : cEm E) (h : cV Γ E st I ad bd x Ds) (hp : ad 16 = p) (hroom : ((∀ b, b < 4 → a = nI b → (bd b).1.2.2 = 1) ∧ 2 ≤ bc ∧ 1000 ≤ bs) ∨ (24 ≤ bc ∧ 14660 ≤ bs))
    (h0 : ¬ (0 ≤ a ∧ a ≤ 3) ∨ ¬ 0 ≤ v → K 0 st) (hz : ∀ b, b < 4 → a = nI b → 0 ≤ v → ZD (Ds b) = 0 → ∀ st' I' bd', cV Γ E st' I' ad bd' x Ds → (bd' b).1.2.2 = 1 → K 1 st')
    (h1 : ∀ b y, b < 4 → a = nI b → v = nI y → y < 2147483648 → ¬ ZD (Ds b) = 0 → ∀ st' I' bd', cV Γ E st' I' ad bd' x Ds → (bd' b).1.2.2 = 1 → ¬ (bd' b).2.2.2.1 0 = none → K (nI (b1 (Nat.blt y (NP (Ds b) 0)))) st') : MX0_isCorner Γ bc bs st p a v K := by
  subst hp
  unfold MX0_isCorner
  refine ⟨h.cs0, bc, bs, ⟨by omega, by omega⟩, ?_⟩
  refine sc_isPart hE h rfl hroom (fun hno => ⟨Or.inl rfl, h0 (hno.imp (fun z hb => ?_) id)⟩) (fun b s ok hv hzz st' I' bd' hV hk => ⟨Or.inr rfl, hz b ok.1 ok.2.1 hv hzz st' I' bd' hV hk⟩) (fun b s y ok hs hvy hy hzz st' I' bd' hV hk hpn => ?_)
  · obtain ⟨b, hb', rfl⟩ : ∃ b : Nat, b < 4 ∧ a = nI b := (body_or a).resolve_right (fun w => w hb)
    exact z b 0 (ok0 h hb' rfl)
  · have es := ok0_s ok
    subst es
    refine ⟨?_, h1 b y ok.1 ok.2.1 hvy hy hzz st' I' bd' hV hk hpn⟩
    cases Nat.blt y (NP (Ds b) 0)
    · exact Or.inl rfl
    · exact Or.inr rfl
theorem cW_degree {a c : Int32} {K : Int32 → eb_S → Prop} (hE : cEm E) (hW : cW Γ E st p Ds) (hbc : 29 ≤ bc) (hbs : 28164 ≤ bs) (hK : ∀ s, cW Γ E s p Ds → K (aDegree Ds a c) s) : MX0_degree Γ bc bs st p a c K := by
  obtain ⟨I, ad, bd, x, hp, h⟩ := hW
  subst hp
  unfold MX0_degree
  unfold aDegree at hK
  refine ⟨h.cs0, 24, 14660, ⟨by omega, by omega⟩, ?_⟩
  refine sc_isCorner hE h rfl (Or.inr ⟨Nat.le_refl _, Nat.le_refl _⟩) (fun hno => ?_) (fun b hb hab hv hz st' I' bd' hV hk => ?_) (fun b y hb hab hcy hy hz st' I' bd' hV hk hpn => ?_)
  · refine ⟨h.cs0, 0, 0, ⟨by omega, by omega⟩, sc_why0 ⟨fun z => absurd z (by decide), fun _ => ?_⟩⟩
    have := hK st (h.W rfl)
    rcases hno with z | z
    · rw [gat_no z, ite_self] at this; exact this
    · rw [if_neg z] at this; exact this
  · refine ⟨hV.cs0, 0, 0, ⟨by omega, by omega⟩, sc_whyK hE hV rfl hb hab hk (by decide) (fun _ => ⟨fun z => absurd z (by decide), fun _ => ?_⟩) (fun z => absurd hz z)⟩
    have := hK st' (hV.W rfl)
    rw [if_pos hv, hab, gat_z hb hz] at this
    exact this
  · have hzl := ZD_le (hV.v hb)
    have hn0 := NP_le (Ds b) 0
    have hK1 : ∀ s, cW Γ E s (ad 16) Ds → K (if y < NP (Ds b) 0 then nI (cnB (jnd (Ds b) y) (NP (Ds b) 0)) else -2) s := fun s hs => by
      have := hK s hs
      rw [hcy, if_pos (nI_pos' hy), hab, gat_f hb hz, nI_cl hy] at this
      exact this
    by_cases hlt : y < NP (Ds b) 0
    · rw [nlT hlt]
      refine ⟨hV.cs0, 0, 0, ⟨by omega, by omega⟩, sc_whyK hE hV rfl hb hab hk (by decide) (fun z => absurd z hz) (fun _ q hq hC => ⟨fun _ => ⟨hV.cs0, 5, 13504, ⟨by omega, by omega⟩, ?_⟩, fun z => absurd rfl z⟩)⟩
      rw [hab]
      refine sc_netOf hE hV rfl hb hk hz (Nat.le_refl _) (Nat.le_refl _) (fun st2 I2 bd2 x2 net hV2 hk2 hC2 => st_nn ?_)
      obtain ⟨c, pj, pm, rest, fj, fm, hN⟩ := hC2.C hV2.fz
      rw [hcy]
      refine ⟨hN.cs, sc_ndeg hN hlt ?_⟩
      have := hK1 st2 (hV2.W rfl)
      rw [if_pos hlt] at this
      exact this
    · rw [nlF hlt]
      refine ⟨hV.cs0, 0, 0, ⟨by omega, by omega⟩, sc_why0 ⟨fun z => absurd z (by decide), fun _ => ?_⟩⟩
      have := hK1 st' (hV.W rfl)
      rw [if_neg hlt] at this
      exact this
theorem cW_layer {a v : Int32} {K : Int32 → eb_S → Prop} (hE : cEm E) (hW : cW Γ E st p Ds) (hbc : 29 ≤ bc) (hbs : 28164 ≤ bs) (hK : ∀ s, cW Γ E s p Ds → K (aLayer Ds a v) s) : MX0_layer Γ bc bs st p a v K := by
  unfold MX0_layer
  unfold aLayer at hK
  refine jp_1 (fun s => s = if 0 ≤ v then (1 : Int32) else 0) ?_ (fun k hk => ⟨fun z => hk _ (by rw [if_neg (fun y => Int32.not_lt.mpr y z)]), fun z => hk _ (by rw [if_pos (Int32.not_lt.mp z)])⟩)
  rintro _ rfl
  by_cases hv : 0 ≤ v
  · rw [if_pos hv] at hK ⊢
    obtain ⟨y, hy, rfl⟩ := nI_of (Int32.not_lt.mpr hv)
    rw [nI_cl hy] at hK
    refine sc_wh hE hW (by omega) (by omega) (by decide) hK (fun b hb hab hz st' I' ad bd' x q hp hV hk hq hC hK' => ?_)
    subst hp
    have hzl := ZD_le (hV.v hb)
    have hn0 := NP_le (Ds b) 0
    have hnp := NP_pos hz 0
    refine ⟨hV.cs0, 5, 13504, ⟨by omega, by omega⟩, ?_⟩
    rw [hab]
    refine sc_netOf hE hV rfl hb hk hz (Nat.le_refl _) (Nat.le_refl _) (fun st2 I2 bd2 x2 net hV2 hk2 hC2 => st_nn ?_)
    obtain ⟨c, pj, pm, rest, fj, fm, hN⟩ := hC2.C hV2.fz
    refine ⟨hN.cs, 2, 1000, ⟨by omega, by omega⟩, sc_nfar (f := 0) hN (by omega) hnp (by omega) (by omega) (fun st3 pf ff g3 f3 w3 hff hlt => st_nn (st_ln w3 ?_))⟩
    have hV3 := hV2.keep (I' := I2) hE g3 (W := []) (fun w hw => absurd hw List.not_mem_nil) (fun _ _ z => z) (fun _ _ z => Or.inl z)
    have hK2 := hK' st3 (hV3.W rfl)
    refine eb_loop2_i (fun u z => ∃ m, m ≤ NP (Ds b) 0 ∧ u = nI (cnB (fun c => isO (fo (jnd (Ds b)) (NP (Ds b) 0) 0 c) y) m) ∧ z = nI m) (fun _ z => 1000 - z.toNatClampNeg) ?_ ⟨0, by omega, rfl, rfl⟩
    rintro R u z ⟨m, hm, rfl, rfl⟩ hR
    show eb_br (nI (NP (Ds b) 0) ≤ nI m) _ _
    refine br_le (by omega) (by omega) (fun h2 => by rw [show m = NP (Ds b) 0 by omega]; exact hK2) (fun h2 => ?_)
    refine st_li w3 (by omega) (by omega) ?_
    rw [hff m (by omega)]
    refine jp_1 (fun v => v = nI (b1 (isO (fo (jnd (Ds b)) (NP (Ds b) 0) 0 m) y))) ?_ (fun k hk => br_oI hy (fun d hd => by have := hlt m d (by omega) hd; omega) (fun e => hk _ (by rw [e]; rfl)) (fun e => hk _ (by rw [e]; rfl)))
    rintro _ rfl
    rw [nI_add, nI_1]
    refine hR _ _ ⟨m + 1, by omega, rfl, rfl⟩ ?_
    rw [nI_cl (by omega), nI_cl (by omega)]; omega
  · rw [if_neg hv] at hK ⊢
    obtain ⟨I, ad, bd, x, hp, h⟩ := hW
    subst hp
    exact ⟨h.cs0, 0, 0, ⟨by omega, by omega⟩, sc_why0 ⟨fun z => absurd z (by decide), fun _ => hK _ (h.W rfl)⟩⟩
theorem cW_coloured {a : Int32} {K : Int32 → eb_S → Prop} (hE : cEm E) (hW : cW Γ E st p Ds) (hbc : 29 ≤ bc) (hbs : 28164 ≤ bs) (hK : ∀ s, cW Γ E s p Ds → K (aColoured Ds a) s) : MX0_coloured Γ bc bs st p a K := by
  unfold MX0_coloured
  unfold aColoured at hK
  refine sc_wh hE hW (by omega) (by omega) (by decide) hK (fun b hb hab hz st' I' ad bd' x q hp hV hk hq hC hK' => ?_)
  subst hp
  have hzl := ZD_le (hV.v hb)
  have hn0 := NP_le (Ds b) 0
  have hnp := NP_pos hz 0
  refine ⟨hV.cs0, 5, 13504, ⟨by omega, by omega⟩, ?_⟩
  rw [hab]
  refine sc_netOf hE hV rfl hb hk hz (Nat.le_refl _) (Nat.le_refl _) (fun st2 I2 bd2 x2 net hV2 hk2 hC2 => st_nn ?_)
  obtain ⟨c, pj, pm, rest, fj, fm, hN⟩ := hC2.C hV2.fz
  refine ⟨hN.cs, 2, 1000, ⟨by omega, by omega⟩, sc_nfar (f := 0) hN (by omega) hnp (by omega) (by omega) (fun st3 pf ff g3 f3 w3 hff hlt => ?_)⟩
  have hV3 := hV2.keep (I' := I2) hE g3 (W := []) (fun w hw => absurd hw List.not_mem_nil) (fun _ _ z => z) (fun _ _ z => Or.inl z)
  have hK2 := hK' st3 (hV3.W rfl)
  obtain ⟨c, pj, pm, rest, fj, fm, hN⟩ := hC2.C hV3.fz
  obtain ⟨nb, n1', n2', n3'⟩ := id hN.2.2.2.2.1
  generalize hA : jnd (Ds b) = A at *
  generalize hNN : NP (Ds b) 0 = N at *
  refine eb_loop1_i (fun u => ∃ m, m ≤ N ∧ u = nI m ∧ ∀ c d, c < m → d < N → ¬ badC A N c d) (fun u => 1000 - u.toNatClampNeg) ?_ ⟨0, by omega, rfl, fun c d hc => absurd hc (Nat.not_lt_zero _)⟩
  rintro R u ⟨m, hm, rfl, hok⟩ hR
  refine st_ni hN.1 hN.2.1 rfl ?_
  refine br_le (by omega) (by omega) (fun h2 => ?_) (fun h2 => ?_)
  · rw [@if_neg _ (Classical.propDecidable _) (fun ⟨c, d, z1, z2, z3⟩ => hok c d (by omega) z2 z3)] at hK2
    exact hK2
  · have na := n1' m (by omega)
    have hcl := cnB_le (A m) N
    refine jp_0 (∀ d, d < N → ¬ badC A N m d) (fun hd => ?_) (fun k17 hk17 => ?_)
    · rw [nI_1]
      refine hR _ ⟨m + 1, by omega, rfl, fun c d hc hd' => ?_⟩ ?_
      · by_cases e : c = m
        · rw [e]; exact hd d hd'
        · exact hok c d (by omega) hd'
      · rw [nI_cl (by omega), nI_cl (by omega)]; omega
    · refine eb_loop1_i (fun v => ∃ i, i ≤ cnB (A m) N ∧ v = nI i ∧ ∀ j, j < i → ¬ badC A N m (nb m j)) (fun v => 1000 - v.toNatClampNeg) ?_ ⟨0, by omega, rfl, fun j hj => absurd hj (Nat.not_lt_zero _)⟩
      rintro R2 v ⟨i, hi, rfl, hno⟩ hR2
      refine ⟨hN.cs, sc_ndeg hN (by omega) ?_⟩
      refine br_le (by omega) (by omega) (fun h3 => hk17 (fun d hd hb => ?_)) (fun h3 => st_nn (st_li w3 (by omega) (by omega) ⟨hN.cs, sc_nat hN (by omega) (by have := na.2.1; omega) ?_⟩))
      · obtain ⟨j, j1, j2⟩ := n2' m d (by omega) hd hb.1
        exact hno j (by omega) (by rw [j2]; exact hb)
      · obtain ⟨z1, z2, z3⟩ := na.2.2 i (by omega)
        rw [z1, hff m (by omega)]
        refine st_li w3 z2 (by omega) ?_
        rw [hff _ z2]
        refine ⟨fun e => ?_, fun e => ?_⟩
        · rw [@if_pos _ (Classical.propDecidable _) ⟨m, nb m i, by omega, z2, z3, e⟩] at hK2
          exact hK2
        · rw [nI_1]
          refine hR2 _ ⟨i + 1, by omega, rfl, fun j hj hb => ?_⟩ ?_
          · by_cases ej : j = i
            · rw [ej] at hb; exact e hb.2
            · exact hno j (by omega) hb
          · rw [nI_cl (by omega), nI_cl (by omega)]; omega
end CA7
