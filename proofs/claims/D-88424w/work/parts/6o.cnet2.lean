set_option maxRecDepth 100000
section NT2
variable {Γ : eb_C} {E : cET} {st st' : eb_S} {I I' : Nat → va_E → Prop} {bc bs : Nat}
theorem nB_none (w N : Nat) : nB w N (fun _ _ => false) (fun _ => 0) (fun _ => 0) := by
  have e : ∀ n, cnB (fun _ => false) n = 0 := cnB_false (fun _ => rfl)
  refine ⟨fun _ _ => 0, fun a ha => ?_, fun a b _ _ h => Bool.noConfusion h, fun a k k' ha hk hk' => ?_⟩
  · rw [e]; exact ⟨rfl, Nat.zero_le _, fun k hk => absurd hk (Nat.not_lt_zero _)⟩
  · rw [e] at hk'; exact absurd hk' (Nat.not_lt_zero _)
theorem sc_netinit {c q w N : Nat} {rest : List Value} {K : eb_S → Prop} (hc : eb_isN c) (hq : st q = some (.inr (c, .int 0 :: .int 0 :: .null :: .null :: rest))) (hw : 1 ≤ w) (hw24 : w ≤ 24) (hN : N ≤ 500) (hbc : 2 ≤ bc) (hbs : N * w + N ≤ bs)
    (hK : ∀ st' pj pm, sf [q] st st' → st pj = none → st pm = none → nC Γ st' c q pj pm w N rest (fun _ _ => false) (fun _ => 0) (fun _ => 0) → K st') : MX10_init Γ bc bs st q (nI N) (nI w) K := by
  have hNw : N * w ≤ 500 * 24 := Nat.mul_le_mul hN hw24
  unfold MX10_init
  refine st_np hc hq (by simp) (fun s1 g1 o1 => st_np hc o1 (by simp) (fun s2 g2 o2 => ?_))
  rw [nI_mul, nI_cl (show N * w < 2147483648 by omega), nI_cl (show N < 2147483648 by omega)]
  refine ⟨st_ok1 (by omega), st_mk (by omega) (by omega) (fun pj s3 f3 g3 w3 => ?_)⟩
  have nj : ¬ q = pj := st_ne o2 f3
  refine st_np hc (g3 _ _ o2 List.not_mem_nil) (by simp) (fun s4 g4 o4 => ⟨st_ok1 (by omega), ?_⟩)
  have j4 := g4 _ _ w3 (fun z => nj (List.mem_singleton.mp z).symm)
  refine st_mk (by omega) (by omega) (fun pm s5 f5 g5 w5 => ?_)
  have nm : ¬ q = pm := st_ne o4 f5
  have njm : ¬ pj = pm := st_ne j4 f5
  refine st_np hc (g5 _ _ o4 List.not_mem_nil) (by simp) (fun s6 g6 o6 => ?_)
  have F2 : sf [q] st s2 := g1.tr g2
  have F4 : sf [q] st s4 := fun a e ha hp => g4 _ _ (g3 _ _ (F2 a e ha hp) List.not_mem_nil) hp
  refine hK s6 pj pm (fun a e ha hp => g6 _ _ (g5 _ _ (F4 a e ha hp) List.not_mem_nil) hp) (st_fresh F2 f3 (fun z => nj z.symm)) (st_fresh F4 f5 (fun z => nm z.symm)) ⟨hc, o6, g6 _ _ (g5 _ _ j4 List.not_mem_nil) (fun z => nj (List.mem_singleton.mp z).symm), g6 _ _ w5 (fun z => nm (List.mem_singleton.mp z).symm), nB_none w N, by rw [Nat.mul_comm]; omega, njm, hw⟩
/-- how far all are from one -/
theorem sc_nfar {c q pj pm w N f : Nat} {rest : List Value} {A : Nat → Nat → Bool} {fj fm : Nat → Int32} {K : Option Nat → eb_S → Prop} (h : nC Γ st c q pj pm w N rest A fj fm) (hN : N ≤ 500) (hf : f < N) (hbc : 2 ≤ bc) (hbs : 2 * N ≤ bs)
    (hK : ∀ st' pf ff, sf [] st st' → st pf = none → st' pf = some (eb_ia Γ 0 N ff) → (∀ v, v < N → ff v = oI (fo A N f v)) → (∀ v d, v < N → fo A N f v = some d → d < N) → K (some pf) st') : MX10_far Γ bc bs st q (nI f) K := by
  obtain ⟨c1, c2, c3, c4, c5, c6, c7, c8⟩ := id h
  obtain ⟨nb, n1', n2', n3'⟩ := id c5
  unfold MX10_far
  refine st_ni c1 c2 rfl ?_
  rw [nI_cl (show N < 2147483648 by omega)]
  refine ⟨st_ok1 (by omega), st_mk (by omega) (by omega) (fun pf s1 f1 g1 w1 => ?_)⟩
  refine sp_fill w1 (by omega) (fun s2 ff g2 w2 hff => ?_)
  have S2 : ∀ b y, st b = some y → s2 b = some y := fun b y hy => g2 _ _ (g1 _ _ hy List.not_mem_nil) (fun z => by rw [List.mem_singleton.mp z, f1] at hy; exact absurd hy (by simp))
  refine st_ni c1 (S2 _ _ c2) rfl ?_
  rw [nI_cl (show N < 2147483648 by omega)]
  refine ⟨st_ok1 (by omega), st_mk (by omega) (by omega) (fun pu s3 f3 g3 w3 => ?_)⟩
  have hpu : ¬ pf = pu := st_ne w2 f3
  have fu0 : st pu = none := by
    cases hq : st pu with
    | none => rfl
    | some y => have := S2 _ _ hq; rw [f3] at this; exact absurd this (by simp)
  have S3 : ∀ s, sf [pf, pu] s3 s → ∀ b y, st b = some y → s b = some y := fun s hs b y hy => hs _ _ (g3 _ _ (S2 b y hy) List.not_mem_nil) (fun z => by
    simp only [List.mem_cons, List.not_mem_nil, or_false] at z
    rcases z with z | z
    · rw [z, f1] at hy; exact absurd hy (by simp)
    · rw [z, fu0] at hy; exact absurd hy (by simp))
  have nCs : ∀ s, sf [pf, pu] s3 s → nC Γ s c q pj pm w N rest A fj fm := fun s hs => ⟨c1, S3 s hs _ _ c2, S3 s hs _ _ c3, S3 s hs _ _ c4, c5, c6, c7, c8⟩
  refine st_wi (g3 _ _ w2 List.not_mem_nil) hf (by omega) (fun s4 g4 w4 => ?_)
  refine st_wi (i := 0) (g4 _ _ w3 (fun z => hpu (List.mem_singleton.mp z).symm)) (by omega) (by omega) (fun s5 g5 w5 => ?_)
  have h5 : sf [pf, pu] s3 s5 := (g4.up (by simp)).tr (g5.up (by simp))
  refine jp_1 (fun s => ∃ ff, sf [pf, pu] s3 s ∧ s pf = some (eb_ia Γ 0 N ff) ∧ (∀ v, v < N → ff v = oI (fo A N f v)) ∧ (∀ v d, v < N → fo A N f v = some d → d < N)) ?_ ?_
  · rintro s ⟨ff, z1, z2, z3, z4⟩
    exact hK s pf ff (fun a e ha _ => S3 s z1 a e ha) f1 z2 z3 z4
  · intro k14 hk14
    refine eb_loop3_i (fun u v s => ∃ qq dd n k ff fq, bQ A N f qq dd n k (fun _ => False) ∧ k ≤ n ∧ u = nI n ∧ v = nI k ∧ sf [pf, pu] s3 s ∧ s pf = some (eb_ia Γ 0 N ff) ∧ s pu = some (eb_ia Γ 0 N fq) ∧ (∀ v, v < N → ff v = oI (dd v)) ∧ ∀ j, j < n → fq j = nI (qq j)) (fun _ v _ => 1000 - v.toNatClampNeg) ?_
      ⟨fun _ => f, upo (fun _ => none) f (some 0), 1, 0, _, _, bQ_start hf _ rfl, by omega, rfl, rfl, h5, g5 _ _ w4 (fun z => hpu (List.mem_singleton.mp z)), w5, fun v hv => ?_, fun j hj => ?_⟩
    · rintro R u v s ⟨qq, dd, n, k, ff, fq, hb, hkn, rfl, rfl, hs, hpf, hpq, r1, r2⟩ hR
      have hn := hb.nle
      refine br_le (by omega) (by omega) (fun hle => ?_) (fun hle => ?_)
      · have e : k = n := by omega
        subst e
        exact hk14 s ⟨ff, hs, hpf, fun v hv => by rw [r1 v hv, hb.fin hv], fun v d hv h2 => hb.lt hv (by rw [hb.fin hv]; exact h2)⟩
      · have hqk := hb.on k (by omega)
        refine st_li hpq (by omega) (by omega) ?_
        rw [r2 k (by omega)]
        have na := n1' (qq k) hqk.1
        refine jp_2 (fun u s => ∃ qq dd n ff fq, bQ A N f qq dd n (k + 1) (fun _ => False) ∧ k + 1 ≤ n ∧ u = nI n ∧ sf [pf, pu] s3 s ∧ s pf = some (eb_ia Γ 0 N ff) ∧ s pu = some (eb_ia Γ 0 N fq) ∧ (∀ v, v < N → ff v = oI (dd v)) ∧ ∀ j, j < n → fq j = nI (qq j)) ?_ ?_
        · rintro _ s ⟨qq, dd, n, ff, fq, hb, hkn, rfl, z⟩
          have hn := hb.nle
          rw [nI_1]
          refine hR _ _ _ ⟨qq, dd, n, k + 1, ff, fq, hb, hkn, rfl, rfl, z⟩ ?_
          rw [nI_cl (by omega), nI_cl (by omega)]; omega
        · intro k22 hk22
          generalize hQ : qq k = a0 at *
          have hcl := cnB_le (A a0) N
          refine eb_loop3_i (fun u v s => ∃ qq dd n m ff fq, bQ A N f qq dd n k (fun x => ∃ j, j < m ∧ nb a0 j = x) ∧ qq k = a0 ∧ k < n ∧ m ≤ cnB (A a0) N ∧ u = nI n ∧ v = nI m ∧ sf [pf, pu] s3 s ∧ s pf = some (eb_ia Γ 0 N ff) ∧ s pu = some (eb_ia Γ 0 N fq) ∧ (∀ v, v < N → ff v = oI (dd v)) ∧ ∀ j, j < n → fq j = nI (qq j)) (fun _ v _ => 1000 - v.toNatClampNeg) ?_
            ⟨qq, dd, n, 0, ff, fq, hb.sub (fun x ⟨j, hj, _⟩ => absurd hj (Nat.not_lt_zero _)), hQ, by omega, by omega, rfl, rfl, hs, hpf, hpq, r1, r2⟩
          rintro R2 u v s ⟨qq, dd, n, m, ff, fq, hb, hQ, hkn, hm, rfl, rfl, hs, hpf, hpq, r1, r2⟩ hR2
          have hn := hb.nle
          have hnC := nCs s hs
          refine st_nr c1 hnC.2.1 (v := some pm) rfl (st_nn (st_li hnC.2.2.2.1 hqk.1 (by omega) ?_))
          rw [na.1]
          refine br_le (by omega) (by omega) (fun h2 => ?_) (fun h2 => ⟨hnC.cs, sc_nat hnC hqk.1 (by omega) ?_⟩)
          · refine hk22 _ _ ⟨qq, dd, n, ff, fq, hb.next hkn (fun v hv ha => ?_), by omega, rfl, hs, hpf, hpq, r1, r2⟩
            rw [hQ] at ha
            obtain ⟨j, j1, j2⟩ := n2' a0 v hqk.1 hv ha
            exact ⟨j, by omega, j2⟩
          · obtain ⟨z1, z2, z3⟩ := na.2.2 m (by omega)
            rw [z1]
            refine st_li hpf z2 (by omega) ?_
            rw [r1 _ z2]
            refine jp_2 (fun u s => ∃ qq dd n ff fq, bQ A N f qq dd n k (fun x => ∃ j, j < m + 1 ∧ nb a0 j = x) ∧ qq k = a0 ∧ k < n ∧ u = nI n ∧ sf [pf, pu] s3 s ∧ s pf = some (eb_ia Γ 0 N ff) ∧ s pu = some (eb_ia Γ 0 N fq) ∧ (∀ v, v < N → ff v = oI (dd v)) ∧ ∀ j, j < n → fq j = nI (qq j)) ?_ ?_
            · rintro _ s ⟨qq, dd, n, ff, fq, hb, hQ, hkn, rfl, z⟩
              have hn := hb.nle
              rw [nI_1]
              refine hR2 _ _ _ ⟨qq, dd, n, m + 1, ff, fq, hb, hQ, hkn, by omega, rfl, rfl, z⟩ ?_
              rw [nI_cl (by omega), nI_cl (by omega)]; omega
            · intro k37 hk37
              have step : ∀ x, (∃ j, j < m + 1 ∧ nb a0 j = x) → (∃ j, j < m ∧ nb a0 j = x) ∨ x = nb a0 m := fun x ⟨j, h3, h4⟩ => by
                by_cases e : j = m
                · rw [e] at h4; exact Or.inr h4.symm
                · exact Or.inl ⟨j, by omega, h4⟩
              cases hd : dd (nb a0 m) with
              | some d =>
                obtain ⟨j, hj, hjm⟩ := hb.at' _ d z2 hd
                obtain ⟨-, d', hd1, hd2⟩ := hb.on j hj
                rw [hjm, hd] at hd2
                injection hd2 with hd2
                exact ⟨fun z => absurd z (nI_m1 (by omega)), fun _ => hk37 _ _ ⟨qq, dd, n, ff, fq, (hb.skip (v := nb a0 m) (Or.inr (by rw [hd]; simp)) hkn).sub step, hQ, hkn, rfl, hs, hpf, hpq, r1, r2⟩⟩
              | none =>
                refine ⟨fun _ => ?_, fun z => absurd rfl z⟩
                obtain ⟨d, hd1, hd2⟩ := (hb.on k hkn).2
                obtain ⟨p1, p2, p3⟩ := hb.push z2 (by rw [hQ]; exact z3) hd hkn hd2
                refine st_li hpf hqk.1 (by omega) ?_
                have hd3 := hd2
                rw [hQ] at hd3
                rw [r1 a0 hqk.1, hd3, show oI (some d) = nI d from rfl, nI_1]
                refine st_wi hpf z2 (by omega) (fun s6 g6 w6 => ?_)
                refine st_wi (g6 _ _ hpq (fun z => hpu (List.mem_singleton.mp z).symm)) (by omega) (by omega) (fun s7 g7 w7 => ?_)
                rw [nI_1]
                refine hk37 _ _ ⟨upn qq n (nb a0 m), upo dd (nb a0 m) (some (d + 1)), n + 1, _, _, p3.sub step, by rw [upn_ne (by omega)]; exact hQ, by omega, rfl, (hs.tr (g6.up (by simp))).tr (g7.up (by simp)), g7 _ _ w6 (fun z => hpu (List.mem_singleton.mp z)), w7, fun v hv => ?_, fun j hj => ?_⟩
                · by_cases ev : v = nb a0 m
                  · rw [ev, upd_eq, upo_eq]; rfl
                  · rw [upd_ne ev, upo_ne ev]; exact r1 v hv
                · by_cases ej : j = n
                  · rw [ej, upd_eq, upn_eq]
                  · rw [upd_ne ej, upn_ne ej]; exact r2 j (by omega)
    · by_cases ev : v = f
      · rw [ev, upd_eq, upo_eq]; rfl
      · rw [upd_ne ev, upo_ne ev]; exact hff v hv
    · rw [show j = 0 by omega, upd_eq]
end NT2
