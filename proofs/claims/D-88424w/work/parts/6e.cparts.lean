set_option maxRecDepth 100000
section CPA
variable {Γ : eb_C} {E : cET} {st st' : eb_S} {I I' : Nat → va_E → Prop} {ad : Nat → Nat} {bd : Nat → cBT} {x : cXT} {Ds : Nat → eb_D} {p bc bs : Nat}
/-- a body's four cells -/
def bC (Γ : eb_C) (st : eb_S) (a : Nat → Nat) (d : cBT) : Prop := (∀ j, j < 4 → st (a j) = some (wB Γ a d 0 j)) ∧ ∀ i j, i < 4 → j < 4 → a i = a j → i = j
theorem bC.body {a : Nat → Nat} {d : cBT} {D : eb_D} (h : bC Γ st a d) (hd : d.1.1 = nI D.1 ∧ d.1.2.1 = nI D.2.2 ∧ ∀ k, k < 16 → d.2.2.1 k = nI (D.2.1 k)) : cBd Γ st (a 0) D := by
  refine ⟨_, a 1, d.2.2.1, h.1 0 (by omega), ?_, rfl, ?_, h.1 1 (by omega), hd.2.2⟩
  · rw [← hd.1]; rfl
  · rw [← hd.2.1]; rfl
/-- the row of a kind's parts, made or made before -/
theorem sc_parts {a : Nat → Nat} {d : cBT} {D : eb_D} {gp s : Nat} {K : Option Nat → eb_S → Prop} (h : bC Γ st a d) (hv : vD D) (hd : d.1.1 = nI D.1 ∧ d.1.2.1 = nI D.2.2 ∧ ∀ k, k < 16 → d.2.2.1 k = nI (D.2.1 k)) (hg : d.2.1.1 = some gp) (hC : cGr Γ I gp (TD D)) (hI : ∀ x y, I x y → st x = some y) (hz : ¬ ZD D = 0) (hs : s < 2 ^ D.1)
    (hroom : ¬ d.2.2.2.1 s = none ∨ (2 ≤ bc ∧ 1000 ≤ bs)) (h1 : ∀ q, d.2.2.2.1 s = some q → K (some q) st)
    (h2 : d.2.2.2.1 s = none → ∀ st' q f, sf [a 2, a 3] st st' → st' (a 2) = some (eb_ra Γ 6 16 (va_up d.2.2.2.1 s (some q))) → st' (a 3) = some (eb_ia Γ 0 16 (upd d.2.2.2.2 s (nI (NP D s)))) → st q = none → st' q = some (eb_ia Γ 3 (ZD D) f) → (∀ h, h < ZD D → f h = nI (PN D s h)) → K (some q) st') : MX1_parts Γ bc bs st (a 0) (nI s) K := by
  have hr := hv.1
  have hzl := ZD_le hv
  have h16 : 2 ^ D.1 ≤ 2 ^ 4 := Nat.pow_le_pow_right (by omega) hr.2
  obtain ⟨hG, he1, he2, he3⟩ := TD_ok hv hz
  have ht := TD_tfo hv hz
  have hB := h.body hd
  have c0 := h.1 0 (by omega)
  have c2 := h.1 2 (by omega)
  have c3 := h.1 3 (by omega)
  unfold MX1_parts
  refine st_gr c0 (v := some (a 2)) rfl (st_nn (st_lr c2 (by omega) (by omega) ?_))
  cases hq : d.2.2.2.1 s with
  | some q =>
    refine jp_3 (fun g _ _ => g = st) (fun g _ _ hg' => ?_) (fun k hk => ⟨fun z => absurd z (by simp), fun _ _ => hk _ _ _ rfl⟩)
    rw [hg']
    refine st_gr c0 (v := some (a 2)) rfl (st_nn (st_lr c2 (by omega) (by omega) ?_))
    rw [hq]
    exact h1 q hq
  | none =>
    have hrm : 2 ≤ bc ∧ 1000 ≤ bs := hroom.resolve_left (fun z => z hq)
    have h2' := h2 hq
    refine jp_3 (fun g _ _ => ∃ q f, sf [a 2, a 3] st g ∧ g (a 2) = some (eb_ra Γ 6 16 (va_up d.2.2.2.1 s (some q))) ∧ g (a 3) = some (eb_ia Γ 0 16 (upd d.2.2.2.2 s (nI (NP D s)))) ∧ st q = none ∧ g q = some (eb_ia Γ 3 (ZD D) f) ∧ ∀ h, h < ZD D → f h = nI (PN D s h)) ?_ ?_
    · rintro g _ _ ⟨q, f, z1, z2, z3, z4, z5, z6⟩
      have g0 := z1 _ _ c0 (fun z => by
        simp only [List.mem_cons, List.not_mem_nil, or_false] at z
        rcases z with z | z
        · have := h.2 0 2 (by omega) (by omega) z; omega
        · have := h.2 0 3 (by omega) (by omega) z; omega)
      refine st_gr g0 (v := some (a 2)) rfl (st_nn (st_lr z2 (by omega) (by omega) ?_))
      rw [vu_eq]
      exact h2' g q f z1 z2 z3 z4 z5 z6
    · intro k10 hk10
      refine ⟨fun _ => ⟨hB.cs, sc_stay hv hB hs ?_⟩, fun _ z => absurd z (by simp)⟩
      have hg0 : ∀ {K : Option Nat → Prop}, K (some gp) → eb_gr st (a 0) 1 3 K := fun hK => st_gr c0 (v := some gp) (by rw [← hg]; rfl) hK
      refine hg0 (st_nn (hC.n hI ?_))
      rw [he3, nI_cl (show ZD D < 2147483648 by omega)]
      refine ⟨st_ok1 (by omega), st_mk (by omega) (by omega) (fun pr s1 f1 g1 w1 => ?_)⟩
      refine sp_fill3 w1 (by omega) (fun s2 fr0 g2 w2 hfr => ?_)
      have nr : ∀ {b : Nat} {y : va_E}, st b = some y → b ∉ [pr] := fun hy z => by rw [List.mem_singleton.mp z, f1] at hy; exact absurd hy (by simp)
      have S2 : ∀ b y, st b = some y → s2 b = some y := fun b y hy => g2 _ _ (g1 _ _ hy List.not_mem_nil) (nr hy)
      have hg2 : ∀ {K : Option Nat → Prop}, K (some gp) → eb_gr s2 (a 0) 1 3 K := fun hK => st_gr (S2 _ _ c0) (v := some gp) (by rw [← hg]; rfl) hK
      refine hg2 (st_nn (hC.n (fun x y hy => S2 _ _ (hI x y hy)) ?_))
      rw [he3, nI_cl (show ZD D < 2147483648 by omega)]
      refine ⟨st_ok1 (by omega), st_mk (by omega) (by omega) (fun pu s3 f3 g3 w3 => ?_)⟩
      have hpu : ¬ pr = pu := st_ne w2 f3
      have fu0 : st pu = none := by
        cases hq : st pu with
        | none => rfl
        | some y => have := S2 _ _ hq; rw [f3] at this; exact absurd this (by simp)
      have S3 : ∀ s, sf [pr, pu] s3 s → ∀ b y, st b = some y → s b = some y := fun s hs b y hy => hs _ _ (g3 _ _ (S2 b y hy) List.not_mem_nil) (fun z => by
        simp only [List.mem_cons, List.not_mem_nil, or_false] at z
        rcases z with z | z
        · rw [z, f1] at hy; exact absurd hy (by simp)
        · rw [z, fu0] at hy; exact absurd hy (by simp))
      have w2' := g3 _ _ w2 List.not_mem_nil
      generalize hSS : inS (stay D s) = S at *
      have hnn : vp_nar .short (-1) = -1 := nar_sm
      have hst16 : stay D s < 16 := mk_orl s (by omega) _ (still_lt _ _ _ _ _ hr.2)
      have hPNp : ∀ h, PN D s h = prt D.1 (Tto (TD D)) S h := fun h => by unfold PN; rw [hSS]
      have hNPp : NP D s = pcnt D.1 (Tto (TD D)) S (ZD D) := by unfold NP; rw [hSS]
      have hpl : ∀ m, pcnt D.1 (Tto (TD D)) S m ≤ m := fun m => pcnt_le m
      refine jp_2 (fun y s => ∃ fr fq, y = nI (pcnt D.1 (Tto (TD D)) S (ZD D)) ∧ sf [pr, pu] s3 s ∧ s pr = some (eb_ia Γ 3 (ZD D) fr) ∧ s pu = some (eb_ia Γ 0 (ZD D) fq) ∧ pO (ZD D) D.1 (Tto (TD D)) S (ZD D) fr) ?_ ?_
      · rintro _ s4 ⟨fr, fq, rfl, hs4, hr4, hu4, hO⟩
        have T4 := S3 s4 hs4
        refine st_gr (T4 _ _ c0) (v := some (a 2)) rfl (st_nn ⟨⟨_, hr4⟩, st_wr (T4 _ _ c2) (by omega) (by omega) (fun s5 g5 w5 => ?_)⟩)
        have n02 : ¬ a 0 = a 2 := fun z => by have := h.2 0 2 (by omega) (by omega) z; omega
        have n32 : ¬ a 3 = a 2 := fun z => by have := h.2 3 2 (by omega) (by omega) z; omega
        have n03 : ¬ a 0 = a 3 := fun z => by have := h.2 0 3 (by omega) (by omega) z; omega
        have c0' := g5 _ _ (T4 _ _ c0) (fun z => n02 (List.mem_singleton.mp z))
        have c3' := g5 _ _ (T4 _ _ c3) (fun z => n32 (List.mem_singleton.mp z))
        refine st_gr c0' (v := some (a 3)) rfl (st_nn (st_wi c3' (by omega) (by omega) (fun s6 g6 w6 => ?_)))
        have prn : ∀ j, j < 4 → ¬ pr = a j := fun j hj z => by have := h.1 j hj; rw [← z, f1] at this; exact absurd this (by simp)
        refine hk10 _ _ _ ⟨pr, fr, fun b y hb hw => ?_, ?_, by rw [hNPp]; exact w6, f1, ?_, fun h hh => by rw [hPNp]; exact pO_end hO hh⟩
        · simp only [List.mem_cons, List.not_mem_nil, or_false] at hw
          exact g6 _ _ (g5 _ _ (T4 b y hb) (fun z => hw (Or.inl (List.mem_singleton.mp z)))) (fun z => hw (Or.inr (List.mem_singleton.mp z)))
        · exact g6 _ _ w5 (fun z => n32 (List.mem_singleton.mp z).symm)
        · exact g6 _ _ (g5 _ _ hr4 (fun z => prn 2 (by omega) (List.mem_singleton.mp z))) (fun z => prn 3 (by omega) (List.mem_singleton.mp z))
      · intro k38 hk38
        refine eb_loop3_i (fun y z s => ∃ m fr fq, m ≤ ZD D ∧ y = nI (pcnt D.1 (Tto (TD D)) S m) ∧ z = nI m ∧ sf [pr, pu] s3 s ∧ s pr = some (eb_ia Γ 3 (ZD D) fr) ∧ s pu = some (eb_ia Γ 0 (ZD D) fq) ∧ pO (ZD D) D.1 (Tto (TD D)) S m fr) (fun _ z _ => 1000 - z.toNatClampNeg) ?_
          ⟨0, fr0, _, by omega, rfl, rfl, sf.rf _ _, w2', w3, pO_start (fun h hh => by rw [hfr h hh, hnn])⟩
        rintro R y z s4 ⟨m, fr, fq, hm, rfl, rfl, hs4, hr4, hu4, hO⟩ hR
        have T4 := S3 s4 hs4
        have hpm := hpl m
        refine st_gr (T4 _ _ c0) (v := some gp) (by rw [← hg]; rfl) (st_nn (hC.n (fun x y hy => T4 _ _ (hI x y hy)) ?_))
        rw [he3]
        refine br_le (by omega) (by omega) (fun h3 => ?_) (fun h3 => ?_)
        · have e : m = ZD D := by omega
          subst e
          exact hk38 _ _ ⟨fr, fq, rfl, hs4, hr4, hu4, hO⟩
        · have hmn : m < ZD D := by omega
          refine st_li hr4 hmn (by omega) ?_
          refine jp_2 (fun y s => ∃ fr fq, y = nI (pcnt D.1 (Tto (TD D)) S (m + 1)) ∧ sf [pr, pu] s3 s ∧ s pr = some (eb_ia Γ 3 (ZD D) fr) ∧ s pu = some (eb_ia Γ 0 (ZD D) fq) ∧ pO (ZD D) D.1 (Tto (TD D)) S (m + 1) fr) ?_ ?_
          · rintro _ s5 ⟨fr, fq, rfl, a1, a2, a3, a4⟩
            rw [nI_1]
            refine hR _ _ _ ⟨m + 1, fr, fq, by omega, rfl, rfl, a1, a2, a3, a4⟩ ?_
            rw [nI_cl (by omega), nI_cl (by omega)]; omega
          · intro k49 hk49
            refine ⟨fun hm1 => ?_, fun hm1 => ?_⟩
            · rw [nar_sh _ (by omega)]
              refine st_wi hr4 hmn (by omega) (fun s5 g5 w5 => ?_)
              have hu5 := g5 _ _ hu4 (fun z => hpu (List.mem_singleton.mp z).symm)
              refine st_wi (i := 0) hu5 (by omega) (by omega) (fun s6 g6 w6 => ?_)
              have hr6 := g6 _ _ w5 (fun z => hpu (List.mem_singleton.mp z))
              have hs6 : sf [pr, pu] s3 s6 := (hs4.tr (g5.up (by simp))).tr (g6.up (by simp))
              refine jp_1 (fun s => ∃ fr fq, sf [pr, pu] s3 s ∧ s pr = some (eb_ia Γ 3 (ZD D) fr) ∧ s pu = some (eb_ia Γ 0 (ZD D) fq) ∧ pO (ZD D) D.1 (Tto (TD D)) S (m + 1) fr ∧ pcnt D.1 (Tto (TD D)) S (m + 1) = pcnt D.1 (Tto (TD D)) S m + 1) ?_ ?_
              · rintro s7 ⟨fr', fq', a1, a2, a3, a4, a5⟩
                rw [nI_1, ← a5]
                exact hk49 _ _ ⟨fr', fq', rfl, a1, a2, a3, a4⟩
              · intro k53 hk53
                refine eb_loop3_i (fun x4 x5 s => ∃ e kk fr' fq', kk ≤ e ∧ e ≤ ZD D ∧ x4 = nI e ∧ x5 = nI kk ∧ sf [pr, pu] s3 s ∧ s pr = some (eb_ia Γ 3 (ZD D) fr') ∧ s pu = some (eb_ia Γ 0 (ZD D) fq') ∧ pJ (ZD D) D.1 (Tto (TD D)) S m fr fr' fq' e kk 0) (fun _ x5 _ => 1000 - x5.toNatClampNeg) ?_
                  ⟨1, 0, _, _, by omega, by omega, rfl, rfl, hs6, hr6, w6, pJ_start ht hO hmn (by omega) hm1⟩
                rintro R2 x4 x5 s7 ⟨e, kk, fr', fq', hke, hen, rfl, rfl, hs7, hr7, hu7, hJ⟩ hR2
                refine br_le (by omega) (by omega) (fun h4 => ?_) (fun h4 => ?_)
                · have hkk : kk = e := by omega
                  subst hkk
                  obtain ⟨c1, c2⟩ := pJ_end ht hO hmn (by omega) hm1 hJ
                  exact hk53 s7 ⟨fr', fq', hs7, hr7, hu7, c1, c2⟩
                · obtain ⟨q, hq, hqk, hqc, -⟩ := hJ.2.1 kk (by omega)
                  refine jp_2 (fun x4 s => ∃ e' fr' fq', e ≤ e' ∧ e' ≤ ZD D ∧ x4 = nI e' ∧ sf [pr, pu] s3 s ∧ s pr = some (eb_ia Γ 3 (ZD D) fr') ∧ s pu = some (eb_ia Γ 0 (ZD D) fq') ∧ pJ (ZD D) D.1 (Tto (TD D)) S m fr fr' fq' e' (kk + 1) 0) ?_ ?_
                  · rintro _ s8 ⟨e', fr', fq', d0, d1, rfl, d2, d3, d4, d5⟩
                    rw [nI_1]
                    refine hR2 _ _ _ ⟨e', kk + 1, fr', fq', by omega, d1, rfl, rfl, d2, d3, d4, d5⟩ ?_
                    rw [nI_cl (by omega), nI_cl (by omega)]; omega
                  · intro k60 hk60
                    refine eb_loop3_i (fun x4 x6 s => ∃ e' i fr' fq', e ≤ e' ∧ e' ≤ ZD D ∧ i ≤ D.1 ∧ x4 = nI e' ∧ x6 = nI i ∧ sf [pr, pu] s3 s ∧ s pr = some (eb_ia Γ 3 (ZD D) fr') ∧ s pu = some (eb_ia Γ 0 (ZD D) fq') ∧ fq' kk = nI q ∧ pJ (ZD D) D.1 (Tto (TD D)) S m fr fr' fq' e' kk i) (fun _ x6 _ => 10 - x6.toNatClampNeg) ?_
                      ⟨e, 0, fr', fq', Nat.le_refl _, hen, by omega, rfl, rfl, hs7, hr7, hu7, hqk, hJ⟩
                    rintro R3 x4 x6 s8 ⟨e', i, fr', fq', de, den, di, rfl, rfl, df, dr, du, dq, dJ⟩ hR3
                    have T8 := S3 s8 df
                    have hB8 : cBd Γ s8 (a 0) D := by
                      refine ⟨_, a 1, d.2.2.1, T8 _ _ c0, ?_, rfl, ?_, T8 _ _ (h.1 1 (by omega)), hd.2.2⟩
                      · rw [← hd.1]; rfl
                      · rw [← hd.2.1]; rfl
                    refine hB8.r ?_
                    refine br_le (by omega) (by omega) (fun h5 => ?_) (fun h5 => ?_)
                    · have hir : i = D.1 := by omega
                      subst hir
                      exact hk60 _ _ ⟨e', fr', fq', de, den, rfl, df, dr, du, pJ_next dJ⟩
                    · have hi : i < D.1 := by omega
                      have hlt := (ht q i hq hi).1
                      refine st_gr (T8 _ _ c0) (v := some gp) (by rw [← hg]; rfl) (st_li du (by omega) (by omega) (st_nn ?_))
                      rw [dq]
                      refine ⟨hC.cs (fun x y hy => T8 _ _ (hI x y hy)), sc_by hG hC (fun x y hy => T8 _ _ (hI x y hy)) (by omega) (by omega) ?_⟩
                      refine jp_2 (fun x4 s => ∃ e2 fr' fq', e ≤ e2 ∧ e2 ≤ ZD D ∧ x4 = nI e2 ∧ sf [pr, pu] s3 s ∧ s pr = some (eb_ia Γ 3 (ZD D) fr') ∧ s pu = some (eb_ia Γ 0 (ZD D) fq') ∧ fq' kk = nI q ∧ pJ (ZD D) D.1 (Tto (TD D)) S m fr fr' fq' e2 kk (i + 1)) ?_ ?_
                      · rintro _ s9 ⟨e2, fr', fq', z0, z1, rfl, z2, z3, z4, z5, z6⟩
                        rw [nI_1]
                        refine hR3 _ _ _ ⟨e2, i + 1, fr', fq', z0, z1, by omega, rfl, rfl, z2, z3, z4, z5, z6⟩ ?_
                        rw [nI_cl (by omega), nI_cl (by omega)]; omega
                      · intro k75 hk75
                        have noS : ¬ S i = true → k75 (nI e') s8 := fun z => hk75 _ _ ⟨e', fr', fq', de, den, rfl, df, dr, du, dq, pJ_skip ht (by omega) dJ (by omega) hi hq dq (fun w => absurd w z)⟩
                        rw [show eb_shr (nI (stay D s)) (nI i) &&& 1 = nI (bt (stay D s) i) from mk_bit _ hst16 _ (by omega)]
                        have eSi : S i = Nat.beq (bt (stay D s) i) 1 := by rw [← hSS]; rfl
                        refine br_eq (b := 1) (Nat.lt_trans (bt_lt _ _) (by decide)) (by decide) (fun h6 => ?_) (fun h6 => noS (by rw [eSi, nbF h6]; decide))
                        have hSi : S i = true := by rw [eSi]; exact nbT h6
                        refine st_li dr (by omega) (by omega) ⟨fun h7 => ?_, fun h7 => ?_⟩
                        · obtain ⟨p1, p2⟩ := pJ_push ht (by omega) hmn dJ (by omega) hi hq dq hSi h7
                          refine st_wi dr (by omega) (by omega) (fun s9 g9 w9 => ?_)
                          refine st_wi (g9 _ _ du (fun z => hpu (List.mem_singleton.mp z).symm)) (by omega) (by omega) (fun s10 g10 w10 => ?_)
                          rw [nI_1]
                          refine hk75 _ _ ⟨e' + 1, _, _, by omega, by omega, rfl, (df.tr (g9.up (by simp))).tr (g10.up (by simp)), g10 _ _ w9 (fun z => hpu (List.mem_singleton.mp z)), w10, ?_, p2⟩
                          by_cases ek : kk = e'
                          · omega
                          · rw [upd_ne ek]; exact dq
                        · exact hk75 _ _ ⟨e', fr', fq', de, den, rfl, df, dr, du, dq, pJ_skip ht (by omega) dJ (by omega) hi hq dq (fun _ => h7)⟩
            · obtain ⟨c1, c2⟩ := pO_skip ht hO hmn hm1
              refine hk49 _ _ ⟨fr, fq, by rw [c2], hs4, hr4, hu4, c1⟩
end CPA
