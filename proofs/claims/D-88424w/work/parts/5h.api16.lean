set_option maxRecDepth 100000
theorem bQ.sub {A : Nat → Nat → Bool} {N f : Nat} {q : Nat → Nat} {dd : Nat → Option Nat} {n k : Nat} {S S' : Nat → Prop} (h : bQ A N f q dd n k S) (hS : ∀ w, S' w → S w) : bQ A N f q dd n k S' := ⟨h.on, h.at', h.un, h.mono, h.near, h.start, h.zero, h.back, h.done, fun d w hs => h.scan d w (hS w hs)⟩
/-- corners that are joined -/
def jnP (D : eb_D) (g i c d : Nat) : Prop := i < D.1 ∧ bt D.2.2 i = 1 ∧ PN D 0 g = c ∧ PN D 0 (Tto (TD D) g i) = d
noncomputable def jnd (D : eb_D) (c d : Nat) : Bool := @decide (∃ g i, g < ZD D ∧ jnP D g i c d) (Classical.propDecidable _)
theorem jnd_iff {D : eb_D} {c d : Nat} : jnd D c d = true ↔ ∃ g i, g < ZD D ∧ jnP D g i c d := by unfold jnd; exact @decide_eq_true_iff _ (Classical.propDecidable _)
/-- the model's marks of joins -/
def mN (σ : eb_MS) (N : Nat) (A : Nat → Nat → Bool) : Prop := ∀ c d, c < N → d < N → σ.2.1 26 (500 * c + d) = nI (b1 (A c d))
def twP (P : Prop) (v : Int32) : Prop := (P ∧ v = nI 1) ∨ (¬ P ∧ v = nI 0)
theorem twP.cg {P Q : Prop} {v : Int32} (h : twP P v) (e : P ↔ Q) : twP Q v := h.imp (fun z => ⟨e.mp z.1, z.2⟩) (fun z => ⟨fun y => z.1 (e.mpr y), z.2⟩)
section API16
variable {σ : eb_MS} {Ds : Nat → eb_D}
theorem mN.fr {S : List Nat} {σ σ' : eb_MS} {N : Nat} {A : Nat → Nat → Bool} (h : mN σ N A) (hf : fr S σ σ') (hS : 26 ∉ S) : mN σ' N A := fun c d hc hd => by rw [hf.2.1 26 hS]; exact h c d hc hd
theorem sp_clearsJ {k19 : eb_MS → Prop} (hK : ∀ t, fr [26] σ t → (∀ k, k < 250000 → t.2.1 26 k = nI 0) → k19 t) :
    eb_loop2 (fun r22 (x1_20 : Int32) (g21 : eb_MS) => eb_br (250000 ≤ x1_20) (k19 g21) (ms_wr g21 26 250000 x1_20 (vp_nar .boolean 0) (fun g23 => r22 (x1_20 + 1) g23))) 0 σ := by
  refine eb_loop2_i (fun x s => ∃ m, m ≤ 250000 ∧ x = nI m ∧ fr [26] σ s ∧ ∀ k, k < m → s.2.1 26 k = nI 0) (fun x _ => 300000 - x.toNatClampNeg) ?_ ⟨0, by omega, rfl, fr_rf _ _, fun k hk => absurd hk (Nat.not_lt_zero _)⟩
  rintro R x s ⟨m, hm, rfl, hf, hrow⟩ hR
  refine br_le (a := 250000) (by omega) (by omega) (fun h => ?_) (fun h => ?_)
  · exact hK s hf (fun k hk => hrow k (by omega))
  · rw [ms_wr_iff, nI_cl (by omega), nar_b0]
    refine ⟨vp_inN (by omega) (by omega), ?_⟩
    refine hR _ _ ⟨m + 1, by omega, by rw [nI_1], hf.pa (by decide), fun k hk => ?_⟩ ?_
    · rw [ms_pa_eq]
      by_cases ek : k = m
      · rw [ek, upd_eq]
      · rw [upd_ne ek]; exact hrow k (by omega)
    · rw [nI_1, nI_cl (by omega), nI_cl (by omega)]; omega
theorem sp_joins {b : Nat} {K : eb_MS → Prop} (hI : mI σ Ds) (hb : b < 4) (hz : ¬ ZD (Ds b) = 0) (hL : mL σ b (Ds b)) (hK : ∀ t, fr [26] σ t → mI t Ds → mL t b (Ds b) → mN t (NP (Ds b) 0) (jnd (Ds b)) → K t) : MX2_joins σ K := by
  have hv := (hI.1 b hb).1
  have hr := hv.1
  have hring := hv.ring
  have hzl := ZD_le hv
  have hn0 := NP_le (Ds b) 0
  obtain ⟨hG, hE, he3, he1⟩ := hL.E hv hz
  have hto := TD_tfo hv hz
  have e15 : ∀ m, m < ZD (Ds b) → σ.2.1 15 m = nI (PN (Ds b) 0 m) := fun m hm => (hL.2.2.2.2 hz).2.2.2.2.1 m hm
  unfold MX2_joins
  refine jp_1 (fun t => fr [26] σ t ∧ ∀ k, k < 250000 → t.2.1 26 k = nI 0) ?_ (fun k hk => sp_clearsJ (fun t ft r => hk t ⟨ft, r⟩))
  rintro t ⟨ft, r0⟩
  refine eb_loop2_i (fun x s => ∃ m, m ≤ ZD (Ds b) ∧ x = nI m ∧ fr [26] σ s ∧ ∀ c d, c < 500 → d < 500 → twP (∃ g i, g < m ∧ jnP (Ds b) g i c d) (s.2.1 26 (500 * c + d))) (fun x _ => 1000 - x.toNatClampNeg) ?_
    ⟨0, by omega, rfl, ft, fun c d hc hd => Or.inr ⟨fun ⟨g, i, z, _⟩ => absurd z (Nat.not_lt_zero _), r0 _ (by omega)⟩⟩
  rintro R x s ⟨m, hm, rfl, fs, hrow⟩ hR
  rw [fs.1 8 (by decide), hL.2.2.2.1]
  refine br_le (by omega) (by omega) (fun h => ?_) (fun h => ?_)
  · have e : m = ZD (Ds b) := by omega
    subst e
    refine hK s fs (hI.fr fs (by decide)) (hL.fr fs (by decide)) (fun c d hc hd => ?_)
    rcases hrow c d (by omega) (by omega) with ⟨h1, h2⟩ | ⟨h1, h2⟩
    · rw [h2, jnd_iff.mpr h1]; rfl
    · have : jnd (Ds b) c d = false := by
        cases e : jnd (Ds b) c d with
        | false => rfl
        | true => exact absurd (jnd_iff.mp e) h1
      rw [h2, this]; rfl
  · refine jp_1 (fun s' => fr [26] σ s' ∧ ∀ c d, c < 500 → d < 500 → twP (∃ g i, g < m + 1 ∧ jnP (Ds b) g i c d) (s'.2.1 26 (500 * c + d))) ?_ ?_
    · rintro s' ⟨fs', hrow'⟩
      rw [nI_1]
      refine hR _ _ ⟨m + 1, by omega, rfl, fs', hrow'⟩ ?_
      rw [nI_cl (by omega), nI_cl (by omega)]; omega
    · intro k hk
      refine eb_loop2_i (fun x s' => ∃ i, i ≤ (Ds b).1 ∧ x = nI i ∧ fr [26] σ s' ∧ ∀ c d, c < 500 → d < 500 → twP (∃ g j, (g < m ∨ g = m ∧ j < i) ∧ jnP (Ds b) g j c d) (s'.2.1 26 (500 * c + d))) (fun x _ => 20 - x.toNatClampNeg) ?_
        ⟨0, by omega, rfl, fs, fun c d hc hd => (hrow c d hc hd).cg ⟨fun ⟨g, j, z1, z2⟩ => ⟨g, j, Or.inl z1, z2⟩, fun ⟨g, j, z1, z2⟩ => ⟨g, j, by omega, z2⟩⟩⟩
      rintro R' x s' ⟨i, hi, rfl, fs', hrow'⟩ hR'
      rw [fs'.1 6 (by decide), hL.2.1]
      refine br_le (by omega) (by omega) (fun h2 => ?_) (fun h2 => ?_)
      · refine hk s' ⟨fs', fun c d hc hd => (hrow' c d hc hd).cg ⟨fun ⟨g, j, z1, z2⟩ => ⟨g, j, by omega, z2⟩, fun ⟨g, j, z1, z2⟩ => ⟨g, j, by have := z2.1; omega, z2⟩⟩⟩
      · refine jp_1 (fun s2 => fr [26] σ s2 ∧ ∀ c d, c < 500 → d < 500 → twP (∃ g j, (g < m ∨ g = m ∧ j < i + 1) ∧ jnP (Ds b) g j c d) (s2.2.1 26 (500 * c + d))) ?_ ?_
        · rintro s2 ⟨f2, hrow2⟩
          rw [nI_1]
          refine hR' _ _ ⟨i + 1, by omega, rfl, f2, hrow2⟩ ?_
          rw [nI_cl (by omega), nI_cl (by omega)]; omega
        · intro k2 hk2
          rw [fs'.1 7 (by decide), hL.2.2.1, show eb_shr (nI (Ds b).2.2) (nI i) &&& 1 = nI (bt (Ds b).2.2 i) from mk_bit _ hring _ (by omega)]
          have hbt := bt_lt (Ds b).2.2 i
          refine br_eq (b := 1) (by omega) (by omega) (fun h3 => ?_) (fun h3 => ?_)
          · have ht := (hto m i (by omega) (by omega)).1
            have p1 := PN_lt (Ds b) 0 (show m < ZD (Ds b) by omega)
            have p2 := PN_lt (Ds b) 0 ht
            rw [eb_rd_iff, nI_cl (by omega), fs'.2.1 15 (by decide), e15 m (by omega)]
            refine ⟨vp_inN (by omega) (by omega), ?_⟩
            rw [show (4 : Int32) * nI m = nI (4 * m) from nI_mul 4 m, nI_add, eb_rd_iff, nI_cl (by omega), fs'.2.1 11 (by decide), hE.1 m i (by omega) (by omega)]
            refine ⟨vp_inN (by omega) (by omega), ?_⟩
            rw [eb_rd_iff, nI_cl (by omega), e15 _ (by omega)]
            refine ⟨vp_inN (by omega) (by omega), ?_⟩
            rw [show (500 : Int32) * nI (PN (Ds b) 0 m) = nI (500 * PN (Ds b) 0 m) from nI_mul 500 _, nI_add, ms_wr_iff, nI_cl (by omega), nar_b1]
            refine ⟨vp_inN (by omega) (by omega), ?_⟩
            refine hk2 _ ⟨fs'.pa (by decide), fun c d hc hd => ?_⟩
            rw [ms_pa_eq]
            by_cases ec : 500 * c + d = 500 * PN (Ds b) 0 m + PN (Ds b) 0 (Tto (TD (Ds b)) m i)
            · have e1 : c = PN (Ds b) 0 m := by omega
              have e2 : d = PN (Ds b) 0 (Tto (TD (Ds b)) m i) := by omega
              rw [ec, upd_eq]
              exact Or.inl ⟨⟨m, i, Or.inr ⟨rfl, by omega⟩, by omega, h3, e1.symm, e2.symm⟩, rfl⟩
            · rw [upd_ne ec]
              refine (hrow' c d hc hd).cg ⟨fun ⟨g, j, z1, z2⟩ => ⟨g, j, by omega, z2⟩, fun ⟨g, j, z1, z2⟩ => ⟨g, j, ?_, z2⟩⟩
              rcases z1 with z1 | ⟨z1, z3⟩
              · exact Or.inl z1
              · right
                refine ⟨z1, ?_⟩
                by_cases ej : j = i
                · exfalso
                  rw [z1, ej] at z2
                  exact ec (by rw [← z2.2.2.1, ← z2.2.2.2])
                · omega
          · refine hk2 _ ⟨fs', fun c d hc hd => (hrow' c d hc hd).cg ⟨fun ⟨g, j, z1, z2⟩ => ⟨g, j, by omega, z2⟩, fun ⟨g, j, z1, z2⟩ => ⟨g, j, ?_, z2⟩⟩⟩
            rcases z1 with z1 | ⟨z1, z3⟩
            · exact Or.inl z1
            · right
              refine ⟨z1, ?_⟩
              by_cases ej : j = i
              · exfalso
                rw [ej] at z2
                exact h3 z2.2.1
              · omega
theorem sp_degreeOf {N c : Nat} {A : Nat → Nat → Bool} {K : Int32 → Prop} (hN : N ≤ 500) (hA : mN σ N A) (hc : c < N) (hK : K (nI (cnB (A c) N))) : MX2_degreeOf σ (nI c) (nI N) K := by
  unfold MX2_degreeOf
  refine eb_loop2_i (fun x y => ∃ m, m ≤ N ∧ x = nI (cnB (A c) m) ∧ y = nI m) (fun _ y => 1000 - y.toNatClampNeg) ?_ ⟨0, by omega, rfl, rfl⟩
  rintro R x y ⟨m, hm, rfl, rfl⟩ hR
  refine br_le (by omega) (by omega) (fun h => ?_) (fun h => ?_)
  · rw [show m = N by omega]; exact hK
  · rw [show (500 : Int32) * nI c = nI (500 * c) from nI_mul 500 c, nI_add, eb_rd_iff, nI_cl (by omega), hA c m hc (by omega)]
    refine ⟨vp_inN (by omega) (by omega), ?_⟩
    refine jp_1 (fun v => v = nI (b1 (A c m))) ?_ ?_
    · rintro _ rfl
      rw [nI_add, nI_1]
      refine hR _ _ ⟨m + 1, by omega, rfl, rfl⟩ ?_
      rw [nI_cl (by omega), nI_cl (by omega)]; omega
    · intro k hk
      cases e : A c m with
      | true => exact ⟨fun z => absurd z (by decide), fun _ => hk _ (by rw [e]; rfl)⟩
      | false => exact ⟨fun _ => hk _ (by rw [e]; rfl), fun z => absurd rfl z⟩
theorem sp_walks {N f : Nat} {A : Nat → Nat → Bool} {K : eb_MS → Prop} (hN : N ≤ 500) (hA : mN σ N A) (hf : f < N)
    (hK : ∀ t, fr [21, 22] σ t → (∀ v, v < N → t.2.1 22 v = oI (fo A N f v)) → (∀ v d, v < N → fo A N f v = some d → d < N) → K t) : MX2_walks σ (nI f) (nI N) K := by
  unfold MX2_walks
  refine jp_1 (fun t => fr [21, 22] σ t ∧ ∀ v, v < N → t.2.1 22 v = -1) ?_ ?_
  · rintro t ⟨ft, r0⟩
    rw [ms_wr_iff, nI_cl (by omega)]
    refine ⟨vp_inN (by omega) (by omega), ?_⟩
    rw [ms_wr_iff, show (0 : Int32).toNatClampNeg = 0 from rfl]
    refine ⟨vp_inN (i := 0) (by omega) (by omega), ?_⟩
    refine eb_loop3_i (fun x y s => ∃ q dd n k, bQ A N f q dd n k (fun _ => False) ∧ k ≤ n ∧ x = nI n ∧ y = nI k ∧ fr [21, 22] σ s ∧ (∀ v, v < N → s.2.1 22 v = oI (dd v)) ∧ ∀ j, j < n → s.2.1 21 j = nI (q j)) (fun _ y _ => 1000 - y.toNatClampNeg) ?_
      ⟨fun _ => f, upo (fun _ => none) f (some 0), 1, 0, bQ_start hf _ rfl, by omega, rfl, rfl, (ft.pa (by decide)).pa (by decide), fun v hv => ?_, fun j hj => ?_⟩
    · rintro R x y s ⟨q, dd, n, k, hb, hkn, rfl, rfl, fs, r22, r21⟩ hR
      have hn := hb.nle
      refine br_le (by omega) (by omega) (fun h => ?_) (fun h => ?_)
      · have e : k = n := by omega
        subst e
        refine hK s fs (fun v hv => by rw [r22 v hv, hb.fin hv]) (fun v d hv h2 => hb.lt hv (by rw [hb.fin hv]; exact h2))
      · have hqk := hb.on k (by omega)
        refine jp_2 (fun x s => ∃ q dd n, bQ A N f q dd n (k + 1) (fun _ => False) ∧ k + 1 ≤ n ∧ x = nI n ∧ fr [21, 22] σ s ∧ (∀ v, v < N → s.2.1 22 v = oI (dd v)) ∧ ∀ j, j < n → s.2.1 21 j = nI (q j)) ?_ ?_
        · rintro _ s ⟨q, dd, n, hb, hkn, rfl, fs, r22, r21⟩
          have hn := hb.nle
          rw [nI_1]
          refine hR _ _ _ ⟨q, dd, n, k + 1, hb, hkn, rfl, rfl, fs, r22, r21⟩ ?_
          rw [nI_cl (by omega), nI_cl (by omega)]; omega
        · intro kk hkk
          refine eb_loop3_i (fun x y s => ∃ q dd n m, bQ A N f q dd n k (fun w => w < m) ∧ k < n ∧ m ≤ N ∧ x = nI n ∧ y = nI m ∧ fr [21, 22] σ s ∧ (∀ v, v < N → s.2.1 22 v = oI (dd v)) ∧ ∀ j, j < n → s.2.1 21 j = nI (q j)) (fun _ y _ => 1000 - y.toNatClampNeg) ?_
            ⟨q, dd, n, 0, hb.sub (fun w hw => absurd hw (Nat.not_lt_zero _)), by omega, by omega, rfl, rfl, fs, r22, r21⟩
          rintro R' x y s ⟨q, dd, n, m, hb, hkn, hm, rfl, rfl, fs, r22, r21⟩ hR'
          have hn := hb.nle
          refine br_le (by omega) (by omega) (fun h2 => ?_) (fun h2 => ?_)
          · exact hkk _ _ ⟨q, dd, n, hb.next hkn (fun v hv _ => by omega), by omega, rfl, fs, r22, r21⟩
          · have hqk := hb.on k hkn
            rw [eb_rd_iff, nI_cl (by omega), r22 m (by omega)]
            refine ⟨vp_inN (by omega) (by omega), ?_⟩
            refine jp_2 (fun x s => ∃ q dd n, bQ A N f q dd n k (fun w => w < m + 1) ∧ k < n ∧ x = nI n ∧ fr [21, 22] σ s ∧ (∀ v, v < N → s.2.1 22 v = oI (dd v)) ∧ ∀ j, j < n → s.2.1 21 j = nI (q j)) ?_ ?_
            · rintro _ s ⟨q, dd, n, hb, hkn, rfl, fs, r22, r21⟩
              have hn := hb.nle
              rw [nI_1]
              refine hR' _ _ _ ⟨q, dd, n, m + 1, hb, hkn, by omega, rfl, rfl, fs, r22, r21⟩ ?_
              rw [nI_cl (by omega), nI_cl (by omega)]; omega
            · intro k2 hk2
              have skip : (A (q k) m = false ∨ ¬ dd m = none) → k2 (nI n) s := fun hs => hk2 _ _ ⟨q, dd, n, (hb.skip hs hkn).sub (fun w hw => by omega), hkn, rfl, fs, r22, r21⟩
              cases hd : dd m with
              | some d =>
                obtain ⟨j, hj, hjm⟩ := hb.at' m d (by omega) hd
                obtain ⟨-, d', hd1, hd2⟩ := hb.on j hj
                rw [hjm, hd] at hd2
                injection hd2 with hd2
                exact ⟨fun z => absurd z (nI_m1 (by omega)), fun _ => skip (Or.inr (by rw [hd]; simp))⟩
              | none =>
                refine ⟨fun _ => ?_, fun z => absurd rfl z⟩
                rw [eb_rd_iff, nI_cl (by omega), r21 k hkn]
                refine ⟨vp_inN (by omega) (by omega), ?_⟩
                rw [show (500 : Int32) * nI (q k) = nI (500 * q k) from nI_mul 500 _, nI_add, eb_rd_iff, nI_cl (by omega), fs.2.1 26 (by decide), hA _ _ hqk.1 (by omega)]
                refine ⟨vp_inN (by omega) (by omega), ?_⟩
                cases ea : A (q k) m with
                | false => exact ⟨fun _ => skip (Or.inl ea), fun z => absurd rfl z⟩
                | true =>
                  refine ⟨fun z => absurd z (by decide), fun _ => ?_⟩
                  obtain ⟨d, hd1, hd2⟩ := hqk.2
                  obtain ⟨p1, p2, p3⟩ := hb.push (by omega) ea hd hkn hd2
                  rw [eb_rd_iff, nI_cl (by omega), r21 k hkn]
                  refine ⟨vp_inN (by omega) (by omega), ?_⟩
                  rw [eb_rd_iff, nI_cl (by omega), r22 _ hqk.1, hd2, show oI (some d) = nI d from rfl, nI_1]
                  refine ⟨vp_inN (by omega) (by omega), ?_⟩
                  rw [ms_wr_iff, nI_cl (by omega)]
                  refine ⟨vp_inN (by omega) (by omega), ?_⟩
                  rw [ms_wr_iff, nI_cl (by omega), nI_1]
                  refine ⟨vp_inN (by omega) (by omega), ?_⟩
                  refine hk2 _ _ ⟨upn q n m, upo dd m (some (d + 1)), n + 1, p3.sub (fun w hw => by omega), by omega, rfl, (fs.pa (by decide)).pa (by decide), fun v hv => ?_, fun j hj => ?_⟩
                  · rw [ms_pa_ne (by decide), ms_pa_eq]
                    by_cases ev : v = m
                    · rw [ev, upd_eq, upo_eq]; rfl
                    · rw [upd_ne ev, upo_ne ev]; exact r22 v hv
                  · rw [ms_pa_eq]
                    by_cases ej : j = n
                    · rw [ej, upd_eq, upn_eq]
                    · rw [upd_ne ej, upn_ne ej, ms_pa_ne (by decide)]; exact r21 j (by omega)
    · rw [ms_pa_ne (by decide), ms_pa_eq]
      by_cases ev : v = f
      · rw [ev, upd_eq, upo_eq]; rfl
      · rw [upd_ne ev, upo_ne ev]; exact r0 v hv
    · rw [show j = 0 by omega, ms_pa_eq, upd_eq]
  · intro k hk
    refine eb_loop2_i (fun x s => ∃ m, m ≤ N ∧ x = nI m ∧ fr [21, 22] σ s ∧ ∀ v, v < m → s.2.1 22 v = -1) (fun x _ => 1000 - x.toNatClampNeg) ?_ ⟨0, by omega, rfl, fr_rf _ _, fun k hk => absurd hk (Nat.not_lt_zero _)⟩
    rintro R x s ⟨m, hm, rfl, fs, hrow⟩ hR
    refine br_le (by omega) (by omega) (fun h => ?_) (fun h => ?_)
    · exact hk s ⟨fs, fun v hv => hrow v (by omega)⟩
    · rw [ms_wr_iff, nI_cl (by omega), nI_1]
      refine ⟨vp_inN (by omega) (by omega), ?_⟩
      refine hR _ _ ⟨m + 1, by omega, rfl, fs.pa (by decide), fun v hv => ?_⟩ ?_
      · rw [ms_pa_eq]
        by_cases ev : v = m
        · rw [ev, upd_eq]
        · rw [upd_ne ev]; exact hrow v (by omega)
      · rw [nI_cl (by omega), nI_cl (by omega)]; omega
end API16
