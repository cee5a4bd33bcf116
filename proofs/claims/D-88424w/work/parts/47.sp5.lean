set_option maxRecDepth 100000
/-! the model's loads -/
abbrev lsW : List Nat := [5, 6, 7, 8, 9, 10, 11, 12, 13, 14, 15, 16, 17, 18, 19, 21]
/-- the group of D, its corners, are there -/
def mTab (σ : eb_MS) (D : eb_D) : Prop :=
  (∀ g i, g < ZD D → i < D.1 → σ.2.1 11 (4 * g + i) = nI (Tto (TD D) g i)) ∧ (∀ x, x < ZD D → σ.2.1 12 x = nI (Tlen (TD D) x)) ∧
  (∀ x, x < ZD D → ¬ x = 0 → σ.2.1 13 x = nI (Tpar (TD D) x) ∧ σ.2.1 14 x = nI (Tlas (TD D) x)) ∧ (σ.2.1 13 0 = 0 ∧ σ.2.1 14 0 = -1) ∧
  (∀ x, x < ZD D → σ.2.1 15 x = nI (prt D.1 (Tto (TD D)) (inS (stay D 0)) x)) ∧ σ.1 16 = nI (pcnt D.1 (Tto (TD D)) (inS (stay D 0)) (ZD D))
def mL (σ : eb_MS) (b : Nat) (D : eb_D) : Prop := σ.1 5 = nI b ∧ σ.1 6 = nI D.1 ∧ σ.1 7 = nI D.2.2 ∧ σ.1 8 = nI (ZD D) ∧ (¬ ZD D = 0 → mTab σ D)
def Tkey (e : tE) (x : Nat) : Nat := e.1 * Tpar e x + Tlas e x
theorem Tkey_lt {e : tE} (h : tG e) {x : Nat} (hx : x < e.2.2.1) (h0 : ¬ x = 0) : Tkey e x < e.1 * x ∧ Tpar e x < x ∧ Tlas e x < e.1 ∧ Tto e (Tpar e x) (Tlas e x) = x ∧ Tlen e x = Tlen e (Tpar e x) + 1 ∧ Tlen e x ≤ 16 := by
  cases x with
  | zero => exact absurd rfl h0
  | succ y =>
    obtain ⟨a1, a2, a3, ⟨a4, a5⟩, -⟩ := h.2.2.1.2 y hx
    refine ⟨?_, by omega, a2, a3, a4, a5⟩
    unfold Tkey
    have h1 : e.1 * Tpar e (y + 1) ≤ e.1 * y := Nat.mul_le_mul_left _ a1
    rw [Nat.mul_succ]
    omega
theorem Tkey_mono {e : tE} (h : tG e) {x : Nat} (h0 : ¬ x = 0) : ∀ y, x < y → y < e.2.2.1 → Tkey e x < Tkey e y := by
  intro y
  induction y with
  | zero => intro z; exact absurd z (Nat.not_lt_zero _)
  | succ y ih =>
    intro hxy hy
    have h1 : Tkey e y < Tkey e (y + 1) := by
      rcases (h.2.2.1.2 y hy).2.2.2.2 with h1 | h1
      · omega
      · exact h1
    by_cases e0 : x = y
    · rw [e0]; exact h1
    · have := ih (by omega) (by omega); omega
theorem Tkey_at {e : tE} (h : tG e) {x g i : Nat} (hx : x < e.2.2.1) (h0 : ¬ x = 0) (hi : i < e.1) (hk : Tkey e x = e.1 * g + i) : Tpar e x = g ∧ Tlas e x = i := by
  have hl := (Tkey_lt h hx h0).2.2.1
  unfold Tkey at hk
  have h1 : (e.1 * Tpar e x + Tlas e x) / e.1 = Tpar e x := by rw [Nat.mul_add_div (by omega), Nat.div_eq_of_lt hl, Nat.add_zero]
  have h2 : (e.1 * g + i) / e.1 = g := by rw [Nat.mul_add_div (by omega), Nat.div_eq_of_lt hi, Nat.add_zero]
  have h3 : Tpar e x = g := by rw [← h1, hk, h2]
  refine ⟨h3, ?_⟩
  rw [h3] at hk
  omega
/-- while the group is made: g, up to which mirror, up to which place, how many -/
def bI (σ : eb_MS) (b : Nat) (D : eb_D) (e : tE) (g ti p m : Nat) (s : eb_MS) : Prop :=
  fr lsW σ s ∧ (s.1 5 = nI b ∧ s.1 6 = nI D.1 ∧ s.1 7 = nI D.2.2) ∧ (1 ≤ m ∧ m ≤ e.2.2.1) ∧
  (∀ x, x < m → (∀ k, k < 16 → s.2.1 9 (16 * x + k) = nI (TI e x k)) ∧ s.2.1 12 x = nI (Tlen e x) ∧ (¬ x = 0 → s.2.1 13 x = nI (Tpar e x) ∧ s.2.1 14 x = nI (Tlas e x) ∧ Tkey e x < p)) ∧
  (s.2.1 13 0 = 0 ∧ s.2.1 14 0 = -1) ∧
  (∀ g' i', i' < e.1 → g' < e.2.2.1 → (g' < g ∨ (g' = g ∧ i' < ti)) → s.2.1 11 (4 * g' + i') = nI (Tto e g' i')) ∧
  (∀ x, m ≤ x → x < e.2.2.1 → p ≤ Tkey e x)
section SP5
variable {σ : eb_MS} {b : Nat} {D : eb_D} {e : tE}
set_option maxHeartbeats 2000000 in
theorem sp_makesGroup {s0 : eb_MS} {K : Int32 → eb_MS → Prop} (hv : vD D) (hD : mD σ b D) (hb : b < 4) (hR : mR σ) (hG : tG e) (he1 : e.1 = D.1) (he2 : e.2.1 = pkA D) (h0 : bI σ b D e 0 0 0 1 s0)
    (hK : ∀ s, bI σ b D e e.2.2.1 0 (e.1 * e.2.2.1) e.2.2.1 s → K (nI e.2.2.1) s) :
    eb_loop3 (fun r29 (x2_26 : Int32) (x3_27 : Int32) (g28 : eb_MS) => eb_br (x2_26 ≤ x3_27) (K x2_26 g28) (eb_jp2 (fun (x2_30 : Int32) (g31 : eb_MS) => r29 x2_30 (x3_27 + 1) g31) (fun k32 => eb_loop3 (fun r36 (x2_33 : Int32) (x4_34 : Int32) (g35 : eb_MS) => eb_br ((g35.1 6) ≤ x4_34) (k32 x2_33 g35) (MX2_turned g35 (nI b) x3_27 x4_34 (fun g38 => MX2_found g38 x2_33 (fun v39 => eb_jp2 (fun (x2_41 : Int32) (g42 : eb_MS) => ms_wr g42 11 2000 (((4 * x3_27) + x4_34)) v39 (fun g43 => r36 x2_41 (x4_34 + 1) g43)) (fun k44 => eb_br (v39 = x2_33) (eb_jp1 (fun (g45 : eb_MS) => eb_rd (g45.2.1 12) 500 x3_27 (fun v46 => ms_wr g45 12 500 v39 (v46 + 1) (fun g47 => ms_wr g47 13 500 v39 x3_27 (fun g48 => ms_wr g48 14 500 v39 x4_34 (fun g49 => k44 (x2_33 + 1) g49))))) (fun k50 => eb_loop2 (fun r53 (x6_51 : Int32) (g52 : eb_MS) => eb_br (16 ≤ x6_51) (k50 g52) (eb_rd (g52.2.1 10) 16 x6_51 (fun v54 => ms_wr g52 9 8000 (((16 * v39) + x6_51)) v54 (fun g55 => r53 (x6_51 + 1) g55)))) 0 g38)) (k44 x2_33 g38)))))) x2_26 0 g28))) 1 0 s0 := by
  have hr := hv.1
  have hn := hG.1.2
  have hmf : ∀ {s : eb_MS}, fr lsW σ s → mD s b D ∧ mR s := fun hf => ⟨hD.fr hf (by decide) (by decide) (by decide), fun m h1 h2 => by rw [hf.2.1 4 (by decide)]; exact hR m h1 h2⟩
  refine eb_loop3_i (fun x2 x3 s => ∃ g m, g ≤ m ∧ x2 = nI m ∧ x3 = nI g ∧ bI σ b D e g 0 (e.1 * g) m s) (fun _ x _ => 1000 - x.toNatClampNeg) ?_ ⟨0, 1, by omega, rfl, rfl, by rw [Nat.mul_zero]; exact h0⟩
  rintro R x2 x3 s ⟨g, m, hgm, rfl, rfl, hB⟩ hRR
  obtain ⟨hf, hsc, hm, hx, h00, hto, hup⟩ := id hB
  refine br_le (by omega) (by omega) (fun h1 => ?_) (fun h1 => ?_)
  · have hge : g = m := by omega
    subst hge
    have hgn : g = e.2.2.1 := by
      by_cases hlt : g < e.2.2.1
      · have := hup g (Nat.le_refl _) hlt
        have h2 := (Tkey_lt hG hlt (by omega)).1
        omega
      · omega
    have hB' := hB
    rw [hgn] at hB' ⊢
    exact hK s hB'
  · have hgn : g < e.2.2.1 := by omega
    refine jp_2 (fun x2 s' => ∃ m', g + 1 ≤ m' ∧ x2 = nI m' ∧ bI σ b D e (g + 1) 0 (e.1 * (g + 1)) m' s') ?_ ?_
    · rintro _ s' ⟨m', a1, rfl, a2⟩
      refine hRR _ _ _ ⟨g + 1, m', a1, rfl, by rw [nI_1], a2⟩ ?_
      rw [nI_1, nI_cl (by omega), nI_cl (by omega)]; omega
    · intro k hk
      refine eb_loop3_i (fun x2 x4 s' => ∃ m' i, m ≤ m' ∧ i ≤ D.1 ∧ x2 = nI m' ∧ x4 = nI i ∧ bI σ b D e g i (e.1 * g + i) m' s') (fun _ x _ => 8 - x.toNatClampNeg) ?_ ⟨m, 0, Nat.le_refl _, Nat.zero_le _, rfl, rfl, hB⟩
      rintro R2 x2 x4 s' ⟨m', i, hmm, hi, rfl, rfl, hB'⟩ hR2
      obtain ⟨hf', hsc', hm', hx', h00', hto', hup'⟩ := id hB'
      rw [hsc'.2.1]
      refine br_le (by omega) (by omega) (fun h2 => ?_) (fun h2 => ?_)
      · have hir : i = e.1 := by omega
        subst hir
        refine hk _ _ ⟨m', by omega, rfl, hf', hsc', hm', fun x hxm => ?_, h00', fun g' i' hi' hg' hor => ?_, fun x q1 q2 => ?_⟩
        · obtain ⟨c1, c2, c3⟩ := hx' x hxm
          exact ⟨c1, c2, fun z => ⟨(c3 z).1, (c3 z).2.1, by rw [Nat.mul_succ]; exact (c3 z).2.2⟩⟩
        · exact hto' g' i' hi' hg' (by omega)
        · rw [Nat.mul_succ]; exact hup' x q1 q2
      · have hi' : i < e.1 := by omega
        obtain ⟨hDs, hRs⟩ := hmf hf'
        refine sp_turned hv hDs hb hRs hsc'.2.1 hG he1 he2 hgn (by omega) (fun k hk => (hx' g (by omega)).1 k hk) (fun s1 hf1 htr => ?_)
        obtain ⟨t1, t2, t3, t4⟩ := hG.2.1 g hgn i hi'
        -- nothing but 'tried' has changed
        have hB1 : bI σ b D e g i (e.1 * g + i) m' s1 := by
          refine ⟨hf'.tr (hf1.up (by decide)), ⟨by rw [hf1.1 5 (by decide)]; exact hsc'.1, by rw [hf1.1 6 (by decide)]; exact hsc'.2.1, by rw [hf1.1 7 (by decide)]; exact hsc'.2.2⟩, hm', ?_, ?_, ?_, hup'⟩
          · rw [hf1.2.1 9 (by decide), hf1.2.1 12 (by decide), hf1.2.1 13 (by decide), hf1.2.1 14 (by decide)]; exact hx'
          · rw [hf1.2.1 13 (by decide), hf1.2.1 14 (by decide)]; exact h00'
          · rw [hf1.2.1 11 (by decide)]; exact hto'
        obtain ⟨bf, bsc, bm, bx, b00, bto, bup⟩ := id hB1
        -- what is found, and that it's new if it is
        have hnew : ¬ Tto e g i < m' → Tto e g i = m' ∧ Tkey e m' = e.1 * g + i := by
          intro hge
          have hne : ¬ Tto e g i = 0 := by omega
          have k1 : Tkey e (Tto e g i) ≤ e.1 * g + i := t4.resolve_left hne
          have k2 := bup (Tto e g i) (by omega) t1
          have hmn : m' < e.2.2.1 := by omega
          have k3 := bup m' (Nat.le_refl _) hmn
          by_cases heq : Tto e g i = m'
          · exact ⟨heq, by rw [heq] at k1 k2; omega⟩
          · have := Tkey_mono hG (x := m') (by omega) (Tto e g i) (by omega) t1
            omega
        have go : ∀ v : Nat, v = Tto e g i → ∀ s2 : eb_MS, ∀ m2, m' ≤ m2 → bI σ b D e g i (e.1 * g + i + 1) m2 s2 → ms_wr s2 11 2000 (((4 * nI g) + nI i)) (nI v) (fun g43 => R2 (nI m2) (nI i + 1) g43) := by
          rintro v rfl s2 m2 hm2 ⟨df, dsc, dm, dx, d00, dto, dup⟩
          rw [nL_4, nI_mul, nI_add, ms_wr_iff, nI_cl (by omega)]
          refine ⟨vp_inN (by omega) (by omega), ?_⟩
          refine hR2 _ _ _ ⟨m2, i + 1, by omega, by omega, rfl, by rw [nI_1], df.pa (by decide), dsc, dm, dx, d00, fun g' i' q1 q2 hor => ?_, dup⟩ ?_
          · rw [ms_pa_eq]
            by_cases eq : 4 * g' + i' = 4 * g + i
            · have hg' : g' = g ∧ i' = i := by omega
              rw [eq, upd_eq, hg'.1, hg'.2]
            · rw [upd_ne eq]; exact dto g' i' q1 q2 (by omega)
          · rw [nI_1, nI_cl (by omega), nI_cl (by omega)]; omega
        refine sp_found hG bm.2 t1 (fun x hxm k hk => (bx x hxm).1 k hk) htr (fun hlt => ?_) (fun hge => ?_)
        · refine jp_2 (fun x2 s2 => ∃ m2, m' ≤ m2 ∧ x2 = nI m2 ∧ bI σ b D e g i (e.1 * g + i + 1) m2 s2) (fun x2 s2 h => ?_) (fun k4 hk4 => ?_)
          · obtain ⟨m2, q1, rfl, q2⟩ := h
            exact go _ rfl s2 m2 q1 q2
          · refine br_eq (by omega) (by omega) (fun z => absurd z (by omega)) (fun _ => ?_)
            refine hk4 _ _ ⟨m', Nat.le_refl _, rfl, bf, bsc, bm, fun x hxm => ?_, b00, bto, fun x q1 q2 => ?_⟩
            · obtain ⟨c1, c2, c3⟩ := bx x hxm
              exact ⟨c1, c2, fun z => ⟨(c3 z).1, (c3 z).2.1, by have := (c3 z).2.2; omega⟩⟩
            · have k1 := bup x q1 q2
              by_cases heq : Tkey e x = e.1 * g + i
              · have h0x : ¬ x = 0 := by omega
                obtain ⟨p1, p2⟩ := Tkey_at hG q2 h0x hi' heq
                have := (Tkey_lt hG q2 h0x).2.2.2.1
                rw [p1, p2] at this
                omega
              · omega
        · obtain ⟨hvm, hkey⟩ := hnew hge
          have hmn : m' < e.2.2.1 := by omega
          have hm0 : ¬ m' = 0 := by omega
          obtain ⟨p1, p2⟩ := Tkey_at hG hmn hm0 hi' hkey
          have hlen := (Tkey_lt hG hmn hm0).2.2.2.2
          rw [p1] at hlen
          refine jp_2 (fun x2 s2 => ∃ m2, m' ≤ m2 ∧ x2 = nI m2 ∧ bI σ b D e g i (e.1 * g + i + 1) m2 s2) (fun x2 s2 h => ?_) (fun k4 hk4 => ?_)
          · obtain ⟨m2, q1, rfl, q2⟩ := h
            exact go m' hvm.symm s2 m2 q1 q2
          · refine br_eq (by omega) (by omega) (fun _ => ?_) (fun z => absurd rfl z)
            refine jp_1 (fun s2 => fr [9] s1 s2 ∧ (∀ x, x < m' → ∀ k, k < 16 → s2.2.1 9 (16 * x + k) = nI (TI e x k)) ∧ ∀ k, k < 16 → s2.2.1 9 (16 * m' + k) = nI (TI e m' k)) ?_ ?_
            · rintro s2 ⟨f2, i1, i2⟩
              rw [eb_rd_iff, nI_cl (by omega), f2.2.1 12 (by decide), (bx g (by omega)).2.1]
              refine ⟨vp_inN (by omega) (by omega), ?_⟩
              rw [ms_wr_iff, nI_cl (by omega)]
              refine ⟨vp_inN (by omega) (by omega), ?_⟩
              rw [ms_wr_iff, nI_cl (by omega)]
              refine ⟨vp_inN (by omega) (by omega), ?_⟩
              rw [ms_wr_iff, nI_cl (by omega), nI_1, nI_1]
              refine ⟨vp_inN (by omega) (by omega), ?_⟩
              refine hk4 _ _ ⟨m' + 1, by omega, rfl, (((bf.tr (f2.up (by decide))).pa (by decide)).pa (by decide)).pa (by decide), ⟨?_, ?_, ?_⟩, by omega, fun x hxm => ?_, ?_, ?_, fun x q1 q2 => ?_⟩
              · show s2.1 5 = _; rw [f2.1 5 (by decide)]; exact bsc.1
              · show s2.1 6 = _; rw [f2.1 6 (by decide)]; exact bsc.2.1
              · show s2.1 7 = _; rw [f2.1 7 (by decide)]; exact bsc.2.2
              · rw [ms_pa_ne (show ¬ 9 = 14 by decide), ms_pa_ne (show ¬ 9 = 13 by decide), ms_pa_ne (show ¬ 9 = 12 by decide), ms_pa_ne (show ¬ 12 = 14 by decide), ms_pa_ne (show ¬ 12 = 13 by decide), ms_pa_eq, ms_pa_ne (show ¬ 13 = 14 by decide), ms_pa_eq, ms_pa_eq, ms_pa_ne (show ¬ 13 = 12 by decide), ms_pa_ne (show ¬ 14 = 13 by decide), ms_pa_ne (show ¬ 14 = 12 by decide)]
                rw [f2.2.1 12 (by decide), f2.2.1 13 (by decide), f2.2.1 14 (by decide)]
                by_cases ex : x = m'
                · subst ex
                  refine ⟨i2, by rw [upd_eq, hlen.1], fun _ => ⟨by rw [upd_eq, p1], by rw [upd_eq, p2], by omega⟩⟩
                · obtain ⟨c1, c2, c3⟩ := bx x (by omega)
                  refine ⟨i1 x (by omega), by rw [upd_ne ex]; exact c2, fun z => ⟨by rw [upd_ne ex]; exact (c3 z).1, by rw [upd_ne ex]; exact (c3 z).2.1, by have := (c3 z).2.2; omega⟩⟩
              · rw [ms_pa_ne (show ¬ 13 = 14 by decide), ms_pa_eq, ms_pa_eq, ms_pa_ne (show ¬ 13 = 12 by decide), ms_pa_ne (show ¬ 14 = 13 by decide), ms_pa_ne (show ¬ 14 = 12 by decide), f2.2.1 13 (by decide), f2.2.1 14 (by decide), upd_ne (by omega), upd_ne (by omega)]
                exact b00
              · rw [ms_pa_ne (show ¬ 11 = 14 by decide), ms_pa_ne (show ¬ 11 = 13 by decide), ms_pa_ne (show ¬ 11 = 12 by decide), f2.2.1 11 (by decide)]
                exact bto
              · have := Tkey_mono hG (x := m') hm0 x (by omega) q2
                omega
            · intro k5 hk5
              refine eb_loop2_i (fun x s2 => ∃ q, q ≤ 16 ∧ x = nI q ∧ fr [9] s1 s2 ∧ (∀ x, x < m' → ∀ k, k < 16 → s2.2.1 9 (16 * x + k) = nI (TI e x k)) ∧ ∀ k, k < q → s2.2.1 9 (16 * m' + k) = nI (TI e m' k)) (fun x _ => 20 - x.toNatClampNeg) ?_ ⟨0, by omega, rfl, fr_rf _ _, fun x hxm => (bx x hxm).1, fun k hk => absurd hk (Nat.not_lt_zero _)⟩
              rintro R3 x s2 ⟨q, hq, rfl, f2, i1, i2⟩ hR3
              refine br_le (a := 16) (by omega) (by omega) (fun h3 => ?_) (fun h3 => ?_)
              · exact hk5 s2 ⟨f2, i1, fun k hk => i2 k (by omega)⟩
              · rw [eb_rd_iff, nI_cl (by omega), f2.2.1 10 (by decide), htr q (by omega), hvm]
                refine ⟨vp_inN (by omega) (by omega), ?_⟩
                rw [nL_16, nI_mul, nI_add, ms_wr_iff, nI_cl (by omega)]
                refine ⟨vp_inN (by omega) (by omega), ?_⟩
                refine hR3 _ _ ⟨q + 1, by omega, by rw [nI_1], f2.pa (by decide), fun x hxm k hk => ?_, fun k hk => ?_⟩ ?_
                · rw [ms_pa_eq, upd_ne (by omega)]; exact i1 x hxm k hk
                · rw [ms_pa_eq]
                  by_cases ek : k = q
                  · rw [ek, upd_eq]
                  · rw [upd_ne (by omega)]; exact i2 k (by omega)
                · rw [nI_1, nI_cl (by omega), nI_cl (by omega)]; omega
end SP5
