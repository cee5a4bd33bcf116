set_option maxRecDepth 100000
/-! the model's turned, found -/
/-- the numbers by which mirrors turn each other -/
def mR (σ : eb_MS) : Prop := ∀ m, 2 ≤ m → m ≤ 6 → σ.2.1 4 m = nI (tcM m)
theorem tcM_lt : ∀ m, m < 16 → tcM m < 241 := by decide +kernel
section SP4
variable {σ : eb_MS} {b : Nat} {D : eb_D} {e : tE}
theorem sp_turned {g i : Nat} {K : eb_MS → Prop} (hv : vD D) (hD : mD σ b D) (hb : b < 4) (hR : mR σ) (hr6 : σ.1 6 = nI D.1) (hG : tG e) (he1 : e.1 = D.1) (he2 : e.2.1 = pkA D) (hg : g < e.2.2.1) (hi : i < D.1) (him : ∀ k, k < 16 → σ.2.1 9 (16 * g + k) = nI (TI e g k))
    (hK : ∀ σ', fr [10] σ σ' → (∀ k, k < 16 → σ'.2.1 10 k = nI (TI e (Tto e g i) k)) → K σ') : MX2_turned σ (nI b) (nI g) (nI i) K := by
  have hr := hv.1.2
  have hgn := hG.1.2.2
  unfold MX2_turned
  refine eb_loop2_i (fun x s => ∃ j, j ≤ 4 ∧ x = nI j ∧ fr [10] σ s ∧ ∀ k, k < 4 * j → s.2.1 10 k = nI (TI e (Tto e g i) k)) (fun x _ => 8 - x.toNatClampNeg) ?_ ⟨0, by omega, rfl, fr_rf _ _, fun k hk => absurd hk (Nat.not_lt_zero _)⟩
  rintro R x s ⟨j, hj, rfl, hf, hrow⟩ hRR
  refine br_le (a := 4) (by omega) (by omega) (fun h1 => ?_) (fun h1 => ?_)
  · exact hK s hf (fun k hk => hrow k (by omega))
  · have hDs : mD s b D := hD.fr hf (by decide) (by decide) (by decide)
    have hang := hv.e i j (by omega) (by omega)
    -- the coefficient
    refine jp_1 (fun c => ∃ cc, cc < 241 ∧ c = nI cc ∧ (¬ j = i → cc = cond (Nat.ble D.1 j) 0 (tcM (t4 (pkA D) (4 * i + j))))) ?_ ?_
    · rintro _ ⟨cc, hcc, rfl, hce⟩
      refine jp_1 (fun s' => fr [10] σ s' ∧ ∀ k, k < 4 * (j + 1) → s'.2.1 10 k = nI (TI e (Tto e g i) k)) ?_ ?_
      · rintro s' ⟨a1, a2⟩
        refine hRR _ _ ⟨j + 1, by omega, by rw [nI_1], a1, a2⟩ ?_
        rw [nI_1, nI_cl (by omega), nI_cl (by omega)]; omega
      · intro k hk
        refine eb_loop2_i (fun x s => ∃ m, m ≤ 4 ∧ x = nI m ∧ fr [10] σ s ∧ ∀ k, k < 4 * j + m → s.2.1 10 k = nI (TI e (Tto e g i) k)) (fun x _ => 8 - x.toNatClampNeg) ?_ ⟨0, by omega, rfl, hf, hrow⟩
        rintro R2 x s2 ⟨m, hm, rfl, hf2, hrow2⟩ hR2
        refine br_le (a := 4) (by omega) (by omega) (fun h2 => ?_) (fun h2 => ?_)
        · exact hk s2 ⟨hf2, fun k hk => hrow2 k (by omega)⟩
        · rw [nL_16, nL_4]
          simp only [nI_mul, nI_add]
          rw [eb_rd_iff, nI_cl (by omega), hf2.2.1 9 (by decide), show 16 * g + 4 * j + m = 16 * g + (4 * j + m) by omega, him _ (by omega)]
          refine ⟨vp_inN (by omega) (by omega), ?_⟩
          rw [eb_rd_iff, nI_cl (by omega), show 16 * g + 4 * i + m = 16 * g + (4 * i + m) by omega, him _ (by omega)]
          refine ⟨vp_inN (by omega) (by omega), ?_⟩
          have l1 := TI_lt hG g hg (4 * j + m) (by omega)
          have l2 := TI_lt hG g hg (4 * i + m) (by omega)
          have hstep := hG.2.2.2.1.2.2 g hg i (by omega) j (by omega) m (by omega)
          refine jp_1 (fun x => x = nI (TI e (Tto e g i) (4 * j + m))) ?_ ?_
          · rintro _ rfl
            rw [ms_wr_iff, nI_cl (by omega)]
            refine ⟨vp_inN (by omega) (by omega), ?_⟩
            refine hR2 _ _ ⟨m + 1, by omega, by rw [nI_1], hf2.pa (by decide), fun k hk => ?_⟩ ?_
            · rw [ms_pa_eq]
              by_cases ek : k = 4 * j + m
              · rw [ek, upd_eq]
              · rw [upd_ne ek]; exact hrow2 k (by omega)
            · rw [nI_1, nI_cl (by omega), nI_cl (by omega)]; omega
          · intro k2 hk2
            rw [nL_241]
            refine br_eq (by omega) (by omega) (fun h3 => ?_) (fun h3 => ?_)
            · rw [nI_sub (by omega), nI_rem (by omega) (by omega)]
              refine hk2 _ ?_
              rw [hstep]
              unfold tMstep
              rw [nbT h3]
              rfl
            · rw [nI_mul, nI_add, nI_rem (by have : cc * TI e g (4 * i + m) ≤ 241 * 241 := Nat.mul_le_mul (by omega) (by omega); omega) (by omega)]
              refine hk2 _ ?_
              rw [hstep]
              unfold tMstep
              rw [nbF h3, hce h3, he1, he2]
              rfl
    · intro k hk
      rw [hf.1 6 (by decide), hr6]
      refine br_le (by omega) (by omega) (fun h2 => ?_) (fun h2 => ?_)
      · refine hk _ ⟨0, by decide, rfl, fun _ => ?_⟩
        rw [show Nat.ble D.1 j = true from Nat.ble_eq_true_of_le h2]
        rfl
      · refine br_eq (by omega) (by omega) (fun h3 => ?_) (fun h3 => ?_)
        · exact hk _ ⟨0, by decide, rfl, fun z => absurd h3 z⟩
        · refine sp_angleOf hDs hb (by omega) (by omega) ?_
          rw [eb_rd_iff, nI_cl (by omega), hf.2.1 4 (by decide), hR _ hang.2.2.1 hang.2.1]
          refine ⟨vp_inN (by omega) (by omega), ?_⟩
          refine hk _ ⟨_, tcM_lt _ (by omega), rfl, fun _ => ?_⟩
          have hb2 : Nat.ble D.1 j = false := by
            cases hq : Nat.ble D.1 j with
            | false => rfl
            | true => exact absurd (Nat.le_of_ble_eq_true hq) h2
          rw [hb2, pkA_at hv _ (by omega)]
          rfl
theorem sp_found {m v : Nat} {K : Int32 → Prop} (hG : tG e) (hm : m ≤ e.2.2.1) (hv : v < e.2.2.1) (him : ∀ x, x < m → ∀ k, k < 16 → σ.2.1 9 (16 * x + k) = nI (TI e x k)) (htr : ∀ k, k < 16 → σ.2.1 10 k = nI (TI e v k))
    (h1 : v < m → K (nI v)) (h2 : ¬ v < m → K (nI m)) : MX2_found σ (nI m) K := by
  have hgn := hG.1.2.2
  unfold MX2_found
  refine eb_loop1_i (fun x => ∃ y, y ≤ m ∧ x = nI y ∧ ∀ z, z < y → ¬ z = v) (fun x => 1000 - x.toNatClampNeg) ?_ ⟨0, Nat.zero_le _, rfl, fun z hz => absurd hz (Nat.not_lt_zero _)⟩
  rintro R x ⟨y, hy, rfl, hne⟩ hR
  refine br_le (by omega) (by omega) (fun h3 => ?_) (fun h3 => ?_)
  · exact h2 (fun z => hne v (by omega) rfl)
  · refine jp_1 (fun x => ∃ t : Nat, t < 2 ∧ x = nI t ∧ (t = 0 → ¬ y = v) ∧ (¬ t = 0 → y = v)) ?_ ?_
    · rintro _ ⟨t, ht, rfl, ht0, ht1⟩
      refine br_eq (b := 0) (by omega) (by omega) (fun h4 => ?_) (fun h4 => ?_)
      · refine hR _ ⟨y + 1, by omega, by rw [nI_1], fun z hz => ?_⟩ ?_
        · by_cases ez : z = y
          · rw [ez]; exact ht0 h4
          · exact hne z (by omega)
        · rw [nI_1, nI_cl (by omega), nI_cl (by omega)]; omega
      · have := ht1 h4
        rw [this]; exact h1 (by omega)
    · intro k hk
      refine eb_loop2_i (fun t x => ∃ q u, q ≤ 16 ∧ u < 2 ∧ t = nI u ∧ x = nI q ∧ (u = 0 → ¬ y = v) ∧ (¬ u = 0 → ∀ k, k < q → TI e y k = TI e v k)) (fun _ x => 20 - x.toNatClampNeg) ?_ ⟨0, 1, by omega, by omega, rfl, rfl, fun z => absurd z (by decide), fun _ k hk => absurd hk (Nat.not_lt_zero _)⟩
      rintro R2 t x ⟨q, u, hq, hu, rfl, rfl, hu0, hu1⟩ hR2
      refine br_le (a := 16) (by omega) (by omega) (fun h4 => ?_) (fun h4 => ?_)
      · refine hk _ ⟨u, hu, rfl, hu0, fun z => ?_⟩
        exact TI_inj hG v y (by omega) hv (fun k hk => hu1 z k (by omega))
      · refine br_eq (b := 0) (by omega) (by omega) (fun h5 => ?_) (fun h5 => ?_)
        · exact hk _ ⟨u, hu, rfl, hu0, fun z => absurd h5 z⟩
        · rw [nL_16, nI_mul, nI_add, eb_rd_iff, nI_cl (by omega), him y (by omega) q (by omega)]
          refine ⟨vp_inN (by omega) (by omega), ?_⟩
          rw [eb_rd_iff, nI_cl (by omega), htr q (by omega)]
          refine ⟨vp_inN (by omega) (by omega), ?_⟩
          have l1 := TI_lt hG y (by omega) q (by omega)
          have l2 := TI_lt hG v hv q (by omega)
          refine jp_1 (fun x => ∃ u, u < 2 ∧ x = nI u ∧ (u = 0 → ¬ TI e y q = TI e v q) ∧ (¬ u = 0 → TI e y q = TI e v q)) ?_ ?_
          · rintro _ ⟨w, hw, rfl, hw0, hw1⟩
            refine hR2 _ _ ⟨q + 1, w, by omega, hw, rfl, by rw [nI_1], fun z ey => hw0 z (by rw [ey]), fun z k hk => ?_⟩ ?_
            · by_cases ek : k = q
              · rw [ek]; exact hw1 z
              · exact hu1 h5 k (by omega)
            · rw [nI_1, nI_cl (by omega), nI_cl (by omega)]; omega
          · intro k2 hk2
            refine br_eq (by omega) (by omega) (fun h6 => ?_) (fun h6 => ?_)
            · exact hk2 _ ⟨1, by omega, rfl, fun z => absurd z (by decide), fun _ => h6⟩
            · exact hk2 _ ⟨0, by omega, rfl, fun _ => h6, fun z => absurd rfl z⟩
end SP4
