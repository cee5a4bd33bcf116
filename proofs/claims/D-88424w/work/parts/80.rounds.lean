set_option maxRecDepth 100000
/-! the model's rows round a corner -/
theorem br_oQ {o : Option Nat} {q : Nat} {A B : Prop} (ho : ∀ d, o = some d → d < 2147483648) (hq : q < 2147483648) (h1 : o = some q → A) (h2 : ¬ o = some q → B) : eb_br (oI o = nI q) A B := by
  cases o with
  | none => exact ⟨fun z => absurd z.symm (nI_m1 hq), fun _ => h2 (by simp)⟩
  | some d => exact br_eq (ho d rfl) hq (fun e => h1 (by rw [e])) (fun e => h2 (fun z => e (by injection z)))
theorem code_d {k q : Nat} (hk : k < 3) (hq : q < 500) : nI (500 * k + q) / 500 = nI k ∧ eb_rem (nI (500 * k + q)) 500 = nI q := by
  constructor
  · rw [show (500 : Int32) = nI 500 from rfl, nI_div (by omega) (by omega), show (500 * k + q) / 500 = k by omega]
  · rw [show (500 : Int32) = nI 500 from rfl, nI_rem (by omega) (by omega), show (500 * k + q) % 500 = q by omega]
theorem code_i (k m : Nat) : nI k * 500 + nI m = nI (500 * k + m) := by
  rw [show (500 : Int32) = nI 500 from rfl, nI_mul, nI_add, Nat.mul_comm k 500]
theorem code_j (k m : Nat) : (500 : Int32) * nI k + nI m = nI (500 * k + m) := by
  rw [show (500 : Int32) = nI 500 from rfl, nI_mul, nI_add]
section RD
variable {σ : eb_MS} {Ds : Nat → eb_D}
theorem eP_l5 {D : eb_D} (hv : vD D) {i g p : Nat} (h : eP D i g = some p) (hg : g < ZD D) : p < 500 := by
  unfold eP at h
  cases hk : isK D (2 ^ i) with
  | false => rw [hk] at h; exact absurd h (by simp)
  | true =>
    rw [hk] at h
    have e : some (PN D (2 ^ i) g) = some p := h
    injection e with e
    have := PN_lt D (2 ^ i) hg
    have := NP_le D (2 ^ i)
    have := ZD_le hv
    omega
theorem fP_l5 {D : eb_D} (hv : vD D) {i g p : Nat} (h : fP D i g = some p) (hg : g < ZD D) : p < 500 := by
  have := fP_lt h hg
  have := fM_le D i
  have := ZD_le hv
  omega
/-- corners of a face -/
theorem sp_faceSize {b k q : Nat} {K : Int32 → eb_MS → Prop} (hI : mI σ Ds) (hb : b < 4) (hz : ¬ ZD (Ds b) = 0) (hL : mL σ b (Ds b)) (hF : mF σ (Ds b)) (hk : k < 3) (hq : q < 500)
    (hK : ∀ t, fr [23] σ t → K (nI (cnB (mkF (fun g => isO (fP (Ds b) k g) q) (PN (Ds b) 0) (ZD (Ds b))) (NP (Ds b) 0))) t) : MX2_faceSize σ (nI (500 * k + q)) K := by
  have hv := (hI.1 b hb).1
  have hzl := ZD_le hv
  have hNl := NP_le (Ds b) 0
  unfold MX2_faceSize
  rw [(code_d hk hq).1, (code_d hk hq).2]
  refine sp_clears (fun s fs hs => ?_)
  refine eb_loop3_i (fun x2 x3 t => ∃ m, m ≤ ZD (Ds b) ∧ x3 = nI m ∧ fr [23] σ t ∧ x2 = nI (cnB (mkF (fun g => isO (fP (Ds b) k g) q) (PN (Ds b) 0) m) (NP (Ds b) 0)) ∧ ∀ c, c < 500 → t.2.1 23 c = nI (b1 (mkF (fun g => isO (fP (Ds b) k g) q) (PN (Ds b) 0) m c))) (fun _ x3 _ => 1000 - x3.toNatClampNeg) ?_ ⟨0, by omega, rfl, fs, ?_, fun c hc => by rw [hs c hc]; rfl⟩
  · rintro R _ _ t ⟨m, hm, rfl, ft, rfl, hrow⟩ hR
    rw [ft.1 8 (by decide), hL.2.2.2.1]
    refine br_le (by omega) (by omega) (fun h => ?_) (fun h => ?_)
    · rw [show m = ZD (Ds b) by omega]
      exact hK t ft
    · have hmz : m < ZD (Ds b) := by omega
      have hPl := PN_lt (Ds b) 0 hmz
      have hcl := cnB_le (mkF (fun g => isO (fP (Ds b) k g) q) (PN (Ds b) 0) m) (NP (Ds b) 0)
      rw [code_i, eb_rd_iff, nI_cl (by omega), ft.2.1 28 (by decide), hF.2.1 k m hk hmz]
      refine ⟨vp_inN (by omega) (by omega), ?_⟩
      refine jp_2 (fun x2 t' => x2 = nI (cnB (mkF (fun g => isO (fP (Ds b) k g) q) (PN (Ds b) 0) (m + 1)) (NP (Ds b) 0)) ∧ fr [23] σ t' ∧ ∀ c, c < 500 → t'.2.1 23 c = nI (b1 (mkF (fun g => isO (fP (Ds b) k g) q) (PN (Ds b) 0) (m + 1) c))) ?_ ?_
      · rintro _ t' ⟨rfl, f', r'⟩
        rw [nI_1]
        exact hR _ _ _ ⟨m + 1, by omega, rfl, f', rfl, r'⟩ (by rw [nI_cl (by omega), nI_cl (by omega)]; omega)
      · intro k10 hk10
        refine br_oQ (fun d hd => by have := fP_l5 hv hd hmz; omega) (by omega) (fun e => ?_) (fun e => ?_)
        · have hP : (fun g => isO (fP (Ds b) k g) q) m = true := by show isO (fP (Ds b) k m) q = true; rw [e]; exact nbT rfl
          rw [eb_rd_iff, nI_cl (by omega), ft.2.1 15 (by decide), hL.co hz m hmz]
          refine ⟨vp_inN (by omega) (by omega), ?_⟩
          rw [eb_rd_iff, nI_cl (by omega), hrow _ (by omega)]
          refine ⟨vp_inN (by omega) (by omega), ?_⟩
          cases hmk : mkF (fun g => isO (fP (Ds b) k g) q) (PN (Ds b) 0) m (PN (Ds b) 0 m) with
          | true =>
            refine ⟨fun z => absurd z (by decide), fun _ => hk10 _ _ ⟨?_, ft, fun c hc => ?_⟩⟩
            · rw [cnB_cg (Q := mkF (fun g => isO (fP (Ds b) k g) q) (PN (Ds b) 0) m) (P := mkF (fun g => isO (fP (Ds b) k g) q) (PN (Ds b) 0) (m + 1)) _ (fun c _ => mkF_same hmk c)]
            · rw [mkF_same hmk]; exact hrow c hc
          | false =>
            refine ⟨fun _ => ?_, fun z => absurd rfl z⟩
            rw [eb_rd_iff, nI_cl (by omega), hL.co hz m hmz]
            refine ⟨vp_inN (by omega) (by omega), ?_⟩
            rw [ms_wr_iff, nI_cl (by omega), nI_1]
            refine ⟨vp_inN (by omega) (by omega), hk10 _ _ ⟨?_, ft.pa (by decide), fun c hc => ?_⟩⟩
            · rw [mkF_set (P := fun g => isO (fP (Ds b) k g) q) hP hmk hPl]
            · rw [ms_pa_eq]
              by_cases ec : c = PN (Ds b) 0 m
              · rw [ec, upd_eq, mkF_eq (P := fun g => isO (fP (Ds b) k g) q) hP]; decide
              · rw [upd_ne ec, mkF_ne ec]; exact hrow c hc
        · have hP : (fun g => isO (fP (Ds b) k g) q) m = false := by
            show isO (fP (Ds b) k m) q = false
            cases ho : fP (Ds b) k m with
            | none => rfl
            | some d => exact nbF (fun z => e (by rw [ho, z]))
          refine hk10 _ _ ⟨?_, ft, fun c hc => ?_⟩
          · rw [cnB_cg (Q := mkF (fun g => isO (fP (Ds b) k g) q) (PN (Ds b) 0) m) (P := mkF (fun g => isO (fP (Ds b) k g) q) (PN (Ds b) 0) (m + 1)) _ (fun c _ => mkF_no (P := fun g => isO (fP (Ds b) k g) q) hP)]
          · rw [mkF_no (P := fun g => isO (fP (Ds b) k g) q) hP]; exact hrow c hc
  · have e0 : cnB (mkF (fun g => isO (fP (Ds b) k g) q) (PN (Ds b) 0) 0) (NP (Ds b) 0) = 0 := cnB_false (fun _ => rfl) _
    rw [e0]; rfl
theorem sp_faceWith {b i q : Nat} {a : Int32} {K : Int32 → Prop} (hI : mI σ Ds) (hb : b < 4) (hz : ¬ ZD (Ds b) = 0) (hL : mL σ b (Ds b)) (hF : mF σ (Ds b)) (hi : i < 3) (hq : q < 500)
    (h1 : ∀ g k p, g < ZD (Ds b) → k < 3 → ¬ k = i → PN (Ds b) 0 g = 0 → eP (Ds b) i g = some q → fP (Ds b) k g = some p → ¬ nI (500 * k + p) = a → K (nI (500 * k + p)))
    (h0 : (∀ g k p, g < ZD (Ds b) → k < 3 → ¬ k = i → PN (Ds b) 0 g = 0 → eP (Ds b) i g = some q → fP (Ds b) k g = some p → nI (500 * k + p) = a) → K (-1)) : MX2_faceWith σ (nI (500 * i + q)) a K := by
  have hv := (hI.1 b hb).1
  have hzl := ZD_le hv
  have hNl := NP_le (Ds b) 0
  unfold MX2_faceWith
  rw [(code_d hi hq).1, (code_d hi hq).2]
  refine eb_loop1_i (fun x => ∃ m, m ≤ ZD (Ds b) ∧ x = nI m ∧ ∀ g k p, g < m → k < 3 → ¬ k = i → PN (Ds b) 0 g = 0 → eP (Ds b) i g = some q → fP (Ds b) k g = some p → nI (500 * k + p) = a) (fun x => 1000 - x.toNatClampNeg) ?_ ⟨0, by omega, rfl, fun g k p hg => absurd hg (Nat.not_lt_zero _)⟩
  rintro R _ ⟨m, hm, rfl, hno⟩ hR
  rw [hL.2.2.2.1]
  refine br_le (by omega) (by omega) (fun h => h0 (fun g k p hg => hno g k p (by omega))) (fun h => ?_)
  have hmz : m < ZD (Ds b) := by omega
  have hPl := PN_lt (Ds b) 0 hmz
  rw [eb_rd_iff, nI_cl (by omega), hL.co hz m hmz]
  refine ⟨vp_inN (by omega) (by omega), ?_⟩
  refine jp_0 (∀ k p, k < 3 → ¬ k = i → PN (Ds b) 0 m = 0 → eP (Ds b) i m = some q → fP (Ds b) k m = some p → nI (500 * k + p) = a) (fun hm' => ?_) (fun k4 hk4 => ?_)
  · rw [nI_1]
    refine hR _ ⟨m + 1, by omega, rfl, fun g k p hg => ?_⟩ (by rw [nI_cl (by omega), nI_cl (by omega)]; omega)
    by_cases e : g = m
    · rw [e]; exact hm' k p
    · exact hno g k p (by omega)
  · refine br_eq (b := 0) (by omega) (by omega) (fun e0 => ?_) (fun e0 => hk4 (fun k p _ _ z => absurd z e0))
    rw [code_i, eb_rd_iff, nI_cl (by omega), hF.1 i m hi hmz]
    refine ⟨vp_inN (by omega) (by omega), ?_⟩
    refine br_oQ (fun d hd => by have := eP_l5 hv hd hmz; omega) (by omega) (fun e1 => ?_) (fun e1 => hk4 (fun k p _ _ _ z => absurd z e1))
    refine eb_loop1_i (fun x => ∃ k, k ≤ 3 ∧ x = nI k ∧ ∀ k' p, k' < k → ¬ k' = i → fP (Ds b) k' m = some p → nI (500 * k' + p) = a) (fun x => 10 - x.toNatClampNeg) ?_ ⟨0, by omega, rfl, fun k' p hk' => absurd hk' (Nat.not_lt_zero _)⟩
    rintro R2 _ ⟨k, hk, rfl, hk2⟩ hR2
    refine br_le (a := 3) (by omega) (by omega) (fun h3 => hk4 (fun k' p hk' z1 _ _ z4 => hk2 k' p (by omega) z1 z4)) (fun h3 => ?_)
    have hk3 : k < 3 := by omega
    have er : eb_rd (σ.2.1 28) 1500 (500 * nI k + nI m) = eb_rd (σ.2.1 28) 1500 (nI (500 * k + m)) := by rw [code_j]
    rw [er, eb_rd_iff, nI_cl (by omega), hF.2.1 k m hk3 hmz]
    refine ⟨vp_inN (by omega) (by omega), ?_⟩
    refine jp_0 (¬ k = i → ∀ p, fP (Ds b) k m = some p → nI (500 * k + p) = a) (fun hm' => ?_) (fun k9 hk9 => ?_)
    · rw [nI_1]
      refine hR2 _ ⟨k + 1, by omega, rfl, fun k' p hk' z1 z2 => ?_⟩ (by rw [nI_cl (by omega), nI_cl (by omega)]; omega)
      by_cases e : k' = k
      · rw [e] at z1 z2 ⊢; exact hm' z1 p z2
      · exact hk2 k' p (by omega) z1 z2
    · refine br_eq (by omega) (by omega) (fun e => hk9 (fun z => absurd e z)) (fun e => ?_)
      rw [eb_rd_iff, nI_cl (by omega), hF.2.1 k m hk3 hmz]
      refine ⟨vp_inN (by omega) (by omega), ?_⟩
      refine oI_br (fun d hd => by have := fP_l5 hv hd hmz; omega) (fun ho => hk9 (fun _ p hp => by rw [ho] at hp; exact absurd hp (by simp))) (fun d hd => ?_)
      rw [hd, show (500 : Int32) * nI k + oI (some d) = nI (500 * k + d) from code_j k d]
      exact ⟨fun z => hk9 (fun _ p hp => by rw [hd] at hp; injection hp with hp; rw [← hp]; exact z), fun z => h1 m k d hmz hk3 e e0 e1 hd z⟩
theorem sp_edgeWith {b k q : Nat} {a : Int32} {K : Int32 → Prop} (hI : mI σ Ds) (hb : b < 4) (hz : ¬ ZD (Ds b) = 0) (hL : mL σ b (Ds b)) (hF : mF σ (Ds b)) (hk : k < 3) (hq : q < 500)
    (h1 : ∀ g i p, g < ZD (Ds b) → i < 3 → ¬ i = k → PN (Ds b) 0 g = 0 → fP (Ds b) k g = some q → eP (Ds b) i g = some p → ¬ nI (500 * i + p) = a → K (nI (500 * i + p)))
    (h0 : (∀ g i p, g < ZD (Ds b) → i < 3 → ¬ i = k → PN (Ds b) 0 g = 0 → fP (Ds b) k g = some q → eP (Ds b) i g = some p → nI (500 * i + p) = a) → K (-1)) : MX2_edgeWith σ (nI (500 * k + q)) a K := by
  have hv := (hI.1 b hb).1
  have hzl := ZD_le hv
  have hNl := NP_le (Ds b) 0
  unfold MX2_edgeWith
  rw [(code_d hk hq).1, (code_d hk hq).2]
  refine eb_loop1_i (fun x => ∃ m, m ≤ ZD (Ds b) ∧ x = nI m ∧ ∀ g i p, g < m → i < 3 → ¬ i = k → PN (Ds b) 0 g = 0 → fP (Ds b) k g = some q → eP (Ds b) i g = some p → nI (500 * i + p) = a) (fun x => 1000 - x.toNatClampNeg) ?_ ⟨0, by omega, rfl, fun g k p hg => absurd hg (Nat.not_lt_zero _)⟩
  rintro R _ ⟨m, hm, rfl, hno⟩ hR
  rw [hL.2.2.2.1]
  refine br_le (by omega) (by omega) (fun h => h0 (fun g i p hg => hno g i p (by omega))) (fun h => ?_)
  have hmz : m < ZD (Ds b) := by omega
  have hPl := PN_lt (Ds b) 0 hmz
  rw [eb_rd_iff, nI_cl (by omega), hL.co hz m hmz]
  refine ⟨vp_inN (by omega) (by omega), ?_⟩
  refine jp_0 (∀ i p, i < 3 → ¬ i = k → PN (Ds b) 0 m = 0 → fP (Ds b) k m = some q → eP (Ds b) i m = some p → nI (500 * i + p) = a) (fun hm' => ?_) (fun k4 hk4 => ?_)
  · rw [nI_1]
    refine hR _ ⟨m + 1, by omega, rfl, fun g i p hg => ?_⟩ (by rw [nI_cl (by omega), nI_cl (by omega)]; omega)
    by_cases e : g = m
    · rw [e]; exact hm' i p
    · exact hno g i p (by omega)
  · refine br_eq (b := 0) (by omega) (by omega) (fun e0 => ?_) (fun e0 => hk4 (fun i p _ _ z => absurd z e0))
    rw [code_i, eb_rd_iff, nI_cl (by omega), hF.2.1 k m hk hmz]
    refine ⟨vp_inN (by omega) (by omega), ?_⟩
    refine br_oQ (fun d hd => by have := fP_l5 hv hd hmz; omega) (by omega) (fun e1 => ?_) (fun e1 => hk4 (fun i p _ _ _ z => absurd z e1))
    refine eb_loop1_i (fun x => ∃ i, i ≤ 3 ∧ x = nI i ∧ ∀ i' p, i' < i → ¬ i' = k → eP (Ds b) i' m = some p → nI (500 * i' + p) = a) (fun x => 10 - x.toNatClampNeg) ?_ ⟨0, by omega, rfl, fun k' p hk' => absurd hk' (Nat.not_lt_zero _)⟩
    rintro R2 _ ⟨i, hi, rfl, hk2⟩ hR2
    refine br_le (a := 3) (by omega) (by omega) (fun h3 => hk4 (fun k' p hk' z1 _ _ z4 => hk2 k' p (by omega) z1 z4)) (fun h3 => ?_)
    have hi3 : i < 3 := by omega
    have er : eb_rd (σ.2.1 27) 1500 (500 * nI i + nI m) = eb_rd (σ.2.1 27) 1500 (nI (500 * i + m)) := by rw [code_j]
    rw [er, eb_rd_iff, nI_cl (by omega), hF.1 i m hi3 hmz]
    refine ⟨vp_inN (by omega) (by omega), ?_⟩
    refine jp_0 (¬ i = k → ∀ p, eP (Ds b) i m = some p → nI (500 * i + p) = a) (fun hm' => ?_) (fun k9 hk9 => ?_)
    · rw [nI_1]
      refine hR2 _ ⟨i + 1, by omega, rfl, fun k' p hk' z1 z2 => ?_⟩ (by rw [nI_cl (by omega), nI_cl (by omega)]; omega)
      by_cases e : k' = i
      · rw [e] at z1 z2 ⊢; exact hm' z1 p z2
      · exact hk2 k' p (by omega) z1 z2
    · refine br_eq (by omega) (by omega) (fun e => hk9 (fun z => absurd e z)) (fun e => ?_)
      rw [eb_rd_iff, nI_cl (by omega), hF.1 i m hi3 hmz]
      refine ⟨vp_inN (by omega) (by omega), ?_⟩
      refine oI_br (fun d hd => by have := eP_l5 hv hd hmz; omega) (fun ho => hk9 (fun _ p hp => by rw [ho] at hp; exact absurd hp (by simp))) (fun d hd => ?_)
      rw [hd, show (500 : Int32) * nI i + oI (some d) = nI (500 * i + d) from code_j i d]
      exact ⟨fun z => hk9 (fun _ p hp => by rw [hd] at hp; injection hp with hp; rw [← hp]; exact z), fun z => h1 m i d hmz hi3 e e0 e1 hd z⟩
end RD
