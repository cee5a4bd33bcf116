set_option maxRecDepth 100000
theorem PN_00 (D : eb_D) : PN D 0 0 = 0 := by
  have : isL D.1 (Tto (TD D)) (inS (stay D 0)) 0 0 := ⟨cn_rf 0, fun l' hl' => absurd hl' (Nat.not_lt_zero _)⟩
  exact prt_eq this
theorem told_a : ∀ n, n < 6 → ∀ a, a < n → ∀ k, k < n → eb_rem (nI a + nI k) (nI n) = nI (pP n true a k) ∧ eb_rem (((((2 * nI n) + nI (n + a)) - nI n) - nI k)) (nI n) = nI (pP n false a k) := by decide +kernel
/-- a row, told from all places and in both directions -/
def imR (n : Nat) (S : Nat → Nat) (a k : Nat) : Nat := if a < n then S (pP n true a k) else S (pP n false (a - n) k)
abbrev rdW : List Nat := [17, 18, 19, 21, 23, 27, 28, 29, 30, 31]
section RDS
variable {σ : eb_MS} {Ds : Nat → eb_D}
theorem mF.fr {S : List Nat} {t t' : eb_MS} {D : eb_D} (h : mF t D) (hf : fr S t t') (h1 : 27 ∉ S) (h2 : 28 ∉ S) (h3 : 29 ∉ S) : mF t' D := by
  unfold mF
  rw [hf.2.1 27 h1, hf.2.1 28 h2, hf.2.1 29 h3]
  exact h
theorem sp_told {n a k : Nat} {S : Nat → Nat} {K : Int32 → Prop} (h31 : σ.1 31 = nI n) (hn : n < 6) (hr : ∀ i, i < n → σ.2.1 30 i = nI (S i)) (ha : a < 2 * n) (hk : k < n) (hK : K (nI (imR n S a k))) : MX2_told σ (nI a) (nI k) K := by
  have hn0 : ¬ nI n = 0 := fun z => by have := (nI_eq (a := n) (b := 0) (by omega) (by omega)).mp z; omega
  unfold MX2_told
  rw [h31]
  unfold imR at hK
  refine br_le (by omega) (by omega) (fun h => ⟨hn0, ?_⟩) (fun h => ⟨hn0, ?_⟩)
  · rw [if_neg (by omega)] at hK
    have e := (told_a n hn (a - n) (by omega) k hk).2
    rw [show n + (a - n) = a by omega] at e
    have hl := pP_lt (dg := n) (by omega) false (a - n) k
    rw [e, eb_rd_iff, nI_cl (by omega), hr _ hl]
    exact ⟨vp_inN (by omega) (by omega), hK⟩
  · rw [if_pos (by omega)] at hK
    have hl := pP_lt (dg := n) (by omega) true a k
    rw [(told_a n hn a (by omega) k hk).1, eb_rd_iff, nI_cl (by omega), hr _ hl]
    exact ⟨vp_inN (by omega) (by omega), hK⟩
theorem sp_isLess {n a b : Nat} {S : Nat → Nat} {K : Int32 → Prop} (h31 : σ.1 31 = nI n) (hn : n < 6) (hr : ∀ i, i < n → σ.2.1 30 i = nI (S i)) (hS : ∀ i, i < n → S i < 2147483648) (ha : a < 2 * n) (hb : b < 2 * n) (h1 : lxl n (imR n S a) (imR n S b) → K 1) (h0 : ¬ lxl n (imR n S a) (imR n S b) → K 0) : MX2_isLess σ (nI a) (nI b) K := by
  have hl : ∀ a k, a < 2 * n → k < n → imR n S a k < 2147483648 := fun a k ha hk => by
    unfold imR
    split
    · exact hS _ (pP_lt (by omega) _ _ _)
    · exact hS _ (pP_lt (by omega) _ _ _)
  unfold MX2_isLess
  refine eb_loop1_i (fun y => ∃ m, m ≤ n ∧ y = nI m ∧ ∀ j, j < m → imR n S a j = imR n S b j) (fun y => 10 - y.toNatClampNeg) ?_ ⟨0, by omega, rfl, fun j hj => absurd hj (Nat.not_lt_zero _)⟩
  rintro R _ ⟨m, hm, rfl, he⟩ hR
  have h31' := h31
  have eb31 : ∀ (A B : Prop), eb_br (nI n ≤ nI m) A B → eb_br (σ.1 31 ≤ nI m) A B := fun A B z => by rw [h31]; exact z
  refine eb31 _ _ (br_le (by omega) (by omega) (fun z => h0 (fun ⟨k, hk, _, w⟩ => by have := he k (by omega); omega)) (fun z => ?_))
  have hmn : m < n := by omega
  refine sp_told h31 hn hr ha hmn (sp_told h31 hn hr hb hmn ?_)
  refine br_eq (hl a m ha hmn) (hl b m hb hmn) (fun e => ?_) (fun e => sp_told h31 hn hr ha hmn (sp_told h31 hn hr hb hmn ?_))
  · rw [nI_1]
    refine hR _ ⟨m + 1, by omega, rfl, fun j hj => ?_⟩ (by rw [nI_cl (by omega), nI_cl (by omega)]; omega)
    by_cases z : j = m
    · rw [z]; exact e
    · exact he j (by omega)
  · exact br_le (hl b m hb hmn) (hl a m ha hmn) (fun w => h0 (fun z => by
      obtain ⟨k, hk, y1, y2⟩ := z
      rcases Nat.lt_trichotomy k m with u | u | u
      · have := he k u; omega
      · subst u; omega
      · exact e (y1 m u))) (fun w => h1 ⟨m, hmn, he, by omega⟩)
/-- the least of a row -/
theorem sp_best {n : Nat} {S : Nat → Nat} {x1 : Int32} {K : eb_MS → Prop} (h31 : σ.1 31 = nI n) (h1 : 1 ≤ n) (hn : n < 6) (hr : ∀ i, i < n → σ.2.1 30 i = nI (S i)) (hS : ∀ i, i < n → S i < 2147483648) (hK : ∀ t R, fr [30] σ t → mnD n S R → (∀ k, k < n → t.2.1 30 k = nI (R k)) → K t) :
    eb_jp1 (fun (x4_8 : Int32) => eb_jp1 (fun (g9 : eb_MS) => eb_loop2 (fun r12 (x5_10 : Int32) (g11 : eb_MS) => eb_br ((g11.1 31) ≤ x5_10) (K g11) (eb_rd (g11.2.1 30) 64 (32 + x5_10) (fun v13 => ms_wr g11 30 64 x5_10 v13 (fun g14 => r12 (x5_10 + 1) g14)))) 0 g9) (fun k16 => eb_loop2 (fun r19 (x5_17 : Int32) (g18 : eb_MS) => eb_br ((g18.1 31) ≤ x5_17) (k16 g18) (MX2_told g18 x4_8 x5_17 (fun v20 => ms_wr g18 30 64 (32 + x5_17) v20 (fun g22 => r19 (x5_17 + 1) g22)))) 0 σ)) (fun k24 => eb_loop2 (fun r27 (x4_25 : Int32) (x5_26 : Int32) => eb_br ((2 * (σ.1 31)) ≤ x5_26) (k24 x4_25) (MX2_isLess σ x5_26 x4_25 (fun v28 => eb_jp1 (fun (s30 : Int32) => r27 s30 (x5_26 + 1)) (fun k31 => eb_br (v28 = 0) (k31 x4_25) (k31 x5_26))))) 0 1) := by
  refine jp_1 (fun x => ∃ a, a < 2 * n ∧ x = nI a ∧ ∀ c, c < 2 * n → ¬ lxl n (imR n S c) (imR n S a)) ?_ ?_
  · rintro _ ⟨a, ha, rfl, hmin⟩
    have hmn : mnD n S (imR n S a) := by
      refine ⟨fun _ => ?_, fun t w ht z => ?_⟩
      · unfold imR
        by_cases c : a < n
        · exact ⟨a, true, c, fun k hk => by rw [if_pos c]⟩
        · exact ⟨a - n, false, by omega, fun k hk => by rw [if_neg c]⟩
      · cases w with
        | true =>
          refine hmin t (by omega) (lxl_cg z (fun k hk => ?_) (fun _ _ => rfl))
          unfold imR
          rw [if_pos ht]
        | false =>
          refine hmin (n + t) (by omega) (lxl_cg z (fun k hk => ?_) (fun _ _ => rfl))
          unfold imR
          rw [if_neg (by omega), show n + t - n = t by omega]
    refine jp_1 (fun t => fr [30] σ t ∧ (∀ i, i < n → t.2.1 30 i = nI (S i)) ∧ ∀ k, k < n → t.2.1 30 (32 + k) = nI (imR n S a k)) ?_ ?_
    · rintro t ⟨ft, r1, r2⟩
      refine eb_loop2_i (fun x s => ∃ m, m ≤ n ∧ x = nI m ∧ fr [30] σ s ∧ (∀ k, k < m → s.2.1 30 k = nI (imR n S a k)) ∧ ∀ k, k < n → s.2.1 30 (32 + k) = nI (imR n S a k)) (fun x _ => 10 - x.toNatClampNeg) ?_ ⟨0, by omega, rfl, ft, fun k hk => absurd hk (Nat.not_lt_zero _), r2⟩
      rintro R _ s ⟨m, hm, rfl, fs, z1, z2⟩ hR
      rw [fs.1 31 (by decide), h31]
      refine br_le (by omega) (by omega) (fun h => hK s _ fs hmn (fun k hk => z1 k (by omega))) (fun h => ?_)
      have e32 : (32 : Int32) + nI m = nI (32 + m) := by rw [show (32 : Int32) = nI 32 from rfl, nI_add]
      rw [e32, eb_rd_iff, nI_cl (by omega), z2 m (by omega)]
      refine ⟨vp_inN (by omega) (by omega), ?_⟩
      rw [ms_wr_iff, nI_cl (by omega), nI_1]
      refine ⟨vp_inN (by omega) (by omega), hR _ _ ⟨m + 1, by omega, rfl, fs.pa (by decide), fun k hk => ?_, fun k hk => ?_⟩ (by rw [nI_cl (by omega), nI_cl (by omega)]; omega)⟩
      · rw [ms_pa_eq]
        by_cases e : k = m
        · rw [e, upd_eq]
        · rw [upd_ne e]; exact z1 k (by omega)
      · rw [ms_pa_eq, upd_ne (by omega)]; exact z2 k hk
    · intro k16 hk16
      refine eb_loop2_i (fun x s => ∃ m, m ≤ n ∧ x = nI m ∧ fr [30] σ s ∧ (∀ i, i < n → s.2.1 30 i = nI (S i)) ∧ ∀ k, k < m → s.2.1 30 (32 + k) = nI (imR n S a k)) (fun x _ => 10 - x.toNatClampNeg) ?_ ⟨0, by omega, rfl, fr_rf _ _, hr, fun k hk => absurd hk (Nat.not_lt_zero _)⟩
      rintro R _ s ⟨m, hm, rfl, fs, z1, z2⟩ hR
      have s31 : s.1 31 = nI n := by rw [fs.1 31 (by decide), h31]
      have eb31 : ∀ (A B : Prop), eb_br (nI n ≤ nI m) A B → eb_br (s.1 31 ≤ nI m) A B := fun A B z => by rw [s31]; exact z
      refine eb31 _ _ (br_le (by omega) (by omega) (fun h => hk16 _ ⟨fs, z1, fun k hk => z2 k (by omega)⟩) (fun h => ?_))
      refine sp_told s31 hn z1 ha (by omega) ?_
      have e32 : (32 : Int32) + nI m = nI (32 + m) := by rw [show (32 : Int32) = nI 32 from rfl, nI_add]
      rw [e32, ms_wr_iff, nI_cl (by omega), nI_1]
      refine ⟨vp_inN (by omega) (by omega), hR _ _ ⟨m + 1, by omega, rfl, fs.pa (by decide), fun k hk => ?_, fun k hk => ?_⟩ (by rw [nI_cl (by omega), nI_cl (by omega)]; omega)⟩
      · rw [ms_pa_eq, upd_ne (by omega)]; exact z1 k hk
      · rw [ms_pa_eq]
        by_cases e : k = m
        · rw [e, upd_eq]
        · rw [upd_ne (by omega)]; exact z2 k (by omega)
  · intro k24 hk24
    have e2 : (2 : Int32) * σ.1 31 = nI (2 * n) := by rw [h31, show (2 : Int32) = nI 2 from rfl, nI_mul]
    refine eb_loop2_i (fun x y => ∃ a m, a < m ∧ m ≤ 2 * n ∧ x = nI a ∧ y = nI m ∧ ∀ c, c < m → ¬ lxl n (imR n S c) (imR n S a)) (fun _ y => 20 - y.toNatClampNeg) ?_ ⟨0, 1, by omega, by omega, rfl, rfl, fun c hc => by rw [show c = 0 by omega]; exact lxl_irr⟩
    rintro R _ _ ⟨a, m, ha, hm, rfl, rfl, hmin⟩ hR
    have eb2 : ∀ (A B : Prop), eb_br (nI (2 * n) ≤ nI m) A B → eb_br ((2 : Int32) * σ.1 31 ≤ nI m) A B := fun A B z => by rw [e2]; exact z
    refine eb2 _ _ (br_le (by omega) (by omega) (fun h => hk24 _ ⟨a, by omega, rfl, fun c hc => hmin c (by omega)⟩) (fun h => ?_))
    refine sp_isLess h31 hn hr hS (a := m) (b := a) (by omega) (by omega) (fun hlt => ?_) (fun hge => ?_)
    · refine jp_1 (fun v => v = nI m) ?_ (fun k hk => ⟨fun z => absurd z (by decide), fun _ => hk _ rfl⟩)
      rintro _ rfl
      rw [nI_1]
      refine hR _ _ ⟨m, m + 1, by omega, by omega, rfl, rfl, fun c hc => ?_⟩ (by rw [nI_cl (by omega), nI_cl (by omega)]; omega)
      by_cases e : c = m
      · rw [e]; exact lxl_irr
      · exact fun z => hmin c (by omega) (lxl_tr z hlt)
    · refine jp_1 (fun v => v = nI a) ?_ (fun k hk => ⟨fun _ => hk _ rfl, fun z => absurd rfl z⟩)
      rintro _ rfl
      rw [nI_1]
      refine hR _ _ ⟨a, m + 1, by omega, by omega, rfl, rfl, fun c hc => ?_⟩ (by rw [nI_cl (by omega), nI_cl (by omega)]; omega)
      by_cases e : c = m
      · rw [e]; exact hge
      · exact hmin c (by omega)
end RDS
