set_option maxRecDepth 100000
/-! marks by some of a row -/
def mkF (P : Nat → Bool) (f : Nat → Nat) : Nat → Nat → Bool
  | 0, _ => false
  | m + 1, v => or (mkF P f m v) (and (P m) (Nat.beq (f m) v))
theorem mkF_no {P : Nat → Bool} {f : Nat → Nat} {m v : Nat} (h : P m = false) : mkF P f (m + 1) v = mkF P f m v := by
  show or (mkF P f m v) (and (P m) (Nat.beq (f m) v)) = _
  rw [h, Bool.false_and, Bool.or_false]
theorem mkF_ne {P : Nat → Bool} {f : Nat → Nat} {m v : Nat} (h : ¬ v = f m) : mkF P f (m + 1) v = mkF P f m v := by
  show or (mkF P f m v) (and (P m) (Nat.beq (f m) v)) = _
  rw [nbF (fun z => h z.symm), Bool.and_false, Bool.or_false]
theorem mkF_eq {P : Nat → Bool} {f : Nat → Nat} {m : Nat} (h : P m = true) : mkF P f (m + 1) (f m) = true := by
  show or (mkF P f m (f m)) (and (P m) (Nat.beq (f m) (f m))) = _
  rw [h, Nat.beq_refl, Bool.and_true, Bool.or_true]
theorem mkF_same {P : Nat → Bool} {f : Nat → Nat} {m : Nat} (h : mkF P f m (f m) = true) (v : Nat) : mkF P f (m + 1) v = mkF P f m v := by
  by_cases e : v = f m
  · subst e
    show or (mkF P f m (f m)) (and (P m) (Nat.beq (f m) (f m))) = _
    rw [h, Bool.true_or]
  · exact mkF_ne e
theorem mkF_set {P : Nat → Bool} {f : Nat → Nat} {m N : Nat} (hp : P m = true) (h : mkF P f m (f m) = false) (hl : f m < N) : cnB (mkF P f (m + 1)) N = cnB (mkF P f m) N + 1 :=
  cnB_set h (mkF_eq hp) (fun k hk => (mkF_ne hk).symm) N hl
theorem cnB_false {P : Nat → Bool} (h : ∀ k, P k = false) : ∀ N, cnB P N = 0 := by
  intro N
  induction N with
  | zero => rfl
  | succ N ih => show cnB P N + b1 (P N) = 0; rw [ih, h N]; rfl
section API7
variable {σ : eb_MS} {Ds : Nat → eb_D}
/-- which corners have an element of a part -/
noncomputable def cnF (D : eb_D) (s v : Nat) : Nat → Bool := mkF (fun g => Nat.beq (PN D s g) v) (PN D 0) (ZD D)
theorem sp_cornersOf {b s v : Nat} {K : Int32 → eb_MS → Prop} (hI : mI σ Ds) (hb : b < 4) (hz : ¬ ZD (Ds b) = 0) (hL : mL σ b (Ds b)) (hP : mP σ (Ds b) s) (hv : v < 2147483648)
    (hK : ∀ t, fr [23] σ t → mI t Ds → (∀ k, k < 500 → t.2.1 23 k = nI (b1 (cnF (Ds b) s v k))) → K (nI (cnB (cnF (Ds b) s v) (NP (Ds b) 0))) t) : MX2_cornersOf σ (nI v) K := by
  have hzl := ZD_le (hI.1 b hb).1
  have hn0 := NP_le (Ds b) 0
  have hns := NP_le (Ds b) s
  unfold MX2_cornersOf
  refine sp_clears (fun s1 f1 h0 => ?_)
  refine eb_loop3_i (fun c y t => ∃ m, m ≤ ZD (Ds b) ∧ c = nI (cnB (mkF (fun g => Nat.beq (PN (Ds b) s g) v) (PN (Ds b) 0) m) (NP (Ds b) 0)) ∧ y = nI m ∧ fr [23] σ t ∧ ∀ k, k < 500 → t.2.1 23 k = nI (b1 (mkF (fun g => Nat.beq (PN (Ds b) s g) v) (PN (Ds b) 0) m k))) (fun _ y _ => 1000 - y.toNatClampNeg) ?_ ⟨0, Nat.zero_le _, by rw [cnB_false (P := mkF (fun g => Nat.beq (PN (Ds b) s g) v) (PN (Ds b) 0) 0) (fun _ => rfl)]; rfl, rfl, f1, fun k hk => h0 k hk⟩
  rintro R c y t ⟨m, hm, rfl, rfl, ft, hmk⟩ hR
  rw [ft.1 8 (by decide), hL.2.2.2.1]
  refine br_le (by omega) (by omega) (fun h2 => ?_) (fun h2 => ?_)
  · have e : m = ZD (Ds b) := by omega
    subst e
    exact hK t ft (hI.fr ft (by decide)) hmk
  · have hp0 := PN_lt (Ds b) 0 (show m < ZD (Ds b) by omega)
    have hps := PN_lt (Ds b) s (show m < ZD (Ds b) by omega)
    rw [eb_rd_iff, nI_cl (by omega), ft.2.1 17 (by decide), hP.1 m (by omega)]
    refine ⟨vp_inN (by omega) (by omega), ?_⟩
    refine jp_2 (fun c t' => c = nI (cnB (mkF (fun g => Nat.beq (PN (Ds b) s g) v) (PN (Ds b) 0) (m + 1)) (NP (Ds b) 0)) ∧ fr [23] σ t' ∧ ∀ k, k < 500 → t'.2.1 23 k = nI (b1 (mkF (fun g => Nat.beq (PN (Ds b) s g) v) (PN (Ds b) 0) (m + 1) k))) ?_ ?_
    · rintro _ t' ⟨rfl, f', h'⟩
      rw [nI_1]
      refine hR _ _ _ ⟨m + 1, by omega, rfl, rfl, f', h'⟩ ?_
      rw [nI_cl (by omega), nI_cl (by omega)]; omega
    · intro k hk
      have keep : (∀ c, mkF (fun g => Nat.beq (PN (Ds b) s g) v) (PN (Ds b) 0) (m + 1) c = mkF (fun g => Nat.beq (PN (Ds b) s g) v) (PN (Ds b) 0) m c) → k (nI (cnB (mkF (fun g => Nat.beq (PN (Ds b) s g) v) (PN (Ds b) 0) m) (NP (Ds b) 0))) t := fun hc =>
        hk _ _ ⟨by rw [cnB_cg _ (fun c _ => hc c)], ft, fun c hc' => by rw [hc c]; exact hmk c hc'⟩
      refine br_eq (by omega) hv (fun h3 => ?_) (fun h3 => ?_)
      · have hPm : (fun g => Nat.beq (PN (Ds b) s g) v) m = true := nbT h3
        have e15 : t.2.1 15 m = nI (PN (Ds b) 0 m) := by
          rw [ft.2.1 15 (by decide)]
          exact (hL.2.2.2.2 hz).2.2.2.2.1 m (by omega)
        rw [eb_rd_iff, nI_cl (by omega), e15]
        refine ⟨vp_inN (by omega) (by omega), ?_⟩
        rw [eb_rd_iff, nI_cl (by omega), hmk _ (by omega)]
        refine ⟨vp_inN (by omega) (by omega), ?_⟩
        cases hq : mkF (fun g => Nat.beq (PN (Ds b) s g) v) (PN (Ds b) 0) m (PN (Ds b) 0 m) with
        | true => exact ⟨fun z => absurd z (by decide), fun _ => keep (mkF_same hq)⟩
        | false =>
          refine ⟨fun _ => ?_, fun z => absurd rfl z⟩
          rw [eb_rd_iff, nI_cl (by omega), e15]
          refine ⟨vp_inN (by omega) (by omega), ?_⟩
          rw [ms_wr_iff, nI_cl (by omega), nar_b1, nI_1]
          refine ⟨vp_inN (by omega) (by omega), ?_⟩
          refine hk _ _ ⟨by rw [mkF_set (P := fun g => Nat.beq (PN (Ds b) s g) v) hPm hq hp0], ft.pa (by decide), fun c hc => ?_⟩
          rw [ms_pa_eq]
          by_cases ec : c = PN (Ds b) 0 m
          · rw [ec, upd_eq, mkF_eq (P := fun g => Nat.beq (PN (Ds b) s g) v) (f := PN (Ds b) 0) hPm]; rfl
          · rw [upd_ne ec, mkF_ne ec]; exact hmk c hc
      · have hPm : (fun g => Nat.beq (PN (Ds b) s g) v) m = false := nbF h3
        exact keep (fun c => mkF_no hPm)
theorem sp_corners {a k v : Int32} {K : Int32 → eb_MS → Prop} (hI : mI σ Ds) (h2 : (∀ b s, ¬ okK Ds a k b s) ∨ ¬ 0 ≤ v → ∀ t, mI t Ds → K (-2) t) (h5 : ∀ b s, okK Ds a k b s → 0 ≤ v → ZD (Ds b) = 0 → ∀ t, mI t Ds → K (-5) t)
    (h1 : ∀ b s p, okK Ds a k b s → v = nI p → p < 2147483648 → ¬ ZD (Ds b) = 0 → ∀ t, mI t Ds → K (if p < NP (Ds b) s then nI (cnB (cnF (Ds b) s p) (NP (Ds b) 0)) else -2) t) : MX2_corners σ a k v K := by
  unfold MX2_corners
  rw [ms_ws_iff]
  refine sp_refusesPart hI.thrown (fun h => br_m2 (h2 h _ hI.thrown)) (fun b s ok hg hz t ht => br_m5 (h5 b s ok hg hz t ht)) (fun b s ok hg hz t ht hL hP => br_0 ?_)
  obtain ⟨p, hp, rfl⟩ := nI_of (Int32.not_lt.mpr hg)
  have hzl := ZD_le (hI.1 b ok.1).1
  have hnp := NP_le (Ds b) s
  rw [hP.2.1]
  refine br_le (by omega) hp (fun h => ?_) (fun h => ?_)
  · have := h1 b s p ok rfl hp hz t ht
    rw [if_neg (by omega)] at this
    exact this
  · refine sp_cornersOf ht ok.1 hz hL hP hp (fun t' _ ht' _ => ?_)
    have := h1 b s p ok rfl hp hz t' ht'
    rw [if_pos (by omega)] at this
    exact this
end API7
