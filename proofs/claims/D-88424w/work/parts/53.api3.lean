set_option maxRecDepth 100000
/-! counts, and marks -/
def cnB (P : Nat → Bool) : Nat → Nat
  | 0 => 0
  | n + 1 => cnB P n + b1 (P n)
theorem cnB_le (P : Nat → Bool) : ∀ n, cnB P n ≤ n := by
  intro n
  induction n with
  | zero => exact Nat.le_refl _
  | succ n ih => have := b1_le (P n); show cnB P n + b1 (P n) ≤ n + 1; omega
theorem cnB_cg {P Q : Nat → Bool} : ∀ n, (∀ k, k < n → P k = Q k) → cnB P n = cnB Q n := by
  intro n
  induction n with
  | zero => intro _; rfl
  | succ n ih => intro h; show cnB P n + b1 (P n) = cnB Q n + b1 (Q n); rw [ih (fun k hk => h k (by omega)), h n (by omega)]
theorem cnB_set {P Q : Nat → Bool} {v : Nat} (hp : P v = false) (hq : Q v = true) (ho : ∀ k, ¬ k = v → P k = Q k) : ∀ n, v < n → cnB Q n = cnB P n + 1 := by
  intro n
  induction n with
  | zero => intro h; exact absurd h (Nat.not_lt_zero _)
  | succ n ih =>
    intro h
    show cnB Q n + b1 (Q n) = cnB P n + b1 (P n) + 1
    by_cases e : v = n
    · subst e
      rw [hp, hq, cnB_cg v (fun k hk => ho k (by omega))]
      rfl
    · rw [ih (by omega), ho n (fun z => e z.symm)]; omega
/-- which values the first m of a row take -/
def mkB (f : Nat → Nat) : Nat → Nat → Bool
  | 0, _ => false
  | m + 1, v => or (mkB f m v) (Nat.beq (f m) v)
theorem mkB_ne {f : Nat → Nat} {m v : Nat} (h : ¬ v = f m) : mkB f (m + 1) v = mkB f m v := by
  show or (mkB f m v) (Nat.beq (f m) v) = _
  rw [nbF (fun z => h z.symm), Bool.or_false]
theorem mkB_eq (f : Nat → Nat) (m : Nat) : mkB f (m + 1) (f m) = true := by
  show or (mkB f m (f m)) (Nat.beq (f m) (f m)) = _
  rw [Nat.beq_refl, Bool.or_true]
theorem mkB_cnt {f : Nat → Nat} {m N : Nat} (h : f m < N) : cnB (mkB f (m + 1)) N = cnB (mkB f m) N + b1 (not (mkB f m (f m))) := by
  cases hq : mkB f m (f m) with
  | true =>
    refine (cnB_cg N (fun k _ => ?_)).trans (Nat.add_zero _).symm
    by_cases e : k = f m
    · rw [e, mkB_eq, hq]
    · exact mkB_ne e
  | false => exact cnB_set hq (mkB_eq f m) (fun k hk => (mkB_ne hk).symm) N h
section API3
variable {e : tE} {σ : eb_MS} {Ds : Nat → eb_D}
theorem nar_b0 : vp_nar .boolean 0 = nI 0 := by decide
theorem nar_b1 : vp_nar .boolean 1 = nI 1 := by decide
theorem sp_clears {K : eb_MS → Prop} (hK : ∀ s, fr [23] σ s → (∀ k, k < 500 → s.2.1 23 k = nI 0) → K s) : MX2_clears σ K := by
  unfold MX2_clears
  refine eb_loop2_i (fun x s => ∃ m, m ≤ 500 ∧ x = nI m ∧ fr [23] σ s ∧ ∀ k, k < m → s.2.1 23 k = nI 0) (fun x _ => 1000 - x.toNatClampNeg) ?_ ⟨0, by omega, rfl, fr_rf _ _, fun k hk => absurd hk (Nat.not_lt_zero _)⟩
  rintro R x s ⟨m, hm, rfl, hf, hrow⟩ hR
  refine br_le (a := 500) (by omega) (by omega) (fun h => ?_) (fun h => ?_)
  · exact hK s hf (fun k hk => hrow k (by omega))
  · rw [ms_wr_iff, nI_cl (by omega), nar_b0]
    refine ⟨vp_inN (by omega) (by omega), ?_⟩
    refine hR _ _ ⟨m + 1, by omega, by rw [nI_1], hf.pa (by decide), fun k hk => ?_⟩ ?_
    · rw [ms_pa_eq]
      by_cases ek : k = m
      · rw [ek, upd_eq]
      · rw [upd_ne ek]; exact hrow k (by omega)
    · rw [nI_1, nI_cl (by omega), nI_cl (by omega)]; omega
theorem mE.fr {S : List Nat} {σ σ' : eb_MS} {e : tE} (h : mE σ e) (hf : fr S σ σ') (h1 : 11 ∉ S) (h2 : 12 ∉ S) (h3 : 13 ∉ S) (h4 : 14 ∉ S) : mE σ' e := by
  unfold mE
  rw [hf.2.1 11 h1, hf.2.1 12 h2, hf.2.1 13 h3, hf.2.1 14 h4]
  exact h
noncomputable def aOfLength (Ds : Nat → eb_D) (a v : Int32) : Int32 := if 0 ≤ v then gat Ds a (fun b => nI (cnB (fun x => Nat.beq (Tlen (TD (Ds b)) x) v.toNatClampNeg) (ZD (Ds b)))) else -2
theorem sp_ofLength {a v : Int32} {K : Int32 → eb_MS → Prop} (hI : mI σ Ds) (hK : ∀ s, mI s Ds → K (aOfLength Ds a v) s) : MX2_ofLength σ a v K := by
  unfold MX2_ofLength
  rw [ms_ws_iff]
  unfold aOfLength at hK
  refine sp_refusesOf hI.thrown (fun h => ?_) (fun b hb hab hg hz s hs => ?_) (fun b hb hab hg hz s hs hL => ?_)
  · refine br_m2 ?_
    have := hK _ (hI.thrown (v := 0))
    rcases h with h | h
    · rw [gat_no h, ite_self] at this; exact this
    · rw [if_neg h] at this; exact this
  · refine br_m5 ?_
    have := hK s hs
    rw [if_pos hg, hab, gat_z hb hz] at this
    exact this
  · refine br_0 ?_
    subst hab
    obtain ⟨y, hy, rfl⟩ := nI_of (Int32.not_lt.mpr hg)
    have := hK s hs
    rw [if_pos hg, gat_f hb hz, nI_cl hy] at this
    have hv := (hI.1 b hb).1
    have hzl := ZD_le hv
    obtain ⟨hG, hE, he3, he1⟩ := hL.E hv hz
    refine eb_loop2_i (fun x z => ∃ m, m ≤ ZD (Ds b) ∧ x = nI (cnB (fun x => Nat.beq (Tlen (TD (Ds b)) x) y) m) ∧ z = nI m) (fun _ z => 1000 - z.toNatClampNeg) ?_ ⟨0, Nat.zero_le _, rfl, rfl⟩
    rintro R x z ⟨m, hm, rfl, rfl⟩ hR
    rw [hL.2.2.2.1]
    refine br_le (by omega) (by omega) (fun h => ?_) (fun h => ?_)
    · rw [show m = ZD (Ds b) by omega]; exact this
    · rw [eb_rd_iff, nI_cl (by omega), hE.2.1 m (by omega)]
      refine ⟨vp_inN (by omega) (by omega), ?_⟩
      have hl := (Tlen_0 hG (show m < (TD (Ds b)).2.2.1 by omega)).2
      refine jp_1 (fun x => x = nI (b1 (Nat.beq (Tlen (TD (Ds b)) m) y))) ?_ ?_
      · rintro _ rfl
        rw [nI_add, nI_1]
        refine hR _ _ ⟨m + 1, by omega, rfl, rfl⟩ ?_
        rw [nI_cl (by omega), nI_cl (by omega)]; omega
      · intro k hk
        refine br_eq (by omega) hy (fun h2 => hk _ ?_) (fun h2 => hk _ ?_)
        · rw [nbT h2]; rfl
        · rw [nbF h2]; rfl
/-- what an element is turned to by another -/
def Cj (e : tE) (g h : Nat) : Nat := Pr e (Pr e h g) (Iv e h)
noncomputable def aClassSize (Ds : Nat → eb_D) (a g : Int32) : Int32 := gatE Ds a g (fun b x => nI (cnB (mkB (Cj (TD (Ds b)) x) (ZD (Ds b))) (ZD (Ds b))))
theorem sp_classSize {a g : Int32} {K : Int32 → eb_MS → Prop} (hI : mI σ Ds) (hK : ∀ s, mI s Ds → K (aClassSize Ds a g) s) : MX2_classSize σ a g K := by
  unfold MX2_classSize
  rw [ms_ws_iff]
  unfold aClassSize at hK
  refine sp_refusesOf hI.thrown (fun h => ?_) (fun b hb hab hg hz s hs => ?_) (fun b hb hab hg hz s hs hL => ?_)
  · refine br_m2 ?_
    have := hK _ (hI.thrown (v := 0))
    rcases h with h | h
    · rw [gatE_no h] at this; exact this
    · rw [gatE_neg h] at this; exact this
  · refine br_m5 ?_
    have := hK s hs
    rw [hab, gatE_z hb hg hz] at this
    exact this
  · refine br_0 ?_
    subst hab
    obtain ⟨x, hx, rfl⟩ := nI_of (Int32.not_lt.mpr hg)
    have hv := (hI.1 b hb).1
    have hzl := ZD_le hv
    obtain ⟨hG, hE, he3, he1⟩ := hL.E hv hz
    rw [hL.2.2.2.1]
    refine br_lt hx (by omega) (fun h => ?_) (fun h => ?_)
    · refine sp_clears (fun s1 f1 h0 => ?_)
      refine eb_loop3_i (fun c y t => ∃ m, m ≤ ZD (Ds b) ∧ c = nI (cnB (mkB (Cj (TD (Ds b)) x) m) (ZD (Ds b))) ∧ y = nI m ∧ fr [23] s t ∧ ∀ k, k < 500 → t.2.1 23 k = nI (b1 (mkB (Cj (TD (Ds b)) x) m k))) (fun _ y _ => 1000 - y.toNatClampNeg) ?_ ⟨0, Nat.zero_le _, ?_, rfl, f1, fun k hk => h0 k hk⟩
      · rintro R c y t ⟨m, hm, rfl, rfl, ft, hmk⟩ hR
        rw [ft.1 8 (by decide), hL.2.2.2.1]
        refine br_le (by omega) (by omega) (fun h2 => ?_) (fun h2 => ?_)
        · have := hK t (hs.fr ft (by decide))
          rw [gatE_f hb hx hz, if_pos h] at this
          rw [show m = ZD (Ds b) by omega]; exact this
        · have hEt := hE.fr ft (by decide) (by decide) (by decide) (by decide)
          have hp1 := Pr_lt hG (g := m) (by omega) x (by omega)
          have hiv := Iv_lt hG (g := m) (by omega)
          have hp2 := Pr_lt hG hp1 _ hiv
          refine sp_productOf hG hEt (by omega) (by omega) ?_
          refine sp_inverseOf hG hEt (by omega) ?_
          refine sp_productOf hG hEt hp1 hiv ?_
          have hcj : Pr (TD (Ds b)) (Pr (TD (Ds b)) m x) (Iv (TD (Ds b)) m) = Cj (TD (Ds b)) x m := rfl
          rw [hcj] at hp2 ⊢
          rw [eb_rd_iff, nI_cl (by omega), hmk _ (by omega)]
          refine ⟨vp_inN (by omega) (by omega), ?_⟩
          refine jp_1 (fun q => q = nI (b1 (not (mkB (Cj (TD (Ds b)) x) m (Cj (TD (Ds b)) x m))))) ?_ ?_
          · rintro _ rfl
            rw [ms_wr_iff, nI_cl (by omega), nar_b1]
            refine ⟨vp_inN (by omega) (by omega), ?_⟩
            rw [nI_add, nI_1, ← mkB_cnt (by omega)]
            refine hR _ _ _ ⟨m + 1, by omega, rfl, rfl, ft.pa (by decide), fun k hk => ?_⟩ ?_
            · rw [ms_pa_eq]
              by_cases ek : k = Cj (TD (Ds b)) x m
              · rw [ek, upd_eq, mkB_eq]; rfl
              · rw [upd_ne ek, mkB_ne ek]; exact hmk k hk
            · rw [nI_cl (by omega), nI_cl (by omega)]; omega
          · intro k hk
            cases hq : mkB (Cj (TD (Ds b)) x) m (Cj (TD (Ds b)) x m) with
            | true => exact ⟨fun z => absurd z (by decide), fun _ => hk _ (by rw [hq]; rfl)⟩
            | false => exact ⟨fun _ => hk _ (by rw [hq]; rfl), fun z => absurd rfl z⟩
      · have : ∀ N, cnB (mkB (Cj (TD (Ds b)) x) 0) N = 0 := by
          intro N
          induction N with
          | zero => rfl
          | succ N ih => show cnB _ N + 0 = 0; rw [ih]
        rw [this]; rfl
    · have := hK s hs
      rw [gatE_f hb hx hz, if_neg h] at this
      exact this
end API3
