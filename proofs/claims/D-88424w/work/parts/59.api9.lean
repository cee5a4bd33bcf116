set_option maxRecDepth 100000
section API9
variable {σ : eb_MS} {Ds : Nat → eb_D}
/-- mirrors turned by elements: the element by its number, the mirror by what is left -/
def Mf (e : tE) (p : Nat) : Nat := Pr e (Tto e (p / e.1) (p % e.1)) (Iv e (p / e.1))
noncomputable def aMirrors (Ds : Nat → eb_D) (a : Int32) : Int32 := gat Ds a (fun b => nI (cnB (mkB (Mf (TD (Ds b))) ((Ds b).1 * ZD (Ds b))) (ZD (Ds b))))
theorem sp_mirrors {a : Int32} {K : Int32 → eb_MS → Prop} (hI : mI σ Ds) (hK : ∀ s, mI s Ds → K (aMirrors Ds a) s) : MX2_mirrors σ a K := by
  unfold MX2_mirrors
  rw [ms_ws_iff]
  unfold aMirrors at hK
  refine sp_refuses hI.thrown (fun h => ?_) (fun b hb hab hz s hs => ?_) (fun b hb hab hz s hs hL => ?_)
  · refine br_m2 ?_
    have := hK _ (hI.thrown (v := 0))
    rw [gat_no h] at this
    exact this
  · refine br_m5 ?_
    have := hK s hs
    rw [hab, gat_z hb hz] at this
    exact this
  · refine br_0 ?_
    subst hab
    have hv := (hI.1 b hb).1
    have hzl := ZD_le hv
    have hr := hv.1
    obtain ⟨hG, hE, he3, he1⟩ := hL.E hv hz
    refine sp_clears (fun s1 f1 h0 => ?_)
    refine eb_loop3_i (fun c y t => ∃ m, m ≤ ZD (Ds b) ∧ c = nI (cnB (mkB (Mf (TD (Ds b))) ((Ds b).1 * m)) (ZD (Ds b))) ∧ y = nI m ∧ fr [23] s t ∧ ∀ k, k < 500 → t.2.1 23 k = nI (b1 (mkB (Mf (TD (Ds b))) ((Ds b).1 * m) k))) (fun _ y _ => 1000 - y.toNatClampNeg) ?_ ⟨0, Nat.zero_le _, by rw [Nat.mul_zero, cnB_false (P := mkB (Mf (TD (Ds b))) 0) (fun _ => rfl)]; rfl, rfl, f1, fun k hk => by rw [Nat.mul_zero]; exact h0 k hk⟩
    rintro R c y t ⟨m, hm, rfl, rfl, ft, hmk⟩ hR
    rw [ft.1 8 (by decide), hL.2.2.2.1]
    refine br_le (by omega) (by omega) (fun h2 => ?_) (fun h2 => ?_)
    · have e : m = ZD (Ds b) := by omega
      subst e
      have := hK t (hs.fr ft (by decide))
      rw [gat_f hb hz] at this
      exact this
    · refine jp_2 (fun c t' => c = nI (cnB (mkB (Mf (TD (Ds b))) ((Ds b).1 * (m + 1))) (ZD (Ds b))) ∧ fr [23] s t' ∧ ∀ k, k < 500 → t'.2.1 23 k = nI (b1 (mkB (Mf (TD (Ds b))) ((Ds b).1 * (m + 1)) k))) ?_ ?_
      · rintro _ t' ⟨rfl, f', h'⟩
        rw [nI_1]
        refine hR _ _ _ ⟨m + 1, by omega, rfl, rfl, f', h'⟩ ?_
        rw [nI_cl (by omega), nI_cl (by omega)]; omega
      · intro k hk
        refine eb_loop3_i (fun c y t => ∃ i, i ≤ (Ds b).1 ∧ c = nI (cnB (mkB (Mf (TD (Ds b))) ((Ds b).1 * m + i)) (ZD (Ds b))) ∧ y = nI i ∧ fr [23] s t ∧ ∀ k, k < 500 → t.2.1 23 k = nI (b1 (mkB (Mf (TD (Ds b))) ((Ds b).1 * m + i) k))) (fun _ y _ => 8 - y.toNatClampNeg) ?_ ⟨0, Nat.zero_le _, rfl, rfl, ft, hmk⟩
        rintro R2 c y t2 ⟨i, hi, rfl, rfl, ft2, hmk2⟩ hR2
        rw [ft2.1 6 (by decide), hL.2.1]
        refine br_le (by omega) (by omega) (fun h3 => ?_) (fun h3 => ?_)
        · have e : i = (Ds b).1 := by omega
          subst e
          exact hk _ _ ⟨by rw [Nat.mul_succ], ft2, by rw [Nat.mul_succ]; exact hmk2⟩
        · have hEt := hE.fr ft2 (by decide) (by decide) (by decide) (by decide)
          have hto := (hG.2.1 m (by omega) i (by omega)).1
          have hiv := Iv_lt hG (g := m) (by omega)
          have hp2 := Pr_lt hG hto _ hiv
          have hmf : Pr (TD (Ds b)) (Tto (TD (Ds b)) m i) (Iv (TD (Ds b)) m) = Mf (TD (Ds b)) ((Ds b).1 * m + i) := by
            unfold Mf
            rw [he1, Nat.mul_add_div (by omega), Nat.div_eq_of_lt (by omega), Nat.add_zero, Nat.mul_add_mod, Nat.mod_eq_of_lt (by omega)]
          rw [nL_4, nI_mul, nI_add, eb_rd_iff, nI_cl (by omega), hEt.1 m i (by omega) (by omega)]
          refine ⟨vp_inN (by omega) (by omega), ?_⟩
          refine sp_inverseOf hG hEt (by omega) ?_
          refine sp_productOf hG hEt hto hiv ?_
          rw [hmf] at hp2 ⊢
          rw [eb_rd_iff, nI_cl (by omega), hmk2 _ (by omega)]
          refine ⟨vp_inN (by omega) (by omega), ?_⟩
          refine jp_1 (fun q => q = nI (b1 (not (mkB (Mf (TD (Ds b))) ((Ds b).1 * m + i) (Mf (TD (Ds b)) ((Ds b).1 * m + i)))))) ?_ ?_
          · rintro _ rfl
            rw [ms_wr_iff, nI_cl (by omega), nar_b1]
            refine ⟨vp_inN (by omega) (by omega), ?_⟩
            rw [nI_add, nI_1, ← mkB_cnt (by omega)]
            refine hR2 _ _ _ ⟨i + 1, by omega, rfl, rfl, ft2.pa (by decide), fun k hk => ?_⟩ ?_
            · rw [ms_pa_eq]
              by_cases ek : k = Mf (TD (Ds b)) ((Ds b).1 * m + i)
              · rw [ek, upd_eq, show (Ds b).1 * m + (i + 1) = (Ds b).1 * m + i + 1 from rfl, mkB_eq]; rfl
              · rw [upd_ne ek, show (Ds b).1 * m + (i + 1) = (Ds b).1 * m + i + 1 from rfl, mkB_ne ek]; exact hmk2 k hk
            · rw [nI_cl (by omega), nI_cl (by omega)]; omega
          · intro k2 hk2
            cases hq : mkB (Mf (TD (Ds b))) ((Ds b).1 * m + i) (Mf (TD (Ds b)) ((Ds b).1 * m + i)) with
            | true => exact ⟨fun z => absurd z (by decide), fun _ => hk2 _ (by rw [hq]; rfl)⟩
            | false => exact ⟨fun _ => hk2 _ (by rw [hq]; rfl), fun z => absurd rfl z⟩
end API9
