set_option maxRecDepth 100000
section API10
variable {σ : eb_MS} {Ds : Nat → eb_D}
/-- how many parts of a width, of the first kinds -/
noncomputable def cto (D : eb_D) (w : Nat) : Nat → Nat
  | 0 => 0
  | s + 1 => cto D w s + cond (kdB D w s) (NP D s) 0
theorem cto_le {D : eb_D} (hv : vD D) (w : Nat) : ∀ s, cto D w s ≤ 500 * s := by
  intro s
  induction s with
  | zero => exact Nat.le_refl _
  | succ s ih =>
    have := NP_le D s
    have := ZD_le hv
    show cto D w s + cond (kdB D w s) (NP D s) 0 ≤ 500 * (s + 1)
    cases kdB D w s
    · show cto D w s + 0 ≤ _; omega
    · show cto D w s + NP D s ≤ _; omega
theorem sp_countOf {b w : Nat} {K : Int32 → eb_MS → Prop} (hI : mI σ Ds) (hb : b < 4) (hz : ¬ ZD (Ds b) = 0) (hL : mL σ b (Ds b)) (hw : w < 2147483648) (hK : ∀ t, mI t Ds → mL t b (Ds b) → K (nI (cto (Ds b) w 16)) t) : MX2_countOf σ (nI w) K := by
  unfold MX2_countOf
  refine eb_loop3_i (fun c y t => ∃ s, s ≤ 16 ∧ c = nI (cto (Ds b) w s) ∧ y = nI s ∧ mI t Ds ∧ mL t b (Ds b)) (fun _ y _ => 20 - y.toNatClampNeg) ?_ ⟨0, by omega, rfl, rfl, hI, hL⟩
  rintro R c y t ⟨s, hs, rfl, rfl, ht, hLt⟩ hR
  refine br_le (a := 16) (by omega) (by omega) (fun h => ?_) (fun h => ?_)
  · rw [show s = 16 by omega]; exact hK t ht hLt
  · have q := ht.1 b hb
    have hp := pc4_le s
    have e0 : cto (Ds b) w (s + 1) = cto (Ds b) w s + cond (kdB (Ds b) w s) (NP (Ds b) s) 0 := rfl
    refine sp_bits (by omega) ?_
    refine jp_2 (fun c t' => c = nI (cto (Ds b) w (s + 1)) ∧ mI t' Ds ∧ mL t' b (Ds b)) ?_ ?_
    · rintro _ t' ⟨rfl, m1, m2⟩
      rw [nI_1]
      refine hR _ _ _ ⟨s + 1, by omega, rfl, rfl, m1, m2⟩ ?_
      rw [nI_cl (by omega), nI_cl (by omega)]; omega
    · intro k hk
      refine br_eq (by omega) hw (fun h2 => ?_) (fun h2 => ?_)
      · rw [hLt.1]
        refine sp_isK q.1 q.2 hb (by omega) ?_
        have e : kdB (Ds b) w s = isK (Ds b) s := by unfold kdB; rw [nbT h2]; rfl
        cases hq : isK (Ds b) s with
        | true =>
          rw [hq] at e
          refine ⟨fun z => absurd z (by decide), fun _ => ?_⟩
          refine sp_tells ht hb (by omega) hz hLt (fun t' _ m1 m2 m3 => ?_)
          rw [m3.2.1, nI_add]
          exact hk _ _ ⟨by rw [e0, e]; rfl, m1, m2⟩
        | false =>
          rw [hq] at e
          exact ⟨fun _ => hk _ _ ⟨by rw [e0, e]; rfl, ht, hLt⟩, fun z => absurd rfl z⟩
      · have e : kdB (Ds b) w s = false := by unfold kdB; rw [nbF h2]; rfl
        exact hk _ _ ⟨by rw [e0, e]; rfl, ht, hLt⟩
end API10
