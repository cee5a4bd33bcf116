set_option maxRecDepth 100000
/-! kinds of parts -/
def isK (D : eb_D) (s : Nat) : Bool := and (Nat.blt s (2 ^ D.1)) (Nat.beq (rit (fun i => jnp D.2.1 i D.1) s 4 (Nat.land s D.2.2)) s)
def kdB (D : eb_D) (w s : Nat) : Bool := and (Nat.beq (pc4 s) w) (isK D s)
/-- the first of them that has i ahead of it -/
def nth (P : Nat → Bool) (i : Nat) : Nat → Option Nat
  | 0 => none
  | n + 1 => match nth P i n with
    | some s => some s
    | none => cond (and (P n) (Nat.beq (cnB P n) i)) (some n) none
def oI : Option Nat → Int32
  | none => -1
  | some s => nI s
theorem nth_keep {P : Nat → Bool} {i s : Nat} : ∀ {n m : Nat}, nth P i n = some s → n ≤ m → nth P i m = some s := by
  intro n m h hm
  induction m with
  | zero => rw [show n = 0 by omega] at h; exact h
  | succ m ih =>
    by_cases e : n = m + 1
    · rw [← e]; exact h
    · have := ih (by omega)
      show (match nth P i m with | some s => some s | none => cond (and (P m) (Nat.beq (cnB P m) i)) (some m) none) = some s
      rw [this]
section API5
variable {σ : eb_MS} {Ds : Nat → eb_D} {b : Nat} {D : eb_D}
theorem sp_isK {s : Nat} {K : Int32 → Prop} (hv : vD D) (hD : mD σ b D) (hb : b < 4) (hs : s < 2147483648) (hK : K (nI (b1 (isK D s)))) : MX2_isKind σ (nI b) (nI s) K := by
  have h16 : 2 ^ D.1 ≤ 2 ^ 4 := Nat.pow_le_pow_right (by omega) hv.1.2
  refine sp_isKind hv hD hb (fun h => ?_) (fun a ha hsa hr => ?_) (fun a ha hsa hr => ?_)
  · have : isK D s = false := by
      unfold isK
      rw [nlF (fun z => h s z rfl)]; rfl
    rw [this] at hK; exact hK
  · have e : s = a := (nI_eq hs (by omega)).mp hsa
    subst e
    have : isK D s = true := by
      unfold isK
      rw [nlT ha, nbT hr]; rfl
    rw [this] at hK; exact hK
  · have e : s = a := (nI_eq hs (by omega)).mp hsa
    subst e
    have : isK D s = false := by
      unfold isK
      rw [nlT ha, nbF hr]; rfl
    rw [this] at hK; exact hK
theorem sp_kinds {a w : Int32} {K : Int32 → eb_MS → Prop} (hI : mI σ Ds) (h2 : ¬ (∃ b m, b < 4 ∧ a = nI b ∧ w = nI m ∧ m ≤ (Ds b).1) → ∀ s, mI s Ds → K (-2) s)
    (h1 : ∀ b m, b < 4 → a = nI b → w = nI m → m ≤ (Ds b).1 → ∀ s, mI s Ds → K (nI (cnB (kdB (Ds b) m) 16)) s) : MX2_kinds σ a w K := by
  unfold MX2_kinds
  rw [ms_ws_iff]
  have hI0 := hI.thrown (v := 0)
  refine sp_isBody (fun h => ?_) (fun h => ?_)
  · refine ⟨fun z => absurd z (by decide), fun _ => ?_⟩
    obtain ⟨b, hb, rfl⟩ : ∃ b : Nat, b < 4 ∧ a = nI b := (body_or a).resolve_right (fun z => z h)
    have q := hI0.1 b hb
    have hr := q.1.1
    rw [eb_rd_iff, nI_cl (by omega), q.2.1]
    refine ⟨vp_inN hb (by omega), ?_⟩
    refine sp_in (fun hn => ?_) (fun hn => ?_)
    · refine ⟨fun z => absurd z (by decide), fun _ => ?_⟩
      obtain ⟨m, hm, rfl⟩ := nI_of (Int32.not_lt.mpr hn.1)
      have hmr := (nI_leI hm (by omega)).mp hn.2
      refine eb_loop2_i (fun x y => ∃ s, s ≤ 16 ∧ x = nI (cnB (kdB (Ds b) m) s) ∧ y = nI s) (fun _ y => 20 - y.toNatClampNeg) ?_ ⟨0, by omega, rfl, rfl⟩
      rintro R x y ⟨s, hs, rfl, rfl⟩ hR
      refine br_le (a := 16) (by omega) (by omega) (fun h3 => ?_) (fun h3 => ?_)
      · rw [show s = 16 by omega]
        exact h1 b m hb rfl rfl hmr _ hI0
      · refine sp_bits (by omega) ?_
        have hp := pc4_le s
        refine jp_1 (fun z => z = nI (b1 (kdB (Ds b) m s))) ?_ ?_
        · rintro _ rfl
          rw [nI_add, nI_1]
          refine hR _ _ ⟨s + 1, by omega, rfl, rfl⟩ ?_
          rw [nI_cl (by omega), nI_cl (by omega)]; omega
        · intro k hk
          refine br_eq (by omega) hm (fun h4 => ?_) (fun h4 => ?_)
          · refine sp_isK q.1 q.2 hb (by omega) ?_
            have e : kdB (Ds b) m s = isK (Ds b) s := by unfold kdB; rw [nbT h4]; rfl
            rw [e] at hk
            cases hq : isK (Ds b) s with
            | true => exact ⟨fun z => absurd z (by decide), fun _ => hk _ (by rw [hq]; rfl)⟩
            | false => exact ⟨fun _ => hk _ (by rw [hq]; rfl), fun z => absurd rfl z⟩
          · refine hk _ ?_
            have e : kdB (Ds b) m s = false := by unfold kdB; rw [nbF h4]; rfl
            rw [e]; rfl
    · refine ⟨fun _ => h2 (fun z => hn ?_) _ hI0, fun z => absurd rfl z⟩
      obtain ⟨b', m, hb', hab, rfl, hm⟩ := z
      have e : b = b' := (nI_eq (by omega) (by omega)).mp hab
      subst e
      exact ⟨nI_pos' (by omega), (nI_leI (by omega) (by omega)).mpr hm⟩
  · refine ⟨fun _ => h2 (fun z => h ?_) _ hI0, fun z => absurd rfl z⟩
    obtain ⟨b, m, hb, rfl, -⟩ := z
    exact body_in hb
theorem sp_kind {a w i : Int32} {K : Int32 → eb_MS → Prop} (hI : mI σ Ds) (h2 : ¬ (∃ b m, b < 4 ∧ a = nI b ∧ w = nI m ∧ m ≤ (Ds b).1 ∧ 0 ≤ i) → ∀ s, mI s Ds → K (-2) s)
    (h1 : ∀ b m, b < 4 → a = nI b → w = nI m → m ≤ (Ds b).1 → 0 ≤ i → ∀ s, mI s Ds → K (oI (nth (kdB (Ds b) m) i.toNatClampNeg 16)) s) : MX2_kind σ a w i K := by
  unfold MX2_kind
  rw [ms_ws_iff]
  have hI0 := hI.thrown (v := 0)
  refine sp_isBody (fun h => ?_) (fun h => ?_)
  · refine ⟨fun z => absurd z (by decide), fun _ => ?_⟩
    obtain ⟨b, hb, rfl⟩ : ∃ b : Nat, b < 4 ∧ a = nI b := (body_or a).resolve_right (fun z => z h)
    have q := hI0.1 b hb
    have hr := q.1.1
    rw [eb_rd_iff, nI_cl (by omega), q.2.1]
    refine ⟨vp_inN hb (by omega), ?_⟩
    refine sp_in (fun hn => ?_) (fun hn => ?_)
    · refine ⟨fun z => absurd z (by decide), fun _ => ?_⟩
      obtain ⟨m, hm, rfl⟩ := nI_of (Int32.not_lt.mpr hn.1)
      have hmr := (nI_leI hm (by omega)).mp hn.2
      refine ⟨fun hi => ?_, fun hi => h2 (fun z => hi z.choose_spec.choose_spec.2.2.2.2) _ hI0⟩
      have hK := h1 b m hb rfl rfl hmr hi _ hI0
      obtain ⟨v, hv, rfl⟩ := nI_of (Int32.not_lt.mpr hi)
      rw [nI_cl hv] at hK
      refine eb_loop2_i (fun x y => ∃ s, s ≤ 16 ∧ x = nI (cnB (kdB (Ds b) m) s) ∧ y = nI s ∧ nth (kdB (Ds b) m) v s = none) (fun _ y => 20 - y.toNatClampNeg) ?_ ⟨0, by omega, rfl, rfl, rfl⟩
      rintro R x y ⟨s, hs, rfl, rfl, hnone⟩ hR
      have hcl := cnB_le (kdB (Ds b) m) s
      refine br_le (a := 16) (by omega) (by omega) (fun h3 => ?_) (fun h3 => ?_)
      · rw [show s = 16 by omega] at hnone
        rw [hnone] at hK
        exact hK
      · refine sp_bits (by omega) ?_
        have hp := pc4_le s
        have hstep : nth (kdB (Ds b) m) v (s + 1) = cond (and (kdB (Ds b) m s) (Nat.beq (cnB (kdB (Ds b) m) s) v)) (some s) none := by
          show (match nth (kdB (Ds b) m) v s with | some s => some s | none => cond (and (kdB (Ds b) m s) (Nat.beq (cnB (kdB (Ds b) m) s) v)) (some s) none) = _
          rw [hnone]
        refine jp_1 (fun z => z = nI (cnB (kdB (Ds b) m) (s + 1)) ∧ nth (kdB (Ds b) m) v (s + 1) = none) ?_ ?_
        · rintro _ ⟨rfl, hn1⟩
          rw [nI_1]
          refine hR _ _ ⟨s + 1, by omega, rfl, rfl, hn1⟩ ?_
          rw [nI_cl (by omega), nI_cl (by omega)]; omega
        · intro k hk
          have hc : cnB (kdB (Ds b) m) (s + 1) = cnB (kdB (Ds b) m) s + b1 (kdB (Ds b) m s) := rfl
          refine br_eq (by omega) hm (fun h4 => ?_) (fun h4 => ?_)
          · refine sp_isK q.1 q.2 hb (by omega) ?_
            have e : kdB (Ds b) m s = isK (Ds b) s := by unfold kdB; rw [nbT h4]; rfl
            cases hq : isK (Ds b) s with
            | true =>
              rw [hq] at e
              refine ⟨fun z => absurd z (by decide), fun _ => ?_⟩
              refine br_eq (by omega) hv (fun h5 => ?_) (fun h5 => ?_)
              · have : nth (kdB (Ds b) m) v 16 = some s := nth_keep (n := s + 1) (by rw [hstep, e, nbT h5]; rfl) (by omega)
                rw [this] at hK
                exact hK
              · rw [nI_1]
                refine hk _ ⟨by rw [hc, e]; rfl, by rw [hstep, e, nbF h5]; rfl⟩
            | false =>
              rw [hq] at e
              refine ⟨fun _ => hk _ ⟨by rw [hc, e]; rfl, by rw [hstep, e]; rfl⟩, fun z => absurd rfl z⟩
          · have e : kdB (Ds b) m s = false := by unfold kdB; rw [nbF h4]; rfl
            exact hk _ ⟨by rw [hc, e]; rfl, by rw [hstep, e]; rfl⟩
    · refine ⟨fun _ => h2 (fun z => hn ?_) _ hI0, fun z => absurd rfl z⟩
      obtain ⟨b', m, hb', hab, rfl, hm, -⟩ := z
      have e : b = b' := (nI_eq (by omega) (by omega)).mp hab
      subst e
      exact ⟨nI_pos' (by omega), (nI_leI (by omega) (by omega)).mpr hm⟩
  · refine ⟨fun _ => h2 (fun z => h ?_) _ hI0, fun z => absurd rfl z⟩
    obtain ⟨b, m, hb, rfl, -⟩ := z
    exact body_in hb
end API5
