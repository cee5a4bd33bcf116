set_option maxRecDepth 100000
/-! a word in tens -/
def dg (w k : Nat) : Nat := w / 10 ^ k % 10
def okW (r w : Nat) : Prop := ∀ k, ¬ w / 10 ^ k = 0 → 1 ≤ dg w k ∧ dg w k ≤ r
/-- where the first of a word's letters lead, from the greatest place n on -/
def wv (tf : Nat → Nat → Nat) (w n : Nat) : Nat → Nat
  | 0 => 0
  | s + 1 => tf (wv tf w n s) (dg w (n - s) - 1)
theorem ten_s (w k : Nat) : w / 10 ^ (k + 1) = w / 10 ^ k / 10 := by rw [Nat.pow_succ, Nat.div_div_eq_div_mul]
theorem ten_p (k : Nat) : 1 ≤ 10 ^ k := Nat.pow_pos (by omega)
theorem ten_nz {w n s : Nat} (h : 10 ^ n ≤ w) (hs : s ≤ n) : ¬ w / 10 ^ s = 0 := by
  have h1 : 10 ^ s ≤ 10 ^ n := Nat.pow_le_pow_right (by omega) hs
  have h2 : 1 ≤ w / 10 ^ s := (Nat.le_div_iff_mul_le (ten_p s)).mpr (by omega)
  omega
theorem wv_lt {N r : Nat} {tf : Nat → Nat → Nat} {w n : Nat} (ht : tfo N r tf) (hN : 0 < N) (hw : okW r w) (hn : 10 ^ n ≤ w) : ∀ s, s ≤ n + 1 → wv tf w n s < N := by
  intro s
  induction s with
  | zero => intro _; exact hN
  | succ s ih =>
    intro hs
    have q := hw (n - s) (ten_nz hn (by omega))
    exact (ht _ _ (ih (by omega)) (show dg w (n - s) - 1 < r by omega)).1
section API14
variable {σ : eb_MS} {Ds : Nat → eb_D}
theorem sp_element {a w : Int32} {K : Int32 → eb_MS → Prop} (hI : mI σ Ds)
    (h2 : (∀ b x, b < 4 → a = nI b → x < 2147483648 → w = nI x → ¬ okW (Ds b).1 x) → ∀ t, mI t Ds → K (-2) t)
    (h5 : ∀ b x, b < 4 → a = nI b → x < 2147483648 → w = nI x → okW (Ds b).1 x → ZD (Ds b) = 0 → ∀ t, mI t Ds → K (-5) t)
    (h1 : ∀ b x n, b < 4 → a = nI b → x < 2147483648 → w = nI x → okW (Ds b).1 x → ¬ ZD (Ds b) = 0 → (x = 0 ∧ n = 0 ∨ 10 ^ n ≤ x ∧ x < 10 ^ (n + 1)) → ∀ t, mI t Ds → K (nI (if x = 0 then 0 else wv (Tto (TD (Ds b))) x n (n + 1))) t) : MX2_element σ a w K := by
  unfold MX2_element
  rw [ms_ws_iff]
  have hI0 := hI.thrown (v := 0)
  refine sp_isBody (fun h => ?_) (fun h => ?_)
  · refine ⟨fun z => absurd z (by decide), fun _ => ?_⟩
    obtain ⟨b, hb, rfl⟩ : ∃ b : Nat, b < 4 ∧ a = nI b := (body_or a).resolve_right (fun z => z h)
    have q := hI0.1 b hb
    have hr := q.1.1
    refine ⟨fun hw0 => ?_, fun hw0 => h2 (fun b' x _ _ hx e _ => hw0 (by rw [e]; exact nI_pos' hx)) _ hI0⟩
    obtain ⟨x, hx, rfl⟩ := nI_of (Int32.not_lt.mpr hw0)
    refine jp_1 (fun v => (v = 1 ∧ okW (Ds b).1 x) ∨ (v = 0 ∧ ¬ okW (Ds b).1 x)) ?_ ?_
    · rintro v (⟨rfl, hok⟩ | ⟨rfl, hok⟩)
      · refine ⟨fun z => absurd z (by decide), fun _ => ?_⟩
        refine sp_loads q.1 q.2 hb hI0.2.1 (hI0.2.2 b hb) (fun hz t hf hL => ?_) (fun hz t hf hL => ?_)
        · exact ⟨fun _ => h5 b x hb rfl hx rfl hok hz t (mI_load hI0 hb hf hL), fun z => absurd rfl z⟩
        · refine ⟨fun z => absurd z (by decide), fun _ => ?_⟩
          have ht := mI_load hI0 hb hf hL
          obtain ⟨hG, hE, he3, he1⟩ := hL.E q.1 hz
          have hzl := ZD_le q.1
          have hto := TD_tfo q.1 hz
          refine jp_1 (fun u => ∃ n, u = nI (10 ^ n) ∧ (x = 0 ∧ n = 0 ∨ 10 ^ n ≤ x ∧ x < 10 ^ (n + 1))) ?_ ?_
          · rintro _ ⟨n, rfl, hn⟩
            have hK := h1 b x n hb rfl hx rfl hok hz hn t ht
            have hpn : 10 ^ n < 2147483648 := by
              rcases hn with ⟨-, hn⟩ | hn
              · rw [hn]; decide
              · omega
            refine eb_loop2_i (fun y u => ∃ s, s ≤ n + 1 ∧ y = nI (wv (Tto (TD (Ds b))) x n s) ∧ (x = 0 → s = 0) ∧ ((s ≤ n ∧ u = nI (10 ^ (n - s))) ∨ (s = n + 1 ∧ u = 0))) (fun y u => u.toNatClampNeg) ?_ ⟨0, by omega, rfl, fun _ => rfl, Or.inl ⟨by omega, rfl⟩⟩
            rintro R y u ⟨s, hs, rfl, h0, hu⟩ hR
            have fin : (x = 0 ∨ s = n + 1) → K (nI (wv (Tto (TD (Ds b))) x n s)) t := by
              rintro (e | e)
              · rw [if_pos e] at hK
                rw [h0 e]; exact hK
              · have hx0 : ¬ x = 0 := fun z => by have := h0 z; omega
                rw [if_neg hx0] at hK
                rw [e]; exact hK
            rcases hu with ⟨hsn, rfl⟩ | ⟨hsn, rfl⟩
            · have hp1 := ten_p (n - s)
              have hp2 : 10 ^ (n - s) ≤ 10 ^ n := Nat.pow_le_pow_right (by omega) (by omega)
              refine br_le (b := 0) (by omega) (by omega) (fun h3 => absurd h3 (by omega)) (fun _ => ?_)
              refine br_le (b := 0) (by omega) (by omega) (fun h3 => fin (Or.inl (by omega))) (fun h3 => ?_)
              have hn' : 10 ^ n ≤ x := by
                rcases hn with ⟨z, -⟩ | z
                · exact absurd z (by omega)
                · exact z.1
              have hd := hok (n - s) (ten_nz hn' (by omega))
              have hlt := wv_lt hto (by omega) hok hn' s (by omega)
              have hdl : dg x (n - s) < 10 := Nat.mod_lt _ (by omega)
              refine ⟨fun z => ?_, ?_⟩
              · have := (nI_eq (b := 0) (by omega) (by omega)).mp z
                omega
              · rw [nI_div hx (by omega), show eb_rem (nI (x / 10 ^ (n - s))) 10 = nI (dg x (n - s)) from nI_rem (Nat.lt_of_le_of_lt (Nat.div_le_self _ _) hx) (by omega : (10 : Nat) < 2147483648), show (4 : Int32) * nI (wv (Tto (TD (Ds b))) x n s) = nI (4 * wv (Tto (TD (Ds b))) x n s) from nI_mul 4 _, nI_add,
                  show nI (4 * wv (Tto (TD (Ds b))) x n s + dg x (n - s)) - 1 = nI (4 * wv (Tto (TD (Ds b))) x n s + dg x (n - s) - 1) from nI_sub (b := 1) (by omega), eb_rd_iff, nI_cl (by omega), show 4 * wv (Tto (TD (Ds b))) x n s + dg x (n - s) - 1 = 4 * wv (Tto (TD (Ds b))) x n s + (dg x (n - s) - 1) by omega,
                  hE.1 _ _ (by omega) (by omega)]
                refine ⟨vp_inN (by omega) (by omega), ?_⟩
                rw [show nI (10 ^ (n - s)) / 10 = nI (10 ^ (n - s) / 10) from nI_div (by omega) (by omega : (10 : Nat) < 2147483648)]
                refine hR _ _ ⟨s + 1, by omega, rfl, fun z => absurd z (by omega), ?_⟩ ?_
                · by_cases e : s = n
                  · right
                    refine ⟨by omega, ?_⟩
                    rw [e, Nat.sub_self]; rfl
                  · left
                    refine ⟨by omega, ?_⟩
                    rw [show n - s = (n - (s + 1)) + 1 by omega, Nat.pow_succ, Nat.mul_div_cancel _ (by omega)]
                · rw [nI_cl (by omega), nI_cl (by omega)]; omega
            · exact ⟨fun _ => fin (Or.inr hsn), fun z => absurd (by decide) z⟩
          · intro k hk
            refine eb_loop1_i (fun u => ∃ n, u = nI (10 ^ n) ∧ (n = 0 ∨ 10 ^ n ≤ x)) (fun u => 2147483648 - u.toNatClampNeg) ?_ ⟨0, rfl, Or.inl rfl⟩
            rintro R u ⟨n, rfl, hn⟩ hR
            have hp1 := ten_p n
            have hp2 : 10 ^ n < 2147483648 := by
              rcases hn with e | e
              · rw [e]; decide
              · omega
            refine ⟨fun z => ?_, ?_⟩
            · have := (nI_eq (b := 0) (by omega) (by omega)).mp z
              omega
            · have hdl : x / 10 ^ n ≤ x := Nat.div_le_self _ _
              rw [nI_div hx hp2]
              refine br_le (b := 9) (by omega) (by omega) (fun h3 => ?_) (fun h3 => ?_)
              · refine hk _ ⟨n, rfl, ?_⟩
                have h4 : x < 10 ^ (n + 1) := by
                  rw [Nat.pow_succ, Nat.mul_comm]
                  exact (Nat.div_lt_iff_lt_mul (ten_p n)).mp (by omega)
                by_cases e0 : x = 0
                · left
                  refine ⟨e0, ?_⟩
                  rcases hn with e | e
                  · exact e
                  · omega
                · right
                  refine ⟨?_, h4⟩
                  rcases hn with e | e
                  · rw [e]; show 1 ≤ x; omega
                  · exact e
              · have h4 : 10 * 10 ^ n ≤ x := (Nat.le_div_iff_mul_le (ten_p n)).mp (by omega)
                have e1 : 10 ^ (n + 1) = 10 ^ n * 10 := Nat.pow_succ ..
                rw [show nI (10 ^ n) * 10 = nI (10 ^ n * 10) from nI_mul _ 10, ← e1]
                refine hR _ ⟨n + 1, rfl, Or.inr (by omega)⟩ ?_
                rw [nI_cl (by omega), nI_cl (by omega)]; omega
      · exact ⟨fun _ => h2 (fun b' x' hb' e hx' ex z => hok (by
          have e1 : b = b' := (nI_eq (by omega) (by omega)).mp e
          have e2 : x = x' := (nI_eq hx hx').mp ex
          rw [e1, e2]; exact z)) _ hI0, fun z => absurd rfl z⟩
    · intro k hk
      refine eb_loop2_i (fun y v => ∃ n, y = nI (x / 10 ^ n) ∧ ((v = 1 ∧ ∀ j, j < n → ¬ x / 10 ^ j = 0 → 1 ≤ dg x j ∧ dg x j ≤ (Ds b).1) ∨ (v = 0 ∧ ¬ okW (Ds b).1 x))) (fun y _ => y.toNatClampNeg) ?_ ⟨0, by rw [Nat.pow_zero, Nat.div_one], Or.inl ⟨rfl, fun j hj => absurd hj (Nat.not_lt_zero _)⟩⟩
      rintro R y v ⟨n, rfl, hv⟩ hR
      have hdl : x / 10 ^ n ≤ x := Nat.div_le_self _ _
      refine br_le (b := 0) (by omega) (by omega) (fun h3 => ?_) (fun h3 => ?_)
      · refine hk _ ?_
        rcases hv with ⟨rfl, hg⟩ | hv
        · refine Or.inl ⟨rfl, fun j hj => ?_⟩
          by_cases e : j < n
          · exact hg j e hj
          · exfalso
            have e1 : x / 10 ^ j = 0 := by
              have : x / 10 ^ j ≤ x / 10 ^ n := Nat.div_le_div_left (Nat.pow_le_pow_right (by omega) (by omega)) (ten_p n)
              exact Nat.le_zero.mp (Nat.le_trans this h3)
            exact hj e1
        · exact Or.inr hv
      · rw [eb_rd_iff, nI_cl (by omega), q.2.1]
        refine ⟨vp_inN hb (by omega), ?_⟩
        have hdg : dg x n < 10 := Nat.mod_lt _ (by omega)
        rw [show eb_rem (nI (x / 10 ^ n)) 10 = nI (dg x n) from nI_rem (by omega) (by omega : (10 : Nat) < 2147483648), show nI (x / 10 ^ n) / 10 = nI (x / 10 ^ (n + 1)) by rw [ten_s]; exact nI_div (by omega) (by omega : (10 : Nat) < 2147483648)]
        have hm : (nI (x / 10 ^ (n + 1))).toNatClampNeg < (nI (x / 10 ^ n)).toNatClampNeg := by
          have := ten_s x n
          rw [nI_cl (by omega), nI_cl (by omega)]; omega
        refine sp_in (fun hi => ?_) (fun hi => ?_)
        · refine hR _ _ ⟨n + 1, rfl, ?_⟩ hm
          rcases hv with ⟨rfl, hg⟩ | ⟨rfl, hv⟩
          · refine Or.inl ⟨by decide, fun j hj hj0 => ?_⟩
            by_cases e : j = n
            · rw [e]
              exact ⟨(nI_leI (by omega : (1 : Nat) < 2147483648) (by omega)).mp hi.1, (nI_leI (by omega) (by omega)).mp hi.2⟩
            · exact hg j (by omega) hj0
          · exact Or.inr ⟨by decide, hv⟩
        · refine hR _ _ ⟨n + 1, rfl, Or.inr ⟨?_, fun z => hi ?_⟩⟩ hm
          · rcases hv with ⟨rfl, -⟩ | ⟨rfl, -⟩ <;> decide
          · have := z n (by omega)
            exact ⟨(nI_leI (by omega : (1 : Nat) < 2147483648) (by omega)).mpr this.1, (nI_leI (by omega) (by omega)).mpr this.2⟩
  · exact ⟨fun _ => h2 (fun b x hb e _ _ _ => h (by rw [e]; exact body_in hb)) _ hI0, fun z => absurd rfl z⟩
end API14
