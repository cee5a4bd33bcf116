set_option maxRecDepth 100000
section CSET3
variable {Γ : eb_C} {E : cET} {st st' : eb_S} {I I' : Nat → va_E → Prop} {ad : Nat → Nat} {bd : Nat → cBT} {x : cXT} {Ds : Nat → eb_D} {p bc bs : Nat}
theorem nI_mm : ∀ m : Nat, m < 4 → ¬ nI 0 - 1 = nI m := by decide
theorem cW_element {a w : Int32} {K : Int32 → eb_S → Prop} (hE : cEm E) (hW : cW Γ E st p Ds) (hbc : 22 ≤ bc) (hbs : 13660 ≤ bs)
    (h2 : (∀ b x, b < 4 → a = nI b → x < 2147483648 → w = nI x → ¬ okW (Ds b).1 x) → ∀ t, cW Γ E t p Ds → K (-2) t)
    (h5 : ∀ b x, b < 4 → a = nI b → x < 2147483648 → w = nI x → okW (Ds b).1 x → ZD (Ds b) = 0 → ∀ t, cW Γ E t p Ds → K (-5) t)
    (h1 : ∀ b x n, b < 4 → a = nI b → x < 2147483648 → w = nI x → okW (Ds b).1 x → ¬ ZD (Ds b) = 0 → (x = 0 ∧ n = 0 ∨ 10 ^ n ≤ x ∧ x < 10 ^ (n + 1)) → ∀ t, cW Γ E t p Ds → K (nI (if x = 0 then 0 else wv (Tto (TD (Ds b))) x n (n + 1))) t) : MX0_element Γ bc bs st p a w K := by
  obtain ⟨I, ad, bd, x0, hp, h⟩ := hW
  subst hp
  unfold MX0_element
  have no : ¬ ((0 ≤ a ∧ a ≤ 3) ∧ 0 ≤ w) → K (-2) st := fun hn => h2 (fun b x hb e hx ex _ => hn ⟨by rw [e]; exact body_in hb, by rw [ex]; exact nI_pos' hx⟩) _ (h.W rfl)
  refine sc_isBody (fun hba => ?_) (fun hba => ?_)
  rotate_left
  · refine jp_1 (fun s => s = 0) ?_ (fun k hk => ⟨fun _ => hk _ rfl, fun z => absurd rfl z⟩)
    rintro _ rfl
    refine jp_2 (fun _ v => v = 0) ?_ (fun k hk => ?_)
    · rintro _ _ rfl
      exact ⟨h.cs0, 0, 0, ⟨by omega, by omega⟩, sc_why0 ⟨fun z => absurd z (by decide), fun _ => no (fun z => hba z.1)⟩⟩
    · refine eb_loop3_i (fun _ v _ => v = 0) (fun _ _ _ => 0) ?_ rfl
      rintro R y _ u rfl hR
      exact ⟨fun _ => hk _ _ rfl, fun _ => ⟨fun _ => hk _ _ rfl, fun z => absurd rfl z⟩⟩
  obtain ⟨b, hb, rfl⟩ : ∃ b : Nat, b < 4 ∧ a = nI b := (body_or a).resolve_right (fun w => w hba)
  have hv := h.v hb
  have hr := hv.1
  refine jp_1 (fun s => (s = 0 ∧ w < 0) ∨ (s = 1 ∧ ¬ w < 0)) ?_ (fun k hk => ⟨fun z => absurd z (by decide), fun _ => ⟨fun z => hk _ (Or.inl ⟨rfl, z⟩), fun z => hk _ (Or.inr ⟨rfl, z⟩)⟩⟩)
  rintro s (⟨rfl, hw⟩ | ⟨rfl, hw⟩)
  · refine jp_2 (fun _ v => v = 0) ?_ (fun k hk => ?_)
    · rintro _ _ rfl
      exact ⟨h.cs0, 0, 0, ⟨by omega, by omega⟩, sc_why0 ⟨fun z => absurd z (by decide), fun _ => no (fun z => Int32.not_lt.mpr z.2 hw)⟩⟩
    · refine eb_loop3_i (fun _ v _ => v = 0) (fun _ _ _ => 0) ?_ rfl
      rintro R y _ u rfl hR
      exact ⟨fun _ => hk _ _ rfl, fun _ => ⟨fun _ => hk _ _ rfl, fun z => absurd rfl z⟩⟩
  obtain ⟨x, hx, rfl⟩ := nI_of hw
  refine jp_2 (fun y v => (v = 1 ∧ okW (Ds b).1 x ∧ ∃ m, y = nI (10 ^ m) ∧ (x = 0 ∧ m = 0 ∨ 10 ^ m ≤ x ∧ x < 10 ^ (m + 1))) ∨ (v = 0 ∧ ¬ okW (Ds b).1 x)) ?_ (fun k hk => ?_)
  · rintro y v (⟨rfl, hok, n, rfl, hn⟩ | ⟨rfl, hok⟩)
    · refine ⟨h.cs0, 22, 13660, ⟨by omega, by omega⟩, ?_⟩
      refine sc_why hE h rfl (Or.inr ⟨Nat.le_refl _, Nat.le_refl _⟩) (fun z => ?_) (fun b' hb' e _ hz st1 I1 bd1 hV => ?_) (fun b' hb' e _ hz st1 I1 bd1 q hV hk1 hq hC => ?_)
      · rcases z with z | z
        · exact absurd hba z
        · exact absurd z (by decide)
      · have e1 : b = b' := (nI_eq (by omega) (by omega)).mp e
        subst e1
        exact ⟨fun z => absurd z (by decide), fun _ => h5 b x hb rfl hx rfl hok hz _ (hV.W rfl)⟩
      · have e1 : b = b' := (nI_eq (by omega) (by omega)).mp e
        subst e1
        refine ⟨fun _ => ?_, fun z => absurd rfl z⟩
        have hzl := ZD_le hv
        have hto := TD_tfo hv hz
        obtain ⟨hG, he1, he2, he3⟩ := TD_ok hv hz
        have hK := h1 b x n hb rfl hx rfl hok hz hn st1 (hV.W rfl)
        have hpn : 10 ^ n < 2147483648 := by
          rcases hn with ⟨-, hn⟩ | hn
          · rw [hn]; decide
          · omega
        refine eb_loop5_i (fun y u g c w => st1 = g ∧ c ≤ bc ∧ w ≤ bs ∧ ∃ s, s ≤ n + 1 ∧ y = nI (wv (Tto (TD (Ds b))) x n s) ∧ (x = 0 → s = 0) ∧ ((s ≤ n ∧ u = nI (10 ^ (n - s))) ∨ (s = n + 1 ∧ u = 0))) (fun y u _ _ _ => u.toNatClampNeg) ?_ ⟨rfl, by omega, by omega, 0, by omega, rfl, fun _ => rfl, Or.inl ⟨by omega, rfl⟩⟩
        rintro R y u _ c w ⟨rfl, hc, hw, s, hs, rfl, h0, hu⟩ hR
        have fin : (x = 0 ∨ s = n + 1) → K (nI (wv (Tto (TD (Ds b))) x n s)) st1 := by
          rintro (e | e)
          · rw [if_pos e] at hK
            rw [h0 e]; exact hK
          · have hx0 : ¬ x = 0 := fun z => by have := h0 z; omega
            rw [if_neg hx0] at hK
            rw [e]; exact hK
        rcases hu with ⟨hsn, rfl⟩ | ⟨hsn, rfl⟩
        · have hp1 := ten_p (n - s)
          have hp2 : 10 ^ (n - s) ≤ 10 ^ n := Nat.pow_le_pow_right (by omega) (by omega)
          refine br_le (b := 0) (by omega) (by omega) (fun h3 => absurd h3 (by omega)) (fun _ => ?_)
          refine br_le (b := 0) (by omega) (by omega) (fun h3 => fin (Or.inl (by omega))) (fun h3 => ?_)
          have hn' : 10 ^ n ≤ x := by
            rcases hn with ⟨z, -⟩ | z
            · exact absurd z (by omega)
            · exact z.1
          have hd := hok (n - s) (ten_nz hn' (by omega))
          have hlt := wv_lt hto (by omega) hok hn' s (by omega)
          have hdl : dg x (n - s) < 10 := Nat.mod_lt _ (by omega)
          refine hV.at hb ⟨(hV.body hb).cs, 0, 0, ⟨by omega, by omega⟩, sc_grp1 hV hb hk1 ⟨fun z => ?_, ?_⟩⟩
          · have := (nI_eq (b := 0) (by omega) (by omega)).mp z
            omega
          · rw [hq, nI_div hx (by omega), show eb_rem (nI (x / 10 ^ (n - s))) 10 = nI (dg x (n - s)) from nI_rem (Nat.lt_of_le_of_lt (Nat.div_le_self _ _) hx) (by omega : (10 : Nat) < 2147483648), show nI (dg x (n - s)) - 1 = nI (dg x (n - s) - 1) from nI_sub (b := 1) (by omega)]
            refine st_nn ⟨hC.cs hV.fz, sc_by hG hC hV.fz (by rw [he3]; exact hlt) (by rw [he1]; omega) ?_⟩
            rw [show nI (10 ^ (n - s)) / 10 = nI (10 ^ (n - s) / 10) from nI_div (by omega) (by omega : (10 : Nat) < 2147483648)]
            refine hR _ _ _ _ _ ⟨rfl, by omega, by omega, s + 1, by omega, rfl, fun z => absurd z (by omega), ?_⟩ ?_
            · by_cases e : s = n
              · right
                refine ⟨by omega, ?_⟩
                rw [e, Nat.sub_self]; rfl
              · left
                refine ⟨by omega, ?_⟩
                rw [show n - s = (n - (s + 1)) + 1 by omega, Nat.pow_succ, Nat.mul_div_cancel _ (by omega)]
            · rw [nI_cl (by omega), nI_cl (by omega)]; omega
        · exact ⟨fun _ => fin (Or.inr hsn), fun z => absurd (by decide) z⟩
    · refine ⟨h.cs0, 0, 0, ⟨by omega, by omega⟩, sc_why0 ⟨fun z => absurd z (by decide), fun _ => h2 (fun b' x' hb' e hx' ex z => hok ?_) _ (h.W rfl)⟩⟩
      have e1 : b = b' := (nI_eq (by omega) (by omega)).mp e
      have e2 : x = x' := (nI_eq hx hx').mp ex
      rw [e1, e2]; exact z
  · refine eb_loop3_i (fun y v u => ∃ n, u = nI (x / 10 ^ n) ∧ ((v = 1 ∧ (∀ j, j < n → ¬ x / 10 ^ j = 0 → 1 ≤ dg x j ∧ dg x j ≤ (Ds b).1) ∧ ∃ m, y = nI (10 ^ m) ∧ ((¬ x / 10 ^ n = 0 ∧ m = n) ∨ (x / 10 ^ n = 0 ∧ (x = 0 ∧ m = 0 ∨ 10 ^ m ≤ x ∧ x < 10 ^ (m + 1))))) ∨ (v = 0 ∧ ¬ okW (Ds b).1 x))) (fun _ _ u => u.toNatClampNeg) ?_ ⟨0, by rw [Nat.pow_zero, Nat.div_one], Or.inl ⟨rfl, fun j hj => absurd hj (Nat.not_lt_zero _), 0, rfl, ?_⟩⟩
    · rintro R y v u ⟨n, rfl, hvv⟩ hR
      have hdl : x / 10 ^ n ≤ x := Nat.div_le_self _ _
      refine br_le (b := 0) (by omega) (by omega) (fun h3 => hk _ _ ?_) (fun h3 => ?_)
      · rcases hvv with ⟨rfl, hg, m, rfl, hm⟩ | hvv
        · refine Or.inl ⟨rfl, fun j hj => ?_, m, rfl, ?_⟩
          · by_cases e : j < n
            · exact hg j e hj
            · exfalso
              have e1 : x / 10 ^ j = 0 := by
                have : x / 10 ^ j ≤ x / 10 ^ n := Nat.div_le_div_left (Nat.pow_le_pow_right (by omega) (by omega)) (ten_p n)
                exact Nat.le_zero.mp (Nat.le_trans this h3)
              exact hj e1
          · rcases hm with hm | hm
            · exact absurd (Nat.le_zero.mp h3) hm.1
            · exact hm.2
        · exact Or.inr hvv
      · rcases hvv with ⟨rfl, hg, m, rfl, hm⟩ | ⟨rfl, hvv⟩
        · refine ⟨fun z => absurd z (by decide), fun _ => ⟨h.cs0, ?_⟩⟩
          have hdg : dg x n < 10 := Nat.mod_lt _ (by omega)
          have hmn : m = n := by
            rcases hm with hm | hm
            · exact hm.2
            · exact absurd hm.1 (by omega)
          subst hmn
          have hge : 10 ^ m ≤ x := by
            have : 1 ≤ x / 10 ^ m := by omega
            have := (Nat.le_div_iff_mul_le (ten_p m)).mp this
            omega
          rw [show eb_rem (nI (x / 10 ^ m)) 10 = nI (dg x m) from nI_rem (by omega) (by omega : (10 : Nat) < 2147483648), show nI (x / 10 ^ m) / 10 = nI (x / 10 ^ (m + 1)) by rw [ten_s]; exact nI_div (by omega) (by omega : (10 : Nat) < 2147483648)]
          have hmm : (nI (x / 10 ^ (m + 1))).toNatClampNeg < (nI (x / 10 ^ m)).toNatClampNeg := by
            have := ten_s x m
            rw [nI_cl (by omega), nI_cl (by omega)]; omega
          have e1 : 10 ^ (m + 1) = 10 ^ m * 10 := Nat.pow_succ ..
          have htn := ten_s x m
          -- the places that are told
          have pl : ∀ v : Int32, ((v = 1 ∧ 1 ≤ dg x m ∧ dg x m ≤ (Ds b).1) ∨ (v = 0 ∧ ¬ okW (Ds b).1 x)) → eb_jp1 (fun (s43 : Int32) => R s43 v (nI (x / 10 ^ (m + 1)))) (fun k44 => eb_br (nI (x / 10 ^ m) ≤ 9) (k44 (nI (10 ^ m))) (k44 (nI (10 ^ m) * 10))) := by
            intro v hv'
            refine jp_1 (fun s => ∃ m', s = nI (10 ^ m') ∧ ((¬ x / 10 ^ (m + 1) = 0 ∧ m' = m + 1) ∨ (x / 10 ^ (m + 1) = 0 ∧ (x = 0 ∧ m' = 0 ∨ 10 ^ m' ≤ x ∧ x < 10 ^ (m' + 1))))) ?_ (fun k44 hk44 => ?_)
            · rintro _ ⟨m', rfl, hm'⟩
              refine hR _ _ _ ⟨m + 1, rfl, ?_⟩ hmm
              rcases hv' with ⟨rfl, hv1⟩ | hv'
              · refine Or.inl ⟨rfl, fun j hj hj0 => ?_, m', rfl, hm'⟩
                by_cases e : j = m
                · rw [e]; exact hv1
                · exact hg j (by omega) hj0
              · exact Or.inr hv'
            · refine br_le (b := 9) (by omega) (by omega) (fun h4 => hk44 _ ⟨m, rfl, Or.inr ⟨by omega, Or.inr ⟨hge, ?_⟩⟩⟩) (fun h4 => ?_)
              · rw [e1, Nat.mul_comm]
                exact (Nat.div_lt_iff_lt_mul (ten_p m)).mp (by omega)
              · rw [show nI (10 ^ m) * 10 = nI (10 ^ m * 10) from nI_mul _ 10, ← e1]
                exact hk44 _ ⟨m + 1, rfl, Or.inl ⟨by omega, rfl⟩⟩
          refine sc_isMirror h rfl (fun b' j hb' e hj hij => ?_) (fun hno => ?_)
          · have e2 : b = b' := (nI_eq (by omega) (by omega)).mp e
            subst e2
            refine pl 1 (Or.inl ⟨rfl, ?_⟩)
            by_cases d0 : dg x m = 0
            · rw [d0] at hij
              exact absurd hij (nI_mm j (by omega))
            · rw [show nI (dg x m) - 1 = nI (dg x m - 1) from nI_sub (b := 1) (by omega)] at hij
              have := (nI_eq (by omega) (by omega)).mp hij
              omega
          · refine pl 0 (Or.inr ⟨rfl, fun z => ?_⟩)
            have := z m (by omega)
            exact hno b (dg x m - 1) hb rfl (by omega) (nI_sub (b := 1) (by omega))
        · exact ⟨fun _ => hk _ _ (Or.inr ⟨rfl, hvv⟩), fun z => absurd rfl z⟩
    · by_cases e : x = 0
      · exact Or.inr ⟨by rw [Nat.pow_zero, Nat.div_one]; exact e, Or.inl ⟨e, rfl⟩⟩
      · exact Or.inl ⟨by rw [Nat.pow_zero, Nat.div_one]; exact e, rfl⟩
end CSET3
