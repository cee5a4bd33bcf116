set_option maxRecDepth 100000
theorem nth_some {P : Nat → Bool} {i : Nat} : ∀ n, (nth P i n = none ↔ cnB P n ≤ i) := by
  intro n
  induction n with
  | zero => exact ⟨fun _ => Nat.zero_le _, fun _ => rfl⟩
  | succ n ih =>
    show (match nth P i n with | some s => some s | none => cond (and (P n) (Nat.beq (cnB P n) i)) (some n) none) = none ↔ cnB P n + b1 (P n) ≤ i
    cases hq : nth P i n with
    | some s =>
      have : ¬ cnB P n ≤ i := fun z => by rw [ih.mpr z] at hq; exact absurd hq (by simp)
      exact ⟨fun z => absurd z (by simp), fun z => absurd (by omega) this⟩
    | none =>
      have h1 := ih.mp hq
      show cond (and (P n) (Nat.beq (cnB P n) i)) (some n) none = none ↔ _
      cases hp : P n with
      | false => exact ⟨fun _ => h1, fun _ => rfl⟩
      | true =>
        rw [Bool.true_and]
        show _ ↔ cnB P n + 1 ≤ i
        by_cases e : cnB P n = i
        · rw [nbT e]; exact ⟨fun z => absurd z (by simp), fun z => by omega⟩
        · rw [nbF e]; exact ⟨fun _ => by omega, fun _ => rfl⟩
theorem kdB_out {D : eb_D} (w : Nat) {s : Nat} (h : ¬ s < 2 ^ D.1) : kdB D w s = false := by
  unfold kdB isK
  rw [nlF h, Bool.false_and, Bool.and_false]
theorem cnB_top {P : Nat → Bool} {m : Nat} (h : ∀ k, m ≤ k → P k = false) : ∀ n, m ≤ n → cnB P n = cnB P m := by
  intro n
  induction n with
  | zero => intro z; rw [show m = 0 by omega]
  | succ n ih =>
    intro z
    by_cases e : m = n + 1
    · rw [e]
    · show cnB P n + b1 (P n) = _
      rw [ih (by omega), h n (by omega)]
      rfl
theorem nth_top {P : Nat → Bool} {i m : Nat} (h : ∀ k, m ≤ k → P k = false) (hn : nth P i m = none) : ∀ n, m ≤ n → nth P i n = none := fun n hmn => (nth_some n).mpr (by rw [cnB_top h n hmn]; exact (nth_some m).mp hn)
theorem cto_top {D : eb_D} (w : Nat) : ∀ n, 2 ^ D.1 ≤ n → cto D w n = cto D w (2 ^ D.1) := by
  intro n
  induction n with
  | zero => intro z; exact absurd z (by have : 1 ≤ 2 ^ D.1 := Nat.one_le_two_pow; omega)
  | succ n ih =>
    intro z
    by_cases e : 2 ^ D.1 = n + 1
    · rw [e]
    · show cto D w n + cond (kdB D w n) (NP D n) 0 = _
      rw [ih (by omega), kdB_out w (by omega)]
      rfl
section CA6
variable {Γ : eb_C} {E : cET} {st st' : eb_S} {I I' : Nat → va_E → Prop} {ad : Nat → Nat} {bd : Nat → cBT} {x : cXT} {Ds : Nat → eb_D} {p bc bs : Nat}
theorem sc_isWidth {a w : Int32} {K : Int32 → Prop} (h : cV Γ E st I ad bd x Ds) (hp : ad 16 = p) (h0 : ¬ (∃ b m, b < 4 ∧ a = nI b ∧ w = nI m ∧ m ≤ (Ds b).1) → K 0) (h1 : ∀ b m, b < 4 → a = nI b → w = nI m → m ≤ (Ds b).1 → K 1) : MX0_isWidth Γ st p a w K := by
  subst hp
  unfold MX0_isWidth
  refine sc_isBody (fun hbd => ?_) (fun hbd => ⟨fun _ => h0 (fun ⟨b, m, z1, z2, _⟩ => hbd (by rw [z2]; exact body_in z1)), fun z => absurd rfl z⟩)
  obtain ⟨b, hb, rfl⟩ : ∃ b : Nat, b < 4 ∧ a = nI b := (body_or a).resolve_right (fun z => z hbd)
  have hr := (h.v hb).1
  refine ⟨fun z => absurd z (by decide), fun _ => h.at hb ((h.body hb).r ?_)⟩
  refine sc_in (fun hn => ⟨fun z => absurd z (by decide), fun _ => ?_⟩) (fun hn => ⟨fun _ => h0 (fun ⟨b', m, z1, z2, z3, z4⟩ => hn ?_), fun z => absurd rfl z⟩)
  · obtain ⟨m, hm, rfl⟩ := nI_of (Int32.not_lt.mpr hn.1)
    exact h1 b m hb rfl rfl ((nI_leI hm (by omega)).mp hn.2)
  · have eb : b = b' := (nI_eq (by omega) (by omega)).mp z2
    subst eb
    rw [z3]
    exact ⟨nI_pos' (by omega), (nI_leI (by omega) (by omega)).mpr z4⟩
theorem sc_kindOf {b w i a0 : Nat} {K : Int32 → Prop} (h : cV Γ E st I ad bd x Ds) (hb : b < 4) (hw : w < 2147483648) (hi : i < 2147483648) (hK : K (oI (nth (kdB (Ds b) w) i 16))) : MX0_kindOf Γ st a0 (ad (4 * b)) (nI w) (nI i) K := by
  have hv := h.v hb
  have hr := hv.1
  have hB := h.body hb
  have h16 : 2 ^ (Ds b).1 ≤ 2 ^ 4 := Nat.pow_le_pow_right (by omega) hr.2
  have hpos : 1 ≤ 2 ^ (Ds b).1 := Nat.one_le_two_pow
  unfold MX0_kindOf
  refine eb_loop2_i (fun u v => ∃ s, s ≤ 2 ^ (Ds b).1 ∧ u = nI (cnB (kdB (Ds b) w) s) ∧ v = nI s ∧ nth (kdB (Ds b) w) i s = none) (fun _ v => 20 - v.toNatClampNeg) ?_ ⟨0, by omega, rfl, rfl, rfl⟩
  rintro R u v ⟨s, hs, rfl, rfl, hnone⟩ hR
  have hcl := cnB_le (kdB (Ds b) w) s
  refine ⟨hB.cs, sc_all hv hB ?_⟩
  refine br_lt (by omega) (by omega) (fun h1 => ?_) (fun h1 => ?_)
  · rw [show s = 2 ^ (Ds b).1 by omega] at hnone
    rw [nth_top (fun k hk => kdB_out w (by omega)) hnone 16 h16] at hK
    exact hK
  · refine sc_bitCount (by omega) ?_
    have hp := pc4_le s
    have hstep : nth (kdB (Ds b) w) i (s + 1) = cond (and (kdB (Ds b) w s) (Nat.beq (cnB (kdB (Ds b) w) s) i)) (some s) none := by
      show (match nth (kdB (Ds b) w) i s with | some s => some s | none => cond (and (kdB (Ds b) w s) (Nat.beq (cnB (kdB (Ds b) w) s) i)) (some s) none) = _
      rw [hnone]
    have hc : cnB (kdB (Ds b) w) (s + 1) = cnB (kdB (Ds b) w) s + b1 (kdB (Ds b) w s) := rfl
    refine jp_1 (fun z => z = nI (cnB (kdB (Ds b) w) (s + 1)) ∧ nth (kdB (Ds b) w) i (s + 1) = none) ?_ ?_
    · rintro _ ⟨rfl, hn1⟩
      rw [nI_1]
      refine hR _ _ ⟨s + 1, by omega, rfl, rfl, hn1⟩ ?_
      rw [nI_cl (by omega), nI_cl (by omega)]; omega
    · intro k hk
      refine br_eq (by omega) hw (fun h2 => ⟨hB.cs, ?_⟩) (fun h2 => ?_)
      · have e : kdB (Ds b) w s = isK (Ds b) s := by unfold kdB; rw [nbT h2]; rfl
        refine sc_isKind hv hB (by omega) (cond_br (fun c => hk _ ⟨by rw [hc, e, c]; rfl, by rw [hstep, e, c]; rfl⟩) (fun c => ?_))
        refine br_eq (by omega) hi (fun h3 => ?_) (fun h3 => ?_)
        · have : nth (kdB (Ds b) w) i 16 = some s := nth_keep (n := s + 1) (by rw [hstep, e, c, nbT h3]; rfl) (by omega)
          rw [this] at hK
          exact hK
        · rw [nI_1]
          exact hk _ ⟨by rw [hc, e, c]; rfl, by rw [hstep, e, c, nbF h3]; rfl⟩
      · have e : kdB (Ds b) w s = false := by unfold kdB; rw [nbF h2]; rfl
        exact hk _ ⟨by rw [hc, e]; rfl, by rw [hstep, e]; rfl⟩
theorem cW_kinds {a w : Int32} {K : Int32 → Prop} (hW : cW Γ E st p Ds) (h2 : ¬ (∃ b m, b < 4 ∧ a = nI b ∧ w = nI m ∧ m ≤ (Ds b).1) → K (-2))
    (h1 : ∀ b m, b < 4 → a = nI b → w = nI m → m ≤ (Ds b).1 → K (nI (cnB (kdB (Ds b) m) 16))) : MX0_kinds Γ st p a w K := by
  obtain ⟨I, ad, bd, x, hp, h⟩ := hW
  subst hp
  unfold MX0_kinds
  refine ⟨h.cs0, sc_isWidth h rfl (fun hno => ⟨fun _ => h2 hno, fun z => absurd rfl z⟩) (fun b m hb hab hwm hm => ⟨fun z => absurd z (by decide), fun _ => ?_⟩)⟩
  have hr := (h.v hb).1
  have hK := h1 b m hb hab hwm hm
  have hcl := cnB_le (kdB (Ds b) m) 16
  rw [hab, hwm]
  refine eb_loop1_i (fun u => ∃ n, n ≤ cnB (kdB (Ds b) m) 16 ∧ u = nI n) (fun u => 100 - u.toNatClampNeg) ?_ ⟨0, by omega, rfl⟩
  rintro R u ⟨n, hn, rfl⟩ hR
  refine h.at hb ⟨h.cs0, sc_kindOf h hb (by omega) (by omega) ?_⟩
  cases hq : nth (kdB (Ds b) m) n 16 with
  | none =>
    have := (nth_some 16).mp hq
    refine ⟨fun _ => ?_, fun z => absurd rfl z⟩
    rw [show n = cnB (kdB (Ds b) m) 16 by omega]; exact hK
  | some s =>
    have hlt : n < cnB (kdB (Ds b) m) 16 := by
      by_cases z : cnB (kdB (Ds b) m) 16 ≤ n
      · rw [(nth_some 16).mpr z] at hq; exact absurd hq (by simp)
      · omega
    have hs : s < 16 := by
      have key : ∀ N, nth (kdB (Ds b) m) n N = some s → s < N := by
        intro N
        induction N with
        | zero => intro z; exact absurd z (by simp [nth])
        | succ N ih =>
          intro z
          have z' : (match nth (kdB (Ds b) m) n N with | some s => some s | none => cond (and (kdB (Ds b) m N) (Nat.beq (cnB (kdB (Ds b) m) N) n)) (some N) none) = some s := z
          cases hqq : nth (kdB (Ds b) m) n N with
          | some s' =>
            rw [hqq] at z'
            injection z' with z'
            have := ih (by rw [hqq, z'])
            omega
          | none =>
            rw [hqq] at z'
            have z2 : cond (and (kdB (Ds b) m N) (Nat.beq (cnB (kdB (Ds b) m) N) n)) (some N) none = some s := z'
            cases hc : and (kdB (Ds b) m N) (Nat.beq (cnB (kdB (Ds b) m) N) n) with
            | true => rw [hc] at z2; injection z2 with z2; omega
            | false => rw [hc] at z2; exact absurd z2 (by simp)
      exact key 16 hq
    refine ⟨fun z => absurd z (nI_m1 (by omega)), fun _ => ?_⟩
    rw [nI_1]
    refine hR _ ⟨n + 1, by omega, rfl⟩ ?_
    rw [nI_cl (by omega), nI_cl (by omega)]; omega
theorem cW_kind {a w i : Int32} {K : Int32 → Prop} (hW : cW Γ E st p Ds) (h2 : ¬ (∃ b m, b < 4 ∧ a = nI b ∧ w = nI m ∧ m ≤ (Ds b).1 ∧ 0 ≤ i) → K (-2))
    (h1 : ∀ b m, b < 4 → a = nI b → w = nI m → m ≤ (Ds b).1 → 0 ≤ i → K (oI (nth (kdB (Ds b) m) i.toNatClampNeg 16))) : MX0_kind Γ st p a w i K := by
  obtain ⟨I, ad, bd, x, hp, h⟩ := hW
  subst hp
  unfold MX0_kind
  refine ⟨h.cs0, sc_isWidth h rfl (fun hno => ?_) (fun b m hb hab hwm hm => ?_)⟩
  · exact jp_0 True (fun _ => h2 (fun ⟨b, m, z1, z2, z3, z4, _⟩ => hno ⟨b, m, z1, z2, z3, z4⟩)) (fun k hk => ⟨fun _ => hk trivial, fun z => absurd rfl z⟩)
  · refine jp_0 (¬ 0 ≤ i) (fun hi => h2 (fun ⟨b, m, z1, z2, z3, z4, z5⟩ => hi z5)) (fun k hk => ⟨fun z => absurd z (by decide), fun _ => ⟨fun z => hk (fun y => Int32.not_lt.mpr y z), fun z => ?_⟩⟩)
    have hr := (h.v hb).1
    have hK := h1 b m hb hab hwm hm (Int32.not_lt.mp z)
    obtain ⟨y, hy, rfl⟩ := nI_of z
    rw [nI_cl hy] at hK
    rw [hab, hwm]
    exact h.at hb ⟨h.cs0, sc_kindOf h hb (by omega) hy hK⟩
theorem sc_countOf {b w a0 : Nat} {K : Int32 → eb_S → Prop} (hE : cEm E) (h : cV Γ E st I ad bd x Ds) (hb : b < 4) (hk : (bd b).1.2.2 = 1) (hz : ¬ ZD (Ds b) = 0) (hw : w < 2147483648) (hbc : 32 ≤ bc) (hbs : 16000 ≤ bs)
    (hK : ∀ st' I' bd', cV Γ E st' I' ad bd' x Ds → (bd' b).1.2.2 = 1 → K (nI (cto (Ds b) w 16)) st') : MX0_countOf Γ bc bs st a0 (ad (4 * b)) (nI w) K := by
  have hv := h.v hb
  have hr := hv.1
  have h16 : 2 ^ (Ds b).1 ≤ 2 ^ 4 := Nat.pow_le_pow_right (by omega) hr.2
  have hpos : 1 ≤ 2 ^ (Ds b).1 := Nat.one_le_two_pow
  unfold MX0_countOf
  refine eb_loop5_i (fun u v t c e => ∃ s I' bd', s ≤ 2 ^ (Ds b).1 ∧ u = nI (cto (Ds b) w s) ∧ v = nI s ∧ cV Γ E t I' ad bd' x Ds ∧ (bd' b).1.2.2 = 1 ∧ c ≤ 2 * s ∧ e ≤ 1000 * s) (fun _ v _ _ _ => 20 - v.toNatClampNeg) ?_ ⟨0, I, bd, by omega, rfl, rfl, h, hk, by omega, by omega⟩
  rintro R u v t c e ⟨s, I', bd', hs, rfl, rfl, hV, hk', hc, he⟩ hR
  have hB := hV.body hb
  refine ⟨hB.cs, sc_all hv hB ?_⟩
  refine br_lt (by omega) (by omega) (fun h1 => ?_) (fun h1 => ?_)
  · have e1 : cto (Ds b) w s = cto (Ds b) w 16 := by rw [cto_top w 16 h16, show s = 2 ^ (Ds b).1 by omega]
    rw [e1]
    exact hK t I' bd' hV hk'
  · refine sc_bitCount (by omega) ?_
    have hp := pc4_le s
    have e0 : cto (Ds b) w (s + 1) = cto (Ds b) w s + cond (kdB (Ds b) w s) (NP (Ds b) s) 0 := rfl
    refine jp_4 (fun u t c e => u = nI (cond (kdB (Ds b) w s) (NP (Ds b) s) 0) ∧ ∃ I' bd', cV Γ E t I' ad bd' x Ds ∧ (bd' b).1.2.2 = 1 ∧ c ≤ 2 * (s + 1) ∧ e ≤ 1000 * (s + 1)) ?_ ?_
    · rintro _ t c e ⟨rfl, I', bd', hV, hk', hc, he⟩
      rw [nI_add, nI_1, ← e0]
      refine hR _ _ _ _ _ ⟨s + 1, I', bd', by omega, rfl, rfl, hV, hk', hc, he⟩ ?_
      rw [nI_cl (by omega), nI_cl (by omega)]; omega
    · intro k19 hk19
      refine br_eq (by omega) hw (fun h2 => ⟨hB.cs, ?_⟩) (fun h2 => ?_)
      · have ek : kdB (Ds b) w s = isK (Ds b) s := by unfold kdB; rw [nbT h2]; rfl
        refine sc_isKind hv hB (by omega) (cond_br (fun c' => hk19 _ _ _ _ ⟨by rw [ek, c']; rfl, I', bd', hV, hk', by omega, by omega⟩) (fun c' => ⟨hB.cs, 2, 1000, ⟨by omega, by omega⟩, ?_⟩))
        refine sc_many1 hE hV hb hk' hz (by omega) (Or.inr ⟨Nat.le_refl _, Nat.le_refl _⟩) (fun st2 I2 bd2 hV2 _ _ _ hb2 _ => hk19 _ _ _ _ ⟨by rw [ek, c']; rfl, I2, bd2, hV2, by rw [hb2.1]; exact hk', by omega, by omega⟩)
      · have ek : kdB (Ds b) w s = false := by unfold kdB; rw [nbF h2]; rfl
        exact hk19 _ _ _ _ ⟨by rw [ek]; rfl, I', bd', hV, hk', by omega, by omega⟩
theorem cW_count {a w : Int32} {K : Int32 → eb_S → Prop} (hE : cEm E) (hW : cW Γ E st p Ds) (hbc : 54 ≤ bc) (hbs : 29660 ≤ bs) (h2 : ¬ (∃ b m, b < 4 ∧ a = nI b ∧ w = nI m ∧ m ≤ (Ds b).1) → ∀ s, cW Γ E s p Ds → K (-2) s)
    (h5 : ∀ b m, b < 4 → a = nI b → w = nI m → m ≤ (Ds b).1 → ZD (Ds b) = 0 → ∀ s, cW Γ E s p Ds → K (-5) s)
    (h1 : ∀ b m, b < 4 → a = nI b → w = nI m → m ≤ (Ds b).1 → ¬ ZD (Ds b) = 0 → ∀ s, cW Γ E s p Ds → K (nI (cto (Ds b) m 16)) s) : MX0_count Γ bc bs st p a w K := by
  obtain ⟨I, ad, bd, x, hp, h⟩ := hW
  subst hp
  unfold MX0_count
  refine ⟨h.cs0, sc_isWidth h rfl (fun hno => ?_) (fun b m hb hab hwm hm => ?_)⟩
  · exact ⟨h.cs0, 0, 0, ⟨by omega, by omega⟩, sc_why0 ⟨fun z => absurd z (by decide), fun _ => h2 hno _ (h.W rfl)⟩⟩
  · have hr := (h.v hb).1
    refine ⟨h.cs0, 22, 13660, ⟨by omega, by omega⟩, sc_why hE h rfl (Or.inr ⟨Nat.le_refl _, Nat.le_refl _⟩) (fun z => ?_) (fun b' hb' hab' _ hz' st2 I2 bd2 hV2 => ?_) (fun b' hb' hab' _ hz' st2 I2 bd2 q hV2 hk2 hq2 hC2 => ?_)⟩
    · rcases z with z | z
      · exact absurd (by rw [hab]; exact body_in hb) z
      · exact absurd z (by decide)
    · have eb : b = b' := (nI_eq (by omega) (by omega)).mp (hab.symm.trans hab')
      subst eb
      exact ⟨fun z => absurd z (by decide), fun _ => h5 b m hb hab hwm hm hz' _ (hV2.W rfl)⟩
    · have eb : b = b' := (nI_eq (by omega) (by omega)).mp (hab.symm.trans hab')
      subst eb
      refine ⟨fun _ => ?_, fun z => absurd rfl z⟩
      rw [hab, hwm]
      exact hV2.at hb ⟨hV2.cs0, 32, 16000, ⟨by omega, by omega⟩, sc_countOf hE hV2 hb hk2 hz' (by omega) (Nat.le_refl _) (Nat.le_refl _) (fun st3 I3 bd3 hV3 _ => h1 b m hb hab hwm hm hz' _ (hV3.W rfl))⟩
theorem cW_law {a : Int32} {K : Int32 → eb_S → Prop} (hE : cEm E) (hW : cW Γ E st p Ds) (hbc : 150 ≤ bc) (hbs : 77660 ≤ bs) (hK : ∀ s, cW Γ E s p Ds → K (aLaw Ds a) s) : MX0_law Γ bc bs st p a K := by
  unfold MX0_law
  unfold aLaw at hK
  refine sc_wh hE hW (by omega) (by omega) (by decide) hK (fun b hb hab hz st' I' ad bd' x q hp hV hk hq hC hK' => ?_)
  subst hp
  have hr := (hV.v hb).1
  rw [hab]
  refine eb_loop5_i (fun u v t c e => ∃ w I' bd', w ≤ (Ds b).1 ∧ u = lwI (Ds b) w ∧ v = nI w ∧ cV Γ E t I' ad bd' x Ds ∧ (bd' b).1.2.2 = 1 ∧ c ≤ 22 + 32 * w ∧ e ≤ 13660 + 16000 * w) (fun _ v _ _ _ => 20 - v.toNatClampNeg) ?_ ⟨0, I', bd', by omega, rfl, rfl, hV, hk, by omega, by omega⟩
  rintro R u v t c e ⟨w, I', bd', hw, rfl, rfl, hV, hk, hc, he⟩ hR
  refine hV.at hb ((hV.body hb).r ?_)
  refine br_le (by omega) (by omega) (fun h2 => by rw [show w = (Ds b).1 by omega]; exact hK' _ (hV.W rfl)) (fun h2 => ?_)
  refine jp_4 (fun u t c e => u = cond (Nat.beq (w % 2) 0) (nI (cto (Ds b) w 16)) (-nI (cto (Ds b) w 16)) ∧ ∃ I' bd', cV Γ E t I' ad bd' x Ds ∧ (bd' b).1.2.2 = 1 ∧ c ≤ 22 + 32 * (w + 1) ∧ e ≤ 13660 + 16000 * (w + 1)) ?_ ?_
  · rintro _ t c e ⟨rfl, I', bd', hV, hk, hc, he⟩
    rw [nI_1]
    refine hR _ _ _ _ _ ⟨w + 1, I', bd', by omega, rfl, rfl, hV, hk, hc, he⟩ ?_
    rw [nI_cl (by omega), nI_cl (by omega)]; omega
  · intro k20 hk20
    rw [show eb_rem (nI w) 2 = nI (w % 2) from nI_rem (by omega) (by omega : (2 : Nat) < 2147483648)]
    refine br_eq (b := 0) (by omega) (by omega) (fun h3 => ?_) (fun h3 => ?_)
    · exact hV.at hb ⟨hV.cs0, 32, 16000, ⟨by omega, by omega⟩, sc_countOf hE hV hb hk hz (by omega) (Nat.le_refl _) (Nat.le_refl _) (fun st3 I3 bd3 hV3 hk3 => hk20 _ _ _ _ ⟨by rw [nbT h3]; rfl, I3, bd3, hV3, hk3, by omega, by omega⟩)⟩
    · exact hV.at hb ⟨hV.cs0, 32, 16000, ⟨by omega, by omega⟩, sc_countOf hE hV hb hk hz (by omega) (Nat.le_refl _) (Nat.le_refl _) (fun st3 I3 bd3 hV3 hk3 => hk20 _ _ _ _ ⟨by rw [nbF h3]; rfl, I3, bd3, hV3, hk3, by omega, by omega⟩)⟩
end CA6
