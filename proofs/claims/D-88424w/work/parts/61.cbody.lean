set_option maxRecDepth 100000
/-! the class' body: mirrors, angles, rings -/
def cBd (Γ : eb_C) (st : eb_S) (p : Nat) (D : eb_D) : Prop := ∃ (fs : List Value) (pa : Nat) (f : Nat → Int32), st p = some (.inr (1, fs)) ∧ fs[0]? = some (.int (nI D.1)) ∧ fs[1]? = some (.ref pa) ∧ fs[2]? = some (.int (nI D.2.2)) ∧ st pa = some (eb_ia Γ 0 16 f) ∧ ∀ k, k < 16 → f k = nI (D.2.1 k)
theorem bt_jnp (an : Nat → Nat) (i : Nat) : ∀ m, m ≤ 4 → ∀ k, k < 4 → bt (jnp an i m) k = b1 (and (Nat.blt k m) (and (not (Nat.beq k i)) (Nat.blt 2 (an (4 * i + k))))) := by
  have h1 : ∀ a, a < 16 → ∀ m, m < 4 → ∀ k, k < 4 → bt (Nat.lor a (Nat.pow 2 m)) k = (if k = m then 1 else bt a k) := by decide +kernel
  have h0 : ∀ a, a < 16 → ∀ m, m < 4 → a < 2 ^ m → bt a m = 0 := by decide +kernel
  intro m
  induction m with
  | zero =>
    intro _ k hk
    have : bt 0 k = 0 := by show (0 >>> k) % 2 = 0; rw [Nat.zero_shiftRight]
    rw [nlF (Nat.not_lt_zero k)]
    exact this
  | succ m ih =>
    intro hm k hk
    have hl := jnp_lt an i m (by omega)
    have e : jnp an i (m + 1) = Nat.lor (jnp an i m) (cond (and (not (Nat.beq m i)) (Nat.blt 2 (an (Nat.add (Nat.mul 4 i) m)))) (Nat.pow 2 m) 0) := rfl
    have ea : Nat.add (Nat.mul 4 i) m = 4 * i + m := rfl
    rw [e, ea]
    have hk2 := ih (by omega) k hk
    by_cases ek : k = m
    · subst ek
      rw [nlF (Nat.lt_irrefl k), Bool.false_and] at hk2
      rw [nlT (Nat.lt_succ_self k), Bool.true_and]
      cases hc : and (not (Nat.beq k i)) (Nat.blt 2 (an (4 * i + k))) with
      | true =>
        show bt (Nat.lor (jnp an i k) (Nat.pow 2 k)) k = 1
        rw [h1 _ hl k (by omega) k hk, if_pos rfl]
      | false =>
        show bt (Nat.lor (jnp an i k) 0) k = 0
        rw [(mk_self _ hl).2.2.1]; exact hk2
    · have e1 : Nat.blt k (m + 1) = Nat.blt k m := by
        by_cases z : k < m
        · rw [nlT z, nlT (by omega)]
        · rw [nlF z, nlF (by omega)]
      rw [e1, ← hk2]
      cases and (not (Nat.beq m i)) (Nat.blt 2 (an (4 * i + m))) with
      | true =>
        show bt (Nat.lor (jnp an i m) (Nat.pow 2 m)) k = _
        rw [h1 _ hl m (by omega) k hk, if_neg ek]
      | false =>
        show bt (Nat.lor (jnp an i m) 0) k = _
        rw [(mk_self _ hl).2.2.1]
/-- what leaves a part where it is, as the class finds it -/
def cst (r g s : Nat) (j : Nat → Nat) : Nat → Nat
  | 0 => Nat.land (Nat.land (2 ^ r - 1) (15 - s)) (15 - g)
  | m + 1 => Nat.land (cst r g s j m) (cond (Nat.beq (bt s m) 1) (15 - j m) 15)
theorem mk_bits : ∀ a, a < 16 → ∀ b, b < 16 → (∀ k, k < 4 → bt a k = bt b k) → a = b := by decide +kernel
theorem mk_btand : ∀ a, a < 16 → ∀ b, b < 16 → ∀ k, k < 4 → bt (Nat.land a b) k = bt a k * bt b k := by decide +kernel
theorem mk_btor : ∀ a, a < 16 → ∀ b, b < 16 → ∀ k, k < 4 → bt (Nat.lor a b) k = bt a k + bt b k - bt a k * bt b k := by decide +kernel
theorem mk_btn : ∀ a, a < 16 → ∀ k, k < 4 → bt (15 - a) k = 1 - bt a k := by decide +kernel
theorem cst_lt {r g s : Nat} {j : Nat → Nat} (hr : r ≤ 4) : ∀ m, cst r g s j m < 16 := by
  have h16 : 2 ^ r ≤ 2 ^ 4 := Nat.pow_le_pow_right (by omega) hr
  intro m
  induction m with
  | zero => exact mk_andl _ (mk_andl _ (by omega) _ (by omega)) _ (by omega)
  | succ m ih =>
    refine mk_andl _ ih _ ?_
    cases Nat.beq (bt s m) 1
    · exact (by decide : 15 < 16)
    · show 15 - j m < 16; omega
/-- which mirrors stay, by their places -/
def stP (r g s : Nat) (j : Nat → Nat) (m k : Nat) : Prop := k < r ∧ bt s k = 0 ∧ bt g k = 0 ∧ ∀ i, i < m → bt s i = 1 → bt (j i) k = 0
theorem cst_bt {r g s : Nat} {j : Nat → Nat} (hr : r ≤ 4) (hg : g < 16) (hs : s < 16) (hj : ∀ i, j i < 16) : ∀ m, m ≤ 4 → ∀ k, k < 4 → (bt (cst r g s j m) k = 1 ↔ stP r g s j m k) := by
  have h16 : 2 ^ r ≤ 2 ^ 4 := Nat.pow_le_pow_right (by omega) hr
  have ha : ∀ r, r < 5 → ∀ k, k < 4 → bt (2 ^ r - 1) k = (if k < r then 1 else 0) := by decide +kernel
  intro m
  induction m with
  | zero =>
    intro _ k hk
    have b1' := bt_lt s k
    have b2' := bt_lt g k
    show bt (Nat.land (Nat.land (2 ^ r - 1) (15 - s)) (15 - g)) k = 1 ↔ _
    rw [mk_btand _ (mk_andl _ (by omega) _ (by omega)) _ (by omega) k hk, mk_btand _ (by omega) _ (by omega) k hk, mk_btn s hs k hk, mk_btn g hg k hk, ha r (by omega) k hk]
    unfold stP
    have es : bt s k = 0 ∨ bt s k = 1 := by omega
    have eg : bt g k = 0 ∨ bt g k = 1 := by omega
    by_cases hkr : k < r
    · rw [if_pos hkr]
      rcases es with es | es <;> rcases eg with eg | eg <;> rw [es, eg]
      · exact ⟨fun _ => ⟨hkr, rfl, rfl, fun i hi => absurd hi (Nat.not_lt_zero _)⟩, fun _ => rfl⟩
      · exact ⟨fun z => absurd z (by decide), fun z => absurd z.2.2.1 (by decide)⟩
      · exact ⟨fun z => absurd z (by decide), fun z => absurd z.2.1 (by decide)⟩
      · exact ⟨fun z => absurd z (by decide), fun z => absurd z.2.1 (by decide)⟩
    · rw [if_neg hkr, Nat.zero_mul, Nat.zero_mul]
      exact ⟨fun z => absurd z (by decide), fun z => absurd z.1 hkr⟩
  | succ m ih =>
    intro hm k hk
    have q := ih (by omega) k hk
    have hl := cst_lt (g := g) (s := s) (j := j) hr m
    have b0 := bt_lt (cst r g s j m) k
    show bt (Nat.land (cst r g s j m) (cond (Nat.beq (bt s m) 1) (15 - j m) 15)) k = 1 ↔ _
    have hb15 : ∀ k, k < 4 → bt 15 k = 1 := by decide
    by_cases e : bt s m = 1
    · rw [nbT e]
      show bt (Nat.land (cst r g s j m) (15 - j m)) k = 1 ↔ _
      rw [mk_btand _ hl _ (by omega) k hk, mk_btn _ (hj m) k hk]
      have bj := bt_lt (j m) k
      have ej : bt (j m) k = 0 ∨ bt (j m) k = 1 := by omega
      rcases ej with ej | ej
      · rw [ej, Nat.sub_zero, Nat.mul_one, q]
        exact ⟨fun z => ⟨z.1, z.2.1, z.2.2.1, fun i hi hsi => by
          by_cases e2 : i = m
          · rw [e2]; exact ej
          · exact z.2.2.2 i (by omega) hsi⟩, fun z => ⟨z.1, z.2.1, z.2.2.1, fun i hi hsi => z.2.2.2 i (by omega) hsi⟩⟩
      · rw [ej, Nat.sub_self, Nat.mul_zero]
        exact ⟨fun z => absurd z (by decide), fun z => absurd (z.2.2.2 m (by omega) e) (by omega)⟩
    · rw [nbF e]
      show bt (Nat.land (cst r g s j m) 15) k = 1 ↔ _
      rw [mk_btand _ hl _ (by omega) k hk, hb15 k hk, Nat.mul_one, q]
      exact ⟨fun z => ⟨z.1, z.2.1, z.2.2.1, fun i hi hsi => by
          by_cases e2 : i = m
          · rw [e2] at hsi; exact absurd hsi e
          · exact z.2.2.2 i (by omega) hsi⟩, fun z => ⟨z.1, z.2.1, z.2.2.1, fun i hi hsi => z.2.2.2 i (by omega) hsi⟩⟩
/-- as the model finds it -/
theorem still_bt {r g s : Nat} {j : Nat → Nat} (hs : s < 16) (hj : ∀ i, j i < 16) : ∀ m, m ≤ 4 → ∀ k, k < 4 → (bt (still r g s j m) k = 1 ↔ k < m ∧ bt s k = 0 ∧ bt g k = 0 ∧ ∀ i, i < 4 → bt s i = 1 → bt (j k) i = 0) := by
  have h1 : ∀ a, a < 16 → ∀ m, m < 4 → ∀ k, k < 4 → bt (Nat.lor a (Nat.pow 2 m)) k = (if k = m then 1 else bt a k) := by decide +kernel
  intro m
  induction m with
  | zero =>
    intro _ k hk
    have : bt 0 k = 0 := by show (0 >>> k) % 2 = 0; rw [Nat.zero_shiftRight]
    show bt 0 k = 1 ↔ _
    rw [this]
    exact ⟨fun z => absurd z (by decide), fun z => absurd z.1 (Nat.not_lt_zero _)⟩
  | succ m ih =>
    intro hm k hk
    have hl := still_lt r g s j m (by omega)
    have q := ih (by omega) k hk
    have e : still r g s j (m + 1) = Nat.lor (still r g s j m) (cond (and (Nat.beq (bt s m) 0) (and (Nat.beq (bt g m) 0) (Nat.beq (Nat.land (j m) s) 0))) (Nat.pow 2 m) 0) := rfl
    have hand : Nat.land (j m) s = 0 ↔ ∀ i, i < 4 → bt s i = 1 → bt (j m) i = 0 := by
      constructor
      · intro z i hi hsi
        have y := mk_btand _ (hj m) _ hs i hi
        rw [z, hsi, Nat.mul_one] at y
        rw [← y]
        show (0 >>> i) % 2 = 0
        rw [Nat.zero_shiftRight]
      · intro z
        refine mk_bits _ (mk_andl _ (hj m) _ hs) 0 (by decide) (fun i hi => ?_)
        have b0 : bt 0 i = 0 := by show (0 >>> i) % 2 = 0; rw [Nat.zero_shiftRight]
        rw [mk_btand _ (hj m) _ hs i hi, b0]
        have := bt_lt s i
        by_cases e1 : bt s i = 1
        · rw [z i hi e1, Nat.zero_mul]
        · rw [show bt s i = 0 by omega, Nat.mul_zero]
    rw [e]
    cases hc : and (Nat.beq (bt s m) 0) (and (Nat.beq (bt g m) 0) (Nat.beq (Nat.land (j m) s) 0)) with
    | true =>
      rw [Bool.and_eq_true, Bool.and_eq_true] at hc
      have c1 : bt s m = 0 := Nat.eq_of_beq_eq_true hc.1
      have c2 : bt g m = 0 := Nat.eq_of_beq_eq_true hc.2.1
      have c3 : Nat.land (j m) s = 0 := Nat.eq_of_beq_eq_true hc.2.2
      show bt (Nat.lor (still r g s j m) (Nat.pow 2 m)) k = 1 ↔ _
      rw [h1 _ hl m (by omega) k hk]
      by_cases ek : k = m
      · rw [if_pos ek, ek]
        exact ⟨fun _ => ⟨by omega, c1, c2, hand.mp c3⟩, fun _ => rfl⟩
      · rw [if_neg ek, q]
        exact ⟨fun z => ⟨by omega, z.2⟩, fun z => ⟨by omega, z.2⟩⟩
    | false =>
      show bt (Nat.lor (still r g s j m) 0) k = 1 ↔ _
      rw [(mk_self _ hl).2.2.1, q]
      refine ⟨fun z => ⟨by omega, z.2⟩, fun z => ⟨?_, z.2⟩⟩
      by_cases ek : k = m
      · exfalso
        rw [ek] at z
        rw [nbT z.2.1, nbT z.2.2.1, nbT (hand.mpr z.2.2.2)] at hc
        exact absurd hc (by decide)
      · omega
theorem cst_eq {D : eb_D} {s : Nat} (hv : vD D) (hs : s < 2 ^ D.1) : cst D.1 D.2.2 s (fun i => jnp D.2.1 i D.1) D.1 = still D.1 D.2.2 s (fun i => jnp D.2.1 i D.1) D.1 := by
  have hr := hv.1
  have h16 : 2 ^ D.1 ≤ 2 ^ 4 := Nat.pow_le_pow_right (by omega) hr.2
  have hj : ∀ i, (fun i => jnp D.2.1 i D.1) i < 16 := fun i => sp_jlt hv i
  have hg := hv.ring
  have hout : ∀ r, r < 5 → ∀ a, a < 2 ^ r → ∀ k, k < 4 → bt a k = 1 → k < r := by decide +kernel
  refine mk_bits _ (cst_lt hr.2 _) _ (still_lt _ _ _ _ _ hr.2) (fun k hk => ?_)
  have q1 := cst_bt (g := D.2.2) (s := s) (j := fun i => jnp D.2.1 i D.1) hr.2 hg (by omega) hj D.1 hr.2 k hk
  have q2 := still_bt (r := D.1) (g := D.2.2) (s := s) (j := fun i => jnp D.2.1 i D.1) (by omega) hj D.1 hr.2 k hk
  have sy : ∀ i k, i < 4 → k < 4 → bt (jnp D.2.1 i D.1) k = 0 → bt (jnp D.2.1 k D.1) i = 0 ∨ ¬ (i < D.1) := fun i k hi hk z => by
    by_cases hir : i < D.1
    · left
      rw [bt_jnp D.2.1 i D.1 hr.2 k hk] at z
      rw [bt_jnp D.2.1 k D.1 hr.2 i hi]
      rw [← (hv.2.2 i k hi hk).2.2.1, nlT hir, Bool.true_and]
      by_cases hkr : k < D.1
      · rw [nlT hkr, Bool.true_and] at z
        by_cases e : i = k
        · rw [nbT e]; rfl
        · rw [nbF (fun z => e z.symm)] at z
          rw [nbF e]; exact z
      · have := (hv.2.2 i k hi hk).2.2.2 (Or.inr (Or.inr (by omega)))
        rw [this]
        cases Nat.beq i k <;> rfl
    · exact Or.inr hir
  have iff : bt (cst D.1 D.2.2 s (fun i => jnp D.2.1 i D.1) D.1) k = 1 ↔ bt (still D.1 D.2.2 s (fun i => jnp D.2.1 i D.1) D.1) k = 1 := by
    rw [q1, q2]
    unfold stP
    constructor
    · rintro ⟨z1, z2, z3, z4⟩
      refine ⟨z1, z2, z3, fun i hi hsi => ?_⟩
      have hir := hout D.1 (by omega) s hs i hi hsi
      rcases sy i k hi hk (z4 i hir hsi) with y | y
      · exact y
      · exact absurd hir y
    · rintro ⟨z1, z2, z3, z4⟩
      refine ⟨z1, z2, z3, fun i hi hsi => ?_⟩
      rcases sy k i hk (by omega) (z4 i (by omega) hsi) with y | y
      · exact y
      · exact absurd z1 y
  have b0 := bt_lt (cst D.1 D.2.2 s (fun i => jnp D.2.1 i D.1) D.1) k
  have b1' := bt_lt (still D.1 D.2.2 s (fun i => jnp D.2.1 i D.1) D.1) k
  by_cases e : bt (cst D.1 D.2.2 s (fun i => jnp D.2.1 i D.1) D.1) k = 1
  · rw [e, iff.mp e]
  · have : ¬ bt (still D.1 D.2.2 s (fun i => jnp D.2.1 i D.1) D.1) k = 1 := fun z => e (iff.mpr z)
    omega
section CB
variable {Γ : eb_C} {st : eb_S} {p : Nat} {D : eb_D}
theorem cBd.out {W : List Nat} {st' : eb_S} (h : cBd Γ st p D) (hf : sf W st st') (hw : ∀ w ∈ W, st w = none) : cBd Γ st' p D := by
  obtain ⟨fs, pa, f, h1, h2, h3, h4, h5, h6⟩ := h
  exact ⟨fs, pa, f, hf.out h1 hw, h2, h3, h4, hf.out h5 hw, h6⟩
theorem cBd.cs (h : cBd Γ st p D) : eb_cs st p [1] := by
  obtain ⟨fs, pa, f, h1, -⟩ := h
  exact st_cs h1 (List.mem_singleton.mpr rfl)
theorem cBd.r {K : Int32 → Prop} (h : cBd Γ st p D) (hK : K (nI D.1)) : eb_gi st p 1 0 K := by
  obtain ⟨fs, pa, f, h1, h2, -⟩ := h
  exact st_gi h1 h2 hK
theorem cBd.g {K : Int32 → Prop} (h : cBd Γ st p D) (hK : K (nI D.2.2)) : eb_gi st p 1 2 K := by
  obtain ⟨fs, pa, f, h1, h2, h3, h4, -⟩ := h
  exact st_gi h1 h4 hK
theorem sc_angle {i j : Nat} {K : Int32 → Prop} (h : cBd Γ st p D) (hi : i < 4) (hj : j < 4) (hK : K (nI (D.2.1 (4 * i + j)))) : MX1_angle Γ st p (nI i) (nI j) K := by
  obtain ⟨fs, pa, f, h1, h2, h3, h4, h5, h6⟩ := h
  unfold MX1_angle
  refine st_gr h1 (v := some pa) h3 (st_nn ?_)
  rw [show (4 : Int32) * nI i = nI (4 * i) from nI_mul 4 i, nI_add]
  refine st_li h5 (by omega) (by omega) ?_
  rw [h6 _ (by omega)]; exact hK
theorem sc_all {K : Int32 → Prop} (hv : vD D) (h : cBd Γ st p D) (hK : K (nI (2 ^ D.1 - 1))) : MX1_all Γ st p K := by
  have hr := hv.1
  unfold MX1_all
  refine h.r ?_
  rw [mk_shs _ (by omega)]; exact hK
theorem sc_joined {i : Nat} {K : Int32 → Prop} (hv : vD D) (h : cBd Γ st p D) (hi : i < 4) (hK : K (nI (jnp D.2.1 i D.1))) : MX1_joined Γ st p (nI i) K := by
  have hr := hv.1
  unfold MX1_joined
  refine eb_loop2_i (fun x y => ∃ m, m ≤ D.1 ∧ x = nI (jnp D.2.1 i m) ∧ y = nI m) (fun _ y => 10 - y.toNatClampNeg) ?_ ⟨0, by omega, rfl, rfl⟩
  rintro R x y ⟨m, hm, rfl, rfl⟩ hR
  refine h.r ?_
  refine br_le (by omega) (by omega) (fun h1 => by rw [show m = D.1 by omega]; exact hK) (fun h1 => ?_)
  have hl := jnp_lt D.2.1 i m (by omega)
  have e : jnp D.2.1 i (m + 1) = Nat.lor (jnp D.2.1 i m) (cond (and (not (Nat.beq m i)) (Nat.blt 2 (D.2.1 (Nat.add (Nat.mul 4 i) m)))) (Nat.pow 2 m) 0) := rfl
  refine jp_1 (fun v => v = nI (cond (and (not (Nat.beq m i)) (Nat.blt 2 (D.2.1 (Nat.add (Nat.mul 4 i) m)))) (Nat.pow 2 m) 0)) ?_ ?_
  · rintro _ rfl
    have hc : cond (and (not (Nat.beq m i)) (Nat.blt 2 (D.2.1 (Nat.add (Nat.mul 4 i) m)))) (Nat.pow 2 m) 0 < 16 := by
      cases and (not (Nat.beq m i)) (Nat.blt 2 (D.2.1 (Nat.add (Nat.mul 4 i) m)))
      · exact (by decide : 0 < 16)
      · exact mk_p2 m (by omega)
    rw [mk_or _ hl _ hc, ← e, nI_1]
    refine hR _ _ ⟨m + 1, by omega, rfl, rfl⟩ ?_
    rw [nI_cl (by omega), nI_cl (by omega)]; omega
  · intro k hk
    refine br_eq (by omega) (by omega) (fun h2 => hk _ ?_) (fun h2 => ⟨h.cs, ?_⟩)
    · rw [nbT h2]; rfl
    · refine sc_angle h hi (by omega) ?_
      have ha := (hv.2.2 i m hi (by omega)).2.1
      refine br_le (b := 2) (by omega) (by omega) (fun h3 => hk _ ?_) (fun h3 => hk _ ?_)
      · rw [nbF h2, show Nat.blt 2 (D.2.1 (Nat.add (Nat.mul 4 i) m)) = false from nlF (by show ¬ 2 < D.2.1 (4 * i + m); omega)]; rfl
      · rw [nbF h2, show Nat.blt 2 (D.2.1 (Nat.add (Nat.mul 4 i) m)) = true from nlT (by show 2 < D.2.1 (4 * i + m); omega), mk_shl m (by omega)]; rfl
/-- a round of reaching by as many mirrors as there are -/
theorem rst_r {j : Nat → Nat} {w h r : Nat} (hj : ∀ m, m < 4 → j m < 16) (hw : w < 16) (hr : r ≤ 4) (hh : h < 2 ^ r) : ∀ m, r ≤ m → m ≤ 4 → rst j w h m = rst j w h r := by
  have h0 : ∀ r, r < 5 → ∀ a, a < 2 ^ r → ∀ k, k < 4 → r ≤ k → bt a k = 0 := by decide +kernel
  have h16 : 2 ^ r ≤ 2 ^ 4 := Nat.pow_le_pow_right (by omega) hr
  intro m
  induction m with
  | zero => intro h1 _; rw [show r = 0 by omega]
  | succ m ih =>
    intro h1 h2
    by_cases e : r = m + 1
    · rw [e]
    · have e1 : rst j w h (m + 1) = Nat.lor (rst j w h m) (cond (Nat.beq (bt h m) 1) (Nat.land (j m) w) 0) := rfl
      have hl := (rst_ok hj hw (show h < 16 by omega) m (by omega)).1
      rw [e1, h0 r (by omega) h hh m (by omega) (by omega)]
      show Nat.lor (rst j w h m) 0 = _
      rw [(mk_self _ hl).2.2.1]
      exact ih (by omega) (by omega)
theorem rst_in {j : Nat → Nat} {w h r : Nat} (hj : ∀ m, m < 4 → j m < 16) (hr : r ≤ 4) (hw : w < 2 ^ r) (hh : h < 2 ^ r) : ∀ m, m ≤ 4 → rst j w h m < 2 ^ r := by
  have h0 : ∀ r, r < 5 → ∀ a, a < 2 ^ r → ∀ b, b < 2 ^ r → ∀ c, c < 16 → Nat.lor a (Nat.land c b) < 2 ^ r ∧ Nat.lor a 0 < 2 ^ r := by decide +kernel
  intro m
  induction m with
  | zero => intro _; exact hh
  | succ m ih =>
    intro hm
    have q := h0 r (by omega) _ (ih (by omega)) w hw (j m) (hj m (by omega))
    show Nat.lor (rst j w h m) (cond (Nat.beq (bt h m) 1) (Nat.land (j m) w) 0) < 2 ^ r
    cases Nat.beq (bt h m) 1
    · exact q.2
    · exact q.1
theorem rit_in {j : Nat → Nat} {w r : Nat} (hj : ∀ m, m < 4 → j m < 16) (hr : r ≤ 4) (hw : w < 2 ^ r) : ∀ k {x : Nat}, x < 2 ^ r → rit j w k x < 2 ^ r := by
  intro k
  induction k with
  | zero => intro x hx; exact hx
  | succ k ih => intro x hx; exact ih (rst_in hj hr hw hx 4 (Nat.le_refl _))
theorem sc_reached {x w : Nat} {K : Int32 → Prop} (hv : vD D) (h : cBd Γ st p D) (hx : x < 16) (hw : w < 2 ^ D.1) (hK : K (nI (rit (fun i => jnp D.2.1 i D.1) w 4 (Nat.land x w)))) : MX1_reached Γ st p (nI x) (nI w) K := by
  have hr := hv.1
  have h16 : 2 ^ D.1 ≤ 2 ^ 4 := Nat.pow_le_pow_right (by omega) hr.2
  have hj : ∀ m, m < 4 → (fun i => jnp D.2.1 i D.1) m < 16 := fun m _ => sp_jlt hv m
  have hal : ∀ r, r < 5 → ∀ w, w < 2 ^ r → ∀ x, x < 16 → Nat.land x w < 2 ^ r := by decide +kernel
  have hs0 := hal D.1 (by omega) w hw x hx
  unfold MX1_reached
  rw [mk_and x hx w (by omega)]
  refine eb_loop2_i (fun y z => ∃ k, y = nI (rit (fun i => jnp D.2.1 i D.1) w k (Nat.land x w)) ∧ (y = z → rst (fun i => jnp D.2.1 i D.1) w (rit (fun i => jnp D.2.1 i D.1) w k (Nat.land x w)) 4 = rit (fun i => jnp D.2.1 i D.1) w k (Nat.land x w))) (fun y z => 2 * (16 - y.toNatClampNeg) + if y = z then 0 else 1) ?_ ?_
  · rintro R y z ⟨k, rfl, hf⟩ hR
    have hlt := rit_in hj hr.2 hw k hs0
    refine ⟨fun hxy => ?_, fun hxy => ?_⟩
    · rw [rit_eq hj (by omega) (by omega) (hf hxy)]
      exact hK
    · generalize hH : rit (fun i => jnp D.2.1 i D.1) w k (Nat.land x w) = H at *
      refine jp_1 (fun v => v = nI (rst (fun i => jnp D.2.1 i D.1) w H 4)) ?_ ?_
      · rintro _ rfl
        have hst := rst_ok hj (show w < 16 by omega) (show H < 16 by omega) 4 (Nat.le_refl _)
        refine hR _ _ ⟨k + 1, by rw [rit_step, hH], fun z => ?_⟩ ?_
        · rw [rit_step, hH]
          have z' := (nI_eq (by omega) (by omega)).mp z
          rw [z']; exact z'
        · rw [nI_cl (by omega), nI_cl (by omega), if_neg hxy]
          by_cases e : H = rst (fun i => jnp D.2.1 i D.1) w H 4
          · rw [← e, if_pos rfl]; omega
          · have := (mk_pc _ (show H < 16 by omega) _ hst.1 hst.2 e).2
            split <;> omega
      · intro k2 hk2
        refine eb_loop2_i (fun y z => ∃ m, m ≤ D.1 ∧ y = nI (rst (fun i => jnp D.2.1 i D.1) w H m) ∧ z = nI m) (fun _ z => 10 - z.toNatClampNeg) ?_ ⟨0, by omega, rfl, rfl⟩
        rintro R2 y z ⟨m, hm, rfl, rfl⟩ hR2
        refine h.r ?_
        refine br_le (by omega) (by omega) (fun h1 => hk2 _ ?_) (fun h1 => ?_)
        · rw [show m = D.1 by omega, rst_r hj (by omega) hr.2 hlt 4 hr.2 (Nat.le_refl _)]
        · have hl := (rst_ok hj (show w < 16 by omega) (show H < 16 by omega) m (by omega)).1
          have e : rst (fun i => jnp D.2.1 i D.1) w H (m + 1) = Nat.lor (rst (fun i => jnp D.2.1 i D.1) w H m) (cond (Nat.beq (bt H m) 1) (Nat.land (jnp D.2.1 m D.1) w) 0) := rfl
          have hlj := mk_andl _ (sp_jlt hv m) w (by omega)
          refine jp_1 (fun v => v = nI (cond (Nat.beq (bt H m) 1) (Nat.land (jnp D.2.1 m D.1) w) 0)) ?_ ?_
          · rintro _ rfl
            have hc : cond (Nat.beq (bt H m) 1) (Nat.land (jnp D.2.1 m D.1) w) 0 < 16 := by
              cases Nat.beq (bt H m) 1
              · exact (by decide : 0 < 16)
              · exact hlj
            rw [mk_or _ hl _ hc, ← e, nI_1]
            refine hR2 _ _ ⟨m + 1, by omega, rfl, rfl⟩ ?_
            rw [nI_cl (by omega), nI_cl (by omega)]; omega
          · intro k3 hk3
            rw [show eb_shr (nI H) (nI m) &&& 1 = nI (bt H m) from mk_bit _ (by omega) _ (by omega)]
            refine br_eq (b := 1) (Nat.lt_trans (bt_lt _ _) (by decide)) (by decide) (fun h2 => ⟨h.cs, ?_⟩) (fun h2 => hk3 _ ?_)
            · refine sc_joined hv h (by omega) ?_
              rw [mk_and _ (sp_jlt hv m) _ (by omega)]
              exact hk3 _ (by rw [nbT h2]; rfl)
            · rw [nbF h2]; rfl
  · exact ⟨0, rfl, fun z => absurd z (nI_m1 (show Nat.land x w < 2147483648 by omega))⟩
theorem sc_isKind {s : Nat} {K : Int32 → Prop} (hv : vD D) (h : cBd Γ st p D) (hs : s < 2 ^ D.1) (hK : K (nI (b1 (isK D s)))) : MX1_isKind Γ st p (nI s) K := by
  have hr := hv.1
  have h16 : 2 ^ D.1 ≤ 2 ^ 4 := Nat.pow_le_pow_right (by omega) hr.2
  have hj : ∀ m, m < 4 → (fun i => jnp D.2.1 i D.1) m < 16 := fun m _ => sp_jlt hv m
  have hc : ∀ a, a < 16 → ∀ b, b < 16 → Nat.land a b = Nat.land b a := by decide +kernel
  unfold MX1_isKind
  refine h.g ⟨h.cs, ?_⟩
  refine sc_reached hv h hv.ring hs ?_
  have hl := rit_lt hj (show s < 16 by omega) 4 (mk_andl _ hv.ring s (by omega))
  rw [hc _ hv.ring s (by omega)] at hl ⊢
  refine br_eq (by omega) (by omega) (fun h1 => ?_) (fun h1 => ?_)
  · have : isK D s = true := by unfold isK; rw [nlT hs, nbT h1]; rfl
    rw [this] at hK; exact hK
  · have : isK D s = false := by unfold isK; rw [nlT hs, nbF h1]; rfl
    rw [this] at hK; exact hK
theorem mk_not : ∀ a, a < 16 → ∀ b, b < 16 → nI a &&& (nI b ^^^ (-1)) = nI (Nat.land a (15 - b)) := mk_andn
theorem mk_m1 : ∀ a, a < 16 → nI a &&& (-1) = nI (Nat.land a 15) := by decide +kernel
theorem sc_stay {s : Nat} {K : Int32 → Prop} (hv : vD D) (h : cBd Γ st p D) (hs : s < 2 ^ D.1) (hK : K (nI (stay D s))) : MX1_stay Γ st p (nI s) K := by
  have hr := hv.1
  have h16 : 2 ^ D.1 ≤ 2 ^ 4 := Nat.pow_le_pow_right (by omega) hr.2
  have hg := hv.ring
  unfold MX1_stay
  refine ⟨h.cs, sc_all hv h (h.g ?_)⟩
  rw [eb_let_iff, mk_andn _ (by omega) s (by omega), mk_andn _ (mk_andl _ (by omega) _ (by omega)) _ hg]
  refine jp_1 (fun v => v = nI (cst D.1 D.2.2 s (fun i => jnp D.2.1 i D.1) D.1)) ?_ ?_
  · rintro _ rfl
    rw [mk_or s (by omega) _ (cst_lt hr.2 _), cst_eq hv hs]
    exact hK
  · intro k hk
    refine eb_loop2_i (fun x y => ∃ m, m ≤ D.1 ∧ x = nI (cst D.1 D.2.2 s (fun i => jnp D.2.1 i D.1) m) ∧ y = nI m) (fun _ y => 10 - y.toNatClampNeg) ?_ ⟨0, by omega, rfl, rfl⟩
    rintro R x y ⟨m, hm, rfl, rfl⟩ hR
    refine h.r ?_
    refine br_le (by omega) (by omega) (fun h1 => hk _ (by rw [show m = D.1 by omega])) (fun h1 => ?_)
    have hl := cst_lt (g := D.2.2) (s := s) (j := fun i => jnp D.2.1 i D.1) hr.2 m
    have e : cst D.1 D.2.2 s (fun i => jnp D.2.1 i D.1) (m + 1) = Nat.land (cst D.1 D.2.2 s (fun i => jnp D.2.1 i D.1) m) (cond (Nat.beq (bt s m) 1) (15 - jnp D.2.1 m D.1) 15) := rfl
    refine jp_1 (fun v => nI (cst D.1 D.2.2 s (fun i => jnp D.2.1 i D.1) m) &&& v = nI (cst D.1 D.2.2 s (fun i => jnp D.2.1 i D.1) (m + 1))) ?_ ?_
    · intro v hv1
      rw [hv1, nI_1]
      refine hR _ _ ⟨m + 1, by omega, rfl, rfl⟩ ?_
      rw [nI_cl (by omega), nI_cl (by omega)]; omega
    · intro k2 hk2
      rw [show eb_shr (nI s) (nI m) &&& 1 = nI (bt s m) from mk_bit _ (by omega) _ (by omega)]
      refine br_eq (b := 1) (Nat.lt_trans (bt_lt _ _) (by decide)) (by decide) (fun h2 => ⟨h.cs, ?_⟩) (fun h2 => hk2 _ ?_)
      · refine sc_joined hv h (by omega) (hk2 _ ?_)
        rw [mk_andn _ hl _ (sp_jlt hv m), e, nbT h2]; rfl
      · rw [mk_m1 _ hl, e, nbF h2]; rfl
end CB
