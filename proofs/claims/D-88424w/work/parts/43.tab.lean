set_option maxRecDepth 100000
/-! what the checks of the tables say -/
theorem t4_eq (N k : Nat) : t4 N k = N / 16 ^ k % 16 := by
  show (N >>> (4 * k)) &&& 15 = _
  rw [Nat.shiftRight_eq_div_pow, show (15 : Nat) = 2 ^ 4 - 1 from rfl, Nat.and_two_pow_sub_one_eq_mod, Nat.pow_mul]
theorem hor_at : ∀ (l : List Nat) (k : Nat), (∀ d ∈ l, d < 16) → hor l / 16 ^ k % 16 = l.getD k 0 := by
  intro l
  induction l with
  | nil => intro k _; show 0 / 16 ^ k % 16 = 0; rw [Nat.zero_div]
  | cons d l ih =>
    intro k h
    have hd := h d List.mem_cons_self
    have e : hor (d :: l) = d + 16 * hor l := rfl
    rw [e]
    cases k with
    | zero => show (d + 16 * hor l) / 1 % 16 = d; rw [Nat.div_one]; omega
    | succ k =>
      show _ = l.getD k 0
      rw [← ih k (fun x hx => h x (List.mem_cons_of_mem _ hx)), Nat.pow_succ', ← Nat.div_div_eq_div_mul, show (d + 16 * hor l) / 16 = hor l by omega]
theorem hor_lt : ∀ (l : List Nat), (∀ d ∈ l, d < 16) → hor l < 16 ^ l.length := by
  intro l
  induction l with
  | nil => intro _; exact (by decide : 0 < 1)
  | cons d l ih =>
    intro h
    have hd := h d List.mem_cons_self
    have := ih (fun x hx => h x (List.mem_cons_of_mem _ hx))
    show d + 16 * hor l < 16 ^ (l.length + 1)
    rw [Nat.pow_succ]
    omega
theorem dAng_in {a b c d e f : Nat} (ha : a ≤ 6) (hb : b ≤ 6) (hc : c ≤ 6) (hd : d ≤ 6) (he : e ≤ 6) (hf : f ≤ 6) : ∀ x ∈ [2, a, b, c, a, 2, d, e, b, d, 2, f, c, e, f, 2], x < 16 := by
  intro x hx
  simp only [List.mem_cons, List.not_mem_nil, or_false] at hx
  omega
theorem dAng_at {a b c d e f : Nat} (ha : a ≤ 6) (hb : b ≤ 6) (hc : c ≤ 6) (hd : d ≤ 6) (he : e ≤ 6) (hf : f ≤ 6) (k : Nat) : t4 (dAng a b c d e f) k = [2, a, b, c, a, 2, d, e, b, d, 2, f, c, e, f, 2].getD k 0 := by
  rw [t4_eq]
  exact hor_at _ k (dAng_in ha hb hc hd he hf)
theorem dAng_lt {a b c d e f : Nat} (ha : a ≤ 6) (hb : b ≤ 6) (hc : c ≤ 6) (hd : d ≤ 6) (he : e ≤ 6) (hf : f ≤ 6) : dAng a b c d e f < 16 ^ 16 := hor_lt _ (dAng_in ha hb hc hd he hf)
/-- the diagram's packed angles -/
def pkA (D : eb_D) : Nat := dAng (D.2.1 1) (D.2.1 2) (D.2.1 3) (D.2.1 6) (D.2.1 7) (D.2.1 11)
theorem vD.e {D : eb_D} (h : vD D) (i j : Nat) (hi : i < 4) (hj : j < 4) : D.2.1 (4 * i + j) = D.2.1 (4 * j + i) ∧ D.2.1 (4 * i + j) ≤ 6 ∧ 2 ≤ D.2.1 (4 * i + j) ∧ ((i = j ∨ D.1 ≤ i ∨ D.1 ≤ j) → D.2.1 (4 * i + j) = 2) := ⟨(h.2.2 i j hi hj).2.2.1, (h.2.2 i j hi hj).2.1, (h.2.2 i j hi hj).1, (h.2.2 i j hi hj).2.2.2⟩
theorem pkA_at {D : eb_D} (h : vD D) : ∀ k, k < 16 → t4 (pkA D) k = D.2.1 k := by
  intro k hk
  unfold pkA
  have q := h.e
  rw [dAng_at (q 0 1 (by omega) (by omega)).2.1 (q 0 2 (by omega) (by omega)).2.1 (q 0 3 (by omega) (by omega)).2.1 (q 1 2 (by omega) (by omega)).2.1 (q 1 3 (by omega) (by omega)).2.1 (q 2 3 (by omega) (by omega)).2.1 k]
  match k, hk with
  | 0, _ => exact ((q 0 0 (by omega) (by omega)).2.2.2 (Or.inl rfl)).symm
  | 1, _ => rfl
  | 2, _ => rfl
  | 3, _ => rfl
  | 4, _ => exact (q 0 1 (by omega) (by omega)).1
  | 5, _ => exact ((q 1 1 (by omega) (by omega)).2.2.2 (Or.inl rfl)).symm
  | 6, _ => rfl
  | 7, _ => rfl
  | 8, _ => exact (q 0 2 (by omega) (by omega)).1
  | 9, _ => exact (q 1 2 (by omega) (by omega)).1
  | 10, _ => exact ((q 2 2 (by omega) (by omega)).2.2.2 (Or.inl rfl)).symm
  | 11, _ => rfl
  | 12, _ => exact (q 0 3 (by omega) (by omega)).1
  | 13, _ => exact (q 1 3 (by omega) (by omega)).1
  | 14, _ => exact (q 2 3 (by omega) (by omega)).1
  | 15, _ => exact ((q 3 3 (by omega) (by omega)).2.2.2 (Or.inl rfl)).symm
  | n + 16, h => omega
/-- the diagram with its packed angles read back -/
def an4 (A : Nat) : Nat → Nat := fun k => t4 A k
theorem an4_at (A k : Nat) : an4 A k = t4 A k := rfl
def cD (D : eb_D) : eb_D := (D.1, an4 (pkA D), D.2.2)
theorem mk_1 (r : Nat) (f : Nat → Nat) (g : Nat) : ((r, f, g) : eb_D).1 = r := rfl
theorem mk_2 (r : Nat) (f : Nat → Nat) (g : Nat) : ((r, f, g) : eb_D).2.1 = f := rfl
theorem mk_3 (r : Nat) (f : Nat → Nat) (g : Nat) : ((r, f, g) : eb_D).2.2 = g := rfl
theorem cD_1 (D : eb_D) : (cD D).1 = D.1 := mk_1 D.1 (an4 (pkA D)) D.2.2
theorem cD_2 (D : eb_D) : (cD D).2.1 = an4 (pkA D) := mk_2 D.1 (an4 (pkA D)) D.2.2
theorem cD_3 (D : eb_D) : (cD D).2.2 = D.2.2 := mk_3 D.1 (an4 (pkA D)) D.2.2
theorem an4_pk {D : eb_D} (h : vD D) {k : Nat} (hk : k < 16) : an4 (pkA D) k = D.2.1 k := by rw [an4_at, pkA_at h k hk]
theorem cD_v {D : eb_D} (h : vD D) : vD (cD D) := by
  unfold vD
  rw [cD_1, cD_2, cD_3]
  refine ⟨h.1, h.2.1, fun i j hi hj => ?_⟩
  rw [an4_pk h (by omega), an4_pk h (by omega)]
  exact h.2.2 i j hi hj
theorem cD_m {σ : eb_MS} {b : Nat} {D : eb_D} (hv : vD D) (h : mD σ b D) : mD σ b (cD D) := by
  unfold mD
  rw [cD_1, cD_2, cD_3]
  refine ⟨h.1, h.2.1, fun k hk => ?_⟩
  rw [an4_pk hv hk]
  exact h.2.2 k hk
theorem szk_D {D : eb_D} (h : vD D) : szk D.1 (pkA D) = true := by
  have q := h.e
  obtain ⟨⟨r1, r2⟩, -, -⟩ := h
  unfold pkA
  have g01 := q 0 1 (by omega) (by omega)
  have g02 := q 0 2 (by omega) (by omega)
  have g03 := q 0 3 (by omega) (by omega)
  have g12 := q 1 2 (by omega) (by omega)
  have g13 := q 1 3 (by omega) (by omega)
  have g23 := q 2 3 (by omega) (by omega)
  simp only [Nat.mul_zero, Nat.zero_add, Nat.mul_one, Nat.reduceMul, Nat.reduceAdd] at g01 g02 g03 g12 g13 g23
  have hr : D.1 = 1 ∨ D.1 = 2 ∨ D.1 = 3 ∨ D.1 = 4 := by omega
  rcases hr with e | e | e | e
  · rw [e, g01.2.2.2 (by omega), g02.2.2.2 (by omega), g03.2.2.2 (by omega), g12.2.2.2 (by omega), g13.2.2.2 (by omega), g23.2.2.2 (by omega)]
    exact szk_1
  · rw [e, g02.2.2.2 (by omega), g03.2.2.2 (by omega), g12.2.2.2 (by omega), g13.2.2.2 (by omega), g23.2.2.2 (by omega)]
    have := tal_spec szk_2 (D.2.1 1 - 2) (by omega)
    rw [show Nat.add (D.2.1 1 - 2) 2 = D.2.1 1 by show D.2.1 1 - 2 + 2 = _; omega] at this
    exact this
  · rw [e, g03.2.2.2 (by omega), g13.2.2.2 (by omega), g23.2.2.2 (by omega)]
    have := tal_spec (tal_spec (tal_spec szk_3 (D.2.1 1 - 2) (by omega)) (D.2.1 2 - 2) (by omega)) (D.2.1 6 - 2) (by omega)
    rw [show Nat.add (D.2.1 1 - 2) 2 = D.2.1 1 by show D.2.1 1 - 2 + 2 = _; omega, show Nat.add (D.2.1 2 - 2) 2 = D.2.1 2 by show D.2.1 2 - 2 + 2 = _; omega, show Nat.add (D.2.1 6 - 2) 2 = D.2.1 6 by show D.2.1 6 - 2 + 2 = _; omega] at this
    exact this
  · rw [e]
    have key : ∀ x y, 2 ≤ x → x ≤ 6 → 2 ≤ y → y ≤ 6 → tal 5 (fun a => tal 5 (fun b => tal 5 (fun c => tal 5 (fun d => szk 4 (dAng (Nat.add a 2) (Nat.add b 2) (Nat.add c 2) (Nat.add d 2) x y))))) = true := by
      intro x y h1 h2 h3 h4
      have hx : x = 2 ∨ x = 3 ∨ x = 4 ∨ x = 5 ∨ x = 6 := by omega
      have hy : y = 2 ∨ y = 3 ∨ y = 4 ∨ y = 5 ∨ y = 6 := by omega
      rcases hx with rfl | rfl | rfl | rfl | rfl <;> rcases hy with rfl | rfl | rfl | rfl | rfl
      · exact szk_400
      · exact szk_401
      · exact szk_402
      · exact szk_403
      · exact szk_404
      · exact szk_410
      · exact szk_411
      · exact szk_412
      · exact szk_413
      · exact szk_414
      · exact szk_420
      · exact szk_421
      · exact szk_422
      · exact szk_423
      · exact szk_424
      · exact szk_430
      · exact szk_431
      · exact szk_432
      · exact szk_433
      · exact szk_434
      · exact szk_440
      · exact szk_441
      · exact szk_442
      · exact szk_443
      · exact szk_444
    have := tal_spec (tal_spec (tal_spec (tal_spec (key (D.2.1 7) (D.2.1 11) g13.2.2.1 g13.2.1 g23.2.2.1 g23.2.1) (D.2.1 1 - 2) (by omega)) (D.2.1 2 - 2) (by omega)) (D.2.1 3 - 2) (by omega)) (D.2.1 6 - 2) (by omega)
    rw [show Nat.add (D.2.1 1 - 2) 2 = D.2.1 1 by show D.2.1 1 - 2 + 2 = _; omega, show Nat.add (D.2.1 2 - 2) 2 = D.2.1 2 by show D.2.1 2 - 2 + 2 = _; omega, show Nat.add (D.2.1 3 - 2) 2 = D.2.1 3 by show D.2.1 3 - 2 + 2 = _; omega, show Nat.add (D.2.1 6 - 2) 2 = D.2.1 6 by show D.2.1 6 - 2 + 2 = _; omega] at this
    exact this
/-- the packed sets of joined mirrors, read back -/
theorem jnp_0 {an : Nat → Nat} {i : Nat} (h : ∀ m, m < 4 → an (4 * i + m) ≤ 2) : ∀ m, m ≤ 4 → jnp an i m = 0 := by
  intro m
  induction m with
  | zero => intro _; rfl
  | succ m ih =>
    intro hm
    show Nat.lor (jnp an i m) (cond (and (not (Nat.beq m i)) (Nat.blt 2 (an (4 * i + m)))) (Nat.pow 2 m) 0) = 0
    rw [ih (by omega), nlF (by have := h m (by omega); omega), Bool.and_false]
    show Nat.lor 0 0 = 0
    rfl
theorem jpk_at {r A : Nat} (hr : r ≤ 4) (hA : A < 16 ^ 16) : (fun i => t4 (jpk r (fun k => t4 A k)) i) = (fun i => jnp (fun k => t4 A k) i r) := by
  have q0 := jnp_lt (fun k => t4 A k) 0 r hr
  have q1 := jnp_lt (fun k => t4 A k) 1 r hr
  have q2 := jnp_lt (fun k => t4 A k) 2 r hr
  have q3 := jnp_lt (fun k => t4 A k) 3 r hr
  have e : jpk r (fun k => t4 A k) = jnp (fun k => t4 A k) 0 r + 16 * jnp (fun k => t4 A k) 1 r + (256 * jnp (fun k => t4 A k) 2 r + 4096 * jnp (fun k => t4 A k) 3 r) := rfl
  funext i
  rw [t4_eq, e]
  by_cases hi : i < 4
  · match i, hi with
    | 0, _ => omega
    | 1, _ => omega
    | 2, _ => omega
    | 3, _ => omega
  · have hz : jnp (fun k => t4 A k) i r = 0 := by
      refine jnp_0 (fun m hm => ?_) r hr
      show t4 A (4 * i + m) ≤ 2
      rw [t4_eq, Nat.div_eq_of_lt (Nat.lt_of_lt_of_le hA (Nat.pow_le_pow_right (by decide) (by omega)))]
      decide
    rw [hz, Nat.div_eq_of_lt]
    have : 16 ^ 4 ≤ 16 ^ i := Nat.pow_le_pow_right (by decide) (by omega)
    omega
/-- how many elements a diagram's group has; 0: too many -/
def ZD (D : eb_D) : Nat := sz0 (szM D.1 (fun i => jnp (an4 (pkA D)) i D.1) (an4 (pkA D)))
theorem ZD_c (D : eb_D) : sz0 (szM (cD D).1 (fun i => jnp (cD D).2.1 i (cD D).1) (cD D).2.1) = ZD D := by
  unfold ZD
  rw [cD_1, cD_2]
theorem an4_eq (A : Nat) : (fun k => t4 A k) = an4 A := rfl
theorem pkA_lt {D : eb_D} (h : vD D) : pkA D < 16 ^ 16 := by
  have q := h.e
  exact dAng_lt (q 0 1 (by omega) (by omega)).2.1 (q 0 2 (by omega) (by omega)).2.1 (q 0 3 (by omega) (by omega)).2.1 (q 1 2 (by omega) (by omega)).2.1 (q 1 3 (by omega) (by omega)).2.1 (q 2 3 (by omega) (by omega)).2.1
theorem tfind_mem {r A s : Nat} (hs : ¬ s = 0) : ∀ {l : List tE}, tfind r A l = s → ∃ e ∈ l, e.1 = r ∧ e.2.1 = A ∧ e.2.2.1 = s := by
  intro l
  induction l with
  | nil => intro h; exact absurd h.symm hs
  | cons e l ih =>
    intro h
    have h' : cond (and (Nat.beq e.1 r) (Nat.beq e.2.1 A)) e.2.2.1 (tfind r A l) = s := h
    cases hq : and (Nat.beq e.1 r) (Nat.beq e.2.1 A) with
    | true =>
      rw [hq] at h'
      rw [Bool.and_eq_true] at hq
      exact ⟨e, List.mem_cons_self, Nat.eq_of_beq_eq_true hq.1, Nat.eq_of_beq_eq_true hq.2, h'⟩
    | false =>
      rw [hq] at h'
      obtain ⟨e', h1, h2⟩ := ih h'
      exact ⟨e', List.mem_cons_of_mem _ h1, h2⟩
/-- all that the check of sizes says -/
theorem szk_spec {D : eb_D} (h : vD D) : ZD D = sz0 (szC D.1 (fun i => jnp (an4 (pkA D)) i D.1) (an4 (pkA D))) ∧ szO D.1 (fun i => jnp (an4 (pkA D)) i D.1) = true ∧ szMb D.1 (fun i => jnp (an4 (pkA D)) i D.1) (an4 (pkA D)) = true ∧ szCb D.1 (fun i => jnp (an4 (pkA D)) i D.1) (an4 (pkA D)) = true ∧ (¬ ZD D = 0 → ∃ e ∈ tabs, e.1 = D.1 ∧ e.2.1 = pkA D ∧ e.2.2.1 = ZD D) := by
  have hk := szk_D h
  have hlt := pkA_lt h
  have hr := h.1.2
  unfold ZD
  generalize pkA D = A at hk hlt ⊢
  generalize D.1 = r at hk hr ⊢
  unfold szk at hk
  rw [frc_eq, frc_eq, frc_eq] at hk
  rw [jpk_at hr hlt, an4_eq] at hk
  rw [Bool.and_eq_true, Bool.and_eq_true, Bool.and_eq_true, Bool.and_eq_true] at hk
  obtain ⟨⟨h1, h2, h3, h4⟩, h5⟩ := hk
  refine ⟨Nat.eq_of_beq_eq_true h1, h2, h3, h4, fun hz => ?_⟩
  rw [nbF hz, cond_false] at h5
  exact tfind_mem hz (Nat.eq_of_beq_eq_true h5)
theorem sp_size {σ : eb_MS} {b : Nat} {D : eb_D} {K : Int32 → Prop} (hv : vD D) (hD : mD σ b D) (hb : b < 4) (hK : K (nI (ZD D))) : MX2_sizeOf σ (nI b) K := by
  refine sp_sizeOf (cD_v hv) (cD_m hv hD) hb ?_ ?_
  · rw [cD_1, cD_2]; exact (szk_spec hv).2.2.1
  · rw [ZD_c]; exact hK
