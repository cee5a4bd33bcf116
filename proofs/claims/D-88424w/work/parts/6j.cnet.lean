set_option maxRecDepth 100000
theorem cnB_mono {P Q : Nat → Bool} : ∀ n, (∀ k, k < n → P k = true → Q k = true) → cnB P n ≤ cnB Q n := by
  intro n
  induction n with
  | zero => intro _; exact Nat.le_refl _
  | succ n ih =>
    intro h
    have h1 := ih (fun k hk => h k (by omega))
    show cnB P n + b1 (P n) ≤ cnB Q n + b1 (Q n)
    cases hp : P n with
    | false => have := b1_le (Q n); show cnB P n + 0 ≤ _; omega
    | true => rw [h n (by omega) hp]; omega
/-- one join more, both ways -/
def nJ (B : Nat → Nat → Bool) (a b x y : Nat) : Bool := or (B x y) (and (not (Nat.beq a b)) (or (and (Nat.beq x a) (Nat.beq y b)) (and (Nat.beq x b) (Nat.beq y a))))
theorem nJ_iff {B : Nat → Nat → Bool} {a b x y : Nat} : nJ B a b x y = true ↔ B x y = true ∨ (¬ a = b ∧ ((x = a ∧ y = b) ∨ (x = b ∧ y = a))) := by
  unfold nJ
  rw [Bool.or_eq_true, Bool.and_eq_true, Bool.or_eq_true, Bool.and_eq_true, Bool.and_eq_true]
  constructor
  · rintro (h | ⟨h1, h2 | h2⟩)
    · exact Or.inl h
    · refine Or.inr ⟨fun z => ?_, Or.inl ⟨Nat.eq_of_beq_eq_true h2.1, Nat.eq_of_beq_eq_true h2.2⟩⟩
      rw [nbT z] at h1; exact absurd h1 (by decide)
    · refine Or.inr ⟨fun z => ?_, Or.inr ⟨Nat.eq_of_beq_eq_true h2.1, Nat.eq_of_beq_eq_true h2.2⟩⟩
      rw [nbT z] at h1; exact absurd h1 (by decide)
  · rintro (h | ⟨h1, ⟨h2, h3⟩ | ⟨h2, h3⟩⟩)
    · exact Or.inl h
    · exact Or.inr ⟨by rw [nbF h1]; rfl, Or.inl ⟨nbT h2, nbT h3⟩⟩
    · exact Or.inr ⟨by rw [nbF h1]; rfl, Or.inr ⟨nbT h2, nbT h3⟩⟩
theorem Bool_ext {x y : Bool} (h : x = true ↔ y = true) : x = y := by
  cases x <;> cases y
  · rfl
  · exact absurd (h.mpr rfl) (by decide)
  · exact absurd (h.mp rfl) (by decide)
  · rfl
theorem nB.cg {w N : Nat} {A B : Nat → Nat → Bool} {fj fm : Nat → Int32} (h : nB w N A fj fm) (e : ∀ a b, a < N → b < N → A a b = B a b) : nB w N B fj fm := by
  obtain ⟨nb, h1, h2, h3⟩ := h
  have ec : ∀ a, a < N → cnB (B a) N = cnB (A a) N := fun a ha => cnB_cg N (fun k hk => (e a k ha hk).symm)
  refine ⟨nb, fun a ha => ?_, fun a b ha hb hab => ?_, fun a k k' ha hk hk' => ?_⟩
  · rw [ec a ha]
    obtain ⟨q1, q2, q3⟩ := h1 a ha
    exact ⟨q1, q2, fun k hk => ⟨(q3 k hk).1, (q3 k hk).2.1, by rw [← e a _ ha (q3 k hk).2.1]; exact (q3 k hk).2.2⟩⟩
  · rw [ec a ha]
    exact h2 a b ha hb (by rw [e a b ha hb]; exact hab)
  · rw [ec a ha] at hk'
    exact h3 a k k' ha hk hk'
/-- one more in one row -/
def n1 (B : Nat → Nat → Bool) (a b x y : Nat) : Bool := or (B x y) (and (Nat.beq x a) (Nat.beq y b))
theorem n1_iff {B : Nat → Nat → Bool} {a b x y : Nat} : n1 B a b x y = true ↔ B x y = true ∨ (x = a ∧ y = b) := by
  unfold n1
  rw [Bool.or_eq_true, Bool.and_eq_true]
  exact ⟨fun z => z.imp id (fun y => ⟨Nat.eq_of_beq_eq_true y.1, Nat.eq_of_beq_eq_true y.2⟩), fun z => z.imp id (fun y => ⟨nbT y.1, nbT y.2⟩)⟩
def nbP (nb : Nat → Nat → Nat) (a c b x k : Nat) : Nat := if x = a ∧ k = c then b else nb x k
theorem nbP_p {nb : Nat → Nat → Nat} {a c b : Nat} : nbP nb a c b a c = b := by unfold nbP; rw [if_pos ⟨rfl, rfl⟩]
theorem nbP_n {nb : Nat → Nat → Nat} {a c b x k : Nat} (h : ¬ (x = a ∧ k = c)) : nbP nb a c b x k = nb x k := by unfold nbP; rw [if_neg h]
theorem n1_cnt {B : Nat → Nat → Bool} {N a b : Nat} (hb : b < N) (hn : B a b = false) : cnB (n1 B a b a) N = cnB (B a) N + 1 := by
  refine cnB_set (v := b) hn (n1_iff.mpr (Or.inr ⟨rfl, rfl⟩)) (fun k hk => Bool_ext ?_) N hb
  rw [n1_iff]
  exact ⟨fun z => Or.inl z, fun z => z.elim id (fun y => absurd y.2 hk)⟩
theorem n1_oth {B : Nat → Nat → Bool} {N a b x : Nat} (hx : ¬ x = a) : cnB (n1 B a b x) N = cnB (B x) N := cnB_cg N (fun k _ => Bool_ext (by
  rw [n1_iff]
  exact ⟨fun z => z.elim id (fun y => absurd y.1 hx), fun z => Or.inl z⟩))
theorem nB_put {w N a b : Nat} {B : Nat → Nat → Bool} {fj fm : Nat → Int32} (h : nB w N B fj fm) (ha : a < N) (hb : b < N) (hn : B a b = false) (hw : cnB (B a) N < w) : nB w N (n1 B a b) (upd fj (w * a + cnB (B a) N) (nI b)) (upd fm a (nI (cnB (B a) N + 1))) := by
  obtain ⟨nb, h1, h2, h3⟩ := h
  have ea := n1_cnt hb hn
  refine ⟨nbP nb a (cnB (B a) N) b, fun x hx => ?_, fun x y hx hy hxy => ?_, fun x k k' hx hk hk' => ?_⟩
  · by_cases e : x = a
    · subst e
      obtain ⟨q1, q2, q3⟩ := h1 x hx
      rw [ea, upd_eq]
      refine ⟨rfl, by omega, fun k hk => ?_⟩
      by_cases ek : k = cnB (B x) N
      · rw [ek, nbP_p, upd_eq]
        exact ⟨rfl, hb, n1_iff.mpr (Or.inr ⟨rfl, rfl⟩)⟩
      · rw [nbP_n (fun z => ek z.2), upd_ne (by omega)]
        have := q3 k (by omega)
        exact ⟨this.1, this.2.1, n1_iff.mpr (Or.inl this.2.2)⟩
    · obtain ⟨q1, q2, q3⟩ := h1 x hx
      rw [n1_oth e, upd_ne e]
      refine ⟨q1, q2, fun k hk => ?_⟩
      have hne : ¬ w * x + k = w * a + cnB (B a) N := fun z => e (ix_inj (by omega) hw z).1
      rw [nbP_n (fun z => e z.1), upd_ne hne]
      have := q3 k hk
      exact ⟨this.1, this.2.1, n1_iff.mpr (Or.inl this.2.2)⟩
  · by_cases e : x = a
    · subst e
      rw [ea]
      by_cases ey : y = b
      · exact ⟨cnB (B x) N, by omega, by rw [nbP_p, ey]⟩
      · obtain ⟨k, k1, k2⟩ := h2 x y hx hy ((n1_iff.mp hxy).resolve_right (fun z => ey z.2))
        exact ⟨k, by omega, by rw [nbP_n (fun z => by omega)]; exact k2⟩
    · rw [n1_oth e]
      obtain ⟨k, k1, k2⟩ := h2 x y hx hy ((n1_iff.mp hxy).resolve_right (fun z => e z.1))
      exact ⟨k, k1, by rw [nbP_n (fun z => e z.1)]; exact k2⟩
  · by_cases e : x = a
    · subst e
      rw [ea] at hk'
      rw [nbP_n (fun z => by omega)]
      by_cases ek : k' = cnB (B x) N
      · rw [ek, nbP_p]
        intro z
        have := ((h1 x hx).2.2 k (by omega)).2.2
        rw [z, hn] at this
        exact absurd this (by decide)
      · rw [nbP_n (fun z => ek z.2)]
        exact h3 x k k' hx hk (by omega)
    · rw [n1_oth e] at hk'
      rw [nbP_n (fun z => e z.1), nbP_n (fun z => e z.1)]
      exact h3 x k k' hx hk hk'
section NT
variable {Γ : eb_C} {st st' : eb_S} {c q pj pm w N : Nat} {rest : List Value} {A B : Nat → Nat → Bool} {fj fm : Nat → Int32}
/-- a net in the store -/
def nC (Γ : eb_C) (st : eb_S) (c q pj pm w N : Nat) (rest : List Value) (B : Nat → Nat → Bool) (fj fm : Nat → Int32) : Prop := eb_isN c ∧ st q = some (.inr (c, .int (nI N) :: .int (nI w) :: .ref pj :: .ref pm :: rest)) ∧ st pj = some (eb_ia Γ 0 (N * w) fj) ∧ st pm = some (eb_ia Γ 0 N fm) ∧ nB w N B fj fm ∧ w * N < 2147483648 ∧ ¬ pj = pm ∧ 1 ≤ w
theorem nC.cs (h : nC Γ st c q pj pm w N rest B fj fm) : eb_cs st q [9, 10, 13] := st_cs h.2.1 (by rcases h.1 with z | z | z <;> rw [z] <;> simp)
theorem nC.lt (h : nC Γ st c q pj pm w N rest B fj fm) : N < 2147483648 := by
  have h1 := h.2.2.2.2.2.1
  have h2 := h.2.2.2.2.2.2.2
  have : 1 * N ≤ w * N := Nat.mul_le_mul_right N h2
  omega
theorem sc_nat {a k : Nat} {K : Int32 → Prop} (h : nC Γ st c q pj pm w N rest B fj fm) (ha : a < N) (hk : k < w) (hK : K (fj (w * a + k))) : MX10_at Γ st q (nI a) (nI k) K := by
  have hi := ix_lt (n := N) ha hk
  unfold MX10_at
  refine st_nr h.1 h.2.1 (v := some pj) rfl (st_ni h.1 h.2.1 rfl (st_nn ?_))
  rw [nI_mul, nI_add]
  exact st_li h.2.2.1 (by rw [Nat.mul_comm N w]; exact hi) (by rw [Nat.mul_comm N w]; exact h.2.2.2.2.2.1) hK
theorem sc_ndeg {a : Nat} {K : Int32 → Prop} (h : nC Γ st c q pj pm w N rest B fj fm) (ha : a < N) (hK : K (nI (cnB (B a) N))) : MX10_degree Γ st q (nI a) K := by
  unfold MX10_degree
  refine st_nr h.1 h.2.1 (v := some pm) rfl (st_nn (st_li h.2.2.2.1 ha h.lt ?_))
  obtain ⟨nb, h1, -⟩ := h.2.2.2.2.1
  rw [(h1 a ha).1]; exact hK
theorem sc_isJoined {a b : Nat} {K : Int32 → Prop} (h : nC Γ st c q pj pm w N rest B fj fm) (ha : a < N) (hb : b < N) (hK : K (nI (b1 (B a b)))) : MX10_isJoined Γ st q (nI a) (nI b) K := by
  have hN := h.lt
  obtain ⟨nb, h1, h2, h3⟩ := h.2.2.2.2.1
  obtain ⟨q1, q2, q3⟩ := h1 a ha
  have hcl := cnB_le (B a) N
  unfold MX10_isJoined
  refine eb_loop1_i (fun u => ∃ k, k ≤ cnB (B a) N ∧ u = nI k ∧ ∀ k', k' < k → ¬ nb a k' = b) (fun u => 2147483648 - u.toNatClampNeg) ?_ ⟨0, by omega, rfl, fun k' hk' => absurd hk' (Nat.not_lt_zero _)⟩
  rintro R u ⟨k, hk, rfl, hno⟩ hR
  refine st_nr h.1 h.2.1 (v := some pm) rfl (st_nn (st_li h.2.2.2.1 ha hN ?_))
  rw [q1]
  refine br_le (by omega) (by omega) (fun h4 => ?_) (fun h4 => ⟨h.cs, sc_nat h ha (by omega) ?_⟩)
  · have : B a b = false := by
      cases e : B a b with
      | false => rfl
      | true =>
        obtain ⟨k', z1, z2⟩ := h2 a b ha hb e
        exact absurd z2 (hno k' (by omega))
    rw [this] at hK; exact hK
  · obtain ⟨z1, z2, z3⟩ := q3 k (by omega)
    rw [z1]
    refine br_eq (by omega) (by omega) (fun e => ?_) (fun e => ?_)
    · rw [← e, z3] at hK; exact hK
    · rw [nI_1]
      refine hR _ ⟨k + 1, by omega, rfl, fun k' hk' => ?_⟩ ?_
      · by_cases ek : k' = k
        · rw [ek]; exact e
        · exact hno k' (by omega)
      · rw [nI_cl (by omega), nI_cl (by omega)]; omega
theorem sc_to {a b : Nat} {K : eb_S → Prop} (h : nC Γ st c q pj pm w N rest B fj fm) (ha : a < N) (hb : b < N) (hn : B a b = false) (hw : cnB (B a) N < w)
    (hK : ∀ st' fj' fm', sf [pj, pm] st st' → nC Γ st' c q pj pm w N rest (n1 B a b) fj' fm' → K st') : MX10_to Γ st q (nI a) (nI b) K := by
  have hN := h.lt
  obtain ⟨c1, c2, c3, c4, c5, c6, c7, c8⟩ := id h
  obtain ⟨nb, h1, -⟩ := id c5
  obtain ⟨q1, q2, q3⟩ := h1 a ha
  have hcl := cnB_le (B a) N
  have hi := ix_lt (n := N) ha hw
  unfold MX10_to
  refine st_nr c1 c2 (v := some pj) rfl (st_ni c1 c2 rfl (st_nr c1 c2 (v := some pm) rfl (st_nn (st_li c4 ha hN (st_nn ?_)))))
  rw [q1, nI_mul, nI_add]
  refine st_wi c3 (by rw [Nat.mul_comm N w]; exact hi) (by rw [Nat.mul_comm N w]; exact c6) (fun s1 g1 w1 => ?_)
  have nq : ¬ q = pj := fun z => by rw [z, c3] at c2; exact absurd c2 (by simp)
  have nq2 : ¬ q = pm := fun z => by rw [z, c4] at c2; exact absurd c2 (by simp)
  have d2 := g1 _ _ c2 (fun z => nq (List.mem_singleton.mp z))
  have d4 := g1 _ _ c4 (fun z => c7 (List.mem_singleton.mp z).symm)
  refine st_nr c1 d2 (v := some pm) rfl (st_nn (st_li d4 ha hN ?_))
  rw [q1, nI_1]
  refine st_wi d4 ha hN (fun s2 g2 w2 => ?_)
  refine hK s2 _ _ ((g1.up (by simp)).tr (g2.up (by simp))) ⟨c1, g2 _ _ d2 (fun z => nq2 (List.mem_singleton.mp z)), g2 _ _ w1 (fun z => c7 (List.mem_singleton.mp z)), w2, nB_put c5 ha hb hn hw, c6, c7, c8⟩
/-- two are joined, if they aren't -/
theorem sc_joins {a b : Nat} {K : eb_S → Prop} (h : nC Γ st c q pj pm w N rest B fj fm) (ha : a < N) (hb : b < N) (hsy : ∀ x y, x < N → y < N → B x y = B y x) (hA : ∀ x, x < N → cnB (A x) N ≤ w) (hBA : ∀ x y, x < N → y < N → B x y = true → A x y = true) (hab : ¬ a = b → A a b = true ∧ A b a = true)
    (hK : ∀ st' fj' fm', sf [pj, pm] st st' → nC Γ st' c q pj pm w N rest (nJ B a b) fj' fm' → K st') : MX10_joins Γ st q (nI a) (nI b) K := by
  have hN := h.lt
  have room : ∀ (C : Nat → Nat → Bool) x y, x < N → y < N → (∀ z, z < N → C x z = true → A x z = true) → C x y = false → A x y = true → cnB (C x) N < w := fun C x y hx hy hC h0 h1 => by
    have e1 : cnB (fun z => or (C x z) (Nat.beq z y)) N = cnB (C x) N + 1 := by
      refine cnB_set (v := y) h0 ?_ (fun k hk => ?_) N hy
      · show or (C x y) (Nat.beq y y) = true
        rw [nbT (rfl : y = y)]; cases C x y <;> rfl
      · show C x k = or (C x k) (Nat.beq k y)
        rw [nbF hk, Bool.or_false]
    have e2 : cnB (fun z => or (C x z) (Nat.beq z y)) N ≤ cnB (A x) N := cnB_mono N (fun k hk hz => by
      by_cases e : k = y
      · rw [e]; exact h1
      · have hz' : or (C x k) (Nat.beq k y) = true := hz
        rw [nbF e, Bool.or_false] at hz'
        exact hC k hk hz')
    have := hA x hx
    omega
  unfold MX10_joins
  refine br_eq (by omega) (by omega) (fun e => ?_) (fun e => ?_)
  · refine hK st fj fm (sf.rf _ _) ?_
    obtain ⟨c1, c2, c3, c4, c5, c6, c7, c8⟩ := h
    refine ⟨c1, c2, c3, c4, c5.cg (fun x y _ _ => Bool_ext ?_), c6, c7, c8⟩
    rw [nJ_iff]
    exact ⟨fun z => Or.inl z, fun z => z.elim id (fun y => absurd e y.1)⟩
  · refine ⟨h.cs, sc_isJoined h ha hb (cond_br (fun c0 => ?_) (fun c0 => ?_))⟩
    · have c0' : B b a = false := by rw [← hsy a b ha hb]; exact c0
      refine ⟨h.cs, sc_to h ha hb c0 (room B a b ha hb (fun z hz y => hBA a z ha hz y) c0 (hab e).1) (fun s1 fj1 fm1 g1 h1 => ⟨h1.cs, ?_⟩)⟩
      have c1 : n1 B a b b a = false := by
        unfold n1
        rw [c0', nbF e, Bool.and_false]; rfl
      refine sc_to h1 hb ha c1 (room _ b a hb ha (fun z hz y => ?_) c1 (hab e).2) (fun s2 fj2 fm2 g2 h2 => hK s2 fj2 fm2 (g1.tr g2) ?_)
      · exact hBA b z hb hz ((n1_iff.mp y).resolve_right (fun q => e q.1.symm))
      · obtain ⟨d1, d2, d3, d4, d5, d6, d7, d8⟩ := h2
        refine ⟨d1, d2, d3, d4, d5.cg (fun x y _ _ => Bool_ext ?_), d6, d7, d8⟩
        rw [nJ_iff, n1_iff, n1_iff]
        constructor
        · rintro ((z | z) | z)
          · exact Or.inl z
          · exact Or.inr ⟨e, Or.inl z⟩
          · exact Or.inr ⟨e, Or.inr z⟩
        · rintro (z | ⟨-, z | z⟩)
          · exact Or.inl (Or.inl z)
          · exact Or.inl (Or.inr z)
          · exact Or.inr z
    · refine hK st fj fm (sf.rf _ _) ?_
      obtain ⟨c1, c2, c3, c4, c5, c6, c7, c8⟩ := h
      refine ⟨c1, c2, c3, c4, c5.cg (fun x y hx hy => Bool_ext ?_), c6, c7, c8⟩
      rw [nJ_iff]
      refine ⟨fun z => Or.inl z, fun z => z.elim id (fun y => ?_)⟩
      rcases y.2 with ⟨e1, e2⟩ | ⟨e1, e2⟩
      · rw [e1, e2]; exact c0
      · rw [e1, e2, ← hsy a b ha hb]; exact c0
end NT
