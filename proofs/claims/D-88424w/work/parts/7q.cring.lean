set_option maxRecDepth 100000
def nwA (q q1 q2 q3 : Nat) : Nat → Nat
  | 0 => q
  | 1 => q1
  | 2 => q2
  | _ => q3
section RB
variable {Γ : eb_C} {E : cET} {st st' : eb_S} {I J : Nat → va_E → Prop} {bc bs : Nat} {a : Nat → Nat} {D : eb_D} {d : cBT} {gp : Nat} {ad : Nat → Nat} {bd : Nat → cBT} {x : cXT} {Ds : Nat → eb_D}
/-- a body with other rings -/
theorem sc_ringedBy {s : Nat} {K : Option Nat → eb_S → Prop} (h : bX Γ st I a D d gp) (hk : d.1.2.2 = 1) (hs : 1 ≤ s) (hs8 : s < 2 ^ D.1) (hbc : 4 ≤ bc) (hbs : 57 ≤ bs) (hJ : ∀ b y, I b y → J b y) (hJs : ∀ b y, J b y → st b = some y)
    (hK : ∀ st' a' d', sf [] st st' → (∀ j, j < 4 → st (a' j) = none) → bX Γ st' J a' (rgD D s) d' gp → K (some (a' 0)) st') : MX1_ringedBy Γ bc bs st (a 0) (nI s) K := by
  obtain ⟨⟨hc, hinj⟩, hv, hz, ⟨e1, e2, e3⟩, hgp, hG, hI, hpt⟩ := h
  have m1 : ∀ {x y : Nat}, ¬ x = y → x ∉ [y] := fun h z => h (List.mem_singleton.mp z)
  have sy : ∀ {x y : Nat}, ¬ x = y → ¬ y = x := fun h z => h z.symm
  unfold MX1_ringedBy
  refine st_mk (by omega) (by omega) (fun q s1 f1 g1 w1 => ?_)
  have nq : ∀ {b : Nat} {y : va_E}, st b = some y → ¬ b = q := fun hb z => by rw [z, f1] at hb; exact absurd hb (by simp)
  have c0 : st (a 0) = some (.inr (1, [.int d.1.1, .ref (a 1), .int d.1.2.1, va_rf d.2.1.1, .int d.1.2.2, .ref (a 2), .ref (a 3), va_rf d.2.1.2.1, va_rf d.2.1.2.2])) := hc 0 (by omega)
  have c1 : st (a 1) = some (eb_ia Γ 0 16 d.2.2.1) := hc 1 (by omega)
  refine st_gi (g1 _ _ c0 List.not_mem_nil) rfl ⟨3, 48, ⟨by omega, by omega⟩, sc_bodyinit w1 (Nat.le_refl _) (Nat.le_refl _) (fun s2 q1 q2 q3 f g2 n1 n2 n3 n12 n13 n23 w2 w21 hf w22 w23 => ?_)⟩
  have k2 : ∀ {b : Nat} {y : va_E}, st b = some y → s2 b = some y := fun hb => g2 _ _ (g1 _ _ hb List.not_mem_nil) (m1 (nq hb))
  have nx : ∀ {b : Nat}, s1 b = none → ¬ q = b := fun hb z => by rw [← z, w1] at hb; exact absurd hb (by simp)
  have old : ∀ {b : Nat}, s1 b = none → st b = none := fun {b} hb => by
    cases hh : st b with
    | none => rfl
    | some y => have := g1 _ _ hh List.not_mem_nil; rw [hb] at this; exact absurd this (by simp)
  refine st_gr (k2 c0) (v := some (a 1)) rfl (st_gr w2 (v := some q1) rfl (st_gr (k2 c0) (v := some (a 1)) rfl (st_nn (st_ln (k2 c1) (st_nn (st_nn ?_))))))
  refine st_cp (s := 0) (d := 0) (n := 16) (k2 c1) w21 (by omega) (by omega) (by omega) (by omega) (fun s3 g3 w3 => ?_)
  have q3' := g3 _ _ w2 (m1 (nx n1))
  refine st_pt q3' (by simp) (fun s4 g4 w4 => ?_)
  have k4 : ∀ {b : Nat} {y : va_E}, st b = some y → s4 b = some y := fun hb => g4 _ _ (g3 _ _ (k2 hb) (m1 (fun z => by rw [z, old n1] at hb; exact absurd hb (by simp)))) (m1 (nq hb))
  refine st_gr (k4 c0) (v := d.2.1.1) rfl (st_pt w4 (by simp) (fun s5 g5 w5 => ?_))
  refine st_gi (g5 _ _ (k4 c0) (m1 (nq c0))) rfl ⟨Or.inr hk, st_pt w5 (by simp) (fun s6 g6 w6 => ?_)⟩
  have k6 : ∀ {b : Nat} {y : va_E}, st b = some y → s6 b = some y := fun hb => g6 _ _ (g5 _ _ (k4 hb) (m1 (nq hb))) (m1 (nq hb))
  have fr1 : ∀ {b : Nat} {y : va_E}, ¬ b = q → ¬ b = q1 → s2 b = some y → s6 b = some y := fun hb hb1 hy => g6 _ _ (g5 _ _ (g4 _ _ (g3 _ _ hy (m1 hb1)) (m1 hb)) (m1 hb)) (m1 hb)
  have w63 : s6 q1 = some (eb_ia Γ 0 16 (va_cpy d.2.2.1 f 0 0 16)) := g6 _ _ (g5 _ _ (g4 _ _ w3 (m1 (sy (nx n1)))) (m1 (sy (nx n1)))) (m1 (sy (nx n1)))
  have w62 := fr1 (sy (nx n2)) (sy n12) w22
  have w64 := fr1 (sy (nx n3)) (sy n13) w23
  rw [hk, e1, hgp] at w6
  refine hK s6 (nwA q q1 q2 q3) ((nI D.1, nI s, 1), (some gp, none, none), va_cpy d.2.2.1 f 0 0 16, (fun _ => none), (fun _ => 0)) (fun b y hb _ => k6 hb) (fun j hj => ?_) ⟨⟨fun j hj => ?_, fun i j hi hj e => ?_⟩, rgD_v hv hs hs8, ?_, ⟨rfl, rfl, fun k hk' => ?_⟩, rfl, ?_, fun b y hb => ⟨k6 (hJs b y hb), fun j hj => ?_⟩, fun t y ht hy => ?_⟩
  · match j, hj with
    | 0, _ => exact f1
    | 1, _ => exact old n1
    | 2, _ => exact old n2
    | 3, _ => exact old n3
  · match j, hj with
    | 0, _ => exact w6
    | 1, _ => exact w63
    | 2, _ => exact w62
    | 3, _ => exact w64
  · have b0 := nx n1
    have b1 := nx n2
    have b2 := nx n3
    match i, j, hi, hj, e with
    | 0, 0, _, _, _ => rfl
    | 0, 1, _, _, e => exact absurd e b0
    | 0, 2, _, _, e => exact absurd e b1
    | 0, 3, _, _, e => exact absurd e b2
    | 1, 0, _, _, e => exact absurd e (sy b0)
    | 1, 1, _, _, _ => rfl
    | 1, 2, _, _, e => exact absurd e n12
    | 1, 3, _, _, e => exact absurd e n13
    | 2, 0, _, _, e => exact absurd e (sy b1)
    | 2, 1, _, _, e => exact absurd e (sy n12)
    | 2, 2, _, _, _ => rfl
    | 2, 3, _, _, e => exact absurd e n23
    | 3, 0, _, _, e => exact absurd e (sy b2)
    | 3, 1, _, _, e => exact absurd e (sy n13)
    | 3, 2, _, _, e => exact absurd e (sy n23)
    | 3, 3, _, _, _ => rfl
  · rw [← (rgD_s D s).T.2]; exact hz
  · have := cpy_in (f := d.2.2.1) (g := f) (s := 0) (d := 0) hk'
    rw [Nat.zero_add] at this
    show va_cpy d.2.2.1 f 0 0 16 k = _
    rw [this]
    exact e3 k hk'
  · rw [← (rgD_s D s).T.1]; exact hG.mono hJ
  · have hst := hJs b y hb
    match j, hj with
    | 0, _ => exact nq hst
    | 1, _ => exact fun z => by rw [z] at hst; have := old n1; rw [show nwA q q1 q2 q3 1 = q1 from rfl] at hst; rw [this] at hst; exact absurd hst (by simp)
    | 2, _ => exact fun z => by rw [z] at hst; have := old n2; rw [show nwA q q1 q2 q3 2 = q2 from rfl] at hst; rw [this] at hst; exact absurd hst (by simp)
    | 3, _ => exact fun z => by rw [z] at hst; have := old n3; rw [show nwA q q1 q2 q3 3 = q3 from rfl] at hst; rw [this] at hst; exact absurd hst (by simp)
  · exact absurd hy (by simp)
/-- a list of hulls: n of them, at most 7 -/
def aL (Γ : eb_C) (st : eb_S) (p arr n : Nat) (e : Nat → Nat) : Prop :=
  st p = some (.inr (14, [.int (nI n), .ref arr, .int (nI n)])) ∧ ((n = 0 ∧ arr = Γ.2.2.2) ∨ (1 ≤ n ∧ ∃ f, st arr = some (eb_ra Γ 8 10 f) ∧ ∀ k, k < n → f k = some (e k)))
theorem sc_ladd {p arr n h : Nat} {e : Nat → Nat} {fs : List Value} {fE : Nat → Option Nat} {K : Int32 → eb_S → Prop} (hL : aL Γ st p arr n e) (hE0 : st Γ.2.2.2 = some (eb_ra Γ 8 0 fE)) (hh : st h = some (.inr (11, fs))) (hn : n < 7) (hpa : ¬ p = arr) (hph : ¬ h = p) (hah : ¬ h = arr) (hpE : ¬ p = Γ.2.2.2) (hbc : 1 ≤ bc) (hbs : 10 ≤ bs)
    (hK : ∀ st' arr', sf [p, arr'] st st' → (arr' = arr ∨ st arr' = none) → ¬ arr' = Γ.2.2.2 → ¬ p = arr' → aL Γ st' p arr' (n + 1) (updN e n h) → K 1 st') : MJ5_add Γ bc bs st p h K := by
  have m1 : ∀ {x y : Nat}, ¬ x = y → x ∉ [y] := fun h z => h (List.mem_singleton.mp z)
  have sy : ∀ {x y : Nat}, ¬ x = y → ¬ y = x := fun h z => h z.symm
  obtain ⟨l1, l2⟩ := hL
  unfold MJ5_add
  refine st_gi l1 rfl (st_pt l1 (by simp) (fun s1 g1 w1 => ?_))
  rw [nI_1] at w1
  refine st_gr w1 (v := some arr) rfl (st_gi w1 rfl (st_nn ⟨st_cs w1 (by simp), 1, 10, ⟨by omega, by omega⟩, ?_⟩))
  unfold MJ5_add_2
  -- the array has room
  have put : ∀ (s : eb_S) (arr' : Nat) (f : Nat → Option Nat), sf [p, arr'] st s → (arr' = arr ∨ st arr' = none) → ¬ arr' = Γ.2.2.2 → ¬ p = arr' → s p = some (.inr (14, [.int (nI (n + 1)), .ref arr', .int (nI n)])) → s arr' = some (eb_ra Γ 8 10 f) → (∀ k, k < n → f k = some (e k)) → eb_nn (some arr') (fun p6 => eb_cs s h [11] ∧ (eb_wr Γ s p6 8 (nI n) (some h) (fun g7 => eb_pt g7 p 14 2 (.int (nI n + 1)) (fun g8 => K 1 g8)))) := by
    intro s arr' f hs hor hne hpn hp ha hf
    have hhs : s h = some (.inr (11, fs)) := hs _ _ hh (fun z => by
      simp only [List.mem_cons, List.not_mem_nil, or_false] at z
      rcases z with z | z
      · exact hph z
      · rcases hor with w | w
        · exact hah (z.trans w)
        · rw [← z, hh] at w; exact absurd w (by simp))
    refine st_nn ⟨st_cs hhs (by simp), st_wr ha (by omega) (by omega) (fun s2 g2 w2 => st_pt (g2 _ _ hp (m1 hpn)) (by simp) (fun s3 g3 w3 => ?_))⟩
    rw [nI_1] at w3
    refine hK s3 arr' (fun b y hb hw => ?_) hor hne hpn ⟨w3, Or.inr ⟨by omega, _, g3 _ _ w2 (m1 (sy hpn)), fun k hk => ?_⟩⟩
    · have hw' := hw
      simp only [List.mem_cons, List.not_mem_nil, or_false, not_or] at hw
      exact g3 _ _ (g2 _ _ (hs _ _ hb hw') (m1 hw.2)) (m1 hw.1)
    · show (if k = n then some h else f k) = _
      by_cases z : k = n
      · rw [if_pos z, z, updN_eq]
      · rw [if_neg z, updN_ne z]; exact hf k (by omega)
  rcases l2 with ⟨n0, ea⟩ | ⟨n1, f, ha, hf⟩
  · subst n0
    subst ea
    have e1 := g1 _ _ hE0 (m1 (sy hpE))
    refine st_ln e1 (jp_4 (fun v s _ _ => ∃ arr', v = some arr' ∧ sf [p, arr'] st s ∧ st arr' = none ∧ ¬ arr' = Γ.2.2.2 ∧ ¬ p = arr' ∧ s p = some (.inr (14, [.int (nI (0 + 1)), .ref arr', .int (nI 0)])) ∧ ∃ f, s arr' = some (eb_ra Γ 8 10 f)) ?_ ?_)
    · rintro _ s _ _ ⟨arr', rfl, z1, z2, z3, z4, z5, f, z6⟩
      exact put s arr' f z1 (Or.inr z2) z3 z4 z5 z6 (fun k hk => absurd hk (Nat.not_lt_zero _))
    · intro k9 hk9
      refine ⟨fun _ => ⟨st_cs w1 (by simp), 1, 10, ⟨by omega, by omega⟩, ?_⟩, fun z => absurd rfl z⟩
      unfold MJ5_grow
      refine st_gi w1 rfl ⟨st_cs w1 (by simp), 1, 10, ⟨by omega, by omega⟩, ?_⟩
      unfold MJ5_grow_2
      refine st_gr w1 (v := some Γ.2.2.2) rfl (st_nn (st_ln e1 (jp_0 False (fun z => z.elim) (fun k4 _ => ⟨fun z => absurd z (by show ¬ (0 : Int32) < nI 0; decide), fun _ => st_gr w1 (v := some Γ.2.2.2) rfl ⟨fun _ => ?_, fun z => absurd rfl z⟩⟩))))
      show MJ2_max 10 (nI 0 + 1) _
      unfold MJ2_max
      refine ⟨fun z => absurd z (by decide), fun _ => ⟨(st_ok1 (by omega) : eb_ok1 (nI 10)), ?_⟩⟩
      refine st_mk (n := 10) (by omega) (by omega) (fun arr' s2 f2 g2 w2 => st_pt (g2 _ _ w1 List.not_mem_nil) (by simp) (fun s3 g3 w3 => ?_))
      have np : ¬ p = arr' := st_ne w1 f2
      have f0 : st arr' = none := st_fresh g1 f2 (sy np)
      refine hk9 _ _ _ _ ⟨arr', rfl, fun b y hb hw => ?_, f0, fun z => ?_, np, w3, _, g3 _ _ w2 (m1 (sy np))⟩
      · simp only [List.mem_cons, List.not_mem_nil, or_false, not_or] at hw
        exact g3 _ _ (g2 _ _ (g1 _ _ hb (m1 hw.1)) List.not_mem_nil) (m1 hw.1)
      · rw [z, hE0] at f0; exact absurd f0 (by simp)
  · have a1 := g1 _ _ ha (m1 (sy hpa))
    have hnE : ¬ arr = Γ.2.2.2 := fun z => by
      rw [z, hE0] at ha
      injection ha with ha
      injection ha with ha
      injection ha with _ ha
      injection ha with ha
      exact absurd ha (by decide)
    refine st_ln a1 (jp_4 (fun v s _ _ => v = some arr ∧ s = s1) ?_ (fun k9 hk9 => ⟨fun z => ?_, fun _ => hk9 _ _ _ _ ⟨rfl, rfl⟩⟩))
    · rintro _ _ _ _ ⟨rfl, rfl⟩
      exact put _ arr f (g1.up (by simp)) (Or.inl rfl) hnE hpa w1 a1 hf
    · have z' : nI n = nI 10 := z
      have := (nI_eq (by omega) (by omega)).mp z'
      omega
end RB
