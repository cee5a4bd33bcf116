set_option maxRecDepth 100000
theorem st_mm {Γ : eb_C} {st : eb_S} {m n bc bs uc us : Nat} {K : Nat → eb_S → Prop} (hm : 1 ≤ m) (hm4 : m ≤ 4) (hn : n ≤ 67108864) (hc : uc + (1 + m) ≤ bc) (hs : us + (m + m * n) ≤ bs)
    (hK : ∀ a st', (∀ i, i ≤ m → st (a + i) = none) → sf [] st st' → st' a = some (eb_ra Γ 5 m (fun i => some (a + 1 + i))) → (∀ i, i < m → st' (a + 1 + i) = some (eb_ia Γ 0 n (fun _ => 0))) → K a st') : eb_mm Γ st (nI m) (nI n) bc bs uc us K := by
  unfold eb_mm
  rw [nI_cl (show m < 2147483648 by omega), nI_cl (show n < 2147483648 by omega)]
  refine ⟨⟨(nI_ltI (by omega : (0 : Nat) < 2147483648) (by omega)).mpr (by omega), (nI_leI (by omega) (by omega : (4 : Nat) < 2147483648)).mpr hm4⟩, st_ok1 hn, hc, hs, fun a ha st' e => hK a st' ha ?_ ?_ ?_⟩
  · intro b x hb _
    rw [e]
    show (if b = a then _ else if a < b ∧ b ≤ a + m then _ else st b) = some x
    rw [if_neg (fun z => by have := ha 0 (by omega); rw [Nat.add_zero, ← z, hb] at this; exact absurd this (by simp)), if_neg (fun z => by have := ha (b - a) (by omega); rw [show a + (b - a) = b by omega, hb] at this; exact absurd this (by simp))]
    exact hb
  · rw [e]
    show (if a = a then _ else _) = _
    rw [if_pos rfl]
  · intro i hi
    rw [e]
    show (if a + 1 + i = a then _ else if a < a + 1 + i ∧ a + 1 + i ≤ a + m then _ else st (a + 1 + i)) = _
    rw [if_neg (by omega), if_pos (by omega)]
theorem cBd.ne {Γ : eb_C} {st st' : eb_S} {p w c : Nat} {D : eb_D} {fs' : List Value} (h : cBd Γ st p D) (hf : sf [w] st st') (hw : st w = some (.inr (c, fs'))) (hc : ¬ c = 1) : cBd Γ st' p D := by
  obtain ⟨fs, pa, f, h1, h2, h3, h4, h5, h6⟩ := h
  refine ⟨fs, pa, f, hf _ _ h1 (fun z => ?_), h2, h3, h4, hf _ _ h5 (fun z => ?_), h6⟩
  · rw [List.mem_singleton.mp z, hw] at h1
    injection h1 with h1; injection h1 with h1; injection h1 with h1 _
    exact hc h1
  · rw [List.mem_singleton.mp z, hw] at h5
    exact absurd h5 (by simp)
theorem um_all {f : Nat → Int32} : ∀ n, (∀ k, k < n → f k = -1) → um n f = n := by
  intro n
  induction n with
  | zero => intro _; rfl
  | succ n ih =>
    intro h
    show um n f + (if f n = -1 then 1 else 0) = n + 1
    rw [ih (fun k hk => h k (by omega)), if_pos (h n (by omega))]
section GR
variable {Γ : eb_C} {st : eb_S} {D : eb_D} {e : tE}
/-- the maker's cells while it is made -/
def cMi (Γ : eb_C) (st0 s : eb_S) (p pq pc pp pm r n : Nat) (F : Nat → Nat → Int32) (fp fd : Nat → Int32) : Prop :=
  s p = some (.inr (8, [.int (nI r), .ref pq, .ref pc, .ref pp, .ref pm, .int 0])) ∧ s pq = some (eb_ra Γ 5 r (fun i => some (pq + 1 + i))) ∧ (∀ i, i < r → s (pq + 1 + i) = some (eb_ia Γ 0 (r * r) (F i))) ∧
  s pc = some (eb_ia Γ 0 (n * r * r) (fun _ => 0)) ∧ s pp = some (eb_ia Γ 0 2048 fp) ∧ s pm = some (eb_ia Γ 0 16 fd) ∧ sf [p] st0 s
def cMd (st0 : eb_S) (p pq pc pp pm r : Nat) : Prop := (∀ i, i < r → st0 (pq + 1 + i) = none ∧ pq + 1 + i ∉ [p, pc, pp, pm]) ∧ st0 pc = none ∧ st0 pp = none ∧ st0 pm = none ∧ (¬ pc = pp ∧ ¬ pc = pm ∧ ¬ pp = pm)
theorem sf.go {st0 s s' : eb_S} {p w : Nat} (h : sf [p] st0 s) (h' : sf [w] s s') (hw : st0 w = none ∨ w = p) : sf [p] st0 s' := fun a e ha hp => h' a e (h a e ha hp) (fun z => by
  have z' := List.mem_singleton.mp z
  rcases hw with hw | hw
  · rw [z', hw] at ha; exact absurd ha (by simp)
  · exact hp (by rw [z', hw]; simp))
theorem cMi.row {st0 s s' : eb_S} {p pq pc pp pm r n i : Nat} {F : Nat → Nat → Int32} {fp fd f' : Nat → Int32} (h : cMi Γ st0 s p pq pc pp pm r n F fp fd) (hd : cMd st0 p pq pc pp pm r) (hi : i < r) (hs : sf [pq + 1 + i] s s') (hw : s' (pq + 1 + i) = some (eb_ia Γ 0 (r * r) f')) : cMi Γ st0 s' p pq pc pp pm r n (fun j => if j = i then f' else F j) fp fd := by
  obtain ⟨c1, c2, c3, c4, c5, c6, c7⟩ := h
  obtain ⟨d1, d2⟩ := hd.1 i hi
  have ne : ∀ a, a ∈ [p, pc, pp, pm] → a ∉ [pq + 1 + i] := fun a ha z => d2 (by rw [← List.mem_singleton.mp z]; exact ha)
  refine ⟨hs _ _ c1 (ne p (by simp)), hs _ _ c2 (fun z => by have := List.mem_singleton.mp z; omega), fun j hj => ?_, hs _ _ c4 (ne pc (by simp)), hs _ _ c5 (ne pp (by simp)), hs _ _ c6 (ne pm (by simp)), c7.go hs (Or.inl d1)⟩
  by_cases ej : j = i
  · rw [ej]
    show s' (pq + 1 + i) = some (eb_ia Γ 0 (r * r) (if i = i then f' else F i))
    rw [if_pos rfl]; exact hw
  · show s' (pq + 1 + j) = some (eb_ia Γ 0 (r * r) (if j = i then f' else F j))
    rw [if_neg ej]
    exact hs _ _ (c3 j hj) (fun z => by have := List.mem_singleton.mp z; omega)
theorem sc_maker {X : List Nat} {p a1 n bc bs : Nat} {K : eb_S → Prop} (hv : vD D) (hB : cBd Γ st a1 D) (hG : tG e) (he1 : e.1 = D.1) (he2 : e.2.1 = pkA D) (hn : n = e.2.2.1) (hp : st p = some (.inr (8, [.int 0, .null, .null, .null, .null, .int 0]))) (hbc : 8 ≤ bc) (hbs : 10132 ≤ bs) (hX : ∀ x ∈ X, ∃ y, st x = some y)
    (hK : ∀ s pq pc pp pm fd, sf [p] st s → st pc = none → st pp = none → st pm = none → cMk Γ X s p pq pc pp pm e.1 e.2.2.1 1 (TJ e) (mirF e.1 D.2.1) fd → K s) : MX9_init Γ bc bs st p a1 (nI n) K := by
  have hr := hv.1
  have hgn := hG.1.2
  have hrr := rr_le hr.2
  have hnr : n * D.1 * D.1 ≤ 8000 := by rw [Nat.mul_assoc]; exact Nat.mul_le_mul (show n ≤ 500 by omega) hrr
  have hr4 : D.1 + D.1 * (D.1 * D.1) ≤ 68 := by
    have : D.1 * (D.1 * D.1) ≤ 4 * 16 := Nat.mul_le_mul hr.2 hrr
    omega
  unfold MX9_init
  refine st_mk (by omega) (by omega) (fun pp s1 f1 g1 w1 => ?_)
  have hnep : ¬ p = pp := st_ne hp f1
  refine st_pt (g1 _ _ hp List.not_mem_nil) (by simp) (fun s2 g2 o2 => ?_)
  refine st_mk (by omega) (by omega) (fun pm s3 f3 g3 w3 => ?_)
  have a3 := g3 _ _ o2 List.not_mem_nil
  have hnpm : ¬ p = pm := st_ne o2 f3
  have w1' : s2 pp = some (eb_ia Γ 0 2048 (fun _ => 0)) := g2 _ _ w1 (fun z => hnep (List.mem_singleton.mp z).symm)
  have hppm : ¬ pp = pm := st_ne w1' f3
  refine st_pt a3 (by simp) (fun s4 g4 o4 => ?_)
  have F2 : sf [p] st s2 := fun a e ha hp' => g2 a e (g1 a e ha List.not_mem_nil) hp'
  have F4 : sf [p] st s4 := fun a e ha hp' => g4 a e (g3 a e (F2 a e ha hp') List.not_mem_nil) hp'
  have fm0 : st pm = none := by
    cases hq : st pm with
    | none => rfl
    | some x => have := F2 pm x hq (fun z => hnpm (List.mem_singleton.mp z).symm); rw [f3] at this; exact absurd this (by simp)
  have hB4 : cBd Γ s4 a1 D := hB.ne F4 hp (by decide)
  refine hB4.r (st_pt o4 (by simp) (fun s5 g5 o5 => ?_))
  have gr5 : ∀ {K : Int32 → Prop}, K (nI D.1) → eb_gi s5 p 8 0 K := fun h => st_gi o5 rfl h
  refine gr5 (gr5 (gr5 ?_))
  rw [nI_mul]
  have F5 : sf [p] st s5 := fun a e ha hp' => g5 a e (F4 a e ha hp') hp'
  have pp5 : s5 pp = some (eb_ia Γ 0 2048 (fun _ => 0)) := g5 _ _ (g4 _ _ (g3 _ _ w1' List.not_mem_nil) (fun z => hnep (List.mem_singleton.mp z).symm)) (fun z => hnep (List.mem_singleton.mp z).symm)
  have pm5 : s5 pm = some (eb_ia Γ 0 16 (fun _ => 0)) := g5 _ _ (g4 _ _ w3 (fun z => hnpm (List.mem_singleton.mp z).symm)) (fun z => hnpm (List.mem_singleton.mp z).symm)
  refine st_mm hr.1 hr.2 (by omega) (by omega) (by omega) (fun pq s6 f6 g6 w6 v6 => ?_)
  have rw6 : ∀ i, i < D.1 → s5 (pq + 1 + i) = none := fun i hi => by have := f6 (1 + i) (by omega); rw [← Nat.add_assoc] at this; exact this
  refine st_pt (g6 _ _ o5 List.not_mem_nil) (by simp) (fun s7 g7 o7 => ?_)
  have gr7 : ∀ {K : Int32 → Prop}, K (nI D.1) → eb_gi s7 p 8 0 K := fun h => st_gi o7 rfl h
  refine gr7 (gr7 ?_)
  rw [nI_mul, nI_mul, nI_cl (show n * D.1 * D.1 < 2147483648 by omega), nI_cl (show D.1 < 2147483648 by omega), nI_cl (show D.1 * D.1 < 2147483648 by omega)]
  refine ⟨st_ok1 (by omega), st_mk (by omega) (by omega) (fun pc s8 f8 g8 w8 => ?_)⟩
  have pp7 : s7 pp = some (eb_ia Γ 0 2048 (fun _ => 0)) := g7 _ _ (g6 _ _ pp5 List.not_mem_nil) (fun z => hnep (List.mem_singleton.mp z).symm)
  have pm7 : s7 pm = some (eb_ia Γ 0 16 (fun _ => 0)) := g7 _ _ (g6 _ _ pm5 List.not_mem_nil) (fun z => hnpm (List.mem_singleton.mp z).symm)
  have pq7 : s7 pq = some (eb_ra Γ 5 D.1 (fun i => some (pq + 1 + i))) := g7 _ _ w6 (fun z => by
    have z' := List.mem_singleton.mp z
    have := f6 0 (by omega)
    rw [Nat.add_zero, z', o5] at this
    exact absurd this (by simp))
  have rw7 : ∀ i, i < D.1 → s7 (pq + 1 + i) = some (eb_ia Γ 0 (D.1 * D.1) (fun _ => 0)) := fun i hi => g7 _ _ (v6 i hi) (fun z => by
    have z' := List.mem_singleton.mp z
    have := rw6 i hi
    rw [z', o5] at this
    exact absurd this (by simp))
  have hcp : ¬ p = pc := st_ne o7 f8
  refine st_pt (g8 _ _ o7 List.not_mem_nil) (by simp) (fun s9 g9 o9 => ?_)
  have nep : ∀ {a : Nat}, ¬ a = p → a ∉ [p] := fun h z => h (List.mem_singleton.mp z)
  have hcpp : ¬ pc = pp := fun z => st_ne pp7 f8 z.symm
  have hcpm : ¬ pc = pm := fun z => st_ne pm7 f8 z.symm
  have F9 : sf [p] st s9 := fun a e ha hp' => g9 a e (g8 a e (g7 a e (g6 a e (F5 a e ha hp') List.not_mem_nil) hp') List.not_mem_nil) hp'
  have fc0 : st pc = none := by
    cases hq : st pc with
    | none => rfl
    | some x => have := g7 pc x (g6 pc x (F5 pc x hq (nep (fun z => hcp z.symm))) List.not_mem_nil) (nep (fun z => hcp z.symm)); rw [f8] at this; exact absurd this (by simp)
  have fr0 : ∀ i, i < D.1 → st (pq + 1 + i) = none ∧ pq + 1 + i ∉ [p, pc, pp, pm] := fun i hi => by
    have z0 : ¬ pq + 1 + i = p := fun z => by have := rw6 i hi; rw [z, o5] at this; exact absurd this (by simp)
    refine ⟨?_, fun z => ?_⟩
    · cases hq : st (pq + 1 + i) with
      | none => rfl
      | some x => have := F5 _ x hq (nep z0); rw [rw6 i hi] at this; exact absurd this (by simp)
    · simp only [List.mem_cons, List.not_mem_nil, or_false] at z
      rcases z with z | z | z | z
      · exact z0 z
      · have := rw7 i hi; rw [z, f8] at this; exact absurd this (by simp)
      · have := rw6 i hi; rw [z, pp5] at this; exact absurd this (by simp)
      · have := rw6 i hi; rw [z, pm5] at this; exact absurd this (by simp)
  have fpq0 : st pq = none := by
    have z0 := f6 0 (by omega)
    rw [Nat.add_zero] at z0
    cases hq : st pq with
    | none => rfl
    | some x => have := F5 _ x hq (nep (fun z => by rw [z, o5] at z0; exact absurd z0 (by simp))); rw [z0] at this; exact absurd this (by simp)
  have hd : cMd st p pq pc pp pm D.1 := ⟨fr0, fc0, f1, fm0, hcpp, hcpm, hppm⟩
  have h0 : cMi Γ st s9 p pq pc pp pm D.1 n (fun _ _ => 0) (fun _ => 0) (fun _ => 0) := by
    refine ⟨o9, g9 _ _ (g8 _ _ pq7 List.not_mem_nil) (nep (fun z => by rw [z, o7] at pq7; exact absurd pq7 (by simp))), fun i hi => g9 _ _ (g8 _ _ (rw7 i hi) List.not_mem_nil) (nep (fun z => (fr0 i hi).2 (by rw [z]; simp))), g9 _ _ w8 (nep (fun z => hcp z.symm)), g9 _ _ (g8 _ _ pp7 List.not_mem_nil) (nep (fun z => hnep z.symm)), g9 _ _ (g8 _ _ pm7 List.not_mem_nil) (nep (fun z => hnpm z.symm)), F9⟩
  -- the mirrors
  refine jp_1 (fun s => ∃ F, cMi Γ st s p pq pc pp pm D.1 n F (fun _ => 0) (fun _ => 0) ∧ ∀ i x, i < D.1 → x < D.1 * D.1 → F i x = nI (mirF D.1 D.2.1 i x)) ?_ ?_
  · rintro s ⟨F, ⟨c1, c2, c3, c4, c5, c6, c7⟩, hF⟩
    refine st_gr c1 (v := some pp) rfl (st_nn (sp_fill c5 (by omega) (fun t fp ft wt hfp => ?_)))
    have nt : ∀ {a : Nat}, ¬ a = pp → a ∉ [pp] := fun h z => h (List.mem_singleton.mp z)
    have t1 := ft _ _ c1 (nt hnep)
    have t2 := ft _ _ c2 (nt (fun z => by rw [z, c5] at c2; injection c2 with c2; injection c2 with c2; injection c2 with _ c2; injection c2 with _ c2; exact absurd c2 (by simp)))
    have t3 : ∀ i, i < D.1 → t (pq + 1 + i) = some (eb_ia Γ 0 (D.1 * D.1) (F i)) := fun i hi => ft _ _ (c3 i hi) (nt (fun z => (fr0 i hi).2 (by rw [z]; simp)))
    have t4 := ft _ _ c4 (nt hcpp)
    have t6 := ft _ _ c6 (nt (fun z => hppm z.symm))
    have t7 : sf [p] st t := c7.go ft (Or.inl f1)
    refine jp_1 (fun u => ∃ fd, cMi Γ st u p pq pc pp pm D.1 n F fp fd ∧ ∀ a c, a < D.1 → c < D.1 → fd (D.1 * a + c) = nI (cond (Nat.beq a c) 1 0)) ?_ ?_
    · rintro u ⟨fd, ⟨u1, u2, u3, u4, u5, u6, u7⟩, hfd⟩
      have hcs : eb_cs u p [8] := st_cs u1 (List.mem_singleton.mpr rfl)
      refine ⟨hcs, ?_⟩
      have hM : cMk Γ X u p pq pc pp pm e.1 e.2.2.1 0 (TJ e) (mirF e.1 D.2.1) fd := by
        rw [he1, ← hn]
        refine ⟨fun i => pq + 1 + i, F, fun _ => 0, fp, u1, u2, fun i hi => ⟨u3 i hi, (fr0 i hi).2⟩, hF, u4, fun g k hg => absurd hg (Nat.not_lt_zero _), u5, ⟨fun s hs => Or.inl (hfp s hs), ?_, fun j hj => absurd hj (Nat.not_lt_zero _)⟩, u6, ⟨hcpp, hcpm, hppm⟩, hr, by omega, by omega, fun z => ?_, fun i hi z => ?_⟩
        · rw [um_all 2048 hfp]
        · obtain ⟨y, hy⟩ := hX _ z
          rw [fpq0] at hy
          exact absurd hy (by simp)
        · obtain ⟨y, hy⟩ := hX _ z
          rw [(fr0 i hi).1] at hy
          exact absurd hy (by simp)
      refine sc_place (x := 0) hM (Nat.le_refl _) (by omega) (fun k hk => ?_) (fun g k hg hk => ?_) (fun g hg hz => TJ_inj hG 0 g hg (by omega) hz) (fun z => absurd z (by omega)) (fun _ s' fs' hM' => ?_)
      · obtain ⟨d1, d2, d3⟩ := ix_dm (by omega) hk
        have q1 := TJ_0 hG _ d1 _ d2
        rw [d3] at q1
        rw [q1]
        rw [he1] at d1 d2 d3 ⊢
        have := hfd _ _ d1 d2
        rw [d3] at this
        exact this
      · obtain ⟨d1, d2, d3⟩ := ix_dm (by omega) hk
        have := TJ_lt hG g hg _ d1 _ d2
        rw [d3] at this
        omega
      · refine hK s' pq pc pp pm fd (fun a e ha hp' => fs' a e (u7 a e ha hp') (fun z => ?_)) fc0 f1 fm0 hM'
        simp only [List.mem_cons, List.not_mem_nil, or_false] at z
        rcases z with z | z | z | z
        · exact hp' (by rw [z]; simp)
        · rw [z, fc0] at ha; exact absurd ha (by simp)
        · rw [z, f1] at ha; exact absurd ha (by simp)
        · rw [z, fm0] at ha; exact absurd ha (by simp)
    · intro k hk
      refine eb_loop2_i (fun x u => ∃ m fd, m ≤ D.1 ∧ x = nI m ∧ cMi Γ st u p pq pc pp pm D.1 n F fp fd ∧ ∀ a c, a < D.1 → c < D.1 → fd (D.1 * a + c) = nI (cond (and (Nat.beq a c) (Nat.blt a m)) 1 0)) (fun x _ => 10 - x.toNatClampNeg) ?_
        ⟨0, fun _ => 0, by omega, rfl, ⟨t1, t2, t3, t4, wt, t6, t7⟩, fun a c ha hc => by rw [nlF (Nat.not_lt_zero a), Bool.and_false]; rfl⟩
      rintro R x u ⟨m, fd, hm, rfl, ⟨u1, u2, u3, u4, u5, u6, u7⟩, hfd⟩ hR
      have gru : ∀ {K : Int32 → Prop}, K (nI D.1) → eb_gi u p 8 0 K := fun h => st_gi u1 rfl h
      refine gru ?_
      refine br_le (by omega) (by omega) (fun h2 => hk u ⟨fd, ⟨u1, u2, u3, u4, u5, u6, u7⟩, fun a c ha hc => ?_⟩) (fun h2 => ?_)
      · rw [hfd a c ha hc, nlT (by omega : a < m), Bool.and_true]
      · refine st_gr u1 (v := some pm) rfl (gru (st_nn ?_))
        have hix : D.1 * m + m < D.1 * D.1 := ix_lt (by omega) (by omega)
        rw [nI_mul, nI_add]
        refine st_wi u6 (by omega) (by omega) (fun u' fu wu => ?_)
        have nu : ∀ {a : Nat}, ¬ a = pm → a ∉ [pm] := fun h z => h (List.mem_singleton.mp z)
        rw [nI_1]
        refine hR _ _ ⟨m + 1, _, by omega, rfl, ⟨fu _ _ u1 (nu hnpm), fu _ _ u2 (nu (fun z => by rw [z, u6] at u2; injection u2 with u2; injection u2 with u2; injection u2 with _ u2; injection u2 with _ u2; exact absurd u2 (by simp))), fun i hi => fu _ _ (u3 i hi) (nu (fun z => (fr0 i hi).2 (by rw [z]; simp))), fu _ _ u4 (nu hcpm), fu _ _ u5 (nu hppm), wu, u7.go fu (Or.inl fm0)⟩, fun a c ha hc => ?_⟩ ?_
        · by_cases ee : D.1 * a + c = D.1 * m + m
          · obtain ⟨e3, e4⟩ := ix_inj hc (by omega) ee
            subst e3; subst e4
            rw [upd_eq, nbT (rfl : c = c), nlT (Nat.lt_succ_self c)]; rfl
          · rw [upd_ne ee, hfd a c ha hc]
            by_cases eac : a = c
            · have : ¬ a = m := fun z => ee (by rw [← eac, z])
              by_cases z : a < m
              · rw [nlT z, nlT (by omega)]
              · rw [nlF z, nlF (by omega)]
            · rw [nbF eac]; rfl
        · rw [nI_cl (by omega), nI_cl (by omega)]; omega
  · intro k hk
    refine eb_loop2_i (fun x s => ∃ i F, i ≤ D.1 ∧ x = nI i ∧ cMi Γ st s p pq pc pp pm D.1 n F (fun _ => 0) (fun _ => 0) ∧ (∀ j x, j < i → x < D.1 * D.1 → F j x = nI (mirF D.1 D.2.1 j x)) ∧ ∀ j x, i ≤ j → j < D.1 → x < D.1 * D.1 → F j x = nI 0) (fun x _ => 10 - x.toNatClampNeg) ?_
      ⟨0, _, by omega, rfl, h0, fun j x hj => absurd hj (Nat.not_lt_zero _), fun j x _ _ _ => rfl⟩
    rintro R x s ⟨i, F, hi, rfl, hM, hF1, hF2⟩ hR
    have gru : ∀ {K : Int32 → Prop}, K (nI D.1) → eb_gi s p 8 0 K := fun h => st_gi hM.1 rfl h
    refine gru ?_
    refine br_le (by omega) (by omega) (fun h2 => hk s ⟨F, hM, fun j x hj hx => hF1 j x (by omega) hx⟩) (fun h2 => ?_)
    -- first the diagonal
    refine jp_1 (fun s => ∃ F, cMi Γ st s p pq pc pp pm D.1 n F (fun _ => 0) (fun _ => 0) ∧ (∀ j x, j < i → x < D.1 * D.1 → F j x = nI (mirF D.1 D.2.1 j x)) ∧ (∀ j x, i < j → j < D.1 → x < D.1 * D.1 → F j x = nI 0) ∧ ∀ a c, a < D.1 → c < D.1 → F i (D.1 * a + c) = nI (cond (Nat.beq a c) 1 0)) ?_ ?_
    · rintro s ⟨F, hM, hF1, hF2, hF3⟩
      refine jp_1 (fun s => ∃ F, cMi Γ st s p pq pc pp pm D.1 n F (fun _ => 0) (fun _ => 0) ∧ (∀ j x, j < i + 1 → x < D.1 * D.1 → F j x = nI (mirF D.1 D.2.1 j x)) ∧ (∀ j x, i + 1 ≤ j → j < D.1 → x < D.1 * D.1 → F j x = nI 0)) ?_ ?_
      · rintro s ⟨F, hM, hF1, hF2⟩
        rw [nI_1]
        refine hR _ _ ⟨i + 1, F, by omega, rfl, hM, hF1, hF2⟩ ?_
        rw [nI_cl (by omega), nI_cl (by omega)]; omega
      · intro k2 hk2
        refine eb_loop2_i (fun x s => ∃ m F, m ≤ D.1 ∧ x = nI m ∧ cMi Γ st s p pq pc pp pm D.1 n F (fun _ => 0) (fun _ => 0) ∧ (∀ j x, j < i → x < D.1 * D.1 → F j x = nI (mirF D.1 D.2.1 j x)) ∧ (∀ j x, i < j → j < D.1 → x < D.1 * D.1 → F j x = nI 0) ∧ ∀ a c, a < D.1 → c < D.1 → F i (D.1 * a + c) = nI (cond (and (Nat.beq c i) (Nat.blt a m)) (mirN D.1 D.2.1 i a c) (cond (Nat.beq a c) 1 0))) (fun x _ => 10 - x.toNatClampNeg) ?_
          ⟨0, F, by omega, rfl, hM, hF1, hF2, fun a c ha hc => by rw [nlF (Nat.not_lt_zero a), Bool.and_false]; exact hF3 a c ha hc⟩
        rintro R2 x s ⟨m, F, hm, rfl, hM, hF1, hF2, hF3⟩ hR2
        have hM0 := hM
        obtain ⟨c1, c2, c3, c4, c5, c6, c7⟩ := hM
        have gru : ∀ {K : Int32 → Prop}, K (nI D.1) → eb_gi s p 8 0 K := fun h => st_gi c1 rfl h
        refine gru ?_
        refine br_le (by omega) (by omega) (fun h3 => hk2 s ⟨F, hM0, fun j x hj hx => ?_, fun j x hj hj2 hx => hF2 j x (by omega) hj2 hx⟩) (fun h3 => ?_)
        · by_cases ej : j = i
          · obtain ⟨d1, d2, d3⟩ := ix_dm (by omega) hx
            have q := hF3 _ _ d1 d2
            rw [nlT (by omega : x / D.1 < m), Bool.and_true, d3] at q
            rw [ej, q]
            unfold mirF mirN
            cases Nat.beq (x % D.1) i <;> rfl
          · exact hF1 j x (by omega) hx
        · refine st_gr c1 (v := some pq) rfl (st_nn (st_lr c2 (by omega) (by omega) (gru ?_)))
          refine jp_1 (fun v => v = nI (mirN D.1 D.2.1 i m i)) ?_ ?_
          · rintro _ rfl
            refine st_nn ?_
            have hix : D.1 * m + i < D.1 * D.1 := ix_lt (by omega) (by omega)
            rw [nI_mul, nI_add]
            refine st_wi (c3 i (by omega)) hix (by omega) (fun s' fs' ws' => ?_)
            have hM' := hM0.row hd (by omega) fs' ws'
            rw [nI_1]
            refine hR2 _ _ ⟨m + 1, _, by omega, rfl, hM', fun j x hj hx => ?_, fun j x hj hj2 hx => ?_, fun a c ha hc => ?_⟩ ?_
            · show (if j = i then upd (F i) (D.1 * m + i) (nI (mirN D.1 D.2.1 i m i)) else F j) x = _
              rw [if_neg (by omega)]; exact hF1 j x hj hx
            · show (if j = i then upd (F i) (D.1 * m + i) (nI (mirN D.1 D.2.1 i m i)) else F j) x = _
              rw [if_neg (by omega)]; exact hF2 j x hj hj2 hx
            · show (if i = i then upd (F i) (D.1 * m + i) (nI (mirN D.1 D.2.1 i m i)) else F i) (D.1 * a + c) = _
              rw [if_pos rfl]
              by_cases ee : D.1 * a + c = D.1 * m + i
              · obtain ⟨e3, e4⟩ := ix_inj hc (by omega) ee
                subst e3; subst e4
                rw [upd_eq, nbT (rfl : c = c), nlT (Nat.lt_succ_self a)]; rfl
              · rw [upd_ne ee, hF3 a c ha hc]
                by_cases eci : c = i
                · have : ¬ a = m := fun z => ee (by rw [eci, z])
                  by_cases z : a < m
                  · rw [nlT z, nlT (by omega)]
                  · rw [nlF z, nlF (by omega)]
                · rw [nbF eci]; rfl
            · rw [nI_cl (by omega), nI_cl (by omega)]; omega
          · intro k3 hk3
            have hBs : cBd Γ s a1 D := hB.ne c7 hp (by decide)
            refine br_eq (by omega) (by omega) (fun e5 => hk3 _ ?_) (fun e5 => ⟨hBs.cs, ?_⟩)
            · unfold mirN
              rw [nbT (rfl : i = i), nbT e5]; rfl
            · refine sc_angle hBs (by omega) (by omega) ?_
              have q := hv.2.2 i m (by omega) (by omega)
              refine sc_cosine q.1 q.2.1 (hk3 _ ?_)
              unfold mirN
              rw [nbT (rfl : i = i), nbF e5]; rfl
    · intro k2 hk2
      refine eb_loop2_i (fun x s => ∃ m F, m ≤ D.1 ∧ x = nI m ∧ cMi Γ st s p pq pc pp pm D.1 n F (fun _ => 0) (fun _ => 0) ∧ (∀ j x, j < i → x < D.1 * D.1 → F j x = nI (mirF D.1 D.2.1 j x)) ∧ (∀ j x, i < j → j < D.1 → x < D.1 * D.1 → F j x = nI 0) ∧ ∀ a c, a < D.1 → c < D.1 → F i (D.1 * a + c) = nI (cond (and (Nat.beq a c) (Nat.blt a m)) 1 0)) (fun x _ => 10 - x.toNatClampNeg) ?_
        ⟨0, F, by omega, rfl, hM, hF1, fun j x hj hj2 hx => hF2 j x (by omega) hj2 hx, fun a c ha hc => by rw [nlF (Nat.not_lt_zero a), Bool.and_false]; exact hF2 i _ (Nat.le_refl _) (by omega) (ix_lt ha hc)⟩
      rintro R2 x s ⟨m, F, hm, rfl, hM, hF1, hF2, hF3⟩ hR2
      have hM0 := hM
      obtain ⟨c1, c2, c3, c4, c5, c6, c7⟩ := hM
      have gru : ∀ {K : Int32 → Prop}, K (nI D.1) → eb_gi s p 8 0 K := fun h => st_gi c1 rfl h
      refine gru ?_
      refine br_le (by omega) (by omega) (fun h3 => hk2 s ⟨F, hM0, hF1, hF2, fun a c ha hc => ?_⟩) (fun h3 => ?_)
      · rw [hF3 a c ha hc, nlT (by omega : a < m), Bool.and_true]
      · refine st_gr c1 (v := some pq) rfl (st_nn (st_lr c2 (by omega) (by omega) (gru (st_nn ?_))))
        have hix : D.1 * m + m < D.1 * D.1 := ix_lt (by omega) (by omega)
        rw [nI_mul, nI_add]
        refine st_wi (c3 i (by omega)) hix (by omega) (fun s' fs' ws' => ?_)
        have hM' := hM0.row hd (by omega) fs' ws'
        rw [nI_1]
        refine hR2 _ _ ⟨m + 1, _, by omega, rfl, hM', fun j x hj hx => ?_, fun j x hj hj2 hx => ?_, fun a c ha hc => ?_⟩ ?_
        · show (if j = i then upd (F i) (D.1 * m + m) 1 else F j) x = _
          rw [if_neg (by omega)]; exact hF1 j x hj hx
        · show (if j = i then upd (F i) (D.1 * m + m) 1 else F j) x = _
          rw [if_neg (by omega)]; exact hF2 j x hj hj2 hx
        · show (if i = i then upd (F i) (D.1 * m + m) 1 else F i) (D.1 * a + c) = _
          rw [if_pos rfl]
          by_cases ee : D.1 * a + c = D.1 * m + m
          · obtain ⟨e3, e4⟩ := ix_inj hc (by omega) ee
            subst e3; subst e4
            rw [upd_eq, nbT (rfl : c = c), nlT (Nat.lt_succ_self c)]; rfl
          · rw [upd_ne ee, hF3 a c ha hc]
            by_cases eac : a = c
            · have : ¬ a = m := fun z => ee (by rw [← eac, z])
              by_cases z : a < m
              · rw [nlT z, nlT (by omega)]
              · rw [nlF z, nlF (by omega)]
            · rw [nbF eac]; rfl
        · rw [nI_cl (by omega), nI_cl (by omega)]; omega
end GR
