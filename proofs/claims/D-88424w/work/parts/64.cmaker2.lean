set_option maxRecDepth 100000
theorem sc_root {v R : Nat} {K : Int32 → Prop} (hv : v < 2147483648) (hR : R < 1201) (h1 : R * R % 1201 = v) (h2 : ∀ x, x < R → ¬ x * x % 1201 = v) (hK : K (nI R)) : MX0_root (nI v) K := by
  unfold MX0_root
  refine eb_loop1_i (fun x => ∃ m, m ≤ R ∧ x = nI m) (fun x => 2000 - x.toNatClampNeg) ?_ ⟨0, by omega, rfl⟩
  rintro Q x ⟨m, hm, rfl⟩ hQ
  have hmm : m * m ≤ 1201 * 1201 := Nat.mul_le_mul (by omega) (by omega)
  rw [nI_mul, show eb_rem (nI (m * m)) 1201 = nI (m * m % 1201) from nI_rem (by omega) (by omega : (1201 : Nat) < 2147483648)]
  refine br_eq (by omega) hv (fun e => ?_) (fun e => ?_)
  · by_cases z : m = R
    · rw [z]; exact hK
    · exact absurd e (h2 m (by omega))
  · have : ¬ m = R := fun z => e (by rw [z]; exact h1)
    rw [nI_1]
    refine hQ _ ⟨m + 1, by omega, rfl⟩ ?_
    rw [nI_cl (by omega), nI_cl (by omega)]; omega
theorem sc_cosine {m : Nat} {K : Int32 → Prop} (h2 : 2 ≤ m) (h6 : m ≤ 6) (hK : K (nI (tcC m))) : MX0_cosine (nI m) K := by
  unfold MX0_cosine
  have r2 : ∀ x, x < 336 → ¬ x * x % 1201 = 2 := by decide +kernel
  have r5 : ∀ x, x < 155 → ¬ x * x % 1201 = 5 := by decide +kernel
  have r3 : ∀ x, x < 538 → ¬ x * x % 1201 = 3 := by decide +kernel
  have : m = 2 ∨ m = 3 ∨ m = 4 ∨ m = 5 ∨ m = 6 := by omega
  rcases this with rfl | rfl | rfl | rfl | rfl
  · exact ⟨fun _ => hK, fun z => absurd rfl z⟩
  · exact ⟨fun z => absurd z (by decide), fun _ => ⟨fun _ => hK, fun z => absurd rfl z⟩⟩
  · refine ⟨fun z => absurd z (by decide), fun _ => ⟨fun z => absurd z (by decide), fun _ => ⟨fun _ => ?_, fun z => absurd rfl z⟩⟩⟩
    exact sc_root (v := 2) (R := 336) (by omega) (by omega) (by decide) r2 hK
  · refine ⟨fun z => absurd z (by decide), fun _ => ⟨fun z => absurd z (by decide), fun _ => ⟨fun z => absurd z (by decide), fun _ => ⟨fun _ => ?_, fun z => absurd rfl z⟩⟩⟩⟩
    refine sc_root (v := 5) (R := 155) (by omega) (by omega) (by decide) r5 ?_
    have : eb_rem ((1 + nI 155) * 601) 1201 = nI (tcC 5) := by decide +kernel
    rw [this]; exact hK
  · refine ⟨fun z => absurd z (by decide), fun _ => ⟨fun z => absurd z (by decide), fun _ => ⟨fun z => absurd z (by decide), fun _ => ⟨fun z => absurd z (by decide), fun _ => ?_⟩⟩⟩⟩
    exact sc_root (v := 3) (R := 538) (by omega) (by omega) (by decide) r3 hK
/-- a mirror's matrix, row by row: what comes to column c from k -/
def mirN (r : Nat) (an : Nat → Nat) (i k c : Nat) : Nat := cond (Nat.beq c i) (cond (Nat.beq k i) 1200 (tcC (an (4 * i + k)))) (cond (Nat.beq k c) 1 0)
def mirF (r : Nat) (an : Nat → Nat) (i x : Nat) : Nat := mirN r an i (x / r) (x % r)
theorem mirF_at {r : Nat} {an : Nat → Nat} {i k c : Nat} (hc : c < r) : mirF r an i (r * k + c) = mirN r an i k c := by
  unfold mirF
  rw [Nat.mul_add_div (by omega), Nat.div_eq_of_lt hc, Nat.add_zero, Nat.mul_add_mod, Nat.mod_eq_of_lt hc]
/-- sums of products along a row -/
def rsm (f : Nat → Nat) (w : Nat → Nat) : Nat → Nat
  | 0 => 0
  | m + 1 => rsm f w m + f m * w m
theorem rsm_le {f w : Nat → Nat} {n : Nat} (hf : ∀ k, k < n → f k < 1201) (hw : ∀ k, k < n → w k < 1201) : ∀ m, m ≤ n → rsm f w m ≤ 1440000 * m := by
  intro m
  induction m with
  | zero => intro _; exact Nat.le_refl _
  | succ m ih =>
    intro hm
    have h1 := hf m (by omega)
    have h2 := hw m (by omega)
    have h3 : f m * w m ≤ 1200 * 1200 := Nat.mul_le_mul (by omega) (by omega)
    have := ih (by omega)
    show rsm f w m + f m * w m ≤ 1440000 * (m + 1)
    omega
theorem rsm_one {f : Nat → Nat} {c : Nat} : ∀ m, rsm f (fun k => cond (Nat.beq k c) 1 0) m = cond (Nat.blt c m) (f c) 0 := by
  intro m
  induction m with
  | zero => rw [nlF (Nat.not_lt_zero c)]; rfl
  | succ m ih =>
    show rsm f (fun k => cond (Nat.beq k c) 1 0) m + f m * cond (Nat.beq m c) 1 0 = _
    rw [ih]
    by_cases e : m = c
    · subst e
      rw [nlF (Nat.lt_irrefl m), nlT (Nat.lt_succ_self m), nbT (rfl : m = m)]
      show 0 + f m * 1 = f m
      omega
    · rw [nbF e]
      by_cases z : c < m
      · rw [nlT z, nlT (by omega)]; show f c + f m * 0 = f c; omega
      · rw [nlF z, nlF (by omega)]; show 0 + f m * 0 = 0; omega
theorem tcC_lt : ∀ m, m < 7 → tcC m < 1201 := by decide
theorem rsm_col {r A : Nat} {f : Nat → Nat} {i a : Nat} : tCcol r A f i a = rsm (fun k => f (r * a + k)) (fun k => cond (Nat.beq k i) 1200 (tcC (t4 A (4 * i + k)))) r % 1201 := by
  have key : ∀ m, Nat.rec (motive := fun _ => Nat) 0 (fun k s => Nat.add s (Nat.mul (f (Nat.add (Nat.mul r a) k)) (cond (Nat.beq k i) 1200 (tcC (t4 A (Nat.add (Nat.mul 4 i) k)))))) m = rsm (fun k => f (r * a + k)) (fun k => cond (Nat.beq k i) 1200 (tcC (t4 A (4 * i + k)))) m := by
    intro m
    induction m with
    | zero => rfl
    | succ m ih =>
      show Nat.add (Nat.rec (motive := fun _ => Nat) 0 _ m) _ = rsm _ _ m + _
      rw [ih]
      rfl
  unfold tCcol
  rw [key r]
  rfl
theorem rsm_cg {f f' w w' : Nat → Nat} : ∀ m, (∀ k, k < m → f k = f' k) → (∀ k, k < m → w k = w' k) → rsm f w m = rsm f' w' m := by
  intro m
  induction m with
  | zero => intro _ _; rfl
  | succ m ih =>
    intro h1 h2
    show rsm f w m + f m * w m = rsm f' w' m + f' m * w' m
    rw [ih (fun k hk => h1 k (by omega)) (fun k hk => h2 k (by omega)), h1 m (by omega), h2 m (by omega)]
/-- a row by a mirror is the table's next row -/
theorem TJ_mir {e : tE} {an : Nat → Nat} (h : tG e) (han : ∀ k, k < 16 → an k = t4 e.2.1 k) {g i a c : Nat} (hg : g < e.2.2.1) (hi : i < e.1) (ha : a < e.1) (hc : c < e.1) :
    rsm (fun k => TJ e g (e.1 * a + k)) (fun k => mirN e.1 an i k c) e.1 % 1201 = TJ e (Tto e g i) (e.1 * a + c) := by
  have hr := h.1.1
  rw [TJ_s h hg hi a ha c hc]
  by_cases e1 : c = i
  · rw [nbT e1]
    show _ = tCcol e.1 e.2.1 (TJ e g) i a
    rw [rsm_col]
    congr 1
    refine rsm_cg _ (fun k hk => rfl) (fun k hk => ?_)
    unfold mirN
    rw [nbT e1, han _ (by omega)]
    rfl
  · rw [nbF e1]
    show _ = TJ e g (e.1 * a + c)
    have : rsm (fun k => TJ e g (e.1 * a + k)) (fun k => mirN e.1 an i k c) e.1 = rsm (fun k => TJ e g (e.1 * a + k)) (fun k => cond (Nat.beq k c) 1 0) e.1 := by
      refine rsm_cg _ (fun k hk => rfl) (fun k hk => ?_)
      unfold mirN
      rw [nbF e1]
      rfl
    rw [this, rsm_one, nlT hc]
    exact Nat.mod_eq_of_lt (TJ_lt h g hg a ha c hc)
section MK2
variable {Γ : eb_C} {X : List Nat} {st : eb_S} {p pq pc pp pm : Nat} {e : tE} {an : Nat → Nat} {fd : Nat → Int32} {m : Nat}
theorem mirN_lt {r : Nat} (ha : ∀ k, k < 16 → an k ≤ 6) {i k c : Nat} (hi : i < 4) (hk : k < 4) : mirN r an i k c < 1201 := by
  unfold mirN
  cases Nat.beq c i
  · cases Nat.beq k c
    · exact (by decide : 0 < 1201)
    · exact (by decide : 1 < 1201)
  · cases Nat.beq k i
    · exact tcC_lt _ (by have := ha (4 * i + k) (by omega); omega)
    · exact (by decide : 1200 < 1201)
theorem sc_finds {g i : Nat} {K : Int32 → eb_S → Prop} (hG : tG e) (han : ∀ k, k < 16 → an k = t4 e.2.1 k) (ha6 : ∀ k, k < 16 → an k ≤ 6) (h : cMk Γ X st p pq pc pp pm e.1 e.2.2.1 m (TJ e) (mirF e.1 an) fd) (hg : g < m) (hi : i < e.1) (hx : Tto e g i ≤ m)
    (h1 : Tto e g i < m → ∀ st' fd', sf [p, pc, pp, pm] st st' → cMk Γ X st' p pq pc pp pm e.1 e.2.2.1 m (TJ e) (mirF e.1 an) fd' → K (nI (Tto e g i)) st') (h2 : Tto e g i = m → ∀ st' fd', sf [p, pc, pp, pm] st st' → cMk Γ X st' p pq pc pp pm e.1 e.2.2.1 (m + 1) (TJ e) (mirF e.1 an) fd' → K (nI m) st') : MX9_finds Γ st p (nI g) (nI i) K := by
  have hr := hG.1.1
  have hn := hG.1.2
  have hrr := rr_le hr.2
  have hmn : m ≤ e.2.2.1 := by obtain ⟨q, F, fc, fp, c1, c2, c3, c4, c5, c6, c7, c8, c9, c10, c11, c12, c13, c14⟩ := h; exact c12
  have hnr : e.2.2.1 * e.1 * e.1 ≤ 8000 := by rw [Nat.mul_assoc]; exact Nat.mul_le_mul hn.2 hrr
  have e1 : e.2.2.1 * e.1 * e.1 = e.1 * e.1 * e.2.2.1 := by rw [Nat.mul_assoc, Nat.mul_comm]
  have ht := (hG.2.1 g (by omega) i hi).1
  unfold MX9_finds
  refine jp_1 (fun s => ∃ fd', sf [pm] st s ∧ cMk Γ X s p pq pc pp pm e.1 e.2.2.1 m (TJ e) (mirF e.1 an) fd' ∧ ∀ k, k < e.1 * e.1 → fd' k = nI (TJ e (Tto e g i) k)) ?_ ?_
  · rintro s ⟨fd', hs, hM, hfd⟩
    have hcs : eb_cs s p [8] := by
      obtain ⟨q, F, fc, fp, c1, -⟩ := hM
      exact st_cs c1 (List.mem_singleton.mpr rfl)
    have hs4 : sf [p, pc, pp, pm] st s := hs.up (by simp)
    refine ⟨hcs, sc_place hM hx ht hfd (fun x k hxn hk => ?_) (fun x hxn hz => TJ_inj hG _ x hxn ht hz) (fun hlt => h1 hlt s fd' hs4 hM) (fun heq s' hs' hM' => h2 heq s' fd' (hs4.tr hs') hM')⟩
    obtain ⟨d1, d2, d3⟩ := ix_dm (by omega) hk
    have := TJ_lt hG x hxn _ d1 _ d2
    rw [d3] at this
    omega
  · intro k hk
    -- the invariant: rows before a are made, and of row a those before c
    have upd_ok : ∀ s fd0 s' fd1, sf [pm] st s → cMk Γ X s p pq pc pp pm e.1 e.2.2.1 m (TJ e) (mirF e.1 an) fd0 → sf [pm] s s' → s' pm = some (eb_ia Γ 0 16 fd1) → sf [pm] st s' ∧ cMk Γ X s' p pq pc pp pm e.1 e.2.2.1 m (TJ e) (mirF e.1 an) fd1 := by
      intro s fd0 s' fd1 hs hM hs' hw
      refine ⟨hs.tr hs', ?_⟩
      obtain ⟨q, F, fc, fp, c1, c2, c3, c4, c5, c6, c7, c8, c9, c10, c11, c12, c13, c14⟩ := hM
      have np : ¬ p = pm := fun z => by rw [z, c9] at c1; exact absurd c1 (by simp)
      have nq : ¬ pq = pm := fun y => by rw [y, c9] at c2; injection c2 with c2; injection c2 with c2; injection c2 with _ c2; injection c2 with _ c2; exact absurd c2 (by simp)
      refine ⟨q, F, fc, fp, hs' _ _ c1 (fun z => np (List.mem_singleton.mp z)), hs' _ _ c2 (fun z => nq (List.mem_singleton.mp z)), fun i hi => ⟨hs' _ _ (c3 i hi).1 (fun z => (c3 i hi).2 (by rw [List.mem_singleton.mp z]; simp)), (c3 i hi).2⟩, c4, hs' _ _ c5 (fun z => c10.2.1 (List.mem_singleton.mp z)), c6, hs' _ _ c7 (fun z => c10.2.2 (List.mem_singleton.mp z)), c8, hw, c10, c11, c12, c13, c14⟩
    refine eb_loop2_i (fun x s => ∃ a fd', a ≤ e.1 ∧ x = nI a ∧ sf [pm] st s ∧ cMk Γ X s p pq pc pp pm e.1 e.2.2.1 m (TJ e) (mirF e.1 an) fd' ∧ ∀ a' c, a' < a → c < e.1 → fd' (e.1 * a' + c) = nI (TJ e (Tto e g i) (e.1 * a' + c))) (fun x _ => 10 - x.toNatClampNeg) ?_
      ⟨0, fd, by omega, rfl, sf.rf _ _, h, fun a' c ha => absurd ha (Nat.not_lt_zero _)⟩
    rintro R x s ⟨a, fd', ha, rfl, hs, hM, hrow⟩ hR
    have gr : ∀ {K : Int32 → Prop}, K (nI e.1) → eb_gi s p 8 0 K := by
      intro K h
      obtain ⟨q, F, fc, fp, c1, -⟩ := hM
      exact st_gi c1 rfl h
    refine gr ?_
    refine br_le (by omega) (by omega) (fun h3 => hk s ⟨fd', hs, hM, fun k hk => ?_⟩) (fun h3 => ?_)
    · obtain ⟨d1, d2, d3⟩ := ix_dm (by omega) hk
      have := hrow _ _ (show k / e.1 < a by omega) d2
      rw [d3] at this
      exact this
    · refine jp_1 (fun s => ∃ fd', sf [pm] st s ∧ cMk Γ X s p pq pc pp pm e.1 e.2.2.1 m (TJ e) (mirF e.1 an) fd' ∧ ∀ a' c, a' < a + 1 → c < e.1 → fd' (e.1 * a' + c) = nI (TJ e (Tto e g i) (e.1 * a' + c))) ?_ ?_
      · rintro s ⟨fd', hs, hM, hrow⟩
        rw [nI_1]
        refine hR _ _ ⟨a + 1, fd', by omega, rfl, hs, hM, hrow⟩ ?_
        rw [nI_cl (by omega), nI_cl (by omega)]; omega
      · intro k2 hk2
        refine eb_loop2_i (fun x s => ∃ c fd', c ≤ e.1 ∧ x = nI c ∧ sf [pm] st s ∧ cMk Γ X s p pq pc pp pm e.1 e.2.2.1 m (TJ e) (mirF e.1 an) fd' ∧ ∀ a' c', (a' < a ∧ c' < e.1 ∨ a' = a ∧ c' < c) → fd' (e.1 * a' + c') = nI (TJ e (Tto e g i) (e.1 * a' + c'))) (fun x _ => 10 - x.toNatClampNeg) ?_
          ⟨0, fd', by omega, rfl, hs, hM, fun a' c' hor => hrow a' c' (by omega) (by omega)⟩
        rintro R2 x s ⟨c, fd', hc, rfl, hs, hM, hrow⟩ hR2
        have hM0 := hM
        obtain ⟨q, F, fc, fp, c1, c2, c3, c4, c5, c6, c7, c8, c9, c10, c11, c12, c13, c14⟩ := hM
        have gr : ∀ {K : Int32 → Prop}, K (nI e.1) → eb_gi s p 8 0 K := fun h => st_gi c1 rfl h
        refine gr ?_
        refine br_le (by omega) (by omega) (fun h4 => hk2 s ⟨fd', hs, hM0, fun a' c' h5 h6 => hrow a' c' (by omega)⟩) (fun h4 => ?_)
        refine jp_1 (fun v => v = nI (rsm (fun k => TJ e g (e.1 * a + k)) (fun k => mirN e.1 an i k c) e.1)) ?_ ?_
        · rintro _ rfl
          have hle := rsm_le (f := fun k => TJ e g (e.1 * a + k)) (w := fun k => mirN e.1 an i k c) (n := e.1) (fun k hk => TJ_lt hG g (by omega) a (by omega) k hk) (fun k hk => mirN_lt ha6 (by omega) (by omega)) e.1 (Nat.le_refl _)
          refine st_gr c1 (v := some pm) rfl (gr (st_nn ?_))
          have hix : e.1 * a + c < e.1 * e.1 := ix_lt (by omega) (by omega)
          rw [nI_mul, nI_add, show eb_rem (nI (rsm (fun k => TJ e g (e.1 * a + k)) (fun k => mirN e.1 an i k c) e.1)) 1201 = nI (TJ e (Tto e g i) (e.1 * a + c)) by rw [← TJ_mir hG han (by omega) hi (by omega) (by omega)]; exact nI_rem (by omega) (by omega : (1201 : Nat) < 2147483648)]
          refine st_wi c9 (by omega) (by omega) (fun s' hs' hw => ?_)
          obtain ⟨u1, u2⟩ := upd_ok s fd' s' _ hs hM0 hs' hw
          rw [nI_1]
          refine hR2 _ _ ⟨c + 1, _, by omega, rfl, u1, u2, fun a' c' hor => ?_⟩ ?_
          · by_cases ee : e.1 * a' + c' = e.1 * a + c
            · rw [ee, upd_eq]
            · rw [upd_ne ee]
              refine hrow a' c' ?_
              rcases hor with z | z
              · exact Or.inl z
              · by_cases e2 : c' = c
                · exact absurd (by rw [z.1, e2]) ee
                · exact Or.inr ⟨z.1, by omega⟩
          · rw [nI_cl (by omega), nI_cl (by omega)]; omega
        · intro k3 hk3
          refine eb_loop2_i (fun y z => ∃ k, k ≤ e.1 ∧ y = nI (rsm (fun k => TJ e g (e.1 * a + k)) (fun k => mirN e.1 an i k c) k) ∧ z = nI k) (fun _ z => 10 - z.toNatClampNeg) ?_ ⟨0, by omega, rfl, rfl⟩
          rintro R3 y z ⟨k, hk, rfl, rfl⟩ hR3
          refine gr ?_
          refine br_le (by omega) (by omega) (fun h5 => hk3 _ (by rw [show k = e.1 by omega])) (fun h5 => ?_)
          refine st_gr c1 (v := some pc) rfl (gr (gr (gr (st_nn ?_))))
          have i1 : e.1 * a + k < e.1 * e.1 := ix_lt (by omega) (by omega)
          have i2 : e.1 * e.1 * g + (e.1 * a + k) < e.1 * e.1 * e.2.2.1 := ix_lt (by omega) i1
          rw [nI_mul, nI_mul, nI_mul, nI_add, nI_add, Nat.add_assoc]
          refine st_li c5 (by omega) (by omega) ?_
          rw [c6 g _ hg i1]
          have i3 : e.1 * k + c < e.1 * e.1 := ix_lt (by omega) (by omega)
          refine st_gr c1 (v := some pq) rfl (st_nn (st_lr c2 hi (by omega) (gr (st_nn ?_))))
          rw [nI_mul, nI_add]
          refine st_li (c3 i hi).1 i3 (by omega) ?_
          rw [c4 i _ hi i3, mirF_at (by omega), nI_mul, nI_add, nI_1]
          refine hR3 _ _ ⟨k + 1, by omega, rfl, rfl⟩ ?_
          rw [nI_cl (by omega), nI_cl (by omega)]; omega
end MK2
