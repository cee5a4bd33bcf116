set_option maxRecDepth 100000
/-! the class' hulls: faces' corners -/
/-- rows of faces' corners -/
def rB (N : Nat) (A : Nat → Nat → Bool) (f3 f4 : Nat → Int32) : Prop := ∃ e : Nat → Nat → Nat, ∀ f, f < 150 → f3 f = nI (cnB (A f) N) ∧ cnB (A f) N ≤ 12 ∧ (∀ k, k < cnB (A f) N → f4 (12 * f + k) = nI (e f k) ∧ e f k < N ∧ A f (e f k) = true) ∧ ∀ c, c < N → A f c = true → ∃ k, k < cnB (A f) N ∧ e f k = c
theorem rB.cg {N : Nat} {A B : Nat → Nat → Bool} {f3 f4 : Nat → Int32} (h : rB N A f3 f4) (e : ∀ f c, f < 150 → A f c = B f c) : rB N B f3 f4 := by
  obtain ⟨x, h⟩ := h
  refine ⟨x, fun f hf => ?_⟩
  have e' : A f = B f := by funext c; exact e f c hf
  rw [← e']; exact h f hf
theorem fm_ok : ∀ x, x < 12 → ∀ y, y < 12 → ∀ n, n < 6 → 1 ≤ n → (if 0 ≤ ((nI x - nI y) ^^^ nI n) then eb_rem (nI x - nI y) (nI n) else if eb_rem (nI x - nI y) (nI n) = 0 then eb_rem (nI x - nI y) (nI n) else eb_rem (nI x - nI y) (nI n) + nI n) = nI ((x + 12 * n - y) % n) := by decide +kernel
theorem sc_fmod {x y n : Nat} {a : Int32} {K : Int32 → Prop} (ha : a = nI x - nI y) (hx : x < 12) (hy : y < 12) (hn : 1 ≤ n) (hn' : n < 6) (hK : K (nI ((x + 12 * n - y) % n))) : MJ2_floorMod a (nI n) K := by
  have h := fm_ok x hx y hy n hn' hn
  unfold MJ2_floorMod
  rw [ha]
  refine ⟨fun z => ?_, fun h1 => ?_, fun h1 => ⟨fun h2 => ?_, fun h2 => ?_⟩⟩
  · have := (nI_eq (b := 0) (by omega) (by omega)).mp z
    omega
  · rw [if_pos h1] at h; rw [h]; exact hK
  · rw [if_neg h1, if_pos h2] at h; rw [h]; exact hK
  · rw [if_neg h1, if_neg h2] at h; rw [h]; exact hK
section CH
variable {Γ : eb_C} {st st' : eb_S} {bc bs : Nat} {q ps pk N : Nat} {fs : List Value} {A : Nat → Nat → Bool} {f3 f4 : Nat → Int32}
theorem sc_has {f c : Nat} {K : Int32 → Prop} (h : st q = some (.inr (11, fs))) (h3 : fs[3]? = some (.ref ps)) (h4 : fs[4]? = some (.ref pk)) (w3 : st ps = some (eb_ia Γ 0 150 f3)) (w4 : st pk = some (eb_ia Γ 0 1800 f4)) (hB : rB N A f3 f4) (hN : N ≤ 500) (hf : f < 150) (hc : c < N) (hK : K (nI (b1 (A f c)))) : MX12_has Γ st q (nI f) (nI c) K := by
  obtain ⟨e, hB⟩ := hB
  obtain ⟨r1, r2, r3, r4⟩ := hB f hf
  unfold MX12_has
  refine eb_loop1_i (fun x => ∃ k, k ≤ cnB (A f) N ∧ x = nI k ∧ ∀ j, j < k → ¬ e f j = c) (fun x => 100 - x.toNatClampNeg) ?_ ⟨0, by omega, rfl, fun j hj => absurd hj (Nat.not_lt_zero _)⟩
  rintro R _ ⟨k, hk, rfl, hno⟩ hR
  refine st_gr h (v := some ps) h3 (st_nn (st_li w3 hf (by omega) ?_))
  rw [r1]
  refine br_le (by omega) (by omega) (fun h1 => ?_) (fun h1 => ?_)
  · have : A f c = false := by
      cases e1 : A f c with
      | false => rfl
      | true =>
        obtain ⟨j, j1, j2⟩ := r4 c hc e1
        exact absurd j2 (hno j (by omega))
    rw [this] at hK
    exact hK
  · refine st_gr h (v := some pk) h4 (st_nn ?_)
    rw [show (12 : Int32) * nI f + nI k = nI (12 * f + k) by rw [show (12 : Int32) = nI 12 from rfl, nI_mul, nI_add]]
    obtain ⟨z1, z2, z3⟩ := r3 k (by omega)
    refine st_li w4 (by omega) (by omega) ?_
    rw [z1]
    refine br_eq (by omega) (by omega) (fun h2 => ?_) (fun h2 => ?_)
    · rw [h2] at z3
      rw [z3] at hK
      exact hK
    · rw [nI_1]
      refine hR _ ⟨k + 1, by omega, rfl, fun j hj => ?_⟩ ?_
      · by_cases ej : j = k
        · rw [ej]; exact h2
        · exact hno j (by omega)
      · rw [nI_cl (by omega), nI_cl (by omega)]; omega
theorem sc_fcomes {f c : Nat} {K : eb_S → Prop} (h : st q = some (.inr (11, fs))) (h3 : fs[3]? = some (.ref ps)) (h4 : fs[4]? = some (.ref pk)) (w3 : st ps = some (eb_ia Γ 0 150 f3)) (w4 : st pk = some (eb_ia Γ 0 1800 f4)) (hB : rB N A f3 f4) (hN : N ≤ 500) (hf : f < 150) (hc : c < N) (hne : ¬ ps = pk ∧ ¬ q = ps ∧ ¬ q = pk) (hw : A f c = false → cnB (A f) N < 12)
    (hK : ∀ st' f3' f4', sf [ps, pk] st st' → st' ps = some (eb_ia Γ 0 150 f3') → st' pk = some (eb_ia Γ 0 1800 f4') → rB N (n1 A f c) f3' f4' → K st') : MX12_comes Γ st q (nI f) (nI c) K := by
  obtain ⟨e, hB'⟩ := id hB
  obtain ⟨r1, r2, r3, r4⟩ := hB' f hf
  unfold MX12_comes
  refine ⟨st_cs h (by simp), sc_has h h3 h4 w3 w4 hB hN hf hc ?_⟩
  refine cond_br (fun hA => ?_) (fun hA => ?_)
  · have hlt := hw hA
    refine st_gr h (v := some pk) h4 (st_gr h (v := some ps) h3 (st_nn (st_li w3 hf (by omega) (st_nn ?_))))
    rw [r1, show (12 : Int32) * nI f + nI (cnB (A f) N) = nI (12 * f + cnB (A f) N) by rw [show (12 : Int32) = nI 12 from rfl, nI_mul, nI_add]]
    refine st_wi w4 (by omega) (by omega) (fun s1 g1 u1 => ?_)
    have n1' : ∀ {a b : Nat}, ¬ a = b → a ∉ [b] := fun h z => h (List.mem_singleton.mp z)
    have k3 := g1 _ _ w3 (n1' hne.1)
    have kq := g1 _ _ h (n1' hne.2.2)
    refine st_gr kq (v := some ps) h3 (st_nn (st_li k3 hf (by omega) ?_))
    rw [r1, nI_1]
    refine st_wi k3 hf (by omega) (fun s2 g2 u2 => ?_)
    refine hK s2 _ _ ((g1.up (fun k hk => by rw [List.mem_singleton.mp hk]; simp)).tr (g2.up (fun k hk => by rw [List.mem_singleton.mp hk]; simp))) u2 (g2 _ _ u1 (n1' (fun z => hne.1 z.symm))) ?_
    have ea := n1_cnt (B := A) (N := N) (a := f) (b := c) hc hA
    refine ⟨nbP e f (cnB (A f) N) c, fun x hx => ?_⟩
    by_cases ex : x = f
    · subst ex
      rw [ea, upd_eq]
      refine ⟨rfl, by omega, fun k hk => ?_, fun d hd hxd => ?_⟩
      · by_cases ek : k = cnB (A x) N
        · subst ek
          rw [upd_eq, nbP_p]
          exact ⟨rfl, hc, n1_iff.mpr (Or.inr ⟨rfl, rfl⟩)⟩
        · obtain ⟨z1, z2, z3⟩ := r3 k (by omega)
          rw [upd_ne (by omega), nbP_n (fun z => ek z.2)]
          exact ⟨z1, z2, n1_iff.mpr (Or.inl z3)⟩
      · rcases n1_iff.mp hxd with z | ⟨_, z⟩
        · obtain ⟨k, k1, k2⟩ := r4 d hd z
          exact ⟨k, by omega, by rw [nbP_n (fun z => by omega)]; exact k2⟩
        · exact ⟨cnB (A x) N, by omega, by rw [nbP_p, z]⟩
    · obtain ⟨y1, y2, y3, y4⟩ := hB' x hx
      rw [n1_oth ex, upd_ne ex]
      refine ⟨y1, y2, fun k hk => ?_, fun d hd hxd => ?_⟩
      · obtain ⟨z1, z2, z3⟩ := y3 k hk
        rw [upd_ne (by omega), nbP_n (fun z => ex z.1)]
        exact ⟨z1, z2, n1_iff.mpr (Or.inl z3)⟩
      · rcases n1_iff.mp hxd with z | ⟨z, _⟩
        · obtain ⟨k, k1, k2⟩ := y4 d hd z
          exact ⟨k, k1, by rw [nbP_n (fun z => ex z.1)]; exact k2⟩
        · exact absurd z ex
  · refine hK st f3 f4 (sf.rf _ _) w3 w4 (hB.cg (fun x y _ => Bool_ext ?_))
    rw [n1_iff]
    exact ⟨fun z => Or.inl z, fun z => z.elim id (fun y => by rw [y.1, y.2]; exact hA)⟩
end CH
/-- a hull's cells -/
def hS (Γ : eb_C) (st : eb_S) (q p net pj pm ps pk pr pf : Nat) (D : eb_D) (fj fm f3 f4 fr ff : Nat → Int32) : Prop :=
  st q = some (.inr (11, [.ref p, .ref net, .int (nI (duN D)), .ref ps, .ref pk, .ref pr, .ref pf])) ∧ nC Γ st 10 net pj pm 24 (NP D 0) [] (jnd D) fj fm ∧ st ps = some (eb_ia Γ 0 150 f3) ∧ st pk = some (eb_ia Γ 0 1800 f4) ∧ rB (NP D 0) (FA D) f3 f4 ∧ st pr = some (eb_ia Γ 0 (8 * NP D 0) fr) ∧ st pf = some (eb_ia Γ 0 (8 * NP D 0) ff)
section CH2
variable {Γ : eb_C} {st st' : eb_S} {bc bs : Nat} {q p net pj pm ps pk pr pf : Nat} {D : eb_D} {fj fm f3 f4 fr ff : Nat → Int32}
theorem sc_hhas {f c : Nat} {K : Int32 → Prop} (h : hS Γ st q p net pj pm ps pk pr pf D fj fm f3 f4 fr ff) (h3 : ok3 D) (hf : f < duN D) (hc : c < NP D 0) (hK : K (nI (b1 (FA D f c)))) : MX12_has Γ st q (nI f) (nI c) K :=
  sc_has h.1 rfl rfl h.2.2.1 h.2.2.2.1 h.2.2.2.2.1 (by have := (u_N h3).1; omega) (by have := (u_N h3).2; omega) hc hK
/-- the first face with both, but one -/
theorem sc_faceOf {c d : Nat} {a : Int32} {K : Int32 → Prop} (h : hS Γ st q p net pj pm ps pk pr pf D fj fm f3 f4 fr ff) (h3 : ok3 D) (hc : c < NP D 0) (hd : d < NP D 0) (h1 : ∀ f, f < duN D → FA D f c = true → FA D f d = true → ¬ nI f = a → K (nI f)) (h0 : (∀ f, f < duN D → FA D f c = true → FA D f d = true → nI f = a) → K (-1)) : MX12_faceOf Γ st q (nI c) (nI d) a K := by
  have hF := (u_N h3).2
  unfold MX12_faceOf
  refine eb_loop1_i (fun x => ∃ k, k ≤ duN D ∧ x = nI k ∧ ∀ f, f < k → FA D f c = true → FA D f d = true → nI f = a) (fun x => 100 - x.toNatClampNeg) ?_ ⟨0, by omega, rfl, fun j hj => absurd hj (Nat.not_lt_zero _)⟩
  rintro R _ ⟨k, hk, rfl, hno⟩ hR
  refine st_gi h.1 rfl (br_le (by omega) (by omega) (fun h2 => h0 (fun f hf => hno f (by omega))) (fun h2 => ?_))
  refine jp_0 (FA D k c = true → FA D k d = true → nI k = a) (fun hs => ?_) (fun k4 hk4 => ?_)
  · rw [nI_1]
    refine hR _ ⟨k + 1, by omega, rfl, fun f hf => ?_⟩ ?_
    · by_cases e : f = k
      · rw [e]; exact hs
      · exact hno f (by omega)
    · rw [nI_cl (by omega), nI_cl (by omega)]; omega
  · refine ⟨fun e => hk4 (fun _ _ => e), fun e => ⟨st_cs h.1 (by simp), sc_hhas h h3 (by omega) hc ?_⟩⟩
    refine cond_br (fun e1 => hk4 (fun z => ?_)) (fun e1 => ⟨st_cs h.1 (by simp), sc_hhas h h3 (by omega) hd ?_⟩)
    · rw [e1] at z; exact Bool.noConfusion z
    · refine cond_br (fun e2 => hk4 (fun _ z => ?_)) (fun e2 => h1 k (by omega) e1 e2 e)
      rw [e2] at z; exact Bool.noConfusion z
/-- another neighbour in a face -/
theorem sc_other {c v f : Nat} {K : Int32 → Prop} (h : hS Γ st q p net pj pm ps pk pr pf D fj fm f3 f4 fr ff) (h3 : ok3 D) (hc : c < NP D 0) (hv : v < NP D 0) (hf : f < duN D) (h1 : ∀ d, d < NP D 0 → jnd D c d = true → ¬ d = v → FA D f d = true → K (nI d)) (h0 : (∀ d, jnd D c d = true → FA D f d = true → d = v) → K (-1)) : MX12_other Γ st q (nI c) (nI v) (nI f) K := by
  obtain ⟨nb, n1', n2', n3'⟩ := h.2.1.2.2.2.2.1
  have na := n1' c hc
  have hN := (u_N h3).1
  have hcl := cnB_le (jnd D c) (NP D 0)
  unfold MX12_other
  refine eb_loop1_i (fun x => ∃ k, k ≤ cnB (jnd D c) (NP D 0) ∧ x = nI k ∧ ∀ j, j < k → FA D f (nb c j) = true → nb c j = v) (fun x => 1000 - x.toNatClampNeg) ?_ ⟨0, by omega, rfl, fun j hj => absurd hj (Nat.not_lt_zero _)⟩
  rintro R _ ⟨k, hk, rfl, hno⟩ hR
  refine st_gr h.1 (v := some net) rfl (st_nn ⟨h.2.1.cs, sc_ndeg h.2.1 hc ?_⟩)
  refine br_le (by omega) (by omega) (fun h2 => h0 (fun d hj hfd => ?_)) (fun h2 => ?_)
  · obtain ⟨i, hi, hid⟩ := (u_jnd h3 hc).mp hj
    obtain ⟨j, j1, j2⟩ := n2' c d hc (by rw [← hid]; exact u_nb h3 hc hi) hj
    rw [← j2]
    exact hno j (by omega) (by rw [j2]; exact hfd)
  · refine st_gr h.1 (v := some net) rfl (st_nn ⟨h.2.1.cs, sc_nat h.2.1 hc (by have := na.2.1; omega) ?_⟩)
    obtain ⟨z1, z2, z3⟩ := na.2.2 k (by omega)
    rw [z1]
    refine jp_0 (FA D f (nb c k) = true → nb c k = v) (fun hs => ?_) (fun k15 hk15 => ?_)
    · rw [nI_1]
      refine hR _ ⟨k + 1, by omega, rfl, fun j hj => ?_⟩ ?_
      · by_cases e : j = k
        · rw [e]; exact hs
        · exact hno j (by omega)
      · rw [nI_cl (by omega), nI_cl (by omega)]; omega
    · refine br_eq (by omega) (by omega) (fun e => hk15 (fun _ => e)) (fun e => ⟨st_cs h.1 (by simp), sc_hhas h h3 hf z2 ?_⟩)
      refine cond_br (fun e1 => hk15 (fun z => ?_)) (fun e1 => h1 _ z2 z3 e e1)
      rw [e1] at z; exact Bool.noConfusion z
theorem ix8 (c i : Nat) : (8 : Int32) * nI c + nI i = nI (8 * c + i) := by rw [show (8 : Int32) = nI 8 from rfl, nI_mul, nI_add]
theorem sc_neighbour {c i : Nat} {K : Int32 → Prop} (h : hS Γ st q p net pj pm ps pk pr pf D fj fm f3 f4 fr ff) (h3 : ok3 D) (hc : c < NP D 0) (hi : i < 8) (hK : K (fr (8 * c + i))) : MX12_neighbour Γ st q (nI c) (nI i) K := by
  have hN := (u_N h3).1
  unfold MX12_neighbour
  rw [ix8]
  exact st_gr h.1 (v := some pr) rfl (st_nn (st_li h.2.2.2.2.2.1 (by omega) (by omega) hK))
theorem sc_behind {c i : Nat} {K : Int32 → Prop} (h : hS Γ st q p net pj pm ps pk pr pf D fj fm f3 f4 fr ff) (h3 : ok3 D) (hc : c < NP D 0) (hi : i < 8) (hK : K (ff (8 * c + i))) : MX12_behind Γ st q (nI c) (nI i) K := by
  have hN := (u_N h3).1
  unfold MX12_behind
  rw [ix8]
  exact st_gr h.1 (v := some pf) rfl (st_nn (st_li h.2.2.2.2.2.2 (by omega) (by omega) hK))
theorem sc_before {c j : Nat} {K : Int32 → Prop} (h : hS Γ st q p net pj pm ps pk pr pf D fj fm f3 f4 fr ff) (h3 : ok3 D) (hc : c < NP D 0) (hj : j < uG D) (hK : K (nI (prI (uG D) j))) : MX12_before Γ st q (nI c) (nI j) K := by
  have hd := u_dg h3
  unfold MX12_before
  refine st_gr h.1 (v := some net) rfl (st_nn ⟨h.2.1.cs, sc_ndeg h.2.1 hc ?_⟩)
  rw [u_deg h3 hc]
  refine sc_fmod (x := j) (y := 1) rfl (by omega) (by omega) hd.1 (by omega) ?_
  have e : (j + 12 * uG D - 1) % uG D = prI (uG D) j := by
    show _ = (j + (uG D - 1)) % uG D
    rw [show j + 12 * uG D - 1 = (j + (uG D - 1)) + uG D * 11 by omega, Nat.add_mul_mod_self_left]
  rw [e]
  exact hK
end CH2
