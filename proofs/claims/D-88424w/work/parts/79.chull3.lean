set_option maxRecDepth 100000
/-! all corners are gone round in one direction -/
def pI (dg : Nat) (w : Bool) (t j : Nat) : Nat := cond w ((j + (dg - t)) % dg) ((t + (dg - j)) % dg)
theorem pI_ok : ∀ dg, dg < 6 → ∀ t, t < dg → ∀ j, j < dg → ∀ w : Bool, pI dg w t j < dg ∧ pP dg w t (pI dg w t j) = j := by decide
theorem pP_inj : ∀ dg, dg < 6 → ∀ t, t < dg → ∀ i, i < dg → ∀ j, j < dg → ∀ w : Bool, pP dg w t i = pP dg w t j → i = j := by decide
def tT (dg : Nat) (w : Bool) (t : Nat) : Nat := cond w ((t + (dg - 1)) % dg) ((t + 1) % dg)
theorem tT_ok : ∀ dg, dg < 6 → ∀ t, t < dg → ∀ i, i < dg → ∀ w : Bool, tT dg w t < dg ∧ pP dg w t (dg - 1 - i) = pP dg (not w) (tT dg w t) i ∧ pQ dg w t ((dg + 12 * dg - (2 + i)) % dg) = pQ dg (not w) (tT dg w t) i := by decide
theorem pQ_b : ∀ dg, dg < 6 → ∀ t, t < dg → ∀ i, i < dg → prI dg i < dg ∧ pQ dg true t (prI dg i) = prI dg (pP dg true t i) ∧ pQ dg false t (prI dg i) = pP dg false t i := by decide
theorem sub2 : ∀ n, n < 6 → ∀ i, i < 6 → (nI n - 2) - nI i = nI n - nI (2 + i) ∧ (i < n → (nI n - 1) - nI i = nI (n - 1 - i)) := by decide
theorem cpy_in {f g : Nat → Int32} {s d n k : Nat} (hk : k < n) : va_cpy f g s d n (d + k) = f (s + k) := by
  unfold va_cpy
  rw [if_pos (by omega), show s + (d + k - d) = s + k by omega]
theorem cpy_out {f g : Nat → Int32} {s d n x : Nat} (hx : ¬ (d ≤ x ∧ x < d + n)) : va_cpy f g s d n x = g x := by
  unfold va_cpy
  rw [if_neg (by omega)]
def updN (f : Nat → Nat) (a v : Nat) : Nat → Nat := fun x => if x = a then v else f x
def updW (f : Nat → Bool) (a : Nat) (v : Bool) : Nat → Bool := fun x => if x = a then v else f x
theorem updN_eq (f : Nat → Nat) (a v : Nat) : updN f a v a = v := by unfold updN; rw [if_pos rfl]
theorem updN_ne {f : Nat → Nat} {a v x : Nat} (h : ¬ x = a) : updN f a v x = f x := by unfold updN; rw [if_neg h]
theorem updW_eq (f : Nat → Bool) (a : Nat) (v : Bool) : updW f a v a = v := by unfold updW; rw [if_pos rfl]
theorem updW_ne {f : Nat → Bool} {a x : Nat} {v : Bool} (h : ¬ x = a) : updW f a v x = f x := by unfold updW; rw [if_neg h]
section TA
variable {Γ : eb_C} {st st' : eb_S} {bc bs : Nat} {q p net pj pm ps pk pr pf : Nat} {D : eb_D} {fj fm f3 f4 fr ff : Nat → Int32}
theorem sc_placeOf {c t i d : Nat} {w : Bool} {K : Int32 → Prop} (h : hS Γ st q p net pj pm ps pk pr pf D fj fm f3 f4 fr ff) (h3 : ok3 D) (hc : c < NP D 0) (ht : t < uG D) (hr : rOk D c t w fr ff) (hi : i < uG D) (hd : uN D c (pP (uG D) w t i) = d) (hK : K (nI i)) : MX12_placeOf Γ st q (nI c) (nI d) K := by
  have hg := u_dg h3
  have hN := (u_N h3).1
  have hdN : d < NP D 0 := by rw [← hd]; exact u_nb h3 hc (pP_lt hg.1 w t i)
  unfold MX12_placeOf
  refine eb_loop1_i (fun x => ∃ k, k ≤ i ∧ x = nI k) (fun x => 100 - x.toNatClampNeg) ?_ ⟨0, by omega, rfl⟩
  rintro R _ ⟨k, hk, rfl⟩ hR
  refine ⟨st_cs h.1 (by simp), sc_neighbour h h3 hc (by omega) ?_⟩
  rw [(hr k (by omega)).1]
  have hkN := u_nb h3 hc (pP_lt hg.1 w t k)
  refine br_eq (by omega) (by omega) (fun e => ?_) (fun e => ?_)
  · have e1 := u_inj h3 hc (pP_lt hg.1 w t k) (pP_lt hg.1 w t i) (e.trans hd.symm)
    have e2 := pP_inj (uG D) (by omega) t ht k (by omega) i hi w e1
    rw [e2]; exact hK
  · rw [nI_1]
    have : ¬ k = i := fun z => e (by rw [z]; exact hd)
    refine hR _ ⟨k + 1, by omega, rfl⟩ ?_
    rw [nI_cl (by omega), nI_cl (by omega)]; omega
/-- a corner is gone round the other way -/
theorem sc_hturns {c t : Nat} {w : Bool} {K : eb_S → Prop} (h : hS Γ st q p net pj pm ps pk pr pf D fj fm f3 f4 fr ff) (hne : hNe q net pj pm ps pk pr pf) (h3 : ok3 D) (hc : c < NP D 0) (ht : t < uG D) (hr : rOk D c t w fr ff) (hbc : 2 ≤ bc) (hbs : 10 ≤ bs)
    (hK : ∀ st' fr' ff', sf [pr, pf] st st' → hS Γ st' q p net pj pm ps pk pr pf D fj fm f3 f4 fr' ff' → rOk D c (tT (uG D) w t) (not w) fr' ff' → (∀ x, ¬ (8 * c ≤ x ∧ x < 8 * c + 8) → fr' x = fr x ∧ ff' x = ff x) → K st') : MX12_turns Γ bc bs st q (nI c) K := by
  have hg := u_dg h3
  have hN := (u_N h3).1
  unfold MX12_turns
  refine st_gr h.1 (v := some net) rfl (st_nn ⟨h.2.1.cs, sc_ndeg h.2.1 hc ?_⟩)
  rw [u_deg h3 hc]
  refine ⟨st_ok1 (by omega), ?_⟩
  rw [nI_cl (by omega)]
  refine st_mk (by omega) (by omega) (fun p7 s1 f1 g1 w1 => ⟨st_ok1 (by omega), st_mk (by omega) (by omega) (fun p9 s2 f2 g2 w2 => ?_)⟩)
  have k7 := g2 _ _ w1 List.not_mem_nil
  have n79 : ¬ p7 = p9 := st_ne w1 f2
  have f2s : st p9 = none := by
    cases hh : st p9 with
    | none => rfl
    | some y => have := g1 _ _ hh List.not_mem_nil; rw [f2] at this; exact absurd this (by simp)
  have new : ∀ {a : Nat} {y : va_E}, st a = some y → a ∉ [p7, p9] := fun {a y} ha z => by
    simp only [List.mem_cons, List.not_mem_nil, or_false] at z
    rcases z with z | z
    · rw [z, f1] at ha; exact absurd ha (by simp)
    · rw [z, f2s] at ha; exact absurd ha (by simp)
  -- while the new rows are made
  have kS : ∀ g, sf [p7, p9] s2 g → hS Γ g q p net pj pm ps pk pr pf D fj fm f3 f4 fr ff := fun g hg' => by
    have k : ∀ {a : Nat} {y : va_E}, st a = some y → g a = some y := fun ha => hg' _ _ (g2 _ _ (g1 _ _ ha List.not_mem_nil) List.not_mem_nil) (new ha)
    obtain ⟨h1, h2, h3, h4, h5, h6, h7⟩ := h
    exact ⟨k h1, ⟨h2.1, k h2.2.1, k h2.2.2.1, k h2.2.2.2.1, h2.2.2.2.2⟩, k h3, k h4, h5, k h6, k h7⟩
  have m1 : ∀ {a b : Nat}, ¬ a = b → a ∉ [b] := fun h z => h (List.mem_singleton.mp z)
  refine jp_1 (fun g => ∃ fa fb, sf [p7, p9] s2 g ∧ g p7 = some (eb_ia Γ 0 (uG D) fa) ∧ g p9 = some (eb_ia Γ 0 (uG D) fb) ∧ ∀ i, i < uG D → fa i = nI (uN D c (pP (uG D) (not w) (tT (uG D) w t) i)) ∧ fb i = fV D c (pQ (uG D) (not w) (tT (uG D) w t) i)) ?_ ?_
  · rintro g ⟨fa, fb, hg', ua, ub, hab⟩
    have hS' := kS g hg'
    have kn : ∀ {a : Nat} {y : va_E}, st a = some y → ¬ a = p7 ∧ ¬ a = p9 := fun ha => ⟨fun z => new ha (by rw [z]; simp), fun z => new ha (by rw [z]; simp)⟩
    have npr := kn h.2.2.2.2.2.1
    have npf := kn h.2.2.2.2.2.2
    rw [show (8 : Int32) * nI c = nI (8 * c) from nI_mul 8 c]
    refine st_gr hS'.1 (v := some pr) rfl (st_nn (st_cp (s := 0) ua hS'.2.2.2.2.2.1 (by omega) (by omega) (by omega) (by omega) (fun s4 g4 w4 => ?_)))
    have hs4 : sf [pr, pf] g s4 := g4.up (fun k hk => by rw [List.mem_singleton.mp hk]; simp)
    have hS4 := hS'.set hne hs4 w4 (g4 _ _ hS'.2.2.2.2.2.2 (m1 (fun z => hne.1 z.symm)))
    refine st_gr hS4.1 (v := some pf) rfl (st_nn (st_cp (s := 0) (g4 _ _ ub (m1 (fun z => npr.2 z.symm))) hS4.2.2.2.2.2.2 (by omega) (by omega) (by omega) (by omega) (fun s5 g5 w5 => ?_)))
    have hs5 : sf [pr, pf] s4 s5 := g5.up (fun k hk => by rw [List.mem_singleton.mp hk]; simp)
    have hS5 := hS4.set hne hs5 (g5 _ _ w4 (m1 hne.1)) w5
    refine hK s5 _ _ (fun a y ha hw => hs5 _ _ (hs4 _ _ (hg' _ _ (g2 _ _ (g1 _ _ ha List.not_mem_nil) List.not_mem_nil) (new ha)) hw) hw) hS5 (fun i hi => ?_) (fun x hx => ?_)
    · rw [cpy_in hi, cpy_in hi, Nat.zero_add]
      exact hab i hi
    · rw [cpy_out (by omega), cpy_out (by omega)]
      exact ⟨rfl, rfl⟩
  · intro k18 hk18
    refine eb_loop2_i (fun y g => ∃ m fa fb, m ≤ uG D ∧ y = nI m ∧ sf [p7, p9] s2 g ∧ g p7 = some (eb_ia Γ 0 (uG D) fa) ∧ g p9 = some (eb_ia Γ 0 (uG D) fb) ∧ ∀ i, i < m → fa i = nI (uN D c (pP (uG D) (not w) (tT (uG D) w t) i)) ∧ fb i = fV D c (pQ (uG D) (not w) (tT (uG D) w t) i)) (fun y _ => 100 - y.toNatClampNeg) ?_ ⟨0, _, _, by omega, rfl, sf.rf _ _, k7, w2, fun i hi => absurd hi (Nat.not_lt_zero _)⟩
    rintro R _ g ⟨m, fa, fb, hm, rfl, hg', ua, ub, hab⟩ hR
    have hS' := kS g hg'
    refine br_le (by omega) (by omega) (fun h1 => hk18 _ ⟨fa, fb, hg', ua, ub, fun i hi => hab i (by omega)⟩) (fun h1 => ?_)
    have e2 := sub2 (uG D) (by omega) m (by omega)
    have eT := tT_ok (uG D) (by omega) t ht m (by omega) w
    refine ⟨st_cs hS'.1 (by simp), ?_⟩
    rw [e2.2 (by omega)]
    refine sc_neighbour hS' h3 hc (by omega) ?_
    rw [(hr (uG D - 1 - m) (by omega)).1, eT.2.1]
    refine st_wi ua (by omega) (by omega) (fun s4 g4 w4 => ?_)
    have hs4 : sf [p7, p9] g s4 := g4.up (fun k hk => by rw [List.mem_singleton.mp hk]; simp)
    have hS4 := kS s4 (hg'.tr hs4)
    refine sc_fmod e2.1 (by omega) (by omega) hg.1 (by omega) ⟨st_cs hS4.1 (by simp), sc_behind hS4 h3 hc (by have := Nat.mod_lt (uG D + 12 * uG D - (2 + m)) (show 0 < uG D by omega); omega) ?_⟩
    rw [(hr _ (Nat.mod_lt _ (by omega))).2, eT.2.2]
    refine st_wi (g4 _ _ ub (m1 (fun z => n79 z.symm))) (by omega) (by omega) (fun s5 g5 w5 => ?_)
    rw [nI_1]
    refine hR _ _ ⟨m + 1, _, _, by omega, rfl, (hg'.tr hs4).tr (g5.up (fun k hk => by rw [List.mem_singleton.mp hk]; simp)), g5 _ _ w4 (m1 n79), w5, fun i hi => ?_⟩ ?_
    · by_cases e : i = m
      · rw [e, upd_eq, upd_eq]; exact ⟨rfl, rfl⟩
      · rw [upd_ne e, upd_ne e]; exact hab i (by omega)
    · rw [nI_cl (by omega), nI_cl (by omega)]; omega
/-- what is behind here is ahead there, if both are gone round in one direction, and then alone -/
theorem tw_same (h3 : ok3 D) {c t i t' i' : Nat} {w w' : Bool} (hc : c < NP D 0) (ht : t < uG D) (hi : i < uG D) (ht' : t' < uG D) (hi' : i' < uG D) (hw : uG D < 3 → w = true) (hw' : uG D < 3 → w' = true)
    (e : uN D (uN D c (pP (uG D) w t i)) (pP (uG D) w' t' i') = c) : fV D (uN D c (pP (uG D) w t i)) (pQ (uG D) w' t' (prI (uG D) i')) = fV D c (pQ (uG D) w t i) ↔ w' = w := by
  have hg := u_dg h3
  have hj := pP_lt hg.1 w t i
  have hj' := pP_lt hg.1 w' t' i'
  have hto := u_nb h3 hc hj
  have hF := (u_N h3).2
  by_cases hso : 3 ≤ uG D
  · have hF0 : ¬ duN D = 0 := by have := (u_sol h3 hso hc hj).1; omega
    have eV : ∀ c x, fV D c x = nI (uF D c x) := fun c x => by unfold fV; rw [if_neg hF0]
    have lt : ∀ {x y : Nat}, x < NP D 0 → y < uG D → uF D x y < 64 := fun hx hy => by have := (u_sol h3 hso hx hy).1; omega
    have s1 := u_or h3 hc hj hj' e
    have s2 := u_or (i := pP (uG D) w' t' i') (j := pP (uG D) w t i) h3 hto hj' hj (by rw [e])
    rw [e] at s2
    have s3 := (u_sol h3 hso hto hj').2.1
    have b1' := pQ_b (uG D) (by omega) t' ht' i' hi'
    have b2 := pQ_t (uG D) (by omega) t ht i (by omega)
    have b3 := pQ_f (uG D) (by omega) t ht i (by omega)
    rw [eV, eV, nI_eq (by have := lt hto (pQ_lt hg.1 w' t' (prI (uG D) i')); omega) (by have := lt hc (pQ_lt hg.1 w t i); omega)]
    cases w with
    | true =>
      rw [b2.1]
      cases w' with
      | true => rw [b1'.2.1]; exact ⟨fun _ => rfl, fun _ => s1⟩
      | false => rw [b1'.2.2]; exact ⟨fun z => absurd (z.trans s1.symm) s3, fun z => Bool.noConfusion z⟩
    | false =>
      rw [b3.1]
      cases w' with
      | true => rw [b1'.2.1]; exact ⟨fun z => absurd (s2.symm.trans z.symm) s3, fun z => Bool.noConfusion z⟩
      | false => rw [b1'.2.2]; exact ⟨fun _ => rfl, fun _ => s2.symm⟩
  · rw [hw (by omega), hw' (by omega)]
    refine ⟨fun _ => rfl, fun _ => ?_⟩
    rcases u_flat h3 hso with ⟨d2, F1, hflat⟩ | ⟨d1, F0, hflat⟩
    · have eV : ∀ c x, c < NP D 0 → x < 2 → fV D c x = nI 0 := fun c x hc hx => by unfold fV; rw [if_neg (by omega), (hflat c hc).2 x hx]
      rw [hw (by omega)] at hto
      rw [eV _ _ hto (by have := pQ_lt hg.1 true t' (prI (uG D) i'); omega), eV _ _ hc (by have := pQ_lt hg.1 true t i; omega)]
    · unfold fV
      rw [if_pos F0, if_pos F0]
end TA
