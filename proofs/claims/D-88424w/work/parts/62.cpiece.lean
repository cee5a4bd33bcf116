set_option maxRecDepth 100000
/-! the class' pieces and their sizes -/
def o9 (n : Nat) : Int32 := if n = 9 then -1 else nI n
theorem sc_bitCount {a : Nat} {K : Int32 → Prop} (ha : a < 16) (hK : K (nI (pc4 a))) : MJ1_bitCount (nI a) K := by
  have h : ∀ a, a < 16 → (((((((nI a - ((eb_ushr (nI a) 1) &&& 1431655765)) &&& 858993459) + ((eb_ushr ((nI a - ((eb_ushr (nI a) 1) &&& 1431655765))) 2) &&& 858993459)) + (eb_ushr (((nI a - ((eb_ushr (nI a) 1) &&& 1431655765)) &&& 858993459) + ((eb_ushr ((nI a - ((eb_ushr (nI a) 1) &&& 1431655765))) 2) &&& 858993459)) 4)) &&& 252645135) + (eb_ushr (((((nI a - ((eb_ushr (nI a) 1) &&& 1431655765)) &&& 858993459) + ((eb_ushr ((nI a - ((eb_ushr (nI a) 1) &&& 1431655765))) 2) &&& 858993459)) + (eb_ushr (((nI a - ((eb_ushr (nI a) 1) &&& 1431655765)) &&& 858993459) + ((eb_ushr ((nI a - ((eb_ushr (nI a) 1) &&& 1431655765))) 2) &&& 858993459)) 4)) &&& 252645135) 8)) + (eb_ushr ((((((nI a - ((eb_ushr (nI a) 1) &&& 1431655765)) &&& 858993459) + ((eb_ushr ((nI a - ((eb_ushr (nI a) 1) &&& 1431655765))) 2) &&& 858993459)) + (eb_ushr (((nI a - ((eb_ushr (nI a) 1) &&& 1431655765)) &&& 858993459) + ((eb_ushr ((nI a - ((eb_ushr (nI a) 1) &&& 1431655765))) 2) &&& 858993459)) 4)) &&& 252645135) + (eb_ushr (((((nI a - ((eb_ushr (nI a) 1) &&& 1431655765)) &&& 858993459) + ((eb_ushr ((nI a - ((eb_ushr (nI a) 1) &&& 1431655765))) 2) &&& 858993459)) + (eb_ushr (((nI a - ((eb_ushr (nI a) 1) &&& 1431655765)) &&& 858993459) + ((eb_ushr ((nI a - ((eb_ushr (nI a) 1) &&& 1431655765))) 2) &&& 858993459)) 4)) &&& 252645135) 8)) 16)) &&& 63 = nI (pc4 a) := by decide +kernel
  unfold MJ1_bitCount
  rw [eb_let_iff, eb_let_iff, h a ha]
  exact hK
theorem sc_ctz {a : Nat} {K : Int32 → Prop} (ha : a < 16) (hK : K (nI (ctz a))) : MJ1_numberOfTrailingZeros (nI a) K := by
  have h : ∀ a, a < 16 → (nI a ^^^ (-1)) &&& (nI a - 1) = (if a = 0 then (-1 : Int32) else nI (2 ^ ctz a - 1)) ∧ (a = 0 → ctz a = 32) ∧ (¬ a = 0 → ctz a < 4) := by decide +kernel
  obtain ⟨h1, h2, h3⟩ := h a ha
  unfold MJ1_numberOfTrailingZeros
  rw [h1]
  by_cases e : a = 0
  · rw [if_pos e]
    rw [h2 e] at hK
    exact ⟨fun z => absurd z (by decide), fun _ => hK⟩
  · rw [if_neg e]
    have hc := h3 e
    generalize ctz a = c at *
    have hc4 : c = 0 ∨ c = 1 ∨ c = 2 ∨ c = 3 := by omega
    rcases hc4 with rfl | rfl | rfl | rfl
    · exact ⟨fun z => absurd z (by decide), fun _ => hK⟩
    · refine ⟨fun _ => ?_, fun z => absurd (by decide) z⟩
      refine ⟨fun _ => ?_, fun z => absurd (by decide) z⟩
      refine ⟨fun _ => ?_, fun z => absurd (by decide) z⟩
      refine ⟨fun _ => ?_, fun z => absurd (by decide) z⟩
      exact ⟨fun _ => hK, fun z => absurd (by decide) z⟩
    · refine ⟨fun _ => ?_, fun z => absurd (by decide) z⟩
      refine ⟨fun _ => ?_, fun z => absurd (by decide) z⟩
      refine ⟨fun _ => ?_, fun z => absurd (by decide) z⟩
      refine ⟨fun _ => ?_, fun z => absurd (by decide) z⟩
      exact ⟨fun _ => hK, fun z => absurd (by decide) z⟩
    · refine ⟨fun _ => ?_, fun z => absurd (by decide) z⟩
      refine ⟨fun _ => ?_, fun z => absurd (by decide) z⟩
      refine ⟨fun _ => ?_, fun z => absurd (by decide) z⟩
      refine ⟨fun _ => ?_, fun z => absurd (by decide) z⟩
      exact ⟨fun z => absurd z (by decide), fun _ => hK⟩
section CP
variable {Γ : eb_C} {st : eb_S} {p : Nat} {D : eb_D}
/-- a branch on a condition that is known as a Boolean -/
theorem sc_is2 {q pr : Nat} {f : Nat → Int32} {x y a b : Nat} {c : Int32} {K : Int32 → Prop} (hq : st q = some (.inr (6, [.ref pr]))) (hr : st pr = some (eb_ia Γ 0 2 f)) (h0 : f 0 = nI x) (h1 : f 1 = nI y) (hx : x < 100) (hy : y < 100) (ha : a < 100) (hb : b < 100)
    (hK : K (nI (b1 (pis2 x y a b)))) : MX7_is Γ st q (nI a) (nI b) c K := by
  have r0 : ∀ {K : Int32 → Prop}, K (nI x) → eb_li Γ st pr 0 0 K := fun h => st_li (i := 0) hr (by omega) (by omega) (by rw [h0]; exact h)
  have r1 : ∀ {K : Int32 → Prop}, K (nI y) → eb_li Γ st pr 0 1 K := fun h => st_li (i := 1) hr (by omega) (by omega) (by rw [h1]; exact h)
  have gq : ∀ {K : Option Nat → Prop}, K (some pr) → eb_gr st q 6 0 K := fun h => st_gr hq (v := some pr) rfl h
  unfold MX7_is
  refine gq (st_nn (st_ln hr (gq (st_nn (r0 ?_)))))
  refine jp_1 (fun v => v = nI (b1 (and (Nat.beq x a) (Nat.beq y b)))) ?_ ?_
  · rintro _ rfl
    refine jp_1 (fun v => v = nI (b1 (and (Nat.beq x b) (Nat.beq y a)))) ?_ ?_
    · rintro _ rfl
      unfold pis2 at hK
      cases e1 : and (Nat.beq x a) (Nat.beq y b) with
      | true => rw [e1, Bool.true_or] at hK; exact ⟨fun z => absurd z (by decide), fun _ => hK⟩
      | false =>
        rw [e1, Bool.false_or] at hK
        refine ⟨fun _ => ?_, fun z => absurd rfl z⟩
        cases e2 : and (Nat.beq x b) (Nat.beq y a) with
        | true => rw [e2] at hK; exact ⟨fun z => absurd z (by decide), fun _ => hK⟩
        | false => rw [e2] at hK; exact ⟨fun _ => hK, fun z => absurd rfl z⟩
    · intro k hk
      refine ⟨fun _ => gq (st_nn (r0 ?_)), fun z => absurd rfl z⟩
      refine br_eq (by omega) (by omega) (fun e => gq (st_nn (r1 ?_))) (fun e => hk _ (by rw [nbF e]; rfl))
      exact br_eq (by omega) (by omega) (fun e' => hk _ (by rw [nbT e, nbT e']; rfl)) (fun e' => hk _ (by rw [nbF e', Bool.and_false]; rfl))
  · intro k hk
    refine br_eq (by omega) (by omega) (fun e => gq (st_nn (r1 ?_))) (fun e => hk _ (by rw [nbF e]; rfl))
    exact br_eq (by omega) (by omega) (fun e' => ⟨fun _ => hk _ (by rw [nbT e, nbT e']; rfl), fun z => absurd rfl z⟩) (fun e' => hk _ (by rw [nbF e', Bool.and_false]; rfl))
theorem sc_is3 {q pr : Nat} {f : Nat → Int32} {x y w a b c : Nat} {K : Int32 → Prop} (hq : st q = some (.inr (6, [.ref pr]))) (hr : st pr = some (eb_ia Γ 0 3 f)) (h0 : f 0 = nI x) (h1 : f 1 = nI y) (h2 : f 2 = nI w) (hx : x < 100) (hy : y < 100) (hw : w < 100) (ha : a < 100) (hb : b < 100) (hc : c < 100)
    (hK : K (nI (b1 (pis3 x y w a b c)))) : MX7_is Γ st q (nI a) (nI b) (nI c) K := by
  have r0 : ∀ {K : Int32 → Prop}, K (nI x) → eb_li Γ st pr 0 0 K := fun h => st_li (i := 0) hr (by omega) (by omega) (by rw [h0]; exact h)
  have r1 : ∀ {K : Int32 → Prop}, K (nI y) → eb_li Γ st pr 0 1 K := fun h => st_li (i := 1) hr (by omega) (by omega) (by rw [h1]; exact h)
  have r2 : ∀ {K : Int32 → Prop}, K (nI w) → eb_li Γ st pr 0 2 K := fun h => st_li (i := 2) hr (by omega) (by omega) (by rw [h2]; exact h)
  have gq : ∀ {K : Option Nat → Prop}, K (some pr) → eb_gr st q 6 0 K := fun h => st_gr hq (v := some pr) rfl h
  unfold MX7_is
  refine gq (st_nn (st_ln hr (gq (st_nn (r0 ?_)))))
  refine jp_1 (fun v => v = nI (b1 (and (Nat.beq x a) (and (Nat.beq y b) (Nat.beq w c))))) ?_ ?_
  · rintro _ rfl
    refine jp_1 (fun v => v = nI (b1 (and (Nat.beq x c) (and (Nat.beq y b) (Nat.beq w a))))) ?_ ?_
    · rintro _ rfl
      unfold pis3 at hK
      cases e1 : and (Nat.beq x a) (and (Nat.beq y b) (Nat.beq w c)) with
      | true => rw [e1, Bool.true_or] at hK; exact ⟨fun z => absurd z (by decide), fun _ => hK⟩
      | false =>
        rw [e1, Bool.false_or] at hK
        refine ⟨fun _ => ?_, fun z => absurd rfl z⟩
        cases e2 : and (Nat.beq x c) (and (Nat.beq y b) (Nat.beq w a)) with
        | true => rw [e2] at hK; exact ⟨fun z => absurd z (by decide), fun _ => hK⟩
        | false => rw [e2] at hK; exact ⟨fun _ => hK, fun z => absurd rfl z⟩
    · intro k hk
      refine ⟨fun z => absurd z (by decide : ¬ nI 3 = 2), fun _ => gq (st_nn (r0 ?_))⟩
      refine br_eq (by omega) (by omega) (fun e => gq (st_nn (r1 ?_))) (fun e => hk _ (by rw [nbF e]; rfl))
      refine br_eq (by omega) (by omega) (fun e' => gq (st_nn (r2 ?_))) (fun e' => hk _ (by rw [nbF e', Bool.false_and, Bool.and_false]; rfl))
      exact br_eq (by omega) (by omega) (fun e2 => hk _ (by rw [nbT e, nbT e', nbT e2]; rfl)) (fun e2 => hk _ (by rw [nbF e2, Bool.and_false, Bool.and_false]; rfl))
  · intro k hk
    refine br_eq (by omega) (by omega) (fun e => gq (st_nn (r1 ?_))) (fun e => hk _ (by rw [nbF e]; rfl))
    refine br_eq (by omega) (by omega) (fun e' => ⟨fun z => absurd z (by decide : ¬ nI 3 = 2), fun _ => gq (st_nn (r2 ?_))⟩) (fun e' => hk _ (by rw [nbF e', Bool.false_and, Bool.and_false]; rfl))
    exact br_eq (by omega) (by omega) (fun e2 => hk _ (by rw [nbT e, nbT e', nbT e2]; rfl)) (fun e2 => hk _ (by rw [nbF e2, Bool.and_false, Bool.and_false]; rfl))
theorem cond_br {x : Bool} {A B : Prop} (h1 : x = false → A) (h2 : x = true → B) : eb_br (nI (b1 x) = 0) A B := by
  cases x with
  | false => exact ⟨fun _ => h1 rfl, fun z => absurd rfl z⟩
  | true => exact ⟨fun z => absurd z (by decide), fun _ => h2 rfl⟩
theorem pjn_le (j : Nat → Nat) (s : Nat) : ∀ m, pjn j s m ≤ 4 * m := by
  intro m
  induction m with
  | zero => exact Nat.le_refl _
  | succ m ih =>
    show Nat.add (pjn j s m) (cond (Nat.beq (bt s m) 1) (pdeg j s m) 0) ≤ 4 * (m + 1)
    have := pc4_le (Nat.land (j m) s)
    cases Nat.beq (bt s m) 1
    · show pjn j s m + 0 ≤ _; omega
    · show pjn j s m + pc4 (Nat.land (j m) s) ≤ _; omega
theorem pcen_lt (j : Nat → Nat) (s : Nat) : ∀ m, m ≤ 4 → pcen j s m = 9 ∨ pcen j s m < 4 := by
  intro m
  induction m with
  | zero => intro _; exact Or.inl rfl
  | succ m ih =>
    intro hm
    show cond (and (Nat.beq (bt s m) 1) (Nat.beq (pdeg j s m) 3)) m (pcen j s m) = 9 ∨ cond (and (Nat.beq (bt s m) 1) (Nat.beq (pdeg j s m) 3)) m (pcen j s m) < 4
    cases and (Nat.beq (bt s m) 1) (Nat.beq (pdeg j s m) 3)
    · exact ih (by omega)
    · exact Or.inr (by show m < 4; omega)
theorem pend_lt (j : Nat → Nat) (s : Nat) : ∀ m, m ≤ 4 → pend j s m = 9 ∨ pend j s m < 4 := by
  intro m
  induction m with
  | zero => intro _; exact Or.inl rfl
  | succ m ih =>
    intro hm
    show cond (and (Nat.beq (pend j s m) 9) (and (Nat.beq (bt s m) 1) (Nat.beq (pdeg j s m) 1))) m (pend j s m) = 9 ∨ cond (and (Nat.beq (pend j s m) 9) (and (Nat.beq (bt s m) 1) (Nat.beq (pdeg j s m) 1))) m (pend j s m) < 4
    cases and (Nat.beq (pend j s m) 9) (and (Nat.beq (bt s m) 1) (Nat.beq (pdeg j s m) 1))
    · exact ih (by omega)
    · exact Or.inr (by show m < 4; omega)
theorem o9_eq {n : Nat} (h : n = 9 ∨ n < 4) : (o9 n = -1 ↔ n = 9) := by
  unfold o9
  rcases h with h | h
  · rw [if_pos h]; exact ⟨fun _ => h, fun _ => rfl⟩
  · rw [if_neg (by omega)]; exact ⟨fun z => absurd z (nI_m1 (by omega)), fun z => absurd z (by omega)⟩
/-- the piece of some joined mirrors: its size as it is told -/
theorem sc_of {s bc bs : Nat} {K : Option Nat → eb_S → Prop} (hv : vD D) (h : cBd Γ st p D) (hs : s < 2 ^ D.1) (hs0 : ¬ s = 0) (hok : okC (fun i => jnp D.2.1 i D.1) s = true) (hbc : 2 ≤ bc) (hbs : 4 ≤ bs)
    (hK : ∀ q g, sf [] st g → (∀ K' : Int32 → Prop, K' (nI (mkC (fun i => jnp D.2.1 i D.1) D.2.1 s)) → eb_ps Γ g q K') → K (some q) g) : MX3_of Γ bc bs st p (nI s) K := by
  have hr := hv.1
  have h16 : 2 ^ D.1 ≤ 2 ^ 4 := Nat.pow_le_pow_right (by omega) hr.2
  have hs16 : s < 16 := by omega
  have hpc1 := (mk_self s hs16).2.2.2.2 hs0
  have hpc4 := (mk_self s hs16).2.1
  have hj : ∀ m, jnp D.2.1 m D.1 < 16 := fun m => sp_jlt hv m
  generalize hJ : (fun i => jnp D.2.1 i D.1) = j at *
  have hJi : ∀ i, jnp D.2.1 i D.1 = j i := fun i => by rw [← hJ]
  unfold MX3_of
  refine sc_bitCount hs16 ?_
  have keyM : mkC j D.2.1 s = cond (Nat.beq (pc4 s) 1) 2 (cond (not (Nat.beq (pjn j s 4) (Nat.mul 2 (Nat.sub (pc4 s) 1)))) 0 (cond (not (Nat.beq (pcen j s 4) 9)) (cond (pstar D.2.1 (pcen j s 4) 4) 192 0)
    (cond (Nat.beq (pc4 s) 2) (Nat.mul 2 (prow j D.2.1 s (pend j s 4) 0)) (cond (Nat.beq (pc4 s) 3)
      (cond (pis2 (prow j D.2.1 s (pend j s 4) 0) (prow j D.2.1 s (pend j s 4) 1) 3 3) 24 (cond (pis2 (prow j D.2.1 s (pend j s 4) 0) (prow j D.2.1 s (pend j s 4) 1) 3 4) 48 (cond (pis2 (prow j D.2.1 s (pend j s 4) 0) (prow j D.2.1 s (pend j s 4) 1) 3 5) 120 0)))
      (cond (pis3 (prow j D.2.1 s (pend j s 4) 0) (prow j D.2.1 s (pend j s 4) 1) (prow j D.2.1 s (pend j s 4) 2) 3 3 3) 120 (cond (pis3 (prow j D.2.1 s (pend j s 4) 0) (prow j D.2.1 s (pend j s 4) 1) (prow j D.2.1 s (pend j s 4) 2) 3 3 4) 384 (cond (pis3 (prow j D.2.1 s (pend j s 4) 0) (prow j D.2.1 s (pend j s 4) 1) (prow j D.2.1 s (pend j s 4) 2) 3 4 3) 1152 (cond (pis3 (prow j D.2.1 s (pend j s 4) 0) (prow j D.2.1 s (pend j s 4) 1) (prow j D.2.1 s (pend j s 4) 2) 3 3 5) 14400 0)))))))) := rfl
  refine br_eq (b := 1) (by omega) (by omega) (fun e1 => ?_) (fun e1 => ?_)
  · rw [nbT e1] at keyM
    refine st_mk (by omega) (by omega) (fun q g hq hg hc => ?_)
    unfold MX4_init MX3_init
    refine st_pt hc (by decide) (fun g' hg' hc' => ?_)
    refine hK q g' (fun a e ha _ => hg' a e (hg a e ha List.not_mem_nil) (fun z => ?_)) (fun K' hK' => Or.inl ⟨st_cs hc' (List.mem_singleton.mpr rfl), ?_⟩)
    · rw [List.mem_singleton.mp z, hq] at ha
      exact absurd ha (by simp)
    · unfold MX4_size
      refine st_gi hc' rfl ?_
      rw [keyM] at hK'
      exact hK'
  · rw [nbF e1] at keyM
    refine jp_3 (fun x y z => x = o9 (pend j s 4) ∧ y = nI (pjn j s 4) ∧ z = o9 (pcen j s 4)) ?_ ?_
    · rintro _ _ _ ⟨rfl, rfl, rfl⟩
      have hpj := pjn_le j s 4
      rw [show nI (pc4 s) - 1 = nI (pc4 s - 1) from nI_sub (b := 1) hpc1, show (2 : Int32) * nI (pc4 s - 1) = nI (2 * (pc4 s - 1)) from nI_mul 2 _]
      refine br_eq (by omega) (by omega) (fun e2 => ?_) (fun e2 => ?_)
      · rw [show Nat.beq (pjn j s 4) (Nat.mul 2 (Nat.sub (pc4 s) 1)) = true from nbT e2] at keyM
        have hcl := pcen_lt j s 4 (Nat.le_refl _)
        refine ⟨fun e3 => ?_, fun e3 => ?_⟩
        · have e3' := (o9_eq hcl).mp e3
          rw [nbT e3'] at keyM
          -- a path
          have hok' := hok
          unfold okC at hok'
          rw [nbF e1, show Nat.beq (pjn j s 4) (Nat.mul 2 (Nat.sub (pc4 s) 1)) = true from nbT e2, nbT e3'] at hok'
          have hok2 : and (Nat.blt (pend j s 4) 4) (and (Nat.blt (pat j s (pend j s 4) 1).1 4) (and (or (Nat.blt (pc4 s) 3) (Nat.blt (pat j s (pend j s 4) 2).1 4)) (or (Nat.blt (pc4 s) 4) (Nat.blt (pat j s (pend j s 4) 3).1 4)))) = true := hok'
          rw [Bool.and_eq_true, Bool.and_eq_true, Bool.and_eq_true, Bool.or_eq_true, Bool.or_eq_true] at hok2
          obtain ⟨k0, k1, k2, k3⟩ := hok2
          have pl : ∀ k, k < pc4 s → (pat j s (pend j s 4) k).1 < 4 := by
            intro k hk
            have : k = 0 ∨ k = 1 ∨ k = 2 ∨ k = 3 := by omega
            rcases this with rfl | rfl | rfl | rfl
            · exact Nat.le_of_ble_eq_true k0
            · exact Nat.le_of_ble_eq_true k1
            · rcases k2 with k2 | k2
              · have : pc4 s < 3 := Nat.le_of_ble_eq_true k2
                omega
              · exact Nat.le_of_ble_eq_true k2
            · rcases k3 with k3 | k3
              · have : pc4 s < 4 := Nat.le_of_ble_eq_true k3
                omega
              · exact Nat.le_of_ble_eq_true k3
          have ph : ∀ k, k < pc4 s → (pat j s (pend j s 4) k).2 < 16 := by
            intro k
            induction k with
            | zero => intro _; exact (by decide : 0 < 16)
            | succ k ih =>
              intro hk
              show Nat.lor (pat j s (pend j s 4) k).2 (Nat.pow 2 (pat j s (pend j s 4) k).1) < 16
              exact mk_orl _ (ih (by omega)) _ (mk_p2 _ (pl k (by omega)))
          have pa : ∀ k, k + 1 < pc4 s → prow j D.2.1 s (pend j s 4) k ≤ 6 := fun k hk => (hv.2.2 _ _ (pl k (by omega)) (pl (k + 1) hk)).2.1
          have hpe : o9 (pend j s 4) = nI (pend j s 4) := by
            have := pl 0 (by omega)
            unfold o9
            rw [if_neg (fun z => by rw [z] at this; exact absurd this (by decide : ¬ 9 < 4))]
          rw [hpe, nI_cl (show pc4 s - 1 < 2147483648 by omega)]
          refine ⟨st_ok1 (by omega), st_mk (by omega) (by omega) (fun pr g0 hpr hg0 hr0 => ?_)⟩
          refine jp_1 (fun g => sf [pr] g0 g ∧ ∃ f, g pr = some (eb_ia Γ 0 (pc4 s - 1) f) ∧ ∀ k, k + 1 < pc4 s → f k = nI (prow j D.2.1 s (pend j s 4) k)) ?_ ?_
          · rintro g ⟨hg, f, hrow, hf⟩
            have stg : sf [] st g := fun a e ha _ => hg a e (hg0 a e ha List.not_mem_nil) (fun z => by rw [List.mem_singleton.mp z, hpr] at ha; exact absurd ha (by simp))
            refine br_eq (b := 2) (by omega) (by omega) (fun e4 => ?_) (fun e4 => ?_)
            · rw [nbT e4] at keyM
              refine st_mk (by omega) (by omega) (fun q g1 hq hg1 hc1 => ?_)
              refine st_li (i := 0) (hg1 _ _ hrow List.not_mem_nil) (by omega) (by omega) ?_
              rw [hf 0 (by omega)]
              unfold MX4_init MX3_init
              refine st_pt hc1 (by decide) (fun g' hg' hc' => ?_)
              refine hK q g' (fun a e ha _ => hg' a e (hg1 a e (stg a e ha List.not_mem_nil) List.not_mem_nil) (fun z => ?_)) (fun K' hK' => Or.inl ⟨st_cs hc' (List.mem_singleton.mpr rfl), ?_⟩)
              · have := stg a e ha List.not_mem_nil
                rw [List.mem_singleton.mp z, hq] at this
                exact absurd this (by simp)
              · unfold MX4_size
                refine st_gi hc' rfl ?_
                rw [keyM] at hK'
                rw [show (2 : Int32) * nI (prow j D.2.1 s (pend j s 4) 0) = nI (2 * prow j D.2.1 s (pend j s 4) 0) from nI_mul 2 _]
                exact hK'
            · rw [nbF e4] at keyM
              refine st_mk (by omega) (by omega) (fun q g1 hq hg1 hc1 => ?_)
              unfold MX7_init MX3_init
              refine st_pt hc1 (by decide) (fun g' hg' hc' => ?_)
              have hr' : g' pr = some (eb_ia Γ 0 (pc4 s - 1) f) := hg' _ _ (hg1 _ _ hrow List.not_mem_nil) (fun z => by
                rw [List.mem_singleton.mp z, hq] at hrow
                exact absurd hrow (by simp))
              have hc2 : g' q = some (.inr (6, [.ref pr])) := hc'
              have hcs : eb_cs g' q [6] := st_cs hc2 (List.mem_singleton.mpr rfl)
              refine hK q g' (fun a e ha _ => hg' a e (hg1 a e (stg a e ha List.not_mem_nil) List.not_mem_nil) (fun z => ?_)) (fun K' hK' => Or.inr (Or.inr (Or.inr ⟨hcs, ?_⟩)))
              · have := stg a e ha List.not_mem_nil
                rw [List.mem_singleton.mp z, hq] at this
                exact absurd this (by simp)
              · rw [keyM] at hK'
                unfold MX7_size
                refine st_gr hc2 (v := some pr) rfl (st_nn (st_ln hr' ?_))
                show eb_br (nI (pc4 s - 1) = 2) _ _
                have p0 := pa 0 (by omega)
                have p1 := pa 1 (by omega)
                refine br_eq (b := 2) (by omega) (by omega) (fun e5 => ⟨hcs, ?_⟩) (fun e5 => ⟨hcs, ?_⟩)
                · have e6 : pc4 s = 3 := by omega
                  rw [e6] at hr'
                  rw [nbT e6] at hK'
                  refine sc_is2 (a := 3) (b := 3) hc2 hr' (hf 0 (by omega)) (hf 1 (by omega)) (by omega) (by omega) (by omega) (by omega) ?_
                  refine cond_br (fun c1 => ⟨hcs, ?_⟩) (fun c1 => by rw [c1] at hK'; exact hK')
                  rw [c1] at hK'
                  refine sc_is2 (a := 3) (b := 4) hc2 hr' (hf 0 (by omega)) (hf 1 (by omega)) (by omega) (by omega) (by omega) (by omega) ?_
                  refine cond_br (fun c2 => ⟨hcs, ?_⟩) (fun c2 => by rw [c2] at hK'; exact hK')
                  rw [c2] at hK'
                  refine sc_is2 (a := 3) (b := 5) hc2 hr' (hf 0 (by omega)) (hf 1 (by omega)) (by omega) (by omega) (by omega) (by omega) ?_
                  exact cond_br (fun c3 => by rw [c3] at hK'; exact hK') (fun c3 => by rw [c3] at hK'; exact hK')
                · have e6 : pc4 s = 4 := by omega
                  have p2 := pa 2 (by omega)
                  rw [e6] at hr'
                  rw [nbF (by omega : ¬ pc4 s = 3)] at hK'
                  refine sc_is3 (a := 3) (b := 3) (c := 3) hc2 hr' (hf 0 (by omega)) (hf 1 (by omega)) (hf 2 (by omega)) (by omega) (by omega) (by omega) (by omega) (by omega) (by omega) ?_
                  refine cond_br (fun c1 => ⟨hcs, ?_⟩) (fun c1 => by rw [c1] at hK'; exact hK')
                  rw [c1] at hK'
                  refine sc_is3 (a := 3) (b := 3) (c := 4) hc2 hr' (hf 0 (by omega)) (hf 1 (by omega)) (hf 2 (by omega)) (by omega) (by omega) (by omega) (by omega) (by omega) (by omega) ?_
                  refine cond_br (fun c2 => ⟨hcs, ?_⟩) (fun c2 => by rw [c2] at hK'; exact hK')
                  rw [c2] at hK'
                  refine sc_is3 (a := 3) (b := 4) (c := 3) hc2 hr' (hf 0 (by omega)) (hf 1 (by omega)) (hf 2 (by omega)) (by omega) (by omega) (by omega) (by omega) (by omega) (by omega) ?_
                  refine cond_br (fun c3 => ⟨hcs, ?_⟩) (fun c3 => by rw [c3] at hK'; exact hK')
                  rw [c3] at hK'
                  refine sc_is3 (a := 3) (b := 3) (c := 5) hc2 hr' (hf 0 (by omega)) (hf 1 (by omega)) (hf 2 (by omega)) (by omega) (by omega) (by omega) (by omega) (by omega) (by omega) ?_
                  exact cond_br (fun c4 => by rw [c4] at hK'; exact hK') (fun c4 => by rw [c4] at hK'; exact hK')
          · intro k hk
            refine eb_loop4_i (fun x y z g => ∃ m f, m + 1 ≤ pc4 s ∧ x = nI (pat j s (pend j s 4) m).1 ∧ y = nI (pat j s (pend j s 4) m).2 ∧ z = nI m ∧ sf [pr] g0 g ∧ g pr = some (eb_ia Γ 0 (pc4 s - 1) f) ∧ ∀ k, k < m → f k = nI (prow j D.2.1 s (pend j s 4) k)) (fun _ _ z _ => 10 - z.toNatClampNeg) ?_
              ⟨0, fun _ => 0, by omega, rfl, rfl, rfl, sf.rf _ _, hr0, fun k hk => absurd hk (Nat.not_lt_zero _)⟩
            rintro R x y z g ⟨m, f, hm, rfl, rfl, rfl, hg, hrow, hf⟩ hR
            refine br_le (by omega) (by omega) (fun h2 => hk g ⟨hg, f, hrow, fun k hk => hf k (by omega)⟩) (fun h2 => ?_)
            have hB : cBd Γ g p D := by
              refine h.out (W := [pr]) (fun a e ha hw => hg a e (hg0 a e ha List.not_mem_nil) hw) (fun w hw => ?_)
              rw [List.mem_singleton.mp hw]; exact hpr
            have a1 := pl m (by omega)
            have a2 := pl (m + 1) (by omega)
            have a3 := ph m (by omega)
            have eN : (pat j s (pend j s 4) (m + 1)).1 = ctz (Nat.land (Nat.land (j (pat j s (pend j s 4) m).1) s) (Nat.sub 15 (Nat.lor (pat j s (pend j s 4) m).2 (Nat.pow 2 (pat j s (pend j s 4) m).1)))) := rfl
            have eH : (pat j s (pend j s 4) (m + 1)).2 = Nat.lor (pat j s (pend j s 4) m).2 (Nat.pow 2 (pat j s (pend j s 4) m).1) := rfl
            have eR : prow j D.2.1 s (pend j s 4) m = D.2.1 (4 * (pat j s (pend j s 4) m).1 + (pat j s (pend j s 4) (m + 1)).1) := rfl
            generalize (pat j s (pend j s 4) m).1 = A at *
            generalize (pat j s (pend j s 4) m).2 = H at *
            have hor : Nat.lor H (2 ^ A) < 16 := mk_orl _ a3 _ (mk_p2 _ a1)
            have hja : j A < 16 := by rw [← hJi]; exact hj A
            refine ⟨hB.cs, sc_joined hv hB a1 ?_⟩
            rw [hJi, mk_and _ hja s hs16, mk_shl A (by omega), mk_or H a3 _ (mk_p2 _ a1), mk_andn _ (mk_andl _ hja s hs16) _ hor]
            refine sc_ctz (mk_andl _ (mk_andl _ hja s hs16) _ (by omega)) ?_
            have eN' : ctz (Nat.land (Nat.land (j A) s) (15 - Nat.lor H (2 ^ A))) = (pat j s (pend j s 4) (m + 1)).1 := eN.symm
            rw [eN']
            refine ⟨hB.cs, sc_angle hB a1 a2 ?_⟩
            rw [← eR]
            refine st_wi hrow (by omega) (by omega) (fun g' hg' hc' => ?_)
            rw [nI_1]
            refine hR _ _ _ _ ⟨m + 1, _, by omega, rfl, by rw [eH]; rfl, rfl, hg.tr hg', hc', fun k hk => ?_⟩ ?_
            · by_cases ek : k = m
              · rw [ek, upd_eq]
              · rw [upd_ne ek]; exact hf k (by omega)
            · rw [nI_cl (by omega), nI_cl (by omega)]; omega
        · have e3' : ¬ pcen j s 4 = 9 := fun z => e3 ((o9_eq hcl).mpr z)
          rw [nbF e3'] at keyM
          have hc4 : pcen j s 4 < 4 := hcl.resolve_left e3'
          have eo : o9 (pcen j s 4) = nI (pcen j s 4) := by unfold o9; rw [if_neg e3']
          rw [eo]
          refine st_mk (by omega) (by omega) (fun q g hq hg hc => ?_)
          have hB : cBd Γ g p D := h.out (W := []) hg (fun w hw => absurd hw List.not_mem_nil)
          unfold MX6_init MX3_init
          refine jp_1 (fun v => v = nI (b1 (pstar D.2.1 (pcen j s 4) 4))) ?_ ?_
          · rintro _ rfl
            refine ⟨?_, st_pt hc (by decide) (fun g' hg' hc' => ?_)⟩
            · cases pstar D.2.1 (pcen j s 4) 4
              · exact Or.inl rfl
              · exact Or.inr rfl
            · refine hK q g' (fun a e ha _ => hg' a e (hg a e ha List.not_mem_nil) (fun z => ?_)) (fun K' hK' => Or.inr (Or.inr (Or.inl ⟨st_cs hc' (List.mem_singleton.mpr rfl), ?_⟩)))
              · rw [List.mem_singleton.mp z, hq] at ha
                exact absurd ha (by simp)
              · unfold MX6_size
                rw [keyM] at hK'
                refine st_gi hc' rfl ?_
                refine cond_br (fun c => ?_) (fun c => ?_)
                · rw [c] at hK'; exact hK'
                · rw [c] at hK'; exact hK'
          · intro k hk
            refine eb_loop2_i (fun x y => ∃ m, m ≤ 4 ∧ x = nI (b1 (pstar D.2.1 (pcen j s 4) m)) ∧ y = nI m) (fun _ y => 10 - y.toNatClampNeg) ?_ ⟨0, by omega, rfl, rfl⟩
            rintro R x y ⟨m, hm, rfl, rfl⟩ hR
            refine br_le (a := 4) (by omega) (by omega) (fun h2 => hk _ (by rw [show m = 4 by omega])) (fun h2 => ?_)
            have eS : pstar D.2.1 (pcen j s 4) (m + 1) = and (pstar D.2.1 (pcen j s 4) m) (or (Nat.beq m (pcen j s 4)) (Nat.beq (D.2.1 (4 * pcen j s 4 + m)) 3)) := rfl
            refine jp_1 (fun v => v = nI (b1 (pstar D.2.1 (pcen j s 4) (m + 1)))) ?_ ?_
            · rintro _ rfl
              rw [nI_1]
              refine hR _ _ ⟨m + 1, by omega, rfl, rfl⟩ ?_
              rw [nI_cl (by omega), nI_cl (by omega)]; omega
            · intro k2 hk2
              refine cond_br (fun c => hk2 _ (by rw [eS, c]; rfl)) (fun c => ?_)
              refine br_eq (by omega) (by omega) (fun e5 => hk2 _ (by rw [eS, c, nbT e5]; rfl)) (fun e5 => ⟨hB.cs, ?_⟩)
              refine sc_angle hB hc4 (by omega) ?_
              have := (hv.2.2 _ m hc4 (by omega)).2.1
              exact br_eq (b := 3) (by omega) (by omega) (fun e6 => hk2 _ (by rw [eS, c, nbT e6, Bool.or_true]; rfl)) (fun e6 => hk2 _ (by rw [eS, c, nbF e5, nbF e6]; rfl))
      · rw [show Nat.beq (pjn j s 4) (Nat.mul 2 (Nat.sub (pc4 s) 1)) = false from nbF e2] at keyM
        refine st_mk (by omega) (by omega) (fun q g hq hg hc => ?_)
        unfold MX5_init MX3_init
        refine hK q g hg (fun K' hK' => Or.inr (Or.inl ⟨st_cs hc (List.mem_singleton.mpr rfl), ?_⟩))
        unfold MX5_size
        rw [keyM] at hK'
        exact hK'
    · intro k hk
      refine eb_loop5_i (fun x _ y z w => ∃ m, m ≤ 4 ∧ x = o9 (pend j s m) ∧ y = nI (pjn j s m) ∧ z = o9 (pcen j s m) ∧ w = nI m) (fun _ _ _ _ w => 10 - w.toNatClampNeg) ?_ ⟨0, by omega, rfl, rfl, rfl, rfl⟩
      rintro R x u y z w ⟨m, hm, rfl, rfl, rfl, rfl⟩ hR
      refine br_le (a := 4) (by omega) (by omega) (fun h2 => hk _ _ _ (by rw [show m = 4 by omega]; exact ⟨rfl, rfl, rfl⟩)) (fun h2 => ?_)
      have hpj := pjn_le j s m
      have ePJ : pjn j s (m + 1) = pjn j s m + cond (Nat.beq (bt s m) 1) (pdeg j s m) 0 := rfl
      have ePC : pcen j s (m + 1) = cond (and (Nat.beq (bt s m) 1) (Nat.beq (pdeg j s m) 3)) m (pcen j s m) := rfl
      have ePE : pend j s (m + 1) = cond (and (Nat.beq (pend j s m) 9) (and (Nat.beq (bt s m) 1) (Nat.beq (pdeg j s m) 1))) m (pend j s m) := rfl
      have hm9 : ∀ n, n < 4 → nI n = o9 n := fun n hn => by unfold o9; rw [if_neg (by omega)]
      refine eb_jp4_iff.mpr ?_
      have go : ∀ (x u y z : Int32), x = o9 (pend j s (m + 1)) → y = nI (pjn j s (m + 1)) → z = o9 (pcen j s (m + 1)) → R x u y z (nI m + 1) := by
        rintro _ u _ _ rfl rfl rfl
        rw [nI_1]
        refine hR _ _ _ _ _ ⟨m + 1, by omega, rfl, rfl, rfl, rfl⟩ ?_
        rw [nI_cl (by omega), nI_cl (by omega)]; omega
      rw [show eb_shr (nI s) (nI m) &&& 1 = nI (bt s m) from mk_bit _ hs16 _ (by omega)]
      refine br_eq (b := 1) (Nat.lt_trans (bt_lt _ _) (by decide)) (by decide) (fun e2 => ⟨h.cs, ?_⟩) (fun e2 => ?_)
      · rw [nbT e2] at ePJ ePC ePE
        refine sc_joined hv h (by omega) ?_
        have hjm : j m < 16 := by rw [← hJi]; exact hj m
        rw [hJi, mk_and _ hjm s hs16]
        refine sc_bitCount (mk_andl _ hjm s hs16) ?_
        have hpd := pc4_le (Nat.land (j m) s)
        have ePd : pc4 (Nat.land (j m) s) = pdeg j s m := rfl
        rw [ePd] at hpd ⊢
        refine jp_1 (fun v => v = o9 (pcen j s (m + 1))) ?_ ?_
        · rintro _ rfl
          rw [nI_add]
          refine br_eq (b := 1) (by omega) (by omega) (fun e3 => ?_) (fun e3 => ?_)
          · rw [nbT e3] at ePE
            have hpl := pend_lt j s m (by omega)
            refine jp_1 (fun v => v = o9 (pend j s (m + 1))) ?_ ?_
            · rintro _ rfl
              exact go _ _ _ _ rfl (by rw [ePJ]; rfl) rfl
            · intro k3 hk3
              refine ⟨fun e4 => hk3 _ ?_, fun e4 => hk3 _ ?_⟩
              · rw [ePE, nbT ((o9_eq hpl).mp e4)]
                exact hm9 m (by omega)
              · rw [ePE, nbF (fun z => e4 ((o9_eq hpl).mpr z))]; rfl
          · refine go _ _ _ _ ?_ (by rw [ePJ]; rfl) rfl
            rw [ePE, nbF e3, Bool.true_and, Bool.and_false]; rfl
        · intro k3 hk3
          refine br_eq (b := 3) (by omega) (by omega) (fun e3 => hk3 _ ?_) (fun e3 => hk3 _ ?_)
          · rw [ePC, nbT e3]
            exact hm9 m (by omega)
          · rw [ePC, nbF e3]; rfl
      · rw [nbF e2] at ePJ ePC ePE
        refine go _ _ _ _ ?_ (by rw [ePJ]; rfl) (by rw [ePC]; rfl)
        rw [ePE, Bool.false_and, Bool.and_false]; rfl
end CP
