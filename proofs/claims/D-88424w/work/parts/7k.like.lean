set_option maxRecDepth 100000
/-! one body on another -/
theorem lk_1 : ∀ g, g < 6 → ∀ t2, t2 < g → ∀ t1, t1 < g → ∀ i, i < g → ∀ w1 w2 : Bool, pP g w2 t2 (pP g (Bool.xor w1 (not w2)) (pI g w2 t2 t1) i) = pP g w1 t1 i ∧ pQ g w2 t2 (cond (Bool.xor w1 (not w2)) (pP g (Bool.xor w1 (not w2)) (pI g w2 t2 t1) i) (prI g (pP g (Bool.xor w1 (not w2)) (pI g w2 t2 t1) i))) = pQ g w1 t1 i := by decide +kernel
def lk3 (g : Nat) (w1 w2 : Bool) (t2 t1 x y : Nat) : Bool := or (not (Nat.beq (pP g w2 t2 x) (pP g w1 t1 y))) (Nat.beq (pP g (not (Bool.xor w1 (not w2))) x y) (pI g w2 t2 t1))
theorem lk_3a : tal 6 (fun g => tal g (fun t2 => tal g (fun t1 => tal g (fun x => tal g (fun y => and (and (lk3 g true true t2 t1 x y) (lk3 g true false t2 t1 x y)) (and (lk3 g false true t2 t1 x y) (lk3 g false false t2 t1 x y))))))) = true := by decide +kernel
theorem lk_3 {g t2 t1 x y : Nat} (hg : g < 6) (ht2 : t2 < g) (ht1 : t1 < g) (hx : x < g) (hy : y < g) {w1 w2 : Bool} (e : pP g w2 t2 x = pP g w1 t1 y) : pP g (not (Bool.xor w1 (not w2))) x y = pI g w2 t2 t1 := by
  have h := tal_spec (tal_spec (tal_spec (tal_spec (tal_spec lk_3a g hg) t2 ht2) t1 ht1) x hx) y hy
  rw [Bool.and_eq_true, Bool.and_eq_true, Bool.and_eq_true] at h
  have k : lk3 g w1 w2 t2 t1 x y = true := by
    cases w1 <;> cases w2
    · exact h.2.2
    · exact h.2.1
    · exact h.1.2
    · exact h.1.1
  unfold lk3 at k
  rw [nbT e] at k
  exact Nat.eq_of_beq_eq_true k
theorem lk_4 : ∀ g, g < 6 → ∀ t2, t2 < g → ∀ k, k < g → ∀ w2 wy : Bool, pQ g w2 t2 (cond wy k (prI g k)) < g ∧ ∀ i, i < g → pQ g w2 t2 (cond wy (pP g wy k i) (prI g (pP g wy k i))) = pP g (Bool.xor w2 (not wy)) (pQ g w2 t2 (cond wy k (prI g k))) i := by decide +kernel
theorem lk_p : ∀ g, g < 6 → ∀ j, j < g → ∀ wy : Bool, cond wy j (prI g j) < g := by decide +kernel
noncomputable def osL (D1 D2 : eb_D) (c : Nat) : Nat := uQi D2 (uPi D1 c)
noncomputable def tsL (D1 D2 : eb_D) (t1 t2 : Nat → Nat) (w2 : Bool) (c : Nat) : Nat := pI (uG D1) w2 (t2 (osL D1 D2 c)) (t1 c)
section LK
variable {D1 D2 : eb_D}
theorem lk_N (h1 : ok3 D1) (h2 : ok3 D2) (e : uC D1 = uC D2) : NP D1 0 = NP D2 0 ∧ uG D1 = uG D2 ∧ duN D1 = duN D2 := by
  have a := (u_ok h1.1 h1.2.1 h1.2.2).1
  have b := (u_ok h2.1 h2.2.1 h2.2.2).1
  refine ⟨?_, ?_, ?_⟩
  · rw [a.2.1, b.2.1, e]
  · unfold uG; rw [e]
  · rw [a.2.2.1, b.2.2.1, e]
theorem os_ok (h1 : ok3 D1) (h2 : ok3 D2) (e : uC D1 = uC D2) {c : Nat} (hc : c < NP D1 0) : osL D1 D2 c < NP D2 0 ∧ uPi D2 (osL D1 D2 c) = uPi D1 c := by
  obtain ⟨n1, n2, n3⟩ := lk_N h1 h2 e
  have a := ((u_per h1).2 c hc).1.1
  have b := ((u_per h2).2 (uPi D1 c) (by omega)).2
  exact ⟨b.1, b.2⟩
theorem os_inj (h1 : ok3 D1) (h2 : ok3 D2) (e : uC D1 = uC D2) {c d : Nat} (hc : c < NP D1 0) (hd : d < NP D1 0) (z : osL D1 D2 c = osL D1 D2 d) : c = d := by
  have a := (os_ok h1 h2 e hc).2
  have b := (os_ok h1 h2 e hd).2
  rw [z, b] at a
  rw [← ((u_per h1).2 c hc).1.2, ← ((u_per h1).2 d hd).1.2, a]
theorem os_0 (h1 : ok3 D1) (h2 : ok3 D2) (e : uC D1 = uC D2) : osL D1 D2 0 = 0 := by
  unfold osL
  rw [(u_per h1).1]
  have := ((u_per h2).2 0 (NP0_pos h2)).1.2
  rw [(u_per h2).1] at this
  exact this
theorem os_nb (h1 : ok3 D1) (h2 : ok3 D2) (e : uC D1 = uC D2) {c m : Nat} (hc : c < NP D1 0) (hm : m < uG D1) : uN D2 (osL D1 D2 c) m = osL D1 D2 (uN D1 c m) := by
  obtain ⟨n1, n2, n3⟩ := lk_N h1 h2 e
  obtain ⟨o1, o2⟩ := os_ok h1 h2 e hc
  have p1 := u_pi h1 hc hm
  have p2 := u_pi h2 o1 (i := m) (by omega)
  rw [o2, ← e, ← p1] at p2
  have hb := u_nb h2 o1 (i := m) (by omega)
  rw [← ((u_per h2).2 _ hb).1.2, p2]
  rfl
theorem os_zS (h1 : ok3 D1) (h2 : ok3 D2) (e : uC D1 = uC D2) {c m : Nat} (hc : c < NP D1 0) (hm : m < uG D1) : zS D2 (osL D1 D2 c) m = zS D1 c m := by
  obtain ⟨n1, n2, n3⟩ := lk_N h1 h2 e
  obtain ⟨o1, o2⟩ := os_ok h1 h2 e hc
  unfold zS
  rw [← n3]
  by_cases hF : duN D1 = 0
  · rw [if_pos hF, if_pos hF]
  · rw [if_neg hF, if_neg hF, u_rsz h1 hF hc hm, u_rsz h2 (by omega) o1 (by omega), o2, e]
/-- rows that are alike from some places on tell one class -/
theorem like_row (h1 : ok3 D1) (h2 : ok3 D2) (hg : uG D1 = uG D2) (hF : duN D1 = duN D2) {t1 t2 : Nat} {w1 w2 : Bool} (ht1 : t1 < uG D1) (ht2 : t2 < uG D1) (hz : ∀ i, i < uG D1 → zS D1 0 (pP (uG D1) w1 t1 i) = zS D2 0 (pP (uG D1) w2 t2 i)) : uC D1 = uC D2 := by
  have g1 := u_dg h1
  have hRL : RL (uC D1) = RL (uC D2) := by
    unfold RL
    rw [← u_RF h1, ← u_RF h2, hF]
    show (if _ then _ else if uG D1 = 2 then 1 else uG D1) = (if _ then _ else if uG D2 = 2 then 1 else uG D2)
    rw [hg]
  refine RW_inj _ (u_cl h1) _ (u_cl h2) hRL ?_
  by_cases h0 : duN D1 = 0
  · have : RL (uC D1) = 0 := by unfold RL; rw [← u_RF h1, if_pos h0]
    intro i hi; omega
  by_cases hd : 3 ≤ uG D1
  · have e1 : RL (uC D1) = uG D1 := by
      unfold RL
      rw [← u_RF h1, if_neg h0]
      show (if uG D1 = 2 then 1 else uG D1) = uG D1
      rw [if_neg (by omega)]
    have hs1 : ∀ k, SQ D1 k = zS D1 0 k := fun k => by unfold SQ zS; rw [if_neg h0]
    have hs2 : ∀ k, SQ D2 k = zS D2 0 k := fun k => by unfold SQ zS; rw [if_neg (by omega)]
    have A : mnD (uG D1) (SQ D1) (RW (uC D1)) := by
      have := RW_ok (u_cl h1)
      rw [e1] at this
      exact mnD_cg this (fun k hk => (SQ_R h1 h0 hk).symm) (fun _ _ => rfl)
    -- D1's row told from t1 is D2's from t2
    obtain ⟨q1, q2⟩ := pI_ok (uG D1) (by omega) t1 ht1 0 (by omega) w1
    have B : mnD (uG D1) (fun k => SQ D1 (pP (uG D1) w1 t1 k)) (RW (uC D1)) := by
      have hI := pI_ok (uG D1) (by omega) t1 ht1
      refine ⟨fun hn => ?_, fun t w ht z => ?_⟩
      · obtain ⟨t, w, ht, hh⟩ := A.1 hn
        obtain ⟨y1, y2⟩ := hI t ht w1
        refine ⟨pI (uG D1) w1 t1 t, Bool.xor w1 (not w), y1, fun k hk => ?_⟩
        rw [hh k hk]
        show _ = SQ D1 (pP (uG D1) w1 t1 (pP (uG D1) (Bool.xor w1 (not w)) (pI (uG D1) w1 t1 t) k))
        rw [pP_cmp (uG D1) (by omega) t1 ht1 _ y1 k hk, y2, b_xx]
      · refine A.2 (pP (uG D1) w1 t1 t) (Bool.xor w1 (not w)) (pP_lt g1.1 _ _ _) (lxl_cg z (fun k hk => ?_) (fun _ _ => rfl))
        show SQ D1 (pP (uG D1) w1 t1 (pP (uG D1) w t k)) = SQ D1 (pP (uG D1) (Bool.xor w1 (not w)) (pP (uG D1) w1 t1 t) k)
        rw [pP_cmp (uG D1) (by omega) t1 ht1 t ht k hk]
    have C : mnD (uG D1) (fun k => SQ D2 (pP (uG D1) w2 t2 k)) (RW (uC D1)) := mnD_cg B (fun k hk => by
      show SQ D1 (pP (uG D1) w1 t1 k) = SQ D2 (pP (uG D1) w2 t2 k)
      rw [hs1, hs2]; exact hz k hk) (fun _ _ => rfl)
    have F : mnD (uG D1) (SQ D2) (RW (uC D1)) := mnD_ch (by omega) ht2 (fun _ _ => rfl) C
    intro i hi
    exact SQ_mn h2 (by omega) (R := RW (uC D1)) (by rw [← hRL, e1]; exact F) i (by omega)
  · rcases u_flat h1 hd with ⟨z1, z2, z3⟩ | ⟨z1, z2, z3⟩
    · have e1 : RL (uC D1) = 1 := by
        unfold RL
        rw [← u_RF h1, if_neg h0]
        show (if uG D1 = 2 then 1 else uG D1) = 1
        rw [if_pos z1]
      rcases u_flat h2 (by omega) with ⟨y1, y2, y3⟩ | ⟨y1, y2, y3⟩
      · have hz0 := hz 0 (by omega)
        have l1 := pP_lt g1.1 w1 t1 0
        have l2 := pP_lt g1.1 w2 t2 0
        have A : ∀ k, k < 1 → SQ D1 k = RW (uC D1) k := fun k hk => by
          have hk0 : k = 0 := by omega
          subst hk0
          exact SQ_mn h1 h0 (R := fun _ => SQ D1 0) (by
            rw [e1]
            exact ⟨fun _ => ⟨0, true, by omega, fun k hk => by show SQ D1 0 = SQ D1 (pP 1 true 0 k); rw [show pP 1 true 0 k = 0 by have := pP_lt (dg := 1) (by omega) true 0 k; omega]⟩, fun t w ht ⟨k, hk, _, z⟩ => by
              have z' : SQ D1 (pP 1 w t k) < SQ D1 0 := z
              rw [show pP 1 w t k = 0 by have := pP_lt (dg := 1) (by omega) w t k; omega] at z'
              omega⟩) 0 (by omega)
        have B : ∀ k, k < 1 → SQ D2 k = RW (uC D2) k := fun k hk => by
          have hk0 : k = 0 := by omega
          subst hk0
          exact SQ_mn h2 (by omega) (R := fun _ => SQ D2 0) (by
            rw [← hRL, e1]
            exact ⟨fun _ => ⟨0, true, by omega, fun k hk => by show SQ D2 0 = SQ D2 (pP 1 true 0 k); rw [show pP 1 true 0 k = 0 by have := pP_lt (dg := 1) (by omega) true 0 k; omega]⟩, fun t w ht ⟨k, hk, _, z⟩ => by
              have z' : SQ D2 (pP 1 w t k) < SQ D2 0 := z
              rw [show pP 1 w t k = 0 by have := pP_lt (dg := 1) (by omega) w t k; omega] at z'
              omega⟩) 0 (by omega)
        intro i hi
        have hi0 : i = 0 := by omega
        subst hi0
        rw [← A 0 (by omega), ← B 0 (by omega)]
        unfold zS at hz0
        rw [if_neg h0, if_neg (by omega), (z3 0 (NP0_pos h1)).2 _ (by omega), (y3 0 (NP0_pos h2)).2 _ (by omega)] at hz0
        unfold SQ
        rw [(z3 0 (NP0_pos h1)).2 0 (by omega), (y3 0 (NP0_pos h2)).2 0 (by omega)]
        exact hz0
      · omega
    · omega
end LK
