set_option maxRecDepth 100000
/-! bodies that differ by rings; how many unlike ones there are -/
def rgD (D : eb_D) (s : Nat) : eb_D := (D.1, D.2.1, s)
theorem rgD_1 (D : eb_D) (s : Nat) : (rgD D s).1 = D.1 := rfl
theorem rgD_2 (D : eb_D) (s : Nat) : (rgD D s).2.1 = D.2.1 := rfl
theorem rgD_3 (D : eb_D) (s : Nat) : (rgD D s).2.2 = s := rfl
theorem rgD_v {D : eb_D} (h : vD D) {s : Nat} (h1 : 1 ≤ s) (h2 : s < 2 ^ D.1) : vD (rgD D s) := ⟨h.1, ⟨h1, h2⟩, h.2.2⟩
theorem rgD_s (D : eb_D) (s : Nat) : sameA D (rgD D s) := ⟨rfl, fun _ _ => rfl⟩
section SA
variable {D D' : eb_D}
theorem sA_jn (h : sameA D D') (hv : vD D) {k : Nat} (hk : k < 4) : jnp D.2.1 k D.1 = jnp D'.2.1 k D'.1 := by
  rw [← h.1]
  have := hv.1
  exact jnp_cg D.1 (fun j hj => h.2 _ (by omega))
theorem sA_stay (h : sameA D D') (hv : vD D) (hr : D.2.2 = D'.2.2) (s : Nat) : stay D s = stay D' s := by
  unfold stay
  have h4 := hv.1
  rw [still_cg (a := fun i => jnp D.2.1 i D.1) (b := fun i => jnp D'.2.1 i D'.1) D.1 (fun k hk => sA_jn h hv (by omega)), h.1, hr]
theorem sA_isK (h : sameA D D') (hv : vD D) (hr : D.2.2 = D'.2.2) (s : Nat) : isK D s = isK D' s := by
  unfold isK
  rw [rit_cg (a := fun i => jnp D.2.1 i D.1) (b := fun i => jnp D'.2.1 i D'.1) (fun k hk => sA_jn h hv hk), h.1, hr]
theorem sA_PN (h : sameA D D') (hv : vD D) (hr : D.2.2 = D'.2.2) (s : Nat) : PN D s = PN D' s ∧ NP D s = NP D' s := by
  have hs := sA_stay h hv hr s
  refine ⟨?_, by unfold NP; rw [h.T.1, h.T.2, h.1, hs]⟩
  funext y
  unfold PN
  rw [h.T.1, h.1, hs]
theorem sA_hul (h : sameA D D') (hv : vD D) (hr : D.2.2 = D'.2.2) : hulD D = hulD D' := by
  have P := sA_PN h hv hr
  have k := sA_isK h hv hr
  have efM : fM D = fM D' := by funext i; unfold fM; rw [k, (P _).2]
  have ekd : kdD D = kdD D' := by funext i; unfold kdD; rw [k]
  have eFq : FqD D = FqD D' := by funext i g; unfold FqD; rw [(P _).1]
  have eoff : offF D (fM D) = offF D' (fM D') := by funext i; unfold offF; rw [efM]
  have eFk : FkD D = FkD D' := by funext i g; unfold FkD; rw [(P _).1, eoff]
  have eEk : EkD D = EkD D' := by funext i g; unfold EkD; rw [(P _).1]
  have ene : neD D = neD D' := by unfold neD; rw [hr, (P 1).2, (P 2).2, (P 4).2]
  have edu : duN D = duN D' := by unfold duN; rw [efM]
  funext cl nb fc pi qi sz ec fm
  unfold hulD
  rw [(P 0).1, (P 0).2, edu, ene, k 7, hr, h.T.1, h.T.2, ekd, eFk, eFq, eEk, eoff]
  have : (∀ i, i < 3 → isK D (2 ^ i) = inS D'.2.2 i) = (∀ i, i < 3 → isK D' (2 ^ i) = inS D'.2.2 i) := by
    refine propext ⟨fun z i hi => by rw [← k]; exact z i hi, fun z i hi => by rw [k]; exact z i hi⟩
  rw [this]
theorem uC_same (h : sameA D D') (hv : vD D) (hr : D.2.2 = D'.2.2) : uC D = uC D' := by
  have e : hX D = hX D' := by unfold hX; rw [sA_hul h hv hr]
  unfold uC
  rw [e]
end SA
/-- the first of its class -/
noncomputable def nwB (f : Nat → Nat) (s : Nat) : Bool := tal s (fun j => not (Nat.beq (f j) (f s)))
noncomputable def ulF (D : eb_D) (s : Nat) : Nat := uC (rgD D (s + 1))
noncomputable def ulV (D : eb_D) : Nat := cnB (nwB (ulF D)) 7
def uAt (D : eb_D) : Nat := 25 * (D.2.1 1 - 2) + 5 * (D.2.1 2 - 2) + (D.2.1 6 - 2)
noncomputable def ulN (k : Nat) : Nat := @dite Nat (∃ D, ok3 D ∧ uAt D = k) (Classical.propDecidable _) (fun h => ulV (Classical.choose h)) (fun _ => 0)
theorem at_same {D D' : eb_D} (h : ok3 D) (h' : ok3 D') (e : uAt D = uAt D') : sameA D D' := by
  have a := fun i j hi hj => h.1.e i j hi hj
  have b := fun i j hi hj => h'.1.e i j hi hj
  have h3 := h.2.2
  have h3' := h'.2.2
  unfold uAt at e
  have a01 := a 0 1 (by omega) (by omega)
  have a02 := a 0 2 (by omega) (by omega)
  have a12 := a 1 2 (by omega) (by omega)
  have b01 := b 0 1 (by omega) (by omega)
  have b02 := b 0 2 (by omega) (by omega)
  have b12 := b 1 2 (by omega) (by omega)
  simp only [Nat.mul_zero, Nat.zero_add, Nat.mul_one, Nat.add_zero, Nat.reduceAdd, Nat.reduceMul] at a01 a02 a12 b01 b02 b12
  have e1 : D.2.1 1 = D'.2.1 1 := by omega
  have e2 : D.2.1 2 = D'.2.1 2 := by omega
  have e3 : D.2.1 6 = D'.2.1 6 := by omega
  refine ⟨h3.trans h3'.symm, fun k hk => ?_⟩
  have two : ∀ i j, i < 4 → j < 4 → (i = j ∨ 3 ≤ i ∨ 3 ≤ j) → D.2.1 (4 * i + j) = D'.2.1 (4 * i + j) := fun i j hi hj z => by
    rw [(a i j hi hj).2.2.2 (by rw [h3]; exact z), (b i j hi hj).2.2.2 (by rw [h3']; exact z)]
  have hk' : k = 4 * (k / 4) + k % 4 := by omega
  by_cases z : k / 4 = k % 4 ∨ 3 ≤ k / 4 ∨ 3 ≤ k % 4
  · have := two (k / 4) (k % 4) (by omega) (by omega) z
    rw [← hk'] at this
    exact this
  · have : k = 1 ∨ k = 2 ∨ k = 4 ∨ k = 6 ∨ k = 8 ∨ k = 9 := by omega
    rcases this with rfl | rfl | rfl | rfl | rfl | rfl
    · exact e1
    · exact e2
    · rw [← a01.1, ← b01.1]; exact e1
    · exact e3
    · rw [← a02.1, ← b02.1]; exact e2
    · rw [← a12.1, ← b12.1]; exact e3
theorem ok3_rg {D : eb_D} (h : ok3 D) {s : Nat} (h1 : 1 ≤ s) (h2 : s < 8) : ok3 (rgD D s) := ⟨rgD_v h.1 h1 (by rw [h.2.2]; exact h2), by rw [← (rgD_s D s).T.2]; exact h.2.1, h.2.2⟩
theorem ulV_same {D D' : eb_D} (h : ok3 D) (e : sameA D D') : ulV D = ulV D' := by
  have : ∀ s, s < 7 → ulF D s = ulF D' s := fun s hs => uC_same (D := rgD D (s + 1)) (D' := rgD D' (s + 1)) ⟨e.1, e.2⟩ (rgD_v h.1 (by omega) (by rw [h.2.2]; show s + 1 < 8; omega)) rfl
  unfold ulV
  refine cnB_cg 7 (fun k hk => ?_)
  unfold nwB
  refine Bool_ext ⟨fun z => tal_of (fun j hj => ?_), fun z => tal_of (fun j hj => ?_)⟩
  · rw [← this j (by omega), ← this k hk]; exact tal_spec z j hj
  · rw [this j (by omega), this k hk]; exact tal_spec z j hj
theorem ulN_at {D : eb_D} (h : ok3 D) : ulN (uAt D) = ulV D := by
  have hx : ∃ D', ok3 D' ∧ uAt D' = uAt D := ⟨D, h, rfl⟩
  unfold ulN
  rw [dif_pos hx]
  obtain ⟨q1, q2⟩ := Classical.choose_spec hx
  exact ulV_same q1 (at_same q1 h q2)
theorem uAt_lt {D : eb_D} (h : ok3 D) : uAt D < 125 := by
  have a := fun i j hi hj => h.1.e i j hi hj
  have a01 := a 0 1 (by omega) (by omega)
  have a02 := a 0 2 (by omega) (by omega)
  have a12 := a 1 2 (by omega) (by omega)
  simp only [Nat.mul_zero, Nat.zero_add, Nat.mul_one, Nat.add_zero, Nat.reduceAdd, Nat.reduceMul] at a01 a02 a12
  unfold uAt
  omega
