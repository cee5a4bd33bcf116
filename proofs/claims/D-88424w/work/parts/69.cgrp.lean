set_option maxRecDepth 100000
section CG
variable {Γ : eb_C} {E : cET} {st st' : eb_S} {I I' : Nat → va_E → Prop} {ad : Nat → Nat} {bd : Nat → cBT} {x : cXT} {Ds : Nat → eb_D}
/-- a cell of a body is changed, and more may stay as it is -/
theorem cV.setG {b j : Nat} {d : cBT} (hE : cEm E) (h : cV Γ E st I ad bd x Ds) (hb : b < 4) (hj : j < 4) (hs : sf [ad (4 * b + j)] st st') (hw : st' (ad (4 * b + j)) = some (wB Γ ad d b j)) (ho : ∀ k, k < 4 → ¬ k = j → wB Γ ad d b k = wB Γ ad (bd b) b k) (hI : ∀ a y, I a y → I' a y) (hN : ∀ a y, I' a y → I a y ∨ (st' a = some y ∧ st a = none))
    (hd : bOk Γ E I' (ad (4 * b)) (Ds b) d) (hx : ∀ g, d.2.1.1 = some g → (bd b).2.1.1 = some g ∨ st g = none) : cV Γ E st' I' ad (upB bd b d) x Ds := by
  obtain ⟨h1, h2, h3, h4⟩ := h
  have nk : ∀ a, st a = none → ∀ i, i < 19 → ¬ a = ad i := fun a ha i hi e => by
    obtain ⟨y', hy'⟩ := h1.known hi
    rw [← e, ha] at hy'
    exact absurd hy' (by simp)
  refine ⟨h1.setB hb hj hs hw ho, fun a y hy => ?_, fun b' hb' => ?_, ?_⟩
  · rcases hN a y hy with z | ⟨z1, z2⟩
    · exact ⟨hs _ _ (h2 a y z).1 (fun q => (h2 a y z).2 _ (by omega) (List.mem_singleton.mp q)), (h2 a y z).2⟩
    · exact ⟨z1, nk a z2⟩
  · by_cases e : b' = b
    · rw [e, upB_eq]; exact hd
    · rw [upB_ne e]; exact (h3 b' hb').mono hE hI
  · obtain ⟨q1, q2, q3⟩ := h4
    refine ⟨fun a ha => ?_, q2, q3.imp id (fun ⟨D', net, g, r1, r2, r3, r4, r5, r6, ⟨y, r7⟩, r8⟩ => ⟨D', net, g, r1, r2, r3, r4, r5.mono hI, r6, ⟨y, hI _ _ r7⟩, fun b' hb' e1 e2 => ?_⟩)⟩
    · obtain ⟨y, hy⟩ := q1 a ha
      by_cases e : a = ad (4 * b + j)
      · rw [e]; exact ⟨_, hw⟩
      · exact ⟨y, hs _ _ hy (fun z => e (List.mem_singleton.mp z))⟩
    · by_cases e : b' = b
      · subst e
        rw [upB_eq] at e2
        rcases hx g e2 with z | z
        · exact r8 b' hb' e1 z
        · have := (h2 _ _ r7).1
          rw [z] at this
          exact absurd this (by simp)
      · rw [upB_ne e] at e2
        exact r8 b' hb' e1 e2
theorem szok_s {ok : Nat → Bool} {rc : Nat → Nat → Nat} {k x : Nat} (h : szok ok rc (k + 1) x = true) (hx : ¬ x = 0) : ok (rc x (Nat.land x (Nat.sub 16 x))) = true ∧ szok ok rc k (Nat.land x (Nat.sub 15 (rc x (Nat.land x (Nat.sub 16 x))))) = true := by
  have h' : cond (Nat.beq x 0) true (and (ok (rc x (Nat.land x (Nat.sub 16 x)))) (szok ok rc k (Nat.land x (Nat.sub 15 (rc x (Nat.land x (Nat.sub 16 x))))))) = true := h
  rw [nbF hx] at h'
  have h2 : and (ok (rc x (Nat.land x (Nat.sub 16 x)))) (szok ok rc k (Nat.land x (Nat.sub 15 (rc x (Nat.land x (Nat.sub 16 x)))))) = true := h'
  rw [Bool.and_eq_true] at h2
  exact h2
theorem szb_le {mk : Nat → Nat} {rc : Nat → Nat → Nat} {k x v : Nat} (h : szb mk rc k x v = true) : v ≤ 20000 := by
  cases k with
  | zero =>
    have h' : and (Nat.beq x 0) (Nat.ble v 20000) = true := h
    rw [Bool.and_eq_true] at h'
    exact Nat.le_of_ble_eq_true h'.2
  | succ k =>
    have h' : and (Nat.ble v 20000) _ = true := h
    rw [Bool.and_eq_true] at h'
    exact Nat.le_of_ble_eq_true h'.1
theorem szb_s {mk : Nat → Nat} {rc : Nat → Nat → Nat} {k x v : Nat} (h : szb mk rc (k + 1) x v = true) (hx : ¬ x = 0) : mk (rc x (Nat.land x (Nat.sub 16 x))) ≤ 20000 ∧ szb mk rc k (Nat.land x (Nat.sub 15 (rc x (Nat.land x (Nat.sub 16 x))))) (Nat.mul v (mk (rc x (Nat.land x (Nat.sub 16 x))))) = true := by
  have h' : and (Nat.ble v 20000) (cond (Nat.beq x 0) true (and (Nat.ble (mk (rc x (Nat.land x (Nat.sub 16 x)))) 20000) (szb mk rc k (Nat.land x (Nat.sub 15 (rc x (Nat.land x (Nat.sub 16 x))))) (Nat.mul v (mk (rc x (Nat.land x (Nat.sub 16 x)))))))) = true := h
  rw [Bool.and_eq_true, nbF hx] at h'
  have h2 : and (Nat.ble (mk (rc x (Nat.land x (Nat.sub 16 x)))) 20000) (szb mk rc k (Nat.land x (Nat.sub 15 (rc x (Nat.land x (Nat.sub 16 x))))) (Nat.mul v (mk (rc x (Nat.land x (Nat.sub 16 x)))))) = true := h'.2
  rw [Bool.and_eq_true] at h2
  exact ⟨Nat.le_of_ble_eq_true h2.1, h2.2⟩
theorem cBd.cD {p : Nat} {D : eb_D} (hv : vD D) (h : cBd Γ st p D) : cBd Γ st p (cD D) := by
  obtain ⟨fs, pa, f, h1, h2, h3, h4, h5, h6⟩ := h
  refine ⟨fs, pa, f, h1, by rw [cD_1]; exact h2, h3, by rw [cD_3]; exact h4, h5, fun k hk => ?_⟩
  rw [cD_2, an4_pk hv hk]
  exact h6 k hk
/-- the product of the pieces' sizes -/
theorem sc_sizes {p bc bs : Nat} {D : eb_D} {k31 : Int64 → eb_S → Nat → Nat → Prop} (hv : vD D) (hB : cBd Γ st p D) (hbc : 8 ≤ bc) (hbs : 16 ≤ bs)
    (hK : ∀ (v : Nat) (g : eb_S) (u w : Nat), v ≤ 20000 → ZD D = sz0 v → sf [] st g → u ≤ 8 → w ≤ 16 → k31 (lN v) g u w) :
    eb_loop5 (fun r37 (x1_32 : Int64) (x3_33 : Int32) (g34 : eb_S) (u35 : Nat) (w36 : Nat) => eb_br (x3_33 = 0) (k31 x1_32 g34 u35 w36) (MJ1_lowestOneBit x3_33 (fun v38 => eb_cs g34 p [1] ∧ MX1_reached Γ g34 p v38 x3_33 (fun v42 => ∃ c48 s49 : Nat, (u35 + c48 ≤ bc ∧ w36 + s49 ≤ bs) ∧ MX3_of Γ c48 s49 g34 p v42 (fun v46 g47 => eb_nn v46 (fun p50 => eb_ps Γ g47 p50 (fun v51 => r37 ((x1_32 * (Int32.toInt64 v51))) ((x3_33 &&& (v42 ^^^ (-1)))) g47 (u35 + c48) (w36 + s49)))))))) 1 (nI (2 ^ D.1 - 1)) st 0 0 := by
  have hr := hv.1
  have h16 : 2 ^ D.1 ≤ 2 ^ 4 := Nat.pow_le_pow_right (by omega) hr.2
  have hpos : 1 ≤ 2 ^ D.1 := Nat.one_le_two_pow
  obtain ⟨hZ, hO, -, hS, -⟩ := szk_spec hv
  have hvc := cD_v hv
  have hj : ∀ m, m < 4 → (fun i => jnp (an4 (pkA D)) i D.1) m < 16 := fun m _ => by
    have := sp_jlt hvc m
    rw [cD_1, cD_2] at this
    exact this
  generalize hJ : (fun i => jnp (an4 (pkA D)) i D.1) = j at *
  refine eb_loop5_i (fun y z g u w => ∃ k v x, k ≤ 4 ∧ y = lN v ∧ z = nI x ∧ x < 2 ^ D.1 ∧ ZD D = sz0 (szl (mkC j (an4 (pkA D))) (fun x y => rit j x 4 (Nat.land y x)) k x v) ∧ szok (okC j) (fun x y => rit j x 4 (Nat.land y x)) k x = true ∧ szb (mkC j (an4 (pkA D))) (fun x y => rit j x 4 (Nat.land y x)) k x v = true ∧ sf [] st g ∧ u + 2 * k ≤ 8 ∧ w + 4 * k ≤ 16) (fun _ z _ _ _ => z.toNatClampNeg) ?_
    ⟨4, 1, 2 ^ D.1 - 1, by omega, rfl, rfl, by omega, hZ, hO, hS, sf.rf _ _, by omega, by omega⟩
  rintro R y z g u w ⟨k, v, x, hk, rfl, rfl, hx, hz, ho, hs, hg, hu, hw⟩ hR
  have hvle := szb_le hs
  refine br_eq (b := 0) (by omega) (by omega) (fun hx0 => ?_) (fun hx0 => ?_)
  · refine hK v g u w hvle ?_ hg (by omega) (by omega)
    rw [hz]
    cases k with
    | zero => rfl
    | succ k =>
      show sz0 (cond (Nat.beq x 0) v _) = sz0 v
      rw [nbT hx0]; rfl
  · cases k with
    | zero =>
      have : Nat.beq x 0 = true := ho
      exact absurd (Nat.eq_of_beq_eq_true this) hx0
    | succ k =>
      have hBg : cBd Γ g p (cD D) := (hB.out (W := []) hg (fun w hw => absurd hw List.not_mem_nil)).cD hv
      obtain ⟨o1, o2⟩ := szok_s ho hx0
      obtain ⟨s1, s2⟩ := szb_s hs hx0
      have hx16 : x < 16 := by omega
      have hlow := mk_lowp x hx16 hx0
      have hc : ∀ a, a < 16 → ∀ b, b < 16 → Nat.land a b = Nat.land b a := by decide +kernel
      have hll : ∀ x, x < 16 → Nat.land (Nat.land x (16 - x)) x = Nat.land x (16 - x) := by decide +kernel
      unfold MJ1_lowestOneBit
      refine ⟨hBg.cs, ?_⟩
      rw [mk_low x hx16]
      have hxc : x < 2 ^ (cD D).1 := by rw [cD_1]; exact hx
      refine sc_reached hvc hBg hlow.2 hxc ?_
      rw [cD_1, cD_2, hJ]
      have eP : Nat.sub 16 x = 16 - x := rfl
      have hsub := rit_sub hj hx16 4 (x := Nat.land (Nat.land x (16 - x)) x) (mk_andl _ hlow.2 x hx16)
      have hin := rit_in hj hr.2 hx 4 (x := Nat.land (Nat.land x (16 - x)) x) (by
        have : ∀ r, r < 5 → ∀ w, w < 2 ^ r → ∀ x, x < 16 → Nat.land x w < 2 ^ r := by decide +kernel
        exact this D.1 (by omega) x hx _ hlow.2)
      rw [eP] at o1 o2 s1 s2
      have hne : ¬ rit j x 4 (Nat.land (Nat.land x (16 - x)) x) = 0 := fun z => by
        rw [z, hll x hx16] at hsub
        have : ∀ a, a < 16 → Nat.land a 0 = 0 := by decide
        rw [this _ hlow.2] at hsub
        exact hlow.1 hsub.symm
      have hz' : ZD D = sz0 (szl (mkC j (an4 (pkA D))) (fun x y => rit j x 4 (Nat.land y x)) k (Nat.land x (Nat.sub 15 (rit j x 4 (Nat.land (Nat.land x (16 - x)) x)))) (Nat.mul v (mkC j (an4 (pkA D)) (rit j x 4 (Nat.land (Nat.land x (16 - x)) x))))) := by
        rw [hz]
        show sz0 (cond (Nat.beq x 0) v _) = _
        rw [nbF hx0]
        rfl
      generalize hP : rit j x 4 (Nat.land (Nat.land x (16 - x)) x) = P at *
      have hP2 : P < 2 ^ (cD D).1 := by rw [cD_1]; exact hin
      refine ⟨2, 4, ⟨by omega, by omega⟩, ?_⟩
      refine sc_of hvc hBg hP2 hne (by rw [cD_1, cD_2, hJ]; exact o1) (by omega) (by omega) (fun q g' hg' hps => ?_)
      refine st_nn (hps _ ?_)
      rw [cD_1, cD_2, hJ, nI_l (by omega), lN_mul, mk_andn x hx16 P (by omega)]
      have hsm : ∀ x, x < 16 → ∀ P, P < 16 → ¬ P = 0 → ¬ x = 0 → Nat.land P x = P → Nat.land x (15 - P) < x := by decide +kernel
      have hin2 : ∀ r, r < 5 → ∀ w, w < 2 ^ r → ∀ x, x < 16 → Nat.land w x < 2 ^ r := by decide +kernel
      refine hR _ _ _ _ _ ⟨k, v * mkC j (an4 (pkA D)) P, Nat.land x (15 - P), by omega, rfl, rfl, hin2 D.1 (by omega) x hx _ (by omega), hz', o2, s2, hg.tr hg', by omega, by omega⟩ ?_
      · have hl := mk_andl x hx16 (15 - P) (by omega)
        rw [nI_cl (by omega), nI_cl (by omega)]
        refine hsm x hx16 P (by omega) hne hx0 ?_
        -- what is reached lies within
        have hw : ∀ (k y : Nat), y < 16 → Nat.land y x = y → Nat.land (rit j x k y) x = rit j x k y := by
          have st1 : ∀ a, a < 16 → ∀ b, b < 16 → ∀ c, c < 16 → Nat.land a b = a → Nat.land (Nat.lor a (Nat.land c b)) b = Nat.lor a (Nat.land c b) ∧ Nat.land (Nat.lor a 0) b = Nat.lor a 0 := by decide +kernel
          have st2 : ∀ (m : Nat), m ≤ 4 → ∀ y, y < 16 → Nat.land y x = y → Nat.land (rst j x y m) x = rst j x y m := by
            intro m
            induction m with
            | zero => intro _ y _ h; exact h
            | succ m ih =>
              intro hm y hy h
              have q := st1 _ (rst_ok hj hx16 hy m (by omega)).1 x hx16 (j m) (hj m (by omega)) (ih (by omega) y hy h)
              show Nat.land (Nat.lor (rst j x y m) (cond (Nat.beq (bt y m) 1) (Nat.land (j m) x) 0)) x = Nat.lor (rst j x y m) (cond (Nat.beq (bt y m) 1) (Nat.land (j m) x) 0)
              cases Nat.beq (bt y m) 1
              · exact q.2
              · exact q.1
          intro k
          induction k with
          | zero => intro y _ h; exact h
          | succ k ih => intro y hy h; exact ih _ (rst_ok hj hx16 hy 4 (Nat.le_refl _)).1 (st2 4 (Nat.le_refl _) y hy h)
        have hll2 : ∀ a, a < 16 → ∀ x, x < 16 → Nat.land (Nat.land a x) x = Nat.land a x := by decide +kernel
        have := hw 4 (Nat.land (Nat.land x (16 - x)) x) (mk_andl _ hlow.2 x hx16) (hll2 _ hlow.2 x hx16)
        rw [hP] at this
        exact this
end CG
