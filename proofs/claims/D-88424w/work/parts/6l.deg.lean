set_option maxRecDepth 100000
/-- a packed row, each entry by those before it -/
noncomputable def rowB (f : (Nat → Nat) → Nat → Nat) (n : Nat) : Nat → Nat → (Nat → Bool) → Bool :=
  Nat.rec (motive := fun _ => Nat → Nat → (Nat → Bool) → Bool) (fun _ acc k => k acc) (fun _ ih x acc k => frc (Nat.add acc (Nat.shiftLeft (f (t9 acc) x) (Nat.mul 9 x))) (fun a => ih (Nat.succ x) a k)) n
theorem rowB_ok {f : (Nat → Nat) → Nat → Nat} {k : Nat → Bool} {P : Nat → Nat → Prop} (hf : ∀ t x, (∀ y, y < x → P y (t y)) → P x (f t x)) (hP : ∀ x v, P x v → v < 512) : ∀ n x acc, acc < 2 ^ (9 * x) → (∀ y, y < x → P y (t9 acc y)) → rowB f n x acc k = true → ∃ A, (∀ y, y < x + n → P y (t9 A y)) ∧ (∀ y, y < x → t9 A y = t9 acc y) ∧ (∀ y, x ≤ y → y < x + n → ∃ t, (∀ z, z < y → t z = t9 A z) ∧ t9 A y = f t y) ∧ k A = true := by
  intro n
  induction n with
  | zero => intro x acc _ h hk; exact ⟨acc, h, fun _ _ => rfl, fun y h1 h2 => absurd h1 (by omega), hk⟩
  | succ n ih =>
    intro x acc ha h hk
    have hk' : frc (Nat.add acc (Nat.shiftLeft (f (t9 acc) x) (Nat.mul 9 x))) (fun a => rowB f n (Nat.succ x) a k) = true := hk
    rw [frc_eq] at hk'
    have hPx := hf (t9 acc) x h
    have e1 : Nat.add acc (Nat.shiftLeft (f (t9 acc) x) (Nat.mul 9 x)) = acc + f (t9 acc) x * 2 ^ (9 * x) := by
      show acc + Nat.shiftLeft (f (t9 acc) x) (9 * x) = _
      rw [show Nat.shiftLeft (f (t9 acc) x) (9 * x) = f (t9 acc) x * 2 ^ (9 * x) from Nat.shiftLeft_eq _ (9 * x)]
    rw [e1] at hk'
    obtain ⟨p1, p2, p3⟩ := t9_put ha (hP _ _ hPx)
    obtain ⟨A, q1, q2, q3, q4⟩ := ih (x + 1) _ p3 (fun y hy => by
      by_cases e : y = x
      · rw [e, p2]; exact hPx
      · rw [p1 y (by omega)]; exact h y (by omega)) hk'
    refine ⟨A, fun y hy => q1 y (by omega), fun y hy => by rw [q2 y (by omega), p1 y hy], fun y h1 h2 => ?_, q4⟩
    by_cases e : y = x
    · subst e
      refine ⟨t9 acc, fun z hz => by rw [q2 z (by omega), p1 z hz], by rw [q2 y (by omega), p2]⟩
    · exact q3 y (by omega) (by omega)
/-- a mirror ahead of all: what it makes of each, and that it goes with the mirrors behind -/
noncomputable def ckLt (r n TO PAR LAS : Nat) : Bool := tal r (fun i => rowB (fun t x => cond (Nat.beq x 0) (t9 TO i) (t9 TO (Nat.add (Nat.mul r (t (t9 PAR x))) (t2 LAS x)))) n 0 0 (fun A => tal n (fun h => tal r (fun j => Nat.beq (t9 A (t9 TO (Nat.add (Nat.mul r h) j))) (t9 TO (Nat.add (Nat.mul r (t9 A h)) j))))))
noncomputable def orN (f : Nat → Nat) (n : Nat) : Nat := Nat.rec 0 (fun k s => Nat.lor s (f k)) n
noncomputable def cnM (M : Nat) (n : Nat) : Nat := Nat.rec 0 (fun k s => Nat.add s (Nat.land (Nat.shiftRight M k) 1)) n
/-- the neighbours of corner 0: at most so many -/
noncomputable def ckDt (r n TO S g : Nat) : Bool := lab (fun x i => t9 TO (Nat.add (Nat.mul r x) i)) r (inS S) n 0 0 0 (fun A cnt => and (tal n (fun x => tal r (fun i => or (not (inS S i)) (Nat.beq (t9 A (t9 TO (Nat.add (Nat.mul r x) i))) (t9 A x))))) (frc (orN (fun x => cond (Nat.beq (t9 A x) 0) (orN (fun i => cond (inS g i) (Nat.shiftLeft 1 (t9 A (t9 TO (Nat.add (Nat.mul r x) i)))) 0) r) 0) n) (fun M => Nat.ble (cnM M cnt) (cond (Nat.beq r 3) 8 24))))
noncomputable def ckA (e : tE) : Bool := match e with
  | (r, _, n, TO, PAR, LAS, _, _, _) => and (ckLt r n TO PAR LAS) (tal (Nat.sub (Nat.pow 2 r) 1) (fun q => frc (Nat.sub (Nat.sub (Nat.pow 2 r) 1) (Nat.succ q)) (fun S => ckDt r n TO S (Nat.succ q))))
theorem ckA_eq (e : tE) : ckA e = and (ckLt e.1 e.2.2.1 e.2.2.2.1 e.2.2.2.2.1 e.2.2.2.2.2.1) (tal (Nat.sub (Nat.pow 2 e.1) 1) (fun q => frc (Nat.sub (Nat.sub (Nat.pow 2 e.1) 1) (Nat.succ q)) (fun S => ckDt e.1 e.2.2.1 e.2.2.2.1 S (Nat.succ q)))) := by
  obtain ⟨r, A, n, TO, PAR, LAS, LEN, IM, JM⟩ := e
  rfl
section CK
variable {e : tE}
/-- products go with the mirrors behind -/
theorem Pr_to (hG : tG e) (hc : ckA e = true) : ∀ g, g < e.2.2.1 → ∀ h i, h < e.2.2.1 → i < e.1 → Pr e g (Tto e h i) = Tto e (Pr e g h) i := by
  have hn := hG.1.2
  rw [ckA_eq, Bool.and_eq_true] at hc
  -- the mirrors ahead
  have h9 : ∀ N k, t9 N k < 512 := fun N k => by rw [t9_eq]; exact Nat.mod_lt _ (by decide)
  have hf9 : ∀ (l : Nat) (t : Nat → Nat) (x : Nat), cond (Nat.beq x 0) (t9 e.2.2.2.1 l) (t9 e.2.2.2.1 (Nat.add (Nat.mul e.1 (t (t9 e.2.2.2.2.1 x))) (t2 e.2.2.2.2.2.1 x))) < 512 := fun l t x => by
    cases Nat.beq x 0
    · exact h9 _ _
    · exact h9 _ _
  have gen : ∀ l, l < e.1 → ∀ h i, h < e.2.2.1 → i < e.1 → Pr e (Tto e 0 l) (Tto e h i) = Tto e (Pr e (Tto e 0 l) h) i := by
    intro l hl
    have q := tal_spec hc.1 l hl
    obtain ⟨A, -, -, q3, q4⟩ := rowB_ok (P := fun _ v => v < 512) (fun t x _ => hf9 l t x) (fun x v hv => hv) e.2.2.1 0 0 (by decide) (fun y hy => absurd hy (Nat.not_lt_zero _)) q
    have hL : ∀ y, y < e.2.2.1 → t9 A y = Pr e (Tto e 0 l) y := by
      intro y
      induction y using Nat.strongRecOn with
      | _ y ih =>
        intro hy
        obtain ⟨t, t1, t2'⟩ := q3 y (Nat.zero_le _) (by omega)
        rw [t2']
        by_cases h0 : y = 0
        · subst h0
          rw [Pr_0 hG]
          show cond (Nat.beq 0 0) (t9 e.2.2.2.1 l) _ = t9 e.2.2.2.1 (e.1 * 0 + l)
          rw [Nat.mul_zero, Nat.zero_add]; rfl
        · have k := Tkey_lt hG hy h0
          have e1 : t (t9 e.2.2.2.2.1 y) = Pr e (Tto e 0 l) (Tpar e y) := by
            rw [show t9 e.2.2.2.2.1 y = Tpar e y from rfl, t1 _ k.2.1]
            exact ih _ k.2.1 (by omega)
          rw [Pr_s hG hy h0]
          show cond (Nat.beq y 0) (t9 e.2.2.2.1 l) (t9 e.2.2.2.1 (e.1 * t (t9 e.2.2.2.2.1 y) + t2 e.2.2.2.2.2.1 y)) = _
          rw [nbF h0, e1]
          rfl
    intro h i hh hi
    have q5 := Nat.eq_of_beq_eq_true (tal_spec (tal_spec q4 h hh) i hi)
    have q6 : t9 A (Tto e h i) = Tto e (t9 A h) i := q5
    have ht := (hG.2.1 h hh i hi).1
    rw [hL _ ht, hL h hh] at q6
    exact q6
  intro g
  induction g using Nat.strongRecOn with
  | _ g ih =>
    intro hg
    by_cases h0 : g = 0
    · subst h0
      intro h i hh hi
      rw [Pr_l hG _ (hG.2.1 h hh i hi).1, Pr_l hG h hh]
    · have k := Tkey_lt hG hg h0
      have ihp := ih _ k.2.1 (by omega)
      have hs : Tto e 0 (Tlas e g) < e.2.2.1 := (hG.2.1 0 (by omega) _ k.2.2.1).1
      have hcomp : ∀ h, h < e.2.2.1 → Pr e g h = Pr e (Tpar e g) (Pr e (Tto e 0 (Tlas e g)) h) := by
        intro h
        induction h using Nat.strongRecOn with
        | _ h ih2 =>
          intro hh
          by_cases hh0 : h = 0
          · subst hh0
            rw [Pr_0 hG, Pr_0 hG, ihp 0 _ (by omega) k.2.2.1, Pr_0 hG]
            exact k.2.2.2.1.symm
          · have k2 := Tkey_lt hG hh hh0
            rw [Pr_s hG hh hh0, Pr_s hG hh hh0, ih2 _ k2.2.1 (by omega), ihp _ _ (Pr_lt hG hs _ (by omega)) k2.2.2.1]
      intro h i hh hi
      rw [hcomp _ (hG.2.1 h hh i hi).1, hcomp h hh, gen _ k.2.2.1 h i hh hi, ihp _ i (Pr_lt hG hs h hh) hi]
end CK
