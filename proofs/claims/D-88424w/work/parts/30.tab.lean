set_option maxRecDepth 100000
/-! tables of groups, packed into numbers: mirrors, angles (4 bits each), elements, what each becomes by a mirror behind it (9 bits), parent (9), last letter (2), length (5), the model's images (16 of 8 bits), the class' matrices (r*r of 11 bits) -/
abbrev tE : Type := Nat × Nat × Nat × Nat × Nat × Nat × Nat × Nat × Nat
def t2 (N k : Nat) : Nat := Nat.land (Nat.shiftRight N (Nat.mul 2 k)) 3
def t4 (N k : Nat) : Nat := Nat.land (Nat.shiftRight N (Nat.mul 4 k)) 15
def t5 (N k : Nat) : Nat := Nat.land (Nat.shiftRight N (Nat.mul 5 k)) 31
def t8 (N k : Nat) : Nat := Nat.land (Nat.shiftRight N (Nat.mul 8 k)) 255
def t9 (N k : Nat) : Nat := Nat.land (Nat.shiftRight N (Nat.mul 9 k)) 511
def t11 (N k : Nat) : Nat := Nat.land (Nat.shiftRight N (Nat.mul 11 k)) 2047
noncomputable def tal (n : Nat) (P : Nat → Bool) : Bool := Nat.rec true (fun k ih => and (P k) ih) n
theorem tal_spec {P : Nat → Bool} : ∀ {n : Nat}, tal n P = true → ∀ k, k < n → P k = true := by
  intro n
  induction n with
  | zero => intro _ k h; exact absurd h (Nat.not_lt_zero k)
  | succ n ih =>
    intro h k hk
    have h' : and (P n) (tal n P) = true := h
    rw [Bool.and_eq_true] at h'
    by_cases e : k = n
    · rw [e]; exact h'.1
    · exact ih h'.2 k (by omega)
theorem tal_of {P : Nat → Bool} : ∀ {n : Nat}, (∀ k, k < n → P k = true) → tal n P = true := by
  intro n
  induction n with
  | zero => intro _; rfl
  | succ n ih => intro h; show and (P n) (tal n P) = true; rw [Bool.and_eq_true]; exact ⟨h n (by omega), ih (fun k hk => h k (by omega))⟩
/-- twice the cosines, modulo 241 and modulo 1201 -/
def tcM (m : Nat) : Nat := cond (Nat.beq m 2) 0 (cond (Nat.beq m 3) 1 (cond (Nat.beq m 4) 22 (cond (Nat.beq m 5) 52 56)))
def tcC (m : Nat) : Nat := cond (Nat.beq m 2) 0 (cond (Nat.beq m 3) 1 (cond (Nat.beq m 4) 336 (cond (Nat.beq m 5) 78 538)))
/-- the model's matrix of an element, and that of its product by a mirror -/
def tMstep (r A : Nat) (f : Nat → Nat) (i j k : Nat) : Nat :=
  cond (Nat.beq j i) (Nat.mod (Nat.sub 241 (f (Nat.add (Nat.mul 4 i) k))) 241) (Nat.mod (Nat.add (f (Nat.add (Nat.mul 4 j) k)) (Nat.mul (cond (Nat.ble r j) 0 (tcM (t4 A (Nat.add (Nat.mul 4 i) j)))) (f (Nat.add (Nat.mul 4 i) k)))) 241)
/-- the class' matrix, of which a mirror changes one column -/
noncomputable def tCcol (r A : Nat) (f : Nat → Nat) (i a : Nat) : Nat :=
  Nat.mod (Nat.rec 0 (fun k s => Nat.add s (Nat.mul (f (Nat.add (Nat.mul r a) k)) (cond (Nat.beq k i) 1200 (tcC (t4 A (Nat.add (Nat.mul 4 i) k)))))) r) 1201
noncomputable def tchk (e : tE) : Bool :=
  match e with
  | (r, A, n, TO, PAR, LAS, LEN, IM, JM) =>
    and (and (Nat.ble 1 r) (Nat.ble r 4)) (and (and (Nat.ble 1 n) (Nat.ble n 500)) (and
    -- what each becomes is an element, and by the mirror again it is what it was; it is as long or shorter by one; it was found before or is found now
    (tal n (fun g => tal r (fun i =>
      and (Nat.blt (t9 TO (Nat.add (Nat.mul r g) i)) n) (and (Nat.beq (t9 TO (Nat.add (Nat.mul r (t9 TO (Nat.add (Nat.mul r g) i))) i)) g) (and
        (Nat.beq (Nat.mod (Nat.add (t5 LEN g) (t5 LEN (t9 TO (Nat.add (Nat.mul r g) i)))) 2) 1)
        (or (Nat.beq (t9 TO (Nat.add (Nat.mul r g) i)) 0) (Nat.ble (Nat.add (Nat.mul r (t9 PAR (t9 TO (Nat.add (Nat.mul r g) i)))) (t2 LAS (t9 TO (Nat.add (Nat.mul r g) i)))) (Nat.add (Nat.mul r g) i))))))))
    (and
    -- parents, last letters, lengths, in order
    (and (Nat.beq (t5 LEN 0) 0) (tal (Nat.sub n 1) (fun y =>
      and (Nat.ble (t9 PAR (Nat.succ y)) y) (and (Nat.blt (t2 LAS (Nat.succ y)) r) (and (Nat.beq (t9 TO (Nat.add (Nat.mul r (t9 PAR (Nat.succ y))) (t2 LAS (Nat.succ y)))) (Nat.succ y)) (and
        (and (Nat.beq (t5 LEN (Nat.succ y)) (Nat.succ (t5 LEN (t9 PAR (Nat.succ y))))) (Nat.ble (t5 LEN (Nat.succ y)) 16))
        (or (Nat.beq y 0) (Nat.blt (Nat.add (Nat.mul r (t9 PAR y)) (t2 LAS y)) (Nat.add (Nat.mul r (t9 PAR (Nat.succ y))) (t2 LAS (Nat.succ y)))))))))))
    (and
    -- the model's matrices
    (and (tal 16 (fun k => Nat.beq (t8 IM k) (cond (Nat.beq (Nat.div k 4) (Nat.mod k 4)) 1 0))) (and
      (tal (Nat.sub n 1) (fun y => not (Nat.beq (Nat.land (Nat.shiftRight IM (Nat.mul 128 (Nat.succ y))) 0xffffffffffffffffffffffffffffffff) (Nat.land IM 0xffffffffffffffffffffffffffffffff))))
      (tal n (fun g => tal r (fun i => tal 4 (fun j => tal 4 (fun k => Nat.beq (t8 IM (Nat.add (Nat.mul 16 (t9 TO (Nat.add (Nat.mul r g) i))) (Nat.add (Nat.mul 4 j) k))) (tMstep r A (fun z => t8 IM (Nat.add (Nat.mul 16 g) z)) i j k))))))))
    -- the class' matrices
    (and (tal r (fun a => tal r (fun c => Nat.beq (t11 JM (Nat.add (Nat.mul r a) c)) (cond (Nat.beq a c) 1 0)))) (and
      (tal (Nat.sub n 1) (fun y => not (tal (Nat.mul r r) (fun k => Nat.beq (t11 JM (Nat.add (Nat.mul (Nat.mul r r) (Nat.succ y)) k)) (t11 JM k)))))
      (tal n (fun g => tal r (fun i => and (not (tal r (fun a => Nat.beq (t11 JM (Nat.add (Nat.mul (Nat.mul r r) (t9 TO (Nat.add (Nat.mul r g) i))) (Nat.add (Nat.mul r a) i))) (t11 JM (Nat.add (Nat.mul (Nat.mul r r) g) (Nat.add (Nat.mul r a) i)))))) (tal r (fun a => tal r (fun c => Nat.beq (t11 JM (Nat.add (Nat.mul (Nat.mul r r) (t9 TO (Nat.add (Nat.mul r g) i))) (Nat.add (Nat.mul r a) c))) (cond (Nat.beq c i) (tCcol r A (fun z => t11 JM (Nat.add (Nat.mul (Nat.mul r r) g) z)) i a) (t11 JM (Nat.add (Nat.mul (Nat.mul r r) g) (Nat.add (Nat.mul r a) c))))))))))))))))
