set_option maxRecDepth 100000
/-! sets of mirrors as numbers below 16; sizes of groups, as the model and as the class tell them -/
theorem mk_or : ∀ a, a < 16 → ∀ b, b < 16 → nI a ||| nI b = nI (Nat.lor a b) := by decide +kernel
theorem mk_and : ∀ a, a < 16 → ∀ b, b < 16 → nI a &&& nI b = nI (Nat.land a b) := by decide +kernel
theorem mk_andn : ∀ a, a < 16 → ∀ b, b < 16 → nI a &&& (nI b ^^^ (-1)) = nI (Nat.land a (15 - b)) := by decide +kernel
theorem mk_bit : ∀ a, a < 16 → ∀ k, k < 4 → (eb_shr (nI a) (nI k)) &&& 1 = nI (Nat.mod (Nat.shiftRight a k) 2) := by decide +kernel
theorem mk_shl : ∀ k, k < 5 → eb_shl 1 (nI k) = nI (2 ^ k) := by decide +kernel
theorem mk_low : ∀ a, a < 16 → nI a &&& -(nI a) = nI (Nat.land a (16 - a)) := by decide +kernel
theorem mk_orl : ∀ a, a < 16 → ∀ b, b < 16 → Nat.lor a b < 16 := by decide +kernel
theorem mk_andl : ∀ a, a < 16 → ∀ b, b < 16 → Nat.land a b < 16 := by decide +kernel
def bt (a k : Nat) : Nat := Nat.mod (Nat.shiftRight a k) 2
def pc4 (a : Nat) : Nat := Nat.add (Nat.add (bt a 0) (bt a 1)) (Nat.add (bt a 2) (bt a 3))
/-- which mirrors a mirror is joined to, of the first m -/
def jnp (an : Nat → Nat) (i : Nat) : Nat → Nat
  | 0 => 0
  | m + 1 => Nat.lor (jnp an i m) (cond (and (not (Nat.beq m i)) (Nat.blt 2 (an (Nat.add (Nat.mul 4 i) m)))) (Nat.pow 2 m) 0)
/-- one round of reaching, and some -/
def rst (j : Nat → Nat) (w had : Nat) : Nat → Nat
  | 0 => had
  | m + 1 => Nat.lor (rst j w had m) (cond (Nat.beq (bt had m) 1) (Nat.land (j m) w) 0)
def rit (j : Nat → Nat) (w : Nat) : Nat → Nat → Nat
  | 0, x => x
  | k + 1, x => rit j w k (rst j w x 4)
/-- sums over pairs of mirrors -/
def sj (f : Nat → Nat → Nat) (i : Nat) : Nat → Nat
  | 0 => 0
  | m + 1 => Nat.add (sj f i m) (cond (Nat.blt i m) (f i m) 0)
def si (s : Nat) (f : Nat → Nat → Nat) : Nat → Nat
  | 0 => 0
  | m + 1 => Nat.add (si s f m) (cond (Nat.beq (bt s m) 1) (sj f m 4) 0)
def smost (s : Nat) (j : Nat → Nat) : Nat → Nat
  | 0 => 0
  | m + 1 => cond (Nat.beq (bt s m) 1) (cond (Nat.blt (smost s j m) (pc4 (j m))) (pc4 (j m)) (smost s j m)) (smost s j m)
def spm (s : Nat) (an : Nat → Nat) (i k : Nat) : Nat := cond (Nat.beq (bt s k) 1) (an (Nat.add (Nat.mul 4 i) k)) 2
def b1 (b : Bool) : Nat := cond b 1 0
/-- the angle of a set of two -/
def twj (s : Nat) (an : Nat → Nat) (i v : Nat) : Nat → Nat
  | 0 => v
  | m + 1 => cond (and (Nat.blt i m) (and (Nat.beq (bt s i) 1) (Nat.beq (bt s m) 1))) (an (Nat.add (Nat.mul 4 i) m)) (twj s an i v m)
def twi (s : Nat) (an : Nat → Nat) : Nat → Nat
  | 0 => 2
  | i + 1 => twj s an i (twi s an i) 4
def two (s : Nat) (an : Nat → Nat) : Nat := twi s an 4
def mkM (j an : Nat → Nat) (s : Nat) : Nat :=
  cond (Nat.beq (pc4 s) 1) 2 (cond (Nat.beq (pc4 s) 2) (Nat.mul 2 (two s an)) (cond (not (Nat.beq (si s (fun i k => b1 (Nat.blt 2 (spm s an i k))) 4) (Nat.sub (pc4 s) 1))) 0
    (cond (Nat.beq (pc4 s) 3)
      (cond (Nat.beq (si s (fun i k => b1 (Nat.beq (spm s an i k) 3)) 4) 2) 24 (cond (and (Nat.beq (si s (fun i k => b1 (Nat.beq (spm s an i k) 3)) 4) 1) (Nat.beq (si s (fun i k => b1 (Nat.beq (spm s an i k) 4)) 4) 1)) 48 (cond (and (Nat.beq (si s (fun i k => b1 (Nat.beq (spm s an i k) 3)) 4) 1) (Nat.beq (si s (fun i k => b1 (Nat.beq (spm s an i k) 5)) 4) 1)) 120 0)))
      (cond (Nat.beq (smost s j 4) 3) (cond (Nat.beq (si s (fun i k => b1 (Nat.beq (spm s an i k) 3)) 4) 3) 192 0)
        (cond (Nat.beq (si s (fun i k => b1 (Nat.beq (spm s an i k) 3)) 4) 3) 120 (cond (and (and (Nat.beq (si s (fun i k => b1 (Nat.beq (spm s an i k) 3)) 4) 2) (Nat.beq (si s (fun i k => b1 (Nat.beq (spm s an i k) 4)) 4) 1)) (Nat.beq (si s (fun i k => b1 (and (Nat.beq (spm s an i k) 4) (or (Nat.beq (pc4 (j i)) 1) (Nat.beq (pc4 (j k)) 1)))) 4) 1)) 384 0))))))
/-- the class' piece: 0: no end. The second: nothing is looked at that isn't there -/
def ctz (a : Nat) : Nat := cond (Nat.beq (bt a 0) 1) 0 (cond (Nat.beq (bt a 1) 1) 1 (cond (Nat.beq (bt a 2) 1) 2 (cond (Nat.beq (bt a 3) 1) 3 32)))
def pdeg (j : Nat → Nat) (s i : Nat) : Nat := pc4 (Nat.land (j i) s)
def pjn (j : Nat → Nat) (s : Nat) : Nat → Nat
  | 0 => 0
  | m + 1 => Nat.add (pjn j s m) (cond (Nat.beq (bt s m) 1) (pdeg j s m) 0)
/-- the last with three, the first with one; 9: none -/
def pcen (j : Nat → Nat) (s : Nat) : Nat → Nat
  | 0 => 9
  | m + 1 => cond (and (Nat.beq (bt s m) 1) (Nat.beq (pdeg j s m) 3)) m (pcen j s m)
def pend (j : Nat → Nat) (s : Nat) : Nat → Nat
  | 0 => 9
  | m + 1 => cond (and (Nat.beq (pend j s m) 9) (and (Nat.beq (bt s m) 1) (Nat.beq (pdeg j s m) 1))) m (pend j s m)
def pstar (an : Nat → Nat) (c : Nat) : Nat → Bool
  | 0 => true
  | m + 1 => and (pstar an c m) (or (Nat.beq m c) (Nat.beq (an (Nat.add (Nat.mul 4 c) m)) 3))
/-- along the path: where one is, what one had, behind k steps -/
def pat (j : Nat → Nat) (s e : Nat) : Nat → Nat × Nat
  | 0 => (e, 0)
  | k + 1 => match pat j s e k with
    | (a, h) => (ctz (Nat.land (Nat.land (j a) s) (Nat.sub 15 (Nat.lor h (Nat.pow 2 a)))), Nat.lor h (Nat.pow 2 a))
def prow (j an : Nat → Nat) (s e k : Nat) : Nat := an (Nat.add (Nat.mul 4 (pat j s e k).1) (pat j s e (k + 1)).1)
def pis2 (x y a b : Nat) : Bool := or (and (Nat.beq x a) (Nat.beq y b)) (and (Nat.beq x b) (Nat.beq y a))
def pis3 (x y z a b c : Nat) : Bool := or (and (Nat.beq x a) (and (Nat.beq y b) (Nat.beq z c))) (and (Nat.beq x c) (and (Nat.beq y b) (Nat.beq z a)))
def mkC (j an : Nat → Nat) (s : Nat) : Nat :=
  cond (Nat.beq (pc4 s) 1) 2 (cond (not (Nat.beq (pjn j s 4) (Nat.mul 2 (Nat.sub (pc4 s) 1)))) 0 (cond (not (Nat.beq (pcen j s 4) 9)) (cond (pstar an (pcen j s 4) 4) 192 0)
    (cond (Nat.beq (pc4 s) 2) (Nat.mul 2 (prow j an s (pend j s 4) 0)) (cond (Nat.beq (pc4 s) 3)
      (cond (pis2 (prow j an s (pend j s 4) 0) (prow j an s (pend j s 4) 1) 3 3) 24 (cond (pis2 (prow j an s (pend j s 4) 0) (prow j an s (pend j s 4) 1) 3 4) 48 (cond (pis2 (prow j an s (pend j s 4) 0) (prow j an s (pend j s 4) 1) 3 5) 120 0)))
      (cond (pis3 (prow j an s (pend j s 4) 0) (prow j an s (pend j s 4) 1) (prow j an s (pend j s 4) 2) 3 3 3) 120 (cond (pis3 (prow j an s (pend j s 4) 0) (prow j an s (pend j s 4) 1) (prow j an s (pend j s 4) 2) 3 3 4) 384 (cond (pis3 (prow j an s (pend j s 4) 0) (prow j an s (pend j s 4) 1) (prow j an s (pend j s 4) 2) 3 4 3) 1152 (cond (pis3 (prow j an s (pend j s 4) 0) (prow j an s (pend j s 4) 1) (prow j an s (pend j s 4) 2) 3 3 5) 14400 0))))))))
/-- of a piece that is a path: its end is there, and each next one -/
def okC (j : Nat → Nat) (s : Nat) : Bool :=
  or (Nat.beq (pc4 s) 1) (or (not (Nat.beq (pjn j s 4) (Nat.mul 2 (Nat.sub (pc4 s) 1)))) (or (not (Nat.beq (pcen j s 4) 9))
    (and (Nat.blt (pend j s 4) 4) (and (Nat.blt (pat j s (pend j s 4) 1).1 4) (and (or (Nat.blt (pc4 s) 3) (Nat.blt (pat j s (pend j s 4) 2).1 4)) (or (Nat.blt (pc4 s) 4) (Nat.blt (pat j s (pend j s 4) 3).1 4)))))))
def szl (mk : Nat → Nat) (rc : Nat → Nat → Nat) : Nat → Nat → Nat → Nat
  | 0, _, v => v
  | k + 1, x, v => cond (Nat.beq x 0) v (szl mk rc k (Nat.land x (Nat.sub 15 (rc x (Nat.land x (Nat.sub 16 x))))) (Nat.mul v (mk (rc x (Nat.land x (Nat.sub 16 x))))))
def szok (ok : Nat → Bool) (rc : Nat → Nat → Nat) : Nat → Nat → Bool
  | 0, x => Nat.beq x 0
  | k + 1, x => cond (Nat.beq x 0) true (and (ok (rc x (Nat.land x (Nat.sub 16 x)))) (szok ok rc k (Nat.land x (Nat.sub 15 (rc x (Nat.land x (Nat.sub 16 x)))))))
/-- all along, the product is small; behind four pieces nothing is left -/
def szb (mk : Nat → Nat) (rc : Nat → Nat → Nat) : Nat → Nat → Nat → Bool
  | 0, x, v => and (Nat.beq x 0) (Nat.ble v 20000)
  | k + 1, x, v => and (Nat.ble v 20000) (cond (Nat.beq x 0) true (and (Nat.ble (mk (rc x (Nat.land x (Nat.sub 16 x)))) 20000) (szb mk rc k (Nat.land x (Nat.sub 15 (rc x (Nat.land x (Nat.sub 16 x))))) (Nat.mul v (mk (rc x (Nat.land x (Nat.sub 16 x))))))))
def szMb (r : Nat) (j an : Nat → Nat) : Bool := szb (mkM j an) (fun _ y => rit j 15 4 y) 4 (Nat.sub (Nat.pow 2 r) 1) 1
def szCb (r : Nat) (j an : Nat → Nat) : Bool := szb (mkC j an) (fun x y => rit j x 4 (Nat.land y x)) 4 (Nat.sub (Nat.pow 2 r) 1) 1
def szM (r : Nat) (j an : Nat → Nat) : Nat := szl (mkM j an) (fun _ y => rit j 15 4 y) 4 (Nat.sub (Nat.pow 2 r) 1) 1
def szC (r : Nat) (j an : Nat → Nat) : Nat := szl (mkC j an) (fun x y => rit j x 4 (Nat.land y x)) 4 (Nat.sub (Nat.pow 2 r) 1) 1
def szO (r : Nat) (j : Nat → Nat) : Bool := szok (okC j) (fun x y => rit j x 4 (Nat.land y x)) 4 (Nat.sub (Nat.pow 2 r) 1)
def sz0 (v : Nat) : Nat := cond (Nat.blt 500 v) 0 v
/-- a diagram by its angles, packed -/
def hor : List Nat → Nat
  | [] => 0
  | d :: l => Nat.add d (Nat.mul 16 (hor l))
def dAng (m01 m02 m03 m12 m13 m23 : Nat) : Nat := hor [2, m01, m02, m03, m01, 2, m12, m13, m02, m12, 2, m23, m03, m13, m23, 2]
noncomputable def frc (n : Nat) (k : Nat → Bool) : Bool := Nat.rec (k 0) (fun m _ => k (Nat.succ m)) n
theorem frc_eq (n : Nat) (k : Nat → Bool) : frc n k = k n := by cases n <;> rfl
def tfind (r A : Nat) : List tE → Nat
  | [] => 0
  | e :: l => cond (and (Nat.beq e.1 r) (Nat.beq e.2.1 A)) e.2.2.1 (tfind r A l)
def jpk (r : Nat) (an : Nat → Nat) : Nat := Nat.add (Nat.add (jnp an 0 r) (Nat.mul 16 (jnp an 1 r))) (Nat.add (Nat.mul 256 (jnp an 2 r)) (Nat.mul 4096 (jnp an 3 r)))
noncomputable def szk (r A : Nat) : Bool :=
  frc A (fun A => frc (jpk r (fun k => t4 A k)) (fun J =>
    frc (sz0 (szM r (fun i => t4 J i) (fun k => t4 A k))) (fun s =>
      and (and (Nat.beq s (sz0 (szC r (fun i => t4 J i) (fun k => t4 A k)))) (and (szO r (fun i => t4 J i)) (and (szMb r (fun i => t4 J i) (fun k => t4 A k)) (szCb r (fun i => t4 J i) (fun k => t4 A k))))) (cond (Nat.beq s 0) true (Nat.beq (tfind r A tabs) s)))))
theorem szk_1 : szk 1 (dAng 2 2 2 2 2 2) = true := by decide +kernel
theorem szk_2 : tal 5 (fun a => szk 2 (dAng (Nat.add a 2) 2 2 2 2 2)) = true := by decide +kernel
theorem szk_3 : tal 5 (fun a => tal 5 (fun b => tal 5 (fun c => szk 3 (dAng (Nat.add a 2) (Nat.add b 2) 2 (Nat.add c 2) 2 2)))) = true := by decide +kernel
theorem szk_400 : tal 5 (fun a => tal 5 (fun b => tal 5 (fun c => tal 5 (fun d => szk 4 (dAng (Nat.add a 2) (Nat.add b 2) (Nat.add c 2) (Nat.add d 2) 2 2))))) = true := by decide +kernel
theorem szk_401 : tal 5 (fun a => tal 5 (fun b => tal 5 (fun c => tal 5 (fun d => szk 4 (dAng (Nat.add a 2) (Nat.add b 2) (Nat.add c 2) (Nat.add d 2) 2 3))))) = true := by decide +kernel
theorem szk_402 : tal 5 (fun a => tal 5 (fun b => tal 5 (fun c => tal 5 (fun d => szk 4 (dAng (Nat.add a 2) (Nat.add b 2) (Nat.add c 2) (Nat.add d 2) 2 4))))) = true := by decide +kernel
theorem szk_403 : tal 5 (fun a => tal 5 (fun b => tal 5 (fun c => tal 5 (fun d => szk 4 (dAng (Nat.add a 2) (Nat.add b 2) (Nat.add c 2) (Nat.add d 2) 2 5))))) = true := by decide +kernel
theorem szk_404 : tal 5 (fun a => tal 5 (fun b => tal 5 (fun c => tal 5 (fun d => szk 4 (dAng (Nat.add a 2) (Nat.add b 2) (Nat.add c 2) (Nat.add d 2) 2 6))))) = true := by decide +kernel
theorem szk_410 : tal 5 (fun a => tal 5 (fun b => tal 5 (fun c => tal 5 (fun d => szk 4 (dAng (Nat.add a 2) (Nat.add b 2) (Nat.add c 2) (Nat.add d 2) 3 2))))) = true := by decide +kernel
theorem szk_411 : tal 5 (fun a => tal 5 (fun b => tal 5 (fun c => tal 5 (fun d => szk 4 (dAng (Nat.add a 2) (Nat.add b 2) (Nat.add c 2) (Nat.add d 2) 3 3))))) = true := by decide +kernel
theorem szk_412 : tal 5 (fun a => tal 5 (fun b => tal 5 (fun c => tal 5 (fun d => szk 4 (dAng (Nat.add a 2) (Nat.add b 2) (Nat.add c 2) (Nat.add d 2) 3 4))))) = true := by decide +kernel
theorem szk_413 : tal 5 (fun a => tal 5 (fun b => tal 5 (fun c => tal 5 (fun d => szk 4 (dAng (Nat.add a 2) (Nat.add b 2) (Nat.add c 2) (Nat.add d 2) 3 5))))) = true := by decide +kernel
theorem szk_414 : tal 5 (fun a => tal 5 (fun b => tal 5 (fun c => tal 5 (fun d => szk 4 (dAng (Nat.add a 2) (Nat.add b 2) (Nat.add c 2) (Nat.add d 2) 3 6))))) = true := by decide +kernel
theorem szk_420 : tal 5 (fun a => tal 5 (fun b => tal 5 (fun c => tal 5 (fun d => szk 4 (dAng (Nat.add a 2) (Nat.add b 2) (Nat.add c 2) (Nat.add d 2) 4 2))))) = true := by decide +kernel
theorem szk_421 : tal 5 (fun a => tal 5 (fun b => tal 5 (fun c => tal 5 (fun d => szk 4 (dAng (Nat.add a 2) (Nat.add b 2) (Nat.add c 2) (Nat.add d 2) 4 3))))) = true := by decide +kernel
theorem szk_422 : tal 5 (fun a => tal 5 (fun b => tal 5 (fun c => tal 5 (fun d => szk 4 (dAng (Nat.add a 2) (Nat.add b 2) (Nat.add c 2) (Nat.add d 2) 4 4))))) = true := by decide +kernel
theorem szk_423 : tal 5 (fun a => tal 5 (fun b => tal 5 (fun c => tal 5 (fun d => szk 4 (dAng (Nat.add a 2) (Nat.add b 2) (Nat.add c 2) (Nat.add d 2) 4 5))))) = true := by decide +kernel
theorem szk_424 : tal 5 (fun a => tal 5 (fun b => tal 5 (fun c => tal 5 (fun d => szk 4 (dAng (Nat.add a 2) (Nat.add b 2) (Nat.add c 2) (Nat.add d 2) 4 6))))) = true := by decide +kernel
theorem szk_430 : tal 5 (fun a => tal 5 (fun b => tal 5 (fun c => tal 5 (fun d => szk 4 (dAng (Nat.add a 2) (Nat.add b 2) (Nat.add c 2) (Nat.add d 2) 5 2))))) = true := by decide +kernel
theorem szk_431 : tal 5 (fun a => tal 5 (fun b => tal 5 (fun c => tal 5 (fun d => szk 4 (dAng (Nat.add a 2) (Nat.add b 2) (Nat.add c 2) (Nat.add d 2) 5 3))))) = true := by decide +kernel
theorem szk_432 : tal 5 (fun a => tal 5 (fun b => tal 5 (fun c => tal 5 (fun d => szk 4 (dAng (Nat.add a 2) (Nat.add b 2) (Nat.add c 2) (Nat.add d 2) 5 4))))) = true := by decide +kernel
theorem szk_433 : tal 5 (fun a => tal 5 (fun b => tal 5 (fun c => tal 5 (fun d => szk 4 (dAng (Nat.add a 2) (Nat.add b 2) (Nat.add c 2) (Nat.add d 2) 5 5))))) = true := by decide +kernel
theorem szk_434 : tal 5 (fun a => tal 5 (fun b => tal 5 (fun c => tal 5 (fun d => szk 4 (dAng (Nat.add a 2) (Nat.add b 2) (Nat.add c 2) (Nat.add d 2) 5 6))))) = true := by decide +kernel
theorem szk_440 : tal 5 (fun a => tal 5 (fun b => tal 5 (fun c => tal 5 (fun d => szk 4 (dAng (Nat.add a 2) (Nat.add b 2) (Nat.add c 2) (Nat.add d 2) 6 2))))) = true := by decide +kernel
theorem szk_441 : tal 5 (fun a => tal 5 (fun b => tal 5 (fun c => tal 5 (fun d => szk 4 (dAng (Nat.add a 2) (Nat.add b 2) (Nat.add c 2) (Nat.add d 2) 6 3))))) = true := by decide +kernel
theorem szk_442 : tal 5 (fun a => tal 5 (fun b => tal 5 (fun c => tal 5 (fun d => szk 4 (dAng (Nat.add a 2) (Nat.add b 2) (Nat.add c 2) (Nat.add d 2) 6 4))))) = true := by decide +kernel
theorem szk_443 : tal 5 (fun a => tal 5 (fun b => tal 5 (fun c => tal 5 (fun d => szk 4 (dAng (Nat.add a 2) (Nat.add b 2) (Nat.add c 2) (Nat.add d 2) 6 5))))) = true := by decide +kernel
theorem szk_444 : tal 5 (fun a => tal 5 (fun b => tal 5 (fun c => tal 5 (fun d => szk 4 (dAng (Nat.add a 2) (Nat.add b 2) (Nat.add c 2) (Nat.add d 2) 6 6))))) = true := by decide +kernel
