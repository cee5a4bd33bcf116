set_option maxRecDepth 100000
/-! the check of a body of three mirrors -/
noncomputable def lbk (T n S : Nat) (k : Nat → Nat → Bool) : Bool := lab (fun g i => t9 T (Nat.add (Nat.mul 3 g) i)) 3 (inS S) n 0 0 0 (fun A c => and (tal n (fun x => tal 3 (fun i => cond (inS S i) (Nat.beq (t9 A (t9 T (Nat.add (Nat.mul 3 x) i))) (t9 A x)) true))) (k A c))
noncomputable def lbc (b T n S : Nat) (k : Nat → Nat → Bool) : Bool := cond (Nat.beq b 1) (lbk T n S k) (k 0 0)
def dS (A r : Nat) : eb_D := (3, an4 A, r)
abbrev hdT : Type := Nat × Nat × Nat × Nat × Nat × Nat × Nat × Nat
def s3 (a b c k : Nat) : Nat := cond (Nat.beq k 2) a (cond (Nat.beq k 1) b c)
noncomputable def hcc (n T r cl NB FC PI QI SZ EC FM N P0 k2 k1 k0 F2 F1 F0 m2 m1 m0 E0 E1 E2 q0 q1 q2 k7 dg RB RZ : Nat) : Bool :=
  and (and (and (Nat.beq N (RN cl)) (Nat.beq (Nat.add (Nat.add m2 m1) m0) (RF cl))) (and (Nat.beq (Nat.add (Nat.add q0 q1) q2) (RE cl)) (Nat.beq k7 (RK cl)))) (and (and (and (Nat.ble N 128) (Nat.ble (Nat.add (Nat.add m2 m1) m0) 64)) (Nat.blt cl 30))
    (cAll n N dg (Nat.add (Nat.add m2 m1) m0) (t9 P0) (fun g i => t9 T (Nat.add (Nat.mul 3 g) i)) (inS r) (fun k => Nat.beq (s3 k2 k1 k0 k) 1) (fun k g => Nat.add (s3 0 m2 (Nat.add m2 m1) k) (t9 (s3 F2 F1 F0 k) g)) (fun k g => t9 (s3 F2 F1 F0 k) g) (fun i g => t9 (s3 E2 E1 E0 i) g) (s3 0 m2 (Nat.add m2 m1)) (fun c i => t9 NB (Nat.add (Nat.mul dg c) i)) (fun c i => t9 FC (Nat.add (Nat.mul dg c) i)) (t9 PI) (t9 QI) (t9 SZ) (t11 EC) (t11 FM) (fun c i => t9 RB (Nat.add (Nat.mul dg c) i)) (fun c i => t9 RZ (Nat.add (Nat.mul dg c) i))))
noncomputable def hcl (n T r : Nat) (D : eb_D) (k : Nat → Nat → Nat → Nat → Nat → Nat → Nat → Nat → Nat → Nat → Nat → Nat → Nat → Nat → Nat → Nat → Nat → Nat → Bool) : Bool :=
  frc (stay D 0) (fun S0 => lbk T n S0 (fun P0 N => frc (b1 (isK D 3)) (fun k2 => frc (b1 (isK D 5)) (fun k1 => frc (b1 (isK D 6)) (fun k0 => frc (stay D 3) (fun S => lbc k2 T n S (fun F2 m2 => frc (stay D 5) (fun S => lbc k1 T n S (fun F1 m1 => frc (stay D 6) (fun S => lbc k0 T n S (fun F0 m0 =>
    frc (stay D 1) (fun S => lbc (bt r 0) T n S (fun E0 q0 => frc (stay D 2) (fun S => lbc (bt r 1) T n S (fun E1 q1 => frc (stay D 4) (fun S => lbc (bt r 2) T n S (fun E2 q2 => frc (b1 (isK D 7)) (fun k7 =>
      and (and (Nat.beq (b1 (isK D 1)) (bt r 0)) (and (Nat.beq (b1 (isK D 2)) (bt r 1)) (Nat.beq (b1 (isK D 4)) (bt r 2)))) (k N P0 k2 k1 k0 F2 F1 F0 m2 m1 m0 E0 E1 E2 q0 q1 q2 k7)))))))))))))))))))
noncomputable def hck (e : tE) (r : Nat) (d : hdT) : Bool := match e, d with
  | (_, A, n, T, _, _, _, _, _), (cl, NB, FC, PI, QI, SZ, EC, FM) => frc (nthL rBl cl) (fun RB => frc (nthL rZl cl) (fun RZ => frc (Rdg cl) (fun dg => hcl n T r (dS A r) (fun N P0 k2 k1 k0 F2 F1 F0 m2 m1 m0 E0 E1 E2 q0 q1 q2 k7 => hcc n T r cl NB FC PI QI SZ EC FM N P0 k2 k1 k0 F2 F1 F0 m2 m1 m0 E0 E1 E2 q0 q1 q2 k7 dg RB RZ))))
theorem hck_eq (e : tE) (r : Nat) (d : hdT) : hck e r d = frc (nthL rBl d.1) (fun RB => frc (nthL rZl d.1) (fun RZ => frc (Rdg d.1) (fun dg => hcl e.2.2.1 e.2.2.2.1 r (dS e.2.1 r) (fun N P0 k2 k1 k0 F2 F1 F0 m2 m1 m0 E0 E1 E2 q0 q1 q2 k7 => hcc e.2.2.1 e.2.2.2.1 r d.1 d.2.1 d.2.2.1 d.2.2.2.1 d.2.2.2.2.1 d.2.2.2.2.2.1 d.2.2.2.2.2.2.1 d.2.2.2.2.2.2.2 N P0 k2 k1 k0 F2 F1 F0 m2 m1 m0 E0 E1 E2 q0 q1 q2 k7 dg RB RZ)))) := by
  obtain ⟨x, A, n, T, PAR, LAS, LEN, IM, JM⟩ := e
  obtain ⟨cl, NB, FC, PI, QI, SZ, EC, FM⟩ := d
  rfl
theorem h7 {e : tE} {r : Nat} (h1 : 1 ≤ r) (h2 : r < 8) (a1 : ∃ d, hck e 1 d = true) (a2 : ∃ d, hck e 2 d = true) (a3 : ∃ d, hck e 3 d = true) (a4 : ∃ d, hck e 4 d = true) (a5 : ∃ d, hck e 5 d = true) (a6 : ∃ d, hck e 6 d = true) (a7 : ∃ d, hck e 7 d = true) : ∃ d, hck e r d = true := by
  have : r = 1 ∨ r = 2 ∨ r = 3 ∨ r = 4 ∨ r = 5 ∨ r = 6 ∨ r = 7 := by omega
  rcases this with z | z | z | z | z | z | z
  · rw [z]; exact a1
  · rw [z]; exact a2
  · rw [z]; exact a3
  · rw [z]; exact a4
  · rw [z]; exact a5
  · rw [z]; exact a6
  · rw [z]; exact a7
