set_option maxRecDepth 100000
/-! bodies of three mirrors: how faces stand round corners; a check for the kernel -/
/-- one row of a packed table of marks -/
def mrow (M w c : Nat) : Nat := Nat.land (Nat.shiftRight M (Nat.mul w c)) (Nat.sub (Nat.pow 2 w) 1)
theorem mrow_bit (M w c x : Nat) (hx : x < w) : Nat.testBit (mrow M w c) x = Nat.testBit M (w * c + x) := by
  show Nat.testBit ((M >>> (w * c)) &&& (2 ^ w - 1)) x = _
  rw [Nat.testBit_and, Nat.testBit_two_pow_sub_one, Nat.testBit_shiftRight, decide_eq_true hx, Bool.and_true]
theorem mrow_out (M w c x : Nat) (hx : ¬ x < w) : Nat.testBit (mrow M w c) x = false := by
  show Nat.testBit ((M >>> (w * c)) &&& (2 ^ w - 1)) x = _
  rw [Nat.testBit_and, Nat.testBit_two_pow_sub_one, decide_eq_false hx, Bool.and_false]
theorem dc_w {w a b c d : Nat} (hb : b < w) (hd : d < w) (h : w * a + b = w * c + d) : a = c ∧ b = d := by
  have h1 : a = c := by
    have e1 : (w * a + b) / w = a := by rw [Nat.mul_add_div (by omega), Nat.div_eq_of_lt hb]; rfl
    have e2 : (w * c + d) / w = c := by rw [Nat.mul_add_div (by omega), Nat.div_eq_of_lt hd]; rfl
    rw [← e1, ← e2, h]
  subst h1
  omega
/-- marks by two numbers -/
noncomputable def mk2 (n w : Nat) (ok : Nat → Nat → Bool) (a b : Nat → Nat → Nat) : Nat := orN (fun g => orN (fun k => cond (ok g k) (Nat.shiftLeft 1 (Nat.add (Nat.mul w (a g k)) (b g k))) 0) 3) n
theorem or_bit {f : Nat → Nat} {ok : Nat → Bool} {d n : Nat} : Nat.testBit (orN (fun k => cond (ok k) (Nat.shiftLeft 1 (f k)) 0) n) d = true ↔ ∃ k, k < n ∧ ok k = true ∧ f k = d := by
  rw [orN_bit]
  constructor
  · rintro ⟨k, hk, h⟩
    cases e : ok k with
    | false => rw [e] at h; exact absurd ((Nat.zero_testBit d).symm.trans h) (by decide)
    | true => rw [e] at h; exact ⟨k, hk, e, (bit_sl _ _).mp h⟩
  · rintro ⟨k, hk, e, h⟩
    refine ⟨k, hk, ?_⟩
    rw [e]
    exact (bit_sl _ _).mpr h
theorem mk2_bit {n w : Nat} {ok : Nat → Nat → Bool} {a b : Nat → Nat → Nat} {d : Nat} : Nat.testBit (mk2 n w ok a b) d = true ↔ ∃ g k, g < n ∧ k < 3 ∧ ok g k = true ∧ w * a g k + b g k = d := by
  unfold mk2
  rw [orN_bit]
  constructor
  · rintro ⟨g, hg, h⟩
    obtain ⟨k, hk, h1, h2⟩ := or_bit.mp h
    exact ⟨g, k, hg, hk, h1, h2⟩
  · rintro ⟨g, k, hg, hk, h1, h2⟩
    exact ⟨g, hg, or_bit.mpr ⟨k, hk, h1, h2⟩⟩
theorem mk2_row {n w : Nat} {ok : Nat → Nat → Bool} {a b : Nat → Nat → Nat} (hb : ∀ g k, g < n → k < 3 → ok g k = true → b g k < w) {c d : Nat} : Nat.testBit (mrow (mk2 n w ok a b) w c) d = true ↔ ∃ g k, g < n ∧ k < 3 ∧ ok g k = true ∧ a g k = c ∧ b g k = d := by
  by_cases hd : d < w
  · rw [mrow_bit _ _ _ _ hd, mk2_bit]
    constructor
    · rintro ⟨g, k, hg, hk, h1, h2⟩
      obtain ⟨e1, e2⟩ := dc_w (hb g k hg hk h1) hd h2
      exact ⟨g, k, hg, hk, h1, e1, e2⟩
    · rintro ⟨g, k, hg, hk, h1, e1, e2⟩
      exact ⟨g, k, hg, hk, h1, by rw [e1, e2]⟩
  · rw [mrow_out _ _ _ _ hd]
    refine ⟨fun z => Bool.noConfusion z, fun ⟨g, k, hg, hk, h1, e1, e2⟩ => ?_⟩
    have := hb g k hg hk h1
    omega
theorem two_bit {M a b : Nat} (h : Nat.beq M (Nat.lor (Nat.shiftLeft 1 a) (Nat.shiftLeft 1 b)) = true) (d : Nat) : Nat.testBit M d = true ↔ d = a ∨ d = b := by
  rw [Nat.eq_of_beq_eq_true h]
  show Nat.testBit (Nat.shiftLeft 1 a ||| Nat.shiftLeft 1 b) d = true ↔ _
  rw [Nat.testBit_or, Bool.or_eq_true, bit_sl, bit_sl]
  exact ⟨fun z => z.imp Eq.symm Eq.symm, fun z => z.imp Eq.symm Eq.symm⟩
theorem row_bit {M n : Nat} {f : Nat → Nat} (h : Nat.beq M (orN (fun i => Nat.shiftLeft 1 (f i)) n) = true) (d : Nat) : Nat.testBit M d = true ↔ ∃ i, i < n ∧ f i = d := by
  rw [Nat.eq_of_beq_eq_true h, orN_bit]
  exact ⟨fun ⟨k, h1, h2⟩ => ⟨k, h1, (bit_sl _ _).mp h2⟩, fun ⟨k, h1, h2⟩ => ⟨k, h1, (bit_sl _ _).mpr h2⟩⟩
theorem and_bit {M M' : Nat} {d : Nat} : Nat.testBit (Nat.land M M') d = true ↔ Nat.testBit M d = true ∧ Nat.testBit M' d = true := by
  show Nat.testBit (M &&& M') d = true ↔ _
  rw [Nat.testBit_and, Bool.and_eq_true]
def prI (dg i : Nat) : Nat := Nat.mod (Nat.add i (Nat.sub dg 1)) dg
def nxI (dg i : Nat) : Nat := Nat.mod (Nat.add i 1) dg
/-- corners that are joined; faces that have a corner -/
def hJ (n : Nat) (P0 : Nat → Nat) (to : Nat → Nat → Nat) (rg : Nat → Bool) (c d : Nat) : Prop := ∃ g i, g < n ∧ i < 3 ∧ rg i = true ∧ P0 g = c ∧ P0 (to g i) = d
def hFA (n : Nat) (P0 : Nat → Nat) (kd : Nat → Bool) (Fk : Nat → Nat → Nat) (f c : Nat) : Prop := ∃ g k, g < n ∧ k < 3 ∧ kd k = true ∧ Fk k g = f ∧ P0 g = c
noncomputable def cPi (N : Nat) (pi qi : Nat → Nat) : Bool := and (Nat.beq (pi 0) 0) (tal N (fun c => and (and (Nat.blt (pi c) N) (Nat.beq (qi (pi c)) c)) (and (Nat.blt (qi c) N) (Nat.beq (pi (qi c)) c))))
noncomputable def cNb (N dg NM : Nat) (nb : Nat → Nat → Nat) (pi : Nat → Nat) (Rnb : Nat → Nat → Nat) : Bool := tal N (fun c => and (Nat.beq (mrow NM 128 c) (orN (fun i => Nat.shiftLeft 1 (nb c i)) dg)) (tal dg (fun i => and (and (Nat.blt (nb c i) N) (Nat.beq (pi (nb c i)) (Rnb (pi c) i))) (tal i (fun j => not (Nat.beq (nb c j) (nb c i)))))))
noncomputable def cSo (N dg Ft NM FM CM : Nat) (nb fc : Nat → Nat → Nat) : Bool :=
  cond (Nat.ble 3 dg) (tal N (fun c => tal dg (fun i => and (and (Nat.blt (fc c i) Ft) (not (Nat.beq (fc c i) (fc c (prI dg i))))) (and (Nat.beq (Nat.land (mrow FM 64 c) (mrow FM 64 (nb c i))) (Nat.lor (Nat.shiftLeft 1 (fc c i)) (Nat.shiftLeft 1 (fc c (prI dg i))))) (Nat.beq (Nat.land (mrow NM 128 c) (mrow CM 128 (fc c i))) (Nat.lor (Nat.shiftLeft 1 (nb c i)) (Nat.shiftLeft 1 (nb c (nxI dg i)))))))))
  (cond (Nat.beq dg 2) (and (Nat.beq Ft 1) (tal N (fun c => and (Nat.beq (mrow FM 64 c) 1) (tal 2 (fun i => Nat.beq (fc c i) 0))))) (and (Nat.beq dg 1) (and (Nat.beq Ft 0) (tal N (fun c => Nat.beq (fc c 0) 0)))))
noncomputable def cOr (N dg : Nat) (nb fc : Nat → Nat → Nat) : Bool := tal N (fun c => tal dg (fun i => tal dg (fun j => cond (Nat.beq (nb (nb c i) j) c) (Nat.beq (fc (nb c i) (prI dg j)) (fc c i)) true)))
noncomputable def cSz (N dg Ft CM : Nat) (fc : Nat → Nat → Nat) (pi sz : Nat → Nat) (Rsz : Nat → Nat → Nat) : Bool := and (tal Ft (fun f => and (Nat.beq (cnM (mrow CM 128 f) N) (sz f)) (Nat.ble (sz f) 12))) (cond (Nat.beq Ft 0) true (tal N (fun c => tal dg (fun i => Nat.beq (sz (fc c i)) (Rsz (pi c) i)))))
noncomputable def cEd (n : Nat) (P0 : Nat → Nat) (to : Nat → Nat → Nat) (rg kd : Nat → Bool) (Fk Ek : Nat → Nat → Nat) (FM : Nat) : Bool := tal 3 (fun i => cond (rg i) (frc (mk2 n 64 (fun _ k => and (kd k) (not (Nat.beq k i))) (fun g _ => Ek i g) (fun g k => Fk k g)) (fun EM => tal n (fun g => Nat.beq (mrow EM 64 (Ek i g)) (Nat.land (mrow FM 64 (P0 g)) (mrow FM 64 (P0 (to g i))))))) true)
/-- edges and faces at corner 0 -/
noncomputable def wEF (n : Nat) (P0 : Nat → Nat) (rg kd : Nat → Bool) (Fq Ek : Nat → Nat → Nat) (x : Nat) : Nat := orN (fun g => cond (Nat.beq (P0 g) 0) (orN (fun k => cond (and (kd k) (Nat.beq (Nat.add (Nat.mul 500 k) (Fq k g)) x)) (orN (fun i => cond (and (rg i) (not (Nat.beq i k))) (Nat.shiftLeft 1 (Nat.add (Nat.mul 500 i) (Ek i g))) 0) 3) 0) 3) 0) n
noncomputable def cWk (n dg : Nat) (P0 : Nat → Nat) (rg kd : Nat → Bool) (Fq Ek : Nat → Nat → Nat) (off : Nat → Nat) (fc0 ec fm : Nat → Nat) : Bool :=
  tal dg (fun j => and (and (Nat.beq (wEF n P0 rg kd Fq Ek (fm j)) (Nat.lor (Nat.shiftLeft 1 (ec j)) (Nat.shiftLeft 1 (ec (nxI dg j))))) (Nat.beq (wEF n P0 kd rg Ek Fq (ec j)) (Nat.lor (Nat.shiftLeft 1 (fm j)) (Nat.shiftLeft 1 (fm (prI dg j))))))
    (and (tal j (fun i => not (Nat.beq (ec i) (ec j)))) (and (and (Nat.blt (Nat.div (fm j) 500) 3) (kd (Nat.div (fm j) 500))) (Nat.beq (Nat.add (off (Nat.div (fm j) 500)) (Nat.mod (fm j) 500)) (fc0 j)))))
noncomputable def cAll (n N dg Ft : Nat) (P0 : Nat → Nat) (to : Nat → Nat → Nat) (rg kd : Nat → Bool) (Fk Fq Ek : Nat → Nat → Nat) (off : Nat → Nat) (nb fc : Nat → Nat → Nat) (pi qi sz ec fm : Nat → Nat) (Rnb Rsz : Nat → Nat → Nat) : Bool :=
  frc (mk2 n 128 (fun _ i => rg i) (fun g _ => P0 g) (fun g i => P0 (to g i))) (fun NM => frc (mk2 n 64 (fun _ k => kd k) (fun g _ => P0 g) (fun g k => Fk k g)) (fun FM => frc (mk2 n 128 (fun _ k => kd k) (fun g k => Fk k g) (fun g _ => P0 g)) (fun CM =>
    and (and (cPi N pi qi) (cNb N dg NM nb pi Rnb)) (and (and (cSo N dg Ft NM FM CM nb fc) (cOr N dg nb fc)) (and (and (cond (Nat.beq Ft 0) true (Nat.beq (mrow FM 64 0) (orN (fun i => Nat.shiftLeft 1 (fc 0 i)) dg))) (cSz N dg Ft CM fc pi sz Rsz)) (and (cEd n P0 to rg kd Fk Ek FM) (cond (Nat.beq Ft 0) true (cWk n dg P0 rg kd Fq Ek off (fc 0) ec fm))))))))
/-- what the check tells -/
def hRS (n N dg Ft : Nat) (P0 : Nat → Nat) (to : Nat → Nat → Nat) (rg kd : Nat → Bool) (Fk Fq Ek : Nat → Nat → Nat) (off : Nat → Nat) (nb fc : Nat → Nat → Nat) (pi qi sz ec fm : Nat → Nat) (Rnb Rsz : Nat → Nat → Nat) : Prop :=
  (pi 0 = 0 ∧ ∀ c, c < N → (pi c < N ∧ qi (pi c) = c) ∧ qi c < N ∧ pi (qi c) = c) ∧
  (∀ c i, c < N → i < dg → nb c i < N ∧ pi (nb c i) = Rnb (pi c) i ∧ ∀ j, j < i → ¬ nb c j = nb c i) ∧
  (∀ c d, c < N → (hJ n P0 to rg c d ↔ ∃ i, i < dg ∧ nb c i = d)) ∧
  (3 ≤ dg → ∀ c i, c < N → i < dg → fc c i < Ft ∧ ¬ fc c i = fc c (prI dg i) ∧ (∀ f, hFA n P0 kd Fk f c ∧ hFA n P0 kd Fk f (nb c i) ↔ f = fc c i ∨ f = fc c (prI dg i)) ∧ ∀ d, hJ n P0 to rg c d ∧ hFA n P0 kd Fk (fc c i) d ↔ d = nb c i ∨ d = nb c (nxI dg i)) ∧
  (¬ 3 ≤ dg → (dg = 2 ∧ Ft = 1 ∧ ∀ c, c < N → (∀ f, hFA n P0 kd Fk f c ↔ f = 0) ∧ ∀ i, i < 2 → fc c i = 0) ∨ (dg = 1 ∧ Ft = 0 ∧ ∀ c, c < N → fc c 0 = 0)) ∧
  (∀ c i j, c < N → i < dg → j < dg → nb (nb c i) j = c → fc (nb c i) (prI dg j) = fc c i) ∧
  (¬ Ft = 0 → ∀ f, hFA n P0 kd Fk f 0 ↔ ∃ i, i < dg ∧ fc 0 i = f) ∧
  (∀ f, f < Ft → sz f ≤ 12 ∧ ∃ B : Nat → Bool, (∀ c, B c = true ↔ hFA n P0 kd Fk f c) ∧ cnB B N = sz f) ∧
  (¬ Ft = 0 → ∀ c i, c < N → i < dg → sz (fc c i) = Rsz (pi c) i) ∧
  (∀ i g, i < 3 → rg i = true → g < n → ∀ f, (∃ h k, h < n ∧ k < 3 ∧ kd k = true ∧ ¬ k = i ∧ Ek i h = Ek i g ∧ Fk k h = f) ↔ hFA n P0 kd Fk f (P0 g) ∧ hFA n P0 kd Fk f (P0 (to g i))) ∧
  (¬ Ft = 0 → ∀ j, j < dg → (∀ y, (∃ g k i, g < n ∧ k < 3 ∧ i < 3 ∧ kd k = true ∧ rg i = true ∧ ¬ i = k ∧ P0 g = 0 ∧ 500 * k + Fq k g = fm j ∧ 500 * i + Ek i g = y) ↔ y = ec j ∨ y = ec (nxI dg j)) ∧
    (∀ y, (∃ g i k, g < n ∧ i < 3 ∧ k < 3 ∧ rg i = true ∧ kd k = true ∧ ¬ k = i ∧ P0 g = 0 ∧ 500 * i + Ek i g = ec j ∧ 500 * k + Fq k g = y) ↔ y = fm j ∨ y = fm (prI dg j)) ∧ (∀ i, i < j → ¬ ec i = ec j) ∧ fm j / 500 < 3 ∧ kd (fm j / 500) = true ∧ off (fm j / 500) + fm j % 500 = fc 0 j)
theorem wEF_bit {n : Nat} {P0 : Nat → Nat} {rg kd : Nat → Bool} {Fq Ek : Nat → Nat → Nat} {x y : Nat} : Nat.testBit (wEF n P0 rg kd Fq Ek x) y = true ↔ ∃ g k i, g < n ∧ k < 3 ∧ i < 3 ∧ kd k = true ∧ rg i = true ∧ ¬ i = k ∧ P0 g = 0 ∧ 500 * k + Fq k g = x ∧ 500 * i + Ek i g = y := by
  unfold wEF
  have z0 : ∀ {b : Bool} {M : Nat}, Nat.testBit (cond b M 0) y = true ↔ b = true ∧ Nat.testBit M y = true := fun {b M} => by
    cases b with
    | false => exact ⟨fun z => absurd ((Nat.zero_testBit y).symm.trans z) (by decide), fun z => Bool.noConfusion z.1⟩
    | true => exact ⟨fun z => ⟨rfl, z⟩, fun z => z.2⟩
  rw [orN_bit]
  constructor
  · rintro ⟨g, hg, h⟩
    obtain ⟨h1, h⟩ := z0.mp h
    obtain ⟨k, hk, h⟩ := (orN_bit 3).mp h
    obtain ⟨h2, h⟩ := z0.mp h
    rw [Bool.and_eq_true] at h2
    obtain ⟨i, hi, h3, h4⟩ := or_bit.mp h
    rw [Bool.and_eq_true] at h3
    refine ⟨g, k, i, hg, hk, hi, h2.1, h3.1, fun e => ?_, Nat.eq_of_beq_eq_true h1, Nat.eq_of_beq_eq_true h2.2, h4⟩
    rw [nbT e] at h3
    exact absurd h3.2 (by decide)
  · rintro ⟨g, k, i, hg, hk, hi, h1, h2, h3, h4, h5, h6⟩
    refine ⟨g, hg, z0.mpr ⟨nbT h4, (orN_bit 3).mpr ⟨k, hk, z0.mpr ⟨?_, or_bit.mpr ⟨i, hi, ?_, h6⟩⟩⟩⟩⟩
    · rw [Bool.and_eq_true]; exact ⟨h1, nbT h5⟩
    · rw [Bool.and_eq_true, nbF h3]; exact ⟨h2, rfl⟩
theorem not_b {a b : Nat} (h : (not (Nat.beq a b)) = true) : ¬ a = b := fun e => by rw [nbT e] at h; exact absurd h (by decide)
theorem cAll_ok {n N dg Ft : Nat} {P0 : Nat → Nat} {to : Nat → Nat → Nat} {rg kd : Nat → Bool} {Fk Fq Ek : Nat → Nat → Nat} {off : Nat → Nat} {nb fc : Nat → Nat → Nat} {pi qi sz ec fm : Nat → Nat} {Rnb Rsz : Nat → Nat → Nat}
    (hP : ∀ g, g < n → P0 g < 128) (ht : ∀ g i, g < n → i < 3 → to g i < n) (hF : ∀ g k, g < n → k < 3 → kd k = true → Fk k g < 64)
    (h : cAll n N dg Ft P0 to rg kd Fk Fq Ek off nb fc pi qi sz ec fm Rnb Rsz = true) : hRS n N dg Ft P0 to rg kd Fk Fq Ek off nb fc pi qi sz ec fm Rnb Rsz := by
  unfold cAll at h
  rw [frc_eq, frc_eq, frc_eq] at h
  have bN : ∀ c d, Nat.testBit (mrow (mk2 n 128 (fun _ i => rg i) (fun g _ => P0 g) (fun g i => P0 (to g i))) 128 c) d = true ↔ hJ n P0 to rg c d := fun c d => mk2_row (fun g k hg hk _ => hP _ (ht g k hg hk))
  have bF : ∀ c f, Nat.testBit (mrow (mk2 n 64 (fun _ k => kd k) (fun g _ => P0 g) (fun g k => Fk k g)) 64 c) f = true ↔ hFA n P0 kd Fk f c := fun c f => (mk2_row (fun g k hg hk hk' => hF g k hg hk hk')).trans ⟨fun ⟨g, k, z1, z2, z3, z4, z5⟩ => ⟨g, k, z1, z2, z3, z5, z4⟩, fun ⟨g, k, z1, z2, z3, z4, z5⟩ => ⟨g, k, z1, z2, z3, z5, z4⟩⟩
  have bC : ∀ f c, Nat.testBit (mrow (mk2 n 128 (fun _ k => kd k) (fun g k => Fk k g) (fun g _ => P0 g)) 128 f) c = true ↔ hFA n P0 kd Fk f c := fun f c => mk2_row (fun g k hg hk _ => hP g hg)
  generalize mk2 n 128 (fun _ i => rg i) (fun g _ => P0 g) (fun g i => P0 (to g i)) = NM at h bN
  generalize mk2 n 64 (fun _ k => kd k) (fun g _ => P0 g) (fun g k => Fk k g) = FM at h bF
  generalize mk2 n 128 (fun _ k => kd k) (fun g k => Fk k g) (fun g _ => P0 g) = CM at h bC
  rw [Bool.and_eq_true, Bool.and_eq_true, Bool.and_eq_true, Bool.and_eq_true, Bool.and_eq_true, Bool.and_eq_true, Bool.and_eq_true] at h
  obtain ⟨⟨k1, k2⟩, ⟨k3, k4⟩, ⟨k5, k6⟩, k7, k8⟩ := h
  refine ⟨?_, ?_, ?_, ?_, ?_, ?_, ?_, ?_, ?_, ?_, ?_⟩
  · unfold cPi at k1
    rw [Bool.and_eq_true] at k1
    refine ⟨Nat.eq_of_beq_eq_true k1.1, fun c hc => ?_⟩
    have q := tal_spec k1.2 c hc
    rw [Bool.and_eq_true, Bool.and_eq_true, Bool.and_eq_true] at q
    exact ⟨⟨Nat.le_of_ble_eq_true q.1.1, Nat.eq_of_beq_eq_true q.1.2⟩, Nat.le_of_ble_eq_true q.2.1, Nat.eq_of_beq_eq_true q.2.2⟩
  · intro c i hc hi
    unfold cNb at k2
    have q := tal_spec k2 c hc
    rw [Bool.and_eq_true] at q
    have q2 := tal_spec q.2 i hi
    rw [Bool.and_eq_true, Bool.and_eq_true] at q2
    exact ⟨Nat.le_of_ble_eq_true q2.1.1, Nat.eq_of_beq_eq_true q2.1.2, fun j hj => not_b (tal_spec q2.2 j hj)⟩
  · intro c d hc
    unfold cNb at k2
    have q := tal_spec k2 c hc
    rw [Bool.and_eq_true] at q
    rw [← bN c d, row_bit q.1 d]
  · intro h3 c i hc hi
    unfold cSo at k3
    rw [show Nat.ble 3 dg = true from Nat.ble_eq_true_of_le h3] at k3
    have q := tal_spec (tal_spec (n := N) k3 c hc) i hi
    rw [Bool.and_eq_true, Bool.and_eq_true, Bool.and_eq_true] at q
    refine ⟨Nat.le_of_ble_eq_true q.1.1, not_b q.1.2, fun f => ?_, fun d => ?_⟩
    · rw [← two_bit q.2.1 f, and_bit, bF, bF]
    · rw [← two_bit q.2.2 d, and_bit, bN, bC]
  · intro h3
    unfold cSo at k3
    rw [show Nat.ble 3 dg = false from by cases e : Nat.ble 3 dg with | false => rfl | true => exact absurd (Nat.le_of_ble_eq_true e) h3] at k3
    have k3' : cond (Nat.beq dg 2) (and (Nat.beq Ft 1) (tal N (fun c => and (Nat.beq (mrow FM 64 c) 1) (tal 2 (fun i => Nat.beq (fc c i) 0))))) (and (Nat.beq dg 1) (and (Nat.beq Ft 0) (tal N (fun c => Nat.beq (fc c 0) 0)))) = true := k3
    by_cases e2 : dg = 2
    · left
      rw [nbT e2] at k3'
      have k4' : and (Nat.beq Ft 1) (tal N (fun c => and (Nat.beq (mrow FM 64 c) 1) (tal 2 (fun i => Nat.beq (fc c i) 0)))) = true := k3'
      rw [Bool.and_eq_true] at k4'
      refine ⟨e2, Nat.eq_of_beq_eq_true k4'.1, fun c hc => ?_⟩
      have q := tal_spec k4'.2 c hc
      rw [Bool.and_eq_true] at q
      refine ⟨fun f => ?_, fun i hi => Nat.eq_of_beq_eq_true (tal_spec q.2 i hi)⟩
      rw [← bF c f, Nat.eq_of_beq_eq_true q.1]
      have := bit_sl 0 f
      rw [show Nat.shiftLeft 1 0 = 1 from rfl] at this
      rw [this]
      exact ⟨Eq.symm, Eq.symm⟩
    · right
      rw [nbF e2] at k3'
      have k4' : and (Nat.beq dg 1) (and (Nat.beq Ft 0) (tal N (fun c => Nat.beq (fc c 0) 0))) = true := k3'
      rw [Bool.and_eq_true, Bool.and_eq_true] at k4'
      exact ⟨Nat.eq_of_beq_eq_true k4'.1, Nat.eq_of_beq_eq_true k4'.2.1, fun c hc => Nat.eq_of_beq_eq_true (tal_spec k4'.2.2 c hc)⟩
  · intro c i j hc hi hj e
    unfold cOr at k4
    have q := tal_spec (tal_spec (tal_spec k4 c hc) i hi) j hj
    rw [nbT e] at q
    exact Nat.eq_of_beq_eq_true q
  · intro hF0 f
    rw [nbF hF0] at k5
    have k5' : Nat.beq (mrow FM 64 0) (orN (fun i => Nat.shiftLeft 1 (fc 0 i)) dg) = true := k5
    rw [← bF 0 f, row_bit k5' f]
  · intro f hf
    unfold cSz at k6
    rw [Bool.and_eq_true] at k6
    have q := tal_spec k6.1 f hf
    rw [Bool.and_eq_true] at q
    refine ⟨Nat.le_of_ble_eq_true q.2, Nat.testBit (mrow CM 128 f), fun c => bC f c, ?_⟩
    rw [← cnM_eq]
    exact Nat.eq_of_beq_eq_true q.1
  · intro hF0 c i hc hi
    unfold cSz at k6
    rw [Bool.and_eq_true, nbF hF0] at k6
    exact Nat.eq_of_beq_eq_true (tal_spec (tal_spec (n := N) k6.2 c hc) i hi)
  · intro i g hi hr hg f
    unfold cEd at k7
    have q := tal_spec k7 i hi
    rw [hr] at q
    have q' : frc (mk2 n 64 (fun _ k => and (kd k) (not (Nat.beq k i))) (fun g _ => Ek i g) (fun g k => Fk k g)) (fun EM => tal n (fun g => Nat.beq (mrow EM 64 (Ek i g)) (Nat.land (mrow FM 64 (P0 g)) (mrow FM 64 (P0 (to g i)))))) = true := q
    rw [frc_eq] at q'
    have q2 := Nat.eq_of_beq_eq_true (tal_spec q' g hg)
    rw [← bF _ f, ← bF _ f, ← and_bit, ← q2]
    rw [mk2_row (fun g k hg hk h' => by rw [Bool.and_eq_true] at h'; exact hF g k hg hk h'.1)]
    constructor
    · rintro ⟨h, k, z1, z2, z3, z4, z5, z6⟩
      exact ⟨h, k, z1, z2, by rw [z3, nbF z4]; rfl, z5, z6⟩
    · rintro ⟨h, k, z1, z2, z3, z5, z6⟩
      rw [Bool.and_eq_true] at z3
      exact ⟨h, k, z1, z2, z3.1, not_b z3.2, z5, z6⟩
  · intro hF0 j hj
    rw [nbF hF0] at k8
    have k8' : cWk n dg P0 rg kd Fq Ek off (fc 0) ec fm = true := k8
    unfold cWk at k8'
    have q := tal_spec k8' j hj
    rw [Bool.and_eq_true, Bool.and_eq_true, Bool.and_eq_true, Bool.and_eq_true, Bool.and_eq_true] at q
    refine ⟨fun y => ?_, fun y => ?_, fun i hi => not_b (tal_spec q.2.1 i hi), Nat.le_of_ble_eq_true q.2.2.1.1, q.2.2.1.2, Nat.eq_of_beq_eq_true q.2.2.2⟩
    · rw [← wEF_bit, two_bit q.1.1 y]
    · rw [← wEF_bit, two_bit q.1.2 y]
