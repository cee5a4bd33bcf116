set_option maxRecDepth 100000
theorem nI_eqZ (a : Nat) : nI a = Int32.ofInt (a : Int) := rfl
theorem nI_mul (a b : Nat) : nI a * nI b = nI (a * b) := by
  rw [nI_eqZ, nI_eqZ, nI_eqZ, ← Int32.ofInt_mul, Int.natCast_mul]
theorem nI_sub {a b : Nat} (h : b ≤ a) : nI a - nI b = nI (a - b) := by
  rw [nI_eqZ, nI_eqZ, nI_eqZ, ← Int32.ofInt_sub, Int.ofNat_sub h]
theorem nI_div {a b : Nat} (ha : a < 2147483648) (hb : b < 2147483648) : nI a / nI b = nI (a / b) := by
  rw [nI_eqZ, nI_eqZ, nI_eqZ, ← Int32.ofInt_tdiv (by show (-2147483648 : Int) ≤ _; omega) (by show _ ≤ (2147483647 : Int); omega) (by show (-2147483648 : Int) ≤ _; omega) (by show _ ≤ (2147483647 : Int); omega)]
  rfl
theorem nI_rem {a b : Nat} (ha : a < 2147483648) (hb : b < 2147483648) : eb_rem (nI a) (nI b) = nI (a % b) := by
  unfold eb_rem
  rw [nI_div ha hb, nI_mul, nI_sub (Nat.div_mul_le_self a b)]
  congr 1
  have := Nat.mod_add_div a b
  rw [Nat.mul_comm] at this
  omega
theorem nI_m1 {a : Nat} (h : a < 2147483648) : ¬ nI a = -1 := by
  intro z
  have e := congrArg Int32.toInt z
  rw [nI_toInt h] at e
  have : (-1 : Int32).toInt = -1 := by decide
  omega
theorem nI_m1' {a : Nat} (h : a < 2147483648) : ¬ -1 = nI a := fun z => nI_m1 h z.symm
theorem nI_neg {a : Nat} (h : a < 2147483648) : ¬ nI a < 0 := nI_pos h
theorem vp_inN {i n : Nat} (h : i < n) (hn : n < 2147483648) : vp_in (nI i) n := nI_in h hn
theorem nI_cl {a : Nat} (h : a < 2147483648) : (nI a).toNatClampNeg = a := nI_clamp h
theorem nI_eqI {a b : Nat} (ha : a < 2147483648) (hb : b < 2147483648) : (nI a = nI b) = (a = b) := propext (nI_eq ha hb)
theorem nI_leE {a b : Nat} (ha : a < 2147483648) (hb : b < 2147483648) : (nI a ≤ nI b) = (a ≤ b) := propext (nI_leI ha hb)
theorem nI_ltE {a b : Nat} (ha : a < 2147483648) (hb : b < 2147483648) : (nI a < nI b) = (a < b) := propext (nI_ltI ha hb)

theorem nL_0 : (0 : Int32) = nI 0 := rfl
theorem nL_1 : (1 : Int32) = nI 1 := rfl
theorem nL_2 : (2 : Int32) = nI 2 := rfl
theorem nL_3 : (3 : Int32) = nI 3 := rfl
theorem nL_4 : (4 : Int32) = nI 4 := rfl
theorem nL_5 : (5 : Int32) = nI 5 := rfl
theorem nL_6 : (6 : Int32) = nI 6 := rfl
theorem nL_7 : (7 : Int32) = nI 7 := rfl
theorem nL_8 : (8 : Int32) = nI 8 := rfl
theorem nL_9 : (9 : Int32) = nI 9 := rfl
theorem nL_10 : (10 : Int32) = nI 10 := rfl
theorem nL_12 : (12 : Int32) = nI 12 := rfl
theorem nL_15 : (15 : Int32) = nI 15 := rfl
theorem nL_16 : (16 : Int32) = nI 16 := rfl
theorem nL_24 : (24 : Int32) = nI 24 := rfl
theorem nL_25 : (25 : Int32) = nI 25 := rfl
theorem nL_30 : (30 : Int32) = nI 30 := rfl
theorem nL_31 : (31 : Int32) = nI 31 := rfl
theorem nL_32 : (32 : Int32) = nI 32 := rfl
theorem nL_48 : (48 : Int32) = nI 48 := rfl
theorem nL_64 : (64 : Int32) = nI 64 := rfl
theorem nL_120 : (120 : Int32) = nI 120 := rfl
theorem nL_121 : (121 : Int32) = nI 121 := rfl
theorem nL_150 : (150 : Int32) = nI 150 := rfl
theorem nL_192 : (192 : Int32) = nI 192 := rfl
theorem nL_210 : (210 : Int32) = nI 210 := rfl
theorem nL_241 : (241 : Int32) = nI 241 := rfl
theorem nL_384 : (384 : Int32) = nI 384 := rfl
theorem nL_500 : (500 : Int32) = nI 500 := rfl
theorem nL_601 : (601 : Int32) = nI 601 := rfl
theorem nL_1152 : (1152 : Int32) = nI 1152 := rfl
theorem nL_1200 : (1200 : Int32) = nI 1200 := rfl
theorem nL_1201 : (1201 : Int32) = nI 1201 := rfl
theorem nL_1500 : (1500 : Int32) = nI 1500 := rfl
theorem nL_2000 : (2000 : Int32) = nI 2000 := rfl
theorem nL_2048 : (2048 : Int32) = nI 2048 := rfl
theorem nL_8000 : (8000 : Int32) = nI 8000 := rfl
theorem nL_14400 : (14400 : Int32) = nI 14400 := rfl
theorem nL_250000 : (250000 : Int32) = nI 250000 := rfl
/-- any int: below 0, or a whole number -/
theorem nI_or (x : Int32) : x < 0 ∨ ∃ a : Nat, a < 2147483648 ∧ x = nI a := by
  by_cases h : x < 0
  · exact Or.inl h
  · exact Or.inr (nI_of h)
theorem nI_sgn {x : Int32} {a : Nat} (h : x < 0) (ha : a < 2147483648) : (x < nI a) ∧ ¬ (nI a ≤ x) ∧ ¬ (x = nI a) ∧ ¬ (nI a < x) := by
  have h1 : x.toInt < 0 := by
    have := Int32.lt_iff_toInt_lt.mp h
    simpa using this
  have h2 := nI_toInt ha
  refine ⟨Int32.lt_iff_toInt_lt.mpr (by omega), fun z => ?_, fun z => ?_, fun z => ?_⟩
  · have := Int32.le_iff_toInt_le.mp z; omega
  · rw [z, h2] at h1; omega
  · have := Int32.lt_iff_toInt_lt.mp z; omega
/-- the store: what was written, what was not -/
theorem eb_up_eq {st : eb_S} {a : Nat} {e : va_E} : eb_up st a e a = some e := by unfold eb_up; rw [if_pos rfl]
theorem eb_up_ne {st : eb_S} {a b : Nat} {e : va_E} (h : b ≠ a) : eb_up st a e b = st b := by unfold eb_up; rw [if_neg h]
theorem eb_up_some {st : eb_S} {a b : Nat} {e x : va_E} (h : st b = some x) (hne : b ≠ a) : eb_up st a e b = some x := by rw [eb_up_ne hne]; exact h

