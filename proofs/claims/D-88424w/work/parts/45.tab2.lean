set_option maxRecDepth 100000
/-! a table's facts -/
def Tto (e : tE) (g i : Nat) : Nat := t9 e.2.2.2.1 (e.1 * g + i)
def Tpar (e : tE) (x : Nat) : Nat := t9 e.2.2.2.2.1 x
def Tlas (e : tE) (x : Nat) : Nat := t2 e.2.2.2.2.2.1 x
def Tlen (e : tE) (x : Nat) : Nat := t5 e.2.2.2.2.2.2.1 x
def TI (e : tE) (x k : Nat) : Nat := t8 e.2.2.2.2.2.2.2.1 (16 * x + k)
def TJ (e : tE) (x k : Nat) : Nat := t11 e.2.2.2.2.2.2.2.2 (e.1 * e.1 * x + k)
def tG (e : tE) : Prop :=
  ((1 ≤ e.1 ∧ e.1 ≤ 4) ∧ (1 ≤ e.2.2.1 ∧ e.2.2.1 ≤ 500)) ∧
  (∀ g, g < e.2.2.1 → ∀ i, i < e.1 → Tto e g i < e.2.2.1 ∧ Tto e (Tto e g i) i = g ∧ (Tlen e g + Tlen e (Tto e g i)) % 2 = 1 ∧ (Tto e g i = 0 ∨ e.1 * Tpar e (Tto e g i) + Tlas e (Tto e g i) ≤ e.1 * g + i)) ∧
  (Tlen e 0 = 0 ∧ ∀ y, y + 1 < e.2.2.1 → Tpar e (y + 1) ≤ y ∧ Tlas e (y + 1) < e.1 ∧ Tto e (Tpar e (y + 1)) (Tlas e (y + 1)) = y + 1 ∧ (Tlen e (y + 1) = Tlen e (Tpar e (y + 1)) + 1 ∧ Tlen e (y + 1) ≤ 16) ∧ (y = 0 ∨ e.1 * Tpar e y + Tlas e y < e.1 * Tpar e (y + 1) + Tlas e (y + 1))) ∧
  ((∀ k, k < 16 → TI e 0 k = cond (Nat.beq (k / 4) (k % 4)) 1 0) ∧ (∀ y, y + 1 < e.2.2.1 → ¬ ∀ k, k < 16 → TI e (y + 1) k = TI e 0 k) ∧ ∀ g, g < e.2.2.1 → ∀ i, i < e.1 → ∀ j, j < 4 → ∀ k, k < 4 → TI e (Tto e g i) (4 * j + k) = tMstep e.1 e.2.1 (TI e g) i j k) ∧
  (∀ a, a < e.1 → ∀ c, c < e.1 → TJ e 0 (e.1 * a + c) = cond (Nat.beq a c) 1 0) ∧ (∀ y, y + 1 < e.2.2.1 → ¬ ∀ k, k < e.1 * e.1 → TJ e (y + 1) k = TJ e 0 k) ∧
  ∀ g, g < e.2.2.1 → ∀ i, i < e.1 → (¬ ∀ a, a < e.1 → TJ e (Tto e g i) (e.1 * a + i) = TJ e g (e.1 * a + i)) ∧ ∀ a, a < e.1 → ∀ c, c < e.1 → TJ e (Tto e g i) (e.1 * a + c) = cond (Nat.beq c i) (tCcol e.1 e.2.1 (TJ e g) i a) (TJ e g (e.1 * a + c))
theorem dig_eq {x y : Nat} : ∀ m, (∀ k, k < m → x / 256 ^ k % 256 = y / 256 ^ k % 256) → x % 256 ^ m = y % 256 ^ m := by
  intro m
  induction m with
  | zero => intro _; rw [Nat.pow_zero, Nat.mod_one, Nat.mod_one]
  | succ m ih =>
    intro h
    rw [Nat.pow_succ, Nat.mod_mul, Nat.mod_mul, ih (fun k hk => h k (by omega)), h m (by omega)]
theorem t8_eq (N k : Nat) : t8 N k = N / 256 ^ k % 256 := by
  show (N >>> (8 * k)) &&& 255 = _
  rw [Nat.shiftRight_eq_div_pow, show (255 : Nat) = 2 ^ 8 - 1 from rfl, Nat.and_two_pow_sub_one_eq_mod, Nat.pow_mul]
theorem chunk_eq {N x : Nat} (h : ∀ k, k < 16 → t8 N (16 * x + k) = t8 N k) : Nat.land (Nat.shiftRight N (Nat.mul 128 x)) 0xffffffffffffffffffffffffffffffff = Nat.land N 0xffffffffffffffffffffffffffffffff := by
  show (N >>> (128 * x)) &&& (2 ^ 128 - 1) = N &&& (2 ^ 128 - 1)
  rw [Nat.and_two_pow_sub_one_eq_mod, Nat.and_two_pow_sub_one_eq_mod, Nat.shiftRight_eq_div_pow]
  have e : (2 : Nat) ^ 128 = 256 ^ 16 := by decide
  rw [e]
  refine dig_eq 16 (fun k hk => ?_)
  have := h k hk
  rw [t8_eq, t8_eq] at this
  rw [← this, Nat.div_div_eq_div_mul, show (2 : Nat) ^ (128 * x) * 256 ^ k = 256 ^ (16 * x + k) by
    rw [Nat.pow_add, show 128 * x = 8 * (16 * x) by omega, Nat.pow_mul 2 8]]
theorem beqE {a b : Nat} (h : Nat.beq a b = true) : a = b := Nat.eq_of_beq_eq_true h
theorem tchk_spec {e : tE} (h : tchk e = true) : tG e := by
  obtain ⟨r, A, n, TO, PAR, LAS, LEN, IM, JM⟩ := e
  unfold tchk at h
  simp only [Bool.and_eq_true] at h
  obtain ⟨⟨h1, h2⟩, ⟨h3, h4⟩, h5, ⟨h6, h7⟩, ⟨h8, h9, h10⟩, h11, h12, h13⟩ := h
  refine ⟨⟨⟨Nat.le_of_ble_eq_true h1, Nat.le_of_ble_eq_true h2⟩, Nat.le_of_ble_eq_true h3, Nat.le_of_ble_eq_true h4⟩, fun g hg i hi => ?_, ⟨beqE h6, fun y hy => ?_⟩, ⟨fun k hk => by unfold TI; rw [Nat.mul_zero, Nat.zero_add]; exact beqE (tal_spec h8 k hk), fun y hy hz => ?_, fun g hg i hi j hj k hk => ?_⟩, fun a ha c hc => by unfold TJ; rw [Nat.mul_zero, Nat.zero_add]; exact beqE (tal_spec (tal_spec h11 a ha) c hc), fun y hy hz => ?_, fun g hg i hi => ?_⟩
  · have q := tal_spec (tal_spec h5 g hg) i hi
    simp only [Bool.and_eq_true, Bool.or_eq_true] at q
    obtain ⟨q1, q2, q3, q4⟩ := q
    refine ⟨Nat.le_of_ble_eq_true q1, beqE q2, beqE q3, ?_⟩
    rcases q4 with q4 | q4
    · exact Or.inl (beqE q4)
    · exact Or.inr (Nat.le_of_ble_eq_true q4)
  · have q := tal_spec h7 y (by show y < n - 1; have : y + 1 < n := hy; omega)
    simp only [Bool.and_eq_true, Bool.or_eq_true] at q
    obtain ⟨q1, q2, q3, ⟨q4, q5⟩, q6⟩ := q
    refine ⟨Nat.le_of_ble_eq_true q1, Nat.le_of_ble_eq_true q2, beqE q3, ⟨beqE q4, Nat.le_of_ble_eq_true q5⟩, ?_⟩
    rcases q6 with q6 | q6
    · exact Or.inl (beqE q6)
    · exact Or.inr (Nat.le_of_ble_eq_true q6)
  · have q := tal_spec h9 y (by show y < n - 1; have : y + 1 < n := hy; omega)
    have hc := chunk_eq (N := IM) (x := y + 1) (fun k hk => by
      have := hz k hk
      unfold TI at this
      rw [Nat.mul_zero, Nat.zero_add] at this
      exact this)
    rw [show Nat.succ y = y + 1 from rfl, hc, Nat.beq_refl] at q
    exact absurd q (by decide)
  · exact beqE (tal_spec (tal_spec (tal_spec (tal_spec h10 g hg) i hi) j hj) k hk)
  · have q := tal_spec h12 y (by show y < n - 1; have : y + 1 < n := hy; omega)
    have hc : tal (Nat.mul r r) (fun k => Nat.beq (t11 JM (Nat.add (Nat.mul (Nat.mul r r) (Nat.succ y)) k)) (t11 JM k)) = true := tal_of (fun k hk => nbT (by
      have := hz k hk
      unfold TJ at this
      rw [Nat.mul_zero, Nat.zero_add] at this
      exact this))
    rw [hc] at q
    exact absurd q (by decide)
  · have q := tal_spec (tal_spec h13 g hg) i hi
    rw [Bool.and_eq_true] at q
    refine ⟨fun hz => ?_, fun a ha c hc => beqE (tal_spec (tal_spec q.2 a ha) c hc)⟩
    have hc : tal r (fun a => Nat.beq (t11 JM (Nat.add (Nat.mul (Nat.mul r r) (t9 TO (Nat.add (Nat.mul r g) i))) (Nat.add (Nat.mul r a) i))) (t11 JM (Nat.add (Nat.mul (Nat.mul r r) g) (Nat.add (Nat.mul r a) i)))) = true := tal_of (fun a ha => nbT (hz a ha))
    rw [hc] at q
    exact absurd q.1 (by decide)
/-- a diagram's table -/
theorem tab_of {D : eb_D} (hv : vD D) (hz : ¬ ZD D = 0) : ∃ e, (tG e ∧ e.1 = D.1 ∧ e.2.1 = pkA D ∧ e.2.2.1 = ZD D) ∧ e ∈ tabs := by
  obtain ⟨e, he, h1, h2, h3⟩ := (szk_spec hv).2.2.2.2 hz
  exact ⟨e, ⟨tchk_spec (tabs_ok e he), h1, h2, h3⟩, he⟩
noncomputable def TD (D : eb_D) : tE := @dite tE (∃ e, (tG e ∧ e.1 = D.1 ∧ e.2.1 = pkA D ∧ e.2.2.1 = ZD D) ∧ e ∈ tabs) (Classical.propDecidable _) (fun h => Classical.choose h) (fun _ => (0, 0, 0, 0, 0, 0, 0, 0, 0))
theorem TD_ok {D : eb_D} (hv : vD D) (hz : ¬ ZD D = 0) : tG (TD D) ∧ (TD D).1 = D.1 ∧ (TD D).2.1 = pkA D ∧ (TD D).2.2.1 = ZD D := by
  unfold TD
  rw [dif_pos (tab_of hv hz)]
  exact (Classical.choose_spec (tab_of hv hz)).1
theorem TD_mem {D : eb_D} (hv : vD D) (hz : ¬ ZD D = 0) : TD D ∈ tabs := by
  unfold TD
  rw [dif_pos (tab_of hv hz)]
  exact (Classical.choose_spec (tab_of hv hz)).2
/-- steps that are told apart: an element is found again by its values -/
theorem val_inj {n r m : Nat} {tf : Nat → Nat → Nat} {val : Nat → Nat → Nat} {st : Nat → (Nat → Nat) → Nat → Nat} (ht : tfo n r tf)
    (hst : ∀ g i k, g < n → i < r → k < m → val (tf g i) k = st i (val g) k) (hcg : ∀ i f f', i < r → (∀ k, k < m → f k = f' k) → ∀ k, k < m → st i f k = st i f' k)
    (h0 : ∀ y, y + 1 < n → ¬ ∀ k, k < m → val (y + 1) k = val 0 k) (hp : ∀ y, y + 1 < n → ∃ p l, p ≤ y ∧ l < r ∧ tf p l = y + 1) :
    ∀ h g, g < n → h < n → (∀ k, k < m → val g k = val h k) → g = h := by
  intro h
  induction h using Nat.strongRecOn with
  | _ h ih =>
    intro g hg hh he
    cases h with
    | zero =>
      cases g with
      | zero => rfl
      | succ y => exact absurd he (h0 y hg)
    | succ y =>
      obtain ⟨p, l, hpy, hl, hpl⟩ := hp y hh
      have e1 : tf (y + 1) l = p := by rw [← hpl]; exact (ht p l (by omega) hl).2
      have e2 : ∀ k, k < m → val (tf g l) k = val p k := by
        intro k hk
        rw [← e1, hst g l k hg hl hk, hst (y + 1) l k hh hl hk]
        exact hcg l _ _ hl he k hk
      have e3 := ih p (by omega) (tf g l) (ht g l hg hl).1 (by omega) e2
      rw [← (ht g l hg hl).2, e3, hpl]
theorem tG.tfo {e : tE} (h : tG e) : tfo e.2.2.1 e.1 (Tto e) := fun g i hg hi => ⟨(h.2.1 g hg i hi).1, (h.2.1 g hg i hi).2.1⟩
theorem tMstep_cg {r A i : Nat} {f f' : Nat → Nat} (hi : i < 4) (h : ∀ k, k < 16 → f k = f' k) : ∀ j, j < 4 → ∀ k, k < 4 → tMstep r A f i j k = tMstep r A f' i j k := by
  intro j hj k hk
  unfold tMstep
  rw [show f (Nat.add (Nat.mul 4 i) k) = f' (Nat.add (Nat.mul 4 i) k) from h (4 * i + k) (by omega), show f (Nat.add (Nat.mul 4 j) k) = f' (Nat.add (Nat.mul 4 j) k) from h (4 * j + k) (by omega)]
theorem TI_inj {e : tE} (h : tG e) : ∀ x g, g < e.2.2.1 → x < e.2.2.1 → (∀ k, k < 16 → TI e g k = TI e x k) → g = x := by
  have hr := h.1.1.2
  refine val_inj (m := 16) (st := fun i f k => tMstep e.1 e.2.1 f i (k / 4) (k % 4)) h.tfo (fun g i k hg hi hk => ?_) (fun i f f' hi hf k hk => ?_) h.2.2.2.1.2.1 (fun y hy => ?_)
  · have := h.2.2.2.1.2.2 g hg i hi (k / 4) (by omega) (k % 4) (by omega)
    rw [show 4 * (k / 4) + k % 4 = k by omega] at this
    exact this
  · exact tMstep_cg (by omega) hf (k / 4) (by omega) (k % 4) (by omega)
  · obtain ⟨a1, a2, a3, -, -⟩ := h.2.2.1.2 y hy
    exact ⟨_, _, a1, a2, a3⟩
theorem TI_lt {e : tE} (h : tG e) : ∀ x, x < e.2.2.1 → ∀ k, k < 16 → TI e x k < 241 := by
  intro x hx k hk
  cases x with
  | zero =>
    rw [h.2.2.2.1.1 k hk]
    cases Nat.beq (k / 4) (k % 4) <;> decide
  | succ y =>
    obtain ⟨a1, a2, a3, -, -⟩ := h.2.2.1.2 y hx
    have := h.2.2.2.1.2.2 _ (show Tpar e (y + 1) < e.2.2.1 by omega) _ a2 (k / 4) (by omega) (k % 4) (by omega)
    rw [show 4 * (k / 4) + k % 4 = k by omega, a3] at this
    rw [this]
    unfold tMstep
    cases Nat.beq (k / 4) (Tlas e (y + 1))
    · exact Nat.mod_lt _ (by decide)
    · exact Nat.mod_lt _ (by decide)
