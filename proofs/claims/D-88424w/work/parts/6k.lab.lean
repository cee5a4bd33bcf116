set_option maxRecDepth 100000
/-! parts' numbers, packed, for the kernel -/
theorem t9_eq (N k : Nat) : t9 N k = N / 2 ^ (9 * k) % 512 := by
  show Nat.land (Nat.shiftRight N (9 * k)) 511 = _
  have h1 : Nat.shiftRight N (9 * k) = N / 2 ^ (9 * k) := Nat.shiftRight_eq_div_pow N (9 * k)
  rw [h1]
  exact Nat.and_two_pow_sub_one_eq_mod (N / 2 ^ (9 * k)) 9
theorem t9_put {acc v x : Nat} (ha : acc < 2 ^ (9 * x)) (hv : v < 512) : (∀ y, y < x → t9 (acc + v * 2 ^ (9 * x)) y = t9 acc y) ∧ t9 (acc + v * 2 ^ (9 * x)) x = v ∧ acc + v * 2 ^ (9 * x) < 2 ^ (9 * (x + 1)) := by
  have hp : 0 < 2 ^ (9 * x) := Nat.two_pow_pos _
  refine ⟨fun y hy => ?_, ?_, ?_⟩
  · rw [t9_eq, t9_eq]
    have e : 2 ^ (9 * x) = 2 ^ (9 * y) * (512 * 2 ^ (9 * (x - y - 1))) := by
      rw [show (512 : Nat) = 2 ^ 9 from rfl, ← Nat.pow_add, ← Nat.pow_add]
      congr 1
      omega
    rw [e, show v * (2 ^ (9 * y) * (512 * 2 ^ (9 * (x - y - 1)))) = 2 ^ (9 * y) * (512 * (2 ^ (9 * (x - y - 1)) * v)) by
      rw [Nat.mul_comm v, Nat.mul_assoc, Nat.mul_assoc], Nat.add_mul_div_left _ _ (Nat.two_pow_pos _), Nat.add_mul_mod_self_left]
  · rw [t9_eq, Nat.add_mul_div_right _ _ hp, Nat.div_eq_of_lt ha, Nat.zero_add, Nat.mod_eq_of_lt hv]
  · have h1 : v * 2 ^ (9 * x) ≤ 511 * 2 ^ (9 * x) := Nat.mul_le_mul_right _ (by omega)
    have h2 : 2 ^ (9 * (x + 1)) = 512 * 2 ^ (9 * x) := by rw [show 9 * (x + 1) = 9 + 9 * x by omega, Nat.pow_add]
    omega
/-- one below, by a mirror of S: its number and 1; 0: none -/
noncomputable def fdn (tf : Nat → Nat → Nat) (S : Nat → Bool) (x : Nat) (r : Nat) : Nat := Nat.rec 0 (fun i ih => cond (and (S i) (Nat.blt (tf x i) x)) (Nat.succ (tf x i)) ih) r
theorem fdn_s (tf : Nat → Nat → Nat) (S : Nat → Bool) (x r : Nat) : fdn tf S x (r + 1) = cond (and (S r) (Nat.blt (tf x r) x)) (Nat.succ (tf x r)) (fdn tf S x r) := rfl
theorem fdn_0 {tf : Nat → Nat → Nat} {S : Nat → Bool} {x : Nat} : ∀ r, fdn tf S x r = 0 → ∀ i, i < r → S i = true → ¬ tf x i < x := by
  intro r
  induction r with
  | zero => intro _ i hi; exact absurd hi (Nat.not_lt_zero _)
  | succ r ih =>
    intro h i hi hs hlt
    rw [fdn_s] at h
    cases hc : and (S r) (Nat.blt (tf x r) x) with
    | true => rw [hc] at h; exact absurd h (Nat.succ_ne_zero _)
    | false =>
      rw [hc] at h
      by_cases e : i = r
      · subst e
        rw [hs, nlT hlt] at hc
        exact absurd hc (by decide)
      · exact ih h i (by omega) hs hlt
theorem fdn_p {tf : Nat → Nat → Nat} {S : Nat → Bool} {x d : Nat} : ∀ r, fdn tf S x r = d + 1 → ∃ i, i < r ∧ S i = true ∧ tf x i = d ∧ d < x := by
  intro r
  induction r with
  | zero => intro h; exact absurd h (by show ¬ 0 = d + 1; omega)
  | succ r ih =>
    intro h
    rw [fdn_s] at h
    cases hc : and (S r) (Nat.blt (tf x r) x) with
    | true =>
      rw [hc] at h
      rw [Bool.and_eq_true] at hc
      have h1 : tf x r = d := Nat.succ.inj h
      have h2 : tf x r < x := Nat.le_of_ble_eq_true hc.2
      exact ⟨r, by omega, hc.1, h1, by omega⟩
    | false =>
      rw [hc] at h
      obtain ⟨i, h1, h2⟩ := ih h
      exact ⟨i, by omega, h2⟩
noncomputable def lab (tf : Nat → Nat → Nat) (r : Nat) (S : Nat → Bool) (n : Nat) : Nat → Nat → Nat → (Nat → Nat → Bool) → Bool :=
  Nat.rec (motive := fun _ => Nat → Nat → Nat → (Nat → Nat → Bool) → Bool) (fun _ cnt acc k => k acc cnt) (fun _ ih x cnt acc k => frc (fdn tf S x r) (fun d => cond (Nat.beq d 0) (frc (Nat.add acc (Nat.shiftLeft cnt (Nat.mul 9 x))) (fun a => frc (Nat.succ cnt) (fun c => ih (Nat.succ x) c a k))) (frc (Nat.add acc (Nat.shiftLeft (t9 acc (Nat.sub d 1)) (Nat.mul 9 x))) (fun a => ih (Nat.succ x) cnt a k)))) n
/-- what is true of the labels once they are made -/
def labO (tf : Nat → Nat → Nat) (r : Nat) (S : Nat → Bool) (n cnt A : Nat) : Prop :=
  A < 2 ^ (9 * n) ∧ (∀ x, x < n → t9 A x < cnt) ∧ ∃ first : Nat → Nat, (∀ c, c < cnt → first c < n ∧ t9 A (first c) = c ∧ fdn tf S (first c) r = 0) ∧ (∀ x, x < n → fdn tf S x r = 0 → first (t9 A x) = x) ∧ (∀ x d, x < n → fdn tf S x r = d + 1 → t9 A x = t9 A d) ∧ ∀ c c', c < c' → c' < cnt → first c < first c'
theorem lab_ok {tf : Nat → Nat → Nat} {r : Nat} {S : Nat → Bool} {k : Nat → Nat → Bool} : ∀ (n x cnt acc : Nat), x + n ≤ 500 → cnt ≤ x → labO tf r S x cnt acc → lab tf r S n x cnt acc k = true → ∃ A c, labO tf r S (x + n) c A ∧ k A c = true := by
  intro n
  induction n with
  | zero => intro x cnt acc _ _ h hk; exact ⟨acc, cnt, h, hk⟩
  | succ n ih =>
    intro x cnt acc hn hc h hk
    obtain ⟨h1, h2, first, h3, h4, h5, h6⟩ := h
    have hk' : frc (fdn tf S x r) (fun d => cond (Nat.beq d 0) (frc (Nat.add acc (Nat.shiftLeft cnt (Nat.mul 9 x))) (fun a => frc (Nat.succ cnt) (fun c => lab tf r S n (Nat.succ x) c a k))) (frc (Nat.add acc (Nat.shiftLeft (t9 acc (Nat.sub d 1)) (Nat.mul 9 x))) (fun a => lab tf r S n (Nat.succ x) cnt a k))) = true := hk
    rw [frc_eq] at hk'
    cases hd : fdn tf S x r with
    | zero =>
      rw [hd] at hk'
      have hk2 : frc (Nat.add acc (Nat.shiftLeft cnt (Nat.mul 9 x))) (fun a => frc (Nat.succ cnt) (fun c => lab tf r S n (Nat.succ x) c a k)) = true := hk'
      rw [frc_eq, frc_eq] at hk2
      have e1 : Nat.add acc (Nat.shiftLeft cnt (Nat.mul 9 x)) = acc + cnt * 2 ^ (9 * x) := by
        show acc + Nat.shiftLeft cnt (9 * x) = _
        rw [show Nat.shiftLeft cnt (9 * x) = cnt * 2 ^ (9 * x) from Nat.shiftLeft_eq cnt (9 * x)]
      rw [e1] at hk2
      obtain ⟨p1, p2, p3⟩ := t9_put h1 (show cnt < 512 by omega)
      have := ih (x + 1) (cnt + 1) (acc + cnt * 2 ^ (9 * x)) (by omega) (by omega) ⟨p3, fun y hy => ?_, upn first cnt x, fun c hc' => ?_, fun y hy h0 => ?_, fun y d hy hfd => ?_, fun c c' hcc hc' => ?_⟩ hk2
      · rw [show x + (n + 1) = x + 1 + n by omega]; exact this
      · by_cases e : y = x
        · rw [e, p2]; omega
        · rw [p1 y (by omega)]; have := h2 y (by omega); omega
      · by_cases e : c = cnt
        · rw [e, upn_eq, p2]; exact ⟨by omega, rfl, hd⟩
        · rw [upn_ne e]
          obtain ⟨q1, q2, q3⟩ := h3 c (by omega)
          exact ⟨by omega, by rw [p1 _ q1]; exact q2, q3⟩
      · by_cases e : y = x
        · rw [e, p2, upn_eq]
        · rw [p1 y (by omega)]
          have := h2 y (by omega)
          rw [upn_ne (by omega)]
          exact h4 y (by omega) h0
      · by_cases e : y = x
        · rw [e, hd] at hfd; exact absurd hfd (by omega)
        · obtain ⟨i, -, -, -, hdy⟩ := fdn_p r hfd
          rw [p1 y (by omega), p1 d (by omega)]
          exact h5 y d (by omega) hfd
      · by_cases e : c' = cnt
        · rw [upn_ne (by omega), e, upn_eq]
          exact (h3 c (by omega)).1
        · rw [upn_ne (by omega), upn_ne e]
          exact h6 c c' hcc (by omega)
    | succ d =>
      rw [hd] at hk'
      have hk2 : frc (Nat.add acc (Nat.shiftLeft (t9 acc (Nat.sub (d + 1) 1)) (Nat.mul 9 x))) (fun a => lab tf r S n (Nat.succ x) cnt a k) = true := hk'
      rw [frc_eq, show Nat.sub (d + 1) 1 = d from rfl] at hk2
      have e1 : Nat.add acc (Nat.shiftLeft (t9 acc d) (Nat.mul 9 x)) = acc + t9 acc d * 2 ^ (9 * x) := by
        show acc + Nat.shiftLeft (t9 acc d) (9 * x) = _
        rw [show Nat.shiftLeft (t9 acc d) (9 * x) = t9 acc d * 2 ^ (9 * x) from Nat.shiftLeft_eq _ (9 * x)]
      rw [e1] at hk2
      obtain ⟨i, -, -, -, hdx⟩ := fdn_p r hd
      have hdc := h2 d hdx
      obtain ⟨p1, p2, p3⟩ := t9_put h1 (show t9 acc d < 512 by omega)
      have := ih (x + 1) cnt (acc + t9 acc d * 2 ^ (9 * x)) (by omega) (by omega) ⟨p3, fun y hy => ?_, first, fun c hc' => ?_, fun y hy h0 => ?_, fun y d' hy hfd => ?_, h6⟩ hk2
      · rw [show x + (n + 1) = x + 1 + n by omega]; exact this
      · by_cases e : y = x
        · rw [e, p2]; exact hdc
        · rw [p1 y (by omega)]; exact h2 y (by omega)
      · obtain ⟨q1, q2, q3⟩ := h3 c hc'
        exact ⟨by omega, by rw [p1 _ q1]; exact q2, q3⟩
      · by_cases e : y = x
        · rw [e, hd] at h0; exact absurd h0 (by omega)
        · rw [p1 y (by omega)]; exact h4 y (by omega) h0
      · by_cases e : y = x
        · rw [e, hd] at hfd
          have : d = d' := by omega
          rw [e, p2, ← this, p1 d (by omega)]
        · obtain ⟨i, -, -, -, hdy⟩ := fdn_p r hfd
          rw [p1 y (by omega), p1 d' (by omega)]
          exact h5 y d' (by omega) hfd
/-- labels that no mirror of S changes are the parts' numbers -/
theorem lab_prt {tf : Nat → Nat → Nat} {r : Nat} {S : Nat → Bool} {n cnt A : Nat} (ht : tfo n r tf) (h : labO tf r S n cnt A) (hcl : ∀ x, x < n → ∀ i, i < r → S i = true → t9 A (tf x i) = t9 A x) : (∀ x, x < n → prt r tf S x = t9 A x) ∧ pcnt r tf S n = cnt := by
  obtain ⟨h1, h2, first, h3, h4, h5, h6⟩ := h
  have hcn : ∀ g k, g < n → cn r tf S g k → t9 A k = t9 A g := by
    rintro g k hg ⟨w, w1, w2⟩
    induction w generalizing g with
    | nil => rw [← w2]; rfl
    | cons i w ih =>
      have hi := w1 i (List.mem_cons_self ..)
      have := ih (tf g i) (ht g i hg hi.1).1 (fun y hy => w1 y (List.mem_cons_of_mem _ hy)) w2
      rw [this]
      exact hcl g hg i hi.1 hi.2
  -- the least of a part is where its label came first
  have hfst : ∀ x, x < n → (isL r tf S x x ↔ fdn tf S x r = 0) := by
    intro x hx
    constructor
    · intro hL
      cases hd : fdn tf S x r with
      | zero => rfl
      | succ d =>
        obtain ⟨i, i1, i2, i3, i4⟩ := fdn_p r hd
        refine absurd ?_ (hL.2 d i4)
        have := cn_st (cn_rf (r := r) (tf := tf) (S := S) d) i1 i2
        rw [← i3, (ht x i hx i1).2] at this
        rw [← i3]
        exact this
    · intro h0
      refine ⟨cn_rf x, fun l' hl' hc => ?_⟩
      obtain ⟨l, hl, hle⟩ := isL_ex (r := r) (tf := tf) (S := S) x
      have hlx : l ≤ l' := by
        by_cases z : l ≤ l'
        · exact z
        · exact absurd hc (hl.2 l' (by omega))
      have hll := isL_self hl
      have hl0 : fdn tf S l r = 0 := by
        cases hd : fdn tf S l r with
        | zero => rfl
        | succ d =>
          obtain ⟨i, i1, i2, i3, i4⟩ := fdn_p r hd
          refine absurd ?_ (hll.2 d i4)
          have := cn_st (cn_rf (r := r) (tf := tf) (S := S) d) i1 i2
          rw [← i3, (ht l i (by omega) i1).2] at this
          rw [← i3]
          exact this
      have e1 := h4 l (by omega) hl0
      have e2 := h4 x hx h0
      rw [hcn l x (by omega) hl.1] at e2
      omega
  have hcnt : ∀ m, m ≤ n → pcnt r tf S m = cnB (fun x => Nat.beq (fdn tf S x r) 0) m := by
    intro m
    induction m with
    | zero => intro _; rfl
    | succ m ih =>
      intro hm
      show _ = cnB (fun x => Nat.beq (fdn tf S x r) 0) m + b1 (Nat.beq (fdn tf S m r) 0)
      by_cases z : fdn tf S m r = 0
      · rw [pcnt_pos ((hfst m (by omega)).mpr z), ih (by omega), nbT z]; rfl
      · rw [pcnt_neg (fun y => z ((hfst m (by omega)).mp y)), ih (by omega), nbF z]; rfl
  -- the count below the first of c is c
  have hcf : ∀ m, m ≤ n → ∀ c, (∀ c', c' < c → c' < cnt ∧ first c' < m) → (∀ c', c ≤ c' → c' < cnt → m ≤ first c') → c ≤ cnt → cnB (fun x => Nat.beq (fdn tf S x r) 0) m = c := by
    intro m
    induction m with
    | zero =>
      intro _ c hc _ _
      cases c with
      | zero => rfl
      | succ c => exact absurd (hc c (by omega)).2 (Nat.not_lt_zero _)
    | succ m ih =>
      intro hm c hc1 hc2 hcc
      show cnB (fun x => Nat.beq (fdn tf S x r) 0) m + b1 (Nat.beq (fdn tf S m r) 0) = c
      by_cases z : fdn tf S m r = 0
      · have e1 := h4 m (by omega) z
        have hlt := h2 m (by omega)
        have hcm : t9 A m < c := by
          by_cases y : t9 A m < c
          · exact y
          · have := hc2 (t9 A m) (by omega) hlt
            omega
        have hec : t9 A m + 1 = c := by
          by_cases y : t9 A m + 1 = c
          · exact y
          · have q1 := hc1 (t9 A m + 1) (by omega)
            have q2 := h6 (t9 A m) (t9 A m + 1) (by omega) q1.1
            omega
        rw [ih (by omega) (t9 A m) (fun c' hc' => ⟨by omega, by have := h6 c' (t9 A m) hc' hlt; omega⟩) (fun c' hc' hc'' => ?_) (by omega), nbT z]
        · exact hec
        · by_cases y : c' = t9 A m
          · rw [y]; omega
          · have := h6 (t9 A m) c' (by omega) hc''; omega
      · rw [ih (by omega) c (fun c' hc' => ?_) (fun c' hc' hc'' => by have := hc2 c' hc' hc''; omega) hcc, nbF z]
        · rfl
        · have q := hc1 c' hc'
          refine ⟨q.1, ?_⟩
          by_cases y : first c' = m
          · have := (h3 c' q.1).2.2
            rw [y] at this
            exact absurd this z
          · omega
  have hpf : ∀ l, l < n → fdn tf S l r = 0 → pcnt r tf S l = t9 A l := by
    intro l hl h0
    have e1 := h4 l hl h0
    have hlt := h2 l hl
    rw [hcnt l (by omega)]
    refine hcf l (by omega) (t9 A l) (fun c' hc' => ⟨by omega, by have := h6 c' (t9 A l) hc' hlt; omega⟩) (fun c' hc' hc'' => ?_) (by omega)
    by_cases y : c' = t9 A l
    · rw [y]; omega
    · have := h6 (t9 A l) c' (by omega) hc''; omega
  refine ⟨fun x hx => ?_, ?_⟩
  · obtain ⟨l, hl, hle⟩ := isL_ex (r := r) (tf := tf) (S := S) x
    rw [prt_eq hl, hpf l (by omega) ((hfst l (by omega)).mp (isL_self hl)), hcn l x (by omega) hl.1]
  · rw [hcnt n (Nat.le_refl _)]
    exact hcf n (Nat.le_refl _) cnt (fun c' hc' => ⟨hc', (h3 c' hc').1⟩) (fun c' h1' h2' => absurd h2' (by omega)) (Nat.le_refl _)
