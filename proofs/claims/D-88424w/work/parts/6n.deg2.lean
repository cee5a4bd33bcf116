set_option maxRecDepth 100000
theorem mkF_ex {P : Nat → Bool} {f : Nat → Nat} {v : Nat} : ∀ m, (mkF P f m v = true ↔ ∃ k, k < m ∧ P k = true ∧ f k = v) := by
  intro m
  induction m with
  | zero => exact ⟨fun z => Bool.noConfusion z, fun ⟨k, hk, _⟩ => absurd hk (Nat.not_lt_zero _)⟩
  | succ m ih =>
    show or (mkF P f m v) (and (P m) (Nat.beq (f m) v)) = true ↔ _
    rw [Bool.or_eq_true, Bool.and_eq_true, ih]
    constructor
    · rintro (⟨k, h1, h2⟩ | ⟨h1, h2⟩)
      · exact ⟨k, by omega, h2⟩
      · exact ⟨m, by omega, h1, Nat.eq_of_beq_eq_true h2⟩
    · rintro ⟨k, h1, h2, h3⟩
      by_cases e : k = m
      · subst e; exact Or.inr ⟨h2, nbT h3⟩
      · exact Or.inl ⟨k, by omega, h2, h3⟩
theorem cnB_inj {P Q : Nat → Bool} {f : Nat → Nat} {N : Nat} (h1 : ∀ d, d < N → P d = true → f d < N ∧ Q (f d) = true) (h2 : ∀ d d', d < N → d' < N → P d = true → P d' = true → f d = f d' → d = d') : cnB P N ≤ cnB Q N := by
  have key : ∀ m, m ≤ N → cnB P m = cnB (mkF P f m) N := by
    intro m
    induction m with
    | zero => intro _; rw [cnB_false (P := mkF P f 0) (fun _ => rfl)]; rfl
    | succ m ih =>
      intro hm
      show cnB P m + b1 (P m) = _
      cases hp : P m with
      | false => rw [ih (by omega), cnB_cg N (fun k _ => mkF_no (f := f) (v := k) hp)]; rfl
      | true =>
        have hno : mkF P f m (f m) = false := by
          cases e : mkF P f m (f m) with
          | false => rfl
          | true =>
            obtain ⟨k, k1, k2, k3⟩ := (mkF_ex m).mp e
            have := h2 k m (by omega) (by omega) k2 hp k3
            omega
        rw [mkF_set hp hno (h1 m (by omega) hp).1, ih (by omega)]; rfl
  rw [key N (Nat.le_refl _)]
  refine cnB_mono N (fun v hv hm => ?_)
  obtain ⟨k, k1, k2, k3⟩ := (mkF_ex N).mp hm
  rw [← k3]; exact (h1 k k1 k2).2
theorem orN_bit {f : Nat → Nat} {d : Nat} : ∀ n, (Nat.testBit (orN f n) d = true ↔ ∃ k, k < n ∧ Nat.testBit (f k) d = true) := by
  intro n
  induction n with
  | zero =>
    have : Nat.testBit 0 d = false := Nat.zero_testBit d
    exact ⟨fun z => absurd (this.symm.trans z) (by decide), fun ⟨k, hk, _⟩ => absurd hk (Nat.not_lt_zero _)⟩
  | succ n ih =>
    have e : orN f (n + 1) = orN f n ||| f n := rfl
    rw [e, Nat.testBit_or, Bool.or_eq_true, ih]
    constructor
    · rintro (⟨k, h1, h2⟩ | h)
      · exact ⟨k, by omega, h2⟩
      · exact ⟨n, by omega, h⟩
    · rintro ⟨k, h1, h2⟩
      by_cases ek : k = n
      · subst ek; exact Or.inr h2
      · exact Or.inl ⟨k, by omega, h2⟩
theorem cnM_eq (M : Nat) : ∀ n, cnM M n = cnB (Nat.testBit M) n := by
  intro n
  induction n with
  | zero => rfl
  | succ n ih =>
    show cnM M n + Nat.land (Nat.shiftRight M n) 1 = cnB (Nat.testBit M) n + b1 (Nat.testBit M n)
    rw [ih]
    congr 1
    have h1 : Nat.shiftRight M n = M / 2 ^ n := Nat.shiftRight_eq_div_pow M n
    rw [h1, show Nat.land (M / 2 ^ n) 1 = M / 2 ^ n % 2 from Nat.and_one_is_mod _, Nat.testBit_eq_decide_div_mod_eq]
    have h2 : M / 2 ^ n % 2 < 2 := Nat.mod_lt _ (by decide)
    by_cases e : M / 2 ^ n % 2 = 1
    · rw [e]; rfl
    · rw [show M / 2 ^ n % 2 = 0 by omega]; rfl
theorem bit_sl (a d : Nat) : Nat.testBit (Nat.shiftLeft 1 a) d = true ↔ a = d := by
  have e : Nat.shiftLeft 1 a = 2 ^ a := by rw [show Nat.shiftLeft 1 a = 1 * 2 ^ a from Nat.shiftLeft_eq 1 a, Nat.one_mul]
  rw [e, Nat.testBit_two_pow]
  exact decide_eq_true_iff
theorem stay_0 {D : eb_D} (hv : vD D) : stay D 0 = 2 ^ D.1 - 1 - D.2.2 := by
  have hr := hv.1
  have h16 : 2 ^ D.1 ≤ 2 ^ 4 := Nat.pow_le_pow_right (by omega) hr.2
  have hs := still_lt D.1 D.2.2 0 (fun i => jnp D.2.1 i D.1) D.1 hr.2
  have e0 : stay D 0 = still D.1 D.2.2 0 (fun i => jnp D.2.1 i D.1) D.1 := by
    show Nat.lor 0 _ = _
    have : ∀ a, a < 16 → Nat.lor 0 a = a := by decide
    exact this _ hs
  have hb : ∀ r, r < 5 → ∀ g, g < 2 ^ r → ∀ k, k < 4 → (bt (2 ^ r - 1 - g) k = 1 ↔ k < r ∧ bt g k = 0) := by decide +kernel
  rw [e0]
  refine mk_bits _ hs _ (by omega) (fun k hk => ?_)
  have q1 := still_bt (r := D.1) (g := D.2.2) (s := 0) (j := fun i => jnp D.2.1 i D.1) (by decide) (fun i => sp_jlt hv i) D.1 hr.2 k hk
  have q2 := hb D.1 (by omega) D.2.2 hv.2.1.2 k hk
  have z0 : ∀ i, bt 0 i = 0 := fun i => by show (0 >>> i) % 2 = 0; rw [Nat.zero_shiftRight]
  have b1' := bt_lt (still D.1 D.2.2 0 (fun i => jnp D.2.1 i D.1) D.1) k
  have b2' := bt_lt (2 ^ D.1 - 1 - D.2.2) k
  have iff : bt (still D.1 D.2.2 0 (fun i => jnp D.2.1 i D.1) D.1) k = 1 ↔ bt (2 ^ D.1 - 1 - D.2.2) k = 1 := by
    rw [q1, q2]
    exact ⟨fun z => ⟨z.1, z.2.2.1⟩, fun z => ⟨z.1, z0 k, z.2, fun i _ h => by rw [z0 i] at h; exact absurd h (by decide)⟩⟩
  by_cases e : bt (2 ^ D.1 - 1 - D.2.2) k = 1
  · rw [e, iff.mpr e]
  · have : ¬ bt (still D.1 D.2.2 0 (fun i => jnp D.2.1 i D.1) D.1) k = 1 := fun z => e (iff.mp z)
    omega
section DG
variable {D : eb_D}
theorem jnd_sy (hv : vD D) (hz : ¬ ZD D = 0) (c d : Nat) : jnd D c d = jnd D d c := by
  have ht := TD_tfo hv hz
  have one : ∀ c d, jnd D c d = true → jnd D d c = true := fun c d h => by
    obtain ⟨g, i, hg, hi, hb, h1, h2⟩ := jnd_iff.mp h
    have q := ht g i hg hi
    exact jnd_iff.mpr ⟨Tto (TD D) g i, i, q.1, hi, hb, h2, by rw [q.2]; exact h1⟩
  exact Bool_ext ⟨one c d, one d c⟩
/-- a corner isn't joined to itself -/
theorem jnd_irr (hv : vD D) (hz : ¬ ZD D = 0) (c : Nat) : jnd D c c = false := by
  obtain ⟨hG, he1, he2, he3⟩ := TD_ok hv hz
  have ht := TD_tfo hv hz
  cases e : jnd D c c with
  | false => rfl
  | true =>
    obtain ⟨g, i, hg, hi, hb, h1, h2⟩ := jnd_iff.mp e
    have hi' : i < (TD D).1 := by omega
    have hc : cn D.1 (Tto (TD D)) (inS (stay D 0)) g (Tto (TD D) g i) := prt_inj ht hg (ht g i hg hi).1 (h1.trans h2.symm)
    refine absurd ?_ (hG.2.2.2.2.2.2 g (by omega) i hi').1
    intro a ha
    obtain ⟨w, w1, w2⟩ := hc
    rw [← w2]
    have key : ∀ (w : List Nat) (x : Nat), x < ZD D → (∀ y ∈ w, y < D.1 ∧ inS (stay D 0) y = true) → TJ (TD D) (w.foldl (Tto (TD D)) x) ((TD D).1 * a + i) = TJ (TD D) x ((TD D).1 * a + i) := by
      intro w
      induction w with
      | nil => intro x _ _; rfl
      | cons j w ih =>
        intro x hx hw
        have hj := hw j (List.mem_cons_self ..)
        have hx' := (ht x j hx hj.1).1
        rw [List.foldl_cons, ih _ hx' (fun y hy => hw y (List.mem_cons_of_mem _ hy)), TJ_s hG (show x < (TD D).2.2.1 by omega) (show j < (TD D).1 by omega) a ha i hi']
        have hij : ¬ i = j := fun z => by
          have hs := hj.2
          rw [stay_0 hv] at hs
          have hb2 : ∀ r, r < 5 → ∀ g, g < 2 ^ r → ∀ k, k < 4 → Nat.beq (bt (2 ^ r - 1 - g) k) 1 = true → bt g k = 0 := by decide +kernel
          have := hb2 D.1 (by have := hv.1; omega) D.2.2 hv.2.1.2 j (by have := hv.1; omega) hs
          rw [← z, hb] at this
          exact absurd this (by decide)
        rw [nbF hij]
        rfl
    exact key w g hg w1
theorem fold_Pr (hv : vD D) (hz : ¬ ZD D = 0) {g : Nat} (hg : g < ZD D) : ∀ (w : List Nat) (x : Nat), x < ZD D → (∀ y ∈ w, y < D.1) → Pr (TD D) g (w.foldl (Tto (TD D)) x) = w.foldl (Tto (TD D)) (Pr (TD D) g x) ∧ w.foldl (Tto (TD D)) x < ZD D := by
  obtain ⟨hG, he1, he2, he3⟩ := TD_ok hv hz
  have ht := TD_tfo hv hz
  have hck := ck_all _ (TD_mem hv hz)
  intro w
  induction w with
  | nil => intro x hx _; exact ⟨rfl, hx⟩
  | cons j w ih =>
    intro x hx hw
    have hj := hw j (List.mem_cons_self ..)
    have hx' := (ht x j hx hj).1
    rw [List.foldl_cons, List.foldl_cons]
    have := ih _ hx' (fun y hy => hw y (List.mem_cons_of_mem _ hy))
    rw [this.1, Pr_to hG hck g (by omega) x j (by omega) (by omega)]
    exact ⟨rfl, this.2⟩
theorem PN_Pr (hv : vD D) (hz : ¬ ZD D = 0) {g x y s : Nat} (hg : g < ZD D) (hx : x < ZD D) (hy : y < ZD D) (h : PN D s x = PN D s y) : PN D s (Pr (TD D) g x) = PN D s (Pr (TD D) g y) := by
  obtain ⟨hG, he1, he2, he3⟩ := TD_ok hv hz
  have ht := TD_tfo hv hz
  obtain ⟨w, w1, w2⟩ := prt_inj ht hx hy h
  have q := fold_Pr hv hz hg w x hx (fun y hy => (w1 y hy).1)
  rw [w2] at q
  have hp : Pr (TD D) g x < ZD D := by have := Pr_lt hG (show g < (TD D).2.2.1 by omega) x (by omega); omega
  exact prt_cn ht hp ⟨w, w1, q.1.symm⟩
/-- how many neighbours a corner has at most -/
theorem deg_le (hv : vD D) (hz : ¬ ZD D = 0) {c : Nat} (hc : c < NP D 0) : cnB (jnd D c) (NP D 0) ≤ (if D.1 = 3 then 8 else 24) := by
  obtain ⟨hG, he1, he2, he3⟩ := TD_ok hv hz
  have ht := TD_tfo hv hz
  have hck := ck_all _ (TD_mem hv hz)
  have hr := hv.1
  -- corner 0
  have h0 : cnB (jnd D 0) (NP D 0) ≤ (if D.1 = 3 then 8 else 24) := by
    have hc := hck
    rw [ckA_eq, Bool.and_eq_true] at hc
    have hlt : D.2.2 - 1 < Nat.sub (Nat.pow 2 (TD D).1) 1 := by
      show D.2.2 - 1 < 2 ^ (TD D).1 - 1
      rw [he1]
      have := hv.2.1
      omega
    have q := tal_spec hc.2 (D.2.2 - 1) hlt
    rw [frc_eq] at q
    have eS : Nat.sub (Nat.sub (Nat.pow 2 (TD D).1) 1) (Nat.succ (D.2.2 - 1)) = stay D 0 := by
      rw [stay_0 hv, ← he1]
      show 2 ^ (TD D).1 - 1 - (D.2.2 - 1 + 1) = _
      rw [show D.2.2 - 1 + 1 = D.2.2 by have := hv.2.1; omega]
    have eg : Nat.succ (D.2.2 - 1) = D.2.2 := by have := hv.2.1; show D.2.2 - 1 + 1 = D.2.2; omega
    rw [eS, eg] at q
    have etf : (fun x i => t9 (TD D).2.2.2.1 (Nat.add (Nat.mul (TD D).1 x) i)) = Tto (TD D) := rfl
    unfold ckDt at q
    rw [etf] at q
    obtain ⟨A, cnt, hO, hk⟩ := lab_ok (TD D).2.2.1 0 0 0 (by have := hG.1.2; omega) (Nat.le_refl _) ⟨by decide, fun x hx => absurd hx (Nat.not_lt_zero _), fun _ => 0, fun c hc => absurd hc (Nat.not_lt_zero _), fun x hx => absurd hx (Nat.not_lt_zero _), fun x d hx => absurd hx (Nat.not_lt_zero _), fun c c' _ hc => absurd hc (Nat.not_lt_zero _)⟩ q
    rw [Bool.and_eq_true, frc_eq] at hk
    rw [Nat.zero_add, he3, he1] at hO
    have hcl : ∀ x, x < ZD D → ∀ i, i < D.1 → inS (stay D 0) i = true → t9 A (Tto (TD D) x i) = t9 A x := fun x hx i hi hs => by
      have q1 := tal_spec (tal_spec hk.1 x (by omega)) i (by omega)
      rw [hs] at q1
      exact Nat.eq_of_beq_eq_true q1
    obtain ⟨l1, l2⟩ := lab_prt ht hO hcl
    have l1' : ∀ x, x < ZD D → PN D 0 x = t9 A x := l1
    have l2' : NP D 0 = cnt := l2
    have hle := Nat.le_of_ble_eq_true hk.2
    rw [cnM_eq] at hle
    have hb : (cond (Nat.beq (TD D).1 3) 8 24 : Nat) = (if D.1 = 3 then 8 else 24) := by
      rw [he1]
      by_cases e : D.1 = 3
      · rw [nbT e, if_pos e]; rfl
      · rw [nbF e, if_neg e]; rfl
    rw [hb] at hle
    rw [l2']
    refine Nat.le_trans (Nat.le_of_eq (cnB_cg cnt (fun d hd => Bool_ext ?_))) hle
    rw [orN_bit, jnd_iff]
    constructor
    · rintro ⟨g, i, hg, hi, hbi, h1, h2⟩
      refine ⟨g, by omega, ?_⟩
      rw [nbT (by rw [← l1' g hg]; exact h1)]
      show Nat.testBit (orN _ (TD D).1) d = true
      rw [orN_bit]
      refine ⟨i, by omega, ?_⟩
      rw [show inS D.2.2 i = true from nbT hbi]
      show Nat.testBit (Nat.shiftLeft 1 (t9 A (Tto (TD D) g i))) d = true
      rw [bit_sl, ← l1' _ (ht g i hg hi).1]
      exact h2
    · rintro ⟨g, hg, h⟩
      rw [he3] at hg
      by_cases e : t9 A g = 0
      · rw [nbT e] at h
        have h' : Nat.testBit (orN (fun i => cond (inS D.2.2 i) (Nat.shiftLeft 1 (t9 A (t9 (TD D).2.2.2.1 (Nat.add (Nat.mul (TD D).1 g) i)))) 0) (TD D).1) d = true := h
        rw [orN_bit] at h'
        obtain ⟨i, hi, hb2⟩ := h'
        rw [he1] at hi
        by_cases e2 : bt D.2.2 i = 1
        · rw [show inS D.2.2 i = true from nbT e2] at hb2
          have hb3 : Nat.testBit (Nat.shiftLeft 1 (t9 A (Tto (TD D) g i))) d = true := hb2
          rw [bit_sl, ← l1' _ (ht g i hg hi).1] at hb3
          exact ⟨g, i, hg, hi, e2, by rw [l1' g hg]; exact e, hb3⟩
        · rw [show inS D.2.2 i = false from nbF e2] at hb2
          exact absurd ((Nat.zero_testBit d).symm.trans hb2) (by decide)
      · rw [nbF e] at h
        exact absurd ((Nat.zero_testBit d).symm.trans h) (by decide)
  -- all others as corner 0
  refine Nat.le_trans ?_ h0
  obtain ⟨g, hg, hgF, hgc⟩ := NP_ex D 0 hc
  have P0 : PN D 0 0 = 0 := by
    have : isL D.1 (Tto (TD D)) (inS (stay D 0)) 0 0 := ⟨cn_rf 0, fun l' hl' => absurd hl' (Nat.not_lt_zero _)⟩
    exact prt_eq this
  have key : ∀ d, jnd D c d = true → ∃ v, v < ZD D ∧ jnd D 0 (PN D 0 v) = true ∧ PN D 0 (Pr (TD D) g v) = d := by
    intro d hd
    obtain ⟨h, i, hh, hi, hbi, h1, h2⟩ := jnd_iff.mp hd
    obtain ⟨w, w1, w2⟩ := prt_inj ht hg hh (hgc.trans h1.symm)
    have q := fold_Pr hv hz hg w 0 (by omega) (fun y hy => (w1 y hy).1)
    rw [Pr_0 hG, w2] at q
    have hu := q.2
    refine ⟨Tto (TD D) (w.foldl (Tto (TD D)) 0) i, (ht _ i hu hi).1, jnd_iff.mpr ⟨_, i, hu, hi, hbi, ?_, rfl⟩, ?_⟩
    · have q9 := (prt_cn ht (show 0 < ZD D by omega) ⟨w, w1, rfl⟩).symm
      exact q9.trans P0
    · rw [Pr_to hG hck g (by omega) _ i (by omega) (by omega), q.1]
      exact h2
  refine cnB_inj (f := fun d => @dite Nat (jnd D c d = true) (Classical.propDecidable _) (fun h => PN D 0 (key d h).choose) (fun _ => 0)) (fun d hd hp => ?_) (fun d d' hd hd' hp hp' he => ?_)
  · have q := (key d hp).choose_spec
    show @dite Nat (jnd D c d = true) (Classical.propDecidable _) (fun h => PN D 0 (key d h).choose) (fun _ => 0) < NP D 0 ∧ jnd D 0 (@dite Nat (jnd D c d = true) (Classical.propDecidable _) (fun h => PN D 0 (key d h).choose) (fun _ => 0)) = true
    rw [dif_pos hp]
    exact ⟨PN_lt D 0 q.1, q.2.1⟩
  · have he' : @dite Nat (jnd D c d = true) (Classical.propDecidable _) (fun h => PN D 0 (key d h).choose) (fun _ => 0) = @dite Nat (jnd D c d' = true) (Classical.propDecidable _) (fun h => PN D 0 (key d' h).choose) (fun _ => 0) := he
    rw [dif_pos hp, dif_pos hp'] at he'
    have q := (key d hp).choose_spec
    have q' := (key d' hp').choose_spec
    rw [← q.2.2, ← q'.2.2]
    exact PN_Pr hv hz hg q.1 q'.1 he'
end DG
