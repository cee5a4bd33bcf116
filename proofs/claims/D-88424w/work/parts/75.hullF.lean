set_option maxRecDepth 100000
/-! what is true of every body of three mirrors -/
theorem dS_1 (A r : Nat) : (dS A r).1 = 3 := mk_1 3 (an4 A) r
theorem dS_2 (A r : Nat) : (dS A r).2.1 = an4 A := mk_2 3 (an4 A) r
theorem dS_3 (A r : Nat) : (dS A r).2.2 = r := mk_3 3 (an4 A) r
theorem jnp_cg {a b : Nat → Nat} {i : Nat} : ∀ m, (∀ k, k < m → a (4 * i + k) = b (4 * i + k)) → jnp a i m = jnp b i m := by
  intro m
  induction m with
  | zero => intro _; rfl
  | succ m ih =>
    intro h
    show Nat.lor (jnp a i m) (cond (and (not (Nat.beq m i)) (Nat.blt 2 (a (4 * i + m)))) (Nat.pow 2 m) 0) = Nat.lor (jnp b i m) (cond (and (not (Nat.beq m i)) (Nat.blt 2 (b (4 * i + m)))) (Nat.pow 2 m) 0)
    rw [ih (fun k hk => h k (by omega)), h m (by omega)]
theorem still_cg {r g s : Nat} {a b : Nat → Nat} : ∀ m, (∀ k, k < m → a k = b k) → still r g s a m = still r g s b m := by
  intro m
  induction m with
  | zero => intro _; rfl
  | succ m ih =>
    intro h
    show Nat.lor (still r g s a m) (cond (and (Nat.beq (bt s m) 0) (and (Nat.beq (bt g m) 0) (Nat.beq (Nat.land (a m) s) 0))) (Nat.pow 2 m) 0) = Nat.lor (still r g s b m) (cond (and (Nat.beq (bt s m) 0) (and (Nat.beq (bt g m) 0) (Nat.beq (Nat.land (b m) s) 0))) (Nat.pow 2 m) 0)
    rw [ih (fun k hk => h k (by omega)), h m (by omega)]
theorem rst_cg {w x : Nat} {a b : Nat → Nat} : ∀ m, (∀ k, k < m → a k = b k) → rst a w x m = rst b w x m := by
  intro m
  induction m with
  | zero => intro _; rfl
  | succ m ih =>
    intro h
    show Nat.lor (rst a w x m) (cond (Nat.beq (bt x m) 1) (Nat.land (a m) w) 0) = Nat.lor (rst b w x m) (cond (Nat.beq (bt x m) 1) (Nat.land (b m) w) 0)
    rw [ih (fun k hk => h k (by omega)), h m (by omega)]
theorem rit_cg {w : Nat} {a b : Nat → Nat} (h : ∀ k, k < 4 → a k = b k) : ∀ n x, rit a w n x = rit b w n x := by
  intro n
  induction n with
  | zero => intro x; rfl
  | succ n ih => intro x; show rit a w n (rst a w x 4) = rit b w n (rst b w x 4); rw [rst_cg 4 h, ih]
section HF
variable {D : eb_D}
theorem dS_jn (hv : vD D) (h3 : D.1 = 3) : ∀ i, i < 4 → jnp (dS (pkA D) D.2.2).2.1 i (dS (pkA D) D.2.2).1 = jnp D.2.1 i D.1 := fun i hi => by
  rw [dS_1, dS_2, h3]
  exact jnp_cg 3 (fun k hk => an4_pk hv (by omega))
theorem stay_dS (hv : vD D) (h3 : D.1 = 3) (s : Nat) : stay (dS (pkA D) D.2.2) s = stay D s := by
  have h := dS_jn hv h3
  unfold stay
  rw [dS_3, still_cg (r := (dS (pkA D) D.2.2).1) (dS (pkA D) D.2.2).1 (fun k hk => h k (by rw [dS_1] at hk; omega)), dS_1, h3]
theorem isK_dS (hv : vD D) (h3 : D.1 = 3) (s : Nat) : isK (dS (pkA D) D.2.2) s = isK D s := by
  have h := dS_jn hv h3
  unfold isK
  rw [rit_cg (fun k hk => h k hk), dS_1, dS_3, h3]
theorem lbk_ok (hv : vD D) (hz : ¬ ZD D = 0) (h3 : D.1 = 3) {s : Nat} {k : Nat → Nat → Bool} (h : lbk (TD D).2.2.2.1 (TD D).2.2.1 (stay D s) k = true) : ∃ A c, (∀ x, x < ZD D → PN D s x = t9 A x) ∧ NP D s = c ∧ k A c = true := by
  obtain ⟨hG, he1, he2, he3⟩ := TD_ok hv hz
  have ht := TD_tfo hv hz
  have etf : (fun x i => t9 (TD D).2.2.2.1 (Nat.add (Nat.mul 3 x) i)) = Tto (TD D) := by
    funext x i
    show _ = t9 (TD D).2.2.2.1 ((TD D).1 * x + i)
    rw [he1, h3]
    rfl
  unfold lbk at h
  rw [etf] at h
  obtain ⟨A, cnt, hO, hk⟩ := lab_ok (TD D).2.2.1 0 0 0 (by have := hG.1.2; omega) (Nat.le_refl _) ⟨by decide, fun x hx => absurd hx (Nat.not_lt_zero _), fun _ => 0, fun c hc => absurd hc (Nat.not_lt_zero _), fun x hx => absurd hx (Nat.not_lt_zero _), fun x d hx => absurd hx (Nat.not_lt_zero _), fun c c' _ hc => absurd hc (Nat.not_lt_zero _)⟩ h
  rw [Bool.and_eq_true] at hk
  rw [Nat.zero_add, he3, ← h3] at hO
  have hcl : ∀ x, x < ZD D → ∀ i, i < D.1 → inS (stay D s) i = true → t9 A (Tto (TD D) x i) = t9 A x := fun x hx i hi hs => by
    have q1 := tal_spec (tal_spec hk.1 x (by omega)) i (by omega)
    rw [hs] at q1
    have e := congrFun (congrFun etf x) i
    rw [← e]
    exact Nat.eq_of_beq_eq_true q1
  obtain ⟨l1, l2⟩ := lab_prt ht hO hcl
  exact ⟨A, cnt, l1, l2, hk.2⟩
theorem lbc_ok (hv : vD D) (hz : ¬ ZD D = 0) (h3 : D.1 = 3) {s : Nat} {q : Bool} {k : Nat → Nat → Bool} (h : lbc (b1 q) (TD D).2.2.2.1 (TD D).2.2.1 (stay D s) k = true) : ∃ A c, (q = true → ∀ x, x < ZD D → PN D s x = t9 A x) ∧ c = cond q (NP D s) 0 ∧ k A c = true := by
  cases q with
  | false => exact ⟨0, 0, fun z => Bool.noConfusion z, rfl, h⟩
  | true =>
    obtain ⟨A, c, h1, h2, hk⟩ := lbk_ok hv hz h3 (k := k) h
    exact ⟨A, c, fun _ => h1, h2.symm, hk⟩
theorem bt_b1 (a i : Nat) : bt a i = b1 (inS a i) := by
  unfold inS
  have := bt_lt a i
  by_cases e : bt a i = 1
  · rw [nbT e, e]; rfl
  · rw [nbF e]; show bt a i = 0; omega
end HF
section HCG
variable {n N dg Ft : Nat} {P0 P0' : Nat → Nat} {to to' : Nat → Nat → Nat} {rg rg' kd kd' : Nat → Bool} {Fk Fk' Fq Fq' Ek Ek' : Nat → Nat → Nat} {off off' : Nat → Nat} {nb fc : Nat → Nat → Nat} {pi qi sz ec fm : Nat → Nat} {Rnb Rsz : Nat → Nat → Nat}
theorem hJ_cg (hP : ∀ g, g < n → P0 g = P0' g) (ht : ∀ g i, g < n → i < 3 → to g i = to' g i ∧ to g i < n) (hr : ∀ i, i < 3 → rg i = rg' i) (c d : Nat) : hJ n P0 to rg c d ↔ hJ n P0' to' rg' c d := by
  constructor
  · rintro ⟨g, i, h1, h2, h3, h4, h5⟩
    have q := ht g i h1 h2
    exact ⟨g, i, h1, h2, by rw [← hr i h2]; exact h3, by rw [← hP g h1]; exact h4, by rw [← q.1, ← hP _ q.2]; exact h5⟩
  · rintro ⟨g, i, h1, h2, h3, h4, h5⟩
    have q := ht g i h1 h2
    exact ⟨g, i, h1, h2, by rw [hr i h2]; exact h3, by rw [hP g h1]; exact h4, by rw [hP _ q.2, q.1]; exact h5⟩
theorem hFA_cg (hP : ∀ g, g < n → P0 g = P0' g) (hk : ∀ k, k < 3 → kd k = kd' k) (hF : ∀ k g, k < 3 → kd k = true → g < n → Fk k g = Fk' k g) (f c : Nat) : hFA n P0 kd Fk f c ↔ hFA n P0' kd' Fk' f c := by
  constructor
  · rintro ⟨g, k, h1, h2, h3, h4, h5⟩
    exact ⟨g, k, h1, h2, by rw [← hk k h2]; exact h3, by rw [← hF k g h2 h3 h1]; exact h4, by rw [← hP g h1]; exact h5⟩
  · rintro ⟨g, k, h1, h2, h3, h4, h5⟩
    have h3' : kd k = true := by rw [hk k h2]; exact h3
    exact ⟨g, k, h1, h2, h3', by rw [hF k g h2 h3' h1]; exact h4, by rw [hP g h1]; exact h5⟩
theorem hRS_cg (hP : ∀ g, g < n → P0 g = P0' g) (ht : ∀ g i, g < n → i < 3 → to g i = to' g i ∧ to g i < n) (hr : ∀ i, i < 3 → rg i = rg' i) (hk : ∀ k, k < 3 → kd k = kd' k) (hF : ∀ k g, k < 3 → kd k = true → g < n → Fk k g = Fk' k g) (hQ : ∀ k g, k < 3 → kd k = true → g < n → Fq k g = Fq' k g) (hE : ∀ i g, i < 3 → rg i = true → g < n → Ek i g = Ek' i g) (ho : ∀ k, k < 3 → off k = off' k)
    (h : hRS n N dg Ft P0 to rg kd Fk Fq Ek off nb fc pi qi sz ec fm Rnb Rsz) : hRS n N dg Ft P0' to' rg' kd' Fk' Fq' Ek' off' nb fc pi qi sz ec fm Rnb Rsz := by
  have j := hJ_cg hP ht hr
  have f := hFA_cg hP hk hF
  obtain ⟨h1, h2, h3, h4, h5, h6, h7, h8, h9, h10, h11⟩ := h
  refine ⟨h1, h2, fun c d hc => by rw [← j]; exact h3 c d hc, fun hd c i hc hi => ?_, fun hd => ?_, h6, fun h0 g => by rw [← f]; exact h7 h0 g, fun g hg => ?_, h9, fun i g hi hri hg x => ?_, fun h0 x hx => ?_⟩
  · obtain ⟨q1, q2, q3, q4⟩ := h4 hd c i hc hi
    exact ⟨q1, q2, fun g => by rw [← f, ← f]; exact q3 g, fun d => by rw [← j, ← f]; exact q4 d⟩
  · rcases h5 hd with ⟨q1, q2, q3⟩ | q
    · exact Or.inl ⟨q1, q2, fun c hc => ⟨fun g => by rw [← f]; exact (q3 c hc).1 g, (q3 c hc).2⟩⟩
    · exact Or.inr q
  · obtain ⟨q1, B, q2, q3⟩ := h8 g hg
    exact ⟨q1, B, fun c => by rw [← f]; exact q2 c, q3⟩
  · have hri' : rg i = true := by rw [hr i hi]; exact hri
    have q := h10 i g hi hri' hg x
    have t := ht g i hg hi
    rw [← hP g hg, ← t.1, ← hP _ t.2, ← f, ← f, ← q]
    constructor
    · rintro ⟨y, k, z1, z2, z3, z4, z5, z6⟩
      have z3' : kd k = true := by rw [hk k z2]; exact z3
      exact ⟨y, k, z1, z2, z3', z4, by rw [hE i y hi hri' z1, hE i g hi hri' hg]; exact z5, by rw [hF k y z2 z3' z1]; exact z6⟩
    · rintro ⟨y, k, z1, z2, z3, z4, z5, z6⟩
      exact ⟨y, k, z1, z2, by rw [← hk k z2]; exact z3, z4, by rw [← hE i y hi hri' z1, ← hE i g hi hri' hg]; exact z5, by rw [← hF k y z2 z3 z1]; exact z6⟩
  · obtain ⟨q1, q2, q3, q4, q5, q6⟩ := h11 h0 x hx
    refine ⟨fun y => ?_, fun y => ?_, q3, q4, by rw [← hk _ q4]; exact q5, by rw [← ho _ q4]; exact q6⟩
    · rw [← q1 y]
      constructor
      · rintro ⟨g, k, i, z1, z2, z3, z4, z5, z6, z7, z8, z9⟩
        have z4' : kd k = true := by rw [hk k z2]; exact z4
        have z5' : rg i = true := by rw [hr i z3]; exact z5
        exact ⟨g, k, i, z1, z2, z3, z4', z5', z6, by rw [hP g z1]; exact z7, by rw [hQ k g z2 z4' z1]; exact z8, by rw [hE i g z3 z5' z1]; exact z9⟩
      · rintro ⟨g, k, i, z1, z2, z3, z4, z5, z6, z7, z8, z9⟩
        exact ⟨g, k, i, z1, z2, z3, by rw [← hk k z2]; exact z4, by rw [← hr i z3]; exact z5, z6, by rw [← hP g z1]; exact z7, by rw [← hQ k g z2 z4 z1]; exact z8, by rw [← hE i g z3 z5 z1]; exact z9⟩
    · rw [← q2 y]
      constructor
      · rintro ⟨g, i, k, z1, z2, z3, z4, z5, z6, z7, z8, z9⟩
        have z5' : kd k = true := by rw [hk k z3]; exact z5
        have z4' : rg i = true := by rw [hr i z2]; exact z4
        exact ⟨g, i, k, z1, z2, z3, z4', z5', z6, by rw [hP g z1]; exact z7, by rw [hE i g z2 z4' z1]; exact z8, by rw [hQ k g z3 z5' z1]; exact z9⟩
      · rintro ⟨g, i, k, z1, z2, z3, z4, z5, z6, z7, z8, z9⟩
        exact ⟨g, i, k, z1, z2, z3, by rw [← hr i z2]; exact z4, by rw [← hk k z3]; exact z5, z6, by rw [← hP g z1]; exact z7, by rw [← hE i g z2 z4 z1]; exact z8, by rw [← hQ k g z3 z5 z1]; exact z9⟩
end HCG
section HFD
variable {D : eb_D}
noncomputable def kdD (D : eb_D) (k : Nat) : Bool := isK D (fS k)
noncomputable def FqD (D : eb_D) (k g : Nat) : Nat := PN D (fS k) g
noncomputable def FkD (D : eb_D) (k g : Nat) : Nat := offF D (fM D) k + PN D (fS k) g
noncomputable def EkD (D : eb_D) (i g : Nat) : Nat := PN D (2 ^ i) g
noncomputable def neD (D : eb_D) : Nat := cond (inS D.2.2 0) (NP D 1) 0 + cond (inS D.2.2 1) (NP D 2) 0 + cond (inS D.2.2 2) (NP D 4) 0
/-- all that was checked of a body -/
def hulD (D : eb_D) (cl : Nat) (nb fc : Nat → Nat → Nat) (pi qi sz ec fm : Nat → Nat) : Prop :=
  (cl < 30 ∧ NP D 0 = RN cl ∧ duN D = RF cl ∧ neD D = RE cl ∧ b1 (isK D 7) = RK cl) ∧ (∀ i, i < 3 → isK D (2 ^ i) = inS D.2.2 i) ∧ (NP D 0 ≤ 128 ∧ duN D ≤ 64) ∧
  hRS (ZD D) (NP D 0) (Rdg cl) (duN D) (PN D 0) (Tto (TD D)) (inS D.2.2) (kdD D) (FkD D) (FqD D) (EkD D) (offF D (fM D)) nb fc pi qi sz ec fm (Rnb cl) (Rsz cl)
theorem hulD_ex (hv : vD D) (hz : ¬ ZD D = 0) (h3 : D.1 = 3) : ∃ cl nb fc pi qi sz ec fm, hulD D cl nb fc pi qi sz ec fm := by
  obtain ⟨hG, he1, he2, he3⟩ := TD_ok hv hz
  have ht := TD_tfo hv hz
  have hzl := ZD_le hv
  have hr8 : D.2.2 < 8 := by have := hv.2.1.2; rw [h3] at this; exact this
  obtain ⟨d, hd⟩ := hb_all _ (TD_mem hv hz) (he1.trans h3) D.2.2 hv.2.1.1 hr8
  rw [hck_eq, frc_eq, frc_eq, frc_eq, he2] at hd
  unfold hcl at hd
  rw [frc_eq, stay_dS hv h3] at hd
  obtain ⟨P0, N, p1, p2, hd⟩ := lbk_ok hv hz h3 hd
  rw [frc_eq, frc_eq, frc_eq, frc_eq, stay_dS hv h3, isK_dS hv h3, isK_dS hv h3, isK_dS hv h3] at hd
  obtain ⟨F2, m2, a1, a2, hd⟩ := lbc_ok hv hz h3 hd
  rw [frc_eq, stay_dS hv h3] at hd
  obtain ⟨F1, m1, b1', b2, hd⟩ := lbc_ok hv hz h3 hd
  rw [frc_eq, stay_dS hv h3] at hd
  obtain ⟨F0, m0, c1, c2, hd⟩ := lbc_ok hv hz h3 hd
  rw [frc_eq, stay_dS hv h3, bt_b1] at hd
  obtain ⟨E0, q0, u1, u2, hd⟩ := lbc_ok hv hz h3 hd
  rw [frc_eq, stay_dS hv h3, bt_b1 D.2.2 1] at hd
  obtain ⟨E1, q1, v1, v2, hd⟩ := lbc_ok hv hz h3 hd
  rw [frc_eq, stay_dS hv h3, bt_b1 D.2.2 2] at hd
  obtain ⟨E2, q2, w1, w2, hd⟩ := lbc_ok hv hz h3 hd
  rw [frc_eq, isK_dS hv h3, isK_dS hv h3, isK_dS hv h3, isK_dS hv h3, Bool.and_eq_true, Bool.and_eq_true, Bool.and_eq_true] at hd
  obtain ⟨⟨i0, i1, i2⟩, hd⟩ := hd
  unfold hcc at hd
  rw [Bool.and_eq_true, Bool.and_eq_true, Bool.and_eq_true, Bool.and_eq_true, Bool.and_eq_true, Bool.and_eq_true, Bool.and_eq_true] at hd
  obtain ⟨⟨⟨x1, x2⟩, x3, x4⟩, ⟨⟨x5, x6⟩, x7⟩, hd⟩ := hd
  have hN : N ≤ 128 := Nat.le_of_ble_eq_true x5
  have hF64 : m2 + m1 + m0 ≤ 64 := Nat.le_of_ble_eq_true x6
  have eP0 : ∀ g, g < ZD D → t9 P0 g = PN D 0 g := fun g hg => (p1 g hg).symm
  have e2 : fM D 2 = m2 := a2.symm
  have e1 : fM D 1 = m1 := b2.symm
  have e0 : fM D 0 = m0 := c2.symm
  have eto : ∀ g i, g < ZD D → i < 3 → t9 (TD D).2.2.2.1 (Nat.add (Nat.mul 3 g) i) = Tto (TD D) g i := fun g i _ _ => by
    show _ = t9 (TD D).2.2.2.1 ((TD D).1 * g + i)
    rw [he1, h3]
    rfl
  have c3 : ∀ {k : Nat}, k < 3 → k = 0 ∨ k = 1 ∨ k = 2 := fun h => by omega
  have ekd : ∀ k, k < 3 → Nat.beq (s3 (b1 (isK D 3)) (b1 (isK D 5)) (b1 (isK D 6)) k) 1 = kdD D k := fun k hk => by
    have hb : ∀ x : Bool, Nat.beq (b1 x) 1 = x := by decide
    rcases c3 hk with rfl | rfl | rfl
    · exact hb _
    · exact hb _
    · exact hb _
  have eoff : ∀ k, k < 3 → s3 0 m2 (Nat.add m2 m1) k = offF D (fM D) k := fun k hk => by
    unfold offF
    rcases c3 hk with rfl | rfl | rfl
    · rw [if_neg (by decide), if_pos rfl, e2, e1]; rfl
    · rw [if_pos rfl, e2]; rfl
    · rw [if_neg (by decide), if_neg (by decide)]; rfl
  have eFq : ∀ k g, k < 3 → Nat.beq (s3 (b1 (isK D 3)) (b1 (isK D 5)) (b1 (isK D 6)) k) 1 = true → g < ZD D → t9 (s3 F2 F1 F0 k) g = FqD D k g := fun k g hk hkd hg => by
    rw [ekd k hk] at hkd
    rcases c3 hk with rfl | rfl | rfl
    · exact (c1 hkd g hg).symm
    · exact (b1' hkd g hg).symm
    · exact (a1 hkd g hg).symm
  have eEk : ∀ i g, i < 3 → inS D.2.2 i = true → g < ZD D → t9 (s3 E2 E1 E0 i) g = EkD D i g := fun i g hi hri hg => by
    rcases c3 hi with rfl | rfl | rfl
    · exact (u1 hri g hg).symm
    · exact (v1 hri g hg).symm
    · exact (w1 hri g hg).symm
  have hFlt : ∀ k g, k < 3 → kdD D k = true → g < ZD D → offF D (fM D) k + PN D (fS k) g < 64 := fun k g hk hkd hg => by
    have := off_lt (D := D) hk (fP_lt (i := k) (g := g) (p := PN D (fS k) g) (by unfold fP; rw [show isK D (fS k) = true from hkd]; rfl) hg)
    have e : duN D = m2 + m1 + m0 := by unfold duN; rw [e2, e1, e0]
    omega
  rw [he3] at hd
  have hA := cAll_ok (fun g hg => by rw [eP0 g hg]; have := PN_lt D 0 hg; omega) (fun g i hg hi => by rw [eto g i hg hi]; exact (ht g i hg (by omega)).1) (fun g k hg hk hkd => by
    show s3 0 m2 (Nat.add m2 m1) k + t9 (s3 F2 F1 F0 k) g < 64
    rw [eoff k hk, eFq k g hk hkd hg]
    exact hFlt k g hk (by rw [← ekd k hk]; exact hkd) hg) hd
  have e1' : duN D = Nat.add (Nat.add m2 m1) m0 := by unfold duN; rw [e2, e1, e0]; rfl
  rw [← e1', ← p2] at hA
  refine ⟨d.1, _, _, _, _, _, _, _, ⟨Nat.le_of_ble_eq_true x7, by rw [p2]; exact Nat.eq_of_beq_eq_true x1, by rw [e1']; exact Nat.eq_of_beq_eq_true x2, ?_, Nat.eq_of_beq_eq_true x4⟩, fun i hi => ?_, ⟨by rw [p2]; exact hN, by rw [e1']; exact hF64⟩, hRS_cg eP0 (fun g i hg hi => ⟨eto g i hg hi, by rw [eto g i hg hi]; exact (ht g i hg (by omega)).1⟩) (fun _ _ => rfl) ekd (fun k g hk hkd hg => ?_) eFq eEk eoff hA⟩
  · have := Nat.eq_of_beq_eq_true x3
    unfold neD
    rw [← u2, ← v2, ← w2]
    exact this
  · have hb : ∀ x y : Bool, b1 x = b1 y → x = y := by decide
    rcases c3 hi with rfl | rfl | rfl
    · exact hb _ _ (Nat.eq_of_beq_eq_true i0)
    · exact hb _ _ (Nat.eq_of_beq_eq_true i1)
    · exact hb _ _ (Nat.eq_of_beq_eq_true i2)
  · show s3 0 m2 (Nat.add m2 m1) k + t9 (s3 F2 F1 F0 k) g = offF D (fM D) k + PN D (fS k) g
    rw [eoff k hk, eFq k g hk hkd hg]
    rfl
end HFD
