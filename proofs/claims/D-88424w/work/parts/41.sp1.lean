set_option maxRecDepth 100000
theorem nbT {a b : Nat} (h : a = b) : Nat.beq a b = true := by rw [h]; exact Nat.beq_refl b
theorem nbF {a b : Nat} (h : ¬ a = b) : Nat.beq a b = false := by
  cases hq : Nat.beq a b with
  | false => rfl
  | true => exact absurd (Nat.eq_of_beq_eq_true hq) h
theorem nlT {a b : Nat} (h : a < b) : Nat.blt a b = true := Nat.ble_eq_true_of_le h
theorem nlF {a b : Nat} (h : ¬ a < b) : Nat.blt a b = false := by
  cases hq : Nat.blt a b with
  | false => rfl
  | true => exact absurd (Nat.le_of_ble_eq_true hq) h
theorem br_eq {a b : Nat} {A B : Prop} (ha : a < 2147483648) (hb : b < 2147483648) (h1 : a = b → A) (h2 : ¬ a = b → B) : eb_br (nI a = nI b) A B :=
  ⟨fun h => h1 ((nI_eq ha hb).mp h), fun h => h2 (fun z => h ((nI_eq ha hb).mpr z))⟩
theorem br_le {a b : Nat} {A B : Prop} (ha : a < 2147483648) (hb : b < 2147483648) (h1 : a ≤ b → A) (h2 : ¬ a ≤ b → B) : eb_br (nI a ≤ nI b) A B :=
  ⟨fun h => h1 ((nI_leI ha hb).mp h), fun h => h2 (fun z => h ((nI_leI ha hb).mpr z))⟩
theorem br_lt {a b : Nat} {A B : Prop} (ha : a < 2147483648) (hb : b < 2147483648) (h1 : a < b → A) (h2 : ¬ a < b → B) : eb_br (nI a < nI b) A B :=
  ⟨fun h => h1 ((nI_ltI ha hb).mp h), fun h => h2 (fun z => h ((nI_ltI ha hb).mpr z))⟩
theorem jp_1 {α : Type} {K : α → Prop} {B : (α → Prop) → Prop} (P : α → Prop) (h1 : ∀ x, P x → K x) (h2 : ∀ k : α → Prop, (∀ x, P x → k x) → B k) : eb_jp1 K B := h2 K h1
theorem jp_0 {K : Prop} {B : Prop → Prop} (P : Prop) (h1 : P → K) (h2 : ∀ k : Prop, (P → k) → B k) : eb_jp0 K B := h2 K h1
theorem jp_2 {α β : Type} {K : α → β → Prop} {B : (α → β → Prop) → Prop} (P : α → β → Prop) (h1 : ∀ x y, P x y → K x y) (h2 : ∀ k : α → β → Prop, (∀ x y, P x y → k x y) → B k) : eb_jp2 K B := h2 K h1
theorem jp_3 {α β γ : Type} {K : α → β → γ → Prop} {B : (α → β → γ → Prop) → Prop} (P : α → β → γ → Prop) (h1 : ∀ x y z, P x y z → K x y z) (h2 : ∀ k : α → β → γ → Prop, (∀ x y z, P x y z → k x y z) → B k) : eb_jp3 K B := h2 K h1
/-- pure facts on sets -/
theorem mk_sub : ∀ a, a < 16 → ∀ b, b < 16 → ∀ c, c < 16 → Nat.land a b = a → Nat.land a (Nat.lor b c) = a := by decide +kernel
theorem mk_pc : ∀ a, a < 16 → ∀ b, b < 16 → Nat.land a b = a → ¬ a = b → pc4 a < pc4 b ∧ a < b := by decide +kernel
theorem mk_self : ∀ a, a < 16 → Nat.land a a = a ∧ pc4 a ≤ 4 ∧ Nat.lor a 0 = a ∧ Nat.land a 15 = a ∧ (¬ a = 0 → 1 ≤ pc4 a) := by decide +kernel
section RIT
variable {j : Nat → Nat} {w : Nat}
theorem rst_ok (hj : ∀ m, m < 4 → j m < 16) (hw : w < 16) {x : Nat} (hx : x < 16) : ∀ m, m ≤ 4 → rst j w x m < 16 ∧ Nat.land x (rst j w x m) = x := by
  intro m
  induction m with
  | zero => intro _; exact ⟨hx, (mk_self x hx).1⟩
  | succ m ih =>
    intro hm
    obtain ⟨h1, h2⟩ := ih (by omega)
    have hc : cond (Nat.beq (bt x m) 1) (Nat.land (j m) w) 0 < 16 := by
      cases Nat.beq (bt x m) 1
      · exact (by decide : 0 < 16)
      · exact mk_andl _ (hj m (by omega)) _ hw
    exact ⟨mk_orl _ h1 _ hc, mk_sub _ hx _ h1 _ hc h2⟩
theorem rst_0 : ∀ m, rst j w 0 m = 0 := by
  intro m
  induction m with
  | zero => rfl
  | succ m ih =>
    have hb : bt 0 m = 0 := by show (0 >>> m) % 2 = 0; rw [Nat.zero_shiftRight]
    show Nat.lor (rst j w 0 m) (cond (Nat.beq (bt 0 m) 1) _ 0) = 0
    rw [ih, hb]
    show Nat.lor 0 0 = 0
    rfl
theorem rit_lt (hj : ∀ m, m < 4 → j m < 16) (hw : w < 16) : ∀ k {x : Nat}, x < 16 → rit j w k x < 16 := by
  intro k
  induction k with
  | zero => intro x hx; exact hx
  | succ k ih => intro x hx; exact ih (rst_ok hj hw hx 4 (Nat.le_refl _)).1
theorem rit_add : ∀ a b x, rit j w (a + b) x = rit j w b (rit j w a x) := by
  intro a
  induction a with
  | zero => intro b x; rw [Nat.zero_add]; rfl
  | succ a ih => intro b x; rw [Nat.succ_add]; exact ih b _
theorem rit_fixn {x : Nat} (h : rst j w x 4 = x) : ∀ k, rit j w k x = x := by
  intro k
  induction k with
  | zero => rfl
  | succ k ih => show rit j w k (rst j w x 4) = x; rw [h]; exact ih
theorem rit_pc (hj : ∀ m, m < 4 → j m < 16) (hw : w < 16) : ∀ k {x : Nat}, x < 16 → rst j w (rit j w k x) 4 = rit j w k x ∨ pc4 x + k ≤ pc4 (rit j w k x) := by
  intro k
  induction k with
  | zero => intro x _; exact Or.inr (Nat.le_refl _)
  | succ k ih =>
    intro x hx
    obtain ⟨h1, h2⟩ := rst_ok hj hw hx 4 (Nat.le_refl _)
    by_cases he : x = rst j w x 4
    · left
      have e : rit j w (k + 1) x = x := rit_fixn he.symm (k + 1)
      rw [e]; exact he.symm
    · rcases ih h1 with h3 | h3
      · exact Or.inl h3
      · right
        have := (mk_pc x hx _ h1 h2 he).1
        show pc4 x + (k + 1) ≤ pc4 (rit j w k (rst j w x 4))
        omega
theorem rit_fix (hj : ∀ m, m < 4 → j m < 16) (hw : w < 16) {x : Nat} (hx : x < 16) : rst j w (rit j w 4 x) 4 = rit j w 4 x := by
  rcases rit_pc hj hw 4 hx with h | h
  · exact h
  · have h1 := (mk_self _ (rit_lt hj hw 4 hx)).2.1
    have h0 : x = 0 := by
      by_cases hz : x = 0
      · exact hz
      · have := (mk_self x hx).2.2.2.2 hz; omega
    have e : rst j w 0 4 = 0 := rst_0 4
    rw [h0, rit_fixn e]; exact e
/-- wherever it stays, that's where it comes to -/
theorem rit_eq (hj : ∀ m, m < 4 → j m < 16) (hw : w < 16) {x k : Nat} (hx : x < 16) (h : rst j w (rit j w k x) 4 = rit j w k x) : rit j w k x = rit j w 4 x := by
  rcases Nat.le_total k 4 with hk | hk
  · have := rit_add (j := j) (w := w) k (4 - k) x
    rw [show k + (4 - k) = 4 by omega, rit_fixn h] at this
    exact this.symm
  · have := rit_add (j := j) (w := w) 4 (k - 4) x
    rw [show 4 + (k - 4) = k by omega, rit_fixn (rit_fix hj hw hx)] at this
    exact this
theorem rit_step (k x : Nat) : rit j w (k + 1) x = rst j w (rit j w k x) 4 := rit_add k 1 x
end RIT
def pcs (a : Nat) : Nat → Nat
  | 0 => 0
  | m + 1 => pcs a m + bt a m
theorem pcs_4 (a : Nat) : pcs a 4 = pc4 a := by
  show 0 + bt a 0 + bt a 1 + bt a 2 + bt a 3 = bt a 0 + bt a 1 + (bt a 2 + bt a 3)
  omega
theorem pcs_le (a : Nat) : ∀ m, pcs a m ≤ m := by
  intro m
  induction m with
  | zero => exact Nat.le_refl _
  | succ m ih => have := bt_lt a m; show pcs a m + bt a m ≤ m + 1; omega
section SP1
variable {σ : eb_MS} {b : Nat} {D : eb_D}
theorem sp_bits {a : Nat} {K : Int32 → Prop} (ha : a < 16) (hK : K (nI (pc4 a))) : MX2_bits (nI a) K := by
  unfold MX2_bits
  refine eb_loop2_i (fun s x => ∃ m, m ≤ 4 ∧ s = nI (pcs a m) ∧ x = nI m) (fun s x => 8 - x.toNatClampNeg) ?_ (show ∃ m, m ≤ 4 ∧ (0 : Int32) = nI (pcs a m) ∧ (0 : Int32) = nI m from ⟨0, by omega, rfl, rfl⟩)
  rintro R s x ⟨m, hm, rfl, rfl⟩ hR
  rw [nL_4, nL_1]
  refine br_le (by omega) (by omega) (fun h => ?_) (fun h => ?_)
  · rw [show m = 4 by omega, pcs_4]; exact hK
  · rw [mk_bit1 a ha m (by omega), nI_add, nI_add]
    refine hR _ _ ⟨m + 1, by omega, rfl, rfl⟩ ?_
    rw [nI_cl (by omega), nI_cl (by omega)]; omega
theorem sp_jlt (hv : vD D) (m : Nat) : jnp D.2.1 m D.1 < 16 := jnp_lt _ _ _ hv.1.2
/-- one round of reaching, as the model does it -/
theorem sp_round {h w : Nat} {K : Int32 → Prop} {P : Int32 → (Int32 → Prop) → Prop} (hv : vD D) (hh : h < 16) (hw : w < 16)
    (hP : ∀ (m : Nat) (k : Int32 → Prop), m < 4 → k (nI (Nat.land (jnp D.2.1 m D.1) w)) → P (nI m) k)
    (hK : K (nI (rst (fun i => jnp D.2.1 i D.1) w h 4))) :
    eb_loop2 (fun r (x : Int32) (y : Int32) => eb_br (4 ≤ y) (K x) (eb_jp1 (fun (s : Int32) => r (x ||| s) (y + 1)) (fun k => eb_br (((eb_shr (nI h) y) &&& 1) = 1) (P y (fun v => k v)) (k 0)))) (nI h) 0 := by
  have hj : ∀ m, m < 4 → (fun i => jnp D.2.1 i D.1) m < 16 := fun m _ => sp_jlt hv m
  refine eb_loop2_i (fun s x => ∃ m, m ≤ 4 ∧ s = nI (rst (fun i => jnp D.2.1 i D.1) w h m) ∧ x = nI m) (fun s x => 8 - x.toNatClampNeg) ?_ (show ∃ m, m ≤ 4 ∧ nI h = nI (rst (fun i => jnp D.2.1 i D.1) w h m) ∧ (0 : Int32) = nI m from ⟨0, by omega, rfl, rfl⟩)
  rintro R s x ⟨m, hm, rfl, rfl⟩ hR
  rw [nL_4]
  refine br_le (by omega) (by omega) (fun h1 => ?_) (fun h1 => ?_)
  · rw [show m = 4 by omega]; exact hK
  · rw [eb_jp1_iff]
    have hl := (rst_ok hj hw hh m (by omega)).1
    have e : rst (fun i => jnp D.2.1 i D.1) w h (m + 1) = Nat.lor (rst (fun i => jnp D.2.1 i D.1) w h m) (cond (Nat.beq (bt h m) 1) (Nat.land (jnp D.2.1 m D.1) w) 0) := rfl
    have go : ∀ v : Nat, v < 16 → rst (fun i => jnp D.2.1 i D.1) w h (m + 1) = Nat.lor (rst (fun i => jnp D.2.1 i D.1) w h m) v → R (nI (rst (fun i => jnp D.2.1 i D.1) w h m) ||| nI v) (nI m + 1) := by
      intro v hv1 e1
      refine hR _ _ ⟨m + 1, by omega, ?_, by rw [nI_1]⟩ ?_
      · rw [mk_or _ hl _ hv1, e1]
      · rw [nI_1, nI_cl (by omega), nI_cl (by omega)]; omega
    rw [nL_1, mk_bit1 h hh m (by omega)]
    refine br_eq (Nat.lt_trans (bt_lt _ _) (by decide)) (by decide) (fun h2 => ?_) (fun h2 => ?_)
    · refine hP m _ (by omega) ?_
      exact go _ (mk_andl _ (sp_jlt hv m) _ hw) (by rw [e, nbT h2]; rfl)
    · exact go 0 (by decide) (by rw [e, nbF h2]; rfl)
theorem sp_isKind {s : Int32} {K : Int32 → Prop} (hv : vD D) (hD : mD σ b D) (hb : b < 4)
    (h0 : (∀ a, a < 2 ^ D.1 → ¬ s = nI a) → K 0)
    (h1 : ∀ a, a < 2 ^ D.1 → s = nI a → rit (fun i => jnp D.2.1 i D.1) a 4 (Nat.land a D.2.2) = a → K 1)
    (h2 : ∀ a, a < 2 ^ D.1 → s = nI a → ¬ rit (fun i => jnp D.2.1 i D.1) a 4 (Nat.land a D.2.2) = a → K 0) : MX2_isKind σ (nI b) s K := by
  have hr := hv.1
  have hring := hv.ring
  have h16 : 2 ^ D.1 ≤ 2 ^ 4 := Nat.pow_le_pow_right (by omega) hr.2
  have hpos : 1 ≤ 2 ^ D.1 := Nat.one_le_two_pow
  unfold MX2_isKind
  rw [eb_rd_iff, nI_cl (by omega), hD.1]
  refine ⟨vp_inN hb (by omega), ?_⟩
  rw [mk_shl _ (by omega), nL_1, nI_sub hpos]
  refine sp_in (fun hin => ?_) (fun hin => ?_)
  · obtain ⟨a, ha, rfl⟩ : ∃ a : Nat, a < 2147483648 ∧ s = nI a := nI_of (Int32.not_lt.mpr hin.1)
    have hle := (nI_leI ha (by omega)).mp hin.2
    have ha16 : a < 16 := by omega
    refine ⟨fun z => absurd z (by decide), fun _ => ?_⟩
    rw [eb_rd_iff, nI_cl (by omega), hD.2.1]
    refine ⟨vp_inN hb (by omega), ?_⟩
    rw [eb_jp1_iff, mk_and a ha16 _ hring]
    have hj : ∀ m, m < 4 → (fun i => jnp D.2.1 i D.1) m < 16 := fun m _ => sp_jlt hv m
    have hs0 : Nat.land a D.2.2 < 16 := mk_andl _ ha16 _ hring
    refine eb_loop2_i (fun x y => ∃ k, x = nI (rit (fun i => jnp D.2.1 i D.1) a k (Nat.land a D.2.2)) ∧ (x = y → rst (fun i => jnp D.2.1 i D.1) a (rit (fun i => jnp D.2.1 i D.1) a k (Nat.land a D.2.2)) 4 = rit (fun i => jnp D.2.1 i D.1) a k (Nat.land a D.2.2))) (fun x y => 2 * (16 - x.toNatClampNeg) + if x = y then 0 else 1) ?_ ?_
    · rintro R x y ⟨k, rfl, hf⟩ hR
      have hlt := rit_lt hj ha16 k hs0
      refine ⟨fun hxy => ?_, fun hxy => ?_⟩
      · have hfix := hf hxy
        have he := rit_eq hj ha16 hs0 hfix
        rw [he]
        refine br_eq (by have := rit_lt hj ha16 4 hs0; omega) (by omega) (fun h => ?_) (fun h => ?_)
        · exact h1 a (by omega) rfl h
        · exact h2 a (by omega) rfl h
      · rw [eb_jp1_iff]
        refine sp_round (P := fun y k => MX2_joinedTo σ (nI b) y (fun v => k (v &&& nI a))) (w := a) hv hlt ha16 (fun m k hm hk => ?_) ?_
        · refine sp_joinedTo hv hD hb hm ?_
          rw [mk_and _ (sp_jlt hv m) _ ha16]; exact hk
        · have hst := rst_ok hj ha16 hlt 4 (Nat.le_refl _)
          refine hR _ _ ⟨k + 1, by rw [rit_step], fun z => ?_⟩ ?_
          · rw [rit_step]
            have z' := (nI_eq (by omega) (by omega)).mp z
            rw [z']; exact z'
          · rw [nI_cl (by omega), nI_cl (by omega), if_neg hxy]
            by_cases e : rst (fun i => jnp D.2.1 i D.1) a (rit (fun i => jnp D.2.1 i D.1) a k (Nat.land a D.2.2)) 4 = rit (fun i => jnp D.2.1 i D.1) a k (Nat.land a D.2.2)
            · rw [e, if_pos rfl]; omega
            · have := (mk_pc _ hlt _ hst.1 hst.2 (fun z => e z.symm)).2
              split <;> omega
    · exact ⟨0, rfl, fun z => absurd z (nI_m1 (by show Nat.land a D.2.2 < _; omega))⟩
  · refine ⟨fun _ => h0 (fun a ha z => hin ?_), fun z => absurd rfl z⟩
    rw [z]
    exact ⟨nI_pos' (by omega), (nI_leI (by omega) (by omega)).mpr (by omega)⟩
end SP1
