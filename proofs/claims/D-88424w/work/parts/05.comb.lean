set_option maxRecDepth 100000
/-- a branch -/
def eb_br (c A B : Prop) : Prop := (c → A) ∧ (¬ c → B)
/-- a named value -/
def eb_let {α : Type} (e : α) (K : α → Prop) : Prop := ∀ v : α, v = e → K v
/-- an array read -/
def eb_rd {α : Type} (f : Nat → α) (n : Nat) (i : Int32) (K : α → Prop) : Prop := vp_in i n ∧ ∀ v : α, v = f i.toNatClampNeg → K v
/-- a boolean answer -/
def eb_zb (v : Int32) : Prop := v = 0 ∨ v = 1
theorem eb_zb.nar {v : Int32} (h : eb_zb v) : narrow .boolean (.int v) = .int v := by
  rcases h with rfl | rfl <;> rfl
def eb_jp0 (K : Prop) (B : Prop → Prop) : Prop := B K
theorem eb_jp0_e {K : Prop} {B : Prop → Prop} {J G : Prop} (h : eb_jp0 K B) (hk : K → J) (hb : ∀ k : Prop, (k → J) → B k → G) : G := hb K hk h
theorem eb_let_iff {α : Type} {e : α} {K : α → Prop} : eb_let e K ↔ K e := ⟨fun h => h e rfl, fun h _ hv => hv ▸ h⟩
theorem eb_rd_iff {α : Type} {f : Nat → α} {n : Nat} {i : Int32} {K : α → Prop} : eb_rd f n i K ↔ vp_in i n ∧ K (f i.toNatClampNeg) := ⟨fun h => ⟨h.1, h.2 _ rfl⟩, fun h => ⟨h.1, fun _ hv => hv ▸ h.2⟩⟩
theorem eb_br_pos {c A B : Prop} (hc : c) : eb_br c A B ↔ A := ⟨fun h => h.1 hc, fun h => ⟨fun _ => h, fun z => absurd hc z⟩⟩
theorem eb_br_neg {c A B : Prop} (hc : ¬ c) : eb_br c A B ↔ B := ⟨fun h => h.2 hc, fun h => ⟨fun z => absurd z hc, fun _ => h⟩⟩
theorem eb_jp0_iff {K : Prop} {B : Prop → Prop} : eb_jp0 K B ↔ B K := Iff.rfl
def eb_jp1 {α0 : Type} (K : α0 → Prop) (B : (α0 → Prop) → Prop) : Prop := B K
theorem eb_jp1_e {α0 : Type} {K : α0 → Prop} {B : (α0 → Prop) → Prop} {J : α0 → Prop} {G : Prop} (h : eb_jp1 K B) (hk : ∀ (x0 : α0), K x0 → J x0) (hb : ∀ k : α0 → Prop, (∀ (x0 : α0), k x0 → J x0) → B k → G) : G := hb K hk h
theorem eb_jp1_iff {α0 : Type} {K : α0 → Prop} {B : (α0 → Prop) → Prop} : eb_jp1 K B ↔ B K := Iff.rfl
def eb_lp1 {α0 : Type} (F : (α0 → Prop) → α0 → Prop) : Nat → α0 → Prop
  | 0, _ => False
  | n + 1, x0 => F (eb_lp1 F n) x0
def eb_loop1 {α0 : Type} (F : (α0 → Prop) → α0 → Prop) (x0 : α0) : Prop := ∃ n, eb_lp1 F n x0
theorem eb_loop1_e {α0 : Type} {F : (α0 → Prop) → α0 → Prop} {J : α0 → Prop} {x0 : α0} (h : eb_loop1 F x0) (hs : ∀ R : α0 → Prop, (∀ (x0 : α0), R x0 → J x0) → ∀ (x0 : α0), F R x0 → J x0) : J x0 := by
  obtain ⟨n, h⟩ := h
  induction n generalizing x0 with
  | zero => exact absurd h id
  | succ n ih => exact hs (eb_lp1 F n) (fun _ h => ih h) x0 h
theorem eb_loop1_i {α0 : Type} {F : (α0 → Prop) → α0 → Prop} (I : α0 → Prop) (μ : α0 → Nat) (hs : ∀ (R : α0 → Prop) (x0 : α0), I x0 → (∀ (x0' : α0), I x0' → μ x0' < μ x0 → R x0') → F R x0) {x0 : α0} (h : I x0) : eb_loop1 F x0 := by
  have key : ∀ (n : Nat) (x0 : α0), I x0 → μ x0 < n → eb_lp1 F n x0 := by
    intro n
    induction n with
    | zero => intro x0 _ h; exact absurd h (Nat.not_lt_zero _)
    | succ n ih => intro x0 h1 h2; exact hs _ x0 h1 (fun x0' h3 h4 => ih x0' h3 (by omega))
  exact ⟨_, key _ x0 h (Nat.lt_succ_self _)⟩
def eb_jp2 {α0 : Type} {α1 : Type} (K : α0 → α1 → Prop) (B : (α0 → α1 → Prop) → Prop) : Prop := B K
theorem eb_jp2_e {α0 : Type} {α1 : Type} {K : α0 → α1 → Prop} {B : (α0 → α1 → Prop) → Prop} {J : α0 → α1 → Prop} {G : Prop} (h : eb_jp2 K B) (hk : ∀ (x0 : α0) (x1 : α1), K x0 x1 → J x0 x1) (hb : ∀ k : α0 → α1 → Prop, (∀ (x0 : α0) (x1 : α1), k x0 x1 → J x0 x1) → B k → G) : G := hb K hk h
theorem eb_jp2_iff {α0 : Type} {α1 : Type} {K : α0 → α1 → Prop} {B : (α0 → α1 → Prop) → Prop} : eb_jp2 K B ↔ B K := Iff.rfl
def eb_lp2 {α0 : Type} {α1 : Type} (F : (α0 → α1 → Prop) → α0 → α1 → Prop) : Nat → α0 → α1 → Prop
  | 0, _, _ => False
  | n + 1, x0, x1 => F (eb_lp2 F n) x0 x1
def eb_loop2 {α0 : Type} {α1 : Type} (F : (α0 → α1 → Prop) → α0 → α1 → Prop) (x0 : α0) (x1 : α1) : Prop := ∃ n, eb_lp2 F n x0 x1
theorem eb_loop2_e {α0 : Type} {α1 : Type} {F : (α0 → α1 → Prop) → α0 → α1 → Prop} {J : α0 → α1 → Prop} {x0 : α0} {x1 : α1} (h : eb_loop2 F x0 x1) (hs : ∀ R : α0 → α1 → Prop, (∀ (x0 : α0) (x1 : α1), R x0 x1 → J x0 x1) → ∀ (x0 : α0) (x1 : α1), F R x0 x1 → J x0 x1) : J x0 x1 := by
  obtain ⟨n, h⟩ := h
  induction n generalizing x0 x1 with
  | zero => exact absurd h id
  | succ n ih => exact hs (eb_lp2 F n) (fun _ _ h => ih h) x0 x1 h
theorem eb_loop2_i {α0 : Type} {α1 : Type} {F : (α0 → α1 → Prop) → α0 → α1 → Prop} (I : α0 → α1 → Prop) (μ : α0 → α1 → Nat) (hs : ∀ (R : α0 → α1 → Prop) (x0 : α0) (x1 : α1), I x0 x1 → (∀ (x0' : α0) (x1' : α1), I x0' x1' → μ x0' x1' < μ x0 x1 → R x0' x1') → F R x0 x1) {x0 : α0} {x1 : α1} (h : I x0 x1) : eb_loop2 F x0 x1 := by
  have key : ∀ (n : Nat) (x0 : α0) (x1 : α1), I x0 x1 → μ x0 x1 < n → eb_lp2 F n x0 x1 := by
    intro n
    induction n with
    | zero => intro x0 x1 _ h; exact absurd h (Nat.not_lt_zero _)
    | succ n ih => intro x0 x1 h1 h2; exact hs _ x0 x1 h1 (fun x0' x1' h3 h4 => ih x0' x1' h3 (by omega))
  exact ⟨_, key _ x0 x1 h (Nat.lt_succ_self _)⟩
def eb_jp3 {α0 : Type} {α1 : Type} {α2 : Type} (K : α0 → α1 → α2 → Prop) (B : (α0 → α1 → α2 → Prop) → Prop) : Prop := B K
theorem eb_jp3_e {α0 : Type} {α1 : Type} {α2 : Type} {K : α0 → α1 → α2 → Prop} {B : (α0 → α1 → α2 → Prop) → Prop} {J : α0 → α1 → α2 → Prop} {G : Prop} (h : eb_jp3 K B) (hk : ∀ (x0 : α0) (x1 : α1) (x2 : α2), K x0 x1 x2 → J x0 x1 x2) (hb : ∀ k : α0 → α1 → α2 → Prop, (∀ (x0 : α0) (x1 : α1) (x2 : α2), k x0 x1 x2 → J x0 x1 x2) → B k → G) : G := hb K hk h
theorem eb_jp3_iff {α0 : Type} {α1 : Type} {α2 : Type} {K : α0 → α1 → α2 → Prop} {B : (α0 → α1 → α2 → Prop) → Prop} : eb_jp3 K B ↔ B K := Iff.rfl
def eb_lp3 {α0 : Type} {α1 : Type} {α2 : Type} (F : (α0 → α1 → α2 → Prop) → α0 → α1 → α2 → Prop) : Nat → α0 → α1 → α2 → Prop
  | 0, _, _, _ => False
  | n + 1, x0, x1, x2 => F (eb_lp3 F n) x0 x1 x2
def eb_loop3 {α0 : Type} {α1 : Type} {α2 : Type} (F : (α0 → α1 → α2 → Prop) → α0 → α1 → α2 → Prop) (x0 : α0) (x1 : α1) (x2 : α2) : Prop := ∃ n, eb_lp3 F n x0 x1 x2
theorem eb_loop3_e {α0 : Type} {α1 : Type} {α2 : Type} {F : (α0 → α1 → α2 → Prop) → α0 → α1 → α2 → Prop} {J : α0 → α1 → α2 → Prop} {x0 : α0} {x1 : α1} {x2 : α2} (h : eb_loop3 F x0 x1 x2) (hs : ∀ R : α0 → α1 → α2 → Prop, (∀ (x0 : α0) (x1 : α1) (x2 : α2), R x0 x1 x2 → J x0 x1 x2) → ∀ (x0 : α0) (x1 : α1) (x2 : α2), F R x0 x1 x2 → J x0 x1 x2) : J x0 x1 x2 := by
  obtain ⟨n, h⟩ := h
  induction n generalizing x0 x1 x2 with
  | zero => exact absurd h id
  | succ n ih => exact hs (eb_lp3 F n) (fun _ _ _ h => ih h) x0 x1 x2 h
theorem eb_loop3_i {α0 : Type} {α1 : Type} {α2 : Type} {F : (α0 → α1 → α2 → Prop) → α0 → α1 → α2 → Prop} (I : α0 → α1 → α2 → Prop) (μ : α0 → α1 → α2 → Nat) (hs : ∀ (R : α0 → α1 → α2 → Prop) (x0 : α0) (x1 : α1) (x2 : α2), I x0 x1 x2 → (∀ (x0' : α0) (x1' : α1) (x2' : α2), I x0' x1' x2' → μ x0' x1' x2' < μ x0 x1 x2 → R x0' x1' x2') → F R x0 x1 x2) {x0 : α0} {x1 : α1} {x2 : α2} (h : I x0 x1 x2) : eb_loop3 F x0 x1 x2 := by
  have key : ∀ (n : Nat) (x0 : α0) (x1 : α1) (x2 : α2), I x0 x1 x2 → μ x0 x1 x2 < n → eb_lp3 F n x0 x1 x2 := by
    intro n
    induction n with
    | zero => intro x0 x1 x2 _ h; exact absurd h (Nat.not_lt_zero _)
    | succ n ih => intro x0 x1 x2 h1 h2; exact hs _ x0 x1 x2 h1 (fun x0' x1' x2' h3 h4 => ih x0' x1' x2' h3 (by omega))
  exact ⟨_, key _ x0 x1 x2 h (Nat.lt_succ_self _)⟩
def eb_jp4 {α0 : Type} {α1 : Type} {α2 : Type} {α3 : Type} (K : α0 → α1 → α2 → α3 → Prop) (B : (α0 → α1 → α2 → α3 → Prop) → Prop) : Prop := B K
theorem eb_jp4_e {α0 : Type} {α1 : Type} {α2 : Type} {α3 : Type} {K : α0 → α1 → α2 → α3 → Prop} {B : (α0 → α1 → α2 → α3 → Prop) → Prop} {J : α0 → α1 → α2 → α3 → Prop} {G : Prop} (h : eb_jp4 K B) (hk : ∀ (x0 : α0) (x1 : α1) (x2 : α2) (x3 : α3), K x0 x1 x2 x3 → J x0 x1 x2 x3) (hb : ∀ k : α0 → α1 → α2 → α3 → Prop, (∀ (x0 : α0) (x1 : α1) (x2 : α2) (x3 : α3), k x0 x1 x2 x3 → J x0 x1 x2 x3) → B k → G) : G := hb K hk h
theorem eb_jp4_iff {α0 : Type} {α1 : Type} {α2 : Type} {α3 : Type} {K : α0 → α1 → α2 → α3 → Prop} {B : (α0 → α1 → α2 → α3 → Prop) → Prop} : eb_jp4 K B ↔ B K := Iff.rfl
def eb_lp4 {α0 : Type} {α1 : Type} {α2 : Type} {α3 : Type} (F : (α0 → α1 → α2 → α3 → Prop) → α0 → α1 → α2 → α3 → Prop) : Nat → α0 → α1 → α2 → α3 → Prop
  | 0, _, _, _, _ => False
  | n + 1, x0, x1, x2, x3 => F (eb_lp4 F n) x0 x1 x2 x3
def eb_loop4 {α0 : Type} {α1 : Type} {α2 : Type} {α3 : Type} (F : (α0 → α1 → α2 → α3 → Prop) → α0 → α1 → α2 → α3 → Prop) (x0 : α0) (x1 : α1) (x2 : α2) (x3 : α3) : Prop := ∃ n, eb_lp4 F n x0 x1 x2 x3
theorem eb_loop4_e {α0 : Type} {α1 : Type} {α2 : Type} {α3 : Type} {F : (α0 → α1 → α2 → α3 → Prop) → α0 → α1 → α2 → α3 → Prop} {J : α0 → α1 → α2 → α3 → Prop} {x0 : α0} {x1 : α1} {x2 : α2} {x3 : α3} (h : eb_loop4 F x0 x1 x2 x3) (hs : ∀ R : α0 → α1 → α2 → α3 → Prop, (∀ (x0 : α0) (x1 : α1) (x2 : α2) (x3 : α3), R x0 x1 x2 x3 → J x0 x1 x2 x3) → ∀ (x0 : α0) (x1 : α1) (x2 : α2) (x3 : α3), F R x0 x1 x2 x3 → J x0 x1 x2 x3) : J x0 x1 x2 x3 := by
  obtain ⟨n, h⟩ := h
  induction n generalizing x0 x1 x2 x3 with
  | zero => exact absurd h id
  | succ n ih => exact hs (eb_lp4 F n) (fun _ _ _ _ h => ih h) x0 x1 x2 x3 h
theorem eb_loop4_i {α0 : Type} {α1 : Type} {α2 : Type} {α3 : Type} {F : (α0 → α1 → α2 → α3 → Prop) → α0 → α1 → α2 → α3 → Prop} (I : α0 → α1 → α2 → α3 → Prop) (μ : α0 → α1 → α2 → α3 → Nat) (hs : ∀ (R : α0 → α1 → α2 → α3 → Prop) (x0 : α0) (x1 : α1) (x2 : α2) (x3 : α3), I x0 x1 x2 x3 → (∀ (x0' : α0) (x1' : α1) (x2' : α2) (x3' : α3), I x0' x1' x2' x3' → μ x0' x1' x2' x3' < μ x0 x1 x2 x3 → R x0' x1' x2' x3') → F R x0 x1 x2 x3) {x0 : α0} {x1 : α1} {x2 : α2} {x3 : α3} (h : I x0 x1 x2 x3) : eb_loop4 F x0 x1 x2 x3 := by
  have key : ∀ (n : Nat) (x0 : α0) (x1 : α1) (x2 : α2) (x3 : α3), I x0 x1 x2 x3 → μ x0 x1 x2 x3 < n → eb_lp4 F n x0 x1 x2 x3 := by
    intro n
    induction n with
    | zero => intro x0 x1 x2 x3 _ h; exact absurd h (Nat.not_lt_zero _)
    | succ n ih => intro x0 x1 x2 x3 h1 h2; exact hs _ x0 x1 x2 x3 h1 (fun x0' x1' x2' x3' h3 h4 => ih x0' x1' x2' x3' h3 (by omega))
  exact ⟨_, key _ x0 x1 x2 x3 h (Nat.lt_succ_self _)⟩
def eb_jp5 {α0 : Type} {α1 : Type} {α2 : Type} {α3 : Type} {α4 : Type} (K : α0 → α1 → α2 → α3 → α4 → Prop) (B : (α0 → α1 → α2 → α3 → α4 → Prop) → Prop) : Prop := B K
theorem eb_jp5_e {α0 : Type} {α1 : Type} {α2 : Type} {α3 : Type} {α4 : Type} {K : α0 → α1 → α2 → α3 → α4 → Prop} {B : (α0 → α1 → α2 → α3 → α4 → Prop) → Prop} {J : α0 → α1 → α2 → α3 → α4 → Prop} {G : Prop} (h : eb_jp5 K B) (hk : ∀ (x0 : α0) (x1 : α1) (x2 : α2) (x3 : α3) (x4 : α4), K x0 x1 x2 x3 x4 → J x0 x1 x2 x3 x4) (hb : ∀ k : α0 → α1 → α2 → α3 → α4 → Prop, (∀ (x0 : α0) (x1 : α1) (x2 : α2) (x3 : α3) (x4 : α4), k x0 x1 x2 x3 x4 → J x0 x1 x2 x3 x4) → B k → G) : G := hb K hk h
theorem eb_jp5_iff {α0 : Type} {α1 : Type} {α2 : Type} {α3 : Type} {α4 : Type} {K : α0 → α1 → α2 → α3 → α4 → Prop} {B : (α0 → α1 → α2 → α3 → α4 → Prop) → Prop} : eb_jp5 K B ↔ B K := Iff.rfl
def eb_lp5 {α0 : Type} {α1 : Type} {α2 : Type} {α3 : Type} {α4 : Type} (F : (α0 → α1 → α2 → α3 → α4 → Prop) → α0 → α1 → α2 → α3 → α4 → Prop) : Nat → α0 → α1 → α2 → α3 → α4 → Prop
  | 0, _, _, _, _, _ => False
  | n + 1, x0, x1, x2, x3, x4 => F (eb_lp5 F n) x0 x1 x2 x3 x4
def eb_loop5 {α0 : Type} {α1 : Type} {α2 : Type} {α3 : Type} {α4 : Type} (F : (α0 → α1 → α2 → α3 → α4 → Prop) → α0 → α1 → α2 → α3 → α4 → Prop) (x0 : α0) (x1 : α1) (x2 : α2) (x3 : α3) (x4 : α4) : Prop := ∃ n, eb_lp5 F n x0 x1 x2 x3 x4
theorem eb_loop5_e {α0 : Type} {α1 : Type} {α2 : Type} {α3 : Type} {α4 : Type} {F : (α0 → α1 → α2 → α3 → α4 → Prop) → α0 → α1 → α2 → α3 → α4 → Prop} {J : α0 → α1 → α2 → α3 → α4 → Prop} {x0 : α0} {x1 : α1} {x2 : α2} {x3 : α3} {x4 : α4} (h : eb_loop5 F x0 x1 x2 x3 x4) (hs : ∀ R : α0 → α1 → α2 → α3 → α4 → Prop, (∀ (x0 : α0) (x1 : α1) (x2 : α2) (x3 : α3) (x4 : α4), R x0 x1 x2 x3 x4 → J x0 x1 x2 x3 x4) → ∀ (x0 : α0) (x1 : α1) (x2 : α2) (x3 : α3) (x4 : α4), F R x0 x1 x2 x3 x4 → J x0 x1 x2 x3 x4) : J x0 x1 x2 x3 x4 := by
  obtain ⟨n, h⟩ := h
  induction n generalizing x0 x1 x2 x3 x4 with
  | zero => exact absurd h id
  | succ n ih => exact hs (eb_lp5 F n) (fun _ _ _ _ _ h => ih h) x0 x1 x2 x3 x4 h
theorem eb_loop5_i {α0 : Type} {α1 : Type} {α2 : Type} {α3 : Type} {α4 : Type} {F : (α0 → α1 → α2 → α3 → α4 → Prop) → α0 → α1 → α2 → α3 → α4 → Prop} (I : α0 → α1 → α2 → α3 → α4 → Prop) (μ : α0 → α1 → α2 → α3 → α4 → Nat) (hs : ∀ (R : α0 → α1 → α2 → α3 → α4 → Prop) (x0 : α0) (x1 : α1) (x2 : α2) (x3 : α3) (x4 : α4), I x0 x1 x2 x3 x4 → (∀ (x0' : α0) (x1' : α1) (x2' : α2) (x3' : α3) (x4' : α4), I x0' x1' x2' x3' x4' → μ x0' x1' x2' x3' x4' < μ x0 x1 x2 x3 x4 → R x0' x1' x2' x3' x4') → F R x0 x1 x2 x3 x4) {x0 : α0} {x1 : α1} {x2 : α2} {x3 : α3} {x4 : α4} (h : I x0 x1 x2 x3 x4) : eb_loop5 F x0 x1 x2 x3 x4 := by
  have key : ∀ (n : Nat) (x0 : α0) (x1 : α1) (x2 : α2) (x3 : α3) (x4 : α4), I x0 x1 x2 x3 x4 → μ x0 x1 x2 x3 x4 < n → eb_lp5 F n x0 x1 x2 x3 x4 := by
    intro n
    induction n with
    | zero => intro x0 x1 x2 x3 x4 _ h; exact absurd h (Nat.not_lt_zero _)
    | succ n ih => intro x0 x1 x2 x3 x4 h1 h2; exact hs _ x0 x1 x2 x3 x4 h1 (fun x0' x1' x2' x3' x4' h3 h4 => ih x0' x1' x2' x3' x4' h3 (by omega))
  exact ⟨_, key _ x0 x1 x2 x3 x4 h (Nat.lt_succ_self _)⟩
def eb_jp6 {α0 : Type} {α1 : Type} {α2 : Type} {α3 : Type} {α4 : Type} {α5 : Type} (K : α0 → α1 → α2 → α3 → α4 → α5 → Prop) (B : (α0 → α1 → α2 → α3 → α4 → α5 → Prop) → Prop) : Prop := B K
theorem eb_jp6_e {α0 : Type} {α1 : Type} {α2 : Type} {α3 : Type} {α4 : Type} {α5 : Type} {K : α0 → α1 → α2 → α3 → α4 → α5 → Prop} {B : (α0 → α1 → α2 → α3 → α4 → α5 → Prop) → Prop} {J : α0 → α1 → α2 → α3 → α4 → α5 → Prop} {G : Prop} (h : eb_jp6 K B) (hk : ∀ (x0 : α0) (x1 : α1) (x2 : α2) (x3 : α3) (x4 : α4) (x5 : α5), K x0 x1 x2 x3 x4 x5 → J x0 x1 x2 x3 x4 x5) (hb : ∀ k : α0 → α1 → α2 → α3 → α4 → α5 → Prop, (∀ (x0 : α0) (x1 : α1) (x2 : α2) (x3 : α3) (x4 : α4) (x5 : α5), k x0 x1 x2 x3 x4 x5 → J x0 x1 x2 x3 x4 x5) → B k → G) : G := hb K hk h
theorem eb_jp6_iff {α0 : Type} {α1 : Type} {α2 : Type} {α3 : Type} {α4 : Type} {α5 : Type} {K : α0 → α1 → α2 → α3 → α4 → α5 → Prop} {B : (α0 → α1 → α2 → α3 → α4 → α5 → Prop) → Prop} : eb_jp6 K B ↔ B K := Iff.rfl
def eb_lp6 {α0 : Type} {α1 : Type} {α2 : Type} {α3 : Type} {α4 : Type} {α5 : Type} (F : (α0 → α1 → α2 → α3 → α4 → α5 → Prop) → α0 → α1 → α2 → α3 → α4 → α5 → Prop) : Nat → α0 → α1 → α2 → α3 → α4 → α5 → Prop
  | 0, _, _, _, _, _, _ => False
  | n + 1, x0, x1, x2, x3, x4, x5 => F (eb_lp6 F n) x0 x1 x2 x3 x4 x5
def eb_loop6 {α0 : Type} {α1 : Type} {α2 : Type} {α3 : Type} {α4 : Type} {α5 : Type} (F : (α0 → α1 → α2 → α3 → α4 → α5 → Prop) → α0 → α1 → α2 → α3 → α4 → α5 → Prop) (x0 : α0) (x1 : α1) (x2 : α2) (x3 : α3) (x4 : α4) (x5 : α5) : Prop := ∃ n, eb_lp6 F n x0 x1 x2 x3 x4 x5
theorem eb_loop6_e {α0 : Type} {α1 : Type} {α2 : Type} {α3 : Type} {α4 : Type} {α5 : Type} {F : (α0 → α1 → α2 → α3 → α4 → α5 → Prop) → α0 → α1 → α2 → α3 → α4 → α5 → Prop} {J : α0 → α1 → α2 → α3 → α4 → α5 → Prop} {x0 : α0} {x1 : α1} {x2 : α2} {x3 : α3} {x4 : α4} {x5 : α5} (h : eb_loop6 F x0 x1 x2 x3 x4 x5) (hs : ∀ R : α0 → α1 → α2 → α3 → α4 → α5 → Prop, (∀ (x0 : α0) (x1 : α1) (x2 : α2) (x3 : α3) (x4 : α4) (x5 : α5), R x0 x1 x2 x3 x4 x5 → J x0 x1 x2 x3 x4 x5) → ∀ (x0 : α0) (x1 : α1) (x2 : α2) (x3 : α3) (x4 : α4) (x5 : α5), F R x0 x1 x2 x3 x4 x5 → J x0 x1 x2 x3 x4 x5) : J x0 x1 x2 x3 x4 x5 := by
  obtain ⟨n, h⟩ := h
  induction n generalizing x0 x1 x2 x3 x4 x5 with
  | zero => exact absurd h id
  | succ n ih => exact hs (eb_lp6 F n) (fun _ _ _ _ _ _ h => ih h) x0 x1 x2 x3 x4 x5 h
theorem eb_loop6_i {α0 : Type} {α1 : Type} {α2 : Type} {α3 : Type} {α4 : Type} {α5 : Type} {F : (α0 → α1 → α2 → α3 → α4 → α5 → Prop) → α0 → α1 → α2 → α3 → α4 → α5 → Prop} (I : α0 → α1 → α2 → α3 → α4 → α5 → Prop) (μ : α0 → α1 → α2 → α3 → α4 → α5 → Nat) (hs : ∀ (R : α0 → α1 → α2 → α3 → α4 → α5 → Prop) (x0 : α0) (x1 : α1) (x2 : α2) (x3 : α3) (x4 : α4) (x5 : α5), I x0 x1 x2 x3 x4 x5 → (∀ (x0' : α0) (x1' : α1) (x2' : α2) (x3' : α3) (x4' : α4) (x5' : α5), I x0' x1' x2' x3' x4' x5' → μ x0' x1' x2' x3' x4' x5' < μ x0 x1 x2 x3 x4 x5 → R x0' x1' x2' x3' x4' x5') → F R x0 x1 x2 x3 x4 x5) {x0 : α0} {x1 : α1} {x2 : α2} {x3 : α3} {x4 : α4} {x5 : α5} (h : I x0 x1 x2 x3 x4 x5) : eb_loop6 F x0 x1 x2 x3 x4 x5 := by
  have key : ∀ (n : Nat) (x0 : α0) (x1 : α1) (x2 : α2) (x3 : α3) (x4 : α4) (x5 : α5), I x0 x1 x2 x3 x4 x5 → μ x0 x1 x2 x3 x4 x5 < n → eb_lp6 F n x0 x1 x2 x3 x4 x5 := by
    intro n
    induction n with
    | zero => intro x0 x1 x2 x3 x4 x5 _ h; exact absurd h (Nat.not_lt_zero _)
    | succ n ih => intro x0 x1 x2 x3 x4 x5 h1 h2; exact hs _ x0 x1 x2 x3 x4 x5 h1 (fun x0' x1' x2' x3' x4' x5' h3 h4 => ih x0' x1' x2' x3' x4' x5' h3 (by omega))
  exact ⟨_, key _ x0 x1 x2 x3 x4 x5 h (Nat.lt_succ_self _)⟩
def eb_jp7 {α0 : Type} {α1 : Type} {α2 : Type} {α3 : Type} {α4 : Type} {α5 : Type} {α6 : Type} (K : α0 → α1 → α2 → α3 → α4 → α5 → α6 → Prop) (B : (α0 → α1 → α2 → α3 → α4 → α5 → α6 → Prop) → Prop) : Prop := B K
theorem eb_jp7_e {α0 : Type} {α1 : Type} {α2 : Type} {α3 : Type} {α4 : Type} {α5 : Type} {α6 : Type} {K : α0 → α1 → α2 → α3 → α4 → α5 → α6 → Prop} {B : (α0 → α1 → α2 → α3 → α4 → α5 → α6 → Prop) → Prop} {J : α0 → α1 → α2 → α3 → α4 → α5 → α6 → Prop} {G : Prop} (h : eb_jp7 K B) (hk : ∀ (x0 : α0) (x1 : α1) (x2 : α2) (x3 : α3) (x4 : α4) (x5 : α5) (x6 : α6), K x0 x1 x2 x3 x4 x5 x6 → J x0 x1 x2 x3 x4 x5 x6) (hb : ∀ k : α0 → α1 → α2 → α3 → α4 → α5 → α6 → Prop, (∀ (x0 : α0) (x1 : α1) (x2 : α2) (x3 : α3) (x4 : α4) (x5 : α5) (x6 : α6), k x0 x1 x2 x3 x4 x5 x6 → J x0 x1 x2 x3 x4 x5 x6) → B k → G) : G := hb K hk h
theorem eb_jp7_iff {α0 : Type} {α1 : Type} {α2 : Type} {α3 : Type} {α4 : Type} {α5 : Type} {α6 : Type} {K : α0 → α1 → α2 → α3 → α4 → α5 → α6 → Prop} {B : (α0 → α1 → α2 → α3 → α4 → α5 → α6 → Prop) → Prop} : eb_jp7 K B ↔ B K := Iff.rfl
def eb_lp7 {α0 : Type} {α1 : Type} {α2 : Type} {α3 : Type} {α4 : Type} {α5 : Type} {α6 : Type} (F : (α0 → α1 → α2 → α3 → α4 → α5 → α6 → Prop) → α0 → α1 → α2 → α3 → α4 → α5 → α6 → Prop) : Nat → α0 → α1 → α2 → α3 → α4 → α5 → α6 → Prop
  | 0, _, _, _, _, _, _, _ => False
  | n + 1, x0, x1, x2, x3, x4, x5, x6 => F (eb_lp7 F n) x0 x1 x2 x3 x4 x5 x6
def eb_loop7 {α0 : Type} {α1 : Type} {α2 : Type} {α3 : Type} {α4 : Type} {α5 : Type} {α6 : Type} (F : (α0 → α1 → α2 → α3 → α4 → α5 → α6 → Prop) → α0 → α1 → α2 → α3 → α4 → α5 → α6 → Prop) (x0 : α0) (x1 : α1) (x2 : α2) (x3 : α3) (x4 : α4) (x5 : α5) (x6 : α6) : Prop := ∃ n, eb_lp7 F n x0 x1 x2 x3 x4 x5 x6
theorem eb_loop7_e {α0 : Type} {α1 : Type} {α2 : Type} {α3 : Type} {α4 : Type} {α5 : Type} {α6 : Type} {F : (α0 → α1 → α2 → α3 → α4 → α5 → α6 → Prop) → α0 → α1 → α2 → α3 → α4 → α5 → α6 → Prop} {J : α0 → α1 → α2 → α3 → α4 → α5 → α6 → Prop} {x0 : α0} {x1 : α1} {x2 : α2} {x3 : α3} {x4 : α4} {x5 : α5} {x6 : α6} (h : eb_loop7 F x0 x1 x2 x3 x4 x5 x6) (hs : ∀ R : α0 → α1 → α2 → α3 → α4 → α5 → α6 → Prop, (∀ (x0 : α0) (x1 : α1) (x2 : α2) (x3 : α3) (x4 : α4) (x5 : α5) (x6 : α6), R x0 x1 x2 x3 x4 x5 x6 → J x0 x1 x2 x3 x4 x5 x6) → ∀ (x0 : α0) (x1 : α1) (x2 : α2) (x3 : α3) (x4 : α4) (x5 : α5) (x6 : α6), F R x0 x1 x2 x3 x4 x5 x6 → J x0 x1 x2 x3 x4 x5 x6) : J x0 x1 x2 x3 x4 x5 x6 := by
  obtain ⟨n, h⟩ := h
  induction n generalizing x0 x1 x2 x3 x4 x5 x6 with
  | zero => exact absurd h id
  | succ n ih => exact hs (eb_lp7 F n) (fun _ _ _ _ _ _ _ h => ih h) x0 x1 x2 x3 x4 x5 x6 h
theorem eb_loop7_i {α0 : Type} {α1 : Type} {α2 : Type} {α3 : Type} {α4 : Type} {α5 : Type} {α6 : Type} {F : (α0 → α1 → α2 → α3 → α4 → α5 → α6 → Prop) → α0 → α1 → α2 → α3 → α4 → α5 → α6 → Prop} (I : α0 → α1 → α2 → α3 → α4 → α5 → α6 → Prop) (μ : α0 → α1 → α2 → α3 → α4 → α5 → α6 → Nat) (hs : ∀ (R : α0 → α1 → α2 → α3 → α4 → α5 → α6 → Prop) (x0 : α0) (x1 : α1) (x2 : α2) (x3 : α3) (x4 : α4) (x5 : α5) (x6 : α6), I x0 x1 x2 x3 x4 x5 x6 → (∀ (x0' : α0) (x1' : α1) (x2' : α2) (x3' : α3) (x4' : α4) (x5' : α5) (x6' : α6), I x0' x1' x2' x3' x4' x5' x6' → μ x0' x1' x2' x3' x4' x5' x6' < μ x0 x1 x2 x3 x4 x5 x6 → R x0' x1' x2' x3' x4' x5' x6') → F R x0 x1 x2 x3 x4 x5 x6) {x0 : α0} {x1 : α1} {x2 : α2} {x3 : α3} {x4 : α4} {x5 : α5} {x6 : α6} (h : I x0 x1 x2 x3 x4 x5 x6) : eb_loop7 F x0 x1 x2 x3 x4 x5 x6 := by
  have key : ∀ (n : Nat) (x0 : α0) (x1 : α1) (x2 : α2) (x3 : α3) (x4 : α4) (x5 : α5) (x6 : α6), I x0 x1 x2 x3 x4 x5 x6 → μ x0 x1 x2 x3 x4 x5 x6 < n → eb_lp7 F n x0 x1 x2 x3 x4 x5 x6 := by
    intro n
    induction n with
    | zero => intro x0 x1 x2 x3 x4 x5 x6 _ h; exact absurd h (Nat.not_lt_zero _)
    | succ n ih => intro x0 x1 x2 x3 x4 x5 x6 h1 h2; exact hs _ x0 x1 x2 x3 x4 x5 x6 h1 (fun x0' x1' x2' x3' x4' x5' x6' h3 h4 => ih x0' x1' x2' x3' x4' x5' x6' h3 (by omega))
  exact ⟨_, key _ x0 x1 x2 x3 x4 x5 x6 h (Nat.lt_succ_self _)⟩
def eb_jp8 {α0 : Type} {α1 : Type} {α2 : Type} {α3 : Type} {α4 : Type} {α5 : Type} {α6 : Type} {α7 : Type} (K : α0 → α1 → α2 → α3 → α4 → α5 → α6 → α7 → Prop) (B : (α0 → α1 → α2 → α3 → α4 → α5 → α6 → α7 → Prop) → Prop) : Prop := B K
theorem eb_jp8_e {α0 : Type} {α1 : Type} {α2 : Type} {α3 : Type} {α4 : Type} {α5 : Type} {α6 : Type} {α7 : Type} {K : α0 → α1 → α2 → α3 → α4 → α5 → α6 → α7 → Prop} {B : (α0 → α1 → α2 → α3 → α4 → α5 → α6 → α7 → Prop) → Prop} {J : α0 → α1 → α2 → α3 → α4 → α5 → α6 → α7 → Prop} {G : Prop} (h : eb_jp8 K B) (hk : ∀ (x0 : α0) (x1 : α1) (x2 : α2) (x3 : α3) (x4 : α4) (x5 : α5) (x6 : α6) (x7 : α7), K x0 x1 x2 x3 x4 x5 x6 x7 → J x0 x1 x2 x3 x4 x5 x6 x7) (hb : ∀ k : α0 → α1 → α2 → α3 → α4 → α5 → α6 → α7 → Prop, (∀ (x0 : α0) (x1 : α1) (x2 : α2) (x3 : α3) (x4 : α4) (x5 : α5) (x6 : α6) (x7 : α7), k x0 x1 x2 x3 x4 x5 x6 x7 → J x0 x1 x2 x3 x4 x5 x6 x7) → B k → G) : G := hb K hk h
theorem eb_jp8_iff {α0 : Type} {α1 : Type} {α2 : Type} {α3 : Type} {α4 : Type} {α5 : Type} {α6 : Type} {α7 : Type} {K : α0 → α1 → α2 → α3 → α4 → α5 → α6 → α7 → Prop} {B : (α0 → α1 → α2 → α3 → α4 → α5 → α6 → α7 → Prop) → Prop} : eb_jp8 K B ↔ B K := Iff.rfl
def eb_lp8 {α0 : Type} {α1 : Type} {α2 : Type} {α3 : Type} {α4 : Type} {α5 : Type} {α6 : Type} {α7 : Type} (F : (α0 → α1 → α2 → α3 → α4 → α5 → α6 → α7 → Prop) → α0 → α1 → α2 → α3 → α4 → α5 → α6 → α7 → Prop) : Nat → α0 → α1 → α2 → α3 → α4 → α5 → α6 → α7 → Prop
  | 0, _, _, _, _, _, _, _, _ => False
  | n + 1, x0, x1, x2, x3, x4, x5, x6, x7 => F (eb_lp8 F n) x0 x1 x2 x3 x4 x5 x6 x7
def eb_loop8 {α0 : Type} {α1 : Type} {α2 : Type} {α3 : Type} {α4 : Type} {α5 : Type} {α6 : Type} {α7 : Type} (F : (α0 → α1 → α2 → α3 → α4 → α5 → α6 → α7 → Prop) → α0 → α1 → α2 → α3 → α4 → α5 → α6 → α7 → Prop) (x0 : α0) (x1 : α1) (x2 : α2) (x3 : α3) (x4 : α4) (x5 : α5) (x6 : α6) (x7 : α7) : Prop := ∃ n, eb_lp8 F n x0 x1 x2 x3 x4 x5 x6 x7
theorem eb_loop8_e {α0 : Type} {α1 : Type} {α2 : Type} {α3 : Type} {α4 : Type} {α5 : Type} {α6 : Type} {α7 : Type} {F : (α0 → α1 → α2 → α3 → α4 → α5 → α6 → α7 → Prop) → α0 → α1 → α2 → α3 → α4 → α5 → α6 → α7 → Prop} {J : α0 → α1 → α2 → α3 → α4 → α5 → α6 → α7 → Prop} {x0 : α0} {x1 : α1} {x2 : α2} {x3 : α3} {x4 : α4} {x5 : α5} {x6 : α6} {x7 : α7} (h : eb_loop8 F x0 x1 x2 x3 x4 x5 x6 x7) (hs : ∀ R : α0 → α1 → α2 → α3 → α4 → α5 → α6 → α7 → Prop, (∀ (x0 : α0) (x1 : α1) (x2 : α2) (x3 : α3) (x4 : α4) (x5 : α5) (x6 : α6) (x7 : α7), R x0 x1 x2 x3 x4 x5 x6 x7 → J x0 x1 x2 x3 x4 x5 x6 x7) → ∀ (x0 : α0) (x1 : α1) (x2 : α2) (x3 : α3) (x4 : α4) (x5 : α5) (x6 : α6) (x7 : α7), F R x0 x1 x2 x3 x4 x5 x6 x7 → J x0 x1 x2 x3 x4 x5 x6 x7) : J x0 x1 x2 x3 x4 x5 x6 x7 := by
  obtain ⟨n, h⟩ := h
  induction n generalizing x0 x1 x2 x3 x4 x5 x6 x7 with
  | zero => exact absurd h id
  | succ n ih => exact hs (eb_lp8 F n) (fun _ _ _ _ _ _ _ _ h => ih h) x0 x1 x2 x3 x4 x5 x6 x7 h
theorem eb_loop8_i {α0 : Type} {α1 : Type} {α2 : Type} {α3 : Type} {α4 : Type} {α5 : Type} {α6 : Type} {α7 : Type} {F : (α0 → α1 → α2 → α3 → α4 → α5 → α6 → α7 → Prop) → α0 → α1 → α2 → α3 → α4 → α5 → α6 → α7 → Prop} (I : α0 → α1 → α2 → α3 → α4 → α5 → α6 → α7 → Prop) (μ : α0 → α1 → α2 → α3 → α4 → α5 → α6 → α7 → Nat) (hs : ∀ (R : α0 → α1 → α2 → α3 → α4 → α5 → α6 → α7 → Prop) (x0 : α0) (x1 : α1) (x2 : α2) (x3 : α3) (x4 : α4) (x5 : α5) (x6 : α6) (x7 : α7), I x0 x1 x2 x3 x4 x5 x6 x7 → (∀ (x0' : α0) (x1' : α1) (x2' : α2) (x3' : α3) (x4' : α4) (x5' : α5) (x6' : α6) (x7' : α7), I x0' x1' x2' x3' x4' x5' x6' x7' → μ x0' x1' x2' x3' x4' x5' x6' x7' < μ x0 x1 x2 x3 x4 x5 x6 x7 → R x0' x1' x2' x3' x4' x5' x6' x7') → F R x0 x1 x2 x3 x4 x5 x6 x7) {x0 : α0} {x1 : α1} {x2 : α2} {x3 : α3} {x4 : α4} {x5 : α5} {x6 : α6} {x7 : α7} (h : I x0 x1 x2 x3 x4 x5 x6 x7) : eb_loop8 F x0 x1 x2 x3 x4 x5 x6 x7 := by
  have key : ∀ (n : Nat) (x0 : α0) (x1 : α1) (x2 : α2) (x3 : α3) (x4 : α4) (x5 : α5) (x6 : α6) (x7 : α7), I x0 x1 x2 x3 x4 x5 x6 x7 → μ x0 x1 x2 x3 x4 x5 x6 x7 < n → eb_lp8 F n x0 x1 x2 x3 x4 x5 x6 x7 := by
    intro n
    induction n with
    | zero => intro x0 x1 x2 x3 x4 x5 x6 x7 _ h; exact absurd h (Nat.not_lt_zero _)
    | succ n ih => intro x0 x1 x2 x3 x4 x5 x6 x7 h1 h2; exact hs _ x0 x1 x2 x3 x4 x5 x6 x7 h1 (fun x0' x1' x2' x3' x4' x5' x6' x7' h3 h4 => ih x0' x1' x2' x3' x4' x5' x6' x7' h3 (by omega))
  exact ⟨_, key _ x0 x1 x2 x3 x4 x5 x6 x7 h (Nat.lt_succ_self _)⟩
def eb_jp9 {α0 : Type} {α1 : Type} {α2 : Type} {α3 : Type} {α4 : Type} {α5 : Type} {α6 : Type} {α7 : Type} {α8 : Type} (K : α0 → α1 → α2 → α3 → α4 → α5 → α6 → α7 → α8 → Prop) (B : (α0 → α1 → α2 → α3 → α4 → α5 → α6 → α7 → α8 → Prop) → Prop) : Prop := B K
theorem eb_jp9_e {α0 : Type} {α1 : Type} {α2 : Type} {α3 : Type} {α4 : Type} {α5 : Type} {α6 : Type} {α7 : Type} {α8 : Type} {K : α0 → α1 → α2 → α3 → α4 → α5 → α6 → α7 → α8 → Prop} {B : (α0 → α1 → α2 → α3 → α4 → α5 → α6 → α7 → α8 → Prop) → Prop} {J : α0 → α1 → α2 → α3 → α4 → α5 → α6 → α7 → α8 → Prop} {G : Prop} (h : eb_jp9 K B) (hk : ∀ (x0 : α0) (x1 : α1) (x2 : α2) (x3 : α3) (x4 : α4) (x5 : α5) (x6 : α6) (x7 : α7) (x8 : α8), K x0 x1 x2 x3 x4 x5 x6 x7 x8 → J x0 x1 x2 x3 x4 x5 x6 x7 x8) (hb : ∀ k : α0 → α1 → α2 → α3 → α4 → α5 → α6 → α7 → α8 → Prop, (∀ (x0 : α0) (x1 : α1) (x2 : α2) (x3 : α3) (x4 : α4) (x5 : α5) (x6 : α6) (x7 : α7) (x8 : α8), k x0 x1 x2 x3 x4 x5 x6 x7 x8 → J x0 x1 x2 x3 x4 x5 x6 x7 x8) → B k → G) : G := hb K hk h
theorem eb_jp9_iff {α0 : Type} {α1 : Type} {α2 : Type} {α3 : Type} {α4 : Type} {α5 : Type} {α6 : Type} {α7 : Type} {α8 : Type} {K : α0 → α1 → α2 → α3 → α4 → α5 → α6 → α7 → α8 → Prop} {B : (α0 → α1 → α2 → α3 → α4 → α5 → α6 → α7 → α8 → Prop) → Prop} : eb_jp9 K B ↔ B K := Iff.rfl
def eb_lp9 {α0 : Type} {α1 : Type} {α2 : Type} {α3 : Type} {α4 : Type} {α5 : Type} {α6 : Type} {α7 : Type} {α8 : Type} (F : (α0 → α1 → α2 → α3 → α4 → α5 → α6 → α7 → α8 → Prop) → α0 → α1 → α2 → α3 → α4 → α5 → α6 → α7 → α8 → Prop) : Nat → α0 → α1 → α2 → α3 → α4 → α5 → α6 → α7 → α8 → Prop
  | 0, _, _, _, _, _, _, _, _, _ => False
  | n + 1, x0, x1, x2, x3, x4, x5, x6, x7, x8 => F (eb_lp9 F n) x0 x1 x2 x3 x4 x5 x6 x7 x8
def eb_loop9 {α0 : Type} {α1 : Type} {α2 : Type} {α3 : Type} {α4 : Type} {α5 : Type} {α6 : Type} {α7 : Type} {α8 : Type} (F : (α0 → α1 → α2 → α3 → α4 → α5 → α6 → α7 → α8 → Prop) → α0 → α1 → α2 → α3 → α4 → α5 → α6 → α7 → α8 → Prop) (x0 : α0) (x1 : α1) (x2 : α2) (x3 : α3) (x4 : α4) (x5 : α5) (x6 : α6) (x7 : α7) (x8 : α8) : Prop := ∃ n, eb_lp9 F n x0 x1 x2 x3 x4 x5 x6 x7 x8
theorem eb_loop9_e {α0 : Type} {α1 : Type} {α2 : Type} {α3 : Type} {α4 : Type} {α5 : Type} {α6 : Type} {α7 : Type} {α8 : Type} {F : (α0 → α1 → α2 → α3 → α4 → α5 → α6 → α7 → α8 → Prop) → α0 → α1 → α2 → α3 → α4 → α5 → α6 → α7 → α8 → Prop} {J : α0 → α1 → α2 → α3 → α4 → α5 → α6 → α7 → α8 → Prop} {x0 : α0} {x1 : α1} {x2 : α2} {x3 : α3} {x4 : α4} {x5 : α5} {x6 : α6} {x7 : α7} {x8 : α8} (h : eb_loop9 F x0 x1 x2 x3 x4 x5 x6 x7 x8) (hs : ∀ R : α0 → α1 → α2 → α3 → α4 → α5 → α6 → α7 → α8 → Prop, (∀ (x0 : α0) (x1 : α1) (x2 : α2) (x3 : α3) (x4 : α4) (x5 : α5) (x6 : α6) (x7 : α7) (x8 : α8), R x0 x1 x2 x3 x4 x5 x6 x7 x8 → J x0 x1 x2 x3 x4 x5 x6 x7 x8) → ∀ (x0 : α0) (x1 : α1) (x2 : α2) (x3 : α3) (x4 : α4) (x5 : α5) (x6 : α6) (x7 : α7) (x8 : α8), F R x0 x1 x2 x3 x4 x5 x6 x7 x8 → J x0 x1 x2 x3 x4 x5 x6 x7 x8) : J x0 x1 x2 x3 x4 x5 x6 x7 x8 := by
  obtain ⟨n, h⟩ := h
  induction n generalizing x0 x1 x2 x3 x4 x5 x6 x7 x8 with
  | zero => exact absurd h id
  | succ n ih => exact hs (eb_lp9 F n) (fun _ _ _ _ _ _ _ _ _ h => ih h) x0 x1 x2 x3 x4 x5 x6 x7 x8 h
theorem eb_loop9_i {α0 : Type} {α1 : Type} {α2 : Type} {α3 : Type} {α4 : Type} {α5 : Type} {α6 : Type} {α7 : Type} {α8 : Type} {F : (α0 → α1 → α2 → α3 → α4 → α5 → α6 → α7 → α8 → Prop) → α0 → α1 → α2 → α3 → α4 → α5 → α6 → α7 → α8 → Prop} (I : α0 → α1 → α2 → α3 → α4 → α5 → α6 → α7 → α8 → Prop) (μ : α0 → α1 → α2 → α3 → α4 → α5 → α6 → α7 → α8 → Nat) (hs : ∀ (R : α0 → α1 → α2 → α3 → α4 → α5 → α6 → α7 → α8 → Prop) (x0 : α0) (x1 : α1) (x2 : α2) (x3 : α3) (x4 : α4) (x5 : α5) (x6 : α6) (x7 : α7) (x8 : α8), I x0 x1 x2 x3 x4 x5 x6 x7 x8 → (∀ (x0' : α0) (x1' : α1) (x2' : α2) (x3' : α3) (x4' : α4) (x5' : α5) (x6' : α6) (x7' : α7) (x8' : α8), I x0' x1' x2' x3' x4' x5' x6' x7' x8' → μ x0' x1' x2' x3' x4' x5' x6' x7' x8' < μ x0 x1 x2 x3 x4 x5 x6 x7 x8 → R x0' x1' x2' x3' x4' x5' x6' x7' x8') → F R x0 x1 x2 x3 x4 x5 x6 x7 x8) {x0 : α0} {x1 : α1} {x2 : α2} {x3 : α3} {x4 : α4} {x5 : α5} {x6 : α6} {x7 : α7} {x8 : α8} (h : I x0 x1 x2 x3 x4 x5 x6 x7 x8) : eb_loop9 F x0 x1 x2 x3 x4 x5 x6 x7 x8 := by
  have key : ∀ (n : Nat) (x0 : α0) (x1 : α1) (x2 : α2) (x3 : α3) (x4 : α4) (x5 : α5) (x6 : α6) (x7 : α7) (x8 : α8), I x0 x1 x2 x3 x4 x5 x6 x7 x8 → μ x0 x1 x2 x3 x4 x5 x6 x7 x8 < n → eb_lp9 F n x0 x1 x2 x3 x4 x5 x6 x7 x8 := by
    intro n
    induction n with
    | zero => intro x0 x1 x2 x3 x4 x5 x6 x7 x8 _ h; exact absurd h (Nat.not_lt_zero _)
    | succ n ih => intro x0 x1 x2 x3 x4 x5 x6 x7 x8 h1 h2; exact hs _ x0 x1 x2 x3 x4 x5 x6 x7 x8 h1 (fun x0' x1' x2' x3' x4' x5' x6' x7' x8' h3 h4 => ih x0' x1' x2' x3' x4' x5' x6' x7' x8' h3 (by omega))
  exact ⟨_, key _ x0 x1 x2 x3 x4 x5 x6 x7 x8 h (Nat.lt_succ_self _)⟩
section LETS
variable {l : Launch} {Γ : eb_C} {P : Option Value → eb_S → Prop} {X : eb_X} {cc : ByteArray} {own : String} {nL : Nat} {ret : Option FieldType} {R : Room} {pc : Nat} {lv : eb_L} {stk : List Value} {st : eb_S} {uc us : Nat}
theorem eg_leti {x : Int32} (k : ∀ y : Int32, y = x → eb_G l Γ P X cc own nL ret R pc lv (.int y :: stk) st uc us) : eb_G l Γ P X cc own nL ret R pc lv (.int x :: stk) st uc us := k x rfl
theorem eg_letl {x : Int64} (k : ∀ y : Int64, y = x → eb_G l Γ P X cc own nL ret R pc lv (.long y :: stk) st uc us) : eb_G l Γ P X cc own nL ret R pc lv (.long x :: stk) st uc us := k x rfl
end LETS
/-! the model's state: its numbers, its arrays of ints and booleans, its arrays of longs, by the number of the field -/
abbrev eb_MS : Type := (Nat → Int32) × (Nat → Nat → Int32) × (Nat → Nat → Int64)
def ms_t : Nat → Nat
  | 0 => 0
  | 1 => 1
  | 2 => 1
  | 3 => 1
  | 4 => 1
  | 5 => 0
  | 6 => 0
  | 7 => 0
  | 8 => 0
  | 9 => 1
  | 10 => 1
  | 11 => 1
  | 12 => 1
  | 13 => 1
  | 14 => 1
  | 15 => 1
  | 16 => 0
  | 17 => 1
  | 18 => 0
  | 19 => 1
  | 20 => 1
  | 21 => 1
  | 22 => 1
  | 23 => 2
  | 24 => 3
  | 25 => 3
  | 26 => 2
  | 27 => 1
  | 28 => 1
  | 29 => 1
  | 30 => 1
  | 31 => 0
  | 32 => 1
  | 33 => 1
  | 34 => 1
  | _ => 0
def ms_n : Nat → Nat
  | 1 => 4
  | 2 => 64
  | 3 => 4
  | 4 => 7
  | 9 => 8000
  | 10 => 16
  | 11 => 2000
  | 12 => 500
  | 13 => 500
  | 14 => 500
  | 15 => 500
  | 17 => 500
  | 19 => 500
  | 20 => 500
  | 21 => 500
  | 22 => 500
  | 23 => 500
  | 24 => 500
  | 25 => 500
  | 26 => 250000
  | 27 => 1500
  | 28 => 1500
  | 29 => 3
  | 30 => 64
  | 32 => 210
  | 33 => 500
  | 34 => 4
  | _ => 0
def ms_f (ad : Nat → Nat) (σ : eb_MS) : List Value := (List.range 35).map (fun k => if ms_t k = 0 then .int (σ.1 k) else .ref (ad k))
def ms_c (Γ : eb_C) (ad : Nat → Nat) (σ : eb_MS) (k : Nat) : va_E := match ms_t k with
  | 1 => .inl (Γ.2.1 0, ms_n k, .inl (σ.2.1 k))
  | 2 => .inl (Γ.2.1 1, ms_n k, .inl (σ.2.1 k))
  | 3 => .inl (Γ.2.1 2, ms_n k, .inr (.inl (σ.2.2 k)))
  | _ => .inr (2, ms_f ad σ)
/-- where the model's cells lie, and which cell an address is -/
def ms_inv (ad : Nat → Nat) (ix : Nat → Option Nat) : Prop := ix (ad 0) = some 0 ∧ (∀ k, k < 35 → ms_t k ≠ 0 → ix (ad k) = some k) ∧ (∀ q k, ix q = some k → q = ad k) ∧ ∀ q k, ix q = some k → k = 0 ∨ ms_t k ≠ 0
def ms_st (Γ : eb_C) (ad : Nat → Nat) (ix : Nat → Option Nat) (σ : eb_MS) : eb_S := fun q => (ix q).map (ms_c Γ ad σ)
def ms_ps (σ : eb_MS) (k : Nat) (v : Int32) : eb_MS := (fun j => if j = k then v else σ.1 j, σ.2.1, σ.2.2)
def ms_pa (σ : eb_MS) (k i : Nat) (v : Int32) : eb_MS := (σ.1, fun j => if j = k then upd (σ.2.1 k) i v else σ.2.1 j, σ.2.2)
def ms_pl (σ : eb_MS) (k i : Nat) (v : Int64) : eb_MS := (σ.1, σ.2.1, fun j => if j = k then vp_updL (σ.2.2 k) i v else σ.2.2 j)
/-- an array store -/
def ms_wr (σ : eb_MS) (k n : Nat) (i v : Int32) (K : eb_MS → Prop) : Prop := vp_in i n ∧ ∀ σ' : eb_MS, σ' = ms_pa σ k i.toNatClampNeg v → K σ'
def ms_wl (σ : eb_MS) (k n : Nat) (i : Int32) (v : Int64) (K : eb_MS → Prop) : Prop := vp_in i n ∧ ∀ σ' : eb_MS, σ' = ms_pl σ k i.toNatClampNeg v → K σ'
def ms_ws (σ : eb_MS) (k : Nat) (v : Int32) (K : eb_MS → Prop) : Prop := ∀ σ' : eb_MS, σ' = ms_ps σ k v → K σ'
theorem ms_wr_iff {σ : eb_MS} {k n : Nat} {i v : Int32} {K : eb_MS → Prop} : ms_wr σ k n i v K ↔ vp_in i n ∧ K (ms_pa σ k i.toNatClampNeg v) := ⟨fun h => ⟨h.1, h.2 _ rfl⟩, fun h => ⟨h.1, fun _ e => e ▸ h.2⟩⟩
theorem ms_wl_iff {σ : eb_MS} {k n : Nat} {i : Int32} {v : Int64} {K : eb_MS → Prop} : ms_wl σ k n i v K ↔ vp_in i n ∧ K (ms_pl σ k i.toNatClampNeg v) := ⟨fun h => ⟨h.1, h.2 _ rfl⟩, fun h => ⟨h.1, fun _ e => e ▸ h.2⟩⟩
theorem ms_ws_iff {σ : eb_MS} {k : Nat} {v : Int32} {K : eb_MS → Prop} : ms_ws σ k v K ↔ K (ms_ps σ k v) := ⟨fun h => h _ rfl, fun h _ e => e ▸ h⟩
theorem ms_at {Γ : eb_C} {ad : Nat → Nat} {ix : Nat → Option Nat} {σ : eb_MS} (hi : ms_inv ad ix) {k : Nat} (hk : k < 35) (ht : ms_t k ≠ 0) : ms_st Γ ad ix σ (ad k) = some (ms_c Γ ad σ k) := by
  unfold ms_st
  rw [hi.2.1 k hk ht]
  rfl
theorem ms_at0 {Γ : eb_C} {ad : Nat → Nat} {ix : Nat → Option Nat} {σ : eb_MS} (hi : ms_inv ad ix) : ms_st Γ ad ix σ (ad 0) = some (.inr (2, ms_f ad σ)) := by
  unfold ms_st
  rw [hi.1]
  rfl
theorem ms_fk {ad : Nat → Nat} {σ : eb_MS} {k : Nat} (hk : k < 35) : (ms_f ad σ)[k]? = some (if ms_t k = 0 then .int (σ.1 k) else .ref (ad k)) := by
  unfold ms_f
  rw [List.getElem?_map, List.getElem?_range hk]
  rfl
theorem ms_up {Γ : eb_C} {ad : Nat → Nat} {ix : Nat → Option Nat} {σ σ' : eb_MS} {k : Nat} (hi : ms_inv ad ix) (hx : ix (ad k) = some k) (h : ∀ j, j ≠ k → (j = 0 ∨ ms_t j ≠ 0) → ms_c Γ ad σ j = ms_c Γ ad σ' j) : eb_up (ms_st Γ ad ix σ) (ad k) (ms_c Γ ad σ' k) = ms_st Γ ad ix σ' := by
  funext q
  unfold eb_up ms_st
  by_cases hq : q = ad k
  · rw [if_pos hq, hq, hx]
    rfl
  · rw [if_neg hq]
    cases hc : ix q with
    | none => rfl
    | some j =>
      have hj : j ≠ k := fun z => hq (by rw [← z]; exact hi.2.2.1 q j hc)
      show some _ = some _
      rw [h j hj (hi.2.2.2 q j hc)]
theorem ms_c1 {Γ : eb_C} {ad : Nat → Nat} {σ : eb_MS} {k : Nat} (h : ms_t k = 1) : ms_c Γ ad σ k = .inl (Γ.2.1 0, ms_n k, .inl (σ.2.1 k)) := by
  unfold ms_c; rw [h]; rfl
theorem ms_c2 {Γ : eb_C} {ad : Nat → Nat} {σ : eb_MS} {k : Nat} (h : ms_t k = 2) : ms_c Γ ad σ k = .inl (Γ.2.1 1, ms_n k, .inl (σ.2.1 k)) := by
  unfold ms_c; rw [h]; rfl
theorem ms_c3 {Γ : eb_C} {ad : Nat → Nat} {σ : eb_MS} {k : Nat} (h : ms_t k = 3) : ms_c Γ ad σ k = .inl (Γ.2.1 2, ms_n k, .inr (.inl (σ.2.2 k))) := by
  unfold ms_c; rw [h]; rfl
theorem ms_TX2 : ∀ k, k < 35 → (TX2 k).1 = RX2 := by decide +kernel
section MROWS
variable {l : Launch} {Γ : eb_C} {P : Option Value → eb_S → Prop} {X : eb_X} {cc : ByteArray} {nL : Nat} {ret : Option FieldType} {R : Room} {pc pc1 tgt : Nat} {lv lv' : eb_L} {stk : List Value} {σ : eb_MS} {ad : Nat → Nat} {ix : Nat → Option Nat} {uc us : Nat}
theorem em_gets {i : Nat} (k : Nat) (hk : (decide (k < 35) && ms_t k == 0) = true) (hq : Cond.fieldLink RX2 i RX2 (TX2 k).2.1 (TX2 k).2.2.1 ∈ lw_all) (hd : eb_dc cc pc (.getfield i) 3 pc1) (hi : ms_inv ad ix) (kk : eb_G l Γ P X cc RX2 nL ret R pc1 lv (.int (σ.1 k) :: stk) (ms_st Γ ad ix σ) uc us) : eb_G l Γ P X cc RX2 nL ret R pc lv (.ref (ad 0) :: stk) (ms_st Γ ad ix σ) uc us := by
  simp only [Bool.and_eq_true, decide_eq_true_eq, beq_iff_eq] at hk
  exact eg_get k in_X2 (ms_at0 hi) rfl hk.1 hq (ms_TX2 k hk.1) (by rw [ms_fk hk.1, if_pos hk.2]) hd kk
theorem em_geta {i : Nat} (k : Nat) (hk : (decide (k < 35) && ms_t k != 0) = true) (hq : Cond.fieldLink RX2 i RX2 (TX2 k).2.1 (TX2 k).2.2.1 ∈ lw_all) (hd : eb_dc cc pc (.getfield i) 3 pc1) (hi : ms_inv ad ix) (kk : eb_G l Γ P X cc RX2 nL ret R pc1 lv (.ref (ad k) :: stk) (ms_st Γ ad ix σ) uc us) : eb_G l Γ P X cc RX2 nL ret R pc lv (.ref (ad 0) :: stk) (ms_st Γ ad ix σ) uc us := by
  simp only [Bool.and_eq_true, decide_eq_true_eq, bne_iff_ne] at hk
  exact eg_get k in_X2 (ms_at0 hi) rfl hk.1 hq (ms_TX2 k hk.1) (by rw [ms_fk hk.1, if_neg hk.2]) hd kk
theorem ms_ty0 : ∀ k, k < 35 → ms_t k = 0 → tyX2 k = .int ∧ (TX2 k).2.2.2 = false := by decide +kernel
theorem em_puts {i : Nat} {v : Int32} (k : Nat) (hk : (decide (k < 35) && ms_t k == 0) = true) (hq : Cond.fieldLink RX2 i RX2 (TX2 k).2.1 (TX2 k).2.2.1 ∈ lw_all) (hd : eb_dc cc pc (.putfield i) 3 pc1) (hi : ms_inv ad ix) (kk : ∀ σ' : eb_MS, σ' = ms_ps σ k v → eb_G l Γ P X cc RX2 nL ret R pc1 lv stk (ms_st Γ ad ix σ') uc us) : eb_G l Γ P X cc RX2 nL ret R pc lv (.int v :: .ref (ad 0) :: stk) (ms_st Γ ad ix σ) uc us := by
  simp only [Bool.and_eq_true, decide_eq_true_eq, beq_iff_eq] at hk
  obtain ⟨hty, hfn⟩ := ms_ty0 k hk.1 hk.2
  refine eg_put (fs := ms_f ad σ) k in_X2 (ms_at0 hi) rfl hk.1 tyX2 tyX2_ok nmX2 hq (ms_TX2 k hk.1) hfn (by rw [hty]; rfl) (by rw [hty]; rfl) (by unfold ms_f; rw [List.length_map, List.length_range]; exact hk.1) hd ?_
  have h0 : (Sum.inr (2, (ms_f ad σ).set k (.int v)) : va_E) = ms_c Γ ad (ms_ps σ k v) 0 := by
    show (Sum.inr (2, (ms_f ad σ).set k (.int v)) : va_E) = Sum.inr (2, ms_f ad (ms_ps σ k v))
    congr 2
    apply List.ext_getElem?
    intro j
    by_cases hj : j < 35
    · rw [ms_fk hj, List.getElem?_set, ms_fk hj]
      by_cases hjk : k = j
      · subst hjk
        simp [ms_f, ms_ps, hk.1, hk.2]
      · rw [if_neg hjk]
        simp only [ms_ps]
        rw [if_neg (fun z : j = k => hjk z.symm)]
    · rw [List.getElem?_eq_none (by simp [ms_f]; omega), List.getElem?_eq_none (by simp [ms_f]; omega)]
  rw [h0, ms_up hi hi.1 (σ' := ms_ps σ k v)]
  · exact kk _ rfl
  · intro j hj h1
    have h2 : ms_t j ≠ 0 := by
      rcases h1 with h1 | h1
      · exact absurd h1 hj
      · exact h1
    have h3 : ∀ j, ms_t j ≠ 0 → ms_t j = 1 ∨ ms_t j = 2 ∨ ms_t j = 3 := by
      intro j h
      by_cases hl : j < 35
      · exact (by decide : ∀ j, j < 35 → ms_t j ≠ 0 → ms_t j = 1 ∨ ms_t j = 2 ∨ ms_t j = 3) j hl h
      · have : ms_t j = 0 := by
          unfold ms_t
          split <;> omega
        exact absurd this h
    unfold ms_c
    rcases h3 j h2 with h | h | h <;> rw [h] <;> rfl
theorem em_iald {i : Int32} {n : Nat} (k : Nat) (hk : (decide (k < 35) && ms_t k == 1 && ms_n k == n) = true) (hin : vp_in i n) (hd : eb_dc cc pc (.iaload) 1 pc1) (hi : ms_inv ad ix) (kk : ∀ v : Int32, v = σ.2.1 k i.toNatClampNeg → eb_G l Γ P X cc RX2 nL ret R pc1 lv (.int v :: stk) (ms_st Γ ad ix σ) uc us) : eb_G l Γ P X cc RX2 nL ret R pc lv (.int i :: .ref (ad k) :: stk) (ms_st Γ ad ix σ) uc us := by
  simp only [Bool.and_eq_true, decide_eq_true_eq, beq_iff_eq] at hk
  obtain ⟨⟨h1, h2⟩, h3⟩ := hk
  subst h3
  refine eg_iald (f := σ.2.1 k) (n := ms_n k) ?_ hin hd (kk _ rfl)
  rw [ms_at hi h1 (by rw [h2]; decide), ms_c1 h2]
theorem em_zald {i : Int32} {n : Nat} (k : Nat) (hk : (decide (k < 35) && ms_t k == 2 && ms_n k == n) = true) (hin : vp_in i n) (hd : eb_dc cc pc (.baload) 1 pc1) (hi : ms_inv ad ix) (kk : ∀ v : Int32, v = σ.2.1 k i.toNatClampNeg → eb_G l Γ P X cc RX2 nL ret R pc1 lv (.int v :: stk) (ms_st Γ ad ix σ) uc us) : eb_G l Γ P X cc RX2 nL ret R pc lv (.int i :: .ref (ad k) :: stk) (ms_st Γ ad ix σ) uc us := by
  simp only [Bool.and_eq_true, decide_eq_true_eq, beq_iff_eq] at hk
  obtain ⟨⟨h1, h2⟩, h3⟩ := hk
  subst h3
  refine eg_zald (f := σ.2.1 k) (n := ms_n k) ?_ hin hd (kk _ rfl)
  rw [ms_at hi h1 (by rw [h2]; decide), ms_c2 h2]
theorem em_lald {i : Int32} {n : Nat} (k : Nat) (hk : (decide (k < 35) && ms_t k == 3 && ms_n k == n) = true) (hin : vp_in i n) (hd : eb_dc cc pc (.laload) 1 pc1) (hi : ms_inv ad ix) (kk : ∀ v : Int64, v = σ.2.2 k i.toNatClampNeg → eb_G l Γ P X cc RX2 nL ret R pc1 lv (.long v :: stk) (ms_st Γ ad ix σ) uc us) : eb_G l Γ P X cc RX2 nL ret R pc lv (.int i :: .ref (ad k) :: stk) (ms_st Γ ad ix σ) uc us := by
  simp only [Bool.and_eq_true, decide_eq_true_eq, beq_iff_eq] at hk
  obtain ⟨⟨h1, h2⟩, h3⟩ := hk
  subst h3
  refine eg_lald (f := σ.2.2 k) (n := ms_n k) ?_ hin hd (kk _ rfl)
  rw [ms_at hi h1 (by rw [h2]; decide), ms_c3 h2]
theorem em_iast {i : Int32} {x : Int32} {n : Nat} (k : Nat) (hk : (decide (k < 35) && ms_t k == 1 && ms_n k == n) = true) (hin : vp_in i n) (hd : eb_dc cc pc (.iastore) 1 pc1) (hi : ms_inv ad ix) (kk : ∀ σ' : eb_MS, σ' = ms_pa σ k i.toNatClampNeg x → eb_G l Γ P X cc RX2 nL ret R pc1 lv stk (ms_st Γ ad ix σ') uc us) : eb_G l Γ P X cc RX2 nL ret R pc lv (.int x :: .int i :: .ref (ad k) :: stk) (ms_st Γ ad ix σ) uc us := by
  simp only [Bool.and_eq_true, decide_eq_true_eq, beq_iff_eq] at hk
  obtain ⟨⟨h1, h2⟩, h3⟩ := hk
  subst h3
  have ht : ms_t k ≠ 0 := by rw [h2]; decide
  refine eg_iast (f := σ.2.1 k) (n := ms_n k) ?_ hin hd ?_
  · rw [ms_at hi h1 ht, ms_c1 h2]
  · have h9 := ms_up (Γ := Γ) (ad := ad) (ix := ix) (σ := σ) (σ' := ms_pa σ k i.toNatClampNeg x) (k := k) hi (hi.2.1 k h1 ht) (fun j hj h4 => by
      unfold ms_c
      split <;> simp [ms_pa, hj, ms_f])
    rw [ms_c1 h2] at h9
    simp only [ms_pa, if_true] at h9
    have h7 := kk _ rfl
    simp only [ms_pa] at h7
    rw [← h9] at h7
    exact h7
theorem em_zast {i : Int32} {x : Int32} {n : Nat} (k : Nat) (hk : (decide (k < 35) && ms_t k == 2 && ms_n k == n) = true) (hin : vp_in i n) (hd : eb_dc cc pc (.bastore) 1 pc1) (hi : ms_inv ad ix) (kk : ∀ σ' : eb_MS, σ' = ms_pa σ k i.toNatClampNeg (vp_nar .boolean x) → eb_G l Γ P X cc RX2 nL ret R pc1 lv stk (ms_st Γ ad ix σ') uc us) : eb_G l Γ P X cc RX2 nL ret R pc lv (.int x :: .int i :: .ref (ad k) :: stk) (ms_st Γ ad ix σ) uc us := by
  simp only [Bool.and_eq_true, decide_eq_true_eq, beq_iff_eq] at hk
  obtain ⟨⟨h1, h2⟩, h3⟩ := hk
  subst h3
  have ht : ms_t k ≠ 0 := by rw [h2]; decide
  refine eg_zast (f := σ.2.1 k) (n := ms_n k) ?_ hin hd ?_
  · rw [ms_at hi h1 ht, ms_c2 h2]
  · have h9 := ms_up (Γ := Γ) (ad := ad) (ix := ix) (σ := σ) (σ' := ms_pa σ k i.toNatClampNeg (vp_nar .boolean x)) (k := k) hi (hi.2.1 k h1 ht) (fun j hj h4 => by
      unfold ms_c
      split <;> simp [ms_pa, hj, ms_f])
    rw [ms_c2 h2] at h9
    simp only [ms_pa, if_true] at h9
    have h7 := kk _ rfl
    simp only [ms_pa] at h7
    rw [← h9] at h7
    exact h7
theorem em_last {i : Int32} {x : Int64} {n : Nat} (k : Nat) (hk : (decide (k < 35) && ms_t k == 3 && ms_n k == n) = true) (hin : vp_in i n) (hd : eb_dc cc pc (.lastore) 1 pc1) (hi : ms_inv ad ix) (kk : ∀ σ' : eb_MS, σ' = ms_pl σ k i.toNatClampNeg x → eb_G l Γ P X cc RX2 nL ret R pc1 lv stk (ms_st Γ ad ix σ') uc us) : eb_G l Γ P X cc RX2 nL ret R pc lv (.long x :: .int i :: .ref (ad k) :: stk) (ms_st Γ ad ix σ) uc us := by
  simp only [Bool.and_eq_true, decide_eq_true_eq, beq_iff_eq] at hk
  obtain ⟨⟨h1, h2⟩, h3⟩ := hk
  subst h3
  have ht : ms_t k ≠ 0 := by rw [h2]; decide
  refine eg_last (f := σ.2.2 k) (n := ms_n k) ?_ hin hd ?_
  · rw [ms_at hi h1 ht, ms_c3 h2]
  · have h9 := ms_up (Γ := Γ) (ad := ad) (ix := ix) (σ := σ) (σ' := ms_pl σ k i.toNatClampNeg x) (k := k) hi (hi.2.1 k h1 ht) (fun j hj h4 => by
      unfold ms_c
      split <;> simp [ms_pl, hj, ms_f])
    rw [ms_c3 h2] at h9
    simp only [ms_pl, if_true] at h9
    have h7 := kk _ rfl
    simp only [ms_pl] at h7
    rw [← h9] at h7
    exact h7
end MROWS
