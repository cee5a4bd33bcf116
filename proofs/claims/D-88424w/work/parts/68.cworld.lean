set_option maxRecDepth 100000
/-! the class' world: its object, the four bodies, what never changes once it is made -/
/-- a body's cells: mirrors, rings, whether its group is known; group, hull, snub; angles; parts; how many -/
abbrev cBT : Type := (Int32 × Int32 × Int32) × (Option Nat × Option Nat × Option Nat) × (Nat → Int32) × (Nat → Option Nat) × (Nat → Int32)
abbrev cXT : Type := (Option Nat × Option Nat × Int32 × Option Nat) × (Nat → Int32)
def wB (Γ : eb_C) (ad : Nat → Nat) (d : cBT) (b : Nat) : Nat → va_E
  | 0 => .inr (1, [.int d.1.1, .ref (ad (4 * b + 1)), .int d.1.2.1, va_rf d.2.1.1, .int d.1.2.2, .ref (ad (4 * b + 2)), .ref (ad (4 * b + 3)), va_rf d.2.1.2.1, va_rf d.2.1.2.2])
  | 1 => eb_ia Γ 0 16 d.2.2.1
  | 2 => eb_ra Γ 6 16 d.2.2.2.1
  | _ => eb_ia Γ 0 16 d.2.2.2.2
/-- the bodies' addresses -/
def wR (ad : Nat → Nat) : Nat → Option Nat := fun b => if b < 4 then some (ad (4 * b)) else none
theorem wR_b {ad : Nat → Nat} {b : Nat} (hb : b < 4) : wR ad b = some (ad (4 * b)) := by unfold wR; rw [if_pos hb]
def wX (Γ : eb_C) (ad : Nat → Nat) (x : cXT) : Nat → va_E
  | 0 => .inr (0, [.ref (ad 17), va_rf x.1.1, va_rf x.1.2.1, .int x.1.2.2.1, va_rf x.1.2.2.2, .ref (ad 18)])
  | 1 => eb_ra Γ 7 4 (wR ad)
  | _ => eb_ia Γ 0 125 x.2
def wSt (Γ : eb_C) (st : eb_S) (ad : Nat → Nat) (bd : Nat → cBT) (x : cXT) : Prop :=
  (∀ b j, b < 4 → j < 4 → st (ad (4 * b + j)) = some (wB Γ ad (bd b) b j)) ∧ (∀ j, j < 3 → st (ad (16 + j)) = some (wX Γ ad x j)) ∧ ∀ i j, i < 19 → j < 19 → ad i = ad j → i = j
def upB (bd : Nat → cBT) (b : Nat) (d : cBT) : Nat → cBT := fun k => if k = b then d else bd k
theorem upB_eq (bd : Nat → cBT) (b : Nat) (d : cBT) : upB bd b d b = d := by unfold upB; rw [if_pos rfl]
theorem upB_ne {bd : Nat → cBT} {b k : Nat} {d : cBT} (h : ¬ k = b) : upB bd b d k = bd k := by unfold upB; rw [if_neg h]
section WS
variable {Γ : eb_C} {st st' : eb_S} {ad : Nat → Nat} {bd : Nat → cBT} {x : cXT}
/-- one cell of a body is changed -/
theorem wSt.setB {b j : Nat} {d : cBT} (h : wSt Γ st ad bd x) (hb : b < 4) (hj : j < 4) (hs : sf [ad (4 * b + j)] st st') (hw : st' (ad (4 * b + j)) = some (wB Γ ad d b j)) (ho : ∀ k, k < 4 → ¬ k = j → wB Γ ad d b k = wB Γ ad (bd b) b k) : wSt Γ st' ad (upB bd b d) x := by
  obtain ⟨h1, h2, h3⟩ := h
  have ne : ∀ {i : Nat}, i < 19 → ¬ i = 4 * b + j → ad i ∉ [ad (4 * b + j)] := fun hi hne z => hne (h3 _ _ hi (by omega) (List.mem_singleton.mp z))
  refine ⟨fun b' j' hb' hj' => ?_, fun j' hj' => hs _ _ (h2 j' hj') (ne (by omega) (by omega)), h3⟩
  by_cases e : b' = b
  · subst e
    rw [upB_eq]
    by_cases e2 : j' = j
    · rw [e2]; exact hw
    · rw [ho j' hj' e2]; exact hs _ _ (h1 b' j' hb' hj') (ne (by omega) (by omega))
  · rw [upB_ne e]; exact hs _ _ (h1 b' j' hb' hj') (ne (by omega) (by omega))
theorem wSt.setX {j : Nat} {x' : cXT} (h : wSt Γ st ad bd x) (hj : j < 3) (hs : sf [ad (16 + j)] st st') (hw : st' (ad (16 + j)) = some (wX Γ ad x' j)) (ho : ∀ k, k < 3 → ¬ k = j → wX Γ ad x' k = wX Γ ad x k) : wSt Γ st' ad bd x' := by
  obtain ⟨h1, h2, h3⟩ := h
  have ne : ∀ {i : Nat}, i < 19 → ¬ i = 16 + j → ad i ∉ [ad (16 + j)] := fun hi hne z => hne (h3 _ _ hi (by omega) (List.mem_singleton.mp z))
  refine ⟨fun b' j' hb' hj' => hs _ _ (h1 b' j' hb' hj') (ne (by omega) (by omega)), fun j' hj' => ?_, h3⟩
  by_cases e2 : j' = j
  · rw [e2]; exact hw
  · rw [ho j' hj' e2]; exact hs _ _ (h2 j' hj') (ne (by omega) (by omega))
theorem wSt.keep {W : List Nat} (h : wSt Γ st ad bd x) (hs : sf W st st') (hW : ∀ w ∈ W, ∀ i, i < 19 → ¬ ad i = w) : wSt Γ st' ad bd x := by
  obtain ⟨h1, h2, h3⟩ := h
  exact ⟨fun b' j' hb' hj' => hs _ _ (h1 b' j' hb' hj') (fun z => hW _ z _ (by omega) rfl), fun j' hj' => hs _ _ (h2 j' hj') (fun z => hW _ z _ (by omega) rfl), h3⟩
theorem wSt.known (h : wSt Γ st ad bd x) {i : Nat} (hi : i < 19) : ∃ y, st (ad i) = some y := by
  by_cases e : i < 16
  · have := h.1 (i / 4) (i % 4) (by omega) (by omega)
    rw [show 4 * (i / 4) + i % 4 = i by omega] at this
    exact ⟨_, this⟩
  · have := h.2.1 (i - 16) (by omega)
    rw [show 16 + (i - 16) = i by omega] at this
    exact ⟨_, this⟩
end WS
/-- the same mirrors and angles -/
def sameA (D D' : eb_D) : Prop := D.1 = D'.1 ∧ ∀ k, k < 16 → D.2.1 k = D'.2.1 k
/-- hulls, snubs: what they are (by body, own address, diagram); how many unlike ones there are -/
abbrev cET : Type := ((Nat → va_E → Prop) → Nat → Nat → eb_D → Prop) × ((Nat → va_E → Prop) → Nat → Nat → eb_D → Prop) × (Nat → Nat)
def cEm (E : cET) : Prop := ∀ (I I' : Nat → va_E → Prop), (∀ a y, I a y → I' a y) → ∀ p h D, (E.1 I p h D → E.1 I' p h D) ∧ (E.2.1 I p h D → E.2.1 I' p h D)
/-- rows of joins, of w at most -/
def nB (w N : Nat) (A : Nat → Nat → Bool) (fj fm : Nat → Int32) : Prop := ∃ nb : Nat → Nat → Nat, (∀ a, a < N → fm a = nI (cnB (A a) N) ∧ cnB (A a) N ≤ w ∧ ∀ k, k < cnB (A a) N → fj (w * a + k) = nI (nb a k) ∧ nb a k < N ∧ A a (nb a k) = true) ∧ (∀ a b, a < N → b < N → A a b = true → ∃ k, k < cnB (A a) N ∧ nb a k = b) ∧ ∀ a k k', a < N → k < k' → k' < cnB (A a) N → ¬ nb a k = nb a k'
/-- a net: nodes, in rows of w at most, whose joins are A -/
def cNt (Γ : eb_C) (I : Nat → va_E → Prop) (q w N : Nat) (A : Nat → Nat → Bool) : Prop := ∃ (c pj pm : Nat) (rest : List Value) (fj fm : Nat → Int32), eb_isN c ∧ I q (.inr (c, .int (nI N) :: .int (nI w) :: .ref pj :: .ref pm :: rest)) ∧ I pj (eb_ia Γ 0 (N * w) fj) ∧ I pm (eb_ia Γ 0 N fm) ∧ nB w N A fj fm ∧ w * N < 2147483648 ∧ ¬ pj = pm ∧ 1 ≤ w
theorem cNt.mono {Γ : eb_C} {I I' : Nat → va_E → Prop} {q w N : Nat} {A : Nat → Nat → Bool} (h : cNt Γ I q w N A) (hI : ∀ a y, I a y → I' a y) : cNt Γ I' q w N A := by
  obtain ⟨c, pj, pm, rest, fj, fm, h0, h1, h2, h3, h4⟩ := h
  exact ⟨c, pj, pm, rest, fj, fm, h0, hI _ _ h1, hI _ _ h2, hI _ _ h3, h4⟩
/-- a body is its diagram's -/
def bOk (Γ : eb_C) (E : cET) (I : Nat → va_E → Prop) (p : Nat) (D : eb_D) (d : cBT) : Prop :=
  vD D ∧ (d.1.1 = nI D.1 ∧ d.1.2.1 = nI D.2.2 ∧ ∀ k, k < 16 → d.2.2.1 k = nI (D.2.1 k)) ∧
  ((d.1.2.2 = 0 ∧ d.2.1.1 = none) ∨ (d.1.2.2 = 1 ∧ (ZD D = 0 → d.2.1.1 = none) ∧ (¬ ZD D = 0 → ∃ g, d.2.1.1 = some g ∧ cGr Γ I g (TD D)))) ∧
  (∀ s q, s < 16 → d.2.2.2.1 s = some q → ¬ ZD D = 0 ∧ (∃ f, I q (eb_ia Γ 3 (ZD D) f) ∧ ∀ h, h < ZD D → f h = nI (PN D s h)) ∧ d.2.2.2.2 s = nI (NP D s)) ∧
  (∀ h, d.2.1.2.1 = some h → E.1 I p h D) ∧ ∀ n, d.2.1.2.2 = some n → E.2.1 I p n D
theorem bOk.mono {Γ : eb_C} {E : cET} {I I' : Nat → va_E → Prop} {p : Nat} {D : eb_D} {d : cBT} (hE : cEm E) (h : bOk Γ E I p D d) (hI : ∀ a y, I a y → I' a y) : bOk Γ E I' p D d := by
  obtain ⟨h1, h2, h3, h4, h5, h6⟩ := h
  refine ⟨h1, h2, h3.imp id (fun z => ⟨z.1, z.2.1, fun hz => ?_⟩), fun s q hs hq => ?_, fun y hy => (hE I I' hI p y D).1 (h5 y hy), fun y hy => (hE I I' hI p y D).2 (h6 y hy)⟩
  · obtain ⟨g, g1, g2⟩ := z.2.2 hz
    exact ⟨g, g1, g2.mono hI⟩
  · obtain ⟨q1, ⟨f, q2, q3⟩, q4⟩ := h4 s q hs hq
    exact ⟨q1, ⟨f, hI _ _ q2, q3⟩, q4⟩
/-- the net that was made last, and the counts of unlike ones -/
def xOk (Γ : eb_C) (E : cET) (I : Nat → va_E → Prop) (st : eb_S) (ad : Nat → Nat) (bd : Nat → cBT) (Ds : Nat → eb_D) (x : cXT) : Prop :=
  (∀ a, x.1.2.1 = some a → ∃ y, st a = some y) ∧ (∀ k, k < 125 → x.2 k = 0 ∨ x.2 k = nI (E.2.2 k)) ∧
  (x.1.2.1 = none ∨ ∃ D' net g, vD D' ∧ ¬ ZD D' = 0 ∧ x.1.2.2.1 = nI D'.2.2 ∧ x.1.1 = some net ∧ cNt Γ I net 24 (NP D' 0) (jnd D') ∧ x.1.2.2.2 = some g ∧ (∃ y, I g y) ∧ ∀ b, b < 4 → x.1.2.1 = some (ad (4 * b)) → (bd b).2.1.1 = some g → sameA D' (Ds b))
/-- the world, told in full -/
def cV (Γ : eb_C) (E : cET) (st : eb_S) (I : Nat → va_E → Prop) (ad : Nat → Nat) (bd : Nat → cBT) (x : cXT) (Ds : Nat → eb_D) : Prop :=
  wSt Γ st ad bd x ∧ (∀ a y, I a y → st a = some y ∧ ∀ i, i < 19 → ¬ a = ad i) ∧ (∀ b, b < 4 → bOk Γ E I (ad (4 * b)) (Ds b) (bd b)) ∧ xOk Γ E I st ad bd Ds x
def cW (Γ : eb_C) (E : cET) (st : eb_S) (p : Nat) (Ds : Nat → eb_D) : Prop := ∃ I ad bd x, ad 16 = p ∧ cV Γ E st I ad bd x Ds
section WV
variable {Γ : eb_C} {E : cET} {st st' : eb_S} {I I' : Nat → va_E → Prop} {ad : Nat → Nat} {bd : Nat → cBT} {x : cXT} {Ds : Nat → eb_D}
theorem cV.body {b : Nat} (h : cV Γ E st I ad bd x Ds) (hb : b < 4) : cBd Γ st (ad (4 * b)) (Ds b) := by
  obtain ⟨h1, h2, h3⟩ := (h.2.2.1 b hb).2.1
  have q := h.1.1 b 0 hb (by omega)
  rw [Nat.add_zero] at q
  refine ⟨_, ad (4 * b + 1), (bd b).2.2.1, q, ?_, rfl, ?_, h.1.1 b 1 hb (by omega), h3⟩
  · rw [← h1]; rfl
  · rw [← h2]; rfl
/-- the bodies' array, and one of it -/
theorem cV.at {b : Nat} {K : Nat → Prop} (h : cV Γ E st I ad bd x Ds) (hb : b < 4) (hK : K (ad (4 * b))) : eb_gr st (ad 16) 0 0 (fun v => eb_nn v (fun q => eb_lr Γ st q 7 (nI b) (fun v => eb_nn v K))) :=
  st_gr (h.1.2.1 0 (by omega)) (v := some (ad 17)) rfl (st_nn (st_lr (h.1.2.1 1 (by omega)) hb (by omega) (by rw [wR_b hb]; exact st_nn hK)))
theorem cV.cs0 (h : cV Γ E st I ad bd x Ds) : eb_cs st (ad 16) [0] := st_cs (h.1.2.1 0 (by omega)) (List.mem_singleton.mpr rfl)
/-- nothing that is the world's is changed; more may stay as it is -/
theorem cV.keep {W : List Nat} (hE : cEm E) (h : cV Γ E st I ad bd x Ds) (hs : sf W st st') (hW : ∀ w ∈ W, st w = none) (hI : ∀ a y, I a y → I' a y) (hN : ∀ a y, I' a y → I a y ∨ (st' a = some y ∧ st a = none)) : cV Γ E st' I' ad bd x Ds := by
  obtain ⟨h1, h2, h3, h4⟩ := h
  have hne : ∀ w ∈ W, ∀ i, i < 19 → ¬ ad i = w := fun w hw i hi z => by
    obtain ⟨y, hy⟩ := h1.known hi
    rw [z, hW w hw] at hy
    exact absurd hy (by simp)
  refine ⟨h1.keep hs hne, fun a y hy => ?_, fun b hb => (h3 b hb).mono hE hI, ?_⟩
  · rcases hN a y hy with z | ⟨z1, z2⟩
    · exact ⟨hs.out (h2 a y z).1 hW, (h2 a y z).2⟩
    · refine ⟨z1, fun i hi e => ?_⟩
      obtain ⟨y', hy'⟩ := h1.known hi
      rw [← e, z2] at hy'
      exact absurd hy' (by simp)
  · obtain ⟨q1, q2, q3⟩ := h4
    refine ⟨fun a ha => ?_, q2, q3.imp id (fun ⟨D', net, g, r1, r2, r3, r4, r5, r6, ⟨y, r7⟩, r8⟩ => ⟨D', net, g, r1, r2, r3, r4, r5.mono hI, r6, ⟨y, hI _ _ r7⟩, r8⟩)⟩
    obtain ⟨y, hy⟩ := q1 a ha
    exact ⟨y, hs.out hy hW⟩
/-- a cell of a body is changed -/
theorem cV.setB {b j : Nat} {d : cBT} (hE : cEm E) (h : cV Γ E st I ad bd x Ds) (hb : b < 4) (hj : j < 4) (hs : sf [ad (4 * b + j)] st st') (hw : st' (ad (4 * b + j)) = some (wB Γ ad d b j)) (ho : ∀ k, k < 4 → ¬ k = j → wB Γ ad d b k = wB Γ ad (bd b) b k)
    (D : eb_D) (hd : bOk Γ E I (ad (4 * b)) D d) (hx : ∀ g, d.2.1.1 = some g → (∃ y, I g y) → (bd b).2.1.1 = some g ∧ sameA (Ds b) D ∨ ∀ D' net g', x.1.2.2.2 = some g' → x.1.1 = some net → vD D' → ¬ g = g') : cV Γ E st' I ad (upB bd b d) x (updD Ds b D) := by
  obtain ⟨h1, h2, h3, h4⟩ := h
  refine ⟨h1.setB hb hj hs hw ho, fun a y hy => ⟨hs _ _ (h2 a y hy).1 (fun z => (h2 a y hy).2 _ (by omega) (List.mem_singleton.mp z)), (h2 a y hy).2⟩, fun b' hb' => ?_, ?_⟩
  · by_cases e : b' = b
    · rw [e, upB_eq, updD_eq]; exact hd
    · rw [upB_ne e, updD_ne e]; exact h3 b' hb'
  · obtain ⟨q1, q2, q3⟩ := h4
    refine ⟨fun a ha => ?_, q2, q3.imp id (fun ⟨D', net, g, r1, r2, r3, r4, r5, r6, r7, r8⟩ => ⟨D', net, g, r1, r2, r3, r4, r5, r6, r7, fun b' hb' e1 e2 => ?_⟩)⟩
    · obtain ⟨y, hy⟩ := q1 a ha
      by_cases e : a = ad (4 * b + j)
      · rw [e]; exact ⟨_, hw⟩
      · exact ⟨y, hs _ _ hy (fun z => e (List.mem_singleton.mp z))⟩
    · by_cases e : b' = b
      · subst e
        rw [upB_eq] at e2
        rw [updD_eq]
        rcases hx g e2 r7 with ⟨z1, z2⟩ | z
        · have := r8 b' hb' e1 z1
          exact ⟨this.1.trans z2.1, fun k hk => (this.2 k hk).trans (z2.2 k hk)⟩
        · exact absurd rfl (z D' net g r6 r4 r1)
      · rw [upB_ne e] at e2
        rw [updD_ne e]
        exact r8 b' hb' e1 e2
theorem updD_same (Ds : Nat → eb_D) (b : Nat) : updD Ds b (Ds b) = Ds := by
  funext k
  by_cases e : k = b
  · rw [e, updD_eq]
  · rw [updD_ne e]
theorem sameA.rf (D : eb_D) : sameA D D := ⟨rfl, fun _ _ => rfl⟩
/-- of the same diagram -/
theorem cV.setB' {b j : Nat} {d : cBT} (hE : cEm E) (h : cV Γ E st I ad bd x Ds) (hb : b < 4) (hj : j < 4) (hs : sf [ad (4 * b + j)] st st') (hw : st' (ad (4 * b + j)) = some (wB Γ ad d b j)) (ho : ∀ k, k < 4 → ¬ k = j → wB Γ ad d b k = wB Γ ad (bd b) b k)
    (hd : bOk Γ E I (ad (4 * b)) (Ds b) d) (hx : d.2.1.1 = (bd b).2.1.1 ∨ d.2.1.1 = none) : cV Γ E st' I ad (upB bd b d) x Ds := by
  have := h.setB (D := Ds b) hE hb hj hs hw ho hd (fun g e _ => Or.inl ⟨?_, sameA.rf _⟩)
  · rw [updD_same] at this; exact this
  · rcases hx with z | z
    · rw [← z]; exact e
    · rw [z] at e; exact absurd e (by simp)
end WV
