set_option maxRecDepth 100000
/-- a snub asks for mirrors and angles alone -/
def cEr (E : cET) : Prop := ∀ (I : Nat → va_E → Prop) p n D D', vD D → vD D' → sameA D D' → E.2.1 I p n D → E.2.1 I p n D'
section CSET
variable {Γ : eb_C} {E : cET} {st st' : eb_S} {I I' : Nat → va_E → Prop} {ad : Nat → Nat} {bd : Nat → cBT} {x : cXT} {Ds : Nat → eb_D} {p bc bs : Nat}
/-- a body's own cells are changed -/
theorem cV.setD {b : Nat} {d : cBT} {W : List Nat} (h : cV Γ E st I ad bd x Ds) (hb : b < 4) (hW : ∀ w ∈ W, ∃ j, j < 4 ∧ w = ad (4 * b + j)) (hs : sf W st st') (hw : ∀ j, j < 4 → st' (ad (4 * b + j)) = some (wB Γ ad d b j))
    (D : eb_D) (hd : bOk Γ E I (ad (4 * b)) D d) (hx : ∀ g, d.2.1.1 = some g → (bd b).2.1.1 = some g ∧ sameA (Ds b) D) : cV Γ E st' I ad (upB bd b d) x (updD Ds b D) := by
  obtain ⟨h1, h2, h3, h4⟩ := h
  have ne : ∀ {i : Nat}, i < 19 → ¬ i / 4 = b → ad i ∉ W := fun hi hne z => by
    obtain ⟨j, hj, e⟩ := hW _ z
    have := h1.2.2 _ _ hi (by omega) e
    omega
  refine ⟨⟨fun b' j' hb' hj' => ?_, fun j' hj' => hs _ _ (h1.2.1 j' hj') (ne (by omega) (by omega)), h1.2.2⟩, fun a y hy => ⟨hs _ _ (h2 a y hy).1 (fun z => ?_), (h2 a y hy).2⟩, fun b' hb' => ?_, ?_⟩
  · by_cases e : b' = b
    · subst e
      rw [upB_eq]; exact hw j' hj'
    · rw [upB_ne e]; exact hs _ _ (h1.1 b' j' hb' hj') (ne (by omega) (by omega))
  · obtain ⟨j, hj, e⟩ := hW _ z
    exact (h2 a y hy).2 _ (by omega) e
  · by_cases e : b' = b
    · rw [e, upB_eq, updD_eq]; exact hd
    · rw [upB_ne e, updD_ne e]; exact h3 b' hb'
  · obtain ⟨q1, q2, q3⟩ := h4
    refine ⟨fun a ha => ?_, q2, q3.imp id (fun ⟨D', net, g, r1, r2, r3, r4, r5, r6, r7, r8⟩ => ⟨D', net, g, r1, r2, r3, r4, r5, r6, r7, fun b' hb' e1 e2 => ?_⟩)⟩
    · obtain ⟨y, hy⟩ := q1 a ha
      by_cases e : a ∈ W
      · obtain ⟨j, hj, e'⟩ := hW _ e
        rw [e']; exact ⟨_, hw j hj⟩
      · exact ⟨y, hs _ _ hy e⟩
    · by_cases e : b' = b
      · subst e
        rw [upB_eq] at e2
        rw [updD_eq]
        obtain ⟨z1, z2⟩ := hx g e2
        have := r8 b' hb' e1 z1
        exact ⟨this.1.trans z2.1, fun k hk => (this.2 k hk).trans (z2.2 k hk)⟩
      · rw [upB_ne e] at e2
        rw [updD_ne e]
        exact r8 b' hb' e1 e2
/-- addresses, once a body is a new one -/
def adN (ad : Nat → Nat) (b : Nat) (nw : Nat → Nat) : Nat → Nat := fun i => if i / 4 = b then nw (i % 4) else ad i
theorem adN_b {b j : Nat} {nw : Nat → Nat} (hj : j < 4) : adN ad b nw (4 * b + j) = nw j := by
  unfold adN
  rw [if_pos (by omega), show (4 * b + j) % 4 = j by omega]
theorem adN_o {b i : Nat} {nw : Nat → Nat} (h : ¬ i / 4 = b) : adN ad b nw i = ad i := by unfold adN; rw [if_neg h]
theorem adN_r {b : Nat} {nw : Nat → Nat} (hb : b < 4) : wR (adN ad b nw) = va_up (wR ad) b (some (nw 0)) := by
  funext k
  by_cases e : k = b
  · rw [e, vu_eq, wR_b hb]
    have := adN_b (ad := ad) (b := b) (nw := nw) (j := 0) (by omega)
    rw [Nat.add_zero] at this
    rw [this]
  · rw [vu_ne e]
    unfold wR
    rw [adN_o (by omega)]
/-- a body is a new one -/
theorem cV.newB {b : Nat} {d : cBT} {nw : Nat → Nat} (h : cV Γ E st I ad bd x Ds) (hb : b < 4) (hs : sf [ad 17] st st') (h17 : st' (ad 17) = some (eb_ra Γ 7 4 (va_up (wR ad) b (some (nw 0))))) (hf : ∀ j, j < 4 → st (nw j) = none) (hw : ∀ j, j < 4 → st' (nw j) = some (wB Γ (adN ad b nw) d b j)) (hi : ∀ i j, i < 4 → j < 4 → nw i = nw j → i = j)
    (D : eb_D) (hd : bOk Γ E I (nw 0) D d) (hx : d.2.1.1 = none) : cV Γ E st' I (adN ad b nw) (upB bd b d) x (updD Ds b D) := by
  obtain ⟨h1, h2, h3, h4⟩ := h
  have nw_ad : ∀ {i j : Nat}, i < 19 → j < 4 → ¬ ad i = nw j := fun hi hj e => by
    obtain ⟨y, hy⟩ := h1.known hi
    rw [e, hf _ hj] at hy
    exact absurd hy (by simp)
  have n17 : ∀ {i : Nat}, i < 19 → ¬ i = 17 → ad i ∉ [ad 17] := fun hi hne z => hne (h1.2.2 _ _ hi (by omega) (List.mem_singleton.mp z))
  refine ⟨⟨fun b' j' hb' hj' => ?_, fun j' hj' => ?_, fun i j hi' hj' e => ?_⟩, fun a y hy => ⟨hs _ _ (h2 a y hy).1 (fun z => (h2 a y hy).2 17 (by omega) (List.mem_singleton.mp z)), fun i hi' e => ?_⟩, fun b' hb' => ?_, ?_⟩
  · by_cases e : b' = b
    · subst e
      rw [upB_eq, adN_b hj']; exact hw j' hj'
    · rw [upB_ne e, adN_o (by omega)]
      have := hs _ _ (h1.1 b' j' hb' hj') (n17 (by omega) (by omega))
      rw [this]
      match j', hj' with
      | 0, _ => unfold wB; rw [adN_o (by omega), adN_o (by omega), adN_o (by omega)]
      | 1, _ => rfl
      | 2, _ => rfl
      | 3, _ => rfl
  · rw [adN_o (by omega)]
    match j', hj' with
    | 0, _ =>
      have := hs _ _ (h1.2.1 0 (by omega)) (n17 (by omega) (by omega))
      rw [this]
      unfold wX
      rw [adN_o (by omega), adN_o (by omega)]
      rfl
    | 1, _ =>
      have e : (16 + 1 : Nat) = 17 := rfl
      rw [e, h17]
      show _ = some (eb_ra Γ 7 4 (wR (adN ad b nw)))
      rw [adN_r hb]
    | 2, _ =>
      exact hs _ _ (h1.2.1 2 (by omega)) (n17 (by omega) (by omega))
  · by_cases ei : i / 4 = b
    · by_cases ej : j / 4 = b
      · unfold adN at e
        rw [if_pos ei, if_pos ej] at e
        have := hi _ _ (by omega) (by omega) e
        omega
      · rw [adN_o ej] at e
        unfold adN at e
        rw [if_pos ei] at e
        exact absurd e.symm (nw_ad hj' (by omega))
    · by_cases ej : j / 4 = b
      · rw [adN_o ei] at e
        unfold adN at e
        rw [if_pos ej] at e
        exact absurd e (nw_ad hi' (by omega))
      · rw [adN_o ei, adN_o ej] at e
        exact h1.2.2 _ _ hi' hj' e
  · by_cases ei : i / 4 = b
    · unfold adN at e
      rw [if_pos ei] at e
      have := (h2 a y hy).1
      rw [e, hf _ (by omega)] at this
      exact absurd this (by simp)
    · rw [adN_o ei] at e
      exact (h2 a y hy).2 _ hi' e
  · by_cases e : b' = b
    · subst e
      have := adN_b (ad := ad) (b := b') (nw := nw) (j := 0) (by omega)
      rw [Nat.add_zero] at this
      rw [upB_eq, updD_eq, this]; exact hd
    · rw [upB_ne e, updD_ne e, adN_o (by omega)]; exact h3 b' hb'
  · obtain ⟨q1, q2, q3⟩ := h4
    refine ⟨fun a ha => ?_, q2, q3.imp id (fun ⟨D', net, g, r1, r2, r3, r4, r5, r6, r7, r8⟩ => ⟨D', net, g, r1, r2, r3, r4, r5, r6, r7, fun b' hb' e1 e2 => ?_⟩)⟩
    · obtain ⟨y, hy⟩ := q1 a ha
      by_cases e : a ∈ [ad 17]
      · rw [List.mem_singleton.mp e]; exact ⟨_, h17⟩
      · exact ⟨y, hs _ _ hy e⟩
    · by_cases e : b' = b
      · subst e
        rw [upB_eq, hx] at e2
        exact absurd e2 (by simp)
      · rw [upB_ne e] at e2
        rw [updD_ne e]
        rw [adN_o (by omega)] at e1
        exact r8 b' hb' e1 e2
theorem sp_fill2 {a n : Nat} {f : Nat → Option Nat} {K : eb_S → Prop} (h : st a = some (eb_ra Γ 6 n f)) (hn : n < 2147483648) (hK : ∀ st' f', sf [a] st st' → st' a = some (eb_ra Γ 6 n f') → (∀ k, k < n → f' k = none) → K st') : MJ0_fill_2 Γ st a K := by
  unfold MJ0_fill_2
  refine st_ln h ?_
  refine eb_loop2_i (fun y s => ∃ m f', m ≤ n ∧ y = nI m ∧ sf [a] st s ∧ s a = some (eb_ra Γ 6 n f') ∧ ∀ k, k < m → f' k = none) (fun y _ => 2147483648 - y.toNatClampNeg) ?_ ⟨0, f, by omega, rfl, sf.rf _ _, h, fun k hk => absurd hk (Nat.not_lt_zero _)⟩
  rintro R _ s ⟨m, f', hm, rfl, hs, hw, hf⟩ hR
  show eb_br (nI n ≤ nI m) _ _
  refine br_le (by omega) (by omega) (fun h2 => hK s f' hs hw (fun k hk => hf k (by omega))) (fun h2 => ?_)
  refine st_wr hw (by omega) (by omega) (fun s2 k2 w2 => ?_)
  rw [nI_1]
  refine hR _ _ ⟨m + 1, _, by omega, rfl, hs.tr k2, w2, fun k hk => ?_⟩ ?_
  · by_cases e : k = m
    · rw [e, vu_eq]
    · rw [vu_ne e]; exact hf k (by omega)
  · rw [nI_cl (by omega), nI_cl (by omega)]; omega
theorem sc_forgets {q q2 : Nat} {fs : List Value} {f : Nat → Option Nat} {K : eb_S → Prop} (h : st q = some (.inr (1, fs))) (hl : 7 < fs.length) (h5 : fs[5]? = some (.ref q2)) (h2 : st q2 = some (eb_ra Γ 6 16 f)) (hne : ¬ q = q2)
    (hK : ∀ st' f', sf [q, q2] st st' → st' q = some (.inr (1, fs.set 7 .null)) → st' q2 = some (eb_ra Γ 6 16 f') → (∀ k, k < 16 → f' k = none) → K st') : MX1_forgets Γ st q K := by
  unfold MX1_forgets
  refine st_gr h (v := some q2) h5 (st_nn (sp_fill2 h2 (by omega) (fun s1 f1 k1 w1 z1 => ?_)))
  have e1 := k1 _ _ h (fun z => hne (List.mem_singleton.mp z))
  refine st_pt e1 hl (fun s2 k2 w2 => hK s2 f1 ?_ w2 (k2 _ _ w1 (fun z => hne (List.mem_singleton.mp z).symm)) z1)
  exact (k1.up (fun k hk => by rw [List.mem_singleton.mp hk]; simp)).tr (k2.up (fun k hk => by rw [List.mem_singleton.mp hk]; simp))
/-- a new body -/
theorem sc_bodyinit {q : Nat} {r : Int32} {K : eb_S → Prop} (h : st q = some (.inr (1, [.int 0, .null, .int 0, .null, .int 0, .null, .null, .null, .null]))) (hbc : 3 ≤ bc) (hbs : 48 ≤ bs)
    (hK : ∀ st' q1 q2 q3 f, sf [q] st st' → st q1 = none → st q2 = none → st q3 = none → ¬ q1 = q2 → ¬ q1 = q3 → ¬ q2 = q3 → st' q = some (.inr (1, [.int r, .ref q1, .int 1, .null, .int 0, .ref q2, .ref q3, .null, .null])) → st' q1 = some (eb_ia Γ 0 16 f) → (∀ k, k < 16 → f k = 2) → st' q2 = some (eb_ra Γ 6 16 (fun _ => none)) → st' q3 = some (eb_ia Γ 0 16 (fun _ => 0)) → K st') : MX1_init Γ bc bs st q r K := by
  unfold MX1_init
  refine st_mk (by omega) (by omega) (fun q1 s1 f1 g1 w1 => ?_)
  have n1 : ¬ q = q1 := st_ne h f1
  have e1 := g1 _ _ h List.not_mem_nil
  have nq : ∀ {a : Nat}, ¬ q = a → a ∉ [q] := fun h z => h (List.mem_singleton.mp z).symm
  refine st_pt e1 (by simp) (fun s2 g2 w2 => st_pt w2 (by simp) (fun s3 g3 w3 => ?_))
  have k1 := g3 _ _ (g2 _ _ w1 (nq n1)) (nq n1)
  refine st_mk (by omega) (by omega) (fun q2 s4 f4 g4 w4 => ?_)
  have n2 : ¬ q = q2 := st_ne w3 f4
  have n12 : ¬ q1 = q2 := st_ne k1 f4
  have h13 : sf [q] st s3 := ((g1.up (fun _ z => absurd z List.not_mem_nil)).tr g2).tr g3
  refine st_pt (g4 _ _ w3 List.not_mem_nil) (by simp) (fun s5 g5 w5 => ?_)
  have k1' := g5 _ _ (g4 _ _ k1 List.not_mem_nil) (nq n1)
  have k2 := g5 _ _ w4 (nq n2)
  have h15 : sf [q] st s5 := (h13.tr (g4.up (fun _ z => absurd z List.not_mem_nil))).tr g5
  refine st_mk (by omega) (by omega) (fun q3 s6 f6 g6 w6 => ?_)
  have n3 : ¬ q = q3 := st_ne w5 f6
  have n13 : ¬ q1 = q3 := st_ne k1' f6
  have n23 : ¬ q2 = q3 := st_ne k2 f6
  refine st_pt (g6 _ _ w5 List.not_mem_nil) (by simp) (fun s7 g7 w7 => st_pt w7 (by simp) (fun s8 g8 w8 => ?_))
  have m1 := g8 _ _ (g7 _ _ (g6 _ _ k1' List.not_mem_nil) (nq n1)) (nq n1)
  have m2 := g8 _ _ (g7 _ _ (g6 _ _ k2 List.not_mem_nil) (nq n2)) (nq n2)
  have m3 := g8 _ _ (g7 _ _ w6 (nq n3)) (nq n3)
  have h18 : sf [q] st s8 := ((h15.tr (g6.up (fun _ z => absurd z List.not_mem_nil))).tr g7).tr g8
  refine st_gr w8 (v := some q1) rfl (st_nn (sp_fill m1 (by omega) (fun s9 f9 g9 w9 z9 => ?_)))
  have nq1 : ∀ {a : Nat}, ¬ q1 = a → a ∉ [q1] := fun h z => h (List.mem_singleton.mp z).symm
  have old : ∀ {a : Nat}, st a = none → s3 a = none ∨ True := fun _ => Or.inr trivial
  refine hK s9 q1 q2 q3 f9 (fun a e ha hw => ?_) f1 ?_ ?_ n12 n13 n23 (g9 _ _ w8 (nq1 (fun z => n1 z.symm))) w9 z9 (g9 _ _ m2 (nq1 n12)) (g9 _ _ m3 (nq1 n13))
  · exact g9 _ _ (h18 _ _ ha hw) (nq1 (fun z => by rw [← z, f1] at ha; exact absurd ha (by simp)))
  · cases hh : st q2 with
    | none => rfl
    | some y => have := h13 _ _ hh (nq n2); rw [f4] at this; exact absurd this (by simp)
  · cases hh : st q3 with
    | none => rfl
    | some y => have := h15 _ _ hh (nq n3); rw [f6] at this; exact absurd this (by simp)
theorem cW_body {a n : Int32} {K : Int32 → eb_S → Prop} (hW : cW Γ E st p Ds) (hbc : 4 ≤ bc) (hbs : 57 ≤ bs) (h2 : ¬ ((0 ≤ a ∧ a ≤ 3) ∧ (1 ≤ n ∧ n ≤ 4)) → ∀ s, cW Γ E s p Ds → K (-2) s)
    (h1 : ∀ b m, b < 4 → 1 ≤ m → m ≤ 4 → a = nI b → n = nI m → ∀ s, cW Γ E s p (updD Ds b (m, fun _ => 2, 1)) → K 1 s) : MX0_body Γ bc bs st p a n K := by
  obtain ⟨I, ad, bd, x, hp, h⟩ := hW
  subst hp
  unfold MX0_body
  refine sc_isBody (fun hba => ⟨fun z => absurd z (by decide), fun _ => ?_⟩) (fun hb => ⟨fun _ => h2 (fun z => hb z.1) _ (h.W rfl), fun z => absurd rfl z⟩)
  refine sc_in (fun hn => ⟨fun z => absurd z (by decide), fun _ => ?_⟩) (fun hn => ⟨fun _ => h2 (fun z => hn z.2) _ (h.W rfl), fun z => absurd rfl z⟩)
  obtain ⟨b, hb, rfl⟩ : ∃ b : Nat, b < 4 ∧ a = nI b := (body_or a).resolve_right (fun w => w hba)
  obtain ⟨m, hm, rfl⟩ := nI_of (Int32.not_lt.mpr (Int32.le_trans (by decide : (0 : Int32) ≤ 1) hn.1))
  have m1 : 1 ≤ m := (nI_leI (by omega : (1 : Nat) < 2147483648) hm).mp hn.1
  have m4 : m ≤ 4 := (nI_leI hm (by omega : (4 : Nat) < 2147483648)).mp hn.2
  have c16 := h.1.2.1 0 (by omega)
  have c17 := h.1.2.1 1 (by omega)
  refine st_gr c16 (v := some (ad 17)) rfl (st_mk (by omega) (by omega) (fun q s1 f1 g1 w1 => ⟨3, 48, ⟨by omega, by omega⟩, sc_bodyinit w1 (Nat.le_refl _) (Nat.le_refl _) (fun s2 q1 q2 q3 f g2 e1 e2 e3 n12 n13 n23 w2 k1 kf k2 k3 => st_nn ?_)⟩))
  have h12 : sf [q] st s2 := (g1.up (fun _ z => absurd z List.not_mem_nil)).tr g2
  have nn : ∀ {c : Nat}, s1 c = none → st c = none := fun {c} hc => by
    cases hh : st c with
    | none => rfl
    | some y => have := g1 _ _ hh List.not_mem_nil; rw [hc] at this; exact absurd this (by simp)
  have kq : ∀ {c : Nat}, s1 c = none → ¬ q = c := fun hc => st_ne w1 hc
  have hadq : ∀ {i : Nat}, i < 19 → ¬ ad i = q := fun hi e => by
    obtain ⟨y, hy⟩ := h.1.known hi
    rw [e, f1] at hy
    exact absurd hy (by simp)
  have c17' := h12 _ _ c17 (fun z => hadq (by omega) (List.mem_singleton.mp z))
  refine ⟨st_cs w2 (by decide), st_wr c17' hb (by omega) (fun s3 g3 w3 => ?_)⟩
  have ad17 : ∀ {c : Nat}, st c = none → c ∉ [ad (16 + 1)] := fun hc z => by
    obtain ⟨y, hy⟩ := h.1.known (i := 17) (by omega)
    rw [List.mem_singleton.mp z] at hc
    have : ad (16 + 1) = ad 17 := rfl
    rw [this, hy] at hc
    exact absurd hc (by simp)
  have hfin : ∀ nw : Nat → Nat, nw 0 = q → nw 1 = q1 → nw 2 = q2 → nw 3 = q3 → cV Γ E s3 I (adN ad b nw) (upB bd b ((nI m, 1, 0), (none, none, none), f, (fun _ => none), fun _ => 0)) x (updD Ds b (m, fun _ => 2, 1)) := by
    rintro nw rfl rfl rfl rfl
    have hnn : ∀ j, j < 4 → st (nw j) = none := fun j hj => match j, hj with
      | 0, _ => f1
      | 1, _ => nn e1
      | 2, _ => nn e2
      | 3, _ => nn e3
    refine h.newB hb (fun a y ha hw => g3 _ _ (h12 _ _ ha (fun z => ?_)) hw) w3 hnn (fun j hj => ?_) (fun i j hi hj e => ?_) _ ⟨⟨⟨m1, m4⟩, ⟨Nat.le_refl _, ?_⟩, fun i j hi hj => ⟨Nat.le_refl _, (by decide : 2 ≤ 6), rfl, fun _ => rfl⟩⟩, ⟨rfl, rfl, kf⟩, Or.inl ⟨rfl, rfl⟩, fun s q' _ z => absurd z (by simp), fun y z => absurd z (by simp), fun y z => absurd z (by simp)⟩ rfl
    · rw [List.mem_singleton.mp z, f1] at ha; exact absurd ha (by simp)
    · match j, hj with
      | 0, _ =>
        have := g3 _ _ w2 (ad17 f1)
        rw [this]
        unfold wB
        rw [adN_b (by omega), adN_b (by omega), adN_b (by omega)]
        rfl
      | 1, _ => exact g3 _ _ k1 (ad17 (nn e1))
      | 2, _ => exact g3 _ _ k2 (ad17 (nn e2))
      | 3, _ => exact g3 _ _ k3 (ad17 (nn e3))
    · match i, j, hi, hj with
      | 0, 0, _, _ => rfl
      | 1, 1, _, _ => rfl
      | 2, 2, _, _ => rfl
      | 3, 3, _, _ => rfl
      | 0, 1, _, _ => exact absurd e (kq e1)
      | 0, 2, _, _ => exact absurd e (kq e2)
      | 0, 3, _, _ => exact absurd e (kq e3)
      | 1, 0, _, _ => exact absurd e.symm (kq e1)
      | 2, 0, _, _ => exact absurd e.symm (kq e2)
      | 3, 0, _, _ => exact absurd e.symm (kq e3)
      | 1, 2, _, _ => exact absurd e n12
      | 1, 3, _, _ => exact absurd e n13
      | 2, 3, _, _ => exact absurd e n23
      | 2, 1, _, _ => exact absurd e.symm n12
      | 3, 1, _, _ => exact absurd e.symm n13
      | 3, 2, _, _ => exact absurd e.symm n23
    · show 1 < 2 ^ m
      exact Nat.lt_of_lt_of_le (by decide : 1 < 2 ^ 1) (Nat.pow_le_pow_right (by omega) m1)
  have hV := hfin (fun j => if j = 0 then q else if j = 1 then q1 else if j = 2 then q2 else q3) rfl rfl rfl rfl
  exact h1 b m hb m1 m4 rfl rfl _ ⟨I, _, _, x, adN_o (by omega), hV⟩
end CSET
