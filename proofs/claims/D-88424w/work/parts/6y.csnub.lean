set_option maxRecDepth 100000
/-! snubs of the class -/
theorem tab3d : tabs.all (fun e => cond (Nat.beq e.1 3) (tal e.2.2.1 (fun h => and (not (Nat.beq (Tto e h 0) (Tto e h 1))) (and (not (Nat.beq (Tto e h 0) (Tto e h 2))) (not (Nat.beq (Tto e h 1) (Tto e h 2)))))) true) = true := by decide +kernel
theorem cnB_list {N : Nat} : ∀ (L : List Nat) {P : Nat → Bool}, (∀ d, d < N → P d = true → d ∈ L) → cnB P N ≤ L.length := by
  intro L
  induction L with
  | nil =>
    intro P h
    have e : cnB P N = cnB (fun _ => false) N := cnB_cg N (fun k hk => by
      cases hP : P k
      · rfl
      · exact absurd (h k hk hP) List.not_mem_nil)
    rw [e, cnB_false (fun _ => rfl)]
    exact Nat.zero_le _
  | cons a L ih =>
    intro P h
    have key : ∀ n, cnB P n ≤ cnB (fun d => and (P d) (not (Nat.beq d a))) n + (if a < n then 1 else 0) := by
      intro n
      induction n with
      | zero => exact Nat.zero_le _
      | succ n ihn =>
        show cnB P n + b1 (P n) ≤ cnB (fun d => and (P d) (not (Nat.beq d a))) n + b1 (and (P n) (not (Nat.beq n a))) + _
        by_cases e : n = a
        · rw [if_neg (by omega)] at ihn
          rw [if_pos (by omega)]
          have : b1 (P n) ≤ 1 := by cases P n <;> decide
          omega
        · rw [nbF e, Bool.not_false, Bool.and_true]
          by_cases e2 : a < n
          · rw [if_pos e2] at ihn
            rw [if_pos (by omega)]; omega
          · rw [if_neg e2] at ihn
            rw [if_neg (by omega)]; omega
    have h1 := key N
    have h2 := ih (P := fun d => and (P d) (not (Nat.beq d a))) (fun d hd hP => by
      have hP' : and (P d) (not (Nat.beq d a)) = true := hP
      rw [Bool.and_eq_true] at hP'
      have := h d hd hP'.1
      rw [List.mem_cons] at this
      rcases this with z | z
      · rw [nbT z] at hP'; exact absurd hP'.2 (by decide)
      · exact z)
    rw [List.length_cons]
    split at h1 <;> omega
section SNF
variable {D : eb_D}
theorem to_ne (hv : vD D) (hz : ¬ ZD D = 0) (h3 : D.1 = 3) {g i j : Nat} (hg : g < ZD D) (hi : i < 3) (hj : j < 3) (hij : ¬ i = j) : ¬ Tto (TD D) (Tto (TD D) g i) j = g := by
  intro e
  have ht := TD_tfo hv hz
  obtain ⟨hG, he1, he2, he3⟩ := TD_ok hv hz
  have q := List.all_eq_true.mp tab3d _ (TD_mem hv hz)
  rw [nbT (he1.trans h3)] at q
  have q' : tal (TD D).2.2.1 (fun h => and (not (Nat.beq (Tto (TD D) h 0) (Tto (TD D) h 1))) (and (not (Nat.beq (Tto (TD D) h 0) (Tto (TD D) h 2))) (not (Nat.beq (Tto (TD D) h 1) (Tto (TD D) h 2))))) = true := q
  have t1 := ht g i hg (by omega)
  have r := tal_spec q' (Tto (TD D) g i) (by rw [he3]; exact t1.1)
  generalize hh : Tto (TD D) g i = h at e t1 r
  rw [Bool.and_eq_true, Bool.and_eq_true] at r
  have e2 : Tto (TD D) h i = Tto (TD D) h j := t1.2.trans e.symm
  have c1 : i = 0 ∨ i = 1 ∨ i = 2 := by omega
  have c2 : j = 0 ∨ j = 1 ∨ j = 2 := by omega
  have n : ∀ {a b : Nat}, (not (Nat.beq a b)) = true → a = b → False := fun {a b} hn hab => by rw [nbT hab] at hn; exact absurd hn (by decide)
  rcases c1 with rfl | rfl | rfl <;> rcases c2 with rfl | rfl | rfl
  · exact hij rfl
  · exact n r.1 e2
  · exact n r.2.1 e2
  · exact n r.1 e2.symm
  · exact hij rfl
  · exact n r.2.2 e2
  · exact n r.2.1 e2.symm
  · exact n r.2.2 e2.symm
  · exact hij rfl
theorem evn_to (hv : vD D) (hz : ¬ ZD D = 0) (h3 : D.1 = 3) {g i j : Nat} (hg : g < ZD D) (hi : i < 3) (hj : j < 3) (he : evn D g = true) : evn D (Tto (TD D) (Tto (TD D) g i) j) = true := by
  obtain ⟨hG, he1, he2, he3⟩ := TD_ok hv hz
  have t1 := hG.2.1 g (by omega) i (by omega)
  have t2 := hG.2.1 _ t1.1 j (by omega)
  have e0 : Tlen (TD D) g % 2 = 0 := Nat.eq_of_beq_eq_true he
  exact nbT (by have := t1.2.2.1; have := t2.2.2.1; omega)
theorem hn_lt (hv : vD D) (hz : ¬ ZD D = 0) (h3 : D.1 = 3) {g : Nat} (hg : g < ZD D) (he : evn D g = true) : hn D g < ZD D / 2 := by
  have := cnB_lt he (ZD D) hg
  rw [(tab3_D hv hz h3).2] at this
  exact this
theorem hn_inj {g h : Nat} (hg : evn D g = true) (hh : evn D h = true) (e : hn D g = hn D h) : g = h := by
  rcases Nat.lt_trichotomy g h with z | z | z
  · have := cnB_lt hg h z
    unfold hn at e; omega
  · exact z
  · have := cnB_lt hh g z
    unfold hn at e; omega
/-- a half's neighbours, from itself -/
theorem snA_nb (hv : vD D) (hz : ¬ ZD D = 0) (h3 : D.1 = 3) {c d : Nat} (h : snA D c d = true) : ∃ g i j, g < ZD D ∧ evn D g = true ∧ hn D g = c ∧ i < 3 ∧ j < 3 ∧ ¬ i = j ∧ hn D (Tto (TD D) (Tto (TD D) g i) j) = d := by
  have ht := TD_tfo hv hz
  obtain ⟨g, i, j, hg, he, hi, hj, hij, h1 | h1⟩ := snA_iff.mp h
  · exact ⟨g, i, j, hg, he, h1.1, hi, hj, hij, h1.2⟩
  · have t1 := ht g i hg (by omega)
    have t2 := ht _ j t1.1 (by omega)
    refine ⟨_, j, i, t2.1, evn_to hv hz h3 hg hi hj he, h1.1, hj, hi, fun z => hij z.symm, ?_⟩
    rw [t2.2, t1.2]
    exact h1.2
theorem snA_sy (c d : Nat) : snA D c d = snA D d c := by
  have one : ∀ c d, snA D c d = true → snA D d c = true := fun c d h => by
    obtain ⟨g, i, j, hg, he, hi, hj, hij, h1⟩ := snA_iff.mp h
    exact snA_iff.mpr ⟨g, i, j, hg, he, hi, hj, hij, h1.symm.imp (fun z => ⟨z.2, z.1⟩) (fun z => ⟨z.2, z.1⟩) |>.symm.symm⟩
  exact Bool_ext ⟨one c d, one d c⟩
theorem snA_irr (hv : vD D) (hz : ¬ ZD D = 0) (h3 : D.1 = 3) (c : Nat) : snA D c c = false := by
  cases e : snA D c c with
  | false => rfl
  | true =>
    obtain ⟨g, i, j, hg, he, h1, hi, hj, hij, h2⟩ := snA_nb hv hz h3 e
    exact absurd (hn_inj (evn_to hv hz h3 hg hi hj he) he (h2.trans h1.symm)) (to_ne hv hz h3 hg hi hj hij)
theorem snA_deg (hv : vD D) (hz : ¬ ZD D = 0) (h3 : D.1 = 3) (c N : Nat) : cnB (snA D c) N ≤ 6 := by
  by_cases hex : ∃ d, snA D c d = true
  · obtain ⟨d0, hd0⟩ := hex
    obtain ⟨g, i, j, hg, he, h1, -⟩ := snA_nb hv hz h3 hd0
    refine cnB_list [hn D (Tto (TD D) (Tto (TD D) g 0) 1), hn D (Tto (TD D) (Tto (TD D) g 0) 2), hn D (Tto (TD D) (Tto (TD D) g 1) 0), hn D (Tto (TD D) (Tto (TD D) g 1) 2), hn D (Tto (TD D) (Tto (TD D) g 2) 0), hn D (Tto (TD D) (Tto (TD D) g 2) 1)] (fun d _ hd => ?_)
    obtain ⟨g', i', j', hg', he', h1', hi, hj, hij, h2⟩ := snA_nb hv hz h3 hd
    have eg := hn_inj he' he (h1'.trans h1.symm)
    subst eg
    have c1 : i' = 0 ∨ i' = 1 ∨ i' = 2 := by omega
    have c2 : j' = 0 ∨ j' = 1 ∨ j' = 2 := by omega
    rw [← h2]
    rcases c1 with rfl | rfl | rfl <;> rcases c2 with rfl | rfl | rfl <;> first | exact absurd rfl hij | simp
  · have e : cnB (snA D c) N = cnB (fun _ => false) N := cnB_cg N (fun k _ => by
      cases hP : snA D c k
      · rfl
      · exact absurd ⟨k, hP⟩ hex)
    rw [e, cnB_false (fun _ => rfl)]
    exact Nat.zero_le _
end SNF
/-- degrees, summed -/
def sgm (f : Nat → Nat) : Nat → Nat
  | 0 => 0
  | n + 1 => sgm f n + f n
theorem sgm_cg {f g : Nat → Nat} : ∀ n, (∀ k, k < n → f k = g k) → sgm f n = sgm g n := by
  intro n
  induction n with
  | zero => intro _; rfl
  | succ n ih => intro h; show sgm f n + f n = sgm g n + g n; rw [ih (fun k hk => h k (by omega)), h n (by omega)]
theorem sgm_add (f g : Nat → Nat) : ∀ n, sgm (fun k => f k + g k) n = sgm f n + sgm g n := by
  intro n
  induction n with
  | zero => rfl
  | succ n ih => show sgm (fun k => f k + g k) n + (f n + g n) = sgm f n + f n + (sgm g n + g n); rw [ih]; omega
theorem sgm_b1 (P : Nat → Bool) : ∀ n, sgm (fun k => b1 (P k)) n = cnB P n := by
  intro n
  induction n with
  | zero => rfl
  | succ n ih => show sgm (fun k => b1 (P k)) n + b1 (P n) = cnB P n + b1 (P n); rw [ih]
theorem sgm_le {f : Nat → Nat} {w : Nat} : ∀ n, (∀ k, k < n → f k ≤ w) → sgm f n ≤ n * w := by
  intro n
  induction n with
  | zero => intro _; exact Nat.zero_le _
  | succ n ih =>
    intro h
    show sgm f n + f n ≤ (n + 1) * w
    have h1 := ih (fun k hk => h k (by omega))
    have h2 := h n (by omega)
    rw [Nat.add_mul]; omega
theorem sgm_deg {A : Nat → Nat → Bool} (hs : ∀ a b, A a b = A b a) (hi : ∀ a, A a a = false) : ∀ n, sgm (fun a => cnB (A a) n) n = 2 * jal A n := by
  intro n
  induction n with
  | zero => rfl
  | succ n ih =>
    show sgm (fun a => cnB (A a) n + b1 (A a n)) n + (cnB (A n) n + b1 (A n n)) = 2 * (jal A n + cnB (A n) n)
    rw [sgm_add (fun a => cnB (A a) n) (fun a => b1 (A a n)), ih, sgm_cg (f := fun a => b1 (A a n)) (g := fun a => b1 (A n a)) n (fun k _ => by show b1 (A k n) = b1 (A n k); rw [hs k n]), sgm_b1, hi n]
    show 2 * jal A n + cnB (A n) n + (cnB (A n) n + 0) = _
    omega
section CSN
variable {Γ : eb_C} {E : cET} {st st' : eb_S} {I I' : Nat → va_E → Prop} {bc bs : Nat}
theorem sc_nall {c q pj pm w N : Nat} {rest : List Value} {A : Nat → Nat → Bool} {fj fm : Nat → Int32} {K : Int32 → Prop} (h : nC Γ st c q pj pm w N rest A fj fm) (hN : N ≤ 500) (hw : w ≤ 24) (hs : ∀ a b, A a b = A b a) (hi : ∀ a, A a a = false) (hK : K (nI (jal A N))) : MX10_all Γ st q K := by
  obtain ⟨c1, c2, c3, c4, ⟨nb, n1', n2', n3'⟩, c6, c7, c8⟩ := id h
  have hle : ∀ m, m ≤ N → sgm (fun a => cnB (A a) N) m ≤ 12000 := fun m hm => by
    have h1 := sgm_le (f := fun a => cnB (A a) N) (w := w) m (fun k hk => (n1' k (by omega)).2.1)
    have h2 : m * w ≤ 500 * 24 := Nat.mul_le_mul (by omega) hw
    omega
  unfold MX10_all
  refine st_nr c1 c2 (v := some pm) rfl (st_nn (st_ln c4 ?_))
  refine jp_1 (fun v => v = nI (sgm (fun a => cnB (A a) N) N)) ?_ (fun k hk => ?_)
  · rintro _ rfl
    have := hle N (Nat.le_refl _)
    rw [show nI (sgm (fun a => cnB (A a) N) N) / 2 = nI (sgm (fun a => cnB (A a) N) N / 2) from nI_div (by omega) (by omega : (2 : Nat) < 2147483648), sgm_deg hs hi, Nat.mul_div_cancel_left _ (by omega)]
    exact hK
  · refine eb_loop2_i (fun x y => ∃ m, m ≤ N ∧ x = nI (sgm (fun a => cnB (A a) N) m) ∧ y = nI m) (fun _ y => 1000 - y.toNatClampNeg) ?_ ⟨0, by omega, rfl, rfl⟩
    rintro R _ _ ⟨m, hm, rfl, rfl⟩ hR
    refine br_le (a := N) (by omega) (by omega) (fun h2 => hk _ (by rw [show m = N by omega])) (fun h2 => st_li c4 (by omega) (by omega) ?_)
    rw [(n1' m (by omega)).1, nI_add, nI_1]
    refine hR _ _ ⟨m + 1, by omega, rfl, rfl⟩ ?_
    rw [nI_cl (by omega), nI_cl (by omega)]; omega
theorem sc_isHalf {q g : Nat} {D : eb_D} {K : Int32 → Prop} (hv : vD D) (hz : ¬ ZD D = 0) (h : cGr Γ I q (TD D)) (hI : ∀ a y, I a y → st a = some y) (hg : g < ZD D) (hK : K (nI (b1 (evn D g)))) : MX8_isHalf Γ st q (nI g) K := by
  obtain ⟨hG, he1, he2, he3⟩ := TD_ok hv hz
  have hzl := ZD_le hv
  unfold MX8_isHalf
  refine h.len hI (by omega) (by omega) ?_
  have hl := (Tlen_0 hG (show g < (TD D).2.2.1 by omega)).2
  rw [show eb_rem (nI (Tlen (TD D) g)) 2 = nI (Tlen (TD D) g % 2) from nI_rem (by omega) (by omega : (2 : Nat) < 2147483648)]
  refine br_eq (b := 0) (by omega) (by omega) (fun e => ?_) (fun e => ?_)
  · have : evn D g = true := nbT e
    rw [this] at hK; exact hK
  · have : evn D g = false := nbF e
    rw [this] at hK; exact hK
/-- which halves were joined so far -/
def sBP (D : eb_D) (m i j x y : Nat) : Prop := ∃ g i' j', (g < m ∨ (g = m ∧ (i' < i ∨ (i' = i ∧ j' < j)))) ∧ g < ZD D ∧ snP D g i' j' x y
noncomputable def sBB (D : eb_D) (m i j x y : Nat) : Bool := @decide (sBP D m i j x y) (Classical.propDecidable _)
theorem sBB_iff {D : eb_D} {m i j x y : Nat} : sBB D m i j x y = true ↔ sBP D m i j x y := by unfold sBB; exact @decide_eq_true_iff _ (Classical.propDecidable _)
theorem snP.sy {D : eb_D} {g i j x y : Nat} (h : snP D g i j x y) : snP D g i j y x := by
  obtain ⟨h1, h2, h3, h4, h5⟩ := h
  refine ⟨h1, h2, h3, h4, ?_⟩
  rcases h5 with h5 | h5
  · exact Or.inr ⟨h5.2, h5.1⟩
  · exact Or.inl ⟨h5.2, h5.1⟩
variable {a : Nat → Nat} {D : eb_D} {d : cBT} {gp : Nat}
theorem sc_snubinit {q : Nat} {K : eb_S → Prop} (h : bX Γ st I a D d gp) (h3 : D.1 = 3) (hq : st q = some (.inr (13, [.int 0, .int 0, .null, .null, .null, .null]))) (hqI : ∀ y, ¬ I q y) (hqa : ∀ j, j < 4 → ¬ q = a j) (hbc : 3 ≤ bc) (hbs : 660 ≤ bs)
    (hK : ∀ st' pj pm pc fj fm fc, sf [q] st st' → st pj = none → st pm = none → st pc = none → nC Γ st' 13 q pj pm 8 (ZD D / 2) [.ref (a 0), .ref pc] (snA D) fj fm → st' pc = some (eb_ia Γ 0 (ZD D) fc) → K st') : MX14_init Γ bc bs st q (a 0) K := by
  have hv := h.2.1
  have hz := h.2.2.1
  have ht := TD_tfo hv hz
  obtain ⟨hG, he1, he2, he3⟩ := TD_ok hv hz
  obtain ⟨h120, hhalf⟩ := tab3_D hv hz h3
  unfold MX14_init
  refine st_gr (h.1.1 0 (by omega)) (v := some gp) (by rw [← h.2.2.2.2.1]; rfl) (st_nn (h.2.2.2.2.2.1.n h.fz ?_))
  rw [he3, show nI (ZD D) / 2 = nI (ZD D / 2) from nI_div (by omega) (by omega : (2 : Nat) < 2147483648)]
  refine ⟨2, ZD D / 2 * 8 + ZD D / 2, ⟨by omega, by omega⟩, ?_⟩
  refine sc_netinit (w := 8) (Or.inr (Or.inr rfl)) hq (by omega) (by omega) (by omega) (Nat.le_refl _) (Nat.le_refl _) (fun s1 pj pm g1 fj0 fm0 hC0 => ?_)
  have nqj : ¬ q = pj := st_ne hq fj0
  have nqm : ¬ q = pm := st_ne hq fm0
  have nq : ∀ {c : Nat}, ¬ q = c → c ∉ [q] := fun h z => h (List.mem_singleton.mp z).symm
  have kX : ∀ s, sf [q] st s → bX Γ s I a D d gp := fun s hs => h.keep (I' := I) hs (fun w hw => by rw [List.mem_singleton.mp hw]; exact ⟨fun j hj z => hqa j hj z.symm, hqI⟩) (fun _ _ z => z) (fun _ _ z => Or.inl z)
  refine st_pt hC0.2.1 (by simp) (fun s2 g2 w2 => ?_)
  have hs2 : sf [q] st s2 := g1.tr g2
  have hX2 := kX s2 hs2
  refine st_gr (hX2.1.1 0 (by omega)) (v := some gp) (by rw [← hX2.2.2.2.2.1]; rfl) (st_nn (hX2.2.2.2.2.2.1.n hX2.fz ⟨st_ok1 (by omega), ?_⟩))
  rw [he3, nI_cl (by omega)]
  refine st_mk (by omega) (by omega) (fun pc s3 f3 g3 w3 => ?_)
  have j2 := g2 _ _ hC0.2.2.1 (nq nqj)
  have m2 := g2 _ _ hC0.2.2.2.1 (nq nqm)
  have nqc : ¬ q = pc := st_ne w2 f3
  have njc : ¬ pj = pc := st_ne j2 f3
  have nmc : ¬ pm = pc := st_ne m2 f3
  have fcs : st pc = none := by
    cases hh : st pc with
    | none => rfl
    | some y => have := hs2 _ _ hh (nq nqc); rw [f3] at this; exact absurd this (by simp)
  refine st_pt (g3 _ _ w2 List.not_mem_nil) (by simp) (fun s4 g4 w4 => ?_)
  have hs4 : sf [q] st s4 := (hs2.tr (g3.up (fun _ z => absurd z List.not_mem_nil))).tr g4
  have j4 := g4 _ _ (g3 _ _ j2 List.not_mem_nil) (nq nqj)
  have m4 := g4 _ _ (g3 _ _ m2 List.not_mem_nil) (nq nqm)
  have c4 := g4 _ _ w3 (nq nqc)
  have hC4 : nC Γ s4 13 q pj pm 8 (ZD D / 2) [.ref (a 0), .ref pc] (fun _ _ => false) (fun _ => 0) (fun _ => 0) := ⟨Or.inr (Or.inr rfl), w4, j4, m4, hC0.2.2.2.2⟩
  -- three new rows
  have nn3 : ∀ {b : Nat} {y : va_E}, st b = some y → b ∉ [pj, pm, pc] := fun {b y} hb z => by
    simp only [List.mem_cons, List.not_mem_nil, or_false] at z
    rcases z with z | z | z
    · rw [z, fj0] at hb; exact absurd hb (by simp)
    · rw [z, fm0] at hb; exact absurd hb (by simp)
    · rw [z, fcs] at hb; exact absurd hb (by simp)
  have hs3 : ∀ s, sf [pj, pm, pc] s4 s → sf [q] st s := fun s hs b y hb hw => hs _ _ (hs4 _ _ hb hw) (nn3 hb)
  refine jp_1 (fun s => ∃ fc, sf [pc] s4 s ∧ s pc = some (eb_ia Γ 0 (ZD D) fc) ∧ ∀ g, g < ZD D → fc g = oI (cond (evn D g) (some (hn D g)) none)) ?_ ?_
  · rintro s5 ⟨fc, g5, w5, hfc⟩
    have n1c : ∀ {b : Nat}, ¬ b = pc → b ∉ [pc] := fun h z => h (List.mem_singleton.mp z)
    have hC5 : nC Γ s5 13 q pj pm 8 (ZD D / 2) [.ref (a 0), .ref pc] (fun _ _ => false) (fun _ => 0) (fun _ => 0) := ⟨hC4.1, g5 _ _ hC4.2.1 (n1c nqc), g5 _ _ hC4.2.2.1 (n1c njc), g5 _ _ hC4.2.2.2.1 (n1c nmc), hC4.2.2.2.2⟩
    have hs45 : ∀ s, sf [pj, pm] s5 s → sf [pj, pm, pc] s4 s := fun s hs => (g5.up (fun k hk => by rw [List.mem_singleton.mp hk]; simp)).tr (hs.up (fun k hk => by
      simp only [List.mem_cons, List.not_mem_nil, or_false] at hk
      rcases hk with z | z <;> rw [z] <;> simp))
    have kc : ∀ s, sf [pj, pm] s5 s → s pc = some (eb_ia Γ 0 (ZD D) fc) := fun s hs => hs _ _ w5 (fun z => by
      simp only [List.mem_cons, List.not_mem_nil, or_false] at z
      rcases z with z | z
      · exact njc z.symm
      · exact nmc z.symm)
    have cgE : ∀ {s : eb_S} {B B' : Nat → Nat → Bool} {fj fm : Nat → Int32}, nC Γ s 13 q pj pm 8 (ZD D / 2) [.ref (a 0), .ref pc] B fj fm → (∀ x y, B x y = true ↔ B' x y = true) → nC Γ s 13 q pj pm 8 (ZD D / 2) [.ref (a 0), .ref pc] B' fj fm := fun hC he => ⟨hC.1, hC.2.1, hC.2.2.1, hC.2.2.2.1, hC.2.2.2.2.1.cg (fun x y _ _ => Bool_ext (he x y)), hC.2.2.2.2.2⟩
    refine eb_loop2_i (fun u s => ∃ m fj fm, m ≤ ZD D ∧ u = nI m ∧ sf [pj, pm] s5 s ∧ nC Γ s 13 q pj pm 8 (ZD D / 2) [.ref (a 0), .ref pc] (sBB D m 0 0) fj fm) (fun u _ => 1000 - u.toNatClampNeg) ?_ ⟨0, _, _, by omega, rfl, sf.rf _ _, cgE hC5 (fun x y => ⟨fun z => Bool.noConfusion z, fun z => ?_⟩)⟩
    · rintro R _ s ⟨m, fj, fm, hm, rfl, hs, hC⟩ hR
      have hXs := kX s (hs3 s (hs45 s hs))
      refine hXs.2.2.2.2.2.1.n hXs.fz ?_
      rw [he3]
      refine br_le (by omega) (by omega) (fun h2 => ?_) (fun h2 => ?_)
      · refine hK s pj pm pc fj fm fc (hs3 s (hs45 s hs)) fj0 fm0 fcs (cgE hC (fun x y => ?_)) (kc s hs)
        rw [sBB_iff, snA_iff]
        exact ⟨fun ⟨g, i, j, _, z1, z2⟩ => ⟨g, i, j, z1, z2⟩, fun ⟨g, i, j, z1, z2⟩ => ⟨g, i, j, by omega, z1, z2⟩⟩
      · refine jp_1 (fun s => ∃ fj fm, sf [pj, pm] s5 s ∧ nC Γ s 13 q pj pm 8 (ZD D / 2) [.ref (a 0), .ref pc] (sBB D (m + 1) 0 0) fj fm) ?_ ?_
        · rintro s ⟨fj, fm, hs, hC⟩
          rw [nI_1]
          refine hR _ _ ⟨m + 1, fj, fm, by omega, rfl, hs, hC⟩ ?_
          rw [nI_cl (by omega), nI_cl (by omega)]; omega
        · intro k21 hk21
          refine eb_loop2_i (fun u s => ∃ i fj fm, i ≤ 3 ∧ u = nI i ∧ sf [pj, pm] s5 s ∧ nC Γ s 13 q pj pm 8 (ZD D / 2) [.ref (a 0), .ref pc] (sBB D m i 0) fj fm) (fun u _ => 10 - u.toNatClampNeg) ?_ ⟨0, fj, fm, by omega, rfl, hs, hC⟩
          rintro R2 _ s ⟨i, fj, fm, hi, rfl, hs, hC⟩ hR2
          have hXs := kX s (hs3 s (hs45 s hs))
          refine br_le (a := 3) (by omega) (by omega) (fun h4 => hk21 s ⟨fj, fm, hs, cgE hC (fun x y => ?_)⟩) (fun h4 => ⟨hXs.2.2.2.2.2.1.cs hXs.fz, sc_isHalf hv hz hXs.2.2.2.2.2.1 hXs.fz (by omega) ?_⟩)
          · rw [sBB_iff, sBB_iff]
            exact ⟨fun ⟨g, i', j', z0, z1, z2⟩ => ⟨g, i', j', by omega, z1, z2⟩, fun ⟨g, i', j', z0, z1, z2⟩ => ⟨g, i', j', by have := z2.2.1; omega, z1, z2⟩⟩
          · cases hev0 : evn D m with
            | false =>
              refine ⟨fun _ => hk21 s ⟨fj, fm, hs, cgE hC (fun x y => ?_)⟩, fun z => absurd rfl z⟩
              rw [sBB_iff, sBB_iff]
              refine ⟨fun ⟨g, i', j', z0, z1, z2⟩ => ⟨g, i', j', by omega, z1, z2⟩, fun ⟨g, i', j', z0, z1, z2⟩ => ⟨g, i', j', Or.inl ?_, z1, z2⟩⟩
              by_cases e : g = m
              · rw [e] at z2; exact absurd (hev0.symm.trans z2.1) (by decide)
              · omega
            | true =>
              refine ⟨fun z => absurd z (by decide), fun _ => ?_⟩
              have hm1 := hn_lt hv hz h3 (show m < ZD D by omega) hev0
              refine jp_1 (fun s => ∃ fj fm, sf [pj, pm] s5 s ∧ nC Γ s 13 q pj pm 8 (ZD D / 2) [.ref (a 0), .ref pc] (sBB D m (i + 1) 0) fj fm) ?_ ?_
              · rintro s ⟨fj, fm, hs, hC⟩
                rw [nI_1]
                refine hR2 _ _ ⟨i + 1, fj, fm, by omega, rfl, hs, hC⟩ ?_
                rw [nI_cl (by omega), nI_cl (by omega)]; omega
              · intro k30 hk30
                refine eb_loop2_i (fun u s => ∃ j fj fm, j ≤ 3 ∧ u = nI j ∧ sf [pj, pm] s5 s ∧ nC Γ s 13 q pj pm 8 (ZD D / 2) [.ref (a 0), .ref pc] (sBB D m i j) fj fm) (fun u _ => 10 - u.toNatClampNeg) ?_ ⟨0, fj, fm, by omega, rfl, hs, hC⟩
                rintro R3 _ s ⟨j, fj, fm, hj, rfl, hs, hC⟩ hR3
                have hXs := kX s (hs3 s (hs45 s hs))
                have hcs := kc s hs
                refine br_le (a := 3) (by omega) (by omega) (fun h5 => hk30 s ⟨fj, fm, hs, cgE hC (fun x y => ?_)⟩) (fun h5 => ?_)
                · rw [sBB_iff, sBB_iff]
                  exact ⟨fun ⟨g, i', j', z0, z1, z2⟩ => ⟨g, i', j', by omega, z1, z2⟩, fun ⟨g, i', j', z0, z1, z2⟩ => ⟨g, i', j', by have := z2.2.2.1; omega, z1, z2⟩⟩
                · refine st_gr hC.2.1 (v := some pc) rfl (st_nn (st_li hcs (by omega) (by omega) (st_gr hC.2.1 (v := some pc) rfl ?_)))
                  have e1 : fc m = nI (hn D m) := by rw [hfc m (by omega), hev0]; rfl
                  rw [e1]
                  refine jp_1 (fun v => ∃ h, v = nI h ∧ h < ZD D ∧ evn D h = true ∧ (i = j → h = m) ∧ (¬ i = j → h = Tto (TD D) (Tto (TD D) m i) j)) ?_ ?_
                  · rintro _ ⟨h', rfl, hh1, hh2, hh3, hh4⟩
                    have hm2 := hn_lt hv hz h3 hh1 hh2
                    have e2 : fc h' = nI (hn D h') := by rw [hfc h' hh1, hh2]; rfl
                    refine st_nn (st_li hcs hh1 (by omega) ?_)
                    rw [e2]
                    have hjt : ¬ hn D m = hn D h' → snA D (hn D m) (hn D h') = true := fun hne => by
                      have hij : ¬ i = j := fun z => hne (by rw [hh3 z])
                      refine snA_iff.mpr ⟨m, i, j, by omega, hev0, by omega, by omega, hij, Or.inl ⟨rfl, by rw [hh4 hij]⟩⟩
                    refine ⟨st_cs hC.2.1 (by simp), sc_joins (A := snA D) hC hm1 hm2 (fun x y _ _ => Bool_ext ?_) (fun x _ => Nat.le_trans (snA_deg hv hz h3 x _) (by omega)) (fun x y _ _ hB => ?_) (fun hne => ⟨hjt hne, by rw [snA_sy]; exact hjt hne⟩) (fun s' fj' fm' hs' hC' => ?_)⟩
                    · rw [sBB_iff, sBB_iff]
                      exact ⟨fun ⟨g, i', j', z0, z1, z2⟩ => ⟨g, i', j', z0, z1, z2.sy⟩, fun ⟨g, i', j', z0, z1, z2⟩ => ⟨g, i', j', z0, z1, z2.sy⟩⟩
                    · obtain ⟨g, i', j', z0, z1, z2⟩ := sBB_iff.mp hB
                      exact snA_iff.mpr ⟨g, i', j', z1, z2⟩
                    · rw [nI_1]
                      refine hR3 _ _ ⟨j + 1, fj', fm', by omega, rfl, hs.tr hs', cgE hC' (fun x y => ?_)⟩ ?_
                      · rw [nJ_iff, sBB_iff, sBB_iff]
                        constructor
                        · rintro (⟨g, i', j', z0, z1, z2⟩ | ⟨hne, hxy⟩)
                          · exact ⟨g, i', j', by omega, z1, z2⟩
                          · have hij : ¬ i = j := fun z => hne (by rw [hh3 z])
                            refine ⟨m, i, j, by omega, by omega, hev0, by omega, by omega, hij, ?_⟩
                            rw [← hh4 hij]
                            rcases hxy with z | z
                            · exact Or.inl ⟨z.1.symm, z.2.symm⟩
                            · exact Or.inr ⟨z.1.symm, z.2.symm⟩
                        · rintro ⟨g, i', j', z0, z1, z2⟩
                          by_cases e : g = m ∧ i' = i ∧ j' = j
                          · obtain ⟨rfl, rfl, rfl⟩ := e
                            right
                            have hij := z2.2.2.2.1
                            refine ⟨fun z => ?_, ?_⟩
                            · have := hn_inj hh2 hev0 z.symm
                              rw [hh4 hij] at this
                              exact to_ne hv hz h3 (by omega) (by omega) (by omega) hij this
                            · rw [hh4 hij]
                              rcases z2.2.2.2.2 with z | z
                              · exact Or.inl ⟨z.1.symm, z.2.symm⟩
                              · exact Or.inr ⟨z.1.symm, z.2.symm⟩
                          · exact Or.inl ⟨g, i', j', by omega, z1, z2⟩
                      · rw [nI_cl (by omega), nI_cl (by omega)]; omega
                  · intro k45 hk45
                    refine br_eq (by omega) (by omega) (fun h6 => hk45 _ ⟨m, rfl, by omega, hev0, fun _ => rfl, fun z => absurd h6 z⟩) (fun h6 => ?_)
                    have t1 := (ht m i (by omega) (by omega)).1
                    have t2 := (ht _ j t1 (by omega)).1
                    exact ⟨hXs.2.2.2.2.2.1.cs hXs.fz, sc_by hG hXs.2.2.2.2.2.1 hXs.fz (by omega) (by omega) ⟨hXs.2.2.2.2.2.1.cs hXs.fz, sc_by hG hXs.2.2.2.2.2.1 hXs.fz (by omega) (by omega) (hk45 _ ⟨_, rfl, t2, evn_to hv hz h3 (by omega) (by omega) (by omega) hev0, fun z => absurd z h6, fun _ => rfl⟩)⟩⟩
    · obtain ⟨g, i', j', z0, _⟩ := sBB_iff.mp z
      omega
  · intro k59 hk59
    refine eb_loop3_i (fun u v s => ∃ m fc, m ≤ ZD D ∧ u = nI (hn D m) ∧ v = nI m ∧ sf [pc] s4 s ∧ s pc = some (eb_ia Γ 0 (ZD D) fc) ∧ ∀ g, g < m → fc g = oI (cond (evn D g) (some (hn D g)) none)) (fun _ v _ => 1000 - v.toNatClampNeg) ?_ ⟨0, _, by omega, rfl, rfl, sf.rf _ _, c4, fun g hg => absurd hg (Nat.not_lt_zero _)⟩
    rintro R _ _ s ⟨m, fc, hm, rfl, rfl, hs, wc, hfc⟩ hR
    have k34 : ∀ s, sf [pc] s4 s → sf [pj, pm, pc] s4 s := fun s hs => hs.up (fun k hk => by rw [List.mem_singleton.mp hk]; simp)
    have hXs := kX s (hs3 s (k34 s hs))
    refine hXs.2.2.2.2.2.1.n hXs.fz ?_
    rw [he3]
    refine br_le (by omega) (by omega) (fun h2 => hk59 s ⟨fc, hs, wc, fun g hg => hfc g (by omega)⟩) (fun h2 => ?_)
    refine st_gr (hs _ _ w4 (fun z => nqc (List.mem_singleton.mp z))) (v := some pc) rfl ⟨hXs.2.2.2.2.2.1.cs hXs.fz, sc_isHalf hv hz hXs.2.2.2.2.2.1 hXs.fz (by omega) ?_⟩
    refine jp_1 (fun v => v = oI (cond (evn D m) (some (hn D m)) none)) ?_ (fun k80 hk80 => ?_)
    · rintro _ rfl
      refine st_nn (st_wi wc (by omega) (by omega) (fun s' g' w' => ?_))
      have hX' := kX s' (hs3 s' (k34 s' (hs.tr g')))
      refine ⟨hX'.2.2.2.2.2.1.cs hX'.fz, sc_isHalf hv hz hX'.2.2.2.2.2.1 hX'.fz (by omega) ?_⟩
      refine jp_1 (fun v => v = nI (b1 (evn D m))) ?_ (fun k78 hk78 => ?_)
      · rintro _ rfl
        rw [nI_add, nI_1]
        refine hR _ _ _ ⟨m + 1, _, by omega, rfl, rfl, hs.tr g', w', fun g hg => ?_⟩ ?_
        · by_cases e : g = m
          · rw [e, upd_eq]
          · rw [upd_ne e]; exact hfc g (by omega)
        · rw [nI_cl (by omega), nI_cl (by omega)]; omega
      · cases e : evn D m with
        | false => exact ⟨fun _ => hk78 _ (by rw [e]; rfl), fun z => absurd rfl z⟩
        | true => exact ⟨fun z => absurd z (by decide), fun _ => hk78 _ (by rw [e]; rfl)⟩
    · cases e : evn D m with
      | false => exact ⟨fun _ => hk80 _ (by rw [e]; rfl), fun z => absurd rfl z⟩
      | true => exact ⟨fun z => absurd z (by decide), fun _ => hk80 _ (by rw [e]; rfl)⟩
end CSN
