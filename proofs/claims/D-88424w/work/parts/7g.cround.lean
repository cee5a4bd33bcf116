set_option maxRecDepth 100000
theorem fmP : ∀ n, n < 6 → ∀ t, t < n → ∀ k, k < n → (t + 12 * n - k) % n = pP n false t k ∧ (t + k + 12 * n - 0) % n = pP n true t k := by decide +kernel
theorem nI_mone (k : Nat) : (-1 : Int32) * nI k = 0 - nI k := by
  generalize nI k = a
  grind
theorem add_mone (a b : Int32) : a + (-1) * b = a - b := by grind
theorem add_one (a b : Int32) : a + 1 * b = a + b := by grind
theorem nx3 : ∀ g, g < 6 → ∀ i, i < g → ∀ j, j < g → g < 3 ∨ i = j ∨ ¬ ((i = j ∨ i = nxI g j) ∧ (nxI g i = j ∨ nxI g i = nxI g j)) := by decide +kernel
theorem nx_l : ∀ g, g < 6 → 1 ≤ g → ∀ i, i < g → nxI g i < g := by decide +kernel
noncomputable def zS (D : eb_D) (c j : Nat) : Nat := if duN D = 0 then 0 else uS D (uF D c j)
section RO
variable {Γ : eb_C} {st st' : eb_S} {bc bs : Nat} {q p net pj pm ps pk pr pf : Nat} {D : eb_D} {fj fm f3 f4 fr ff : Nat → Int32}
theorem u_fl (h : ok3 D) (hF : ¬ duN D = 0) {c i : Nat} (hc : c < NP D 0) (hi : i < uG D) : uF D c i < duN D := by
  by_cases hd : 3 ≤ uG D
  · exact (u_sol h hd hc hi).1
  · rcases u_flat h hd with ⟨h1, h2, h3⟩ | ⟨h1, h2, h3⟩
    · rw [(h3 c hc).2 i (by omega)]; omega
    · exact absurd h2 hF
theorem u_FA (h : ok3 D) (hF : ¬ duN D = 0) {c i : Nat} (hc : c < NP D 0) (hi : i < uG D) : FA D (uF D c i) c = true := by
  by_cases hd : 3 ≤ uG D
  · exact (((u_sol h hd hc hi).2.2.1 (uF D c i)).mpr (Or.inl rfl)).1
  · rcases u_flat h hd with ⟨h1, h2, h3⟩ | ⟨h1, h2, h3⟩
    · exact ((h3 c hc).1 _).mpr ((h3 c hc).2 i (by omega))
    · exact absurd h2 hF
/-- faces round a corner differ -/
theorem u_finj (h : ok3 D) (hd : 3 ≤ uG D) {c i j : Nat} (hc : c < NP D 0) (hi : i < uG D) (hj : j < uG D) (e : uF D c i = uF D c j) : i = j := by
  have hg := u_dg h
  obtain ⟨_, _, _, a⟩ := u_sol h hd hc hi
  obtain ⟨_, _, _, b⟩ := u_sol h hd hc hj
  have hn := nx_l (uG D) (by omega) hg.1 i hi
  have hm := nx_l (uG D) (by omega) hg.1 j hj
  have k : ∀ y, y < uG D → uN D c y = uN D c i ∨ uN D c y = uN D c (nxI (uG D) i) → y = j ∨ y = nxI (uG D) j := fun y hy z => by
    have := (a _).mpr z
    rw [e] at this
    exact ((b _).mp this).imp (fun w => u_inj h hc hy hj w) (fun w => u_inj h hc hy hm w)
  exact ((nx3 (uG D) (by omega) i hi j hj).resolve_left (by omega)).resolve_right (fun z => z ⟨k i hi (Or.inl rfl), k _ hn (Or.inr rfl)⟩)
theorem zS_le (h : ok3 D) {c i : Nat} (hc : c < NP D 0) (hi : i < uG D) : zS D c i ≤ 12 ∧ (¬ duN D = 0 → 1 ≤ zS D c i) := by
  unfold zS
  by_cases hF : duN D = 0
  · rw [if_pos hF]; exact ⟨by omega, fun z => absurd hF z⟩
  · rw [if_neg hF]
    have q := u_sz h (u_fl h hF hc hi)
    refine ⟨q.1, fun _ => ?_⟩
    rw [← q.2]
    have := cnB_ltP (P := fun _ => false) (Q := FA D (uF D c i)) (N := NP D 0) (v := c) (fun _ _ z => Bool.noConfusion z) hc rfl (u_FA h hF hc hi)
    omega
theorem sc_sizeBehind {c i t : Nat} {w : Bool} {K : Int32 → Prop} (h : hS Γ st q p net pj pm ps pk pr pf D fj fm f3 f4 fr ff) (h3 : ok3 D) (hr : rOk D c t w fr ff) (hc : c < NP D 0) (hi : i < uG D) (hK : K (nI (zS D c (pQ (uG D) w t i)))) : MX12_sizeBehind Γ st q (nI c) (nI i) K := by
  have hg := u_dg h3
  have hp := pQ_lt hg.1 w t i
  have hN := u_N h3
  unfold MX12_sizeBehind
  refine ⟨st_cs h.1 (by simp), sc_behind h h3 hc (by omega) ?_⟩
  rw [(hr i hi).2]
  unfold fV
  unfold zS at hK
  by_cases hF : duN D = 0
  · rw [if_pos hF]
    rw [if_pos hF] at hK
    exact ⟨fun _ => hK, fun z => absurd rfl z⟩
  · rw [if_neg hF]
    rw [if_neg hF] at hK
    have hl := u_fl h3 hF hc hp
    refine ⟨fun z => (nI_m1 (by omega) z).elim, fun _ => st_gr h.1 (v := some ps) rfl ⟨st_cs h.1 (by simp), sc_behind h h3 hc (by omega) ?_⟩⟩
    rw [(hr i hi).2]
    unfold fV
    rw [if_neg hF]
    refine st_nn (st_li h.2.2.1 (by omega) (by omega) ?_)
    obtain ⟨e, he⟩ := h.2.2.2.2.1
    rw [(he _ (by omega)).1, (u_sz h3 hl).2]
    exact hK
/-- how many faces corner 0 has -/
theorem RL_cn (h : ok3 D) : cnB (fun f => FA D f 0) (duN D) = RL (uC D) := by
  have hg := u_dg h
  have hR := u_RF h
  unfold RL
  rw [← hR]
  by_cases hF : duN D = 0
  · rw [if_pos hF, hF]; rfl
  · rw [if_neg hF]
    show _ = if uG D = 2 then 1 else uG D
    by_cases hd : 3 ≤ uG D
    · rw [if_neg (by omega)]
      exact cnB_enum (uG D) (e := uF D 0) (fun i hi => u_fl h hF (NP0_pos h) hi) (fun i j hij hj e => by have := u_finj h hd (NP0_pos h) (by omega) hj e; omega) (fun f _ => u_f0 h hF f)
    · rcases u_flat h hd with ⟨h1, h2, h3⟩ | ⟨h1, h2, h3⟩
      · rw [if_pos h1]
        exact cnB_enum 1 (e := fun _ => 0) (fun i hi => by omega) (fun i j hij hj => by omega) (fun f hf => ⟨fun _ => ⟨0, by omega, by omega⟩, fun ⟨_, _, e⟩ => ((h3 0 (NP0_pos h)).1 f).mpr e.symm⟩)
      · exact absurd h2 hF
theorem sc_isLess {a b n : Nat} {f g : Nat → Int32} {A B : Nat → Nat} {K : Int32 → Prop} (ha : st a = some (eb_ia Γ 0 n f)) (hb : st b = some (eb_ia Γ 0 n g)) (hn : n < 2147483648) (hA : ∀ k, k < n → f k = nI (A k) ∧ A k < 2147483648) (hB : ∀ k, k < n → g k = nI (B k) ∧ B k < 2147483648) (h1 : lxl n A B → K 1) (h0 : ¬ lxl n A B → K 0) : MX12_isLess Γ st a b K := by
  unfold MX12_isLess
  refine eb_loop1_i (fun y => ∃ m, m ≤ n ∧ y = nI m ∧ ∀ j, j < m → A j = B j) (fun y => 2147483648 - y.toNatClampNeg) ?_ ⟨0, by omega, rfl, fun j hj => absurd hj (Nat.not_lt_zero _)⟩
  rintro R _ ⟨m, hm, rfl, he⟩ hR
  refine st_ln ha (br_le hn (by omega) (fun z => h0 (fun ⟨k, hk, _, w⟩ => by have := he k (by omega); omega)) (fun z => ?_))
  have hmn : m < n := by omega
  obtain ⟨a1, a2⟩ := hA m hmn
  obtain ⟨b1, b2⟩ := hB m hmn
  refine st_li ha hmn hn (st_li hb hmn hn ?_)
  rw [a1, b1]
  refine br_eq a2 b2 (fun e => ?_) (fun e => st_li ha hmn hn (st_li hb hmn hn ?_))
  · rw [nI_1]
    refine hR _ ⟨m + 1, by omega, rfl, fun j hj => ?_⟩ ?_
    · by_cases z : j = m
      · rw [z]; exact e
      · exact he j (by omega)
    · rw [nI_cl (by omega), nI_cl (by omega)]; omega
  · rw [a1, b1]
    exact br_le b2 a2 (fun w => h0 (fun z => by
      obtain ⟨k, hk, y1, y2⟩ := z
      rcases Nat.lt_trichotomy k m with u | u | u
      · have := he k u; omega
      · subst u; omega
      · exact e (y1 m u))) (fun w => h1 ⟨m, hmn, he, by omega⟩)
/-- what was seen so far, and the least of it -/
def rIv (n : Nat) (S : Nat → Nat) (m j : Nat) (f : Nat → Int32) : Prop := (m = 0 ∧ j = 0 ∧ f 0 = 0) ∨ ∃ R t0 w0, t0 < n ∧ (∀ k, k < n → R k = S (pP n w0 t0 k)) ∧ (∀ k, k < n → f k = nI (R k)) ∧ ∀ t w, t < n → (t < m ∨ (t = m ∧ ((w = false ∧ 1 ≤ j) ∨ (w = true ∧ 2 ≤ j)))) → ¬ lxl n (fun k => S (pP n w t k)) R
theorem rI_nx {n : Nat} {S : Nat → Nat} {m : Nat} {f : Nat → Int32} (h : rIv n S m 2 f) : rIv n S (m + 1) 0 f := by
  rcases h with ⟨_, z, _⟩ | ⟨R, t0, w0, h1, h2, h3, h4⟩
  · omega
  · refine Or.inr ⟨R, t0, w0, h1, h2, h3, fun t w ht z => h4 t w ht ?_⟩
    rcases z with z | ⟨_, ⟨_, z⟩ | ⟨_, z⟩⟩
    · by_cases e : t = m
      · cases w
        · exact Or.inr ⟨e, Or.inl ⟨rfl, by omega⟩⟩
        · exact Or.inr ⟨e, Or.inr ⟨rfl, by omega⟩⟩
      · exact Or.inl (by omega)
    · omega
    · omega
def wyJ (j : Nat) : Bool := Nat.beq j 1
theorem sc_told {t : Nat → Nat} {w : Nat → Bool} {K : Option Nat → eb_S → Prop} (h : hS Γ st q p net pj pm ps pk pr pf D fj fm f3 f4 fr ff) (h3 : ok3 D) (hr : rAll D t w fr ff) (hbc : 2 ≤ bc) (hbs : 10 ≤ bs)
    (hK : ∀ s y f, sf [] st s → s y = some (eb_ia Γ 0 (RL (uC D)) f) → (∀ k, k < RL (uC D) → f k = nI (RW (uC D) k)) → K (some y) s) : MX12_told Γ bc bs st q K := by
  have hg := u_dg h3
  have hN := u_N h3
  have hL := RL_g h3
  obtain ⟨hr0, ht0, hw0⟩ := hr 0 (NP0_pos h3)
  unfold MX12_told
  refine jp_1 (fun x => x = nI (RL (uC D))) ?_ ?_
  · rintro _ rfl
    refine ⟨st_ok1 (by omega), ?_⟩
    rw [nI_cl (by omega)]
    refine st_mk (by omega) (by omega) (fun p2 s1 f1 g1 w1 => ⟨st_ok1 (by omega), st_mk (by omega) (by omega) (fun p4 s2 f2 g2 w2 => ?_)⟩)
    have k2 := g2 _ _ w1 List.not_mem_nil
    have n24 : ¬ p2 = p4 := st_ne w1 f2
    have f2s : st p4 = none := by
      cases hh : st p4 with
      | none => rfl
      | some y => have := g1 _ _ hh List.not_mem_nil; rw [f2] at this; exact absurd this (by simp)
    have new : ∀ {a : Nat} {y : va_E}, st a = some y → a ∉ [p2, p4] := fun {a y} ha z => by
      simp only [List.mem_cons, List.not_mem_nil, or_false] at z
      rcases z with z | z
      · rw [z, f1] at ha; exact absurd ha (by simp)
      · rw [z, f2s] at ha; exact absurd ha (by simp)
    have kS : ∀ g, sf [p2, p4] s2 g → hS Γ g q p net pj pm ps pk pr pf D fj fm f3 f4 fr ff := fun g hg' => by
      have k : ∀ {a : Nat} {y : va_E}, st a = some y → g a = some y := fun ha => hg' _ _ (g2 _ _ (g1 _ _ ha List.not_mem_nil) List.not_mem_nil) (new ha)
      obtain ⟨h1, h2, h3, h4, h5, h6, h7⟩ := h
      exact ⟨k h1, ⟨h2.1, k h2.2.1, k h2.2.2.1, k h2.2.2.2.1, h2.2.2.2.2⟩, k h3, k h4, h5, k h6, k h7⟩
    have m1 : ∀ {a b : Nat}, ¬ a = b → a ∉ [b] := fun h z => h (List.mem_singleton.mp z)
    generalize hn : RL (uC D) = n at hL hK k2 w2 w1
    have hn6 : n < 6 := by omega
    generalize hS0 : (fun i => zS D 0 (pQ (uG D) (w 0) (t 0) i)) = S
    have hSz : ∀ i, i < n → S i ≤ 12 ∧ 1 ≤ S i := fun i hi => by
      have hF : ¬ duN D = 0 := fun z => by
        have : RL (uC D) = 0 := by unfold RL; rw [← u_RF h3, if_pos z]
        omega
      have := zS_le h3 (NP0_pos h3) (pQ_lt hg.1 (w 0) (t 0) i)
      rw [← hS0]
      exact ⟨this.1, this.2 hF⟩
    refine jp_1 (fun g => ∃ fB, sf [p2, p4] s2 g ∧ g p2 = some (eb_ia Γ 0 n fB) ∧ rIv n S n 0 fB) ?_ ?_
    · rintro g ⟨fB, hg', ub, hb⟩
      refine hK g p2 fB (fun a y ha _ => hg' _ _ (g2 _ _ (g1 _ _ ha List.not_mem_nil) List.not_mem_nil) (new ha)) ub (fun k hk => ?_)
      rcases hb with ⟨z, _⟩ | ⟨R, t1, w1', e1, e2, e3, e4⟩
      · omega
      rw [e3 k hk]
      have hF : ¬ duN D = 0 := fun z => by
        have : RL (uC D) = 0 := by unfold RL; rw [← u_RF h3, if_pos z]
        omega
      have hmn : mnD n S R := ⟨fun _ => ⟨t1, w1', e1, e2⟩, fun t w ht => e4 t w ht (Or.inl ht)⟩
      have hmn2 : mnD n (SQ D) R := by
        by_cases hd : 3 ≤ uG D
        · have hng : n = uG D := by
            have : RL (uC D) = uG D := by
              unfold RL
              rw [← u_RF h3, if_neg hF]
              show (if uG D = 2 then 1 else uG D) = uG D
              rw [if_neg (by omega)]
            omega
          have q := pQ_P (uG D) (by omega) (t 0) ht0 (w 0)
          rw [hng] at hmn ⊢
          refine mnD_ch (w0 := w 0) (by omega) q.1 (fun k hk => ?_) hmn
          rw [← hS0]
          show zS D 0 (pQ (uG D) (w 0) (t 0) k) = _
          rw [q.2 k hk]
          unfold zS SQ
          rw [if_neg hF]
        · rcases u_flat h3 hd with ⟨h1, h2, h4⟩ | ⟨h1, h2, h4⟩
          · refine mnD_cg hmn (fun k hk => ?_) (fun _ _ => rfl)
            rw [← hS0]
            show zS D 0 (pQ (uG D) (w 0) (t 0) k) = SQ D k
            unfold zS SQ
            rw [if_neg hF, (h4 0 (NP0_pos h3)).2 _ (by have := pQ_lt hg.1 (w 0) (t 0) k; omega), (h4 0 (NP0_pos h3)).2 k (by omega)]
          · exact absurd h2 hF
      have := SQ_mn h3 hF (R := R) (by rw [hn]; exact hmn2) k (by omega)
      rw [this]
    · intro k7 hk7
      refine eb_loop2_i (fun x4 g => ∃ m fB fT, m ≤ n ∧ x4 = nI m ∧ sf [p2, p4] s2 g ∧ g p2 = some (eb_ia Γ 0 n fB) ∧ g p4 = some (eb_ia Γ 0 n fT) ∧ rIv n S m 0 fB) (fun x4 _ => 100 - x4.toNatClampNeg) ?_ ⟨0, _, _, by omega, rfl, sf.rf _ _, k2, w2, Or.inl ⟨rfl, rfl, rfl⟩⟩
      rintro R4 _ g ⟨m, fB, fT, hm, rfl, hg', ub, ut, hb⟩ hR4
      refine br_le (by omega) (by omega) (fun z => hk7 _ ⟨fB, hg', ub, by rw [show n = m by omega] at hb ⊢; exact hb⟩) (fun z => ?_)
      have hmn : m < n := by omega
      refine jp_1 (fun g => ∃ fB fT, sf [p2, p4] s2 g ∧ g p2 = some (eb_ia Γ 0 n fB) ∧ g p4 = some (eb_ia Γ 0 n fT) ∧ rIv n S m 2 fB) ?_ ?_
      · rintro g' ⟨fB', fT', hg1, ub', ut', hb'⟩
        rw [nI_1]
        exact hR4 _ _ ⟨m + 1, fB', fT', by omega, rfl, hg1, ub', ut', rI_nx hb'⟩ (by rw [nI_cl (by omega), nI_cl (by omega)]; omega)
      · intro k12 hk12
        refine eb_loop2_i (fun x5 g => ∃ j fB fT, j ≤ 2 ∧ x5 = nI (2 * j) - 1 ∧ sf [p2, p4] s2 g ∧ g p2 = some (eb_ia Γ 0 n fB) ∧ g p4 = some (eb_ia Γ 0 n fT) ∧ rIv n S m j fB) (fun x5 _ => 100 - (x5 + 1).toNatClampNeg) ?_ ⟨0, fB, fT, by omega, by decide, hg', ub, ut, hb⟩
        rintro R5 _ g5 ⟨j, fB5, fT5, hj, rfl, hg5, ub5, ut5, hb5⟩ hR5
        have hj2 : j = 2 ∨ (j = 0 ∨ j = 1) := by omega
        rcases hj2 with rfl | hj2
        · exact ⟨fun _ => hk12 _ ⟨fB5, fT5, hg5, ub5, ut5, hb5⟩, fun z => absurd (by decide) z⟩
        refine ⟨fun z => by rcases hj2 with rfl | rfl <;> exact absurd z (by decide), fun _ => ?_⟩
        -- the row is told
        refine jp_1 (fun g => ∃ fT, sf [p2, p4] s2 g ∧ g p2 = some (eb_ia Γ 0 n fB5) ∧ g p4 = some (eb_ia Γ 0 n fT) ∧ ∀ k, k < n → fT k = nI (S (pP n (wyJ j) m k))) ?_ ?_
        · rintro g6 ⟨fT6, hg6, ub6, ut6, he6⟩
          refine st_li (i := 0) ub6 (by omega) (by omega) ?_
          have ht6 : ∀ k, k < n → S (pP n (wyJ j) m k) ≤ 12 ∧ 1 ≤ S (pP n (wyJ j) m k) := fun k hk => hSz _ (pP_lt (by omega) _ _ _)
          have fin : ∀ g fB', sf [p2, p4] s2 g → g p2 = some (eb_ia Γ 0 n fB') → g p4 = some (eb_ia Γ 0 n fT6) → rIv n S m (j + 1) fB' → R5 (nI (2 * j) - 1 + 2) g := fun g fB' z1 z2 z3 z4 => by
            refine hR5 _ _ ⟨j + 1, fB', fT6, by omega, ?_, z1, z2, z3, z4⟩ ?_
            · rcases hj2 with rfl | rfl <;> decide
            · rcases hj2 with rfl | rfl <;> decide
          refine jp_1 (fun g => ∃ fB', sf [p2, p4] s2 g ∧ g p2 = some (eb_ia Γ 0 n fB') ∧ g p4 = some (eb_ia Γ 0 n fT6) ∧ rIv n S m (j + 1) fB') (fun g ⟨fB', z1, z2, z3, z4⟩ => fin g fB' z1 z2 z3 z4) ?_
          intro k19 hk19
          refine jp_0 ((m = 0 ∧ j = 0) ∨ ∃ R t0 w0, t0 < n ∧ (∀ k, k < n → R k = S (pP n w0 t0 k)) ∧ (∀ t w, t < n → (t < m ∨ (t = m ∧ ((w = false ∧ 1 ≤ j) ∨ (w = true ∧ 2 ≤ j)))) → ¬ lxl n (fun k => S (pP n w t k)) R) ∧ lxl n (fun k => S (pP n (wyJ j) m k)) R) ?_ ?_
          · intro hc
            refine st_cp (s := 0) (d := 0) ut6 ub6 (by omega) (by omega) (by omega) (by omega) (fun s7 g7 w7 => hk19 _ ⟨_, hg6.tr (g7.up (fun k hk => by rw [List.mem_singleton.mp hk]; simp)), w7, g7 _ _ ut6 (m1 (fun z => n24 z.symm)), Or.inr ⟨fun k => S (pP n (wyJ j) m k), m, wyJ j, hmn, fun _ _ => rfl, fun k hk => ?_, fun t w ht hz => ?_⟩⟩)
            · have := cpy_in (f := fT6) (g := fB5) (s := 0) (d := 0) hk
              rw [Nat.zero_add] at this
              rw [this]
              exact he6 k hk
            · by_cases e : t = m ∧ w = wyJ j
              · rw [e.1, e.2]; exact lxl_irr
              · rcases hc with ⟨c1, c2⟩ | ⟨R, t1, w1', c1, c2, c3, c4⟩
                · exfalso
                  subst c1; subst c2
                  rcases hz with hz | ⟨z1, ⟨z2, _⟩ | ⟨_, z2⟩⟩
                  · omega
                  · exact e ⟨z1, z2⟩
                  · omega
                · refine fun y => c3 t w ht ?_ (lxl_tr y c4)
                  rcases hz with hz | ⟨z1, ⟨z2, z3⟩ | ⟨z2, z3⟩⟩
                  · exact Or.inl hz
                  · refine Or.inr ⟨z1, Or.inl ⟨z2, ?_⟩⟩
                    rcases hj2 with rfl | rfl
                    · exact absurd ⟨z1, z2⟩ e
                    · omega
                  · exfalso
                    rcases hj2 with rfl | rfl
                    · omega
                    · exact e ⟨z1, z2⟩
          · intro k21 hk21
            rcases hb5 with ⟨c1, c2, c3⟩ | ⟨R, t1, w1', c1, c2, c3, c4⟩
            · exact ⟨fun _ => hk21 (Or.inl ⟨c1, c2⟩), fun z => absurd c3 z⟩
            · have hR1 : ∀ k, k < n → R k ≤ 12 ∧ 1 ≤ R k := fun k hk => by rw [c2 k hk]; exact hSz _ (pP_lt (by omega) _ _ _)
              have h0 := hR1 0 (by omega)
              rw [c3 0 (by omega)]
              refine br_eq (b := 0) (by omega) (by omega) (fun z => by omega) (fun _ => ?_)
              refine sc_isLess ut6 ub6 (by omega) (fun k hk => ⟨he6 k hk, by have := ht6 k hk; omega⟩) (fun k hk => ⟨c3 k hk, by have := hR1 k hk; omega⟩) (fun z => ⟨fun y => absurd y (by decide), fun _ => hk21 (Or.inr ⟨R, t1, w1', c1, c2, c4, z⟩)⟩) (fun z => ⟨fun _ => hk19 _ ⟨fB5, hg6, ub6, ut6, Or.inr ⟨R, t1, w1', c1, c2, c3, fun t w ht hz => ?_⟩⟩, fun y => absurd rfl y⟩)
              by_cases e : t = m ∧ w = wyJ j
              · rw [e.1, e.2]; exact z
              · refine c4 t w ht ?_
                rcases hz with hz | ⟨z1, ⟨z2, z3⟩ | ⟨z2, z3⟩⟩
                · exact Or.inl hz
                · refine Or.inr ⟨z1, Or.inl ⟨z2, ?_⟩⟩
                  rcases hj2 with rfl | rfl
                  · exact absurd ⟨z1, z2⟩ e
                  · omega
                · exfalso
                  rcases hj2 with rfl | rfl
                  · omega
                  · exact e ⟨z1, z2⟩
        · intro k28 hk28
          refine eb_loop2_i (fun x6 g => ∃ k fT, k ≤ n ∧ x6 = nI k ∧ sf [p2, p4] s2 g ∧ g p2 = some (eb_ia Γ 0 n fB5) ∧ g p4 = some (eb_ia Γ 0 n fT) ∧ ∀ i, i < k → fT i = nI (S (pP n (wyJ j) m i))) (fun x6 _ => 100 - x6.toNatClampNeg) ?_ ⟨0, fT5, by omega, rfl, hg5, ub5, ut5, fun i hi => absurd hi (Nat.not_lt_zero _)⟩
          rintro R6 _ g6 ⟨k, fT6, hk, rfl, hg6, ub6, ut6, he6⟩ hR6
          refine br_le (by omega) (by omega) (fun z => hk28 _ ⟨fT6, hg6, ub6, ut6, fun i hi => he6 i (by omega)⟩) (fun z => ?_)
          have hS6 := kS g6 hg6
          have hkn : k < n := by omega
          obtain ⟨q1, q2⟩ := fmP n hn6 m hmn k hkn
          have nxt : ∀ v, v = pP n (wyJ j) m k → eb_cs g6 q [11] ∧ MX12_sizeBehind Γ g6 q 0 (nI v) (fun v36 => eb_wi Γ g6 p4 0 (nI k) v36 (fun g40 => R6 (nI k + 1) g40)) := fun v hv => by
            rw [hv]
            refine ⟨st_cs hS6.1 (by simp), sc_sizeBehind (c := 0) hS6 h3 hr0 (NP0_pos h3) (by have := pP_lt (dg := n) (by omega) (wyJ j) m k; omega) (st_wi ut6 hkn (by omega) (fun s7 g7 w7 => ?_))⟩
            rw [nI_1]
            refine hR6 _ _ ⟨k + 1, _, by omega, rfl, hg6.tr (g7.up (fun k hk => by rw [List.mem_singleton.mp hk]; simp)), g7 _ _ ub6 (m1 n24), w7, fun i hi => ?_⟩ ?_
            · by_cases e : i = k
              · rw [e, upd_eq, ← hS0]
              · rw [upd_ne e]; exact he6 i (by omega)
            · rw [nI_cl (by omega), nI_cl (by omega)]; omega
          rcases hj2 with rfl | rfl
          · refine sc_fmod (x := m) (y := k) (n := n) ?_ (by omega) (by omega) (by omega) hn6 (nxt _ q1)
            show nI m + (-1) * nI k = _
            exact add_mone _ _
          · refine sc_fmod (x := m + k) (y := 0) (n := n) ?_ (by omega) (by omega) (by omega) hn6 (nxt _ q2)
            show nI m + 1 * nI k = nI (m + k) - nI 0
            rw [add_one, ← nI_add]
            show nI m + nI k = nI m + nI k - 0
            grind
  · intro k44 hk44
    refine eb_loop2_i (fun x1 x2 => ∃ m, m ≤ duN D ∧ x2 = nI m ∧ x1 = nI (cnB (fun f => FA D f 0) m)) (fun _ x2 => 100 - x2.toNatClampNeg) ?_ ⟨0, by omega, rfl, rfl⟩
    rintro R _ _ ⟨m, hm, rfl, rfl⟩ hR
    refine st_gi h.1 rfl (br_le (by omega) (by omega) (fun z => hk44 _ (by rw [← RL_cn h3, show m = duN D by omega])) (fun z => ⟨st_cs h.1 (by simp), ?_⟩))
    refine sc_hhas (c := 0) h h3 (by omega) (NP0_pos h3) ?_
    have hR' : ∀ v, v = nI (b1 (FA D m 0)) → R (nI (cnB (fun f => FA D f 0) m) + v) (nI m + 1) := fun v hv => by
      rw [hv, nI_1, nI_add]
      exact hR _ _ ⟨m + 1, by omega, rfl, rfl⟩ (by rw [nI_cl (by omega), nI_cl (by omega)]; omega)
    refine jp_1 (fun v => v = nI (b1 (FA D m 0))) hR' (fun k54 hk54 => ?_)
    cases hv : FA D m 0 with
    | false => rw [hv] at hk54; exact ⟨fun _ => hk54 _ rfl, fun z => absurd rfl z⟩
    | true => rw [hv] at hk54; exact ⟨fun z => absurd z (by decide), fun _ => hk54 _ rfl⟩
end RO
