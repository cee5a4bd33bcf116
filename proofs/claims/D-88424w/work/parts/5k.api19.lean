set_option maxRecDepth 100000
/-! three mirrors: snubs -/
theorem tab3 : tabs.all (fun e => cond (Nat.beq e.1 3) (and (Nat.ble e.2.2.1 120) (Nat.beq (cnB (fun g => Nat.beq (Nat.mod (t5 e.2.2.2.2.2.2.1 g) 2) 0) e.2.2.1) (Nat.div e.2.2.1 2))) true) = true := by decide +kernel
noncomputable def evn (D : eb_D) (g : Nat) : Bool := Nat.beq (Tlen (TD D) g % 2) 0
noncomputable def hn (D : eb_D) (g : Nat) : Nat := cnB (evn D) g
theorem tab3_D {D : eb_D} (hv : vD D) (hz : ¬ ZD D = 0) (h3 : D.1 = 3) : ZD D ≤ 120 ∧ cnB (evn D) (ZD D) = ZD D / 2 := by
  have hm := TD_mem hv hz
  obtain ⟨hG, he1, he2, he3⟩ := TD_ok hv hz
  have q := List.all_eq_true.mp tab3 _ hm
  rw [nbT (he1.trans h3)] at q
  have q' : and (Nat.ble (TD D).2.2.1 120) (Nat.beq (cnB (fun g => Nat.beq (Nat.mod (t5 (TD D).2.2.2.2.2.2.1 g) 2) 0) (TD D).2.2.1) (Nat.div (TD D).2.2.1 2)) = true := q
  rw [Bool.and_eq_true, he3] at q'
  exact ⟨Nat.le_of_ble_eq_true q'.1, Nat.eq_of_beq_eq_true q'.2⟩
/-- joins, each once -/
def jal (A : Nat → Nat → Bool) : Nat → Nat
  | 0 => 0
  | a + 1 => jal A a + cnB (A a) a
theorem jal_le (A : Nat → Nat → Bool) : ∀ n, jal A n ≤ n * n := by
  intro n
  induction n with
  | zero => exact Nat.le_refl _
  | succ n ih =>
    have := cnB_le (A n) n
    show jal A n + cnB (A n) n ≤ (n + 1) * (n + 1)
    rw [Nat.add_mul, Nat.mul_add]; omega
/-- the faces of two mirrors that a snub has -/
noncomputable def snT (D : eb_D) (s : Option Nat) (i j : Nat) : Nat := cond (and (Nat.blt 2 (D.2.1 (4 * i + j))) (or s.isNone (isO s (D.2.1 (4 * i + j))))) (ZD D / 2 / D.2.1 (4 * i + j)) 0
noncomputable def snJ (D : eb_D) (s : Option Nat) (i : Nat) : Nat → Nat
  | 0 => 0
  | j + 1 => snJ D s i j + cond (Nat.blt i j) (snT D s i j) 0
noncomputable def snI (D : eb_D) (s : Option Nat) : Nat → Nat
  | 0 => cond (or s.isNone (isO s 3)) (ZD D / 2) 0
  | i + 1 => snI D s i + snJ D s i 3
theorem snJ_0 (D : eb_D) (s : Option Nat) (i : Nat) : ∀ j, j ≤ i + 1 → snJ D s i j = 0 := by
  intro j
  induction j with
  | zero => intro _; rfl
  | succ j ih => intro h; show snJ D s i j + cond (Nat.blt i j) (snT D s i j) 0 = 0; rw [ih (by omega), nlF (by omega)]; rfl
/-- halves that are joined -/
def snP (D : eb_D) (g i j c d : Nat) : Prop := evn D g = true ∧ i < 3 ∧ j < 3 ∧ ¬ i = j ∧ ((hn D g = c ∧ hn D (Tto (TD D) (Tto (TD D) g i) j) = d) ∨ (hn D (Tto (TD D) (Tto (TD D) g i) j) = c ∧ hn D g = d))
noncomputable def snA (D : eb_D) (c d : Nat) : Bool := @decide (∃ g i j, g < ZD D ∧ snP D g i j c d) (Classical.propDecidable _)
theorem snA_iff {D : eb_D} {c d : Nat} : snA D c d = true ↔ ∃ g i j, g < ZD D ∧ snP D g i j c d := by unfold snA; exact @decide_eq_true_iff _ (Classical.propDecidable _)
theorem tw_b1 {P : Prop} {v : Int32} {x : Bool} (h : twP P v) (hx : x = true ↔ P) : v = nI (b1 x) := by
  rcases h with ⟨h1, h2⟩ | ⟨h1, h2⟩
  · rw [h2, hx.mpr h1]; rfl
  · have : x = false := by
      cases e : x with
      | false => rfl
      | true => exact absurd (hx.mp e) h1
    rw [h2, this]; rfl
theorem cnB_lt {P : Nat → Bool} {g : Nat} (h : P g = true) : ∀ n, g < n → cnB P g < cnB P n := by
  intro n
  induction n with
  | zero => intro z; exact absurd z (Nat.not_lt_zero _)
  | succ n ih =>
    intro hg
    show cnB P g < cnB P n + b1 (P n)
    by_cases e : g = n
    · subst e; rw [h]; exact Nat.lt_succ_self _
    · have := ih (by omega); omega
section API19
variable {σ : eb_MS} {Ds : Nat → eb_D}
theorem sp_joinsAll {N : Nat} {A : Nat → Nat → Bool} {K : Int32 → Prop} (hN : N ≤ 500) (hA : mN σ N A) (hK : K (nI (jal A N))) : MX2_joinsAll σ (nI N) K := by
  unfold MX2_joinsAll
  refine eb_loop2_i (fun x y => ∃ a, a ≤ N ∧ x = nI (jal A a) ∧ y = nI a) (fun _ y => 1000 - y.toNatClampNeg) ?_ ⟨0, by omega, rfl, rfl⟩
  rintro R x y ⟨a, ha, rfl, rfl⟩ hR
  refine br_le (by omega) (by omega) (fun h => ?_) (fun h => ?_)
  · rw [show a = N by omega]; exact hK
  · refine jp_1 (fun v => v = nI (jal A (a + 1))) ?_ ?_
    · rintro _ rfl
      rw [nI_1]
      refine hR _ _ ⟨a + 1, by omega, rfl, rfl⟩ ?_
      rw [nI_cl (by omega), nI_cl (by omega)]; omega
    · intro k hk
      refine eb_loop2_i (fun x y => ∃ c, c ≤ a ∧ x = nI (jal A a + cnB (A a) c) ∧ y = nI c) (fun _ y => 1000 - y.toNatClampNeg) ?_ ⟨0, by omega, rfl, rfl⟩
      rintro R' x y ⟨c, hc, rfl, rfl⟩ hR'
      refine br_le (by omega) (by omega) (fun h2 => ?_) (fun h2 => ?_)
      · refine hk _ ?_
        rw [show c = a by omega]; rfl
      · rw [show (500 : Int32) * nI a = nI (500 * a) from nI_mul 500 a, nI_add, eb_rd_iff, nI_cl (by omega), hA a c (by omega) (by omega)]
        refine ⟨vp_inN (by omega) (by omega), ?_⟩
        refine jp_1 (fun v => v = nI (b1 (A a c))) ?_ ?_
        · rintro _ rfl
          rw [nI_add, nI_1]
          refine hR' _ _ ⟨c + 1, by omega, by rw [Nat.add_assoc]; rfl, rfl⟩ ?_
          rw [nI_cl (by omega), nI_cl (by omega)]; omega
        · intro k2 hk2
          cases e : A a c with
          | true => exact ⟨fun z => absurd z (by decide), fun _ => hk2 _ (by rw [e]; rfl)⟩
          | false => exact ⟨fun _ => hk2 _ (by rw [e]; rfl), fun z => absurd rfl z⟩
theorem oI_neg {s : Option Nat} (hs : ∀ x, s = some x → x < 2147483648) : (oI s < 0 ↔ s.isNone = true) := by
  cases s with
  | none => exact ⟨fun _ => rfl, fun _ => by decide⟩
  | some x => exact ⟨fun z => absurd z (nI_neg (hs x rfl)), fun z => Bool.noConfusion z⟩
theorem sp_snubFacesOf {b : Nat} {s : Option Nat} {K : Int32 → Prop} (hI : mI σ Ds) (hb : b < 4) (hL : mL σ b (Ds b)) (hs : ∀ x, s = some x → x < 2147483648) (hK : K (nI (snI (Ds b) s 3))) : MX2_snubFacesOf σ (oI s) K := by
  have q := hI.1 b hb
  have hzl := ZD_le q.1
  have e2 : nI (ZD (Ds b)) / 2 = nI (ZD (Ds b) / 2) := nI_div (by omega) (by omega : (2 : Nat) < 2147483648)
  unfold MX2_snubFacesOf
  rw [hL.2.2.2.1, e2, hL.1]
  refine jp_1 (fun v => v = nI (snI (Ds b) s 0)) ?_ ?_
  · rintro _ rfl
    refine eb_loop2_i (fun x y => ∃ i, i ≤ 3 ∧ x = nI (snI (Ds b) s i) ∧ y = nI i) (fun _ y => 10 - y.toNatClampNeg) ?_ ⟨0, by omega, rfl, rfl⟩
    rintro R x y ⟨i, hi, rfl, rfl⟩ hR
    refine br_le (a := 3) (by omega) (by omega) (fun h => ?_) (fun h => ?_)
    · rw [show i = 3 by omega]; exact hK
    · refine jp_1 (fun v => v = nI (snI (Ds b) s (i + 1))) ?_ ?_
      · rintro _ rfl
        rw [nI_1]
        refine hR _ _ ⟨i + 1, by omega, rfl, rfl⟩ ?_
        rw [nI_cl (by omega), nI_cl (by omega)]; omega
      · intro k hk
        rw [nI_1]
        refine eb_loop2_i (fun x y => ∃ j, i + 1 ≤ j ∧ j ≤ 3 ∧ x = nI (snI (Ds b) s i + snJ (Ds b) s i j) ∧ y = nI j) (fun _ y => 10 - y.toNatClampNeg) ?_ ⟨i + 1, by omega, by omega, by rw [snJ_0 _ _ _ _ (Nat.le_refl _)]; rfl, rfl⟩
        rintro R' x y ⟨j, hj1, hj2, rfl, rfl⟩ hR'
        refine br_le (a := 3) (by omega) (by omega) (fun h2 => ?_) (fun h2 => ?_)
        · refine hk _ ?_
          rw [show j = 3 by omega]; rfl
        · refine sp_angleOf q.2 hb (by omega) (by omega) ?_
          have qa := q.1.2.2 i j (by omega) (by omega)
          generalize hm : (Ds b).2.1 (4 * i + j) = m at qa ⊢
          have eT : snT (Ds b) s i j = cond (and (Nat.blt 2 m) (or s.isNone (isO s m))) (ZD (Ds b) / 2 / m) 0 := by unfold snT; rw [hm]
          refine jp_1 (fun v => v = nI (snT (Ds b) s i j)) ?_ ?_
          · rintro _ rfl
            rw [nI_add, nI_1]
            refine hR' _ _ ⟨j + 1, by omega, by omega, ?_, rfl⟩ ?_
            · show _ = nI (snI (Ds b) s i + (snJ (Ds b) s i j + cond (Nat.blt i j) (snT (Ds b) s i j) 0))
              rw [nlT (by omega : i < j), Nat.add_assoc]; rfl
            · rw [nI_cl (by omega), nI_cl (by omega)]; omega
          · intro k2 hk2
            refine br_le (b := 2) (by omega) (by omega) (fun h3 => hk2 _ ?_) (fun h3 => ?_)
            · rw [eT, nlF (by omega)]; rfl
            · rw [nlT (by omega), Bool.true_and] at eT
              refine jp_0 (or s.isNone (isO s m) = true) (fun ho => ⟨?_, hk2 _ ?_⟩) (fun k3 hk3 => ?_)
              · intro z
                have := (nI_eq (b := 0) (by omega) (by omega)).mp z
                omega
              · rw [eT, ho, nI_div (by omega) (by omega)]; rfl
              · refine ⟨fun z => hk3 ?_, fun z => ?_⟩
                · rw [(oI_neg hs).mp z]; rfl
                · have hno : s.isNone = false := by
                    cases e : s.isNone with
                    | false => rfl
                    | true => exact absurd ((oI_neg hs).mpr e) z
                  refine br_oI (by omega) hs (fun e => hk3 (by rw [e, Bool.or_true])) (fun e => hk2 _ ?_)
                  rw [eT, hno, e]; rfl
  · intro k hk
    refine jp_0 (or s.isNone (isO s 3) = true) (fun ho => hk _ ?_) (fun k3 hk3 => ?_)
    · show _ = nI (cond (or s.isNone (isO s 3)) (ZD (Ds b) / 2) 0)
      rw [ho]; rfl
    · refine ⟨fun z => hk3 ?_, fun z => ?_⟩
      · rw [(oI_neg hs).mp z]; rfl
      · have hno : s.isNone = false := by
          cases e : s.isNone with
          | false => rfl
          | true => exact absurd ((oI_neg hs).mpr e) z
        refine br_oI (n := 3) (by omega) hs (fun e => hk3 (by rw [e, Bool.or_true])) (fun e => hk _ ?_)
        show _ = nI (cond (or s.isNone (isO s 3)) (ZD (Ds b) / 2) 0)
        rw [hno, e]; rfl
theorem sp_refusesThree {a : Int32} {K : Int32 → eb_MS → Prop} (hI : mI σ Ds) (h2 : ¬ (0 ≤ a ∧ a ≤ 3) → K (-2) σ) (h5 : ∀ b, b < 4 → a = nI b → ZD (Ds b) = 0 → ∀ s, mI s Ds → K (-5) s)
    (h3 : ∀ b, b < 4 → a = nI b → ¬ ZD (Ds b) = 0 → ¬ (Ds b).1 = 3 → ∀ s, mI s Ds → K (-3) s) (h0 : ∀ b, b < 4 → a = nI b → ¬ ZD (Ds b) = 0 → (Ds b).1 = 3 → ∀ s, mI s Ds → mL s b (Ds b) → K 0 s) : MX2_refusesThree σ a K := by
  unfold MX2_refusesThree
  refine sp_isBody (fun h => ?_) (fun h => ?_)
  · refine ⟨fun z => absurd z (by decide), fun _ => ?_⟩
    obtain ⟨b, hb, rfl⟩ : ∃ b : Nat, b < 4 ∧ a = nI b := (body_or a).resolve_right (fun z => z h)
    have q := hI.1 b hb
    have hr := q.1.1
    refine sp_loads q.1 q.2 hb hI.2.1 (hI.2.2 b hb) (fun hz s hf hL => ?_) (fun hz s hf hL => ?_)
    · exact ⟨fun _ => h5 b hb rfl hz s (mI_load hI hb hf hL), fun z => absurd rfl z⟩
    · refine ⟨fun z => absurd z (by decide), fun _ => ?_⟩
      have hs := mI_load hI hb hf hL
      rw [eb_rd_iff, nI_cl (by omega), (hs.1 b hb).2.1]
      refine ⟨vp_inN hb (by omega), ?_⟩
      exact br_eq (b := 3) (by omega) (by omega) (fun e => h0 b hb rfl hz e s hs hL) (fun e => h3 b hb rfl hz e s hs)
  · exact ⟨fun _ => h2 h, fun z => absurd rfl z⟩
theorem br_m3 {A B : Prop} (h : B) : eb_br ((0 : Int32) ≤ -3) A B := ⟨fun z => absurd z (by decide), fun _ => h⟩
/-- an answer of a body with three mirrors; -3: it has others -/
def gat3 (Ds : Nat → eb_D) (a : Int32) (f : Nat → Int32) : Int32 := gat Ds a (fun b => if (Ds b).1 = 3 then f b else -3)
/-- halves by numbers, and how they are joined -/
theorem sp_snubs {b : Nat} {K : Int32 → eb_MS → Prop} (hI : mI σ Ds) (hb : b < 4) (hz : ¬ ZD (Ds b) = 0) (h3 : (Ds b).1 = 3) (hL : mL σ b (Ds b))
    (hK : ∀ t, mI t Ds → mL t b (Ds b) → mN t (ZD (Ds b) / 2) (snA (Ds b)) → K (nI (ZD (Ds b) / 2)) t) : MX2_snubs σ K := by
  have hv := (hI.1 b hb).1
  have hzl := ZD_le hv
  obtain ⟨hG, hE, he3, he1⟩ := hL.E hv hz
  have hto := TD_tfo hv hz
  obtain ⟨h120, hhalf⟩ := tab3_D hv hz h3
  have hlen : ∀ g, g < ZD (Ds b) → Tlen (TD (Ds b)) g ≤ 16 := fun g hg => (Tlen_0 hG (show g < (TD (Ds b)).2.2.1 by omega)).2
  have hhn : ∀ g, g < ZD (Ds b) → evn (Ds b) g = true → hn (Ds b) g < ZD (Ds b) / 2 := fun g hg he => by
    have := cnB_lt he (ZD (Ds b)) hg
    rw [hhalf] at this
    exact this
  have hev : ∀ g i j, g < ZD (Ds b) → i < 3 → j < 3 → evn (Ds b) g = true → evn (Ds b) (Tto (TD (Ds b)) (Tto (TD (Ds b)) g i) j) = true := fun g i j hg hi hj he => by
    have t1 := hG.2.1 g (by omega) i (by omega)
    have t2 := hG.2.1 _ t1.1 j (by omega)
    have e0 : Tlen (TD (Ds b)) g % 2 = 0 := Nat.eq_of_beq_eq_true he
    exact nbT (by have := t1.2.2.1; have := t2.2.2.1; omega)
  unfold MX2_snubs
  refine jp_2 (fun x t => x = nI (ZD (Ds b) / 2) ∧ fr [26, 33] σ t ∧ ∀ g, g < ZD (Ds b) → t.2.1 33 g = oI (cond (evn (Ds b) g) (some (hn (Ds b) g)) none)) ?_ ?_
  · rintro _ t ⟨rfl, ft, r33⟩
    refine jp_1 (fun t' => fr [26, 33] σ t' ∧ t'.2.1 33 = t.2.1 33 ∧ ∀ k, k < 250000 → t'.2.1 26 k = nI 0) ?_ (fun k hk => sp_clearsJ (fun t' f' r => hk t' ⟨ft.tr (f'.up (by decide)), f'.2.1 33 (by decide), r⟩))
    rintro t0 ⟨f0, e33, r0⟩
    refine eb_loop2_i (fun x s => ∃ m, m ≤ ZD (Ds b) ∧ x = nI m ∧ fr [26, 33] σ s ∧ s.2.1 33 = t.2.1 33 ∧ ∀ c d, c < 500 → d < 500 → twP (∃ g i j, g < m ∧ snP (Ds b) g i j c d) (s.2.1 26 (500 * c + d))) (fun x _ => 1000 - x.toNatClampNeg) ?_
      ⟨0, by omega, rfl, f0, e33, fun c d hc hd => Or.inr ⟨fun ⟨g, i, j, z, _⟩ => absurd z (Nat.not_lt_zero _), r0 _ (by omega)⟩⟩
    rintro R x s ⟨m, hm, rfl, fs, es, hrow⟩ hR
    rw [fs.1 8 (by decide), hL.2.2.2.1]
    refine br_le (by omega) (by omega) (fun h => ?_) (fun h => ?_)
    · have e : m = ZD (Ds b) := by omega
      subst e
      refine hK s (hI.fr fs (by decide)) (hL.fr fs (by decide)) (fun c d hc hd => tw_b1 (hrow c d (by omega) (by omega)) snA_iff)
    · refine jp_1 (fun s' => fr [26, 33] σ s' ∧ s'.2.1 33 = t.2.1 33 ∧ ∀ c d, c < 500 → d < 500 → twP (∃ g i j, g < m + 1 ∧ snP (Ds b) g i j c d) (s'.2.1 26 (500 * c + d))) ?_ ?_
      · rintro s' ⟨fs', es', hrow'⟩
        rw [nI_1]
        refine hR _ _ ⟨m + 1, by omega, rfl, fs', es', hrow'⟩ ?_
        rw [nI_cl (by omega), nI_cl (by omega)]; omega
      · intro k hk
        refine eb_loop2_i (fun x s' => ∃ i, i ≤ 3 ∧ x = nI i ∧ fr [26, 33] σ s' ∧ s'.2.1 33 = t.2.1 33 ∧ ∀ c d, c < 500 → d < 500 → twP (∃ g i' j, (g < m ∨ g = m ∧ i' < i) ∧ snP (Ds b) g i' j c d) (s'.2.1 26 (500 * c + d))) (fun x _ => 20 - x.toNatClampNeg) ?_
          ⟨0, by omega, rfl, fs, es, fun c d hc hd => (hrow c d hc hd).cg ⟨fun ⟨g, i, j, z1, z2⟩ => ⟨g, i, j, Or.inl z1, z2⟩, fun ⟨g, i, j, z1, z2⟩ => ⟨g, i, j, by omega, z2⟩⟩⟩
        rintro R' x s' ⟨i, hi, rfl, fs', es', hrow'⟩ hR'
        refine br_le (a := 3) (by omega) (by omega) (fun h2 => ?_) (fun h2 => ?_)
        · refine hk s' ⟨fs', es', fun c d hc hd => (hrow' c d hc hd).cg ⟨fun ⟨g, i, j, z1, z2⟩ => ⟨g, i, j, by omega, z2⟩, fun ⟨g, i', j, z1, z2⟩ => ⟨g, i', j, by have := z2.2.1; omega, z2⟩⟩⟩
        · rw [eb_rd_iff, nI_cl (by omega), es', r33 m (by omega)]
          refine ⟨vp_inN (by omega) (by omega), ?_⟩
          cases hev0 : evn (Ds b) m with
          | false =>
            refine ⟨fun _ => hk s' ⟨fs', es', fun c d hc hd => (hrow' c d hc hd).cg ⟨fun ⟨g, i, j, z1, z2⟩ => ⟨g, i, j, by omega, z2⟩, fun ⟨g, i', j, z1, z2⟩ => ⟨g, i', j, ?_, z2⟩⟩⟩, fun z => absurd (by decide : (-1 : Int32) < 0) z⟩
            left
            by_cases e : g = m
            · rw [e] at z2
              exact absurd (hev0.symm.trans z2.1) (by decide)
            · omega
          | true =>
            have hm1 := hhn m (by omega) hev0
            refine ⟨fun z => absurd z (nI_neg (show hn (Ds b) m < 2147483648 by omega)), fun _ => ?_⟩
            refine jp_1 (fun s2 => fr [26, 33] σ s2 ∧ s2.2.1 33 = t.2.1 33 ∧ ∀ c d, c < 500 → d < 500 → twP (∃ g i' j, (g < m ∨ g = m ∧ i' < i + 1) ∧ snP (Ds b) g i' j c d) (s2.2.1 26 (500 * c + d))) ?_ ?_
            · rintro s2 ⟨f2, es2, hrow2⟩
              rw [nI_1]
              refine hR' _ _ ⟨i + 1, by omega, rfl, f2, es2, hrow2⟩ ?_
              rw [nI_cl (by omega), nI_cl (by omega)]; omega
            · intro k2 hk2
              refine eb_loop2_i (fun x s2 => ∃ j, j ≤ 3 ∧ x = nI j ∧ fr [26, 33] σ s2 ∧ s2.2.1 33 = t.2.1 33 ∧ ∀ c d, c < 500 → d < 500 → twP (∃ g i' j', (g < m ∨ g = m ∧ (i' < i ∨ i' = i ∧ j' < j)) ∧ snP (Ds b) g i' j' c d) (s2.2.1 26 (500 * c + d))) (fun x _ => 20 - x.toNatClampNeg) ?_
                ⟨0, by omega, rfl, fs', es', fun c d hc hd => (hrow' c d hc hd).cg ⟨fun ⟨g, i, j, z1, z2⟩ => ⟨g, i, j, by omega, z2⟩, fun ⟨g, i, j, z1, z2⟩ => ⟨g, i, j, by omega, z2⟩⟩⟩
              rintro R2 x s2 ⟨j, hj, rfl, f2, es2, hrow2⟩ hR2
              refine br_le (a := 3) (by omega) (by omega) (fun h4 => ?_) (fun h4 => ?_)
              · refine hk2 s2 ⟨f2, es2, fun c d hc hd => (hrow2 c d hc hd).cg ⟨fun ⟨g, i, j, z1, z2⟩ => ⟨g, i, j, by omega, z2⟩, fun ⟨g, i', j', z1, z2⟩ => ⟨g, i', j', by have := z2.2.2.1; omega, z2⟩⟩⟩
              · have ht1 := (hto m i (by omega) (by omega)).1
                have ht2 := (hto _ j ht1 (by omega)).1
                rw [show (4 : Int32) * nI m = nI (4 * m) from nI_mul 4 m, nI_add, eb_rd_iff, nI_cl (by omega), f2.2.1 11 (by decide), hE.1 m i (by omega) (by omega)]
                refine ⟨vp_inN (by omega) (by omega), ?_⟩
                rw [show (4 : Int32) * nI (Tto (TD (Ds b)) m i) = nI (4 * Tto (TD (Ds b)) m i) from nI_mul 4 _, nI_add, eb_rd_iff, nI_cl (by omega), hE.1 _ j (by omega) (by omega)]
                refine ⟨vp_inN (by omega) (by omega), ?_⟩
                refine jp_1 (fun s3 => fr [26, 33] σ s3 ∧ s3.2.1 33 = t.2.1 33 ∧ ∀ c d, c < 500 → d < 500 → twP (∃ g i' j', (g < m ∨ g = m ∧ (i' < i ∨ i' = i ∧ j' < j + 1)) ∧ snP (Ds b) g i' j' c d) (s3.2.1 26 (500 * c + d))) ?_ ?_
                · rintro s3 ⟨f3, es3, hrow3⟩
                  rw [nI_1]
                  refine hR2 _ _ ⟨j + 1, by omega, rfl, f3, es3, hrow3⟩ ?_
                  rw [nI_cl (by omega), nI_cl (by omega)]; omega
                · intro k3 hk3
                  refine br_eq (by omega) (by omega) (fun h5 => ?_) (fun h5 => ?_)
                  · refine hk3 s2 ⟨f2, es2, fun c d hc hd => (hrow2 c d hc hd).cg ⟨fun ⟨g, i, j, z1, z2⟩ => ⟨g, i, j, by omega, z2⟩, fun ⟨g, i', j', z1, z2⟩ => ⟨g, i', j', by have := z2.2.2.2.1; omega, z2⟩⟩⟩
                  · have hev2 := hev m i j (by omega) (by omega) (by omega) hev0
                    have hm2 := hhn _ ht2 hev2
                    have r1 : t.2.1 33 m = nI (hn (Ds b) m) := by rw [r33 m (by omega), hev0]; rfl
                    have r2 : t.2.1 33 (Tto (TD (Ds b)) (Tto (TD (Ds b)) m i) j) = nI (hn (Ds b) (Tto (TD (Ds b)) (Tto (TD (Ds b)) m i) j)) := by rw [r33 _ ht2, hev2]; rfl
                    rw [eb_rd_iff, nI_cl (by omega), es2, r1]
                    refine ⟨vp_inN (by omega) (by omega), ?_⟩
                    rw [eb_rd_iff, nI_cl (by omega), r2]
                    refine ⟨vp_inN (by omega) (by omega), ?_⟩
                    rw [show (500 : Int32) * nI (hn (Ds b) m) = nI (500 * hn (Ds b) m) from nI_mul 500 _, nI_add, ms_wr_iff, nI_cl (by omega), nar_b1]
                    refine ⟨vp_inN (by omega) (by omega), ?_⟩
                    rw [eb_rd_iff, nI_cl (by omega), ms_pa_ne (by decide), es2, r2]
                    refine ⟨vp_inN (by omega) (by omega), ?_⟩
                    rw [eb_rd_iff, nI_cl (by omega), r1]
                    refine ⟨vp_inN (by omega) (by omega), ?_⟩
                    rw [show (500 : Int32) * nI (hn (Ds b) (Tto (TD (Ds b)) (Tto (TD (Ds b)) m i) j)) = nI (500 * hn (Ds b) (Tto (TD (Ds b)) (Tto (TD (Ds b)) m i) j)) from nI_mul 500 _, nI_add, ms_wr_iff, nI_cl (by omega)]
                    refine ⟨vp_inN (by omega) (by omega), ?_⟩
                    refine hk3 _ ⟨(f2.pa (by decide)).pa (by decide), by rw [ms_pa_ne (by decide), ms_pa_ne (by decide)]; exact es2, fun c d hc hd => ?_⟩
                    rw [ms_pa_eq, ms_pa_eq]
                    generalize hA1 : hn (Ds b) m = A1 at *
                    generalize hA2 : hn (Ds b) (Tto (TD (Ds b)) (Tto (TD (Ds b)) m i) j) = A2 at *
                    have now : (c = A1 ∧ d = A2) ∨ (c = A2 ∧ d = A1) → ∃ g i' j', (g < m ∨ g = m ∧ (i' < i ∨ i' = i ∧ j' < j + 1)) ∧ snP (Ds b) g i' j' c d := by
                      intro hcd
                      refine ⟨m, i, j, Or.inr ⟨rfl, Or.inr ⟨rfl, by omega⟩⟩, hev0, by omega, by omega, h5, ?_⟩
                      rw [hA1, hA2]
                      rcases hcd with ⟨e1, e2⟩ | ⟨e1, e2⟩
                      · exact Or.inl ⟨e1.symm, e2.symm⟩
                      · exact Or.inr ⟨e1.symm, e2.symm⟩
                    by_cases ec : 500 * c + d = 500 * A2 + A1
                    · rw [ec, upd_eq]
                      exact Or.inl ⟨now (Or.inr (by omega)), rfl⟩
                    · rw [upd_ne ec]
                      by_cases ec2 : 500 * c + d = 500 * A1 + A2
                      · rw [ec2, upd_eq]
                        exact Or.inl ⟨now (Or.inl (by omega)), rfl⟩
                      · rw [upd_ne ec2]
                        refine (hrow2 c d hc hd).cg ⟨fun ⟨g, i, j, z1, z2⟩ => ⟨g, i, j, by omega, z2⟩, fun ⟨g, i', j', z1, z2⟩ => ⟨g, i', j', ?_, z2⟩⟩
                        by_cases e : g = m ∧ i' = i ∧ j' = j
                        · exfalso
                          obtain ⟨e1, e2, e3⟩ := e
                          rw [e1, e2, e3] at z2
                          have z3 := z2.2.2.2.2
                          rw [hA1, hA2] at z3
                          rcases z3 with z3 | z3
                          · exact ec2 (by rw [z3.1, z3.2])
                          · exact ec (by rw [z3.1, z3.2])
                        · omega
  · intro k hk
    refine eb_loop3_i (fun x y t => ∃ m, m ≤ ZD (Ds b) ∧ x = nI (hn (Ds b) m) ∧ y = nI m ∧ fr [26, 33] σ t ∧ ∀ g, g < m → t.2.1 33 g = oI (cond (evn (Ds b) g) (some (hn (Ds b) g)) none)) (fun _ y _ => 1000 - y.toNatClampNeg) ?_ ⟨0, by omega, rfl, rfl, fr_rf _ _, fun g hg => absurd hg (Nat.not_lt_zero _)⟩
    rintro R x y t ⟨m, hm, rfl, rfl, ft, hrow⟩ hR
    rw [ft.1 8 (by decide), hL.2.2.2.1]
    refine br_le (by omega) (by omega) (fun h => ?_) (fun h => ?_)
    · have e : m = ZD (Ds b) := by omega
      subst e
      exact hk _ _ ⟨by show nI (cnB (evn (Ds b)) (ZD (Ds b))) = _; rw [hhalf], ft, hrow⟩
    · have hl := hlen m (by omega)
      have hst : hn (Ds b) (m + 1) = hn (Ds b) m + b1 (evn (Ds b) m) := rfl
      rw [eb_rd_iff, nI_cl (by omega), ft.2.1 12 (by decide), hE.2.1 m (by omega)]
      refine ⟨vp_inN (by omega) (by omega), ?_⟩
      rw [show eb_rem (nI (Tlen (TD (Ds b)) m)) 2 = nI (Tlen (TD (Ds b)) m % 2) from nI_rem (by omega) (by omega : (2 : Nat) < 2147483648)]
      refine jp_1 (fun v => v = oI (cond (evn (Ds b) m) (some (hn (Ds b) m)) none)) ?_ ?_
      · rintro _ rfl
        rw [ms_wr_iff, nI_cl (by omega)]
        refine ⟨vp_inN (by omega) (by omega), ?_⟩
        rw [eb_rd_iff, nI_cl (by omega), ms_pa_ne (by decide), ft.2.1 12 (by decide), hE.2.1 m (by omega), show eb_rem (nI (Tlen (TD (Ds b)) m)) 2 = nI (Tlen (TD (Ds b)) m % 2) from nI_rem (by omega) (by omega : (2 : Nat) < 2147483648)]
        refine ⟨vp_inN (by omega) (by omega), ?_⟩
        refine jp_1 (fun v => v = nI (b1 (evn (Ds b) m))) ?_ ?_
        · rintro _ rfl
          rw [nI_add, nI_1, ← hst]
          refine hR _ _ _ ⟨m + 1, by omega, rfl, rfl, ft.pa (by decide), fun g hg => ?_⟩ ?_
          · rw [ms_pa_eq]
            by_cases eg : g = m
            · rw [eg, upd_eq]
            · rw [upd_ne eg]; exact hrow g (by omega)
          · rw [nI_cl (by omega), nI_cl (by omega)]; omega
        · intro k2 hk2
          refine br_eq (b := 0) (by omega) (by omega) (fun h2 => hk2 _ ?_) (fun h2 => hk2 _ ?_)
          · rw [show evn (Ds b) m = true from nbT h2]; rfl
          · rw [show evn (Ds b) m = false from nbF h2]; rfl
      · intro k2 hk2
        refine br_eq (b := 0) (by omega) (by omega) (fun h2 => hk2 _ ?_) (fun h2 => hk2 _ ?_)
        · rw [show evn (Ds b) m = true from nbT h2]; rfl
        · rw [show evn (Ds b) m = false from nbF h2]; rfl
end API19
