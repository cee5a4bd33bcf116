set_option maxRecDepth 100000
section CSET4
variable {Γ : eb_C} {E : cET} {st st' : eb_S} {I I' : Nat → va_E → Prop} {ad : Nat → Nat} {bd : Nat → cBT} {x : cXT} {Ds : Nat → eb_D} {p bc bs : Nat}
theorem cW_digest {K : Int64 → eb_S → Prop} (hE : cEm E) (hW : cW Γ E st p Ds) (hbc : 88 ≤ bc) (hbs : 54640 ≤ bs) (hK : ∀ s, cW Γ E s p Ds → K (dgA Ds 4) s) : MX0_digest Γ bc bs st p K := by
  unfold MX0_digest
  refine jp_4 (fun v g _ _ => v = dgA Ds 4 ∧ cW Γ E g p Ds) (fun v g _ _ hv => by rw [hv.1]; exact hK _ hv.2) (fun k hk => ?_)
  refine eb_loop5_i (fun v y g u w => ∃ b, b ≤ 4 ∧ v = dgA Ds b ∧ y = nI b ∧ cW Γ E g p Ds ∧ u = 22 * b ∧ w = 13660 * b) (fun _ y _ _ _ => 10 - y.toNatClampNeg) ?_ ⟨0, by omega, rfl, rfl, hW, rfl, rfl⟩
  rintro R _ _ g _ _ ⟨b, hb, rfl, rfl, hWg, rfl, rfl⟩ hR
  refine br_le (a := 4) (by omega) (by omega) (fun h => hk _ _ _ _ ⟨by rw [show b = 4 by omega], hWg⟩) (fun h => ?_)
  obtain ⟨I, ad, bd, x, hp, hV⟩ := id hWg
  subst hp
  have hb4 : b < 4 := by omega
  have hv := hV.v hb4
  have hr := hv.1
  have hB := hV.body hb4
  refine hV.at hb4 (hB.r ?_)
  refine jp_1 (fun v => v = dgI (Ds b) (Ds b).1 (31 * dgA Ds b + (nI (Ds b).1).toInt64)) ?_ ?_
  · rintro _ rfl
    refine hB.g ⟨hV.cs0, 22, 13660, ⟨by omega, by omega⟩, cW_size hE hWg (Nat.le_refl _) (Nat.le_refl _) (fun s2 h2 => ?_)⟩
    rw [eb_let_iff, nI_1]
    refine hR _ _ _ _ _ ⟨b + 1, by omega, ?_, rfl, h2, by omega, by omega⟩ ?_
    · show _ = dgB (Ds b) (dgA Ds b)
      unfold dgB aSize
      by_cases hz : ZD (Ds b) = 0
      · rw [gat_z hb4 hz, if_pos hz]
      · rw [gat_f hb4 hz, if_neg hz]
    · rw [nI_cl (by omega), nI_cl (by omega)]; omega
  · intro k2 hk2
    generalize hH : 31 * dgA Ds b + (nI (Ds b).1).toInt64 = H at *
    refine eb_loop2_i (fun x y => ∃ i, i ≤ (Ds b).1 ∧ x = dgI (Ds b) i H ∧ y = nI i) (fun _ y => 10 - y.toNatClampNeg) ?_ ⟨0, by omega, rfl, rfl⟩
    rintro R2 x y ⟨i, hi, rfl, rfl⟩ hR2
    refine hB.r (br_le (by omega) (by omega) (fun h2 => hk2 _ (by rw [show i = (Ds b).1 by omega])) (fun h2 => ?_))
    refine jp_1 (fun v => v = dgI (Ds b) (i + 1) H) ?_ ?_
    · rintro _ rfl
      rw [nI_1]
      refine hR2 _ _ ⟨i + 1, by omega, rfl, rfl⟩ ?_
      rw [nI_cl (by omega), nI_cl (by omega)]; omega
    · intro k3 hk3
      rw [nI_1]
      refine eb_loop2_i (fun x y => ∃ j, j ≤ (Ds b).1 ∧ i + 1 ≤ j ∧ x = dgJ (Ds b) i j (dgI (Ds b) i H) ∧ y = nI j) (fun _ y => 10 - y.toNatClampNeg) ?_ ⟨i + 1, by omega, Nat.le_refl _, (dgJ_0 _ _ _ _ (Nat.le_refl _)).symm, rfl⟩
      rintro R3 x y ⟨j, hj, hij, rfl, rfl⟩ hR3
      refine hB.r (br_le (by omega) (by omega) (fun h3 => hk3 _ ?_) (fun h3 => ⟨hB.cs, sc_angle hB (by omega) (by omega) ?_⟩))
      · rw [show j = (Ds b).1 by omega]; rfl
      · rw [nI_1]
        refine hR3 _ _ ⟨j + 1, by omega, by omega, ?_, rfl⟩ ?_
        · show _ = cond (Nat.blt i j) _ (dgJ (Ds b) i j (dgI (Ds b) i H))
          rw [nlT (by omega)]; rfl
        · rw [nI_cl (by omega), nI_cl (by omega)]; omega
/-- the object is made: four bodies of one mirror -/
theorem cW_init {K : eb_S → Prop} (h : st p = some (.inr (0, [.null, .null, .null, .int 0, .null, .null]))) (hbc : 18 ≤ bc) (hbs : 357 ≤ bs) (hK : ∀ s, (∀ a y, st a = some y → ¬ a = p → s a = some y) → cW Γ E s p (fun _ => (1, fun _ => 2, 1)) → K s) : MX0_init Γ bc bs st p K := by
  unfold MX0_init
  refine st_mk (by omega) (by omega) (fun p1 s1 f1 g1 w1 => ?_)
  have n1 := st_ne h f1
  have np : ∀ {a : Nat}, ¬ a = p → a ∉ [p] := fun h z => h (List.mem_singleton.mp z)
  refine st_pt (g1 _ _ h List.not_mem_nil) (by simp) (fun s2 g2 w2 => st_mk (by omega) (by omega) (fun p4 s3 f3 g3 w3 => ?_))
  have n4 := st_ne w2 f3
  have k1 := g2 _ _ w1 (np (fun z => n1 z.symm))
  have n14 := st_ne k1 f3
  refine st_pt (g3 _ _ w2 List.not_mem_nil) (by simp) (fun s4 g4 w4 => ?_)
  have k1' := g4 _ _ (g3 _ _ k1 List.not_mem_nil) (np (fun z => n1 z.symm))
  have k4 := g4 _ _ w3 (np (fun z => n4 z.symm))
  have hs4 : sf [p] st s4 := (((g1.up (fun _ z => absurd z List.not_mem_nil)).tr g2).tr (g3.up (fun _ z => absurd z List.not_mem_nil))).tr g4
  -- after m bodies
  refine eb_loop4_i (fun y g u w => ∃ (m : Nat) (ad : Nat → Nat) (ff : Nat → Nat → Int32) (fr : Nat → Option Nat), m ≤ 4 ∧ y = nI m ∧ u = 2 + 4 * m ∧ w = 129 + 57 * m ∧ ad 16 = p ∧ ad 17 = p1 ∧ ad 18 = p4 ∧ (∀ a y, s4 a = some y → ¬ a = p1 → g a = some y) ∧
      (∀ b j, b < m → j < 4 → g (ad (4 * b + j)) = some (wB Γ ad ((nI 1, 1, 0), (none, none, none), ff b, (fun _ => none), fun _ => 0) b j)) ∧ (∀ b k, b < m → k < 16 → ff b k = 2) ∧ g p1 = some (eb_ra Γ 7 4 fr) ∧ (∀ k, fr k = if k < m then some (ad (4 * k)) else none) ∧
      (∀ i j, (i < 4 * m ∨ 16 ≤ i ∧ i < 19) → (j < 4 * m ∨ 16 ≤ j ∧ j < 19) → ad i = ad j → i = j)) (fun y _ _ _ => 10 - y.toNatClampNeg) ?_ ⟨0, (fun i => if i = 16 then p else if i = 17 then p1 else p4), (fun _ _ => 0), (fun _ => none), by omega, rfl, rfl, rfl, rfl, rfl, rfl, fun a y hy _ => hy, fun b j hb => absurd hb (Nat.not_lt_zero _), fun b j hb => absurd hb (Nat.not_lt_zero _), k1', fun k => by rw [if_neg (Nat.not_lt_zero _)], fun i j hi hj e => ?_⟩
  · rintro R _ g _ _ ⟨m, ad, ff, fr, hm, rfl, rfl, rfl, e16, e17, e18, hold, hcell, hff, hrow, hfr, hinj⟩ hR
    have wp := hold _ _ w4 n1
    have w18 := hold _ _ k4 (fun z => n14 z.symm)
    refine br_le (a := 4) (by omega) (by omega) (fun h4 => ?_) (fun h4 => ?_)
    · have em : m = 4 := by omega
      subst em
      refine hK g (fun a y ha hap => ?_) ⟨fun _ _ => False, ad, fun b => ((nI 1, 1, 0), (none, none, none), ff b, (fun _ => none), fun _ => 0), ((none, none, 0, none), fun _ => 0), e16, ⟨fun b j hb hj => hcell b j hb hj, fun j hj => ?_, fun i j hi hj => hinj i j (by omega) (by omega)⟩, fun a y hy => hy.elim, fun b hb => ?_, ⟨fun a ha => absurd ha (by simp), fun k _ => Or.inl rfl, Or.inl rfl⟩⟩
      · exact hold _ _ (hs4 _ _ ha (np hap)) (fun z => by rw [z, f1] at ha; exact absurd ha (by simp))
      · match j, hj with
        | 0, _ =>
          have e : (16 + 0 : Nat) = 16 := rfl
          rw [e, e16, wp]
          unfold wX
          rw [e17, e18]
          rfl
        | 1, _ =>
          have e : (16 + 1 : Nat) = 17 := rfl
          have e2 : fr = wR ad := by funext k; rw [hfr k]; rfl
          rw [e, e17, hrow, e2]
          rfl
        | 2, _ =>
          have e : (16 + 2 : Nat) = 18 := rfl
          rw [e, e18, w18]
          rfl
      · refine ⟨⟨⟨Nat.le_refl _, by show 1 ≤ 4; omega⟩, ⟨Nat.le_refl _, by show 1 < 2 ^ 1; omega⟩, fun i j hi hj => ⟨Nat.le_refl _, (by decide : 2 ≤ 6), rfl, fun _ => rfl⟩⟩, ⟨rfl, rfl, fun k hk => hff b k hb hk⟩, Or.inl ⟨rfl, rfl⟩, fun s q' _ z => absurd z (by simp), fun y z => absurd z (by simp), fun y z => absurd z (by simp)⟩
    · refine st_gr wp (v := some p1) rfl (st_mk (by omega) (by omega) (fun q s5 f5 g5 w5 => ⟨3, 48, ⟨by omega, by omega⟩, sc_bodyinit w5 (Nat.le_refl _) (Nat.le_refl _) (fun s6 q1 q2 q3 f g6 e1 e2 e3 n12 n13 n23 w6 c1 cf c2 c3 => st_nn ⟨st_cs w6 (by decide), ?_⟩)⟩))
      have g56 : sf [q] g s6 := (g5.up (fun _ z => absurd z List.not_mem_nil)).tr g6
      have nq : ∀ {a : Nat} {y : va_E}, g a = some y → a ∉ [q] := fun ha z => by rw [List.mem_singleton.mp z, f5] at ha; exact absurd ha (by simp)
      have nn : ∀ {c : Nat}, s5 c = none → g c = none := fun {c} hc => by
        cases hh : g c with
        | none => rfl
        | some y => have := g5 _ _ hh List.not_mem_nil; rw [hc] at this; exact absurd this (by simp)
      have kq : ∀ {c : Nat}, s5 c = none → ¬ q = c := fun hc => st_ne w5 hc
      refine st_wr (g56 _ _ hrow (nq hrow)) (by omega) (by omega) (fun s7 g7 w7 => ?_)
      rw [nI_1]
      have hfin : ∀ nw : Nat → Nat, nw 0 = q → nw 1 = q1 → nw 2 = q2 → nw 3 = q3 → R (nI (m + 1)) s7 (2 + 4 * m + 1 + 3) (129 + 57 * m + 9 + 48) := by
        rintro nw rfl rfl rfl rfl
        have hnn : ∀ j, j < 4 → g (nw j) = none := fun j hj => match j, hj with
          | 0, _ => f5
          | 1, _ => nn e1
          | 2, _ => nn e2
          | 3, _ => nn e3
        have kn : ∀ i, (i < 4 * m ∨ 16 ≤ i ∧ i < 19) → ∃ y, g (ad i) = some y := fun i hi => by
          by_cases hi4 : i < 4 * m
          · have := hcell (i / 4) (i % 4) (by omega) (by omega)
            rw [show 4 * (i / 4) + i % 4 = i by omega] at this
            exact ⟨_, this⟩
          · have : i = 16 ∨ i = 17 ∨ i = 18 := by omega
            rcases this with rfl | rfl | rfl
            · rw [e16]; exact ⟨_, wp⟩
            · rw [e17]; exact ⟨_, hrow⟩
            · rw [e18]; exact ⟨_, w18⟩
        have nad : ∀ i j, (i < 4 * m ∨ 16 ≤ i ∧ i < 19) → j < 4 → ¬ ad i = nw j := fun i j hi hj e => by
          obtain ⟨y, hy⟩ := kn i hi
          rw [e, hnn j hj] at hy
          exact absurd hy (by simp)
        have np1 : ∀ j, j < 4 → nw j ∉ [p1] := fun j hj z => by
          have := hnn j hj
          rw [List.mem_singleton.mp z, hrow] at this
          exact absurd this (by simp)
        have a17 : ∀ i, i < 4 * m → ad i ∉ [p1] := fun i hi z => by
          have := hinj i 17 (Or.inl hi) (Or.inr (by omega)) (by rw [e17]; exact List.mem_singleton.mp z)
          omega
        refine hR _ _ _ _ ⟨m + 1, adN ad m nw, (fun b => if b = m then f else ff b), _, by omega, rfl, by omega, by omega, by rw [adN_o (by omega)]; exact e16, by rw [adN_o (by omega)]; exact e17, by rw [adN_o (by omega)]; exact e18, fun a y ha hap => ?_, fun b j hb hj => ?_, fun b k hb hk => ?_, w7, fun k => ?_, fun i j hi hj e => ?_⟩ ?_
        · have := hold a y ha hap
          exact g7 _ _ (g56 _ _ this (nq this)) (fun z => hap (List.mem_singleton.mp z))
        · show s7 (adN ad m nw (4 * b + j)) = some (wB Γ (adN ad m nw) ((nI 1, 1, 0), (none, none, none), (if b = m then f else ff b), (fun _ => none), fun _ => 0) b j)
          by_cases eb : b = m
          · subst eb
            rw [adN_b hj, if_pos rfl]
            match j, hj with
            | 0, _ =>
              have := g7 _ _ w6 (np1 0 (by omega))
              rw [this]
              unfold wB
              rw [adN_b (by omega), adN_b (by omega), adN_b (by omega)]
              rfl
            | 1, _ => exact g7 _ _ c1 (np1 1 (by omega))
            | 2, _ => exact g7 _ _ c2 (np1 2 (by omega))
            | 3, _ => exact g7 _ _ c3 (np1 3 (by omega))
          · have hc := hcell b j (by omega) hj
            rw [if_neg eb, adN_o (by omega)]
            have := g7 _ _ (g56 _ _ hc (nq hc)) (a17 _ (by omega))
            rw [this]
            match j, hj with
            | 0, _ => unfold wB; rw [adN_o (by omega), adN_o (by omega), adN_o (by omega)]
            | 1, _ => rfl
            | 2, _ => rfl
            | 3, _ => rfl
        · show (if b = m then f else ff b) k = 2
          by_cases eb : b = m
          · rw [if_pos eb]; exact cf k hk
          · rw [if_neg eb]; exact hff b k (by omega) hk
        · by_cases ek : k = m
          · rw [ek, vu_eq, if_pos (by omega)]
            have := adN_b (ad := ad) (b := m) (nw := nw) (j := 0) (by omega)
            rw [Nat.add_zero] at this
            rw [this]
          · rw [vu_ne ek, hfr k, adN_o (by omega)]
            by_cases hk : k < m
            · rw [if_pos hk, if_pos (by omega)]
            · rw [if_neg hk, if_neg (by omega)]
        · have hnw : ∀ i j, i < 4 → j < 4 → nw i = nw j → i = j := fun i j hi hj e => match i, j, hi, hj with
            | 0, 0, _, _ => rfl
            | 1, 1, _, _ => rfl
            | 2, 2, _, _ => rfl
            | 3, 3, _, _ => rfl
            | 0, 1, _, _ => absurd e (kq e1)
            | 0, 2, _, _ => absurd e (kq e2)
            | 0, 3, _, _ => absurd e (kq e3)
            | 1, 0, _, _ => absurd e.symm (kq e1)
            | 2, 0, _, _ => absurd e.symm (kq e2)
            | 3, 0, _, _ => absurd e.symm (kq e3)
            | 1, 2, _, _ => absurd e n12
            | 1, 3, _, _ => absurd e n13
            | 2, 3, _, _ => absurd e n23
            | 2, 1, _, _ => absurd e.symm n12
            | 3, 1, _, _ => absurd e.symm n13
            | 3, 2, _, _ => absurd e.symm n23
          by_cases ei : i / 4 = m
          · by_cases ej : j / 4 = m
            · unfold adN at e
              rw [if_pos ei, if_pos ej] at e
              have := hnw _ _ (by omega) (by omega) e
              omega
            · rw [adN_o ej] at e
              unfold adN at e
              rw [if_pos ei] at e
              exact absurd e.symm (nad _ _ (by omega) (by omega))
          · by_cases ej : j / 4 = m
            · rw [adN_o ei] at e
              unfold adN at e
              rw [if_pos ej] at e
              exact absurd e (nad _ _ (by omega) (by omega))
            · rw [adN_o ei, adN_o ej] at e
              exact hinj _ _ (by omega) (by omega) e
        · rw [nI_cl (by omega), nI_cl (by omega)]; omega
      exact hfin (fun j => if j = 0 then q else if j = 1 then q1 else if j = 2 then q2 else q3) rfl rfl rfl rfl
  · have hi' : i = 16 ∨ i = 17 ∨ i = 18 := by omega
    have hj' : j = 16 ∨ j = 17 ∨ j = 18 := by omega
    rcases hi' with rfl | rfl | rfl <;> rcases hj' with rfl | rfl | rfl
    · rfl
    · exact absurd e n1
    · exact absurd e n4
    · exact absurd e.symm n1
    · rfl
    · exact absurd e n14
    · exact absurd e.symm n4
    · exact absurd e.symm n14
    · rfl
end CSET4
