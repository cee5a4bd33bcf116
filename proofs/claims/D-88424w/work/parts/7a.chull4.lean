set_option maxRecDepth 100000
/-- rows of all corners -/
def rAll (D : eb_D) (t : Nat → Nat) (w : Nat → Bool) (fr ff : Nat → Int32) : Prop := ∀ c, c < NP D 0 → rOk D c (t c) (w c) fr ff ∧ t c < uG D ∧ (uG D < 3 → w c = true)
/-- which corners were met, in which order -/
def tV (D : eb_D) (e : Nat) (vis : Nat → Bool) (qq : Nat → Nat) (fi fq : Nat → Int32) (w : Nat → Bool) : Prop :=
  (∀ c, c < NP D 0 → fi c = nI (b1 (vis c))) ∧ (∀ k, k < e → fq k = nI (qq k) ∧ qq k < NP D 0 ∧ vis (qq k) = true) ∧ e = cnB vis (NP D 0) ∧ (∀ c, c < NP D 0 → vis c = true → ∃ k, k < e ∧ qq k = c) ∧ vis 0 = true ∧ ∀ c, c < NP D 0 → vis c = true → w c = w 0
theorem rOk_out {D : eb_D} {c d t : Nat} {w : Bool} {fr ff fr' ff' : Nat → Int32} (h : rOk D c t w fr ff) (hg : uG D ≤ 5) (hcd : ¬ c = d) (ho : ∀ x, ¬ (8 * d ≤ x ∧ x < 8 * d + 8) → fr' x = fr x ∧ ff' x = ff x) : rOk D c t w fr' ff' := fun i hi => by
  have q := ho (8 * c + i) (by omega)
  rw [q.1, q.2]; exact h i hi
theorem b_not : ∀ a b : Bool, ¬ a = b → (not a) = b := by decide
section TA2
variable {Γ : eb_C} {st st' : eb_S} {bc bs : Nat} {q p net pj pm ps pk pr pf : Nat} {D : eb_D} {fj fm f3 f4 fr ff : Nat → Int32}
theorem sc_turnsAll {t : Nat → Nat} {w : Nat → Bool} {K : eb_S → Prop} (h : hS Γ st q p net pj pm ps pk pr pf D fj fm f3 f4 fr ff) (hne : hNe q net pj pm ps pk pr pf) (h3 : ok3 D) (hr : rAll D t w fr ff) (hbc : 258 ≤ bc) (hbs : 1536 ≤ bs)
    (hK : ∀ st' fr' ff' t' w', sf [pr, pf] st st' → hS Γ st' q p net pj pm ps pk pr pf D fj fm f3 f4 fr' ff' → rAll D t' (fun _ => w') fr' ff' → K st') : MX12_turnsAll Γ bc bs st q K := by
  have hg := u_dg h3
  have hN := (u_N h3).1
  have hN0 := NP0_pos h3
  unfold MX12_turnsAll
  refine st_gr h.1 (v := some net) rfl (st_nn (st_ni h.2.1.1 h.2.1.2.1 rfl ⟨st_ok1 (by omega), ?_⟩))
  rw [nI_cl (by omega)]
  refine st_mk (by omega) (by omega) (fun p4 s1 f1 g1 w1 => ?_)
  refine st_gr (g1 _ _ h.1 List.not_mem_nil) (v := some net) rfl (st_nn (st_ni h.2.1.1 (g1 _ _ h.2.1.2.1 List.not_mem_nil) rfl ⟨st_ok1 (by omega), ?_⟩))
  rw [nI_cl (by omega)]
  refine st_mk (by omega) (by omega) (fun p9 s2 f2 g2 w2 => ?_)
  have n49 : ¬ p4 = p9 := st_ne w1 f2
  have f2s : st p9 = none := by
    cases hh : st p9 with
    | none => rfl
    | some y => have := g1 _ _ hh List.not_mem_nil; rw [f2] at this; exact absurd this (by simp)
  have m1 : ∀ {a b : Nat}, ¬ a = b → a ∉ [b] := fun h z => h (List.mem_singleton.mp z)
  have kn : ∀ {a : Nat} {y : va_E}, st a = some y → ¬ a = p4 ∧ ¬ a = p9 := fun ha => ⟨st_ne ha f1, st_ne ha f2s⟩
  have npr := kn h.2.2.2.2.2.1
  have npf := kn h.2.2.2.2.2.2
  refine st_wi (i := 0) (g2 _ _ w1 List.not_mem_nil) hN0 (by omega) (fun s3 g3 w3 => ?_)
  have hs3 : ∀ g, sf [p4, p9] s3 g → ∀ {a : Nat} {y : va_E}, st a = some y → g a = some y := fun g hg' {a y} ha => by
    have z := kn ha
    refine hg' _ _ (g3 _ _ (g2 _ _ (g1 _ _ ha List.not_mem_nil) List.not_mem_nil) (m1 z.1)) (fun x => ?_)
    simp only [List.mem_cons, List.not_mem_nil, or_false] at x
    exact x.elim z.1 z.2
  have hS3 : hS Γ s3 q p net pj pm ps pk pr pf D fj fm f3 f4 fr ff := by
    have k := @hs3 s3 (sf.rf _ _)
    obtain ⟨h1, h2, h3, h4, h5, h6, h7⟩ := h
    exact ⟨k h1, ⟨h2.1, k h2.2.1, k h2.2.2.1, k h2.2.2.2.1, h2.2.2.2.2⟩, k h3, k h4, h5, k h6, k h7⟩
  -- the cells of this walk
  have n4 : ∀ {a : Nat}, ¬ a = p4 → ¬ a = p9 → a ∉ [p4, p9] := fun {a} z1 z2 x => by
    simp only [List.mem_cons, List.not_mem_nil, or_false] at x
    exact x.elim z1 z2
  have keep : ∀ {g g' : eb_S} {fr ff : Nat → Int32}, hS Γ g q p net pj pm ps pk pr pf D fj fm f3 f4 fr ff → sf [p4, p9] g g' → hS Γ g' q p net pj pm ps pk pr pf D fj fm f3 f4 fr ff := fun {g g' fr' ff'} hG hs => by
    have k : ∀ {a : Nat} {x y : va_E}, st a = some x → g a = some y → g' a = some y := fun hx hy => hs _ _ hy (n4 (kn hx).1 (kn hx).2)
    obtain ⟨h1, h2, h3, h4, h5, h6, h7⟩ := hG
    exact ⟨k h.1 h1, ⟨h2.1, k h.2.1.2.1 h2.2.1, k h.2.1.2.2.1 h2.2.2.1, k h.2.1.2.2.2.1 h2.2.2.2.1, h2.2.2.2.2⟩, k h.2.2.1 h3, k h.2.2.2.1 h4, h5, k h.2.2.2.2.2.1 h6, k h.2.2.2.2.2.2 h7⟩
  have fin : ∀ {g : eb_S} {fr' ff' : Nat → Int32} {t' : Nat → Nat} {w' : Nat → Bool}, sf [pr, pf] st g → hS Γ g q p net pj pm ps pk pr pf D fj fm f3 f4 fr' ff' → rAll D t' w' fr' ff' → (∀ c, c < NP D 0 → w' c = w' 0) → K g := fun {g fr' ff' t' w'} hs hG hA hw => hK g fr' ff' t' (w' 0) hs hG (fun c hc => by
    obtain ⟨z1, z2, z3⟩ := hA c hc
    rw [hw c hc] at z1 z3
    exact ⟨z1, z2, z3⟩)
  refine eb_loop5_i (fun (x3 x4 : Int32) (g : eb_S) (u v : Nat) => ∃ e x vis qq fi fq t w fr ff, x3 = nI e ∧ x4 = nI x ∧ x ≤ e ∧ u ≤ 2 + 2 * e ∧ v ≤ 256 + 10 * e ∧ sf [pr, pf] st g ∧ hS Γ g q p net pj pm ps pk pr pf D fj fm f3 f4 fr ff ∧ rAll D t w fr ff ∧ g p4 = some (eb_ia Γ 1 (NP D 0) fi) ∧ g p9 = some (eb_ia Γ 0 (NP D 0) fq) ∧ tV D e vis qq fi fq w ∧ ∀ k j, k < x → j < uG D → vis (uN D (qq k) j) = true) (fun _ x4 _ _ _ => 1000 - x4.toNatClampNeg) ?_ ?_
  · rintro R _ _ g u v ⟨e, x, vis, qq, fi, fq, t, w, fr, ff, rfl, rfl, hxe, hu, hv, hs, hG, hA, u4, u9, ⟨v1, v2, v3, v4, v5, v6⟩, hcl⟩ hR
    have heN : e ≤ NP D 0 := by rw [v3]; exact cnB_le _ _
    refine br_le (by omega) (by omega) (fun h1 => ?_) (fun h1 => ?_)
    · refine fin hs hG hA (fun c hc => v6 c hc ?_)
      refine u_conn h3 (P := fun c => vis c = true) v5 (fun c i hc hvc hi => ?_) c hc
      obtain ⟨k, k1, k2⟩ := v4 c hc hvc
      rw [← k2]
      exact hcl k i (by omega) hi
    · obtain ⟨a1, a2, a3⟩ := v2 x (by omega)
      refine st_li u9 (by omega) (by omega) ?_
      rw [a1]
      generalize hcx : qq x = c at a2 a3
      refine jp_4 (fun (x3 : Int32) (g : eb_S) (u v : Nat) => ∃ e vis qq fi fq t w fr ff, x3 = nI e ∧ x + 1 ≤ e ∧ u ≤ 2 + 2 * e ∧ v ≤ 256 + 10 * e ∧ sf [pr, pf] st g ∧ hS Γ g q p net pj pm ps pk pr pf D fj fm f3 f4 fr ff ∧ rAll D t w fr ff ∧ g p4 = some (eb_ia Γ 1 (NP D 0) fi) ∧ g p9 = some (eb_ia Γ 0 (NP D 0) fq) ∧ tV D e vis qq fi fq w ∧ ∀ k j, k < x + 1 → j < uG D → vis (uN D (qq k) j) = true) ?_ ?_
      · rintro _ g u v ⟨e, vis, qq, fi, fq, t, w, fr, ff, rfl, hxe, hrest⟩
        rw [nI_1]
        refine hR _ _ _ _ _ ⟨e, x + 1, vis, qq, fi, fq, t, w, fr, ff, rfl, rfl, hxe, hrest⟩ ?_
        have : e ≤ NP D 0 := by rw [hrest.2.2.2.2.2.2.2.1.2.2.1]; exact cnB_le _ _
        rw [nI_cl (by omega), nI_cl (by omega)]; omega
      · intro k23 hk23
        refine eb_loop5_i (fun (x3 x6 : Int32) (g : eb_S) (u v : Nat) => ∃ e i vis qq fi fq t w fr ff, x3 = nI e ∧ x6 = nI i ∧ i ≤ uG D ∧ x + 1 ≤ e ∧ u ≤ 2 + 2 * e ∧ v ≤ 256 + 10 * e ∧ sf [pr, pf] st g ∧ hS Γ g q p net pj pm ps pk pr pf D fj fm f3 f4 fr ff ∧ rAll D t w fr ff ∧ g p4 = some (eb_ia Γ 1 (NP D 0) fi) ∧ g p9 = some (eb_ia Γ 0 (NP D 0) fq) ∧ tV D e vis qq fi fq w ∧ qq x = c ∧ (∀ k j, k < x → j < uG D → vis (uN D (qq k) j) = true) ∧ ∀ j, j < i → vis (uN D c (pP (uG D) (w c) (t c) j)) = true) (fun _ x6 _ _ _ => 100 - x6.toNatClampNeg) ?_ ⟨e, 0, vis, qq, fi, fq, t, w, fr, ff, rfl, rfl, by omega, by omega, hu, hv, hs, hG, hA, u4, u9, ⟨v1, v2, v3, v4, v5, v6⟩, hcx, hcl, fun j hj => absurd hj (Nat.not_lt_zero _)⟩
        clear hR hcl hcx v1 v2 v3 v4 v5 v6 u4 u9 hA hG hs hu hv a1 a3 h1 heN hxe
        clear vis qq fi fq t w fr ff e u v g
        rintro R2 _ _ g u v ⟨e, i, vis, qq, fi, fq, t, w, fr, ff, rfl, rfl, hi, hxe, hu, hv, hs, hG, hA, u4, u9, hT, hcx, hcl, hin⟩ hR2
        obtain ⟨v1, v2, v3, v4, v5, v6⟩ := id hT
        have heN : e ≤ NP D 0 := by rw [v3]; exact cnB_le _ _
        have hvc : vis c = true := by have := (v2 x (by omega)).2.2; rw [hcx] at this; exact this
        obtain ⟨rc, tc, wc⟩ := hA c a2
        refine st_gr hG.1 (v := some net) rfl (st_nn ⟨hG.2.1.cs, sc_ndeg hG.2.1 a2 ?_⟩)
        rw [u_deg h3 a2]
        refine br_le (by omega) (by omega) (fun h1 => ?_) (fun h1 => ?_)
        · refine hk23 _ _ _ _ ⟨e, vis, qq, fi, fq, t, w, fr, ff, rfl, hxe, hu, hv, hs, hG, hA, u4, u9, hT, fun k j hk hj => ?_⟩
          by_cases ek : k = x
          · rw [ek, hcx]
            have z := pI_ok (uG D) (by omega) (t c) tc j hj (w c)
            have := hin (pI (uG D) (w c) (t c) j) (by omega)
            rw [z.2] at this
            exact this
          · exact hcl k j (by omega) hj
        · have hjl := pP_lt hg.1 (w c) (t c) i
          have htoN := u_nb h3 a2 hjl
          have hne_c := u_ne h3 a2 hjl
          refine ⟨st_cs hG.1 (by simp), sc_neighbour hG h3 a2 (by omega) ?_⟩
          rw [(rc i (by omega)).1]
          generalize hto : uN D c (pP (uG D) (w c) (t c) i) = to at htoN hne_c
          refine st_li u4 htoN (by omega) ?_
          rw [v1 to htoN]
          refine jp_4 (fun (x3 : Int32) (g : eb_S) (u v : Nat) => ∃ e vis qq fi fq t w fr ff, x3 = nI e ∧ x + 1 ≤ e ∧ u ≤ 2 + 2 * e ∧ v ≤ 256 + 10 * e ∧ sf [pr, pf] st g ∧ hS Γ g q p net pj pm ps pk pr pf D fj fm f3 f4 fr ff ∧ rAll D t w fr ff ∧ g p4 = some (eb_ia Γ 1 (NP D 0) fi) ∧ g p9 = some (eb_ia Γ 0 (NP D 0) fq) ∧ tV D e vis qq fi fq w ∧ qq x = c ∧ (∀ k j, k < x → j < uG D → vis (uN D (qq k) j) = true) ∧ ∀ j, j < i + 1 → vis (uN D c (pP (uG D) (w c) (t c) j)) = true) ?_ ?_
          · rintro _ g u v ⟨e, vis, qq, fi, fq, t, w, fr, ff, rfl, hxe, hrest⟩
            rw [nI_1]
            refine hR2 _ _ _ _ _ ⟨e, i + 1, vis, qq, fi, fq, t, w, fr, ff, rfl, rfl, by omega, hxe, hrest⟩ ?_
            rw [nI_cl (by omega), nI_cl (by omega)]; omega
          · intro k45 hk45
            refine cond_br (fun hvt => ?_) (fun hvt => ?_)
            · -- a new corner
              obtain ⟨rt, tt, wt⟩ := hA to htoN
              have hlt : e < NP D 0 := by
                have e1 : cnB (fun d => or (vis d) (Nat.beq d to)) (NP D 0) = cnB vis (NP D 0) + 1 := by
                  refine cnB_set (v := to) hvt ?_ (fun k hk => ?_) _ htoN
                  · show or (vis to) (Nat.beq to to) = true
                    rw [nbT rfl, Bool.or_true]
                  · show vis k = or (vis k) (Nat.beq k to)
                    rw [nbF hk, Bool.or_false]
                have := cnB_le (fun d => or (vis d) (Nat.beq d to)) (NP D 0)
                omega
              refine st_wi u4 htoN (by omega) (fun s4 g4 w4 => st_wi (g4 _ _ u9 (m1 (fun z => n49 z.symm))) (by omega) (by omega) (fun s5 g5 w5 => ?_))
              have h45 : sf [p4, p9] g s5 := (g4.up (fun k hk => by rw [List.mem_singleton.mp hk]; simp)).tr (g5.up (fun k hk => by rw [List.mem_singleton.mp hk]; simp))
              have hG5 := keep hG h45
              have k4 := g5 _ _ w4 (m1 n49)
              -- where c is, round the new corner
              obtain ⟨j', hj', hjc⟩ : ∃ j', j' < uG D ∧ uN D to j' = c := by
                have := u_back h3 a2 hjl
                rw [hto] at this
                exact this
              have hpi := pI_ok (uG D) (by omega) (t to) tt j' hj' (w to)
              have hplace : uN D to (pP (uG D) (w to) (t to) (pI (uG D) (w to) (t to) j')) = c := by rw [hpi.2]; exact hjc
              have hb := pQ_b (uG D) (by omega) (t to) tt _ hpi.1
              refine ⟨st_cs hG5.1 (by simp), sc_placeOf hG5 h3 htoN tt rt hpi.1 hplace ⟨st_cs hG5.1 (by simp), sc_before hG5 h3 htoN hpi.1 ⟨st_cs hG5.1 (by simp), sc_behind hG5 h3 htoN (by omega) ⟨st_cs hG5.1 (by simp), sc_behind hG5 h3 a2 (by omega) ?_⟩⟩⟩⟩
              rw [(rt _ hb.1).2, (rc i (by omega)).2]
              have htw : fV D to (pQ (uG D) (w to) (t to) (prI (uG D) (pI (uG D) (w to) (t to) j'))) = fV D c (pQ (uG D) (w c) (t c) i) ↔ w to = w c := by
                have := tw_same h3 a2 tc (show i < uG D by omega) tt hpi.1 wc wt (by rw [hto]; exact hplace)
                rw [hto] at this
                exact this
              -- the new state of the walk
              have newT : ∀ w', (∀ c', ¬ c' = to → w' c' = w c') → w' to = w c → tV D (e + 1) (updW vis to true) (updN qq e to) (upd fi to (vp_nar .boolean 1)) (upd fq e (nI to)) w' := by
                intro w' hw1 hw2
                have h0t : ¬ 0 = to := fun z => by rw [z, hvt] at v5; exact Bool.noConfusion v5
                refine ⟨fun d hd => ?_, fun k hk => ?_, ?_, fun d hd hvd => ?_, ?_, fun d hd hvd => ?_⟩
                · by_cases ed : d = to
                  · rw [ed, upd_eq, updW_eq]; rfl
                  · rw [upd_ne ed, updW_ne ed]; exact v1 d hd
                · by_cases ek : k = e
                  · rw [ek, upd_eq, updN_eq, updW_eq]; exact ⟨rfl, htoN, rfl⟩
                  · obtain ⟨z1, z2, z3⟩ := v2 k (by omega)
                    rw [upd_ne ek, updN_ne ek]
                    refine ⟨z1, z2, ?_⟩
                    rw [updW_ne (fun z => by rw [z, hvt] at z3; exact Bool.noConfusion z3)]
                    exact z3
                · rw [v3]
                  exact (cnB_set (v := to) hvt (updW_eq _ _ _) (fun k hk => by rw [updW_ne hk]) _ htoN).symm
                · by_cases ed : d = to
                  · exact ⟨e, by omega, by rw [updN_eq, ed]⟩
                  · rw [updW_ne ed] at hvd
                    obtain ⟨k, k1, k2⟩ := v4 d hd hvd
                    exact ⟨k, by omega, by rw [updN_ne (by omega)]; exact k2⟩
                · rw [updW_ne h0t]; exact v5
                · rw [hw1 0 h0t]
                  by_cases ed : d = to
                  · rw [ed, hw2]; exact v6 c a2 hvc
                  · rw [updW_ne ed] at hvd
                    rw [hw1 d ed]; exact v6 d hd hvd
              have newV : ∀ {d : Nat}, vis d = true → updW vis to true d = true := fun {d} hd => by
                by_cases ed : d = to
                · rw [ed, updW_eq]
                · rw [updW_ne ed]; exact hd
              have hqc : updN qq e to x = c := by rw [updN_ne (by omega)]; exact hcx
              have hclN : ∀ k j, k < x → j < uG D → updW vis to true (uN D (updN qq e to k) j) = true := fun k j hk hj => by
                rw [updN_ne (by omega)]; exact newV (hcl k j hk hj)
              have n49' : ∀ {a : Nat}, a = p4 ∨ a = p9 → a ∉ [pr, pf] := fun {a} ha z => by
                simp only [List.mem_cons, List.not_mem_nil, or_false] at z
                rcases ha with ha | ha <;> rcases z with z | z
                · exact npr.1 (z.symm.trans ha)
                · exact npf.1 (z.symm.trans ha)
                · exact npr.2 (z.symm.trans ha)
                · exact npf.2 (z.symm.trans ha)
              have hs5 : sf [pr, pf] st s5 := fun a y ha hw => h45 _ _ (hs _ _ ha hw) (n4 (kn ha).1 (kn ha).2)
              refine ⟨fun hsame => ?_, fun hdiff => ?_⟩
              · rw [nI_1]
                refine hk45 _ _ _ _ ⟨e + 1, _, _, _, _, t, w, fr, ff, rfl, by omega, by omega, by omega, hs5, hG5, hA, k4, w5, newT w (fun _ _ => rfl) (htw.mp hsame), hqc, hclN, fun j hj => ?_⟩
                by_cases ej : j = i
                · rw [ej, hto, updW_eq]
                · exact newV (hin j (by omega))
              · have hwn : ¬ w to = w c := fun z => hdiff (htw.mpr z)
                have hwc : (not (w to)) = w c := b_not _ _ hwn
                have hg3 : 3 ≤ uG D := by
                  by_cases z : 3 ≤ uG D
                  · exact z
                  · exact absurd ((wt (by omega)).trans (wc (by omega)).symm) hwn
                refine ⟨st_cs hG5.1 (by simp), 2, 10, ⟨by omega, by omega⟩, sc_hturns hG5 hne h3 htoN tt rt (Nat.le_refl _) (Nat.le_refl _) (fun s6 fr6 ff6 g6 hG6 hr6 ho6 => ?_)⟩
                rw [nI_1]
                have hA6 : rAll D (updN t to (tT (uG D) (w to) (t to))) (updW w to (not (w to))) fr6 ff6 := fun d hd => by
                  by_cases ed : d = to
                  · rw [ed, updN_eq, updW_eq]
                    exact ⟨hr6, (tT_ok (uG D) (by omega) (t to) tt 0 (by omega) (w to)).1, fun z => by omega⟩
                  · rw [updN_ne ed, updW_ne ed]
                    obtain ⟨z1, z2, z3⟩ := hA d hd
                    exact ⟨rOk_out z1 hg.2 ed ho6, z2, z3⟩
                have hct : ¬ c = to := fun z => hne_c z.symm
                refine hk45 _ _ _ _ ⟨e + 1, _, _, _, _, updN t to (tT (uG D) (w to) (t to)), updW w to (not (w to)), fr6, ff6, rfl, by omega, by omega, by omega, hs5.tr g6, hG6, hA6, g6 _ _ k4 (n49' (Or.inl rfl)), g6 _ _ w5 (n49' (Or.inr rfl)), newT _ (fun c' hc' => updW_ne hc') (by rw [updW_eq]; exact hwc), hqc, hclN, fun j hj => ?_⟩
                rw [updN_ne hct, updW_ne hct]
                by_cases ej : j = i
                · rw [ej, hto, updW_eq]
                · exact newV (hin j (by omega))
            · refine hk45 _ _ _ _ ⟨e, vis, qq, fi, fq, t, w, fr, ff, rfl, hxe, hu, hv, hs, hG, hA, u4, u9, hT, hcx, hcl, fun j hj => ?_⟩
              by_cases ej : j = i
              · rw [ej, hto]; exact hvt
              · exact hin j (by omega)
  · refine ⟨1, 0, (fun c => Nat.beq c 0), (fun _ => 0), _, _, t, w, fr, ff, rfl, rfl, by omega, by omega, by omega, fun a y ha _ => hs3 s3 (sf.rf _ _) ha, hS3, hr, w3, g3 _ _ w2 (m1 (fun z => n49 z.symm)), ⟨fun c hc => ?_, fun k hk => ?_, ?_, fun c hc hvc => ?_, rfl, fun c hc hvc => ?_⟩, fun k j hk => absurd hk (Nat.not_lt_zero _)⟩
    · by_cases ec : c = 0
      · rw [ec, upd_eq]; rfl
      · rw [upd_ne ec]
        show _ = nI (b1 (Nat.beq c 0))
        rw [nbF ec]; rfl
    · exact ⟨rfl, hN0, rfl⟩
    · exact (cnB_enum (N := NP D 0) (e := fun _ => 0) 1 (P := fun c => Nat.beq c 0) (fun i hi => hN0) (fun i j hij hj => by omega) (fun d hd => ⟨fun z => ⟨0, by omega, (Nat.eq_of_beq_eq_true z).symm⟩, fun ⟨i, hi, z⟩ => nbT z.symm⟩)).symm
    · exact ⟨0, by omega, (Nat.eq_of_beq_eq_true hvc).symm⟩
    · rw [Nat.eq_of_beq_eq_true hvc]
end TA2
