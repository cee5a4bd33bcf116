set_option maxRecDepth 100000
/-! round a corner -/
def pP (dg : Nat) (w : Bool) (t i : Nat) : Nat := cond w ((t + i) % dg) ((t + (dg - 1) * i) % dg)
def pQ (dg : Nat) (w : Bool) (t i : Nat) : Nat := cond w ((t + i) % dg) ((t + (dg - 1) * (i + 1)) % dg)
theorem pP_lt {dg : Nat} (h : 1 ≤ dg) (w : Bool) (t i : Nat) : pP dg w t i < dg := by unfold pP; cases w <;> exact Nat.mod_lt _ (by omega)
theorem pQ_lt {dg : Nat} (h : 1 ≤ dg) (w : Bool) (t i : Nat) : pQ dg w t i < dg := by unfold pQ; cases w <;> exact Nat.mod_lt _ (by omega)
theorem pP_0 : ∀ dg, dg < 6 → ∀ t, t < dg → ∀ w : Bool, pP dg w t 0 = t := by decide
theorem pQ_t : ∀ dg, dg < 6 → ∀ t, t < dg → ∀ i, i < 6 → pQ dg true t i = pP dg true t i ∧ (1 ≤ i → prI dg (pP dg true t i) = pQ dg true t (i - 1)) ∧ nxI dg (pQ dg true t i) = pP dg true t (i + 1) := by decide
theorem pQ_f : ∀ dg, dg < 6 → ∀ t, t < dg → ∀ i, i < 6 → pQ dg false t i = prI dg (pP dg false t i) ∧ (1 ≤ i → pP dg false t i = pQ dg false t (i - 1)) ∧ pQ dg false t i = pP dg false t (i + 1) ∧ nxI dg (pQ dg false t i) = pP dg false t i := by decide
theorem nx_ne : ∀ dg, dg < 6 → 2 ≤ dg → ∀ t, t < dg → ¬ nxI dg t = t ∧ ¬ prI dg t = t ∧ nxI dg t < dg ∧ prI dg t < dg := by decide
theorem pP_2 : ∀ t, t < 2 → ∀ i, i < 3 → ∀ j, j < 2 → ¬ j = pP 2 true t i → j = pP 2 true t (i + 1) := by decide
/-- a face behind, or none -/
noncomputable def fV (D : eb_D) (c j : Nat) : Int32 := if duN D = 0 then -1 else nI (uF D c j)
/-- a corner's rows: from place t on, in a direction -/
def rOk (D : eb_D) (c t : Nat) (w : Bool) (fr ff : Nat → Int32) : Prop := ∀ i, i < uG D → fr (8 * c + i) = nI (uN D c (pP (uG D) w t i)) ∧ ff (8 * c + i) = fV D c (pQ (uG D) w t i)
section GR
variable {Γ : eb_C} {st st' : eb_S} {bc bs : Nat} {q p net pj pm ps pk pr pf : Nat} {D : eb_D} {fj fm f3 f4 fr ff : Nat → Int32}
/-- cells that are not a hull's rows -/
def hNe (q net pj pm ps pk pr pf : Nat) : Prop := ¬ pr = pf ∧ ∀ a, (a = q ∨ a = net ∨ a = pj ∨ a = pm ∨ a = ps ∨ a = pk) → ¬ a = pr ∧ ¬ a = pf
theorem hS.set {fr' ff' : Nat → Int32} (h : hS Γ st q p net pj pm ps pk pr pf D fj fm f3 f4 fr ff) (hne : hNe q net pj pm ps pk pr pf) (hs : sf [pr, pf] st st') (w1 : st' pr = some (eb_ia Γ 0 (8 * NP D 0) fr')) (w2 : st' pf = some (eb_ia Γ 0 (8 * NP D 0) ff')) : hS Γ st' q p net pj pm ps pk pr pf D fj fm f3 f4 fr' ff' := by
  have n : ∀ {a : Nat}, (a = q ∨ a = net ∨ a = pj ∨ a = pm ∨ a = ps ∨ a = pk) → a ∉ [pr, pf] := fun {a} ha z => by
    simp only [List.mem_cons, List.not_mem_nil, or_false] at z
    exact z.elim (hne.2 a ha).1 (hne.2 a ha).2
  obtain ⟨h1, h2, h3, h4, h5, h6, h7⟩ := h
  exact ⟨hs _ _ h1 (n (by simp)), ⟨h2.1, hs _ _ h2.2.1 (n (by simp)), hs _ _ h2.2.2.1 (n (by simp)), hs _ _ h2.2.2.2.1 (n (by simp)), h2.2.2.2.2⟩, hs _ _ h3 (n (by simp)), hs _ _ h4 (n (by simp)), h5, w1, w2⟩
theorem sc_goesRound {c : Nat} {K : eb_S → Prop} (h : hS Γ st q p net pj pm ps pk pr pf D fj fm f3 f4 fr ff) (hne : hNe q net pj pm ps pk pr pf) (h3 : ok3 D) (hc : c < NP D 0)
    (hK : ∀ st' fr' ff' t w, sf [pr, pf] st st' → hS Γ st' q p net pj pm ps pk pr pf D fj fm f3 f4 fr' ff' → t < uG D → (uG D < 3 → w = true) → rOk D c t w fr' ff' → (∀ x, ¬ (8 * c ≤ x ∧ x < 8 * c + 8) → fr' x = fr x ∧ ff' x = ff x) → K st') : MX12_goesRound Γ st q (nI c) K := by
  have hd := u_dg h3
  have hN := u_N h3
  have hdg := u_deg h3 hc
  obtain ⟨nb, n1', n2', n3'⟩ := h.2.1.2.2.2.2.1
  have na := n1' c hc
  rw [hdg] at na
  unfold MX12_goesRound
  refine st_gr h.1 (v := some net) rfl (st_nn ⟨h.2.1.cs, sc_nat (k := 0) h.2.1 hc (by omega) ?_⟩)
  obtain ⟨z1, z2, z3⟩ := na.2.2 0 (by omega)
  obtain ⟨t, ht, htn⟩ := (u_jnd h3 hc).mp z3
  rw [z1, ← htn]
  have m1 : ∀ {a b : Nat}, ¬ a = b → a ∉ [b] := fun h z => h (List.mem_singleton.mp z)
  refine eb_loop4_i (fun (x2 x3 x4 : Int32) (g : eb_S) => ∃ k fr' ff', k ≤ uG D ∧ x4 = nI k ∧ sf [pr, pf] st g ∧ hS Γ g q p net pj pm ps pk pr pf D fj fm f3 f4 fr' ff' ∧ (∀ x, ¬ (8 * c ≤ x ∧ x < 8 * c + 8) → fr' x = fr x ∧ ff' x = ff x) ∧ ((k = 0 ∧ x2 = nI (uN D c t) ∧ x3 = -1) ∨ (1 ≤ k ∧ ∃ w, (uG D < 3 → w = true) ∧ x2 = nI (uN D c (pP (uG D) w t k)) ∧ x3 = fV D c (pQ (uG D) w t (k - 1)) ∧ ∀ i, i < k → fr' (8 * c + i) = nI (uN D c (pP (uG D) w t i)) ∧ ff' (8 * c + i) = fV D c (pQ (uG D) w t i)))) (fun _ _ x4 _ => 100 - x4.toNatClampNeg) ?_ ⟨0, fr, ff, by omega, rfl, sf.rf _ _, h, fun _ _ => ⟨rfl, rfl⟩, Or.inl ⟨rfl, rfl, rfl⟩⟩
  rintro R x2 x3 _ g ⟨k, fr', ff', hk, rfl, hs, hg, hout, hor⟩ hR
  refine st_gr hg.1 (v := some net) rfl (st_nn ⟨hg.2.1.cs, sc_ndeg hg.2.1 hc ?_⟩)
  rw [hdg]
  refine br_le (by omega) (by omega) (fun h1 => ?_) (fun h1 => ?_)
  · rcases hor with ⟨z, _⟩ | ⟨_, w, hw, _, _, hrow⟩
    · omega
    · exact hK g fr' ff' t w hs hg ht hw (fun i hi => hrow i (by omega)) hout
  · -- which way, and where we are
    have hpos : ∃ j, j < uG D ∧ x2 = nI (uN D c j) ∧ (k = 0 → j = t) ∧ (1 ≤ k → ∃ w, (uG D < 3 → w = true) ∧ j = pP (uG D) w t k) := by
      rcases hor with ⟨z1, z2, _⟩ | ⟨z1, w, hw, z2, _⟩
      · exact ⟨t, ht, z2, fun _ => rfl, fun y => by omega⟩
      · exact ⟨_, pP_lt hd.1 w t k, z2, fun y => by omega, fun _ => ⟨w, hw, rfl⟩⟩
    obtain ⟨j, hj, hx2, -, -⟩ := hpos
    have hvN := u_nb h3 hc hj
    rw [ix8]
    refine st_gr hg.1 (v := some pr) rfl (st_nn (st_wi hg.2.2.2.2.2.1 (by omega) (by omega) (fun s1 g1 w1 => ?_)))
    have hs1 : sf [pr, pf] g s1 := g1.up (fun k hk => by rw [List.mem_singleton.mp hk]; simp)
    have hg1 := hg.set hne hs1 w1 (g1 _ _ hg.2.2.2.2.2.2 (m1 (fun z => hne.1 z.symm)))
    -- what is left once the face and the next neighbour are known
    have fin : ∀ (w : Bool), (uG D < 3 → w = true) → j = pP (uG D) w t k → (∀ i, i < k → fr' (8 * c + i) = nI (uN D c (pP (uG D) w t i)) ∧ ff' (8 * c + i) = fV D c (pQ (uG D) w t i)) →
        ∀ s2 ff2, sf [pf] s1 s2 → s2 pf = some (eb_ia Γ 0 (8 * NP D 0) (upd ff' (8 * c + k) (fV D c (pQ (uG D) w t k)))) → ff2 = fV D c (pQ (uG D) w t k) → R (nI (uN D c (pP (uG D) w t (k + 1)))) ff2 (nI k + 1) s2 := by
      intro w hw ej hrow s2 ff2 g2 w2 e2
      rw [nI_1, e2]
      have hg2 := hg1.set hne (g2.up (fun k hk => by rw [List.mem_singleton.mp hk]; simp)) (g2 _ _ w1 (m1 hne.1)) w2
      refine hR _ _ _ _ ⟨k + 1, _, _, by omega, rfl, (hs.tr hs1).tr (g2.up (fun k hk => by rw [List.mem_singleton.mp hk]; simp)), hg2, fun x hx => ?_, Or.inr ⟨by omega, w, hw, rfl, rfl, fun i hi => ?_⟩⟩ ?_
      · rw [upd_ne (by omega), upd_ne (by omega)]; exact hout x hx
      · by_cases e : i = k
        · rw [e, upd_eq, upd_eq, hx2, ej]; exact ⟨rfl, rfl⟩
        · rw [upd_ne (by omega), upd_ne (by omega)]; exact hrow i (by omega)
      · rw [nI_cl (by omega), nI_cl (by omega)]; omega
    by_cases hso : 3 ≤ uG D
    · -- a solid body
      have hF0 : ¬ duN D = 0 := by have := (u_sol h3 hso hc hj).1; omega
      have eV : ∀ x, fV D c x = nI (uF D c x) := fun x => by unfold fV; rw [if_neg hF0]
      obtain ⟨j1, j2, j3, j4⟩ := u_sol h3 hso hc hj
      have hnx := nx_ne (uG D) (by omega) (by omega) j hj
      obtain ⟨i1, i2, i3, i4⟩ := u_sol h3 hso hc hnx.2.2.2
      refine ⟨st_cs hg1.1 (by simp), ?_⟩
      rw [hx2]
      -- the face that is found: on, or back
      have hface : ∀ f, f < duN D → FA D f c = true → FA D f (uN D c j) = true → ¬ nI f = x3 → ∃ w, (uG D < 3 → w = true) ∧ j = pP (uG D) w t k ∧ f = uF D c (pQ (uG D) w t k) ∧ ∀ i, i < k → fr' (8 * c + i) = nI (uN D c (pP (uG D) w t i)) ∧ ff' (8 * c + i) = fV D c (pQ (uG D) w t i) := by
        intro f hf hf1 hf2 hf3
        have hfj := (j3 f).mp ⟨hf1, hf2⟩
        rcases hor with ⟨z1, z2, z3⟩ | ⟨z1, w, hw, z2, z3, hrow⟩
        · subst z1
          have ejt : j = t := u_inj h3 hc hj ht ((nI_eq (by omega) (by have := u_nb h3 hc ht; omega)).mp (hx2.symm.trans z2))
          subst ejt
          rcases hfj with e | e
          · exact ⟨true, fun y => by omega, (pP_0 _ (by omega) _ hj true).symm, by rw [e, (pQ_t _ (by omega) _ hj 0 (by omega)).1, pP_0 _ (by omega) _ hj], fun i hi => absurd hi (Nat.not_lt_zero _)⟩
          · exact ⟨false, fun y => by omega, (pP_0 _ (by omega) _ hj false).symm, by rw [e, (pQ_f _ (by omega) _ hj 0 (by omega)).1, pP_0 _ (by omega) _ hj], fun i hi => absurd hi (Nat.not_lt_zero _)⟩
        · have ej : j = pP (uG D) w t k := u_inj h3 hc hj (pP_lt hd.1 w t k) ((nI_eq (by omega) (by have := u_nb h3 hc (pP_lt hd.1 w t k); omega)).mp (hx2.symm.trans z2))
          refine ⟨w, hw, ej, ?_, hrow⟩
          rw [z3, eV] at hf3
          cases w with
          | true =>
            have q := pQ_t (uG D) (by omega) t ht k (by omega)
            rcases hfj with e | e
            · rw [e, q.1, ej]
            · exact absurd (by rw [e, ej, q.2.1 z1]) hf3
          | false =>
            have q := pQ_f (uG D) (by omega) t ht k (by omega)
            rcases hfj with e | e
            · exact absurd (by rw [e, ← q.2.1 z1, ej]) hf3
            · rw [e, q.1, ej]
      refine sc_faceOf hg1 h3 hc hvN (fun f hf hf1 hf2 hf3 => ?_) (fun hno => ?_)
      · obtain ⟨w, hw, ej, ef, hrow⟩ := hface f hf hf1 hf2 hf3
        refine jp_1 (fun v => v = nI f) ?_ (fun k43 hk43 => ⟨fun z => absurd z (nI_m1 (by omega)), fun _ => hk43 _ rfl⟩)
        rintro _ rfl
        refine st_gr hg1.1 (v := some pf) rfl (st_nn (st_wi hg1.2.2.2.2.2.2 (by omega) (by omega) (fun s2 g2 w2 => ?_)))
        have hg2 := hg1.set hne (g2.up (fun k hk => by rw [List.mem_singleton.mp hk]; simp)) (g2 _ _ w1 (m1 hne.1)) w2
        have w2' : s2 pf = some (eb_ia Γ 0 (8 * NP D 0) (upd ff' (8 * c + k) (fV D c (pQ (uG D) w t k)))) := by rw [w2, ef, eV]
        have hgo := fin w hw ej hrow s2 (nI f) g2 w2' (by rw [ef, eV])
        refine jp_1 (fun v => v = nI (uN D c (pP (uG D) w t (k + 1)))) ?_ (fun k37 hk37 => ⟨fun z => absurd z (nI_m1 (by omega)), fun _ => ⟨st_cs hg2.1 (by simp), ?_⟩⟩)
        · rintro _ rfl
          refine jp_1 (fun v => v = nI (uN D c (pP (uG D) w t (k + 1)))) ?_ (fun k31 hk31 => ⟨fun z => absurd z (nI_m1 (by have := u_nb h3 hc (pP_lt hd.1 w t (k + 1)); omega)), fun _ => hk31 _ rfl⟩)
          rintro _ rfl
          exact hgo
        · -- the other neighbour in this face
          have hnb : ∀ d, jnd D c d = true ∧ FA D f d = true ↔ d = uN D c j ∨ d = uN D c (pP (uG D) w t (k + 1)) := by
            intro d
            rw [ef]
            cases w with
            | true =>
              have q := pQ_t (uG D) (by omega) t ht k (by omega)
              have ejq : j = pQ (uG D) true t k := by rw [ej, q.1]
              rw [← ejq, j4 d, ejq, q.2.2]
            | false =>
              have q := pQ_f (uG D) (by omega) t ht k (by omega)
              have ejq : prI (uG D) j = pQ (uG D) false t k := by rw [ej, q.1]
              rw [← ejq, i4 d, ejq, q.2.2.2, ← ej, q.2.2.1]
              exact ⟨Or.symm, Or.symm⟩
          have hpj : ¬ uN D c (pP (uG D) w t (k + 1)) = uN D c j := fun e => by
            have e' := u_inj h3 hc (pP_lt hd.1 w t (k + 1)) hj e
            cases w with
            | true =>
              have q := pQ_t (uG D) (by omega) t ht k (by omega)
              rw [← q.2.2, q.1, ← ej] at e'
              exact hnx.1 e'
            | false =>
              have q := pQ_f (uG D) (by omega) t ht k (by omega)
              rw [← q.2.2.1, q.1, ← ej] at e'
              exact hnx.2.1 e'
          refine sc_other hg2 h3 hc hvN hf (fun d hd' hdj hdv hdf => ?_) (fun hno => ?_)
          · rcases (hnb d).mp ⟨hdj, hdf⟩ with e | e
            · exact absurd e hdv
            · rw [e]; exact hk37 _ rfl
          · have q := (hnb (uN D c (pP (uG D) w t (k + 1)))).mpr (Or.inr rfl)
            exact absurd (hno _ q.1 q.2) hpj
      · -- some face is found
        exfalso
        have f1 := (j3 (uF D c j)).mpr (Or.inl rfl)
        have f2 := (j3 (uF D c (prI (uG D) j))).mpr (Or.inr rfl)
        have e1 := hno _ (FA_lt h3 f1.1).1 f1.1 f1.2
        have e2 := hno _ (FA_lt h3 f2.1).1 f2.1 f2.2
        have := (FA_lt h3 f1.1).1
        have := (FA_lt h3 f2.1).1
        exact j2 ((nI_eq (by omega) (by omega)).mp (e1.trans e2.symm))
    · have hwt : ∀ w : Bool, (uG D < 3 → w = true) → w = true := fun w h => h (by omega)
      -- as far as it is told which way
      have hon : j = pP (uG D) true t k ∧ (∀ i, i < k → fr' (8 * c + i) = nI (uN D c (pP (uG D) true t i)) ∧ ff' (8 * c + i) = fV D c (pQ (uG D) true t i)) ∧ (x3 = -1 ∨ (1 ≤ k ∧ x3 = fV D c (pQ (uG D) true t (k - 1)))) ∧ (k = 0 → x3 = -1) := by
        rcases hor with ⟨z1, z2, z3⟩ | ⟨z1, w, hw, z2, z3, hrow⟩
        · subst z1
          have ejt : j = t := u_inj h3 hc hj ht ((nI_eq (by omega) (by have := u_nb h3 hc ht; omega)).mp (hx2.symm.trans z2))
          exact ⟨by rw [ejt, pP_0 _ (by omega) _ ht], fun i hi => absurd hi (Nat.not_lt_zero _), Or.inl z3, fun _ => z3⟩
        · have ew := hwt w hw
          subst ew
          exact ⟨u_inj h3 hc hj (pP_lt hd.1 true t k) ((nI_eq (by omega) (by have := u_nb h3 hc (pP_lt hd.1 true t k); omega)).mp (hx2.symm.trans z2)), hrow, Or.inr ⟨z1, z3⟩, fun y => by omega⟩
      obtain ⟨ej, hrow, hx3, hx30⟩ := hon
      refine ⟨st_cs hg1.1 (by simp), ?_⟩
      rw [hx2]
      rcases u_flat h3 hso with ⟨d2, F1, hflat⟩ | ⟨d1, F0, hflat⟩
      · -- a polygon
        have eV : ∀ x, x < 2 → fV D c x = nI 0 := fun x hx => by unfold fV; rw [if_neg (by omega), (hflat c hc).2 x hx]
        have hfound : ∀ K2 : Int32 → Prop, K2 (nI 0) → MX12_faceOf Γ s1 q (nI c) (nI (uN D c j)) x3 (fun v21 => eb_jp1 K2 (fun k43 => eb_br (v21 = -1) (k43 x3) (k43 v21))) := by
          intro K2 hK2
          refine sc_faceOf hg1 h3 hc hvN (fun f hf hf1 hf2 hf3 => ?_) (fun hno => ?_)
          · have : f = 0 := by omega
            subst this
            exact jp_1 (fun v => v = nI 0) (fun v hv => by rw [hv]; exact hK2) (fun k43 hk43 => ⟨fun z => absurd z (nI_m1 (by omega)), fun _ => hk43 _ rfl⟩)
          · have e0 := hno 0 (by omega) (((hflat c hc).1 0).mpr rfl) (((hflat _ hvN).1 0).mpr rfl)
            exact jp_1 (fun v => v = nI 0) (fun v hv => by rw [hv]; exact hK2) (fun k43 hk43 => ⟨fun _ => hk43 _ e0.symm, fun z => absurd rfl z⟩)
        refine hfound _ ?_
        refine st_gr hg1.1 (v := some pf) rfl (st_nn (st_wi hg1.2.2.2.2.2.2 (by omega) (by omega) (fun s2 g2 w2 => ?_)))
        have hg2 := hg1.set hne (g2.up (fun k hk => by rw [List.mem_singleton.mp hk]; simp)) (g2 _ _ w1 (m1 hne.1)) w2
        have ek : fV D c (pQ (uG D) true t k) = nI 0 := eV _ (by have := pQ_lt hd.1 true t k; omega)
        have w2' : s2 pf = some (eb_ia Γ 0 (8 * NP D 0) (upd ff' (8 * c + k) (fV D c (pQ (uG D) true t k)))) := by rw [w2, ek]
        have hgo := fin true (fun _ => rfl) ej hrow s2 (nI 0) g2 w2' ek.symm
        refine jp_1 (fun v => v = nI (uN D c (pP (uG D) true t (k + 1)))) ?_ (fun k37 hk37 => ⟨fun z => absurd z (nI_m1 (by omega)), fun _ => ⟨st_cs hg2.1 (by simp), ?_⟩⟩)
        · rintro _ rfl
          refine jp_1 (fun v => v = nI (uN D c (pP (uG D) true t (k + 1)))) ?_ (fun k31 hk31 => ⟨fun z => absurd z (nI_m1 (by have := u_nb h3 hc (pP_lt hd.1 true t (k + 1)); omega)), fun _ => hk31 _ rfl⟩)
          rintro _ rfl
          exact hgo
        · refine sc_other (f := 0) hg2 h3 hc hvN (by omega) (fun d hd' hdj hdv hdf => ?_) (fun hno => ?_)
          · obtain ⟨i, hi, hid⟩ := (u_jnd h3 hc).mp hdj
            have : i = pP (uG D) true t (k + 1) := by
              rw [d2]
              rw [d2] at hi ht
              refine pP_2 t ht k (by omega) i hi (fun e => hdv ?_)
              rw [← hid, e, ej, d2]
            rw [← hid, this]
            exact hk37 _ rfl
          · have hlt := pP_lt hd.1 true t (k + 1)
            have e := hno (uN D c (pP (uG D) true t (k + 1))) ((u_jnd h3 hc).mpr ⟨_, hlt, rfl⟩) (((hflat _ (u_nb h3 hc hlt)).1 0).mpr rfl)
            have e' := u_inj h3 hc hlt hj e
            have hnx := nx_ne (uG D) (by omega) (by omega) j hj
            have q := pQ_t (uG D) (by omega) t ht k (by omega)
            rw [← q.2.2, q.1, ← ej] at e'
            exact absurd e' hnx.1
      · -- an edge alone
        have eV : ∀ x, fV D c x = -1 := fun x => by unfold fV; rw [if_pos F0]
        have hk0 : k = 0 := by omega
        have hx3' : x3 = -1 := hx30 hk0
        refine sc_faceOf hg1 h3 hc hvN (fun f hf => absurd hf (by omega)) (fun hno => ?_)
        refine jp_1 (fun v => v = -1) ?_ (fun k43 hk43 => ⟨fun _ => hk43 _ hx3', fun z => absurd rfl z⟩)
        rintro _ rfl
        refine st_gr hg1.1 (v := some pf) rfl (st_nn (st_wi hg1.2.2.2.2.2.2 (by omega) (by omega) (fun s2 g2 w2 => ?_)))
        have hg2 := hg1.set hne (g2.up (fun k hk => by rw [List.mem_singleton.mp hk]; simp)) (g2 _ _ w1 (m1 hne.1)) w2
        have w2' : s2 pf = some (eb_ia Γ 0 (8 * NP D 0) (upd ff' (8 * c + k) (fV D c (pQ (uG D) true t k)))) := by rw [w2, eV]
        have hgo := fin true (fun _ => rfl) ej hrow s2 (-1) g2 w2' (eV _).symm
        refine jp_1 (fun v => v = -1) ?_ (fun k37 hk37 => ⟨fun _ => hk37 _ rfl, fun z => absurd rfl z⟩)
        rintro _ rfl
        refine jp_1 (fun v => v = nI (uN D c (pP (uG D) true t (k + 1)))) ?_ (fun k31 hk31 => ⟨fun _ => ⟨st_cs hg2.1 (by simp), sc_neighbour (i := 0) hg2 h3 hc (by omega) (hk31 _ ?_)⟩, fun z => absurd rfl z⟩)
        · rintro _ rfl
          exact hgo
        · rw [hk0, Nat.add_zero, upd_eq, hx2, ej, hk0]
          have := pP_lt hd.1 true t 0
          have := pP_lt hd.1 true t (0 + 1)
          rw [show pP (uG D) true t 0 = pP (uG D) true t (0 + 1) by omega]
end GR
