set_option maxRecDepth 100000
/-- a snub that was made: a net of halves -/
def snE (Γ : eb_C) (I : Nat → va_E → Prop) (p n : Nat) (D : eb_D) : Prop :=
  D.1 = 3 ∧ ¬ ZD D = 0 ∧ ∃ (pj pm pc : Nat) (fj fm : Nat → Int32), I n (.inr (13, [.int (nI (ZD D / 2)), .int (nI 8), .ref pj, .ref pm, .ref p, .ref pc])) ∧ I pj (eb_ia Γ 0 (ZD D / 2 * 8) fj) ∧ I pm (eb_ia Γ 0 (ZD D / 2) fm) ∧ nB 8 (ZD D / 2) (snA D) fj fm ∧ ¬ pj = pm
theorem snE.mono {Γ : eb_C} {I I' : Nat → va_E → Prop} {p n : Nat} {D : eb_D} (h : snE Γ I p n D) (hI : ∀ a y, I a y → I' a y) : snE Γ I' p n D := by
  obtain ⟨h1, h2, pj, pm, pc, fj, fm, h3, h4, h5, h6⟩ := h
  exact ⟨h1, h2, pj, pm, pc, fj, fm, hI _ _ h3, hI _ _ h4, hI _ _ h5, h6⟩
theorem snA_same {D D' : eb_D} (h : sameA D D') : snA D = snA D' := by
  funext c d
  refine Bool_ext ?_
  rw [snA_iff, snA_iff]
  unfold snP hn evn
  rw [h.T.1, h.T.2]
theorem snE.same {Γ : eb_C} {I : Nat → va_E → Prop} {p n : Nat} {D D' : eb_D} (hs : sameA D D') (h : snE Γ I p n D) : snE Γ I p n D' := by
  unfold snE at h ⊢
  rw [← snA_same hs, ← hs.T.2, ← hs.1]
  exact h
def oZ : Option Nat → Int32
  | none => 0
  | some x => nI x
section CS2
variable {Γ : eb_C} {E : cET} {st st' : eb_S} {I I' : Nat → va_E → Prop} {ad : Nat → Nat} {bd : Nat → cBT} {x : cXT} {Ds : Nat → eb_D} {p bc bs : Nat}
theorem snE.C {q n : Nat} {D : eb_D} (h : snE Γ I q n D) (hv : vD D) (hI : ∀ a y, I a y → st a = some y) : ∃ pj pm pc fj fm, nC Γ st 13 n pj pm 8 (ZD D / 2) [.ref q, .ref pc] (snA D) fj fm := by
  obtain ⟨h1, h2, pj, pm, pc, fj, fm, h3, h4, h5, h6, h7⟩ := h
  have := ZD_le hv
  exact ⟨pj, pm, pc, fj, fm, Or.inr (Or.inr rfl), hI _ _ h3, hI _ _ h4, hI _ _ h5, h6, by omega, h7, by omega⟩
theorem sc_whyH {a v : Int32} {K : Int32 → eb_S → Prop} (hE : cEm E) (h : cV Γ E st I ad bd x Ds) (hp : ad 16 = p) (hroom : (∀ b, b < 4 → a = nI b → (bd b).1.2.2 = 1) ∨ (22 ≤ bc ∧ 13660 ≤ bs)) (h2 : ¬ (0 ≤ a ∧ a ≤ 3) ∨ v = 0 → K (-2) st)
    (h5 : ∀ b, b < 4 → a = nI b → ¬ v = 0 → ZD (Ds b) = 0 → ∀ st' I' bd', cV Γ E st' I' ad bd' x Ds → K (-5) st') (h3 : ∀ b, b < 4 → a = nI b → ¬ v = 0 → ¬ ZD (Ds b) = 0 → ¬ (Ds b).1 = 3 → ∀ st' I' bd', cV Γ E st' I' ad bd' x Ds → K (-3) st')
    (h1 : ∀ b, b < 4 → a = nI b → ¬ v = 0 → ¬ ZD (Ds b) = 0 → (Ds b).1 = 3 → ∀ st' I' bd' g, cV Γ E st' I' ad bd' x Ds → (bd' b).1.2.2 = 1 → (bd' b).2.1.1 = some g → cGr Γ I' g (TD (Ds b)) → K 1 st') : MX0_whyHull Γ bc bs st p a v K := by
  subst hp
  unfold MX0_whyHull
  refine ⟨h.cs0, bc, bs, ⟨by omega, by omega⟩, ?_⟩
  refine sc_why hE h rfl hroom (fun z => ⟨fun y => absurd y (by decide), fun _ => h2 z⟩) (fun b hb hab hv hz s I' bd' hV => ⟨fun y => absurd y (by decide), fun _ => h5 b hb hab hv hz s I' bd' hV⟩) (fun b hb hab hv hz s I' bd' g hV hk hg hC => ⟨fun _ => ?_, fun y => absurd rfl y⟩)
  rw [hab]
  have hr := (hV.v hb).1
  refine hV.at hb ((hV.body hb).r (br_eq (b := 3) (by omega) (by omega) (fun e => h1 b hb hab hv hz e s I' bd' g hV hk hg hC) (fun e => h3 b hb hab hv hz e s I' bd' hV)))
theorem sc_isHC {a g : Int32} {K : Int32 → eb_S → Prop} (hE : cEm E) (h : cV Γ E st I ad bd x Ds) (hp : ad 16 = p) (hroom : (∀ b, b < 4 → a = nI b → (bd b).1.2.2 = 1) ∨ (22 ≤ bc ∧ 13660 ≤ bs)) (h0 : ¬ (0 ≤ a ∧ a ≤ 3) ∨ ¬ 0 ≤ g → K 0 st)
    (hz : ∀ b, b < 4 → a = nI b → 0 ≤ g → (ZD (Ds b) = 0 ∨ ¬ (Ds b).1 = 3) → ∀ st' I' bd', cV Γ E st' I' ad bd' x Ds → (bd' b).1.2.2 = 1 → K 1 st')
    (h1 : ∀ b y, b < 4 → a = nI b → g = nI y → y < 2147483648 → ¬ ZD (Ds b) = 0 → (Ds b).1 = 3 → ∀ st' I' bd', cV Γ E st' I' ad bd' x Ds → (bd' b).1.2.2 = 1 → K (nI (b1 (Nat.blt y (ZD (Ds b) / 2)))) st') : MX0_isHalfCorner Γ bc bs st p a g K := by
  subst hp
  unfold MX0_isHalfCorner
  refine sc_isBody (fun hbd => ?_) (fun hbd => ⟨fun _ => h0 (Or.inl hbd), fun z => absurd rfl z⟩)
  obtain ⟨b, hb, rfl⟩ : ∃ b : Nat, b < 4 ∧ a = nI b := (body_or a).resolve_right (fun z => z hbd)
  refine ⟨fun z => absurd z (by decide), fun _ => ⟨fun hg => h0 (Or.inr (fun z => Int32.not_lt.mpr z hg)), fun hg => ?_⟩⟩
  obtain ⟨y, hy, rfl⟩ := nI_of hg
  refine h.at hb ⟨(h.body hb).cs, bc, bs, ⟨by omega, by omega⟩, ?_⟩
  refine sc_grp2 hE h hb (hroom.imp (fun z => z b hb rfl) id) (fun st' I' bd' hV hk => ?_)
  have q := hV.grp hb hk
  have hr := (hV.v hb).1
  by_cases hzz : ZD (Ds b) = 0
  · rw [q.1 hzz]
    exact ⟨fun _ => hz b hb rfl (Int32.not_lt.mp hg) (Or.inl hzz) st' I' bd' hV hk, fun _ z => absurd z (by simp)⟩
  · obtain ⟨gp, g1, g2⟩ := q.2 hzz
    rw [g1]
    refine ⟨fun z => absurd z (by simp), fun _ _ => ?_⟩
    refine hV.at hb ((hV.body hb).r (br_eq (b := 3) (by omega) (by omega) (fun e3 => ?_) (fun e3 => hz b hb rfl (Int32.not_lt.mp hg) (Or.inr e3) st' I' bd' hV hk)))
    refine hV.at hb ⟨(hV.body hb).cs, 0, 0, ⟨by omega, by omega⟩, ?_⟩
    refine sc_grp1 hV hb hk ?_
    rw [g1]
    refine st_nn (g2.n hV.fz ?_)
    obtain ⟨hG, he1, he2, he3⟩ := TD_ok (hV.v hb) hzz
    have hzl := ZD_le (hV.v hb)
    rw [he3, show nI (ZD (Ds b)) / 2 = nI (ZD (Ds b) / 2) from nI_div (by omega) (by omega : (2 : Nat) < 2147483648)]
    have hK := h1 b y hb rfl rfl hy hzz e3 st' I' bd' hV hk
    refine br_le (by omega) hy (fun h2 => ?_) (fun h2 => ?_)
    · rw [nlF (by omega)] at hK; exact hK
    · rw [nlT (by omega)] at hK; exact hK
theorem sc_snubOf {b : Nat} {K : Option Nat → eb_S → Prop} (hE : cEm E) (hS : ∀ I p n D, E.2.1 I p n D ↔ snE Γ I p n D) (h : cV Γ E st I ad bd x Ds) (hp : ad 16 = p) (hb : b < 4) (hk : (bd b).1.2.2 = 1) (hz : ¬ ZD (Ds b) = 0) (h3 : (Ds b).1 = 3) (hbc : 4 ≤ bc) (hbs : 666 ≤ bs)
    (hK : ∀ st' I' bd' n, cV Γ E st' I' ad bd' x Ds → (bd' b).1.2.2 = 1 → snE Γ I' (ad (4 * b)) n (Ds b) → K (some n) st') : MX0_snubOf Γ bc bs st p (nI b) K := by
  subst hp
  have hv := h.v hb
  obtain ⟨gp, g1, g2⟩ := (h.grp hb hk).2 hz
  have c0 := h.1.1 b 0 hb (by omega)
  rw [Nat.add_zero] at c0
  unfold MX0_snubOf
  refine h.at hb (st_gr c0 (v := (bd b).2.1.2.2) rfl ?_)
  refine jp_3 (fun g _ _ => ∃ I' bd' n, cV Γ E g I' ad bd' x Ds ∧ (bd' b).1.2.2 = 1 ∧ (bd' b).2.1.2.2 = some n ∧ snE Γ I' (ad (4 * b)) n (Ds b)) ?_ ?_
  · rintro g _ _ ⟨I', bd', n, hV, hk', hn, hs⟩
    have c0' := hV.1.1 b 0 hb (by omega)
    rw [Nat.add_zero] at c0'
    refine hV.at hb (st_gr c0' (v := (bd' b).2.1.2.2) rfl ?_)
    rw [hn]
    exact hK g I' bd' n hV hk' hs
  · intro k14 hk14
    refine ⟨fun hnone => ?_, fun n hn => hk14 _ _ _ ⟨I, bd, n, h, hk, hn, (hS _ _ _ _).mp ((h.2.2.1 b hb).2.2.2.2.2 n hn)⟩⟩
    refine st_gr (h.1.2.1 0 (by omega)) (v := some (ad 17)) rfl (st_nn (st_lr (h.1.2.1 1 (by omega)) hb (by omega) ?_))
    rw [wR_b hb]
    refine st_mk (by omega) (by omega) (fun q s1 f1 gs1 w1 => ?_)
    have hV1 := h.keep (I' := I) hE gs1 (W := []) (fun w hw => absurd hw List.not_mem_nil) (fun _ _ z => z) (fun _ _ z => Or.inl z)
    have qI : ∀ y, ¬ I q y := fun y hy => by have := h.fz _ _ hy; rw [f1] at this; exact absurd this (by simp)
    have qad : ∀ i, i < 19 → ¬ q = ad i := fun i hi e => by
      obtain ⟨y, hy⟩ := h.1.known hi
      rw [← e, f1] at hy
      exact absurd hy (by simp)
    refine hV1.at hb ⟨3, 660, ⟨by omega, by omega⟩, sc_snubinit (a := fun j => ad (4 * b + j)) (hV1.X hb hz g1 g2) h3 w1 qI (fun j hj => qad _ (by omega)) (Nat.le_refl _) (Nat.le_refl _) (fun s2 pj pm pc fj fm fc gs2 fj0 fm0 fc0 hC wc => st_nn ?_)⟩
    have h12 : sf [q] st s2 := (gs1.up (fun _ z => absurd z List.not_mem_nil)).tr gs2
    have nn : ∀ {c : Nat}, s1 c = none → st c = none := fun {c} hc => by
      cases hh : st c with
      | none => rfl
      | some y => have := gs1 _ _ hh List.not_mem_nil; rw [hc] at this; exact absurd this (by simp)
    have hV2 : cV Γ E s2 (fun a y => I a y ∨ (s2 a = some y ∧ (a = q ∨ a = pj ∨ a = pm))) ad bd x Ds := h.keep hE h12 (fun w hw => by rw [List.mem_singleton.mp hw]; exact f1) (fun _ _ z => Or.inl z) (fun a y hy => hy.imp id (fun ⟨z1, z2⟩ => ⟨z1, by
      rcases z2 with rfl | rfl | rfl
      · exact f1
      · exact nn fj0
      · exact nn fm0⟩))
    generalize hI2 : (fun a y => I a y ∨ (s2 a = some y ∧ (a = q ∨ a = pj ∨ a = pm))) = I2 at hV2
    have hsn : snE Γ I2 (ad (4 * b)) q (Ds b) := by
      rw [← hI2]
      exact ⟨h3, hz, pj, pm, pc, fj, fm, Or.inr ⟨hC.2.1, Or.inl rfl⟩, Or.inr ⟨hC.2.2.1, Or.inr (Or.inl rfl)⟩, Or.inr ⟨hC.2.2.2.1, Or.inr (Or.inr rfl)⟩, hC.2.2.2.2.1, hC.2.2.2.2.2.2.1⟩
    have d0 := hV2.1.1 b 0 hb (by omega)
    rw [Nat.add_zero] at d0
    refine st_pt d0 (by simp) (fun s3 gs3 w3 => ?_)
    obtain ⟨q1, q2, q3, q4, q5, q6⟩ := hV2.2.2.1 b hb
    have hV3 := hV2.setD (d := ((bd b).1, ((bd b).2.1.1, (bd b).2.1.2.1, some q), (bd b).2.2)) (W := [ad (4 * b)]) hb (fun w hw => ⟨0, by omega, List.mem_singleton.mp hw⟩) gs3 (fun j hj => ?_) (Ds b) ⟨q1, q2, q3, q4, q5, fun n hn => ?_⟩ (fun g hg => ⟨hg, sameA.rf _⟩)
    · rw [updD_same] at hV3
      exact hk14 _ _ _ ⟨I2, _, q, hV3, by rw [upB_eq]; exact hk, by rw [upB_eq], hsn⟩
    · match j, hj with
      | 0, _ => exact w3
      | 1, _ => exact gs3 _ _ (hV2.1.1 b 1 hb (by omega)) (fun z => by have := hV2.1.2.2 _ _ (by omega) (by omega) (List.mem_singleton.mp z); omega)
      | 2, _ => exact gs3 _ _ (hV2.1.1 b 2 hb (by omega)) (fun z => by have := hV2.1.2.2 _ _ (by omega) (by omega) (List.mem_singleton.mp z); omega)
      | 3, _ => exact gs3 _ _ (hV2.1.1 b 3 hb (by omega)) (fun z => by have := hV2.1.2.2 _ _ (by omega) (by omega) (List.mem_singleton.mp z); omega)
    · have e : some q = some n := hn
      injection e with e
      rw [← e]
      exact (hS _ _ _ _).mpr hsn
theorem br_oZ {s : Option Nat} {m : Nat} {A B : Prop} (hm : m < 2147483648) (hs : ∀ x, s = some x → x < 2147483648 ∧ 1 ≤ x) (h1 : or s.isNone (isO s m) = true → A) (h2 : or s.isNone (isO s m) = false → B) : eb_br (oZ s = 0) A (eb_br (oZ s = nI m) A B) := by
  cases s with
  | none => exact ⟨fun _ => h1 rfl, fun z => absurd rfl z⟩
  | some x =>
    have q := hs x rfl
    refine ⟨fun z => ?_, fun _ => br_eq q.1 hm (fun e => h1 ?_) (fun e => h2 ?_)⟩
    · have := (nI_eq (a := x) (b := 0) q.1 (by omega)).mp z
      omega
    · show isO (some x) m = true
      exact nbT e
    · show isO (some x) m = false
      exact nbF e
/-- the faces of a snub -/
theorem sc_sfaces {b n : Nat} {s : Option Nat} {K : Int32 → Prop} (h : cV Γ E st I ad bd x Ds) (hb : b < 4) (hk : (bd b).1.2.2 = 1) (hn : snE Γ I (ad (4 * b)) n (Ds b)) (hs : ∀ x, s = some x → x < 2147483648 ∧ 1 ≤ x) (hK : K (nI (snI (Ds b) s 3))) : MX14_faces Γ st n (oZ s) K := by
  have hv := h.v hb
  have hz := hn.2.1
  have hzl := ZD_le hv
  obtain ⟨gp, g1, g2⟩ := (h.grp hb hk).2 hz
  obtain ⟨hG, he1, he2, he3⟩ := TD_ok hv hz
  obtain ⟨pj, pm, pc, fj, fm, hC⟩ := hn.C hv h.fz
  have c0 := h.1.1 b 0 hb (by omega)
  rw [Nat.add_zero] at c0
  have hB := h.body hb
  unfold MX14_faces
  refine jp_1 (fun v => v = nI (snI (Ds b) s 0)) ?_ (fun k25 hk25 => ?_)
  · rintro _ rfl
    refine eb_loop2_i (fun x y => ∃ i, i ≤ 3 ∧ x = nI (snI (Ds b) s i) ∧ y = nI i) (fun _ y => 10 - y.toNatClampNeg) ?_ ⟨0, by omega, rfl, rfl⟩
    rintro R _ _ ⟨i, hi, rfl, rfl⟩ hR
    refine br_le (a := 3) (by omega) (by omega) (fun h1 => ?_) (fun h1 => ?_)
    · rw [show i = 3 by omega]; exact hK
    · refine jp_1 (fun v => v = nI (snI (Ds b) s (i + 1))) ?_ (fun k6 hk6 => ?_)
      · rintro _ rfl
        rw [nI_1]
        refine hR _ _ ⟨i + 1, by omega, rfl, rfl⟩ ?_
        rw [nI_cl (by omega), nI_cl (by omega)]; omega
      · rw [nI_1]
        refine eb_loop2_i (fun x y => ∃ j, i + 1 ≤ j ∧ j ≤ 3 ∧ x = nI (snI (Ds b) s i + snJ (Ds b) s i j) ∧ y = nI j) (fun _ y => 10 - y.toNatClampNeg) ?_ ⟨i + 1, by omega, by omega, by rw [snJ_0 _ _ _ _ (Nat.le_refl _)]; rfl, rfl⟩
        rintro R' _ _ ⟨j, hj1, hj2, rfl, rfl⟩ hR'
        refine br_le (a := 3) (by omega) (by omega) (fun h2 => hk6 _ ?_) (fun h2 => ?_)
        · rw [show j = 3 by omega]; rfl
        · refine st_gr hC.2.1 (v := some (ad (4 * b))) rfl (st_nn ⟨hB.cs, sc_angle hB (by omega) (by omega) ?_⟩)
          have qa := hv.2.2 i j (by omega) (by omega)
          generalize hm : (Ds b).2.1 (4 * i + j) = m at qa ⊢
          have eT : snT (Ds b) s i j = cond (and (Nat.blt 2 m) (or s.isNone (isO s m))) (ZD (Ds b) / 2 / m) 0 := by unfold snT; rw [hm]
          refine jp_1 (fun v => v = nI (snT (Ds b) s i j)) ?_ ?_
          · rintro _ rfl
            rw [nI_add, nI_1]
            refine hR' _ _ ⟨j + 1, by omega, by omega, ?_, rfl⟩ ?_
            · show _ = nI (snI (Ds b) s i + (snJ (Ds b) s i j + cond (Nat.blt i j) (snT (Ds b) s i j) 0))
              rw [nlT (by omega : i < j), Nat.add_assoc]; rfl
            · rw [nI_cl (by omega), nI_cl (by omega)]; omega
          · intro k2 hk2
            refine br_le (b := 2) (by omega) (by omega) (fun h3 => hk2 _ ?_) (fun h3 => ?_)
            · rw [eT, nlF (by omega)]; rfl
            · rw [nlT (by omega), Bool.true_and] at eT
              refine jp_0 (or s.isNone (isO s m) = true) (fun ho => st_gi hC.2.1 rfl ⟨?_, hk2 _ ?_⟩) (fun k3 hk3 => br_oZ (by omega) hs (fun e => hk3 e) (fun e => hk2 _ ?_))
              · intro z
                have := (nI_eq (b := 0) (by omega) (by omega)).mp z
                omega
              · rw [eT, ho, nI_div (by omega) (by omega)]; rfl
              · rw [eT, e]; rfl
  · refine jp_0 (or s.isNone (isO s 3) = true) (fun ho => ?_) (fun k3 hk3 => br_oZ (m := 3) (by omega) hs (fun e => hk3 e) (fun e => hk25 _ ?_))
    · refine st_gr hC.2.1 (v := some (ad (4 * b))) rfl (st_nn (st_gr c0 (v := some gp) (by rw [← g1]; rfl) (st_nn (g2.n h.fz (hk25 _ ?_)))))
      rw [he3, show nI (ZD (Ds b)) / 2 = nI (ZD (Ds b) / 2) from nI_div (by omega) (by omega : (2 : Nat) < 2147483648)]
      show _ = nI (cond (or s.isNone (isO s 3)) (ZD (Ds b) / 2) 0)
      rw [ho]; rfl
    · show _ = nI (cond (or s.isNone (isO s 3)) (ZD (Ds b) / 2) 0)
      rw [e]; rfl
/-- why a body of three mirrors is looked at -/
theorem sc_wh3 {a v : Int32} {f : Nat → Int32} {K : Int32 → eb_S → Prop} {F : Nat → Nat → eb_S → Prop} (hE : cEm E) (hW : cW Γ E st p Ds) (hbc : 22 ≤ bc) (hbs : 13660 ≤ bs) (hv : ¬ v = 0) (hK : ∀ st', cW Γ E st' p Ds → K (gat3 Ds a f) st')
    (h1 : ∀ b, b < 4 → a = nI b → ¬ ZD (Ds b) = 0 → (Ds b).1 = 3 → ∀ st' I' ad bd' x q, ad 16 = p → cV Γ E st' I' ad bd' x Ds → (bd' b).1.2.2 = 1 → (bd' b).2.1.1 = some q → cGr Γ I' q (TD (Ds b)) → (∀ st', cW Γ E st' p Ds → K (f b) st') → F 22 13660 st') :
    eb_cs st p [0] ∧ ∃ c3 s4 : Nat, (0 + c3 ≤ bc ∧ 0 + s4 ≤ bs) ∧ MX0_whyHull Γ c3 s4 st p a v (fun v1 g2 => eb_br (v1 = 1) (F c3 s4 g2) (K v1 g2)) := by
  obtain ⟨I, ad, bd, x, hp, h⟩ := hW
  have hp' := hp
  subst hp'
  refine ⟨h.cs0, 22, 13660, ⟨by omega, by omega⟩, ?_⟩
  refine sc_whyH hE h rfl (Or.inr ⟨Nat.le_refl _, Nat.le_refl _⟩) (fun hno => ⟨fun z => absurd z (by decide), fun _ => ?_⟩) (fun b hb hab _ hz st' I' bd' hV => ⟨fun z => absurd z (by decide), fun _ => ?_⟩) (fun b hb hab _ hz h3 st' I' bd' hV => ⟨fun z => absurd z (by decide), fun _ => ?_⟩) (fun b hb hab _ hz h3 st' I' bd' q hV hk hq hC => ⟨fun _ => ?_, fun z => absurd rfl z⟩)
  · have := hK st (h.W rfl)
    rcases hno with z | z
    · rw [gat3_no z] at this; exact this
    · exact absurd z hv
  · have := hK st' (hV.W rfl)
    rw [hab, gat3_z hb hz] at this
    exact this
  · have := hK st' (hV.W rfl)
    rw [hab, gat3_3 hb hz h3] at this
    exact this
  · refine h1 b hb hab hz h3 st' I' ad bd' x q rfl hV hk hq hC (fun s hs => ?_)
    have := hK s hs
    rw [hab, gat3_f hb hz h3] at this
    exact this
/-- refused -/
theorem sc_whyH0 {a : Int32} {K : Int32 → eb_S → Prop} (hcs : eb_cs st p [0]) (hK : K (-2) st) : MX0_whyHull Γ bc bs st p a 0 K := by
  unfold MX0_whyHull
  exact ⟨hcs, 0, 0, ⟨by omega, by omega⟩, sc_why0 ⟨fun z => absurd z (by decide), fun _ => hK⟩⟩
theorem cW_snub {a w : Int32} {K : Int32 → eb_S → Prop} (hE : cEm E) (hS : ∀ I p n D, E.2.1 I p n D ↔ snE Γ I p n D) (hW : cW Γ E st p Ds) (hbc : 26 ≤ bc) (hbs : 14326 ≤ bs) (hK : ∀ s, cW Γ E s p Ds → K (aSnub Ds a w) s) : MX0_snub Γ bc bs st p a w K := by
  unfold MX0_snub
  unfold aSnub at hK
  refine sc_in (fun hw => ?_) (fun hw => ?_)
  · rw [if_pos hw] at hK
    refine sc_wh3 hE hW (by omega) (by omega) (by decide) hK (fun b hb hab hz h3 st' I' ad bd' x q hp hV hk hq hC hK' => ?_)
    subst hp
    rw [hab]
    refine ⟨hV.cs0, 4, 666, ⟨by omega, by omega⟩, sc_snubOf hE hS hV rfl hb hk hz h3 (Nat.le_refl _) (Nat.le_refl _) (fun s2 I2 bd2 n hV2 hk2 hn => ?_)⟩
    have := hK' s2 (hV2.W rfl)
    unfold snN at this
    have hzl := ZD_le (hV.v hb)
    obtain ⟨pj, pm, pc, fj, fm, hN⟩ := hn.C (hV.v hb) hV2.fz
    refine ⟨fun e => st_nn (st_gi hN.2.1 rfl ?_), fun e => ⟨fun e1 => st_nn ⟨st_cs hN.2.1 (by simp), ?_⟩, fun e1 => st_nn ⟨st_cs hN.2.1 (by simp), ?_⟩⟩⟩
    · rw [if_pos e] at this; exact this
    · rw [if_neg e, if_pos e1] at this
      exact sc_nall hN (by omega) (by omega) snA_sy (snA_irr (hV.v hb) hz h3) this
    · rw [if_neg e, if_neg e1] at this
      exact sc_sfaces (s := none) hV2 hb hk2 hn (fun x z => by simp at z) this
  · rw [if_neg hw] at hK
    obtain ⟨I, ad, bd, x, hp, h⟩ := hW
    subst hp
    exact ⟨h.cs0, 0, 0, ⟨by omega, by omega⟩, sc_whyH0 h.cs0 ⟨fun z => absurd z (by decide), fun _ => hK _ (h.W rfl)⟩⟩
theorem cW_snubLaw {a : Int32} {K : Int32 → eb_S → Prop} (hE : cEm E) (hS : ∀ I p n D, E.2.1 I p n D ↔ snE Γ I p n D) (hW : cW Γ E st p Ds) (hbc : 26 ≤ bc) (hbs : 14326 ≤ bs) (hK : ∀ s, cW Γ E s p Ds → K (aSnubLaw Ds a) s) : MX0_snubLaw Γ bc bs st p a K := by
  unfold MX0_snubLaw
  unfold aSnubLaw at hK
  refine sc_wh3 hE hW (by omega) (by omega) (by decide) hK (fun b hb hab hz h3 st' I' ad bd' x q hp hV hk hq hC hK' => ?_)
  subst hp
  rw [hab]
  refine ⟨hV.cs0, 4, 666, ⟨by omega, by omega⟩, sc_snubOf hE hS hV rfl hb hk hz h3 (Nat.le_refl _) (Nat.le_refl _) (fun s2 I2 bd2 n hV2 hk2 hn => ?_)⟩
  have hzl := ZD_le (hV.v hb)
  obtain ⟨pj, pm, pc, fj, fm, hN⟩ := hn.C (hV.v hb) hV2.fz
  exact st_nn (st_gi hN.2.1 rfl ⟨st_cs hN.2.1 (by simp), sc_nall hN (by omega) (by omega) snA_sy (snA_irr (hV.v hb) hz h3) ⟨st_cs hN.2.1 (by simp), sc_sfaces (s := none) hV2 hb hk2 hn (fun x z => by simp at z) (hK' s2 (hV2.W rfl))⟩⟩)
theorem cW_snubFaces {a c : Int32} {K : Int32 → eb_S → Prop} (hE : cEm E) (hS : ∀ I p n D, E.2.1 I p n D ↔ snE Γ I p n D) (hW : cW Γ E st p Ds) (hbc : 26 ≤ bc) (hbs : 14326 ≤ bs) (hK : ∀ s, cW Γ E s p Ds → K (aSnubFaces Ds a c) s) : MX0_snubFaces Γ bc bs st p a c K := by
  unfold MX0_snubFaces
  unfold aSnubFaces at hK
  refine jp_1 (fun s => s = if 2 ≤ c then (1 : Int32) else 0) ?_ (fun k hk => ⟨fun z => hk _ (by rw [if_neg (fun y => Int32.not_lt.mpr y z)]), fun z => hk _ (by rw [if_pos (Int32.not_lt.mp z)])⟩)
  rintro _ rfl
  by_cases hc : 2 ≤ c
  · rw [if_pos hc] at hK ⊢
    obtain ⟨y, hy, rfl⟩ := nI_of (Int32.not_lt.mpr (Int32.le_trans (by decide : (0 : Int32) ≤ 2) hc))
    have y2 : 2 ≤ y := (nI_leI (by omega : (2 : Nat) < 2147483648) hy).mp hc
    rw [nI_cl hy] at hK
    refine sc_wh3 hE hW (by omega) (by omega) (by decide) hK (fun b hb hab hz h3 st' I' ad bd' x q hp hV hk hq hC hK' => ?_)
    subst hp
    rw [hab]
    refine ⟨hV.cs0, 4, 666, ⟨by omega, by omega⟩, sc_snubOf hE hS hV rfl hb hk hz h3 (Nat.le_refl _) (Nat.le_refl _) (fun s2 I2 bd2 n hV2 hk2 hn => ?_)⟩
    obtain ⟨pj, pm, pc, fj, fm, hN⟩ := hn.C (hV.v hb) hV2.fz
    exact st_nn ⟨st_cs hN.2.1 (by simp), sc_sfaces (s := some y) hV2 hb hk2 hn (fun x z => by injection z with z; omega) (hK' s2 (hV2.W rfl))⟩
  · rw [if_neg hc] at hK ⊢
    obtain ⟨I, ad, bd, x, hp, h⟩ := hW
    subst hp
    exact ⟨h.cs0, 0, 0, ⟨by omega, by omega⟩, sc_whyH0 h.cs0 ⟨fun z => absurd z (by decide), fun _ => hK _ (h.W rfl)⟩⟩
theorem cW_snubDegree {a c : Int32} {K : Int32 → eb_S → Prop} (hE : cEm E) (hS : ∀ I p n D, E.2.1 I p n D ↔ snE Γ I p n D) (hW : cW Γ E st p Ds) (hbc : 26 ≤ bc) (hbs : 14326 ≤ bs) (hK : ∀ s, cW Γ E s p Ds → K (aSnubDegree Ds a c) s) : MX0_snubDegree Γ bc bs st p a c K := by
  obtain ⟨I, ad, bd, x, hp, h⟩ := hW
  subst hp
  unfold MX0_snubDegree
  unfold aSnubDegree at hK
  refine ⟨h.cs0, 22, 13660, ⟨by omega, by omega⟩, ?_⟩
  refine sc_isHC hE h rfl (Or.inr ⟨Nat.le_refl _, Nat.le_refl _⟩) (fun hno => ?_) (fun b hb hab hc hz st' I' bd' hV hk => ?_) (fun b y hb hab hcy hy hz h3 st' I' bd' hV hk => ?_)
  · refine ⟨h.cs0, 0, 0, ⟨by omega, by omega⟩, sc_whyH0 h.cs0 ⟨fun z => absurd z (by decide), fun _ => ?_⟩⟩
    have := hK st (h.W rfl)
    rcases hno with z | z
    · rw [gat3_no z, ite_self] at this; exact this
    · rw [if_neg z] at this; exact this
  · refine ⟨hV.cs0, 0, 0, ⟨by omega, by omega⟩, ?_⟩
    refine sc_whyH hE hV rfl (Or.inl (known_of hb hab hk)) (fun hno => ?_) (fun b' hb' hab' _ hz' s I2 bd2 hV2 => ⟨fun z => absurd z (by decide), fun _ => ?_⟩) (fun b' hb' hab' _ hz' h3 s I2 bd2 hV2 => ⟨fun z => absurd z (by decide), fun _ => ?_⟩) (fun b' hb' hab' _ hz' h3 s I2 bd2 q hV2 hk2 hq hC => ?_)
    · rcases hno with z | z
      · exact absurd (by rw [hab]; exact body_in hb) z
      · exact absurd z (by decide)
    · have := hK s (hV2.W rfl)
      rw [if_pos hc, hab', gat3_z hb' hz'] at this
      exact this
    · have := hK s (hV2.W rfl)
      rw [if_pos hc, hab', gat3_3 hb' hz' h3] at this
      exact this
    · have eb : b = b' := (nI_eq (by omega) (by omega)).mp (hab.symm.trans hab')
      subst eb
      exact absurd hz (fun z => z.elim hz' (fun w => w h3))
  · have hK1 : ∀ s, cW Γ E s (ad 16) Ds → K (if y < ZD (Ds b) / 2 then nI (cnB (snA (Ds b) y) (ZD (Ds b) / 2)) else -2) s := fun s hs => by
      have := hK s hs
      rw [hcy, if_pos (nI_pos' hy), hab, gat3_f hb hz h3, nI_cl hy] at this
      exact this
    have hzl := ZD_le (hV.v hb)
    by_cases hlt : y < ZD (Ds b) / 2
    · rw [nlT hlt]
      refine ⟨hV.cs0, 0, 0, ⟨by omega, by omega⟩, ?_⟩
      refine sc_whyH hE hV rfl (Or.inl (known_of hb hab hk)) (fun hno => ?_) (fun b' hb' hab' _ hz' s I2 bd2 hV2 => ?_) (fun b' hb' hab' _ hz' h3' s I2 bd2 hV2 => ?_) (fun b' hb' hab' _ hz' h3' s I2 bd2 q hV2 hk2 hq hC => ⟨fun _ => ?_, fun z => absurd rfl z⟩)
      · rcases hno with z | z
        · exact absurd (by rw [hab]; exact body_in hb) z
        · exact absurd z (by decide)
      · have eb : b = b' := (nI_eq (by omega) (by omega)).mp (hab.symm.trans hab')
        subst eb
        exact absurd hz' hz
      · have eb : b = b' := (nI_eq (by omega) (by omega)).mp (hab.symm.trans hab')
        subst eb
        exact absurd h3 h3'
      · have eb : b = b' := (nI_eq (by omega) (by omega)).mp (hab.symm.trans hab')
        subst eb
        rw [hab, hcy]
        refine ⟨hV2.cs0, 4, 666, ⟨by omega, by omega⟩, sc_snubOf hE hS hV2 rfl hb hk2 hz h3 (Nat.le_refl _) (Nat.le_refl _) (fun s3 I3 bd3 n hV3 hk3 hn => ?_)⟩
        obtain ⟨pj, pm, pc, fj, fm, hN⟩ := hn.C (hV3.v hb) hV3.fz
        refine st_nn ⟨st_cs hN.2.1 (by simp), sc_ndeg hN hlt ?_⟩
        have := hK1 s3 (hV3.W rfl)
        rw [if_pos hlt] at this
        exact this
    · rw [nlF hlt]
      refine ⟨hV.cs0, 0, 0, ⟨by omega, by omega⟩, sc_whyH0 hV.cs0 ⟨fun z => absurd z (by decide), fun _ => ?_⟩⟩
      have := hK1 st' (hV.W rfl)
      rw [if_neg hlt] at this
      exact this
end CS2
