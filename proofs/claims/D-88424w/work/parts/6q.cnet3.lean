set_option maxRecDepth 100000
section CN3
variable {Γ : eb_C} {E : cET} {st st' : eb_S} {I I' : Nat → va_E → Prop} {ad : Nat → Nat} {bd : Nat → cBT} {x : cXT} {Ds : Nat → eb_D} {p bc bs : Nat}
theorem cNt.C {q w N : Nat} {A : Nat → Nat → Bool} (h : cNt Γ I q w N A) (hI : ∀ a y, I a y → st a = some y) : ∃ c pj pm rest fj fm, nC Γ st c q pj pm w N rest A fj fm := by
  obtain ⟨c, pj, pm, rest, fj, fm, h0, h1, h2, h3, h4, h5, h6, h7⟩ := h
  exact ⟨c, pj, pm, rest, fj, fm, h0, hI _ _ h1, hI _ _ h2, hI _ _ h3, h4, h5, h6, h7⟩
theorem cV.X {b gp : Nat} (h : cV Γ E st I ad bd x Ds) (hb : b < 4) (hz : ¬ ZD (Ds b) = 0) (hg : (bd b).2.1.1 = some gp) (hC : cGr Γ I gp (TD (Ds b))) : bX Γ st I (fun j => ad (4 * b + j)) (Ds b) (bd b) gp := by
  obtain ⟨r1, r2, r3, r4, r5, r6⟩ := h.2.2.1 b hb
  exact ⟨h.bC hb, r1, hz, r2, hg, hC, fun a y hy => ⟨h.fz a y hy, fun j hj => (h.2.1 a y hy).2 _ (by omega)⟩, fun s q hs hq => (r4 s q hs hq).2⟩
/-- what was done with a body is done in the world -/
theorem cV.ofX {b gp : Nat} {W : List Nat} {d : cBT} (hE : cEm E) (h : cV Γ E st I ad bd x Ds) (hb : b < 4) (hX : bX Γ st' I' (fun j => ad (4 * b + j)) (Ds b) d gp) (hs : sf W st st') (hW : ∀ w ∈ W, (∀ i, i < 19 → ad i = w → i = 4 * b + 2 ∨ i = 4 * b + 3) ∧ (∀ y, ¬ I w y) ∧ ∃ y, st' w = some y) (hI : ∀ a y, I a y → I' a y) (hN : ∀ a y, I' a y → I a y ∨ (st' a = some y ∧ st a = none)) (hk : bKK (bd b) d) : cV Γ E st' I' ad (upB bd b d) x Ds := by
  obtain ⟨h1, h2, h3, h4⟩ := h
  obtain ⟨x1, x2, x3, x4, x5, x6, x7, x8⟩ := hX
  refine ⟨⟨fun b' j' hb' hj' => ?_, fun j' hj' => hs _ _ (h1.2.1 j' hj') (fun z => by have := (hW _ z).1 _ (by omega) rfl; omega), h1.2.2⟩, fun a y hy => ?_, fun b' hb' => ?_, ?_⟩
  · by_cases e : b' = b
    · subst e
      rw [upB_eq]
      have := x1.1 j' hj'
      rw [this]
      match j', hj' with
      | 0, _ => rfl
      | 1, _ => rfl
      | 2, _ => rfl
      | 3, _ => rfl
    · rw [upB_ne e]
      exact hs _ _ (h1.1 b' j' hb' hj') (fun z => by have := (hW _ z).1 _ (by omega) rfl; omega)
  · rcases hN a y hy with z | ⟨z1, z2⟩
    · exact ⟨hs _ _ (h2 a y z).1 (fun w => (hW _ w).2.1 y z), (h2 a y z).2⟩
    · refine ⟨z1, fun i hi e => ?_⟩
      obtain ⟨y', hy'⟩ := h1.known hi
      rw [← e, z2] at hy'
      exact absurd hy' (by simp)
  · by_cases e : b' = b
    · subst e
      rw [upB_eq]
      obtain ⟨r1, r2, r3, r4, r5, r6⟩ := (h3 b' hb').mono hE hI
      refine ⟨r1, x4, ?_, fun s q hs' hq => ⟨x3, x8 s q hs' hq⟩, ?_, ?_⟩
      · rw [hk.1, hk.2.1]; exact r3
      · rw [hk.2.1]; exact r5
      · rw [hk.2.1]; exact r6
    · rw [upB_ne e]; exact (h3 b' hb').mono hE hI
  · obtain ⟨q1, q2, q3⟩ := h4
    refine ⟨fun a ha => ?_, q2, q3.imp id (fun ⟨D', net, g, r1, r2, r3, r4, r5, r6, ⟨y, r7⟩, r8⟩ => ⟨D', net, g, r1, r2, r3, r4, r5.mono hI, r6, ⟨y, hI _ _ r7⟩, fun b' hb' e1 e2 => ?_⟩)⟩
    · obtain ⟨y, hy⟩ := q1 a ha
      by_cases e : a ∈ W
      · exact (hW a e).2.2
      · exact ⟨y, hs _ _ hy e⟩
    · by_cases e : b' = b
      · subst e
        rw [upB_eq, hk.2.1] at e2
        exact r8 b' hb' e1 e2
      · rw [upB_ne e] at e2
        exact r8 b' hb' e1 e2
/-- cells that won't be changed any more -/
theorem cV.frz (hE : cEm E) (h : cV Γ E st I ad bd x Ds) (hI : ∀ a y, I a y → I' a y) (hN : ∀ a y, I' a y → I a y ∨ (st a = some y ∧ ∀ i, i < 19 → ¬ a = ad i)) : cV Γ E st I' ad bd x Ds := by
  obtain ⟨h1, h2, h3, h4⟩ := h
  refine ⟨h1, fun a y hy => (hN a y hy).elim (fun z => h2 a y z) id, fun b hb => (h3 b hb).mono hE hI, ?_⟩
  obtain ⟨q1, q2, q3⟩ := h4
  exact ⟨q1, q2, q3.imp id (fun ⟨D', net, g, r1, r2, r3, r4, r5, r6, ⟨y, r7⟩, r8⟩ => ⟨D', net, g, r1, r2, r3, r4, r5.mono hI, r6, ⟨y, hI _ _ r7⟩, r8⟩)⟩
theorem pkA_cg {D D' : eb_D} (h : sameA D D') : pkA D = pkA D' := by
  unfold pkA
  have q := h.2
  rw [q 1 (by omega), q 2 (by omega), q 3 (by omega), q 6 (by omega), q 7 (by omega), q 11 (by omega)]
theorem sameA.T {D D' : eb_D} (h : sameA D D') : TD D = TD D' ∧ ZD D = ZD D' := by
  have hz : ZD D = ZD D' := by unfold ZD; rw [pkA_cg h, h.1]
  refine ⟨?_, hz⟩
  unfold TD
  rw [pkA_cg h, h.1, hz]
theorem sameA.N {D D' : eb_D} (h : sameA D D') (hv : vD D) (hv' : vD D') (hr : D.2.2 = D'.2.2) : PN D 0 = PN D' 0 ∧ NP D 0 = NP D' 0 ∧ jnd D = jnd D' := by
  have hs : stay D 0 = stay D' 0 := by rw [stay_0 hv, stay_0 hv', h.1, hr]
  have e1 : PN D 0 = PN D' 0 := by funext y; unfold PN; rw [h.T.1, h.1, hs]
  refine ⟨e1, by unfold NP; rw [h.T.1, h.T.2, h.1, hs], ?_⟩
  funext c d
  refine Bool_ext ?_
  rw [jnd_iff, jnd_iff]
  unfold jnP
  rw [e1, h.T.1, h.T.2, h.1, hr]
theorem sc_netOf {b : Nat} {K : Option Nat → eb_S → Prop} (hE : cEm E) (h : cV Γ E st I ad bd x Ds) (hp : ad 16 = p) (hb : b < 4) (hk : (bd b).1.2.2 = 1) (hz : ¬ ZD (Ds b) = 0) (hbc : 5 ≤ bc) (hbs : 13504 ≤ bs)
    (hK : ∀ st' I' bd' x' net, cV Γ E st' I' ad bd' x' Ds → (bd' b).1.2.2 = 1 → cNt Γ I' net 24 (NP (Ds b) 0) (jnd (Ds b)) → K (some net) st') : MX0_netOf Γ bc bs st p (nI b) K := by
  subst hp
  have hv := h.v hb
  obtain ⟨gp, g1, g2⟩ := (h.grp hb hk).2 hz
  have c16 := h.1.2.1 0 (by omega)
  have c0 := h.1.1 b 0 hb (by omega)
  rw [Nat.add_zero] at c0 c16
  have hr := (h.2.2.1 b hb).2.1
  unfold MX0_netOf
  refine st_gr c16 (v := some (ad 17)) rfl (st_nn (st_lr (h.1.2.1 1 (by omega)) hb (by omega) ?_))
  rw [wR_b hb]
  refine st_gr c16 (v := x.1.2.1) rfl ?_
  refine jp_3 (fun g _ _ => ∃ I' bd' x' net, cV Γ E g I' ad bd' x' Ds ∧ (bd' b).1.2.2 = 1 ∧ cNt Γ I' net 24 (NP (Ds b) 0) (jnd (Ds b)) ∧ x'.1.1 = some net) ?_ ?_
  · rintro g _ _ ⟨I', bd', x', net, hV, hk', hC, hx⟩
    have c16' := hV.1.2.1 0 (by omega)
    rw [Nat.add_zero] at c16'
    refine st_gr c16' (v := x'.1.1) rfl ?_
    rw [hx]
    exact hK g I' bd' x' net hV hk' hC
  · intro k9 hk9
    refine jp_0 True (fun _ => ?_) (fun k23 hk23 => ?_)
    · -- a new net
      refine st_mk (by omega) (by omega) (fun q s1 f1 gs1 w1 => st_nn ⟨4, 13500, ⟨by omega, by omega⟩, ?_⟩)
      have hV1 := h.keep (I' := I) hE gs1 (W := []) (fun w hw => absurd hw List.not_mem_nil) (fun _ _ z => z) (fun _ _ z => Or.inl z)
      have qI : ∀ y, ¬ I q y := fun y hy => by have := h.fz _ _ hy; rw [f1] at this; exact absurd this (by simp)
      have qad : ∀ i, i < 19 → ¬ q = ad i := fun i hi e => by
        obtain ⟨y, hy⟩ := h.1.known hi
        rw [← e, f1] at hy
        exact absurd hy (by simp)
      refine sc_corners (a := fun j => ad (4 * b + j)) (hV1.X hb hz g1 g2) w1 qI (fun j hj => qad _ (by omega)) (Nat.le_refl _) (by have := ZD_le hv; have := NP_le (Ds b) 0; omega) (fun s2 I2 d2 pj pm fj fm hX2 gs2 hI2 hN2 hkk hp2 hC2 fj0 fm0 pjI pmI => ?_)
      have q2I : ∀ y, ¬ I2 q y := fun y hy => by
        rcases hN2 _ _ hy with z | ⟨-, z⟩
        · exact qI y z
        · rw [w1] at z; exact absurd z (by simp)
      have hV2 : cV Γ E s2 I2 ad (upB bd b d2) x Ds := hV1.ofX hE hb hX2 gs2 (fun w hw => by
        simp only [List.mem_cons, List.not_mem_nil, or_false] at hw
        rcases hw with rfl | rfl | rfl
        · exact ⟨fun i hi e => absurd e.symm (qad i hi), qI, ⟨_, hC2.2.1⟩⟩
        · exact ⟨fun i hi e => Or.inl (h.1.2.2 _ _ hi (by omega) e), fun y hy => (h.2.1 _ y hy).2 _ (by omega) rfl, ⟨_, hX2.1.1 2 (by omega)⟩⟩
        · exact ⟨fun i hi e => Or.inr (h.1.2.2 _ _ hi (by omega) e), fun y hy => (h.2.1 _ y hy).2 _ (by omega) rfl, ⟨_, hX2.1.1 3 (by omega)⟩⟩) hI2 hN2 hkk
      have jad : ∀ i, i < 19 → ¬ pj = ad i := fun i hi e => by
        obtain ⟨y, hy⟩ := hV1.1.known hi
        rw [← e, fj0] at hy
        exact absurd hy (by simp)
      have mad : ∀ i, i < 19 → ¬ pm = ad i := fun i hi e => by
        obtain ⟨y, hy⟩ := hV1.1.known hi
        rw [← e, fm0] at hy
        exact absurd hy (by simp)
      -- the net stays
      have hV3 : cV Γ E s2 (fun a y => I2 a y ∨ (s2 a = some y ∧ (a = q ∨ a = pj ∨ a = pm))) ad (upB bd b d2) x Ds := hV2.frz hE (fun _ _ z => Or.inl z) (fun a y hy => hy.imp id (fun ⟨z1, z2⟩ => ⟨z1, fun i hi => by
        rcases z2 with rfl | rfl | rfl
        · exact qad i hi
        · exact jad i hi
        · exact mad i hi⟩))
      generalize hI3 : (fun a y => I2 a y ∨ (s2 a = some y ∧ (a = q ∨ a = pj ∨ a = pm))) = I3 at hV3
      have hC3 : cNt Γ I3 q 24 (NP (Ds b) 0) (jnd (Ds b)) := by
        rw [← hI3]
        exact ⟨10, pj, pm, [], fj, fm, hC2.1, Or.inr ⟨hC2.2.1, Or.inl rfl⟩, Or.inr ⟨hC2.2.2.1, Or.inr (Or.inl rfl)⟩, Or.inr ⟨hC2.2.2.2.1, Or.inr (Or.inr rfl)⟩, hC2.2.2.2.2⟩
      have hgI3 : cGr Γ I3 gp (TD (Ds b)) := by rw [← hI3]; exact g2.mono (fun a y z => Or.inl (hI2 _ _ z))
      have e16 := hV3.1.2.1 0 (by omega)
      have e0 := hV3.1.1 b 0 hb (by omega)
      rw [Nat.add_zero] at e16 e0
      rw [upB_eq] at e0
      have nb16 : ¬ ad (4 * b) = ad 16 := fun z => by have := h.1.2.2 _ _ (by omega) (by omega) z; omega
      have n16 : ∀ {a : Nat}, ¬ a = ad 16 → a ∉ [ad 16] := fun h z => h (List.mem_singleton.mp z)
      refine st_pt e16 (by simp) (fun s3 k3 o3 => st_pt o3 (by simp) (fun s4 k4 o4 => ?_))
      have e04 := k4 _ _ (k3 _ _ e0 (n16 nb16)) (n16 nb16)
      refine st_gi e04 (v := d2.1.2.1) rfl (st_pt o4 (by simp) (fun s5 k5 o5 => ?_))
      have e05 := k5 _ _ e04 (n16 nb16)
      refine st_gr e05 (v := d2.2.1.1) rfl (st_pt o5 (by simp) (fun s6 k6 o6 => ?_))
      have hs6 : sf [ad (16 + 0)] s2 s6 := ((k3.tr k4).tr k5).tr k6
      have hd1 : d2.1 = (bd b).1 := hkk.1
      have hd2 : d2.2.1 = (bd b).2.1 := hkk.2.1
      refine hk9 _ _ _ ⟨I3, upB bd b d2, ((some q, some (ad (4 * b)), nI (Ds b).2.2, some gp), x.2), q, ?_, by rw [upB_eq, hd1]; exact hk, hC3, rfl⟩
      obtain ⟨v1, v2, v3, v4⟩ := hV3
      refine ⟨v1.setX (j := 0) (by omega) hs6 ?_ (fun k hk hk0 => ?_), fun a y hy => ⟨hs6 _ _ (v2 a y hy).1 (fun z => (v2 a y hy).2 16 (by omega) (List.mem_singleton.mp z)), (v2 a y hy).2⟩, v3, ?_, v4.2.1, Or.inr ⟨Ds b, q, gp, hv, hz, rfl, rfl, hC3, rfl, ?_, fun b' hb' e1 _ => ?_⟩⟩
      · rw [Nat.add_zero, o6]
        have e1 : d2.1.2.1 = nI (Ds b).2.2 := by rw [hd1]; exact hr.2.1
        have e2 : d2.2.1.1 = some gp := by rw [hd2]; exact g1
        rw [e1, e2]
        rfl
      · match k, hk with
        | 0, _ => exact absurd rfl hk0
        | 1, _ => rfl
        | 2, _ => rfl
      · intro a ha
        have e1 : some (ad (4 * b)) = some a := ha
        injection e1 with e1
        rw [← e1]
        exact ⟨_, k6 _ _ e05 (n16 nb16)⟩
      · obtain ⟨pn, pf, pl, pg, fn, ff, fl, fg, z, -⟩ := hgI3
        exact ⟨_, z⟩
      · have e2 : some (ad (4 * b)) = some (ad (4 * b')) := e1
        injection e2 with e2
        have e3 : b = b' := by have := h.1.2.2 _ _ (by omega) (by omega) e2; omega
        rw [← e3]
        exact sameA.rf _
    · refine ⟨fun eb => st_gi c16 (v := x.1.2.2.1) rfl (st_nn (st_gi c0 (v := (bd b).1.2.1) rfl ⟨fun er => st_gr c16 (v := x.1.2.2.2) rfl (st_gr c0 (v := (bd b).2.1.1) rfl ⟨fun eg => ?_, fun _ => hk23 trivial⟩), fun _ => hk23 trivial⟩)), fun _ => hk23 trivial⟩
      -- the net of this very body
      refine hk9 _ _ _ ?_
      rcases h.2.2.2.2.2 with z | ⟨D', net, g, r1, r2, r3, r4, r5, r6, r7, r8⟩
      · rw [z] at eb; exact absurd eb (by simp)
      · have hs := r8 b hb eb (by rw [← eg]; exact r6)
        have hring : D'.2.2 = (Ds b).2.2 := by
          have w1 := r1.ring
          have w2 := hv.ring
          refine (nI_eq (by omega) (by omega)).mp ?_
          rw [← r3, er]
          exact hr.2.1
        have hN := hs.N r1 hv hring
        rw [hN.2.1, hN.2.2] at r5
        exact ⟨I, bd, x, net, h, hk, r5, r4⟩
end CN3
