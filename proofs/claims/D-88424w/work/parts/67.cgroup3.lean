set_option maxRecDepth 100000
theorem st_fresh {st s : eb_S} {a w : Nat} (h : sf [a] st s) (hw : s w = none) (ha : ¬ w = a) : st w = none := by
  cases hq : st w with
  | none => rfl
  | some x => have := h w x hq (fun z => ha (List.mem_singleton.mp z)); rw [hw] at this; exact absurd this (by simp)
section GR3
variable {Γ : eb_C} {st : eb_S} {D : eb_D} {e : tE}
set_option maxHeartbeats 1000000 in
theorem sc_group {a0 a1 bc bs : Nat} {K : eb_S → Prop} (hv : vD D) (hB : cBd Γ st a1 D) (hG : tG e) (he1 : e.1 = D.1) (he2 : e.2.1 = pkA D) (hp : st a0 = some (.inr (7, [.int 0, .int 0, .null, .null, .null, .null]))) (hbc : 13 ≤ bc) (hbs : 13638 ≤ bs)
    (hK : ∀ s, sf [a0] st s → cGr Γ (fun a x => s a = some x ∧ (st a = none ∨ a = a0)) a0 e → K s) : MX8_init Γ bc bs st a0 a1 (nI e.2.2.1) K := by
  have hr := hv.1
  have hgn := hG.1.2
  have hrn : D.1 * e.2.2.1 ≤ 2000 := Nat.mul_le_mul hr.2 hgn.2
  have han : ∀ k, k < 16 → D.2.1 k = t4 e.2.1 k := fun k hk => by rw [he2]; exact (pkA_at hv k hk).symm
  have ha6 : ∀ k, k < 16 → D.2.1 k ≤ 6 := fun k hk => by
    have := (hv.2.2 (k / 4) (k % 4) (by omega) (by omega)).2.1
    rw [show 4 * (k / 4) + k % 4 = k by omega] at this
    exact this
  unfold MX8_init
  have nep : ∀ {a : Nat}, ¬ a = a0 → a ∉ [a0] := fun h z => h (List.mem_singleton.mp z)
  refine st_mk (by omega) (by omega) (fun pf s1 f1 g1 w1 => ?_)
  have na : ¬ a0 = pf := st_ne hp f1
  refine st_pt (g1 _ _ hp List.not_mem_nil) (by simp) (fun s2 g2 o2 => ?_)
  have F2 : sf [a0] st s2 := fun a x ha hp' => g2 a x (g1 a x ha List.not_mem_nil) hp'
  have pf2 := g2 _ _ w1 (nep (fun z => na z.symm))
  refine st_mk (by omega) (by omega) (fun pl s3 f3 g3 w3 => ?_)
  have nl : ¬ a0 = pl := st_ne o2 f3
  have nfl : ¬ pf = pl := st_ne pf2 f3
  have l0 : st pl = none := st_fresh F2 f3 (fun z => nl z.symm)
  refine st_pt (g3 _ _ o2 List.not_mem_nil) (by simp) (fun s4 g4 o4 => ?_)
  have F4 : sf [a0] st s4 := fun a x ha hp' => g4 a x (g3 a x (F2 a x ha hp') List.not_mem_nil) hp'
  have pf4 := g4 _ _ (g3 _ _ pf2 List.not_mem_nil) (nep (fun z => na z.symm))
  have pl4 := g4 _ _ w3 (nep (fun z => nl z.symm))
  refine st_mk (by omega) (by omega) (fun pg s5 f5 g5 w5 => ?_)
  have ng : ¬ a0 = pg := st_ne o4 f5
  have nfg : ¬ pf = pg := st_ne pf4 f5
  have nlg : ¬ pl = pg := st_ne pl4 f5
  have lg0 : st pg = none := st_fresh F4 f5 (fun z => ng z.symm)
  refine st_pt (g5 _ _ o4 List.not_mem_nil) (by simp) (fun s6 g6 o6 => ?_)
  have F6 : sf [a0] st s6 := fun a x ha hp' => g6 a x (g5 a x (F4 a x ha hp') List.not_mem_nil) hp'
  have pf6 := g6 _ _ (g5 _ _ pf4 List.not_mem_nil) (nep (fun z => na z.symm))
  have pl6 := g6 _ _ (g5 _ _ pl4 List.not_mem_nil) (nep (fun z => nl z.symm))
  have pg6 := g6 _ _ w5 (nep (fun z => ng z.symm))
  have hB6 : cBd Γ s6 a1 D := hB.ne F6 hp (by decide)
  refine hB6.r (st_pt o6 (by simp) (fun s7 g7 o7 => st_gi o7 rfl ?_))
  rw [nI_mul, nI_cl (show D.1 * e.2.2.1 < 2147483648 by omega)]
  have F7 : sf [a0] st s7 := fun a x ha hp' => g7 a x (F6 a x ha hp') hp'
  have pf7 := g7 _ _ pf6 (nep (fun z => na z.symm))
  have pl7 := g7 _ _ pl6 (nep (fun z => nl z.symm))
  have pg7 := g7 _ _ pg6 (nep (fun z => ng z.symm))
  refine ⟨st_ok1 (by omega), st_mk (by omega) (by omega) (fun pn s8 f8 g8 w8 => ?_)⟩
  have nn : ¬ a0 = pn := st_ne o7 f8
  have nfn : ¬ pf = pn := st_ne pf7 f8
  have nln : ¬ pl = pn := st_ne pl7 f8
  have ngn : ¬ pg = pn := st_ne pg7 f8
  have n0 : st pn = none := st_fresh F7 f8 (fun z => nn z.symm)
  refine st_pt (g8 _ _ o7 List.not_mem_nil) (by simp) (fun s9 g9 o9' => ?_)
  have F9 : sf [a0] st s9 := fun a x ha hp' => g9 a x (g8 a x (F7 a x ha hp') List.not_mem_nil) hp'
  have pf9 := g9 _ _ (g8 _ _ pf7 List.not_mem_nil) (nep (fun z => na z.symm))
  have pl9 := g9 _ _ (g8 _ _ pl7 List.not_mem_nil) (nep (fun z => nl z.symm))
  have pg9 := g9 _ _ (g8 _ _ pg7 List.not_mem_nil) (nep (fun z => ng z.symm))
  have pn9 := g9 _ _ w8 (nep (fun z => nn z.symm))
  refine st_mk (by omega) (by omega) (fun mk s10 f10 g10 w10 => ?_)
  have am : ¬ a0 = mk := st_ne o9' f10
  have m0 : st mk = none := st_fresh F9 f10 (fun z => am z.symm)
  have F10 : sf [a0] st s10 := fun a x ha hp' => g10 a x (F9 a x ha hp') List.not_mem_nil
  refine ⟨8, 10132, ⟨by omega, by omega⟩, ?_⟩
  have hB10 : cBd Γ s10 a1 D := hB.ne F10 hp (by decide)
  have o10 := g10 _ _ o9' List.not_mem_nil
  have pf10 := g10 _ _ pf9 List.not_mem_nil
  have pl10 := g10 _ _ pl9 List.not_mem_nil
  have pg10 := g10 _ _ pg9 List.not_mem_nil
  have pn10 := g10 _ _ pn9 List.not_mem_nil
  have kn : ∀ x ∈ [a0, pn, pf, pl, pg], ∃ y, s10 x = some y := by
    intro x hx
    simp only [List.mem_cons, List.not_mem_nil, or_false] at hx
    rcases hx with rfl | rfl | rfl | rfl | rfl
    · exact ⟨_, o10⟩
    · exact ⟨_, pn10⟩
    · exact ⟨_, pf10⟩
    · exact ⟨_, pl10⟩
    · exact ⟨_, pg10⟩
  refine sc_maker (X := [a0, pn, pf, pl, pg]) hv hB10 hG he1 he2 rfl w10 (Nat.le_refl _) (Nat.le_refl _) kn (fun s11 pq pc pp pm fd g11 c0 p0 q0 hM => ?_)
  have nem : ∀ {a : Nat}, ¬ a = mk → a ∉ [mk] := fun h z => h (List.mem_singleton.mp z)
  have km : ∀ x ∈ [a0, pn, pf, pl, pg], ∀ w ∈ [mk, pc, pp, pm], ¬ x = w := by
    intro x hx w hw z
    have k9 : ∃ y, s9 x = some y := by
      simp only [List.mem_cons, List.not_mem_nil, or_false] at hx
      rcases hx with rfl | rfl | rfl | rfl | rfl
      · exact ⟨_, o9'⟩
      · exact ⟨_, pn9⟩
      · exact ⟨_, pf9⟩
      · exact ⟨_, pl9⟩
      · exact ⟨_, pg9⟩
    obtain ⟨y, hy⟩ := k9
    have hy10 := g10 _ _ hy List.not_mem_nil
    simp only [List.mem_cons, List.not_mem_nil, or_false] at hw
    rcases hw with rfl | rfl | rfl | rfl
    · rw [z, f10] at hy; exact absurd hy (by simp)
    · rw [z, c0] at hy10; exact absurd hy10 (by simp)
    · rw [z, p0] at hy10; exact absurd hy10 (by simp)
    · rw [z, q0] at hy10; exact absurd hy10 (by simp)
  have hX4 : ∀ x ∈ [a0, pn, pf, pl, pg], ¬ x = mk ∧ ¬ x = pc ∧ ¬ x = pp ∧ ¬ x = pm := fun x hx => ⟨km x hx mk (by simp), km x hx pc (by simp), km x hx pp (by simp), km x hx pm (by simp)⟩
  have o11 := g11 _ _ o10 (nem (hX4 a0 (by simp)).1)
  have pf11 := g11 _ _ pf10 (nem (hX4 pf (by simp)).1)
  have pl11 := g11 _ _ pl10 (nem (hX4 pl (by simp)).1)
  have pg11 := g11 _ _ pg10 (nem (hX4 pg (by simp)).1)
  have pn11 := g11 _ _ pn10 (nem (hX4 pn (by simp)).1)
  have F11 : sf [a0] st s11 := fun a x ha hp' => g11 a x (F10 a x ha hp') (nem (fun z => by rw [z, m0] at ha; exact absurd ha (by simp)))
  have c00 : st pc = none := st_fresh F10 c0 (fun z => (hX4 a0 (by simp)).2.1 z.symm)
  have p00 : st pp = none := st_fresh F10 p0 (fun z => (hX4 a0 (by simp)).2.2.1 z.symm)
  have q00 : st pm = none := st_fresh F10 q0 (fun z => (hX4 a0 (by simp)).2.2.2 z.symm)
  refine st_pt o11 (by simp) (fun s12 g12 o12 => ?_)
  have pf12 := g12 _ _ pf11 (nep (fun z => na z.symm))
  refine st_gr o12 (v := some pf) rfl (st_nn (st_wi (i := 0) pf12 (by omega) (by omega) (fun s13 g13 w13 => ?_)))
  have nef : ∀ {a : Nat}, ¬ a = pf → a ∉ [pf] := fun h z => h (List.mem_singleton.mp z)
  have o13 := g13 _ _ o12 (nef na)
  rw [← he1] at hrn o13
  have pn13 : s13 pn = some (eb_ia Γ 3 (e.1 * e.2.2.1) (fun _ => 0)) := by rw [he1]; exact g13 _ _ (g12 _ _ pn11 (nep (fun z => nn z.symm))) (nef (fun z => nfn z.symm))
  have F12 : sf [a0] st s12 := fun a x ha hp' => g12 a x (F11 a x ha hp') hp'
  have F13 : sf [a0] st s13 := F12.go g13 (Or.inl f1)
  have h13 : cGi Γ st s13 D e a0 pn pf pl pg mk pq pc pp pm 0 0 0 1 := by
    refine ⟨_, _, _, _, fd, o13, pn13, w13, g13 _ _ (g12 _ _ pl11 (nep (fun z => nl z.symm))) (nef (fun z => nfl z.symm)), g13 _ _ (g12 _ _ pg11 (nep (fun z => ng z.symm))) (nef (fun z => nfg z.symm)), (hM.keep g12 (hX4 a0 (by simp)) (by simp)).keep g13 (hX4 pf (by simp)) (by simp), F13, Nat.le_refl _, fun g' i' _ _ h => absurd h (by omega), fun x hx => ?_, fun x hx h0 => absurd hx (by omega), ?_, fun x _ _ => Nat.zero_le _⟩
    · rw [show x = 0 by omega, (Tlen_0 hG (show 0 < e.2.2.1 by omega)).1.mpr rfl]; rfl
    · rw [upd_eq, nar_sm]
  -- the rounds
  refine eb_loop2_i (fun x s => ∃ g m, g ≤ m ∧ x = nI g ∧ cGi Γ st s D e a0 pn pf pl pg mk pq pc pp pm g 0 (e.1 * g) m) (fun x _ => 1000 - x.toNatClampNeg) ?_ ⟨0, 1, by omega, rfl, by rw [Nat.mul_zero]; exact h13⟩
  rintro R x s ⟨g, m, hgm, rfl, hI⟩ hR
  obtain ⟨fn, ff, fl, fg, fd, i1, i2, i3, i4, i5, i6, i7, i8, i9, i10, i11, i12, i13⟩ := id hI
  have hmn : m ≤ e.2.2.1 := by obtain ⟨q, F, fc, fp, c1, c2, c3, c4, c5, c6, c7, c8, c9, c10, c11, c12, c13, c14⟩ := i6; exact c12
  refine st_gi i1 rfl ?_
  refine br_le (by omega) (by omega) (fun h1 => ?_) (fun h1 => ?_)
  · have hge : g = m := by omega
    subst hge
    have hgn' : g = e.2.2.1 := by
      by_cases hlt : g < e.2.2.1
      · have := i13 g (Nat.le_refl _) hlt
        have h2 := (Tkey_lt hG hlt (by omega)).1
        omega
      · omega
    refine hK s i7 ⟨pn, pf, pl, pg, fn, ff, fl, fg, ⟨?_, Or.inr rfl⟩, ⟨i2, Or.inl n0⟩, ⟨i3, Or.inl f1⟩, ⟨i4, Or.inl l0⟩, ⟨i5, Or.inl lg0⟩, fun g' i' hg' hi' => i9 g' i' hi' hg' (Or.inl (by omega)), fun x hx => i10 x (by omega), fun x hx h0 => ⟨(i11 x (by omega) h0).1, (i11 x (by omega) h0).2.1⟩, i12⟩
    rw [i1, hgn']
  · have hgn' : g < e.2.2.1 := by omega
    refine jp_1 (fun s' => ∃ m', g + 1 ≤ m' ∧ cGi Γ st s' D e a0 pn pf pl pg mk pq pc pp pm (g + 1) 0 (e.1 * (g + 1)) m') ?_ ?_
    · rintro s' ⟨m', a1, a2⟩
      rw [nI_1]
      refine hR _ _ ⟨g + 1, m', a1, rfl, a2⟩ ?_
      rw [nI_cl (by omega), nI_cl (by omega)]; omega
    · intro k hk
      refine eb_loop2_i (fun x s' => ∃ m' i, m ≤ m' ∧ i ≤ e.1 ∧ x = nI i ∧ cGi Γ st s' D e a0 pn pf pl pg mk pq pc pp pm g i (e.1 * g + i) m') (fun x _ => 10 - x.toNatClampNeg) ?_ ⟨m, 0, Nat.le_refl _, Nat.zero_le _, rfl, hI⟩
      rintro R2 x s ⟨m', i, hmm, hi, rfl, hI'⟩ hR2
      obtain ⟨fn, ff, fl, fg, fd, i1, i2, i3, i4, i5, i6, i7, i8, i9, i10, i11, i12, i13⟩ := id hI'
      have hmn' : m' ≤ e.2.2.1 := by obtain ⟨q, F, fc, fp, c1, c2, c3, c4, c5, c6, c7, c8, c9, c10, c11, c12, c13, c14⟩ := i6; exact c12
      refine st_gi i1 rfl ?_
      refine br_le (by omega) (by omega) (fun h2 => ?_) (fun h2 => ?_)
      · have hir : i = e.1 := by omega
        subst hir
        refine hk _ ⟨m', by omega, fn, ff, fl, fg, fd, i1, i2, i3, i4, i5, i6, i7, i8, fun g' i' hi' hg' hor => i9 g' i' hi' hg' (by omega), i10, fun x hx h0 => ⟨(i11 x hx h0).1, (i11 x hx h0).2.1, by rw [Nat.mul_succ]; exact (i11 x hx h0).2.2⟩, i12, fun x q1 q2 => by rw [Nat.mul_succ]; exact i13 x q1 q2⟩
      · have hi' : i < e.1 := by omega
        have hcs : eb_cs s mk [8] := by
          obtain ⟨q, F, fc, fp, c1, -⟩ := i6
          exact st_cs c1 (List.mem_singleton.mpr rfl)
        obtain ⟨t1, t2, t3, t4⟩ := hG.2.1 g hgn' i hi'
        have hnew : ¬ Tto e g i < m' → Tto e g i = m' ∧ Tkey e m' = e.1 * g + i := by
          intro hge
          have hne : ¬ Tto e g i = 0 := by omega
          have k1 : Tkey e (Tto e g i) ≤ e.1 * g + i := t4.resolve_left hne
          have k2 := i13 (Tto e g i) (by omega) t1
          have hmn : m' < e.2.2.1 := by omega
          have k3 := i13 m' (Nat.le_refl _) hmn
          by_cases heq : Tto e g i = m'
          · exact ⟨heq, by rw [heq] at k1 k2; omega⟩
          · have := Tkey_mono hG (x := m') (by omega) (Tto e g i) (by omega) t1
            omega
        have hle : Tto e g i ≤ m' := by
          by_cases z : Tto e g i < m'
          · omega
          · have := (hnew z).1; omega
        have hix : e.1 * g + i < e.1 * e.2.2.1 := ix_lt hgn' hi'
        -- what is common: the step's end
        have go : ∀ s2 m2, m' ≤ m2 → cGi Γ st s2 D e a0 pn pf pl pg mk pq pc pp pm g i (e.1 * g + i + 1) m2 → eb_gr s2 a0 7 2 (fun v42 => eb_gi s2 a0 7 0 (fun v43 => eb_nn v42 (fun p44 => eb_wi Γ s2 p44 3 (((v43 * nI g) + nI i)) (vp_nar .short ((nI (Tto e g i)).toInt16.toInt32)) (fun g45 => R2 (nI i + 1) g45)))) := by
          rintro s2 m2 hm2 ⟨fn, ff, fl, fg, fd, j1, j2, j3, j4, j5, j6, j7, j8, j9, j10, j11, j12, j13⟩
          refine st_gr j1 (v := some pn) rfl (st_gi j1 rfl (st_nn ?_))
          rw [nI_mul, nI_add, nar_sh _ (by omega)]
          refine st_wi j2 hix (by omega) (fun s3 g3 w3 => ?_)
          have ne3 : ∀ {a : Nat}, ¬ a = pn → a ∉ [pn] := fun h z => h (List.mem_singleton.mp z)
          rw [nI_1]
          refine hR2 _ _ ⟨m2, i + 1, by omega, by omega, rfl, _, ff, fl, fg, fd, g3 _ _ j1 (ne3 nn), w3, g3 _ _ j3 (ne3 nfn), g3 _ _ j4 (ne3 nln), g3 _ _ j5 (ne3 ngn), j6.keep g3 (hX4 pn (by simp)) (by simp), j7.go g3 (Or.inl n0), j8, fun g' i' q1 q2 hor => ?_, j10, j11, j12, j13⟩ ?_
          · by_cases eq : e.1 * g' + i' = e.1 * g + i
            · obtain ⟨z1, z2⟩ := ix_inj q1 hi' eq
              rw [eq, upd_eq, z1, z2]
            · rw [upd_ne eq]
              refine j9 g' i' q1 q2 ?_
              rcases hor with z | z
              · exact Or.inl z
              · by_cases e2 : i' = i
                · exact absurd (by rw [z.1, e2]) eq
                · exact Or.inr ⟨z.1, by omega⟩
          · rw [nI_cl (by omega), nI_cl (by omega)]; omega
        have tr4 : ∀ {s' : eb_S} {a : Nat} {y : va_E}, sf [mk, pc, pp, pm] s s' → s a = some y → a ∈ [a0, pn, pf, pl, pg] → s' a = some y := fun hs hy ha => hs _ _ hy (fun z => by
          obtain ⟨z1, z2, z3, z4⟩ := hX4 _ ha
          simp only [List.mem_cons, List.not_mem_nil, or_false] at z
          rcases z with z | z | z | z
          · exact z1 z
          · exact z2 z
          · exact z3 z
          · exact z4 z)
        have tr0 : ∀ {s' : eb_S}, sf [mk, pc, pp, pm] s s' → sf [a0] st s' := fun hs a y ha hp' => hs _ _ (i7 a y ha hp') (fun z => by
          simp only [List.mem_cons, List.not_mem_nil, or_false] at z
          rcases z with z | z | z | z
          · rw [z, m0] at ha; exact absurd ha (by simp)
          · rw [z, c00] at ha; exact absurd ha (by simp)
          · rw [z, p00] at ha; exact absurd ha (by simp)
          · rw [z, q00] at ha; exact absurd ha (by simp))
        refine ⟨hcs, sc_finds hG han ha6 i6 (by omega) hi' hle (fun hlt s' fd' hs' hM' => ?_) (fun heq s' fd' hs' hM' => ?_)⟩
        · have j1 := tr4 hs' i1 (by simp)
          refine st_gi j1 rfl ?_
          refine jp_1 (fun s2 => ∃ m2, m' ≤ m2 ∧ cGi Γ st s2 D e a0 pn pf pl pg mk pq pc pp pm g i (e.1 * g + i + 1) m2) (fun s2 ⟨m2, z1, z2⟩ => go s2 m2 z1 z2) (fun k4 hk4 => ?_)
          refine br_eq (by omega) (by omega) (fun z => absurd z (by omega)) (fun _ => ?_)
          refine hk4 _ ⟨m', Nat.le_refl _, fn, ff, fl, fg, fd', j1, tr4 hs' i2 (by simp), tr4 hs' i3 (by simp), tr4 hs' i4 (by simp), tr4 hs' i5 (by simp), hM', tr0 hs', i8, i9, i10, fun x hx h0 => ⟨(i11 x hx h0).1, (i11 x hx h0).2.1, by have := (i11 x hx h0).2.2; omega⟩, i12, fun x q1 q2 => ?_⟩
          have k1 := i13 x q1 q2
          by_cases heq : Tkey e x = e.1 * g + i
          · have h0x : ¬ x = 0 := by omega
            obtain ⟨p1, p2⟩ := Tkey_at hG q2 h0x hi' heq
            have := (Tkey_lt hG q2 h0x).2.2.2.1
            rw [p1, p2] at this
            omega
          · omega
        · have hkey := (hnew (by omega)).2
          have hmn2 : m' < e.2.2.1 := by omega
          have hm0 : ¬ m' = 0 := by omega
          obtain ⟨p1, p2⟩ := Tkey_at hG hmn2 hm0 hi' hkey
          have hlen := (Tkey_lt hG hmn2 hm0).2.2.2.2
          rw [p1] at hlen
          have j1 := tr4 hs' i1 (by simp)
          refine st_gi j1 rfl ?_
          refine jp_1 (fun s2 => ∃ m2, m' ≤ m2 ∧ cGi Γ st s2 D e a0 pn pf pl pg mk pq pc pp pm g i (e.1 * g + i + 1) m2) (fun s2 ⟨m2, z1, z2⟩ => by have := go s2 m2 z1 z2; rw [heq] at this; exact this) (fun k4 hk4 => ?_)
          refine ⟨fun _ => ?_, fun z => absurd rfl z⟩
          have j3 := tr4 hs' i3 (by simp)
          have j4 := tr4 hs' i4 (by simp)
          have j5 := tr4 hs' i5 (by simp)
          have j2 := tr4 hs' i2 (by simp)
          refine st_gr j1 (v := some pf) rfl (st_gi j1 rfl (st_nn ?_))
          rw [nar_sh g (by omega)]
          refine st_wi j3 (by omega) (by omega) (fun u1 gu1 wu1 => ?_)
          have v1 := gu1 _ _ j1 (nef na)
          refine st_gr v1 (v := some pl) rfl (st_gi v1 rfl (st_nn ?_))
          rw [nar_by i (by omega)]
          refine st_wi (gu1 _ _ j4 (nef (fun z => nfl z.symm))) (by omega) (by omega) (fun u2 gu2 wu2 => ?_)
          have nel : ∀ {a : Nat}, ¬ a = pl → a ∉ [pl] := fun h z => h (List.mem_singleton.mp z)
          have v2 := gu2 _ _ v1 (nel nl)
          have pg2 := gu2 _ _ (gu1 _ _ j5 (nef (fun z => nfg z.symm))) (nel (fun z => nlg z.symm))
          refine st_gr v2 (v := some pg) rfl (st_gi v2 rfl (st_gr v2 (v := some pg) rfl (st_nn (st_li pg2 (by omega) (by omega) (st_nn ?_)))))
          rw [i10 g (by omega), nI_1, nar_by _ (by omega)]
          refine st_wi pg2 (by omega) (by omega) (fun u3 gu3 wu3 => ?_)
          have neg : ∀ {a : Nat}, ¬ a = pg → a ∉ [pg] := fun h z => h (List.mem_singleton.mp z)
          have v3 := gu3 _ _ v2 (neg ng)
          refine st_gi v3 rfl (st_pt v3 (by simp) (fun u4 gu4 wu4 => ?_))
          rw [nI_1] at wu4
          have pf4 := gu4 _ _ (gu3 _ _ (gu2 _ _ wu1 (nel nfl)) (neg nfg)) (nep (fun z => na z.symm))
          have pl4 := gu4 _ _ (gu3 _ _ wu2 (neg nlg)) (nep (fun z => nl z.symm))
          have pg4 := gu4 _ _ wu3 (nep (fun z => ng z.symm))
          have pn4 := gu4 _ _ (gu3 _ _ (gu2 _ _ (gu1 _ _ j2 (nef (fun z => nfn z.symm))) (nel (fun z => nln z.symm))) (neg (fun z => ngn z.symm))) (nep (fun z => nn z.symm))
          have M4 := (((hM'.keep gu1 (hX4 pf (by simp)) (by simp)).keep gu2 (hX4 pl (by simp)) (by simp)).keep gu3 (hX4 pg (by simp)) (by simp)).keep gu4 (hX4 a0 (by simp)) (by simp)
          have F4' : sf [a0] st u4 := ((((tr0 hs').go gu1 (Or.inl f1)).go gu2 (Or.inl l0)).go gu3 (Or.inl lg0)).go gu4 (Or.inr rfl)
          refine hk4 _ ⟨m' + 1, by omega, fn, _, _, _, fd', wu4, pn4, pf4, pl4, pg4, M4, F4', by omega, i9, fun x hx => ?_, fun x hx h0 => ?_, ?_, fun x q1 q2 => ?_⟩
          · by_cases ex : x = m'
            · rw [ex, upd_eq, hlen.1]
            · rw [upd_ne ex]; exact i10 x (by omega)
          · by_cases ex : x = m'
            · rw [ex, upd_eq, upd_eq, p1, p2, hkey]; exact ⟨rfl, rfl, by omega⟩
            · rw [upd_ne ex, upd_ne ex]
              have := i11 x (by omega) h0
              exact ⟨this.1, this.2.1, by omega⟩
          · rw [upd_ne (fun z => hm0 z.symm)]; exact i12
          · have := Tkey_mono hG (x := m') hm0 x (by omega) q2
            omega
end GR3
