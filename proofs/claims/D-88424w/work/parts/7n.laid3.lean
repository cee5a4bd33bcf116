set_option maxRecDepth 100000
theorem cnB_all {P : Nat → Bool} {N : Nat} (h : ∀ k, k < N → P k = true) : cnB P N = N := cnB_enum N (e := fun i => i) (fun _ hi => hi) (fun i j hij _ e => by omega) (fun d hd => ⟨fun _ => ⟨d, hd, rfl⟩, fun _ => h d hd⟩)
section LC
variable {Γ : eb_C} {s0 st : eb_S} {q h1 h2 on tu us qu bc bs : Nat} {G : Prop} {D1 D2 : eb_D} {t1 t2 : Nat → Nat} {w1 w2 wy : Bool}
  {p1 net1 pj1 pm1 ps1 pk1 pr1 pf1 p2 net2 pj2 pm2 ps2 pk2 pr2 pf2 : Nat} {fj1 fm1 f31 f41 fr1 ff1 fj2 fm2 f32 f42 fr2 ff2 : Nat → Int32}
theorem sc_lies {k e : Nat} {fon ft fu fq : Nat → Int32} {K : Int32 → eb_S → Prop} (o1 : ok3 D1) (o2 : ok3 D2) (hNN : NP D1 0 = NP D2 0) (hgg : uG D1 = uG D2)
    (H1 : ∀ g, sf [q, on, tu, us, qu] s0 g → hS Γ g h1 p1 net1 pj1 pm1 ps1 pk1 pr1 pf1 D1 fj1 fm1 f31 f41 fr1 ff1) (H2 : ∀ g, sf [q, on, tu, us, qu] s0 g → hS Γ g h2 p2 net2 pj2 pm2 ps2 pk2 pr2 pf2 D2 fj2 fm2 f32 f42 fr2 ff2)
    (r1 : rAll D1 t1 (fun _ => w1) fr1 ff1) (r2 : rAll D2 t2 (fun _ => w2) fr2 ff2) (hG : G → uC D1 = uC D2 ∧ wy = Bool.xor w1 (not w2)) (hG0 : G → k = tsL D1 D2 t1 t2 w2 0) (hD : lD q on tu us qu) (hk : k < uG D1)
    (hs : sf [q, on, tu, us, qu] s0 st) (hL : lS Γ st q h1 h2 on tu us qu (NP D1 0) e fon ft fu fq)
    (h0 : ∀ s, sf [q, on, tu, us, qu] s0 s → (∃ e fon ft fu fq, lS Γ s q h1 h2 on tu us qu (NP D1 0) e fon ft fu fq) → ¬ G → K 0 s)
    (h1' : ∀ s, sf [q, on, tu, us, qu] s0 s → (∃ e fon ft fu fq, lS Γ s q h1 h2 on tu us qu (NP D1 0) e fon ft fu fq) → (∀ i, i < uG D1 → lZ D1 D2 t1 t2 w1 w2 wy 0 0 k i) → K 1 s) : MX13_lies Γ st q (nI k) (cond wy 1 (-1)) K := by
  have hg := u_dg o1
  have hN1 := u_N o1
  have hP := NP0_pos o1
  obtain ⟨l1, l2, l3, l4, l5⟩ := hL
  obtain ⟨n1, n2, n3, n4, n5, n6, n7, n8, n9, n10⟩ := id hD
  have m1 : ∀ {x y : Nat}, ¬ x = y → x ∉ [y] := fun h z => h (List.mem_singleton.mp z)
  have sy : ∀ {x y : Nat}, ¬ x = y → ¬ y = x := fun h z => h z.symm
  unfold MX13_lies
  refine st_gr l1 (v := some on) rfl (st_nn (sp_fill l2 (by omega) (fun a1 fo1 g1 w1' e1 => ?_)))
  refine st_gr (g1 _ _ l1 (m1 n1)) (v := some us) rfl (st_nn (sp_fill4 (g1 _ _ l4 (m1 (sy n6))) (by omega) (fun a2 fu2 g2 w2' e2 => ?_)))
  have q2 := g2 _ _ (g1 _ _ l1 (m1 n1)) (m1 n3)
  refine st_pt q2 (by simp) (fun a3 g3 w3 => ?_)
  have hL3 : lS Γ a3 q h1 h2 on tu us qu (NP D1 0) 0 fo1 ft fu2 fq := ⟨w3, g3 _ _ (g2 _ _ w1' (m1 n6)) (m1 (sy n1)), g3 _ _ (g2 _ _ (g1 _ _ l3 (m1 (sy n5))) (m1 n8)) (m1 (sy n2)), g3 _ _ w2' (m1 (sy n3)), g3 _ _ (g2 _ _ (g1 _ _ l5 (m1 (sy n7))) (m1 (sy n10))) (m1 (sy n4))⟩
  have hs3 : sf [q, on, tu, us, qu] s0 a3 := fun b y hb hw => by
    have hw' := hw
    simp only [List.mem_cons, List.not_mem_nil, or_false, not_or] at hw
    exact g3 _ _ (g2 _ _ (g1 _ _ (hs _ _ hb hw') (m1 hw.2.1)) (m1 hw.2.2.2.1)) (m1 hw.1)
  have hV3 : lV (NP D1 0) 0 (fun _ => none) (fun _ => 0) (fun _ => false) (fun _ => 0) fo1 ft fu2 fq := ⟨fun c hc => e1 c hc, fun c _ z => absurd rfl z, fun d hd => by rw [e2 d hd]; show vp_nar .boolean 0 = nI (b1 false); decide, fun k hk => absurd hk (Nat.not_lt_zero _)⟩
  have hI3 : lI (NP D1 0) (uG D1) G (osL D1 D2) (tsL D1 D2 t1 t2 w2) (fun _ => none) (fun _ => 0) (fun _ => false) (fun _ => 0) 0 := ⟨fun c d _ z => absurd z (by simp), fun k hk => absurd hk (Nat.not_lt_zero _), (cnB_false (fun _ => rfl) _).symm, fun c _ z => absurd rfl z, fun _ c d _ z => absurd z (by simp), fun d _ z => Bool.noConfusion z⟩
  refine ⟨st_cs w3 (by simp), sc_lcomes (to := 0) (there := 0) hL3 hD hV3 hI3 (by omega) hP rfl hP hk (fun hgd => ⟨(os_0 o1 o2 (hG hgd).1).symm, hG0 hgd⟩) (fun a4 fo4 ft4 fu4 fq4 g4 hL4 hV4 hI4 hX4 => ?_)⟩
  refine jp_1 (fun s => ∃ ov tt ud qq e fon ft fu fq, sf [q, on, tu, us, qu] s0 s ∧ lS Γ s q h1 h2 on tu us qu (NP D1 0) e fon ft fu fq ∧ lI (NP D1 0) (uG D1) G (osL D1 D2) (tsL D1 D2 t1 t2 w2) ov tt ud qq e ∧ (∀ c, c < NP D1 0 → ¬ ov c = none → ∀ i, i < uG D1 → ¬ ov (uN D1 c i) = none) ∧ ov 0 = some 0 ∧ ∀ i, i < uG D1 → lZ D1 D2 t1 t2 w1 w2 wy 0 0 k i) ?_ ?_
  · rintro s ⟨ov, tt, ud, qq, e', fon', ft', fu', fq', z1, z2, z3, z4, z5, z6⟩
    have all : ∀ c, c < NP D1 0 → ¬ ov c = none := u_conn o1 (P := fun c => ¬ ov c = none) (by rw [z5]; simp) (fun c i hc hp hi => z4 c hc hp i hi)
    have ee : e' = NP D1 0 := by
      rw [z3.2.2.1]
      exact cnB_all (fun c hc => by
        obtain ⟨d, hd⟩ := ne_some (all c hc)
        show (ov c).isSome = true
        rw [hd]; rfl)
    refine st_gi z2.1 rfl (st_gi z2.1 rfl (br_eq (by omega) (by omega) (fun _ => h1' s z1 ⟨_, _, _, _, _, z2⟩ z6) (fun z => absurd ee z)))
  · intro k22 hk22
    refine eb_loop2_i (fun x3 s => ∃ x ov tt ud qq e fon ft fu fq, x ≤ e ∧ x3 = nI x ∧ sf [q, on, tu, us, qu] s0 s ∧ lS Γ s q h1 h2 on tu us qu (NP D1 0) e fon ft fu fq ∧ lV (NP D1 0) e ov tt ud qq fon ft fu fq ∧ lI (NP D1 0) (uG D1) G (osL D1 D2) (tsL D1 D2 t1 t2 w2) ov tt ud qq e ∧ (∀ j, j < x → ∀ i, i < uG D1 → ¬ ov (uN D1 (qq j) i) = none) ∧ ov 0 = some 0 ∧ tt 0 = k ∧ qq 0 = 0 ∧ 1 ≤ e ∧ (1 ≤ x → ∀ i, i < uG D1 → lZ D1 D2 t1 t2 w1 w2 wy 0 0 k i)) (fun x3 _ => 1000 - x3.toNatClampNeg) ?_
      ⟨0, _, _, _, _, _, fo4, ft4, fu4, fq4, by omega, rfl, hs3.tr g4, hL4, hV4, hI4, fun j hj => absurd hj (Nat.not_lt_zero _), by rw [upo_eq], by rw [updN_eq], by rw [updN_eq], by omega, fun z => absurd z (by omega)⟩
    rintro R _ s ⟨x, ov, tt, ud, qq, e', fon', ft', fu', fq', hx, rfl, z1, z2, z3, z4, z5, z6, z7, z8, z9, z10⟩ hR
    have he : e' ≤ NP D1 0 := by rw [z4.2.2.1]; exact cnB_le _ _
    refine st_gi z2.1 rfl (br_le (by omega) (by omega) (fun z => hk22 _ ⟨ov, tt, ud, qq, e', fon', ft', fu', fq', z1, z2, z4, fun c hc hne i hi => ?_, z6, z10 (by omega)⟩) (fun z => ?_))
    · obtain ⟨j, hj, rfl⟩ := z4.2.2.2.1 c hc hne
      exact z5 j (by omega) i hi
    obtain ⟨y1, y2⟩ := z4.2.1 x (by omega)
    obtain ⟨d, hd⟩ := ne_some y2
    refine st_gr z2.1 (v := some qu) rfl (st_nn (st_li z2.2.2.2.2 (by omega) (by omega) ?_))
    rw [z3.2.2.2 x (by omega)]
    refine ⟨st_cs z2.1 (by simp), sc_goesOn o1 o2 hNN hgg H1 H2 r1 r2 hG hD y1 hd z1 z2 z3 z4 (fun s' a b c => ⟨fun _ => h0 s' a b c, fun y => absurd rfl y⟩) (fun s' ov1 tt1 ud1 qq1 e1' fon1 ft1 fu1 fq1 v1 v2 v3 v4 v5 v6 v7 => ⟨fun y => absurd y (by decide), fun _ => ?_⟩)⟩
    rw [nI_1]
    obtain ⟨u1, u2⟩ := v5.2.2 0 0 z6
    refine hR _ _ ⟨x + 1, ov1, tt1, ud1, qq1, e1', fon1, ft1, fu1, fq1, by have := v5.1; omega, rfl, v1, v2, v3, v4, fun j hj i hi => ?_, u1, u2.trans z7, (v5.2.1 0 (by omega)).trans z8, by have := v5.1; omega, fun _ i hi => ?_⟩ (by rw [nI_cl (by omega), nI_cl (by omega)]; omega)
    · rw [v5.2.1 j (by omega)]
      by_cases y : j = x
      · rw [y]; exact v6 i hi
      · exact v5.some (z5 j (by omega) i hi)
    · by_cases y : x = 0
      · subst y
        rw [z8] at hd v7
        rw [z6] at hd
        injection hd with hd
        have := v7 i hi
        rw [z7, ← hd] at this
        exact this
      · exact z10 (by omega) i hi
theorem lz_like (o1 : ok3 D1) (o2 : ok3 D2) (hgg : uG D1 = uG D2) (hF : duN D1 = duN D2) {k : Nat} (hk : k < uG D1) (r1 : t1 0 < uG D1) (r2 : t2 0 < uG D1) (h : ∀ i, i < uG D1 → lZ D1 D2 t1 t2 w1 w2 wy 0 0 k i) : uC D1 = uC D2 := by
  have hg := u_dg o1
  have a := pQ_P (uG D1) (by omega) (t1 0) r1 w1
  have b := lk_4 (uG D1) (by omega) (t2 0) r2 k hk w2 wy
  refine like_row o1 o2 hgg hF a.1 b.1 (fun i hi => ?_) (w1 := w1) (w2 := Bool.xor w2 (not wy))
  have := h i hi
  unfold lZ at this
  rw [a.2 i hi, b.2 i hi] at this
  exact this
theorem sc_isLike {K : Int32 → eb_S → Prop} (o1 : ok3 D1) (o2 : ok3 D2) (hS1 : hS Γ st h1 p1 net1 pj1 pm1 ps1 pk1 pr1 pf1 D1 fj1 fm1 f31 f41 fr1 ff1) (hS2 : hS Γ st h2 p2 net2 pj2 pm2 ps2 pk2 pr2 pf2 D2 fj2 fm2 f32 f42 fr2 ff2)
    (r1 : rAll D1 t1 (fun _ => w1) fr1 ff1) (r2 : rAll D2 t2 (fun _ => w2) fr2 ff2) (hbc : 5 ≤ bc) (hbs : 520 ≤ bs) (hK : ∀ s, sf [] st s → K (nI (b1 (Nat.beq (uC D1) (uC D2)))) s) : MX12_isLike Γ bc bs st h1 h2 K := by
  have hg := u_dg o1
  have hg2 := u_dg o2
  have hN1 := u_N o1
  have hN2 := u_N o2
  have no : ¬ uC D1 = uC D2 → K 0 st := fun e => by have := hK st (sf.rf _ _); rw [nbF e] at this; exact this
  unfold MX12_isLike
  refine st_gr hS1.1 (v := some net1) rfl (st_nn (st_ni hS1.2.1.1 hS1.2.1.2.1 rfl (st_gr hS2.1 (v := some net2) rfl (st_nn (st_ni hS2.2.1.1 hS2.2.1.2.1 rfl ?_)))))
  refine br_eq (by omega) (by omega) (fun hNN => ?_) (fun z => no (fun e => z (lk_N o1 o2 e).1))
  refine st_gr hS1.1 (v := some net1) rfl (st_nn ⟨hS1.2.1.cs, sc_ndeg (a := 0) hS1.2.1 (NP0_pos o1) ?_⟩)
  refine st_gr hS2.1 (v := some net2) rfl (st_nn ⟨hS2.2.1.cs, sc_ndeg (a := 0) hS2.2.1 (NP0_pos o2) ?_⟩)
  rw [u_deg o1 (NP0_pos o1), u_deg o2 (NP0_pos o2)]
  refine br_eq (by omega) (by omega) (fun hgg => ?_) (fun z => no (fun e => z (lk_N o1 o2 e).2.1))
  refine st_gi hS1.1 rfl (st_gi hS2.1 rfl (br_eq (by omega) (by omega) (fun hF => ?_) (fun z => no (fun e => z (lk_N o1 o2 e).2.2))))
  refine st_mk (by omega) (by omega) (fun q a1 f1 g1 w1' => ⟨4, 512, ⟨by omega, by omega⟩, ?_⟩)
  have m1 : ∀ {x y : Nat}, ¬ x = y → x ∉ [y] := fun h z => h (List.mem_singleton.mp z)
  have sy : ∀ {x y : Nat}, ¬ x = y → ¬ y = x := fun h z => h z.symm
  have hS1a : hS Γ a1 h1 p1 net1 pj1 pm1 ps1 pk1 pr1 pf1 D1 fj1 fm1 f31 f41 fr1 ff1 := hS1.keep (fun ha => g1 _ _ ha List.not_mem_nil)
  have nq : ∀ {a : Nat} {y : va_E}, st a = some y → ¬ a = q := fun ha z => by rw [z, f1] at ha; exact absurd ha (by simp)
  unfold MX13_init
  refine st_pt w1' (by simp) (fun a2 g2 w2' => st_pt w2' (by simp) (fun a3 g3 w3 => ?_))
  have hS1b : hS Γ a3 h1 p1 net1 pj1 pm1 ps1 pk1 pr1 pf1 D1 fj1 fm1 f31 f41 fr1 ff1 := hS1.keep (fun ha => g3 _ _ (g2 _ _ (g1 _ _ ha List.not_mem_nil) (m1 (nq ha))) (m1 (nq ha)))
  refine st_gr hS1b.1 (v := some net1) rfl (st_nn (st_ni hS1b.2.1.1 hS1b.2.1.2.1 rfl (st_pt w3 (by simp) (fun a4 g4 w4 => st_gi w4 rfl ⟨st_ok1 (by omega), ?_⟩))))
  rw [nI_cl (by omega)]
  refine st_mk (by omega) (by omega) (fun on a5 f5 g5 w5 => st_pt (g5 _ _ w4 List.not_mem_nil) (by simp) (fun a6 g6 w6 => st_gi w6 rfl ⟨st_ok1 (by omega), ?_⟩))
  have nq1 : ¬ q = on := st_ne w4 f5
  rw [nI_cl (by omega)]
  refine st_mk (by omega) (by omega) (fun tu a7 f7 g7 w7 => st_pt (g7 _ _ w6 List.not_mem_nil) (by simp) (fun a8 g8 w8 => st_gi w8 rfl ⟨st_ok1 (by omega), ?_⟩))
  have nq2 : ¬ q = tu := st_ne w6 f7
  have on6 := g6 _ _ w5 (m1 (sy nq1))
  have n5 : ¬ on = tu := st_ne on6 f7
  rw [nI_cl (by omega)]
  refine st_mk (by omega) (by omega) (fun us a9 f9 g9 w9 => st_pt (g9 _ _ w8 List.not_mem_nil) (by simp) (fun b1 k1 u1 => st_gi u1 rfl ⟨st_ok1 (by omega), ?_⟩))
  have nq3 : ¬ q = us := st_ne w8 f9
  have on8 := g8 _ _ (g7 _ _ on6 List.not_mem_nil) (m1 (sy nq1))
  have tu8 := g8 _ _ w7 (m1 (sy nq2))
  have n6 : ¬ on = us := st_ne on8 f9
  have n8 : ¬ tu = us := st_ne tu8 f9
  rw [nI_cl (by omega)]
  refine st_mk (by omega) (by omega) (fun qu b2 f11 k2 u2 => st_pt (k2 _ _ u1 List.not_mem_nil) (by simp) (fun b3 k3 u3 => ?_))
  have nq4 : ¬ q = qu := st_ne u1 f11
  have on1 := k1 _ _ (g9 _ _ on8 List.not_mem_nil) (m1 (sy nq1))
  have tu1 := k1 _ _ (g9 _ _ tu8 List.not_mem_nil) (m1 (sy nq2))
  have us1 := k1 _ _ w9 (m1 (sy nq3))
  have n7 : ¬ on = qu := st_ne on1 f11
  have n9 : ¬ tu = qu := st_ne tu1 f11
  have n10 : ¬ us = qu := st_ne us1 f11
  have hD : lD q on tu us qu := ⟨nq1, nq2, nq3, nq4, n5, n6, n7, n8, n9, n10⟩
  have hL : lS Γ b3 q h1 h2 on tu us qu (NP D1 0) 0 _ _ _ _ := ⟨u3, k3 _ _ (k2 _ _ on1 List.not_mem_nil) (m1 (sy nq1)), k3 _ _ (k2 _ _ tu1 List.not_mem_nil) (m1 (sy nq2)), k3 _ _ (k2 _ _ us1 List.not_mem_nil) (m1 (sy nq3)), k3 _ _ u2 (m1 (sy nq4))⟩
  -- what was there
  have ke : ∀ {a : Nat} {y : va_E}, st a = some y → b3 a = some y ∧ a ∉ [q, on, tu, us, qu] := fun {a y} ha => by
    have e4 := g4 _ _ (g3 _ _ (g2 _ _ (g1 _ _ ha List.not_mem_nil) (m1 (nq ha))) (m1 (nq ha))) (m1 (nq ha))
    have e6 := g6 _ _ (g5 _ _ e4 List.not_mem_nil) (m1 (nq ha))
    have e8 := g8 _ _ (g7 _ _ e6 List.not_mem_nil) (m1 (nq ha))
    have eb := k1 _ _ (g9 _ _ e8 List.not_mem_nil) (m1 (nq ha))
    refine ⟨k3 _ _ (k2 _ _ eb List.not_mem_nil) (m1 (nq ha)), fun z => ?_⟩
    simp only [List.mem_cons, List.not_mem_nil, or_false] at z
    rcases z with z | z | z | z | z
    · exact nq ha z
    · rw [z, f5] at e4; exact absurd e4 (by simp)
    · rw [z, f7] at e6; exact absurd e6 (by simp)
    · rw [z, f9] at e8; exact absurd e8 (by simp)
    · rw [z, f11] at eb; exact absurd eb (by simp)
  have kk : ∀ g, sf [q, on, tu, us, qu] b3 g → ∀ {a : Nat} {y : va_E}, st a = some y → g a = some y := fun g hg' {a y} ha => hg' _ _ (ke ha).1 (ke ha).2
  have H1 : ∀ g, sf [q, on, tu, us, qu] b3 g → hS Γ g h1 p1 net1 pj1 pm1 ps1 pk1 pr1 pf1 D1 fj1 fm1 f31 f41 fr1 ff1 := fun g hg' => hS1.keep (kk g hg')
  have H2 : ∀ g, sf [q, on, tu, us, qu] b3 g → hS Γ g h2 p2 net2 pj2 pm2 ps2 pk2 pr2 pf2 D2 fj2 fm2 f32 f42 fr2 ff2 := fun g hg' => hS2.keep (kk g hg')
  have fs : ∀ g, sf [q, on, tu, us, qu] b3 g → sf [] st g := fun g hg' a y ha _ => kk g hg' ha
  have t1l := (r1 0 (NP0_pos o1)).2.1
  have t2l := (r2 0 (NP0_pos o2)).2.1
  rw [← hgg] at t2l
  have yes : ∀ {k : Nat} {wy : Bool} (s : eb_S), k < uG D1 → sf [q, on, tu, us, qu] b3 s → (∀ i, i < uG D1 → lZ D1 D2 t1 t2 w1 w2 wy 0 0 k i) → K 1 s := fun {k wy} s hk hs hz => by
    have e := lz_like o1 o2 hgg hF hk t1l t2l hz
    have := hK s (fs s hs)
    rw [nbT e] at this
    exact this
  refine eb_loop2_i (fun x3 s => ∃ m, m ≤ uG D1 ∧ x3 = nI m ∧ sf [q, on, tu, us, qu] b3 s ∧ (∃ e fon ft fu fq, lS Γ s q h1 h2 on tu us qu (NP D1 0) e fon ft fu fq) ∧ ∀ k, k < m → ∀ wy, ¬ (uC D1 = uC D2 ∧ wy = Bool.xor w1 (not w2) ∧ k = tsL D1 D2 t1 t2 w2 0)) (fun x3 _ => 10 - x3.toNatClampNeg) ?_ ⟨0, by omega, rfl, sf.rf _ _, ⟨_, _, _, _, _, hL⟩, fun k hk => absurd hk (Nat.not_lt_zero _)⟩
  rintro R _ s ⟨m, hm, rfl, hs, ⟨e', fon, ft, fu, fq, hLs⟩, hno⟩ hR
  have hS1s := H1 s hs
  refine st_gr hS1s.1 (v := some net1) rfl (st_nn ⟨hS1s.2.1.cs, sc_ndeg (a := 0) hS1s.2.1 (NP0_pos o1) ?_⟩)
  rw [u_deg o1 (NP0_pos o1)]
  refine br_le (by omega) (by omega) (fun z => ?_) (fun z => ?_)
  · have := hK s (fs s hs)
    rw [nbF (fun e => ?_)] at this
    · exact this
    · have hts : tsL D1 D2 t1 t2 w2 0 < uG D1 := by
        unfold tsL
        rw [os_0 o1 o2 e]
        exact (pI_ok (uG D1) (by omega) (t2 0) t2l (t1 0) t1l w2).1
      exact hno _ (by omega) (Bool.xor w1 (not w2)) ⟨e, rfl, rfl⟩
  · have hmg : m < uG D1 := by omega
    refine ⟨st_cs hLs.1 (by simp), sc_lies (wy := true) (G := uC D1 = uC D2 ∧ true = Bool.xor w1 (not w2) ∧ m = tsL D1 D2 t1 t2 w2 0) o1 o2 hNN hgg H1 H2 r1 r2 (fun z => ⟨z.1, z.2.1⟩) (fun z => z.2.2) hD hmg hs hLs (fun s' z1 z2 z3 => ⟨fun _ => ?_, fun y => absurd rfl y⟩) (fun s' z1 z2 z3 => ⟨fun y => absurd y (by decide), fun _ => yes s' hmg z1 z3⟩)⟩
    obtain ⟨e2, fon2, ft2, fu2, fq2, hL2⟩ := z2
    refine ⟨st_cs hL2.1 (by simp), sc_lies (wy := false) (G := uC D1 = uC D2 ∧ false = Bool.xor w1 (not w2) ∧ m = tsL D1 D2 t1 t2 w2 0) o1 o2 hNN hgg H1 H2 r1 r2 (fun z => ⟨z.1, z.2.1⟩) (fun z => z.2.2) hD hmg z1 hL2 (fun s2 y1 y2 y3 => ⟨fun _ => ?_, fun y => absurd rfl y⟩) (fun s2 y1 y2 y3 => ⟨fun y => absurd y (by decide), fun _ => yes s2 hmg y1 y3⟩)⟩
    rw [nI_1]
    refine hR _ _ ⟨m + 1, by omega, rfl, y1, y2, fun k hk wy hh => ?_⟩ (by rw [nI_cl (by omega), nI_cl (by omega)]; omega)
    by_cases ek : k = m
    · subst ek
      cases wy with
      | true => exact z3 hh
      | false => exact y3 hh
    · exact hno k (by omega) wy hh
end LC
