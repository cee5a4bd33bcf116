set_option maxRecDepth 100000
section LB
variable {Γ : eb_C} {s0 st : eb_S} {q h1 h2 on tu us qu : Nat} {G : Prop} {D1 D2 : eb_D} {t1 t2 : Nat → Nat} {w1 w2 wy : Bool}
  {p1 net1 pj1 pm1 ps1 pk1 pr1 pf1 p2 net2 pj2 pm2 ps2 pk2 pr2 pf2 : Nat} {fj1 fm1 f31 f41 fr1 ff1 fj2 fm2 f32 f42 fr2 ff2 : Nat → Int32}
/-- sizes round a corner are those round another -/
def lZ (D1 D2 : eb_D) (t1 t2 : Nat → Nat) (w1 w2 wy : Bool) (c d k i : Nat) : Prop := zS D1 c (pQ (uG D1) w1 (t1 c) i) = zS D2 d (pQ (uG D1) w2 (t2 d) (cond wy (pP (uG D1) wy k i) (prI (uG D1) (pP (uG D1) wy k i))))
theorem sc_goesOn {c d e : Nat} {fon ft fu fq : Nat → Int32} {ov : Nat → Option Nat} {tt : Nat → Nat} {ud : Nat → Bool} {qq : Nat → Nat} {K : Int32 → eb_S → Prop} (o1 : ok3 D1) (o2 : ok3 D2) (hNN : NP D1 0 = NP D2 0) (hgg : uG D1 = uG D2)
    (H1 : ∀ g, sf [q, on, tu, us, qu] s0 g → hS Γ g h1 p1 net1 pj1 pm1 ps1 pk1 pr1 pf1 D1 fj1 fm1 f31 f41 fr1 ff1) (H2 : ∀ g, sf [q, on, tu, us, qu] s0 g → hS Γ g h2 p2 net2 pj2 pm2 ps2 pk2 pr2 pf2 D2 fj2 fm2 f32 f42 fr2 ff2)
    (r1 : rAll D1 t1 (fun _ => w1) fr1 ff1) (r2 : rAll D2 t2 (fun _ => w2) fr2 ff2) (hG : G → uC D1 = uC D2 ∧ wy = Bool.xor w1 (not w2)) (hD : lD q on tu us qu)
    (hc : c < NP D1 0) (hd : ov c = some d) (hs : sf [q, on, tu, us, qu] s0 st) (hL : lS Γ st q h1 h2 on tu us qu (NP D1 0) e fon ft fu fq) (hV : lV (NP D1 0) e ov tt ud qq fon ft fu fq) (hI : lI (NP D1 0) (uG D1) G (osL D1 D2) (tsL D1 D2 t1 t2 w2) ov tt ud qq e)
    (h0 : ∀ s, sf [q, on, tu, us, qu] s0 s → (∃ e fon ft fu fq, lS Γ s q h1 h2 on tu us qu (NP D1 0) e fon ft fu fq) → ¬ G → K 0 s)
    (h1' : ∀ s ov' tt' ud' qq' e' fon' ft' fu' fq', sf [q, on, tu, us, qu] s0 s → lS Γ s q h1 h2 on tu us qu (NP D1 0) e' fon' ft' fu' fq' → lV (NP D1 0) e' ov' tt' ud' qq' fon' ft' fu' fq' → lI (NP D1 0) (uG D1) G (osL D1 D2) (tsL D1 D2 t1 t2 w2) ov' tt' ud' qq' e' → lX ov ov' tt tt' qq qq' e e' → (∀ i, i < uG D1 → ¬ ov' (uN D1 c i) = none) → (∀ i, i < uG D1 → lZ D1 D2 t1 t2 w1 w2 wy c d (tt c) i) → K 1 s) : MX13_goesOn Γ st q (nI c) (cond wy 1 (-1)) K := by
  have hg := u_dg o1
  have hN1 := u_N o1
  obtain ⟨rc, tc, _⟩ := r1 c hc
  obtain ⟨hdN, htc⟩ := hI.1 c d hc hd
  obtain ⟨rd, td, _⟩ := r2 d (by omega)
  rw [← hgg] at td
  have rc : rOk D1 c (t1 c) w1 fr1 ff1 := rc
  have rd : rOk D2 d (t2 d) w2 fr2 ff2 := rd
  have hS1 := H1 st hs
  have hS2 := H2 st hs
  unfold MX13_goesOn
  refine st_gr hL.1 (v := some on) rfl (st_nn (st_li hL.2.1 hc (by omega) ?_))
  rw [hV.1 c hc, hd]
  show eb_gr st q 12 0 _
  refine st_gr hL.1 (v := some h1) rfl (st_nn (st_gr hS1.1 (v := some net1) rfl (st_nn ⟨hS1.2.1.cs, sc_ndeg hS1.2.1 hc ?_⟩)))
  rw [u_deg o1 hc]
  refine st_gr hL.1 (v := some h2) rfl (st_nn (st_gr hS2.1 (v := some net2) rfl (st_nn ⟨hS2.2.1.cs, sc_ndeg (a := d) hS2.2.1 (by omega) ?_⟩)))
  rw [u_deg o2 (by omega), ← hgg]
  refine br_eq (by omega) (by omega) (fun _ => ?_) (fun z => absurd rfl z)
  refine eb_loop2_i (fun x5 s => ∃ i ov' tt' ud' qq' e' fon' ft' fu' fq', i ≤ uG D1 ∧ x5 = nI i ∧ sf [q, on, tu, us, qu] s0 s ∧ lS Γ s q h1 h2 on tu us qu (NP D1 0) e' fon' ft' fu' fq' ∧ lV (NP D1 0) e' ov' tt' ud' qq' fon' ft' fu' fq' ∧ lI (NP D1 0) (uG D1) G (osL D1 D2) (tsL D1 D2 t1 t2 w2) ov' tt' ud' qq' e' ∧ lX ov ov' tt tt' qq qq' e e' ∧ (∀ j, j < i → ¬ ov' (uN D1 c (pP (uG D1) w1 (t1 c) j)) = none) ∧ (∀ j, j < i → lZ D1 D2 t1 t2 w1 w2 wy c d (tt c) j)) (fun x5 _ => 10 - x5.toNatClampNeg) ?_ ⟨0, ov, tt, ud, qq, e, fon, ft, fu, fq, by omega, rfl, hs, hL, hV, hI, lX.rf _ _ _ _, fun j hj => absurd hj (Nat.not_lt_zero _), fun j hj => absurd hj (Nat.not_lt_zero _)⟩
  rintro R _ s ⟨i, ov', tt', ud', qq', e', fon', ft', fu', fq', hi, rfl, hs', hL', hV', hI', hX, hnb, hlz⟩ hR
  have hS1 := H1 s hs'
  have hS2 := H2 s hs'
  refine br_le (by omega) (by omega) (fun z => h1' s ov' tt' ud' qq' e' fon' ft' fu' fq' hs' hL' hV' hI' hX (fun m hm => ?_) (fun j hj => hlz j (by omega))) (fun z => ?_)
  · obtain ⟨y1, y2⟩ := pI_ok (uG D1) (by omega) (t1 c) tc m hm w1
    have := hnb _ (show pI (uG D1) w1 (t1 c) m < i by omega)
    rw [y2] at this
    exact this
  have hig : i < uG D1 := by omega
  obtain ⟨hd', etc⟩ := hX.2.2 c d hd
  refine st_gr hL'.1 (v := some tu) rfl (st_nn (st_li hL'.2.2.1 hc (by omega) ?_))
  rw [hV'.2.1 c hc (by rw [hd']; simp), etc]
  refine sc_fmw (by omega) htc hig ?_
  generalize hj : pP (uG D1) wy (tt c) i = j
  have hjl : j < uG D1 := by rw [← hj]; exact pP_lt hg.1 _ _ _
  refine st_gr hL'.1 (v := some h2) rfl ?_
  have hjp := lk_p (uG D1) (by omega) j hjl wy
  refine jp_1 (fun v => v = nI (cond wy j (prI (uG D1) j))) ?_ ?_
  · rintro _ rfl
    refine st_nn ⟨st_cs hS2.1 (by simp), sc_sizeBehind hS2 o2 rd (by omega) (by rw [← hgg]; exact hjp) ?_⟩
    rw [← hgg]
    have hc8 : i < 8 := by omega
    have hto := u_nb o1 hc (pP_lt hg.1 w1 (t1 c) i)
    have hth := u_nb o2 (c := d) (i := pP (uG D1) w2 (t2 d) j) (by omega) (by rw [← hgg]; exact pP_lt hg.1 _ _ _)
    refine st_gr hL'.1 (v := some h1) rfl (st_nn ⟨st_cs hS1.1 (by simp), sc_neighbour hS1 o1 hc hc8 ?_⟩)
    rw [(rc i hig).1]
    refine st_gr hL'.1 (v := some h2) rfl (st_nn ⟨st_cs hS2.1 (by simp), sc_neighbour hS2 o2 (c := d) (i := j) (by omega) (by omega) ?_⟩)
    rw [(rd j (by omega)).1, ← hgg]
    generalize hto' : uN D1 c (pP (uG D1) w1 (t1 c) i) = to
    generalize hth' : uN D2 d (pP (uG D1) w2 (t2 d) j) = there
    rw [hto'] at hto
    rw [hth'] at hth
    have hth1 : there < NP D1 0 := by omega
    refine st_gr hL'.1 (v := some h1) rfl (st_nn ⟨st_cs hS1.1 (by simp), sc_sizeBehind hS1 o1 rc hc hig ?_⟩)
    -- if it is good, all fits
    have good : G → d = osL D1 D2 c ∧ tt c = tsL D1 D2 t1 t2 w2 c ∧ there = osL D1 D2 to ∧ lZ D1 D2 t1 t2 w1 w2 wy c d (tt c) i := fun hgd => by
      obtain ⟨e1, e2⟩ := hG hgd
      obtain ⟨a1, a2⟩ := hI.2.2.2.2.1 hgd c d hc hd
      have L := lk_1 (uG D1) (by omega) (t2 d) td (t1 c) tc i hig w1 w2
      have ett : tt c = pI (uG D1) w2 (t2 d) (t1 c) := by rw [a2]; unfold tsL; rw [← a1]
      rw [← e2, ← ett] at L
      rw [hj] at L
      refine ⟨a1, a2, ?_, ?_⟩
      · rw [← hth', L.1, ← hto', a1]
        exact os_nb o1 o2 e1 hc (pP_lt hg.1 _ _ _)
      · unfold lZ
        rw [hj, L.2, a1]
        exact (os_zS o1 o2 e1 hc (pQ_lt hg.1 _ _ _)).symm
    have zl1 := (zS_le o1 hc (pQ_lt hg.1 w1 (t1 c) i)).1
    have zl2 := (zS_le o2 (c := d) (i := pQ (uG D1) w2 (t2 d) (cond wy j (prI (uG D1) j))) (by omega) (by rw [← hgg]; exact pQ_lt hg.1 _ _ _)).1
    have exL : ∃ e fon ft fu fq, lS Γ s q h1 h2 on tu us qu (NP D1 0) e fon ft fu fq := ⟨_, _, _, _, _, hL'⟩
    refine br_eq (by omega) (by omega) (fun ez => ?_) (fun ez => h0 s hs' exL (fun hgd => ez (by have := (good hgd).2.2.2; unfold lZ at this; rw [hj] at this; exact this)))
    have lz : lZ D1 D2 t1 t2 w1 w2 wy c d (tt c) i := by unfold lZ; rw [hj]; exact ez
    refine st_gr hL'.1 (v := some on) rfl (st_nn (st_li hL'.2.1 hto (by omega) ?_))
    rw [hV'.1 to hto]
    have rdon : ∀ {F : Int32 → Prop}, F (oI (ov' to)) → eb_gr s q 12 3 (fun v => eb_nn v (fun p => eb_li Γ s p 0 (nI to) F)) := fun {F} hF => st_gr hL'.1 (v := some on) rfl (st_nn (st_li hL'.2.1 hto (by omega) (by rw [hV'.1 to hto]; exact hF)))
    cases hov : ov' to with
    | none =>
      refine jp_0 (ud' there = false) (fun hud => ?_) (fun k101 hk101 => ⟨fun _ => st_gr hL'.1 (v := some us) rfl (st_nn (st_li hL'.2.2.2.1 hth1 (by omega) ?_)), fun y => absurd rfl y⟩)
      · refine rdon ?_
        rw [hov]
        refine jp_0 True (fun _ => ?_) (fun k95 hk95 => ⟨fun _ => hk95 trivial, fun y => absurd rfl y⟩)
        refine rdon ?_
        rw [hov]
        refine jp_1 (fun s' => ∃ ov1 tt1 ud1 qq1 e1 fon1 ft1 fu1 fq1, sf [q, on, tu, us, qu] s0 s' ∧ lS Γ s' q h1 h2 on tu us qu (NP D1 0) e1 fon1 ft1 fu1 fq1 ∧ lV (NP D1 0) e1 ov1 tt1 ud1 qq1 fon1 ft1 fu1 fq1 ∧ lI (NP D1 0) (uG D1) G (osL D1 D2) (tsL D1 D2 t1 t2 w2) ov1 tt1 ud1 qq1 e1 ∧ lX ov' ov1 tt' tt1 qq' qq1 e' e1 ∧ ¬ ov1 to = none) ?_ ?_
        · rintro s' ⟨ov1, tt1, ud1, qq1, e1, fon1, ft1, fu1, fq1, z1, z2, z3, z4, z5, z6⟩
          rw [nI_1]
          refine hR _ _ ⟨i + 1, ov1, tt1, ud1, qq1, e1, fon1, ft1, fu1, fq1, by omega, rfl, z1, z2, z3, z4, hX.tr z5, fun j' hj' => ?_, fun j' hj' => ?_⟩ (by rw [nI_cl (by omega), nI_cl (by omega)]; omega)
          · by_cases y : j' = i
            · rw [y, hto']; exact z6
            · exact z5.some (hnb j' (by omega))
          · by_cases y : j' = i
            · rw [y]; exact lz
            · exact hlz j' (by omega)
        · intro k65 hk65
          refine ⟨fun _ => ?_, fun y => absurd rfl y⟩
          obtain ⟨rt, ttt, _⟩ := r1 to hto
          obtain ⟨re, tte, _⟩ := r2 there (by omega)
          rw [← hgg] at tte
          have rt : rOk D1 to (t1 to) w1 fr1 ff1 := rt
          have re : rOk D2 there (t2 there) w2 fr2 ff2 := re
          -- the way back
          obtain ⟨m1, hm1, b1'⟩ := u_back o1 hc (pP_lt hg.1 w1 (t1 c) i)
          obtain ⟨m2, hm2, b2'⟩ := u_back o2 (c := d) (i := pP (uG D1) w2 (t2 d) j) (by omega) (by rw [← hgg]; exact pP_lt hg.1 _ _ _)
          rw [hto'] at b1'
          rw [hth'] at b2'
          rw [← hgg] at hm2
          obtain ⟨y1, y2⟩ := pI_ok (uG D1) (by omega) (t1 to) ttt m1 hm1 w1
          obtain ⟨x1, x2⟩ := pI_ok (uG D1) (by omega) (t2 there) tte m2 hm2 w2
          refine st_gr hL'.1 (v := some h2) rfl (st_nn ⟨st_cs hS2.1 (by simp), sc_placeOf (i := pI (uG D1) w2 (t2 there) m2) hS2 o2 (by omega) (by rw [← hgg]; exact tte) re (by rw [← hgg]; exact x1) (by rw [← hgg, x2]; exact b2') ?_⟩)
          refine st_gr hL'.1 (v := some h1) rfl (st_nn ⟨st_cs hS1.1 (by simp), sc_placeOf (i := pI (uG D1) w1 (t1 to) m1) hS1 o1 hto ttt rt y1 (by rw [y2]; exact b1') ?_⟩)
          refine st_gr hL'.1 (v := some h2) rfl (st_nn (st_gr hS2.1 (v := some net2) rfl (st_nn ⟨hS2.2.1.cs, sc_ndeg (a := there) hS2.2.1 (by omega) ?_⟩)))
          rw [u_deg o2 (by omega), ← hgg]
          refine sc_fmb (by omega) x1 y1 ⟨st_cs hL'.1 (by simp), sc_lcomes hL' hD hV' hI' (by omega) hto hov hth1 (pP_lt hg.1 _ _ _) (fun hgd => ?_) (fun s' fon1 ft1 fu1 fq1 z1 z2 z3 z4 z5 => hk65 _ ⟨_, _, _, _, _, fon1, ft1, fu1, fq1, hs'.tr z1, z2, z3, z4, z5, by rw [upo_eq]; simp⟩)⟩
          obtain ⟨e1, e2⟩ := hG hgd
          obtain ⟨a1, a2, a3, a4⟩ := good hgd
          refine ⟨a3, ?_⟩
          have em : m1 = m2 := by
            have := os_nb o1 o2 e1 hto hm1
            rw [b1', ← a1, ← a3] at this
            exact u_inj o2 (c := there) (by omega) (by omega) (by omega) (this.trans b2'.symm)
          have L := lk_3 (g := uG D1) (by omega) tte ttt x1 y1 (w1 := w1) (w2 := w2) (by rw [x2, y2, em])
          rw [← e2] at L
          rw [L]
          unfold tsL
          rw [← a3]
      · rw [hV'.2.2.1 there hth1]
        cases hud : ud' there with
        | false => exact ⟨fun _ => hk101 hud, fun y => absurd rfl y⟩
        | true =>
          refine ⟨fun y => absurd y (by decide), fun _ => h0 s hs' exL (fun hgd => ?_)⟩
          obtain ⟨e1, e2⟩ := hG hgd
          obtain ⟨a1, a2, a3, a4⟩ := good hgd
          obtain ⟨c', hc', y⟩ := hI'.2.2.2.2.2 there hth1 hud
          have := (hI'.2.2.2.2.1 hgd c' there hc' y).1
          rw [a3] at this
          have := os_inj o1 o2 e1 hto hc' this
          rw [← this, hov] at y
          exact absurd y (by simp)
    | some d' =>
      have hd'N := (hI'.1 to d' hto hov).1
      refine jp_0 True (fun _ => ?_) (fun k101 hk101 => ⟨fun y => (nI_m1 (by omega) y).elim, fun _ => hk101 trivial⟩)
      refine rdon ?_
      rw [hov]
      refine jp_0 (d' = there) (fun hdd => ?_) (fun k95 hk95 => ⟨fun y => (nI_m1 (by omega) y).elim, fun _ => rdon ?_⟩)
      · refine rdon ?_
        rw [hov]
        refine jp_1 (fun s' => s' = s) ?_ (fun k65 hk65 => ⟨fun y => (nI_m1 (by omega) y).elim, fun _ => hk65 _ rfl⟩)
        rintro _ rfl
        rw [nI_1]
        refine hR _ _ ⟨i + 1, ov', tt', ud', qq', e', fon', ft', fu', fq', by omega, rfl, hs', hL', hV', hI', hX, fun j' hj' => ?_, fun j' hj' => ?_⟩ (by rw [nI_cl (by omega), nI_cl (by omega)]; omega)
        · by_cases y : j' = i
          · rw [y, hto', hov]; simp
          · exact hnb j' (by omega)
        · by_cases y : j' = i
          · rw [y]; exact lz
          · exact hlz j' (by omega)
      · rw [hov]
        refine br_eq (by omega) (by omega) (fun y => hk95 y) (fun y => h0 s hs' exL (fun hgd => y ?_))
        rw [(good hgd).2.2.1]
        exact (hI'.2.2.2.2.1 hgd to d' hto hov).1
  · intro k108 hk108
    cases wy with
    | true => exact ⟨fun _ => hk108 _ rfl, fun y => absurd rfl y⟩
    | false =>
      refine ⟨fun y => absurd y (by decide), fun _ => st_gr hL'.1 (v := some h2) rfl (st_nn ⟨st_cs hS2.1 (by simp), sc_before hS2 o2 (c := d) (by omega) (by omega) ?_⟩)⟩
      rw [← hgg]
      exact hk108 _ rfl
end LB
