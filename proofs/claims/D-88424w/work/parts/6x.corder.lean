set_option maxRecDepth 100000
section CORD
variable {Γ : eb_C} {E : cET} {st st' : eb_S} {I I' : Nat → va_E → Prop} {ad : Nat → Nat} {bd : Nat → cBT} {x : cXT} {Ds : Nat → eb_D} {p bc bs : Nat}
/-- what the angles of a body in another order are, row by row -/
def oA (D : eb_D) (w m l k : Nat) : Int32 := if (k / 4 < m ∧ k % 4 < D.1) ∨ (k / 4 = m ∧ k % 4 < l) then nI (D.2.1 (4 * ord D.1 w (k / 4) + ord D.1 w (k % 4))) else 2
theorem oA_end {D : eb_D} {w : Nat} (hv : vD D) (h : okO D.1 w) {k : Nat} (hk : k < 16) : oA D w D.1 0 k = nI ((oD D w).2.1 k) := by
  have hr := hv.1
  have hol : ∀ i, i < D.1 → ord D.1 w i < D.1 := fun i hi => okO_dg hr.2 h (by omega)
  have eO : (oD D w).2.1 k = cond (inO D.1 k) (D.2.1 (4 * ord D.1 w (k / 4) + ord D.1 w (k % 4))) 2 := rfl
  rw [eO]
  unfold oA inO
  by_cases h1 : k / 4 < D.1
  · by_cases h2 : k % 4 < D.1
    · rw [if_pos (Or.inl ⟨h1, h2⟩), nlT h1, nlT h2]
      by_cases h3 : k / 4 = k % 4
      · rw [nbT h3, h3]
        have := (hv.2.2 _ _ (Nat.lt_of_lt_of_le (hol _ h2) hr.2) (Nat.lt_of_lt_of_le (hol _ h2) hr.2)).2.2.2 (Or.inl rfl)
        rw [this]
        rfl
      · rw [nbF h3]
        rfl
    · rw [if_neg (by omega), nlF h2, Bool.and_false]; rfl
  · rw [if_neg (by omega), nlF h1]; rfl
theorem cW_order {a w c : Int32} {K : Int32 → eb_S → Prop} (hE : cEm E) (hW : cW Γ E st p Ds) (hbc : 5 ≤ bc) (hbs : 61 ≤ bs)
    (h2 : (∀ b x d, b < 4 → a = nI b → x < 2147483648 → w = nI x → d < 4 → c = nI d → ¬ okO (Ds b).1 x) → ∀ t, cW Γ E t p Ds → K (-2) t)
    (h1 : ∀ b x d, b < 4 → a = nI b → x < 2147483648 → w = nI x → d < 4 → c = nI d → okO (Ds b).1 x → ∀ t, cW Γ E t p (updD Ds d (oD (Ds b) x)) → K 1 t) : MX0_order Γ bc bs st p a w c K := by
  obtain ⟨I, ad, bd, x0, hp, h⟩ := hW
  subst hp
  unfold MX0_order
  refine sc_isBody (fun hba => ⟨fun z => absurd z (by decide), fun _ => ?_⟩) (fun hb => ⟨fun _ => h2 (fun b x d hb' e _ _ _ _ _ => hb (by rw [e]; exact body_in hb')) _ (h.W rfl), fun z => absurd rfl z⟩)
  obtain ⟨b, hb, rfl⟩ : ∃ b : Nat, b < 4 ∧ a = nI b := (body_or a).resolve_right (fun w => w hba)
  refine sc_isBody (fun hca => ⟨fun z => absurd z (by decide), fun _ => ?_⟩) (fun hb => ⟨fun _ => h2 (fun b x d _ _ _ _ hb' e _ => hb (by rw [e]; exact body_in hb')) _ (h.W rfl), fun z => absurd rfl z⟩)
  obtain ⟨d, hd, rfl⟩ : ∃ b : Nat, b < 4 ∧ c = nI b := (body_or c).resolve_right (fun w => w hca)
  refine ⟨fun hw0 => ?_, fun hw0 => h2 (fun b' x _ _ _ hx e _ _ _ => hw0 (by rw [e]; exact nI_pos' hx)) _ (h.W rfl)⟩
  obtain ⟨x, hx, rfl⟩ := nI_of (Int32.not_lt.mpr hw0)
  have bad : ¬ okO (Ds b).1 x → ∀ t, cW Γ E t (ad 16) Ds → K (-2) t := fun hn => h2 (fun b' x' d' hb' e hx' ex _ _ z => hn (by
    have e1 : b = b' := (nI_eq (by omega) (by omega)).mp e
    have e2 : x = x' := (nI_eq hx hx').mp ex
    rw [e1, e2]; exact z))
  have good := h1 b x d hb rfl hx rfl hd rfl
  clear h1 h2
  have hv := h.v hb
  have hr := hv.1
  have hring := hv.ring
  refine h.at hb ((h.body hb).r ⟨st_ok1 (by omega), ?_⟩)
  rw [nI_cl (by omega)]
  refine st_mk (by omega) (by omega) (fun q s1 f1 g1 w1 => ?_)
  refine jp_3 (fun y z g => y = nI (x / 10 ^ (Ds b).1) ∧ z = nI (orU (Ds b).1 x (Ds b).1) ∧ sf [q] st g ∧ ∃ f, g q = some (eb_ia Γ 0 (Ds b).1 f) ∧ ∀ i, i < (Ds b).1 → f i = nI (ord (Ds b).1 x i)) ?_ ?_
  · rintro _ _ g ⟨rfl, rfl, hg, f, wq, hrow⟩
    have hV := h.keep (I' := I) hE hg (fun w hw => by rw [List.mem_singleton.mp hw]; exact f1) (fun _ _ z => z) (fun _ _ z => Or.inl z)
    have hdl : x / 10 ^ (Ds b).1 ≤ x := Nat.div_le_self _ _
    refine br_eq (b := 0) (by omega) (by omega) (fun h3 => ?_) (fun h3 => bad (fun z => h3 z.1) g (hV.W rfl))
    have hU := (orU_lt (r := (Ds b).1) (w := x) hr.2 (Ds b).1).1
    have h16 : 2 ^ (Ds b).1 ≤ 2 ^ 4 := Nat.pow_le_pow_right (by omega) hr.2
    refine ⟨(hV.body hb).cs, sc_all hv (hV.body hb) ?_⟩
    refine br_eq (by omega) (by omega) (fun h4 => ?_) (fun h4 => bad (fun z => h4 z.2) g (hV.W rfl))
    have hok : okO (Ds b).1 x := ⟨h3, h4⟩
    have hol : ∀ i, i < (Ds b).1 → ord (Ds b).1 x i < (Ds b).1 := fun i hi => okO_dg hr.2 hok (by omega)
    refine st_mk (by omega) (by omega) (fun q0 s5 f5 g5 w5 => ⟨3, 48, ⟨by omega, by omega⟩, sc_bodyinit w5 (Nat.le_refl _) (Nat.le_refl _) (fun s6 q1 q2 q3 fA g6 e1 e2 e3 n12 n13 n23 w6 c1 cf c2 c3 => ?_)⟩)
    have nn : ∀ {c : Nat}, s5 c = none → g c = none := fun {c} hc => by
      cases hh : g c with
      | none => rfl
      | some y => have := g5 _ _ hh List.not_mem_nil; rw [hc] at this; exact absurd this (by simp)
    have kq : ∀ {c : Nat}, s5 c = none → ¬ q0 = c := fun hc => st_ne w5 hc
    have nq0 := st_ne wq f5
    have nq1 := st_ne wq (nn e1)
    have n0 : ∀ {a : Nat}, ¬ a = q0 → a ∉ [q0] := fun h z => h (List.mem_singleton.mp z)
    refine st_pt w6 (by simp) (fun s7 g7 w7 => ?_)
    have g57 : sf [q0] g s7 := ((g5.up (fun _ z => absurd z List.not_mem_nil)).tr g6).tr g7
    have d1 := g7 _ _ c1 (n0 (fun z => kq e1 z.symm))
    have d2 := g7 _ _ c2 (n0 (fun z => kq e2 z.symm))
    have d3 := g7 _ _ c3 (n0 (fun z => kq e3 z.symm))
    have dq := g57 _ _ wq (n0 nq0)
    have m01 : ∀ {a : Nat}, ¬ a = q0 → ¬ a = q1 → a ∉ [q0, q1] := fun {a} h0 h1 z => by
      simp only [List.mem_cons, List.not_mem_nil, or_false] at z
      exact z.elim h0 h1
    have hs7 : ∀ g', sf [q0, q1] s7 g' → sf [q0, q1] g g' := fun g' hg' => (g57.up (fun k hk => by rw [List.mem_singleton.mp hk]; simp)).tr hg'
    have hV7 : ∀ g', sf [q0, q1] s7 g' → cV Γ E g' I ad bd x0 Ds := fun g' hg' => hV.keep (I' := I) hE (hs7 g' hg') (fun w hw => by
      simp only [List.mem_cons, List.not_mem_nil, or_false] at hw
      rcases hw with z | z
      · rw [z]; exact f5
      · rw [z]; exact nn e1) (fun _ _ z => z) (fun _ _ z => Or.inl z)
    refine jp_1 (fun g' => sf [q0, q1] s7 g' ∧ ∃ f', g' q0 = some (.inr (1, [.int (nI (Ds b).1), .ref q1, .int (nI (orR (Ds b).2.2 (Ds b).1 x (Ds b).1)), .null, .int 0, .ref q2, .ref q3, .null, .null])) ∧ g' q1 = some (eb_ia Γ 0 16 f') ∧ ∀ k, k < 16 → f' k = oA (Ds b) x (Ds b).1 0 k) ?_ ?_
    · rintro g' ⟨hg', f', u0, u1, hf'⟩
      have hV' := hV7 g' hg'
      refine st_gr (hV'.1.2.1 0 (by omega)) (v := some (ad 17)) rfl (st_nn ⟨st_cs u0 (by decide), st_wr (hV'.1.2.1 1 (by omega)) hd (by omega) (fun s9 g9 w9 => ?_)⟩)
      have u2 := hg' _ _ d2 (m01 (fun z => kq e2 z.symm) (fun z => n12 z.symm))
      have u3 := hg' _ _ d3 (m01 (fun z => kq e3 z.symm) (fun z => n13 z.symm))
      have hfin : ∀ nw : Nat → Nat, nw 0 = q0 → nw 1 = q1 → nw 2 = q2 → nw 3 = q3 → cV Γ E s9 I (adN ad d nw) (upB bd d ((nI (Ds b).1, nI (orR (Ds b).2.2 (Ds b).1 x (Ds b).1), 0), (none, none, none), f', (fun _ => none), fun _ => 0)) x0 (updD Ds d (oD (Ds b) x)) := by
        rintro nw rfl rfl rfl rfl
        have hnn : ∀ j, j < 4 → g (nw j) = none := fun j hj => match j, hj with
          | 0, _ => f5
          | 1, _ => nn e1
          | 2, _ => nn e2
          | 3, _ => nn e3
        have n17 : ∀ j, j < 4 → nw j ∉ [ad (16 + 1)] := fun j hj z => by
          obtain ⟨y, hy⟩ := hV.1.known (i := 17) (by omega)
          have e := hnn j hj
          rw [List.mem_singleton.mp z] at e
          have e' : ad (16 + 1) = ad 17 := rfl
          rw [e', hy] at e
          exact absurd e (by simp)
        refine hV.newB hd (fun a y ha hw => g9 _ _ (hs7 g' hg' _ _ ha (m01 (fun z => ?_) (fun z => ?_))) hw) w9 hnn (fun j hj => ?_) (fun i j hi hj e => ?_) _ ⟨vD_ord hv hok, ⟨rfl, rfl, fun k hk => ?_⟩, Or.inl ⟨rfl, rfl⟩, fun s q' _ z => absurd z (by simp), fun y z => absurd z (by simp), fun y z => absurd z (by simp)⟩ rfl
        · rw [z, f5] at ha; exact absurd ha (by simp)
        · rw [z, nn e1] at ha; exact absurd ha (by simp)
        · match j, hj with
          | 0, _ =>
            have := g9 _ _ u0 (n17 0 (by omega))
            rw [this]
            unfold wB
            rw [adN_b (by omega), adN_b (by omega), adN_b (by omega)]
            rfl
          | 1, _ => exact g9 _ _ u1 (n17 1 (by omega))
          | 2, _ => exact g9 _ _ u2 (n17 2 (by omega))
          | 3, _ => exact g9 _ _ u3 (n17 3 (by omega))
        · match i, j, hi, hj with
          | 0, 0, _, _ => rfl
          | 1, 1, _, _ => rfl
          | 2, 2, _, _ => rfl
          | 3, 3, _, _ => rfl
          | 0, 1, _, _ => exact absurd e (kq e1)
          | 0, 2, _, _ => exact absurd e (kq e2)
          | 0, 3, _, _ => exact absurd e (kq e3)
          | 1, 0, _, _ => exact absurd e.symm (kq e1)
          | 2, 0, _, _ => exact absurd e.symm (kq e2)
          | 3, 0, _, _ => exact absurd e.symm (kq e3)
          | 1, 2, _, _ => exact absurd e n12
          | 1, 3, _, _ => exact absurd e n13
          | 2, 3, _, _ => exact absurd e n23
          | 2, 1, _, _ => exact absurd e.symm n12
          | 3, 1, _, _ => exact absurd e.symm n13
          | 3, 2, _, _ => exact absurd e.symm n23
        · exact (hf' k hk).trans (oA_end hv hok hk)
      have hV9 := hfin (fun j => if j = 0 then q0 else if j = 1 then q1 else if j = 2 then q2 else q3) rfl rfl rfl rfl
      exact good hok _ ⟨I, _, _, x0, adN_o (by omega), hV9⟩
    · intro k34 hk34
      refine eb_loop2_i (fun y g' => ∃ m f', m ≤ (Ds b).1 ∧ y = nI m ∧ sf [q0, q1] s7 g' ∧ g' q0 = some (.inr (1, [.int (nI (Ds b).1), .ref q1, .int (nI (orR (Ds b).2.2 (Ds b).1 x m)), .null, .int 0, .ref q2, .ref q3, .null, .null])) ∧ g' q1 = some (eb_ia Γ 0 16 f') ∧ ∀ k, k < 16 → f' k = oA (Ds b) x m 0 k) (fun y _ => 10 - y.toNatClampNeg) ?_ ⟨0, fA, by omega, rfl, sf.rf _ _, w7, d1, fun k hk => ?_⟩
      · rintro R _ g' ⟨m, f', hm, rfl, hg', u0, u1, hf'⟩ hR
        refine br_le (by omega) (by omega) (fun h5 => hk34 _ ⟨hg', f', ?_, u1, fun k hk => ?_⟩) (fun h5 => ?_)
        · rw [u0, show m = (Ds b).1 by omega]
        · rw [hf' k hk, show m = (Ds b).1 by omega]
        · have hV' := hV7 g' hg'
          have uq := hg' _ _ dq (m01 nq0 nq1)
          have ho := hol m (by omega)
          refine st_gi u0 rfl ((hV'.body hb).g (st_li uq (by omega) (by omega) ?_))
          have hl := orR_lt (g := (Ds b).2.2) (r := (Ds b).1) (w := x) m (by omega)
          have h16' : 2 ^ m ≤ 2 ^ 4 := Nat.pow_le_pow_right (by omega) (by omega)
          rw [hrow m (by omega), show eb_shr (nI (Ds b).2.2) (nI (ord (Ds b).1 x m)) &&& 1 = nI (bt (Ds b).2.2 (ord (Ds b).1 x m)) from mk_bit _ hring _ (by omega), (mk_shb _ (bt_lt _ _) m (by omega)).1, mk_or _ (by omega) _ (mk_shb _ (bt_lt _ _) m (by omega)).2]
          refine st_pt u0 (by simp) (fun s8 g8 w8 => ?_)
          have n1 : ¬ q1 = q0 := fun z => kq e1 z.symm
          have v1 := g8 _ _ u1 (n0 n1)
          refine jp_1 (fun g' => sf [q0, q1] s7 g' ∧ ∃ f', g' q0 = some (.inr (1, [.int (nI (Ds b).1), .ref q1, .int (nI (orR (Ds b).2.2 (Ds b).1 x (m + 1))), .null, .int 0, .ref q2, .ref q3, .null, .null])) ∧ g' q1 = some (eb_ia Γ 0 16 f') ∧ ∀ k, k < 16 → f' k = oA (Ds b) x m (Ds b).1 k) ?_ ?_
          · rintro g'' ⟨hg'', f'', u0', u1', hf''⟩
            rw [nI_1]
            refine hR _ _ ⟨m + 1, f'', by omega, rfl, hg'', u0', u1', fun k hk => ?_⟩ ?_
            · rw [hf'' k hk]
              unfold oA
              by_cases hc : (k / 4 < m ∧ k % 4 < (Ds b).1) ∨ (k / 4 = m ∧ k % 4 < (Ds b).1)
              · rw [if_pos hc, if_pos (by omega)]
              · rw [if_neg hc, if_neg (by omega)]
            · rw [nI_cl (by omega), nI_cl (by omega)]; omega
          · intro k43 hk43
            have hs8 : sf [q0, q1] s7 s8 := hg'.tr (g8.up (fun k hk => by rw [List.mem_singleton.mp hk]; simp))
            refine eb_loop2_i (fun y g' => ∃ l f', l ≤ (Ds b).1 ∧ y = nI l ∧ sf [q0, q1] s7 g' ∧ g' q0 = some (.inr (1, [.int (nI (Ds b).1), .ref q1, .int (nI (orR (Ds b).2.2 (Ds b).1 x (m + 1))), .null, .int 0, .ref q2, .ref q3, .null, .null])) ∧ g' q1 = some (eb_ia Γ 0 16 f') ∧ ∀ k, k < 16 → f' k = oA (Ds b) x m l k) (fun y _ => 10 - y.toNatClampNeg) ?_ ⟨0, f', by omega, rfl, hs8, w8, v1, hf'⟩
            rintro R2 _ g'' ⟨l, f'', hl', rfl, hg'', u0', u1', hf''⟩ hR2
            refine br_le (by omega) (by omega) (fun h6 => hk43 _ ⟨hg'', f'', u0', u1', fun k hk => ?_⟩) (fun h6 => ?_)
            · rw [hf'' k hk, show l = (Ds b).1 by omega]
            · have hV'' := hV7 g'' hg''
              have uq' := hg'' _ _ dq (m01 nq0 nq1)
              have ho' := hol l (by omega)
              refine st_gr u0' (v := some q1) rfl (st_li uq' (by omega) (by omega) (st_li uq' (by omega) (by omega) ?_))
              rw [hrow m (by omega), hrow l (by omega)]
              refine ⟨(hV''.body hb).cs, sc_angle (hV''.body hb) (by omega) (by omega) (st_nn ?_)⟩
              rw [show (4 : Int32) * nI m + nI l = nI (4 * m + l) by rw [show (4 : Int32) = nI 4 from rfl, nI_mul, nI_add]]
              refine st_wi u1' (by omega) (by omega) (fun s9 g9 w9 => ?_)
              rw [nI_1]
              refine hR2 _ _ ⟨l + 1, _, by omega, rfl, hg''.tr (g9.up (fun k hk => by rw [List.mem_singleton.mp hk]; simp)), g9 _ _ u0' (fun z => n1 (List.mem_singleton.mp z).symm), w9, fun k hk => ?_⟩ ?_
              · by_cases ek : k = 4 * m + l
                · rw [ek, upd_eq]
                  unfold oA
                  rw [if_pos (by omega), show (4 * m + l) / 4 = m by omega, show (4 * m + l) % 4 = l by omega]
                · rw [upd_ne ek, hf'' k hk]
                  unfold oA
                  by_cases hc : (k / 4 < m ∧ k % 4 < (Ds b).1) ∨ (k / 4 = m ∧ k % 4 < l)
                  · rw [if_pos hc, if_pos (by omega)]
                  · rw [if_neg hc, if_neg (by omega)]
              · rw [nI_cl (by omega), nI_cl (by omega)]; omega
      · rw [cf k hk]
        unfold oA
        rw [if_neg (by omega)]
  · intro k hk
    rw [show nI (Ds b).1 - 1 = nI ((Ds b).1 - 1) from nI_sub (b := 1) (by omega)]
    refine eb_loop4_i (fun y z u g => ∃ s f, s ≤ (Ds b).1 ∧ y = nI (x / 10 ^ s) ∧ z = nI (orU (Ds b).1 x s) ∧ ((s < (Ds b).1 ∧ u = nI ((Ds b).1 - 1 - s)) ∨ (s = (Ds b).1 ∧ u = -1)) ∧ sf [q] st g ∧ g q = some (eb_ia Γ 0 (Ds b).1 f) ∧ ∀ j, j < s → f ((Ds b).1 - 1 - j) = nI (dg x j)) (fun y z u t => if u < 0 then 0 else u.toNatClampNeg + 1) ?_ ⟨0, _, by omega, by rw [Nat.pow_zero, Nat.div_one], rfl, Or.inl ⟨by omega, rfl⟩, g1.up (fun _ z => absurd z List.not_mem_nil), w1, fun j hj => absurd hj (Nat.not_lt_zero _)⟩
    rintro R y z u g ⟨s, f, hs, rfl, rfl, hu, hg, wq, hrow⟩ hR
    rcases hu with ⟨hsr, rfl⟩ | ⟨hsr, rfl⟩
    · refine ⟨fun z => absurd z (nI_neg (by omega)), fun _ => ?_⟩
      have hdl : x / 10 ^ s ≤ x := Nat.div_le_self _ _
      have hdg : dg x s < 10 := Nat.mod_lt _ (by omega)
      have hU := (orU_lt (r := (Ds b).1) (w := x) hr.2 s).1
      have eU : orU (Ds b).1 x (s + 1) = Nat.lor (orU (Ds b).1 x s) (cond (Nat.blt (dg x s) (Ds b).1) (2 ^ dg x s) 0) := rfl
      rw [show eb_rem (nI (x / 10 ^ s)) 10 = nI (dg x s) from nI_rem (by omega) (by omega : (10 : Nat) < 2147483648), show nI (x / 10 ^ s) / 10 = nI (x / 10 ^ (s + 1)) by rw [ten_s]; exact nI_div (by omega) (by omega : (10 : Nat) < 2147483648)]
      refine st_wi wq (by omega) (by omega) (fun s2 g2 w2 => st_li w2 (by omega) (by omega) ?_)
      rw [upd_eq]
      refine jp_1 (fun y => y = nI (cond (Nat.blt (dg x s) (Ds b).1) (2 ^ dg x s) 0)) ?_ ?_
      · rintro _ rfl
        have hc : cond (Nat.blt (dg x s) (Ds b).1) (2 ^ dg x s) 0 < 16 := by
          by_cases e : dg x s < (Ds b).1
          · rw [nlT e]; exact mk_p2 _ (by omega)
          · rw [nlF e]; exact (by decide : 0 < 16)
        rw [mk_or _ hU _ hc]
        refine hR _ _ _ _ ⟨s + 1, _, by omega, rfl, by rw [eU], ?_, hg.tr g2, w2, fun j hj => ?_⟩ ?_
        · by_cases e : s + 1 = (Ds b).1
          · right
            refine ⟨e, ?_⟩
            rw [show (Ds b).1 - 1 - s = 0 by omega]; decide
          · left
            refine ⟨by omega, ?_⟩
            rw [show (Ds b).1 - 1 - s = ((Ds b).1 - 1 - (s + 1)) + 1 by omega, nI_p]
        · by_cases ej : j = s
          · rw [ej, upd_eq]
          · rw [upd_ne (by omega)]; exact hrow j (by omega)
        · rw [if_neg (nI_neg (by omega) : ¬ nI ((Ds b).1 - 1 - s) < 0), nI_cl (by omega)]
          by_cases e : s + 1 = (Ds b).1
          · rw [show (Ds b).1 - 1 - s = 0 by omega, if_pos (by decide)]; omega
          · rw [show (Ds b).1 - 1 - s = ((Ds b).1 - 1 - (s + 1)) + 1 by omega, nI_p, if_neg (nI_neg (by omega)), nI_cl (by omega)]; omega
      · intro kk hkk
        refine br_le (by omega) (by omega) (fun h6 => hkk _ ?_) (fun h6 => st_li w2 (by omega) (by omega) ?_)
        · rw [nlF (by omega : ¬ dg x s < (Ds b).1)]; rfl
        · rw [upd_eq]
          refine hkk _ ?_
          rw [nlT (by omega : dg x s < (Ds b).1), mk_shl _ (by omega)]; rfl
    · refine ⟨fun _ => hk _ _ _ ⟨by rw [hsr], by rw [hsr], hg, f, wq, fun i hi => ?_⟩, fun z => absurd (by decide) z⟩
      have := hrow ((Ds b).1 - 1 - i) (by omega)
      rw [show (Ds b).1 - 1 - ((Ds b).1 - 1 - i) = i by omega] at this
      exact this
end CORD
