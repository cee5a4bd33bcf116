set_option maxRecDepth 100000
section RDT
variable {σ : eb_MS} {Ds : Nat → eb_D}
theorem RL_sol {D : eb_D} (h : ok3 D) (hF : ¬ duN D = 0) (hd : 3 ≤ uG D) : RL (uC D) = uG D := by
  unfold RL
  rw [← u_RF h, if_neg hF]
  show (if uG D = 2 then 1 else uG D) = uG D
  rw [if_neg (by omega)]
theorem RL_fl {D : eb_D} (h : ok3 D) (hF : ¬ duN D = 0) (hd : ¬ 3 ≤ uG D) : RL (uC D) = 1 ∧ uG D = 2 ∧ (∀ i, i < 2 → uF D 0 i = 0) := by
  rcases u_flat h hd with ⟨z1, z2, z3⟩ | ⟨z1, z2, z3⟩
  · refine ⟨?_, z1, (z3 0 (NP0_pos h)).2⟩
    unfold RL
    rw [← u_RF h, if_neg hF]
    show (if uG D = 2 then 1 else uG D) = 1
    rw [if_pos z1]
  · exact absurd z2 hF
theorem RL_0 {D : eb_D} (h : ok3 D) (hF : duN D = 0) : RL (uC D) = 0 := by
  unfold RL
  rw [← u_RF h, if_pos hF]
/-- a row that is told round corner 0 tells the least one -/
theorem row_mn {D : eb_D} (h : ok3 D) (hF : ¬ duN D = 0) {j0 : Nat} {w : Bool} (hj : j0 < uG D) {R : Nat → Nat} (hm : mnD (RL (uC D)) (fun k => SQ D (pP (uG D) w j0 k)) R) : ∀ k, k < RL (uC D) → R k = RW (uC D) k := by
  have hg := u_dg h
  refine SQ_mn h hF ?_
  by_cases hd : 3 ≤ uG D
  · rw [RL_sol h hF hd] at hm ⊢
    exact mnD_ch (by omega) hj (fun _ _ => rfl) hm
  · obtain ⟨e1, e2, e3⟩ := RL_fl h hF hd
    refine mnD_cg hm (fun k hk => ?_) (fun _ _ => rfl)
    have l1 := pP_lt hg.1 w j0 k
    show SQ D (pP (uG D) w j0 k) = SQ D k
    unfold SQ
    rw [e3 _ (by omega), e3 k (by omega)]
theorem sp_rounds {b : Nat} {K : eb_MS → Prop} (hI : mI σ Ds) (hb : b < 4) (h3 : ok3 (Ds b)) (hL : mL σ b (Ds b))
    (hK : ∀ t, fr rdW σ t → mI t Ds → mL t b (Ds b) → t.1 31 = nI (RL (uC (Ds b))) → (∀ k, k < RL (uC (Ds b)) → t.2.1 30 k = nI (RW (uC (Ds b)) k)) → K t) : MX2_rounds σ K := by
  have hv := h3.1
  have hz := h3.2.1
  have hzl := ZD_le hv
  have hg := u_dg h3
  have hLg := RL_g h3
  unfold MX2_rounds
  refine sp_faces hI hb hz hL (fun t0 f0 m0 L0 F0 => ?_)
  rw [ms_ws_iff]
  generalize ht : ms_ps t0 31 0 = t
  have ft0 : fr [31] t0 t := by rw [← ht]; exact (fr_rf _ _).ps (by decide)
  have mt := m0.fr ft0 (by decide)
  have Lt := L0.fr ft0 (by decide)
  have Ft := F0.fr ft0 (by decide) (by decide) (by decide)
  have t31 : t.1 31 = 0 := by rw [← ht]; exact ms_ps_eq _ _ _
  have fσ : fr rdW σ t := (f0.up (by decide)).tr (ft0.up (by decide))
  generalize hD : Ds b = D at *
  refine jp_1 (fun x => (x = -1 ∧ duN D = 0) ∨ ∃ j0, j0 < uG D ∧ x = nI (uFm D j0) ∧ ¬ duN D = 0) ?_ ?_
  · rintro _ (⟨rfl, hF⟩ | ⟨j0, hj0, rfl, hF⟩)
    · refine ⟨fun _ => hK t fσ mt Lt (by rw [t31, RL_0 h3 hF]; rfl) (fun k hk => by rw [RL_0 h3 hF] at hk; omega), fun z => absurd rfl z⟩
    obtain ⟨k0, q0, a1, a2, a3, a4, a5, a6⟩ := u_fmc h3 hF hj0
    have lt0 : uFm D j0 < 1500 := by omega
    refine ⟨fun z => (nI_m1 (by omega) z).elim, fun _ => ?_⟩
    have Lt' : mL t b (Ds b) := by rw [hD]; exact Lt
    have Ft' : mF t (Ds b) := by rw [hD]; exact Ft
    have hz' : ¬ ZD (Ds b) = 0 := by rw [hD]; exact hz
    rw [a5]
    -- the rest, from some edge of the first face
    have main : ∀ (w : Bool), eb_jp1 (fun (g7 : eb_MS) => eb_jp1 (fun (x4_8 : Int32) => eb_jp1 (fun (g9 : eb_MS) => eb_loop2 (fun r12 (x5_10 : Int32) (g11 : eb_MS) => eb_br ((g11.1 31) ≤ x5_10) (K g11) (eb_rd (g11.2.1 30) 64 (32 + x5_10) (fun v13 => ms_wr g11 30 64 x5_10 v13 (fun g14 => r12 (x5_10 + 1) g14)))) 0 g9) (fun k16 => eb_loop2 (fun r19 (x5_17 : Int32) (g18 : eb_MS) => eb_br ((g18.1 31) ≤ x5_17) (k16 g18) (MX2_told g18 x4_8 x5_17 (fun v20 => ms_wr g18 30 64 (32 + x5_17) v20 (fun g22 => r19 (x5_17 + 1) g22)))) 0 g7)) (fun k24 => eb_loop2 (fun r27 (x4_25 : Int32) (x5_26 : Int32) => eb_br ((2 * (g7.1 31)) ≤ x5_26) (k24 x4_25) (MX2_isLess g7 x5_26 x4_25 (fun v28 => eb_jp1 (fun (s30 : Int32) => r27 s30 (x5_26 + 1)) (fun k31 => eb_br (v28 = 0) (k31 x4_25) (k31 x5_26))))) 0 1)) (fun k34 => eb_loop3 (fun r38 (x2_35 : Int32) (x3_36 : Int32) (g37 : eb_MS) => MX2_faceSize g37 x2_35 (fun v39 g40 => ms_wr g40 30 64 (g37.1 31) v39 (fun g41 => ms_ws g41 31 (((g41.1 31) + 1)) (fun g42 => MX2_faceWith g42 x3_36 x2_35 (fun v43 => eb_jp1 (fun (s45 : Int32) => MX2_edgeWith g42 s45 x3_36 (fun v46 => eb_br (s45 = nI (500 * k0 + q0)) (k34 g42) (r38 s45 v46 g42))) (fun k49 => eb_br (v43 = (-1)) (k49 (nI (500 * k0 + q0))) (k49 v43))))))) (nI (500 * k0 + q0)) (nI (uEc D (eDx (uG D) w j0))) t) := by
      intro w
      refine jp_1 (fun s => fr [23, 30, 31] t s ∧ s.1 31 = nI (RL (uC D)) ∧ ∀ k, k < RL (uC D) → s.2.1 30 k = nI (SQ D (pP (uG D) w j0 k))) ?_ ?_
      · rintro s ⟨fs, s31, srow⟩
        have hL1 : 1 ≤ RL (uC D) := by
          by_cases hd : 3 ≤ uG D
          · rw [RL_sol h3 hF hd]; omega
          · rw [(RL_fl h3 hF hd).1]; omega
        have hSl : ∀ i, i < RL (uC D) → SQ D (pP (uG D) w j0 i) < 2147483648 := fun i hi => by
          have := (u_sz h3 (u_fl h3 hF (NP0_pos h3) (pP_lt hg.1 w j0 i))).1
          unfold SQ; omega
        refine sp_best (x1 := 0) s31 hL1 (by omega) srow hSl (fun s' R fs' hm hrow => ?_)
        have ff : fr rdW σ s' := (fσ.tr (fs.up (by decide))).tr (fs'.up (by decide))
        refine hK s' ff ((mt.fr fs (by decide)).fr fs' (by decide)) ((Lt.fr fs (by decide)).fr fs' (by decide)) (by rw [fs'.1 31 (by decide), s31]) (fun k hk => ?_)
        rw [hrow k hk, row_mn h3 hF hj0 hm k hk]
      · intro k34 hk34
        refine eb_loop3_i (fun x2 x3 s => ∃ m, m < RL (uC D) ∧ x2 = nI (uFm D (pP (uG D) w j0 m)) ∧ x3 = nI (uEc D (eDx (uG D) w (pP (uG D) w j0 m))) ∧ fr [23, 30, 31] t s ∧ s.1 31 = nI m ∧ ∀ k, k < m → s.2.1 30 k = nI (SQ D (pP (uG D) w j0 k))) (fun _ _ s => 100 - (s.1 31).toNatClampNeg) ?_ ⟨0, ?_, by rw [pP_0 (uG D) (by omega) j0 hj0 w, a5], by rw [pP_0 (uG D) (by omega) j0 hj0 w], fr_rf _ _, t31, fun k hk => absurd hk (Nat.not_lt_zero _)⟩
        · rintro R _ _ s ⟨m, hm, rfl, rfl, fs, s31, srow⟩ hR
          have hjl := pP_lt hg.1 w j0 m
          generalize hj : pP (uG D) w j0 m = j at *
          obtain ⟨k, q, b1, b2, b3, b4, b5, b6⟩ := u_fmc h3 hF hjl
          obtain ⟨s1, s2, s3, s4, s5, s6⟩ := sD_1 (uG D) (by omega) j hjl w
          obtain ⟨ei, eq, c1, c2, c3⟩ := u_ecc h3 hF s1
          have ms := mt.fr fs (by decide)
          have Ls' : mL s b (Ds b) := by rw [hD]; exact Lt.fr fs (by decide)
          have Fs' : mF s (Ds b) := by rw [hD]; exact Ft.fr fs (by decide) (by decide) (by decide)
          rw [b5]
          refine sp_faceSize ms hb hz' Ls' Fs' b1 b2 (fun s' fs' => ?_)
          rw [hD, u_fmsz h3 hF hjl b1 b3 b4 b6, s31, ms_wr_iff, nI_cl (by omega)]
          refine ⟨vp_inN (by omega) (by omega), ?_⟩
          rw [ms_ws_iff]
          have e31 : (ms_pa s' 30 m (nI (SQ D j))).1 31 = nI m := by
            show s'.1 31 = nI m
            rw [fs'.1 31 (by decide), s31]
          rw [e31, nI_1]
          generalize hu : ms_ps (ms_pa s' 30 m (nI (SQ D j))) 31 (nI (m + 1)) = u
          have fu : fr [23, 30, 31] t u := by
            rw [← hu]
            exact ((fs.tr (fs'.up (by decide))).pa (by decide)).ps (by decide)
          have u31 : u.1 31 = nI (m + 1) := by rw [← hu]; exact ms_ps_eq _ _ _
          have urow : ∀ k, k < m + 1 → u.2.1 30 k = nI (SQ D (pP (uG D) w j0 k)) := fun i hi => by
            rw [← hu]
            show (ms_pa s' 30 m (nI (SQ D j))).2.1 30 i = _
            rw [ms_pa_eq]
            by_cases e : i = m
            · rw [e, upd_eq, hj]
            · rw [upd_ne e, fs'.2.1 30 (by decide)]; exact srow i (by omega)
          have mu := mt.fr fu (by decide)
          have Lu' : mL u b (Ds b) := by rw [hD]; exact Lt.fr fu (by decide)
          have Fu' : mF u (Ds b) := by rw [hD]; exact Ft.fr fu (by decide) (by decide) (by decide)
          rw [c3]
          by_cases hd : 3 ≤ uG D
          · have hRL := RL_sol h3 hF hd
            -- on to the next face
            obtain ⟨k', q', d1, d2, d3, d4, d5, d6⟩ := u_fmc h3 hF s2
            have hne : ¬ uFm D (sDx (uG D) w j) = uFm D j := fun z => by
              have := u_fminj h3 hd hF s2 hjl z
              cases w with
              | true => exact (nx_ne (uG D) (by omega) (by omega) j hjl).1 this
              | false => exact (nx_ne (uG D) (by omega) (by omega) j hjl).2.1 this
            have nxt := u_next h3 hd hF hjl w
            have nxe := u_nextE h3 hd hF hjl w
            have hps := sD_p (uG D) (by omega) j0 hj0 m (by omega) w
            rw [hj] at hps
            have fin : eb_jp1 (fun (s45 : Int32) => MX2_edgeWith u s45 (nI (500 * ei + eq)) (fun v46 => eb_br (s45 = nI (500 * k0 + q0)) (k34 u) (R s45 v46 u))) (fun k49 => eb_br (nI (uFm D (sDx (uG D) w j)) = (-1)) (k49 (nI (500 * k0 + q0))) (k49 (nI (uFm D (sDx (uG D) w j))))) := by
              refine jp_1 (fun v => v = nI (uFm D (sDx (uG D) w j))) ?_ (fun k hk => ⟨fun z => (nI_m1 (by omega) z).elim, fun _ => hk _ rfl⟩)
              rintro _ rfl
              rw [d5]
              have fin2 : eb_br (nI (500 * k' + q') = nI (500 * k0 + q0)) (k34 u) (R (nI (500 * k' + q')) (nI (uEc D (eDx (uG D) w (sDx (uG D) w j)))) u) := by
                refine br_eq (by omega) (by omega) (fun e => ?_) (fun e => ?_)
                · have e0 : sDx (uG D) w j = j0 := u_fminj h3 hd hF s2 hj0 (by omega)
                  have em : m + 1 = RL (uC D) := by
                    by_cases z : m + 1 = uG D
                    · omega
                    · exfalso
                      rw [hps] at e0
                      have p0 := pP_0 (uG D) (by omega) j0 hj0 w
                      have := pP_inj (uG D) (by omega) j0 hj0 (m + 1) (by omega) 0 (by omega) w (e0.trans p0.symm)
                      omega
                  exact hk34 _ ⟨fu, by rw [u31, em], fun k hk => urow k (by omega)⟩
                · have hm1 : m + 1 < RL (uC D) := by
                    by_cases z : m + 1 = uG D
                    · exfalso
                      rw [hps, z, pP_g (uG D) (by omega) j0 hj0 w] at d5
                      omega
                    · omega
                  refine hR _ _ _ ⟨m + 1, hm1, by rw [← hps, d5], by rw [← hps], fu, u31, urow⟩ ?_
                  rw [u31, s31, nI_cl (by omega), nI_cl (by omega)]; omega
              refine sp_edgeWith mu hb hz' Lu' Fu' d1 d2 (fun g i p z1 z2 z3 z4 z5 z6 z7 => ?_) (fun hno => ?_)
              · rw [hD] at z1 z4 z5 z6
                have := (nxe (500 * i + p)).mp ⟨g, k', i, q', p, z1, d1, z2, z3, z4, z5, z6, d5.symm, rfl⟩
                rcases this with z | z
                · rw [c3] at z; exact absurd (by rw [z]) z7
                · rw [z]; exact fin2
              · exfalso
                obtain ⟨g, kk, i, p, r, z1, z2, z3, z4, z5, z6, z7, z8, z9⟩ := (nxe (uEc D (eDx (uG D) w (sDx (uG D) w j)))).mpr (Or.inr rfl)
                have hp := fP_l5 h3.1 z6 z1
                have hr := eP_l5 h3.1 z7 z1
                have ek : kk = k' := by omega
                have ep : p = q' := by omega
                subst ek; subst ep
                have := hno g i r (by rw [hD]; exact z1) z3 z4 (by rw [hD]; exact z5) (by rw [hD]; exact z6) (by rw [hD]; exact z7)
                have e2 := (nI_eq (by omega) (by omega)).mp this
                rw [z9, ← c3] at e2
                have e3 := u_ecinj h3 hF (sD_1 (uG D) (by omega) _ s2 w).1 s1 e2
                have hx : ¬ eDx (uG D) w (sDx (uG D) w j) = eDx (uG D) w j := by
                  cases w with
                  | true => exact fun z => (nx_ne (uG D) (by omega) (by omega) _ s4).1 z
                  | false => exact fun z => (nx_ne (uG D) (by omega) (by omega) _ hjl).2.1 z
                exact hx e3
            refine sp_faceWith mu hb hz' Lu' Fu' c1 c2 (fun g kk p z1 z2 z3 z4 z5 z6 z7 => ?_) (fun hno => ?_)
            · rw [hD] at z1 z4 z5 z6
              have := (nxt (500 * kk + p)).mp ⟨g, kk, ei, p, eq, z1, z2, c1, z3, z4, z6, z5, c3.symm, rfl⟩
              rcases this with z | z
              · rw [b5] at z; exact absurd (by rw [z]) z7
              · rw [z]; exact fin
            · exfalso
              obtain ⟨g, kk, i, p, r, z1, z2, z3, z4, z5, z6, z7, z8, z9⟩ := (nxt (uFm D (sDx (uG D) w j))).mpr (Or.inr rfl)
              have hp := fP_l5 h3.1 z6 z1
              have hr := eP_l5 h3.1 z7 z1
              have ek : i = ei := by omega
              have ep : r = eq := by omega
              subst ek; subst ep
              have := hno g kk p (by rw [hD]; exact z1) z2 z4 (by rw [hD]; exact z5) (by rw [hD]; exact z7) (by rw [hD]; exact z6)
              have e2 := (nI_eq (by omega) (by omega)).mp this
              rw [z9, ← b5] at e2
              exact hne e2
          · -- one face alone
            obtain ⟨e1, e2, e3⟩ := RL_fl h3 hF hd
            have same : ∀ i, i < uG D → uFm D i = 500 * k0 + q0 := fun i hi => u_fm_of h3 hF hi a1 a3 (by rw [a6, e3 i (by omega), e3 j0 (by omega)])
            have hkq : k = k0 ∧ q = q0 := by have := same j hjl; omega
            refine sp_faceWith mu hb hz' Lu' Fu' c1 c2 (fun g kk p z1 z2 z3 z4 z5 z6 z7 => ?_) (fun _ => ?_)
            · exfalso
              rw [hD] at z1 z4 z5 z6
              have := (u_faces h3 hF s1 (500 * kk + p)).mp ⟨g, kk, ei, p, eq, z1, z2, c1, z3, z4, z6, z5, c3.symm, rfl⟩
              have hs := sD_1 (uG D) (by omega) _ s1 true
              rw [same _ s1, same _ hs.2.2.1] at this
              exact z7 (by rw [show 500 * kk + p = 500 * k + q by omega])
            · refine jp_1 (fun v => v = nI (500 * k0 + q0)) ?_ (fun k hk => ⟨fun _ => hk _ rfl, fun z => absurd rfl z⟩)
              rintro _ rfl
              have ex : k34 u := hk34 _ ⟨fu, by rw [u31, show m + 1 = RL (uC D) by omega], fun k hk => urow k (by omega)⟩
              exact sp_edgeWith mu hb hz' Lu' Fu' a1 a2 (fun g i p _ _ _ _ _ _ _ => ⟨fun _ => ex, fun z => absurd rfl z⟩) (fun _ => ⟨fun _ => ex, fun z => absurd rfl z⟩)
        · by_cases hd : 3 ≤ uG D
          · rw [RL_sol h3 hF hd]; omega
          · rw [(RL_fl h3 hF hd).1]; omega
    refine sp_edgeWith mt hb hz' Lt' Ft' a1 a2 (fun g i p z1 z2 z3 z4 z5 z6 z7 => ?_) (fun hno => ?_)
    · rw [hD] at z1 z4 z5 z6
      have := (u_edges h3 hF hj0 (500 * i + p)).mp ⟨g, k0, i, q0, p, z1, a1, z2, z3, z4, z5, z6, a5.symm, rfl⟩
      rcases this with z | z
      · rw [z]; exact main false
      · rw [z]; exact main true
    · exfalso
      obtain ⟨g, kk, i, p, r, z1, z2, z3, z4, z5, z6, z7, z8, z9⟩ := (u_edges h3 hF hj0 (uEc D j0)).mpr (Or.inl rfl)
      have hp := fP_l5 h3.1 z6 z1
      have hr := eP_l5 h3.1 z7 z1
      have ek : kk = k0 := by omega
      have ep : p = q0 := by omega
      subst ek; subst ep
      have := hno g i r (by rw [hD]; exact z1) z3 z4 (by rw [hD]; exact z5) (by rw [hD]; exact z6) (by rw [hD]; exact z7)
      exact nI_m1 (by omega) this
  · intro k52 hk52
    refine eb_loop2_i (fun x1 x2 => ∃ m, m ≤ 3 ∧ x2 = nI m - 1 ∧ ((x1 = -1 ∧ ∀ k, m ≤ k → k < 3 → fM D k = 0) ∨ ∃ j0, j0 < uG D ∧ x1 = nI (uFm D j0) ∧ ¬ duN D = 0)) (fun _ x2 => (x2 + 1).toNatClampNeg) ?_ ⟨3, by omega, by decide, Or.inl ⟨rfl, fun k h1 h2 => absurd h1 (by omega)⟩⟩
    rintro R x1 _ ⟨m, hm, rfl, hx⟩ hR
    cases m with
    | zero =>
      refine ⟨fun _ => hk52 _ ?_, fun z => absurd (by decide) z⟩
      rcases hx with ⟨z1, z2⟩ | z
      · refine Or.inl ⟨z1, ?_⟩
        unfold duN
        rw [z2 0 (by omega) (by omega), z2 1 (by omega) (by omega), z2 2 (by omega) (by omega)]
      · exact Or.inr z
    | succ m =>
      rw [nI_pred]
      refine ⟨fun z => absurd z (nI_neg (by omega)), fun _ => ?_⟩
      have hm3 : m < 3 := by omega
      have hfl := fM_le D m
      rw [eb_rd_iff, nI_cl (by omega), Ft.2.2 m hm3]
      refine ⟨vp_inN (by omega) (by omega), ?_⟩
      refine jp_1 (fun v => (v = -1 ∧ ∀ k, m ≤ k → k < 3 → fM D k = 0) ∨ ∃ j0, j0 < uG D ∧ v = nI (uFm D j0) ∧ ¬ duN D = 0) ?_ ?_
      · intro v hv'
        have e1 : nI m + (-1) = nI m - 1 := by grind
        rw [e1]
        refine hR _ _ ⟨m, by omega, rfl, hv'⟩ ?_
        rw [show nI m - 1 + 1 = nI m by grind, show nI (m + 1) - 1 + 1 = nI (m + 1) by grind, nI_cl (by omega), nI_cl (by omega)]
        omega
      · intro k58 hk58
        refine br_le (b := 0) (by omega) (by omega) (fun h0 => hk58 _ ?_) (fun h0 => ?_)
        · rcases hx with ⟨z1, z2⟩ | z
          · refine Or.inl ⟨z1, fun k h1 h2 => ?_⟩
            by_cases e : k = m
            · rw [e]; omega
            · exact z2 k (by omega) h2
          · exact Or.inr z
        · have hkd : kdD D m = true := by
            unfold fM at h0
            unfold kdD
            cases hh : isK D (fS m) with
            | true => rfl
            | false => rw [hh] at h0; exact absurd (Nat.le_refl 0) h0
          have hfp : fP D m 0 = some (PN D (fS m) 0) := fP_iff.mpr ⟨hkd, rfl⟩
          have hz0 : 0 < ZD D := by omega
          have hq := fP_lt hfp hz0
          have hF : ¬ duN D = 0 := by
            have c3 : m = 0 ∨ m = 1 ∨ m = 2 := by omega
            unfold duN
            rcases c3 with rfl | rfl | rfl <;> omega
          have e500 : (500 : Int32) * nI m = nI (500 * m + 0) := by rw [show (500 : Int32) = nI 500 from rfl, nI_mul]; rfl
          rw [eb_rd_iff, e500, nI_cl (by omega), Ft.2.1 m 0 hm3 hz0, hfp]
          refine ⟨vp_inN (by omega) (by omega), hk58 _ (Or.inr ?_)⟩
          have hFA : FA D (offF D (fM D) m + PN D (fS m) 0) 0 = true := FA_iff.mpr ⟨0, m, hz0, hm3, hkd, rfl, PN_00 D⟩
          obtain ⟨j, hj, e⟩ := (u_f0 h3 hF _).mp hFA
          refine ⟨j, hj, ?_, hF⟩
          rw [u_fm_of h3 hF hj hm3 hq e.symm]
          show nI (500 * m + 0) + nI (PN D (fS m) 0) = nI (500 * m + PN D (fS m) 0)
          rw [nI_add, Nat.add_zero]
end RDT
