set_option maxRecDepth 100000
def mxo (m : Nat) : Option Nat → Nat
  | none => m
  | some d => if d ≤ m then m else d
noncomputable def dfJ (A : Nat → Nat → Bool) (n c m : Nat) : Nat → Nat
  | 0 => m
  | d + 1 => mxo (dfJ A n c m d) (fo A n c d)
noncomputable def dfI (A : Nat → Nat → Bool) (n : Nat) : Nat → Nat
  | 0 => 0
  | c + 1 => dfJ A n c (dfI A n c) n
section API22
variable {σ : eb_MS} {Ds : Nat → eb_D}
theorem eb_shifts (x y : Nat) (k : Int32) (hk : k = nI y) : nI x + k = nI (x + y) := by rw [hk, nI_add]
theorem sp_duals {b : Nat} {K : Int32 → eb_MS → Prop} (hI : mI σ Ds) (hb : b < 4) (hz : ¬ ZD (Ds b) = 0) (h3 : (Ds b).1 = 3) (hL : mL σ b (Ds b))
    (hK : ∀ t, mI t Ds → mL t b (Ds b) → mN t (duN (Ds b)) (duA (Ds b)) → K (nI (duN (Ds b))) t) : MX2_duals σ K := by
  have hv := (hI.1 b hb).1
  obtain ⟨h120, hhalf⟩ := tab3_D hv hz h3
  unfold MX2_duals
  refine sp_faces hI hb hz hL (fun t ft m1 m2 m3 => ?_)
  have l0 := fM_le (Ds b) 0
  have l1 := fM_le (Ds b) 1
  have l2 := fM_le (Ds b) 2
  have hdn : duN (Ds b) ≤ 360 := by unfold duN; omega
  have efl : ∀ i g, g < ZD (Ds b) → ∀ d, eP (Ds b) i g = some d → d < 2147483648 := fun i g hg d hd => by have := eP_lt hd hg; omega
  have ffl : ∀ i g, g < ZD (Ds b) → ∀ d, fP (Ds b) i g = some d → d < 2147483648 := fun i g hg d hd => by have := fP_lt hd hg; have := fM_le (Ds b) i; omega
  refine jp_1 (fun t' => fr [26] t t' ∧ ∀ k, k < 250000 → t'.2.1 26 k = nI 0) ?_ (fun k hk => sp_clearsJ (fun t' f' r => hk t' ⟨f', r⟩))
  rintro t0 ⟨f0, r0⟩
  rw [eb_rd_iff, show (2 : Int32).toNatClampNeg = 2 from rfl, f0.2.1 29 (by decide), m3.2.2 2 (by omega)]
  refine ⟨vp_inN (i := 2) (by omega) (by omega), ?_⟩
  rw [eb_rd_iff, show (2 : Int32).toNatClampNeg = 2 from rfl, m3.2.2 2 (by omega)]
  refine ⟨vp_inN (i := 2) (by omega) (by omega), ?_⟩
  rw [eb_rd_iff, show (1 : Int32).toNatClampNeg = 1 from rfl, m3.2.2 1 (by omega)]
  refine ⟨vp_inN (i := 1) (by omega) (by omega), ?_⟩
  rw [nI_add]
  generalize hZ : ZD (Ds b) = Z at *
  refine jp_1 (fun u => fr [26] t u ∧ ∀ a c, a < 500 → c < 500 → twP (¬ a = c ∧ ∃ g i h k l, g < Z ∧ h < Z ∧ duP (Ds b) g i h k l a c) (u.2.1 26 (500 * a + c))) ?_ ?_
  · rintro u ⟨fu, hrow⟩
    rw [eb_rd_iff, show (0 : Int32).toNatClampNeg = 0 from rfl, fu.2.1 29 (by decide), m3.2.2 0 (by omega), nI_add]
    refine ⟨vp_inN (i := 0) (by omega) (by omega), ?_⟩
    refine hK u (m1.fr fu (by decide)) (m2.fr fu (by decide)) (fun a c ha hc => tw_b1 (hrow a c (by omega) (by omega)) ?_)
    rw [duA_iff, hZ]
  · intro kk hkk
    refine eb_loop2_i (fun x u => ∃ m, m ≤ Z ∧ x = nI m ∧ fr [26] t u ∧ ∀ a c, a < 500 → c < 500 → twP (¬ a = c ∧ ∃ g i h k l, g < m ∧ h < Z ∧ duP (Ds b) g i h k l a c) (u.2.1 26 (500 * a + c))) (fun x _ => 1000 - x.toNatClampNeg) ?_
      ⟨0, by omega, rfl, f0, fun a c ha hc => Or.inr ⟨fun ⟨_, g, i, h, k, l, z, _⟩ => absurd z (Nat.not_lt_zero _), r0 _ (by omega)⟩⟩
    rintro R x u ⟨m, hm, rfl, fu, hrow⟩ hR
    rw [fu.1 8 (by decide), m2.2.2.2.1, hZ]
    refine br_le (by omega) (by omega) (fun h => ?_) (fun h => ?_)
    · rw [show m = Z by omega] at hrow
      exact hkk u ⟨fu, hrow⟩
    · refine jp_1 (fun u => fr [26] t u ∧ ∀ a c, a < 500 → c < 500 → twP (¬ a = c ∧ ∃ g i h k l, g < m + 1 ∧ h < Z ∧ duP (Ds b) g i h k l a c) (u.2.1 26 (500 * a + c))) ?_ ?_
      · rintro u ⟨fu, hrow⟩
        rw [nI_1]
        refine hR _ _ ⟨m + 1, by omega, rfl, fu, hrow⟩ ?_
        rw [nI_cl (by omega), nI_cl (by omega)]; omega
      · intro k1 hk1
        refine eb_loop2_i (fun x u => ∃ i, i ≤ 3 ∧ x = nI i ∧ fr [26] t u ∧ ∀ a c, a < 500 → c < 500 → twP (¬ a = c ∧ ∃ g i' h k l, (g < m ∨ g = m ∧ i' < i) ∧ h < Z ∧ duP (Ds b) g i' h k l a c) (u.2.1 26 (500 * a + c))) (fun x _ => 10 - x.toNatClampNeg) ?_
          ⟨0, by omega, rfl, fu, fun a c ha hc => (hrow a c ha hc).cg ⟨fun ⟨n, g, i, h, k, l, z1, z2⟩ => ⟨n, g, i, h, k, l, Or.inl z1, z2⟩, fun ⟨n, g, i, h, k, l, z1, z2⟩ => ⟨n, g, i, h, k, l, by omega, z2⟩⟩⟩
        rintro R1 x u ⟨i, hi, rfl, fu, hrow⟩ hR1
        refine br_le (a := 3) (by omega) (by omega) (fun h1 => ?_) (fun h1 => ?_)
        · exact hk1 u ⟨fu, fun a c ha hc => (hrow a c ha hc).cg ⟨fun ⟨n, g, i, h, k, l, z1, z2⟩ => ⟨n, g, i, h, k, l, by omega, z2⟩, fun ⟨n, g, i', h, k, l, z1, z2⟩ => ⟨n, g, i', h, k, l, by have := z2.2.1; omega, z2⟩⟩⟩
        · refine jp_1 (fun u => fr [26] t u ∧ ∀ a c, a < 500 → c < 500 → twP (¬ a = c ∧ ∃ g i' h k l, (g < m ∨ g = m ∧ i' < i + 1) ∧ h < Z ∧ duP (Ds b) g i' h k l a c) (u.2.1 26 (500 * a + c))) ?_ ?_
          · rintro u ⟨fu, hrow⟩
            rw [nI_1]
            refine hR1 _ _ ⟨i + 1, by omega, rfl, fu, hrow⟩ ?_
            rw [nI_cl (by omega), nI_cl (by omega)]; omega
          · intro k2 hk2
            refine eb_loop2_i (fun x u => ∃ h, h ≤ Z ∧ x = nI h ∧ fr [26] t u ∧ ∀ a c, a < 500 → c < 500 → twP (¬ a = c ∧ ∃ g i' h' k l, (g < m ∨ g = m ∧ (i' < i ∨ i' = i ∧ h' < h)) ∧ h' < Z ∧ duP (Ds b) g i' h' k l a c) (u.2.1 26 (500 * a + c))) (fun x _ => 1000 - x.toNatClampNeg) ?_
              ⟨0, by omega, rfl, fu, fun a c ha hc => (hrow a c ha hc).cg ⟨fun ⟨n, g, i, h, k, l, z1, z2⟩ => ⟨n, g, i, h, k, l, by omega, z2⟩, fun ⟨n, g, i, h, k, l, z1, z2⟩ => ⟨n, g, i, h, k, l, by omega, z2⟩⟩⟩
            rintro R2 x u ⟨h, hh, rfl, fu, hrow⟩ hR2
            rw [fu.1 8 (by decide), m2.2.2.2.1, hZ]
            refine br_le (by omega) (by omega) (fun h2 => ?_) (fun h2 => ?_)
            · exact hk2 u ⟨fu, fun a c ha hc => (hrow a c ha hc).cg ⟨fun ⟨n, g, i, h, k, l, z1, z2⟩ => ⟨n, g, i, h, k, l, by omega, z2⟩, fun ⟨n, g, i', h', k, l, z1, z2⟩ => ⟨n, g, i', h', k, l, by omega, z2⟩⟩⟩
            · rw [show (500 : Int32) * nI i = nI (500 * i) from nI_mul 500 i, nI_add, nI_add, eb_rd_iff, nI_cl (by omega), fu.2.1 27 (by decide), m3.1 i m (by omega) (by omega)]
              refine ⟨vp_inN (by omega) (by omega), ?_⟩
              refine oI_br (efl i m (by omega)) (fun hno => ?_) (fun p hp => ?_)
              · refine hk2 u ⟨fu, fun a c ha hc => (hrow a c ha hc).cg ⟨fun ⟨n, g, i, h, k, l, z1, z2⟩ => ⟨n, g, i, h, k, l, by omega, z2⟩, fun ⟨n, g, i', h', k, l, z1, z2⟩ => ⟨n, g, i', h', k, l, ?_, z2⟩⟩⟩
                by_cases e : g = m ∧ i' = i
                · exfalso
                  obtain ⟨p, y1, -⟩ := z2.2.2.2.2.2.2.1
                  rw [e.1, e.2, hno] at y1
                  exact absurd y1 (by simp)
                · omega
              · rw [eb_rd_iff, nI_cl (by omega), m3.1 i m (by omega) (by omega)]
                refine ⟨vp_inN (by omega) (by omega), ?_⟩
                rw [eb_rd_iff, nI_cl (by omega), m3.1 i h (by omega) (by omega)]
                refine ⟨vp_inN (by omega) (by omega), ?_⟩
                refine jp_1 (fun u => fr [26] t u ∧ ∀ a c, a < 500 → c < 500 → twP (¬ a = c ∧ ∃ g i' h' k l, (g < m ∨ g = m ∧ (i' < i ∨ i' = i ∧ h' < h + 1)) ∧ h' < Z ∧ duP (Ds b) g i' h' k l a c) (u.2.1 26 (500 * a + c))) ?_ ?_
                · rintro u ⟨fu, hrow⟩
                  rw [nI_1]
                  refine hR2 _ _ ⟨h + 1, by omega, rfl, fu, hrow⟩ ?_
                  rw [nI_cl (by omega), nI_cl (by omega)]; omega
                · intro k3 hk3
                  have hpl := efl i m (by omega) p hp
                  rw [hp]
                  refine ⟨fun heq => ?_, fun hne => ?_⟩
                  · have hph : eP (Ds b) i h = some p := by
                      cases e : eP (Ds b) i h with
                      | none =>
                        rw [e] at heq
                        exact absurd heq (nI_m1 hpl)
                      | some p' =>
                        rw [e] at heq
                        have := (nI_eq hpl (efl i h (by omega) p' e)).mp heq
                        rw [this]
                    refine eb_loop2_i (fun x u => ∃ k, k ≤ 3 ∧ x = nI k ∧ fr [26] t u ∧ ∀ a c, a < 500 → c < 500 → twP (¬ a = c ∧ ∃ g i' h' k' l, (g < m ∨ g = m ∧ (i' < i ∨ i' = i ∧ (h' < h ∨ h' = h ∧ k' < k))) ∧ h' < Z ∧ duP (Ds b) g i' h' k' l a c) (u.2.1 26 (500 * a + c))) (fun x _ => 10 - x.toNatClampNeg) ?_
                      ⟨0, by omega, rfl, fu, fun a c ha hc => (hrow a c ha hc).cg ⟨fun ⟨n, g, i, h, k, l, z1, z2⟩ => ⟨n, g, i, h, k, l, by omega, z2⟩, fun ⟨n, g, i, h, k, l, z1, z2⟩ => ⟨n, g, i, h, k, l, by omega, z2⟩⟩⟩
                    rintro R3 x u ⟨k, hk, rfl, fu, hrow⟩ hR3
                    refine br_le (a := 3) (by omega) (by omega) (fun h4 => ?_) (fun h4 => ?_)
                    · exact hk3 u ⟨fu, fun a c ha hc => (hrow a c ha hc).cg ⟨fun ⟨n, g, i, h, k, l, z1, z2⟩ => ⟨n, g, i, h, k, l, by omega, z2⟩, fun ⟨n, g, i', h', k', l, z1, z2⟩ => ⟨n, g, i', h', k', l, by have := z2.2.2.1; omega, z2⟩⟩⟩
                    · refine jp_1 (fun u => fr [26] t u ∧ ∀ a c, a < 500 → c < 500 → twP (¬ a = c ∧ ∃ g i' h' k' l, (g < m ∨ g = m ∧ (i' < i ∨ i' = i ∧ (h' < h ∨ h' = h ∧ k' < k + 1))) ∧ h' < Z ∧ duP (Ds b) g i' h' k' l a c) (u.2.1 26 (500 * a + c))) ?_ ?_
                      · rintro u ⟨fu, hrow⟩
                        rw [nI_1]
                        refine hR3 _ _ ⟨k + 1, by omega, rfl, fu, hrow⟩ ?_
                        rw [nI_cl (by omega), nI_cl (by omega)]; omega
                      · intro k4 hk4
                        refine eb_loop2_i (fun x u => ∃ l, l ≤ 3 ∧ x = nI l ∧ fr [26] t u ∧ ∀ a c, a < 500 → c < 500 → twP (¬ a = c ∧ ∃ g i' h' k' l', (g < m ∨ g = m ∧ (i' < i ∨ i' = i ∧ (h' < h ∨ h' = h ∧ (k' < k ∨ k' = k ∧ l' < l)))) ∧ h' < Z ∧ duP (Ds b) g i' h' k' l' a c) (u.2.1 26 (500 * a + c))) (fun x _ => 10 - x.toNatClampNeg) ?_
                          ⟨0, by omega, rfl, fu, fun a c ha hc => (hrow a c ha hc).cg ⟨fun ⟨n, g, i, h, k, l, z1, z2⟩ => ⟨n, g, i, h, k, l, by omega, z2⟩, fun ⟨n, g, i, h, k, l, z1, z2⟩ => ⟨n, g, i, h, k, l, by omega, z2⟩⟩⟩
                        rintro R4 x u ⟨l, hl, rfl, fu, hrow⟩ hR4
                        refine br_le (a := 3) (by omega) (by omega) (fun h5 => ?_) (fun h5 => ?_)
                        · exact hk4 u ⟨fu, fun a c ha hc => (hrow a c ha hc).cg ⟨fun ⟨n, g, i, h, k, l, z1, z2⟩ => ⟨n, g, i, h, k, l, by omega, z2⟩, fun ⟨n, g, i', h', k', l', z1, z2⟩ => ⟨n, g, i', h', k', l', by have := z2.2.2.2.1; omega, z2⟩⟩⟩
                        · rw [show (500 : Int32) * nI k = nI (500 * k) from nI_mul 500 k, nI_add, eb_rd_iff, nI_cl (by omega), fu.2.1 28 (by decide), m3.2.1 k m (by omega) (by omega)]
                          refine ⟨vp_inN (by omega) (by omega), ?_⟩
                          rw [show (500 : Int32) * nI l = nI (500 * l) from nI_mul 500 l, nI_add, eb_rd_iff, nI_cl (by omega), m3.2.1 l h (by omega) (by omega)]
                          refine ⟨vp_inN (by omega) (by omega), ?_⟩
                          refine jp_1 (fun u => fr [26] t u ∧ ∀ a c, a < 500 → c < 500 → twP (¬ a = c ∧ ∃ g i' h' k' l', (g < m ∨ g = m ∧ (i' < i ∨ i' = i ∧ (h' < h ∨ h' = h ∧ (k' < k ∨ k' = k ∧ l' < l + 1)))) ∧ h' < Z ∧ duP (Ds b) g i' h' k' l' a c) (u.2.1 26 (500 * a + c))) ?_ ?_
                          · rintro u ⟨fu, hrow⟩
                            rw [nI_1]
                            refine hR4 _ _ ⟨l + 1, by omega, rfl, fu, hrow⟩ ?_
                            rw [nI_cl (by omega), nI_cl (by omega)]; omega
                          · intro k5 hk5
                            have keep : (∀ a c, ¬ duP (Ds b) m i h k l a c) → k5 u := fun hno => by
                              refine hk5 u ⟨fu, fun a c ha hc => (hrow a c ha hc).cg ⟨fun ⟨n, g, i, h, k, l, z1, z2⟩ => ⟨n, g, i, h, k, l, by omega, z2⟩, fun ⟨n, g, i', h', k', l', z1, z2⟩ => ⟨n, g, i', h', k', l', ?_, z2⟩⟩⟩
                              by_cases e : g = m ∧ i' = i ∧ h' = h ∧ k' = k ∧ l' = l
                              · exfalso
                                obtain ⟨e1, e2, e3, e4, e5⟩ := e
                                rw [e1, e2, e3, e4, e5] at z2
                                exact hno a c z2.2
                              · omega
                            refine br_eq (by omega) (by omega) (fun e => keep (fun a c z => z.2.2.2.1 e)) (fun ek => ?_)
                            refine br_eq (by omega) (by omega) (fun e => keep (fun a c z => z.2.2.2.2.1 e)) (fun el => ?_)
                            refine oI_br (ffl k m (by omega)) (fun e => keep (fun a c z => ?_)) (fun p1 hp1 => ?_)
                            · obtain ⟨p, y, -⟩ := z.2.2.2.2.2.2.1
                              rw [e] at y
                              exact absurd y (by simp)
                            refine oI_br (ffl l h (by omega)) (fun e => keep (fun a c z => ?_)) (fun p2 hp2 => ?_)
                            · obtain ⟨p, y, -⟩ := z.2.2.2.2.2.2.2
                              rw [e] at y
                              exact absurd y (by simp)
                            have b1' := off_lt (k := k) (by omega) (fP_lt hp1 (by omega))
                            have b2' := off_lt (k := l) (by omega) (fP_lt hp2 (by omega))
                            rw [hp1, hp2]
                            refine jp_1 (fun v => v = nI (offF (Ds b) (fM (Ds b)) k)) ?_ ?_
                            · rintro _ rfl
                              refine jp_1 (fun v => v = nI (offF (Ds b) (fM (Ds b)) l)) ?_ ?_
                              · rintro _ rfl
                                rw [show oI (some p1) = nI p1 from rfl, show oI (some p2) = nI p2 from rfl, nI_add, nI_add]
                                generalize hA1 : p1 + offF (Ds b) (fM (Ds b)) k = A1 at *
                                generalize hA2 : p2 + offF (Ds b) (fM (Ds b)) l = A2 at *
                                have now : duP (Ds b) m i h k l A1 A2 := ⟨by omega, by omega, by omega, ek, el, ⟨p, hp, hph⟩, ⟨p1, hp1, hA1⟩, ⟨p2, hp2, hA2⟩⟩
                                have one : ∀ a c, duP (Ds b) m i h k l a c → a = A1 ∧ c = A2 := fun a c z => by
                                  obtain ⟨-, -, -, -, -, -, ⟨q1, y1, y2⟩, q2, y3, y4⟩ := z
                                  rw [hp1] at y1
                                  rw [hp2] at y3
                                  injection y1 with y1
                                  injection y3 with y3
                                  subst y1
                                  subst y3
                                  exact ⟨by omega, by omega⟩
                                refine jp_1 (fun v => (v = 0 ∧ A1 = A2) ∨ (v = 1 ∧ ¬ A1 = A2)) ?_ ?_
                                · intro v hv2
                                  rw [show (500 : Int32) * nI A1 = nI (500 * A1) from nI_mul 500 A1, nI_add, ms_wr_iff, nI_cl (by omega)]
                                  refine ⟨vp_inN (by omega) (by omega), ?_⟩
                                  refine hk5 _ ⟨fu.pa (by decide), fun a c ha hc => ?_⟩
                                  rw [ms_pa_eq]
                                  by_cases ec : 500 * a + c = 500 * A1 + A2
                                  · have ea : a = A1 := by omega
                                    have ec' : c = A2 := by omega
                                    rw [ec, upd_eq]
                                    rcases hv2 with ⟨rfl, e⟩ | ⟨rfl, e⟩
                                    · rw [nar_b0]
                                      exact Or.inr ⟨fun z => z.1 (by omega), rfl⟩
                                    · rw [nar_b1]
                                      exact Or.inl ⟨⟨by omega, m, i, h, k, l, by omega, by omega, by rw [ea, ec']; exact now⟩, rfl⟩
                                  · rw [upd_ne ec]
                                    refine (hrow a c ha hc).cg ⟨fun ⟨n, g, i, h, k, l, z1, z2⟩ => ⟨n, g, i, h, k, l, by omega, z2⟩, fun ⟨n, g, i', h', k', l', z1, z2⟩ => ⟨n, g, i', h', k', l', ?_, z2⟩⟩
                                    by_cases e : g = m ∧ i' = i ∧ h' = h ∧ k' = k ∧ l' = l
                                    · exfalso
                                      obtain ⟨e1, e2, e3, e4, e5⟩ := e
                                      rw [e1, e2, e3, e4, e5] at z2
                                      have := one a c z2.2
                                      omega
                                    · omega
                                · intro k6 hk6
                                  exact br_eq (by omega) (by omega) (fun e => hk6 _ (Or.inl ⟨rfl, e⟩)) (fun e => hk6 _ (Or.inr ⟨rfl, e⟩))
                              · intro k6 hk6
                                unfold offF at hk6
                                refine br_eq (b := 1) (by omega) (by omega) (fun e => hk6 _ (by rw [if_pos e])) (fun e => ?_)
                                refine br_eq (b := 0) (by omega) (by omega) (fun e' => hk6 _ (by rw [if_neg e, if_pos e'])) (fun e' => hk6 _ (by rw [if_neg e, if_neg e']; rfl))
                            · intro k6 hk6
                              unfold offF at hk6
                              refine br_eq (b := 1) (by omega) (by omega) (fun e => hk6 _ (by rw [if_pos e])) (fun e => ?_)
                              refine br_eq (b := 0) (by omega) (by omega) (fun e' => hk6 _ (by rw [if_neg e, if_pos e'])) (fun e' => hk6 _ (by rw [if_neg e, if_neg e']; rfl))
                  · refine hk3 u ⟨fu, fun a c ha hc => (hrow a c ha hc).cg ⟨fun ⟨n, g, i, h, k, l, z1, z2⟩ => ⟨n, g, i, h, k, l, by omega, z2⟩, fun ⟨n, g, i', h', k, l, z1, z2⟩ => ⟨n, g, i', h', k, l, ?_, z2⟩⟩⟩
                    by_cases e : g = m ∧ i' = i ∧ h' = h
                    · exfalso
                      obtain ⟨e1, e2, e3⟩ := e
                      obtain ⟨q, y1, y2⟩ := z2.2.2.2.2.2.2.1
                      rw [e1, e2, hp] at y1
                      rw [e2, e3] at y2
                      injection y1 with y1
                      rw [y2, y1] at hne
                      exact hne rfl
                    · omega
noncomputable def duV (D : eb_D) (w : Int32) : Int32 := if w = 0 then nI (duN D) else if w = 1 then nI (jal (duA D) (duN D)) else nI (NP D 0)
noncomputable def aDual (Ds : Nat → eb_D) (a w : Int32) : Int32 := if 0 ≤ w ∧ w ≤ 2 then gat3 Ds a (fun b => duV (Ds b) w) else -2
theorem duN_le {D : eb_D} (hv : vD D) (hz : ¬ ZD D = 0) (h3 : D.1 = 3) : duN D ≤ 360 := by
  have := (tab3_D hv hz h3).1
  have l0 := fM_le D 0
  have l1 := fM_le D 1
  have l2 := fM_le D 2
  unfold duN
  omega
theorem sp_dual {a w : Int32} {K : Int32 → eb_MS → Prop} (hI : mI σ Ds) (hK : ∀ s, mI s Ds → K (aDual Ds a w) s) : MX2_dual σ a w K := by
  unfold MX2_dual
  rw [ms_ws_iff]
  unfold aDual at hK
  have hI0 := hI.thrown (v := 0)
  refine sp_in (fun hn => ?_) (fun hn => ?_)
  · refine ⟨fun z => absurd z (by decide), fun _ => ?_⟩
    rw [if_pos hn] at hK
    refine sp_three hI0 hK (fun b hb hab hz h3 s hs hL hK => ?_)
    have hdn := duN_le (hI.1 b hb).1 hz h3
    refine sp_duals hs hb hz h3 hL (fun t m1 m2 m3 => ?_)
    have := hK t m1
    unfold duV at this
    refine ⟨fun e => ?_, fun e => ?_⟩
    · rw [if_pos e] at this; exact this
    · rw [if_neg e] at this
      refine ⟨fun e1 => ?_, fun e1 => ?_⟩
      · rw [if_pos e1] at this
        exact sp_joinsAll (by omega) m3 this
      · rw [if_neg e1] at this
        rw [m2.cm hz]
        exact this
  · have := hK _ hI0
    rw [if_neg hn] at this
    exact ⟨fun _ => this, fun z => absurd rfl z⟩
noncomputable def aDualDegree (Ds : Nat → eb_D) (a c : Int32) : Int32 := if 0 ≤ c then gat3 Ds a (fun b => nI (cnB (fun f => Nat.beq (cnB (duA (Ds b) f) (duN (Ds b))) c.toNatClampNeg) (duN (Ds b)))) else -2
theorem sp_dualDegree {a c : Int32} {K : Int32 → eb_MS → Prop} (hI : mI σ Ds) (hK : ∀ s, mI s Ds → K (aDualDegree Ds a c) s) : MX2_dualDegree σ a c K := by
  unfold MX2_dualDegree
  rw [ms_ws_iff]
  unfold aDualDegree at hK
  refine ⟨fun hc => ?_, fun hc => ?_⟩
  · rw [if_pos hc] at hK
    obtain ⟨x, hx, rfl⟩ := nI_of (Int32.not_lt.mpr hc)
    rw [nI_cl hx] at hK
    refine sp_three (hI.thrown (v := 0)) hK (fun b hb hab hz h3 s hs hL hK => ?_)
    have hdn := duN_le (hI.1 b hb).1 hz h3
    refine sp_duals hs hb hz h3 hL (fun t m1 m2 m3 => ?_)
    have := hK t m1
    refine eb_loop2_i (fun u v => ∃ m, m ≤ duN (Ds b) ∧ u = nI (cnB (fun f => Nat.beq (cnB (duA (Ds b) f) (duN (Ds b))) x) m) ∧ v = nI m) (fun _ v => 1000 - v.toNatClampNeg) ?_ ⟨0, by omega, rfl, rfl⟩
    rintro R u v ⟨m, hm, rfl, rfl⟩ hR
    refine br_le (by omega) (by omega) (fun h => by rw [show m = duN (Ds b) by omega]; exact this) (fun h => ?_)
    have hcl := cnB_le (duA (Ds b) m) (duN (Ds b))
    refine sp_degreeOf (by omega) m3 (by omega) ?_
    refine jp_1 (fun v => v = nI (b1 (Nat.beq (cnB (duA (Ds b) m) (duN (Ds b))) x))) ?_ ?_
    · rintro _ rfl
      rw [nI_add, nI_1]
      refine hR _ _ ⟨m + 1, by omega, rfl, rfl⟩ ?_
      rw [nI_cl (by omega), nI_cl (by omega)]; omega
    · intro k hk
      refine br_eq (by omega) hx (fun h2 => hk _ (by rw [nbT h2]; rfl)) (fun h2 => hk _ (by rw [nbF h2]; rfl))
  · have := hK _ (hI.thrown (v := 0))
    rw [if_neg hc] at this
    exact this
theorem dfJ_le {A : Nat → Nat → Bool} {n c m : Nat} (h : ∀ v d, v < n → fo A n c v = some d → d < n) (hm : m ≤ n) : ∀ d, d ≤ n → dfJ A n c m d ≤ n := by
  intro d
  induction d with
  | zero => intro _; exact hm
  | succ d ih =>
    intro hd
    show mxo (dfJ A n c m d) (fo A n c d) ≤ n
    have := ih (by omega)
    cases e : fo A n c d with
    | none => exact this
    | some y =>
      have := h d y (by omega) e
      show (if y ≤ dfJ A n c m d then dfJ A n c m d else y) ≤ n
      split <;> omega
noncomputable def aDualFar (Ds : Nat → eb_D) (a : Int32) : Int32 := gat3 Ds a (fun b => nI (dfI (duA (Ds b)) (duN (Ds b)) (duN (Ds b))))
theorem sp_dualFar {a : Int32} {K : Int32 → eb_MS → Prop} (hI : mI σ Ds) (hK : ∀ s, mI s Ds → K (aDualFar Ds a) s) : MX2_dualFar σ a K := by
  unfold MX2_dualFar
  rw [ms_ws_iff]
  refine sp_three (hI.thrown (v := 0)) hK (fun b hb hab hz h3 s hs hL hK => ?_)
  have hdn := duN_le (hI.1 b hb).1 hz h3
  refine sp_duals hs hb hz h3 hL (fun t m1 m2 m3 => ?_)
  generalize hA : duA (Ds b) = A at *
  generalize hN : duN (Ds b) = N at *
  refine eb_loop3_i (fun u v t' => ∃ c, c ≤ N ∧ u = nI (dfI A N c) ∧ dfI A N c ≤ N ∧ v = nI c ∧ fr [21, 22] t t') (fun _ v _ => 1000 - v.toNatClampNeg) ?_ ⟨0, by omega, rfl, by show 0 ≤ N; omega, rfl, fr_rf _ _⟩
  rintro R u v t' ⟨c, hc, rfl, hle, rfl, ft'⟩ hR
  refine br_le (by omega) (by omega) (fun h => ?_) (fun h => ?_)
  · rw [show c = N by omega]
    exact hK t' (m1.fr ft' (by decide))
  · refine sp_walks (by omega) (m3.fr ft' (by decide)) (by omega) (fun w fw r22 hlt => ?_)
    have hJ := dfJ_le hlt hle
    refine jp_1 (fun v => v = nI (dfI A N (c + 1))) ?_ ?_
    · rintro _ rfl
      rw [nI_1]
      refine hR _ _ _ ⟨c + 1, by omega, rfl, hJ N (Nat.le_refl _), rfl, ft'.tr fw⟩ ?_
      rw [nI_cl (by omega), nI_cl (by omega)]; omega
    · intro k hk
      refine eb_loop2_i (fun u v => ∃ d, d ≤ N ∧ u = nI (dfJ A N c (dfI A N c) d) ∧ v = nI d) (fun _ v => 1000 - v.toNatClampNeg) ?_ ⟨0, by omega, rfl, rfl⟩
      rintro R' u v ⟨d, hd, rfl, rfl⟩ hR'
      refine br_le (by omega) (by omega) (fun h2 => hk _ (by rw [show d = N by omega]; rfl)) (fun h2 => ?_)
      have hJd := hJ d (by omega)
      have e1 : dfJ A N c (dfI A N c) (d + 1) = mxo (dfJ A N c (dfI A N c) d) (fo A N c d) := rfl
      rw [eb_rd_iff, nI_cl (by omega), r22 d (by omega)]
      refine ⟨vp_inN (by omega) (by omega), ?_⟩
      refine jp_1 (fun v => v = nI (dfJ A N c (dfI A N c) (d + 1))) ?_ ?_
      · rintro _ rfl
        rw [nI_1]
        refine hR' _ _ ⟨d + 1, by omega, rfl, rfl⟩ ?_
        rw [nI_cl (by omega), nI_cl (by omega)]; omega
      · intro k2 hk2
        cases e : fo A N c d with
        | none =>
          rw [e] at e1
          refine ⟨fun _ => hk2 _ (by rw [e1]; rfl), fun z => absurd ?_ z⟩
          exact Int32.le_trans (by decide : (-1 : Int32) ≤ 0) (nI_pos' (by omega))
        | some y =>
          have hy := hlt d y (by omega) e
          rw [e] at e1
          have e2 : mxo (dfJ A N c (dfI A N c) d) (some y) = if y ≤ dfJ A N c (dfI A N c) d then dfJ A N c (dfI A N c) d else y := rfl
          refine br_le (by omega) (by omega) (fun h5 => hk2 _ (by rw [e1, e2, if_pos h5])) (fun h5 => ?_)
          rw [eb_rd_iff, nI_cl (by omega), r22 d (by omega), e]
          exact ⟨vp_inN (by omega) (by omega), hk2 _ (by rw [e1, e2, if_neg h5]; rfl)⟩
end API22
