set_option maxRecDepth 100000
/-! three mirrors: edges, faces, duals -/
def fS (i : Nat) : Nat := Nat.land 7 (15 - 2 ^ i)
noncomputable def eP (D : eb_D) (i g : Nat) : Option Nat := cond (isK D (2 ^ i)) (some (PN D (2 ^ i) g)) none
noncomputable def fP (D : eb_D) (i g : Nat) : Option Nat := cond (isK D (fS i)) (some (PN D (fS i) g)) none
noncomputable def fM (D : eb_D) (i : Nat) : Nat := cond (isK D (fS i)) (NP D (fS i)) 0
theorem fM_le (D : eb_D) (i : Nat) : fM D i ≤ ZD D := by
  unfold fM
  cases isK D (fS i)
  · exact Nat.zero_le _
  · exact NP_le D _
theorem fP_lt {D : eb_D} {i g p : Nat} (h : fP D i g = some p) (hg : g < ZD D) : p < fM D i := by
  unfold fP at h
  unfold fM
  cases hk : isK D (fS i) with
  | false => rw [hk] at h; exact absurd h (by simp)
  | true =>
    rw [hk] at h
    injection h with h
    rw [← h]
    exact PN_lt D _ hg
theorem eP_lt {D : eb_D} {i g p : Nat} (h : eP D i g = some p) (hg : g < ZD D) : p < ZD D := by
  unfold eP at h
  cases hk : isK D (2 ^ i) with
  | false => rw [hk] at h; exact absurd h (by simp)
  | true =>
    rw [hk] at h
    injection h with h
    rw [← h]
    exact Nat.lt_of_lt_of_le (PN_lt D _ hg) (NP_le D _)
/-- edges and faces were told -/
def mF (σ : eb_MS) (D : eb_D) : Prop := (∀ i g, i < 3 → g < ZD D → σ.2.1 27 (500 * i + g) = oI (eP D i g)) ∧ (∀ i g, i < 3 → g < ZD D → σ.2.1 28 (500 * i + g) = oI (fP D i g)) ∧ ∀ i, i < 3 → σ.2.1 29 i = nI (fM D i)
abbrev fcW : List Nat := [17, 18, 19, 21, 27, 28, 29]
theorem oI_br {o : Option Nat} {A B : Prop} (ho : ∀ d, o = some d → d < 2147483648) (h1 : o = none → A) (h2 : ∀ d, o = some d → B) : eb_br (oI o < 0) A B := by
  cases o with
  | none => exact ⟨fun _ => h1 rfl, fun z => absurd (by decide : (-1 : Int32) < 0) z⟩
  | some d => exact ⟨fun z => absurd z (nI_neg (ho d rfl)), fun _ => h2 d rfl⟩
def offF (D : eb_D) (fm : Nat → Nat) (k : Nat) : Nat := if k = 1 then fm 2 else if k = 0 then fm 2 + fm 1 else 0
/-- two faces that have an edge -/
def duP (D : eb_D) (g i h k l a c : Nat) : Prop := i < 3 ∧ k < 3 ∧ l < 3 ∧ ¬ k = i ∧ ¬ l = i ∧ (∃ p, eP D i g = some p ∧ eP D i h = some p) ∧ (∃ p, fP D k g = some p ∧ p + offF D (fM D) k = a) ∧ ∃ p, fP D l h = some p ∧ p + offF D (fM D) l = c
noncomputable def duA (D : eb_D) (a c : Nat) : Bool := @decide (¬ a = c ∧ ∃ g i h k l, g < ZD D ∧ h < ZD D ∧ duP D g i h k l a c) (Classical.propDecidable _)
theorem duA_iff {D : eb_D} {a c : Nat} : duA D a c = true ↔ (¬ a = c ∧ ∃ g i h k l, g < ZD D ∧ h < ZD D ∧ duP D g i h k l a c) := by unfold duA; exact @decide_eq_true_iff _ (Classical.propDecidable _)
noncomputable def duN (D : eb_D) : Nat := fM D 2 + fM D 1 + fM D 0
theorem off_lt {D : eb_D} {k p : Nat} (hk : k < 3) (hp : p < fM D k) : p + offF D (fM D) k < duN D := by
  unfold offF duN
  have : k = 0 ∨ k = 1 ∨ k = 2 := by omega
  rcases this with rfl | rfl | rfl
  · rw [if_neg (by decide), if_pos rfl]; omega
  · rw [if_pos rfl]; omega
  · rw [if_neg (by decide), if_neg (by decide)]; omega
section API21
variable {σ : eb_MS} {Ds : Nat → eb_D}
theorem mk_fS : ∀ i, i < 3 → (7 : Int32) &&& (eb_shl 1 (nI i) ^^^ (-1)) = nI (fS i) ∧ fS i < 16 ∧ 2 ^ i < 16 := by decide +kernel
theorem sp_faces {b : Nat} {K : eb_MS → Prop} (hI : mI σ Ds) (hb : b < 4) (hz : ¬ ZD (Ds b) = 0) (hL : mL σ b (Ds b)) (hK : ∀ t, fr fcW σ t → mI t Ds → mL t b (Ds b) → mF t (Ds b) → K t) : MX2_faces σ K := by
  have hv := (hI.1 b hb).1
  have hzl := ZD_le hv
  unfold MX2_faces
  refine eb_loop2_i (fun x s => ∃ i, i ≤ 3 ∧ x = nI i ∧ fr fcW σ s ∧ (∀ i' g, i' < i → g < ZD (Ds b) → s.2.1 27 (500 * i' + g) = oI (eP (Ds b) i' g)) ∧ (∀ i' g, i' < i → g < ZD (Ds b) → s.2.1 28 (500 * i' + g) = oI (fP (Ds b) i' g)) ∧ ∀ i', i' < i → s.2.1 29 i' = nI (fM (Ds b) i')) (fun x _ => 10 - x.toNatClampNeg) ?_
    ⟨0, by omega, rfl, fr_rf _ _, fun i g hi => absurd hi (Nat.not_lt_zero _), fun i g hi => absurd hi (Nat.not_lt_zero _), fun i hi => absurd hi (Nat.not_lt_zero _)⟩
  rintro R x s ⟨i, hi, rfl, fs, r27, r28, r29⟩ hR
  have hs := hI.fr fs (by decide)
  have hLs := hL.fr fs (by decide)
  refine br_le (a := 3) (by omega) (by omega) (fun h => ?_) (fun h => ?_)
  · have e : i = 3 := by omega
    subst e
    exact hK s fs hs hLs ⟨r27, r28, r29⟩
  · have hm := mk_fS i (by omega)
    rw [hm.1, mk_shl i (by omega), hLs.1]
    refine sp_isK hv (hs.1 b hb).2 hb (by omega) ?_
    refine jp_1 (fun t => fr fcW σ t ∧ t.2.1 27 = s.2.1 27 ∧ t.2.1 28 = s.2.1 28 ∧ t.2.1 29 = s.2.1 29 ∧ (isK (Ds b) (2 ^ i) = true → ∀ g, g < ZD (Ds b) → t.2.1 17 g = nI (PN (Ds b) (2 ^ i) g))) ?_ ?_
    · rintro t ⟨ft, e27, e28, e29, hP⟩
      refine jp_1 (fun u => fr fcW σ u ∧ u.2.1 28 = s.2.1 28 ∧ u.2.1 29 = s.2.1 29 ∧ ∀ i' g, i' < i + 1 → g < ZD (Ds b) → u.2.1 27 (500 * i' + g) = oI (eP (Ds b) i' g)) ?_ ?_
      · rintro u ⟨fu, u28, u29, u27⟩
        have hu := hI.fr fu (by decide)
        have hLu := hL.fr fu (by decide)
        rw [hLu.1]
        refine sp_isK hv (hu.1 b hb).2 hb (by omega) ?_
        rw [ms_wr_iff, nI_cl (by omega)]
        refine ⟨vp_inN (by omega) (by omega), ?_⟩
        refine jp_1 (fun w => fr fcW σ w ∧ w.2.1 27 = u.2.1 27 ∧ w.2.1 28 = s.2.1 28 ∧ (∀ i', i' < i + 1 → w.2.1 29 i' = nI (fM (Ds b) i')) ∧ (isK (Ds b) (fS i) = true → ∀ g, g < ZD (Ds b) → w.2.1 17 g = nI (PN (Ds b) (fS i) g))) ?_ ?_
        · rintro w ⟨fw, w27, w28, w29, hPw⟩
          refine jp_1 (fun y => fr fcW σ y ∧ y.2.1 27 = u.2.1 27 ∧ y.2.1 29 = w.2.1 29 ∧ ∀ i' g, i' < i + 1 → g < ZD (Ds b) → y.2.1 28 (500 * i' + g) = oI (fP (Ds b) i' g)) ?_ ?_
          · rintro y ⟨fy, y27, y29, y28⟩
            rw [nI_1]
            refine hR _ _ ⟨i + 1, by omega, rfl, fy, fun i' g hi' hg => by rw [y27]; exact u27 i' g hi' hg, y28, fun i' hi' => by rw [y29]; exact w29 i' hi'⟩ ?_
            rw [nI_cl (by omega), nI_cl (by omega)]; omega
          · intro k hk
            refine eb_loop2_i (fun x y => ∃ m, m ≤ ZD (Ds b) ∧ x = nI m ∧ fr [28] w y ∧ (∀ g, g < m → y.2.1 28 (500 * i + g) = oI (fP (Ds b) i g)) ∧ ∀ j, j < 500 * i → y.2.1 28 j = w.2.1 28 j) (fun x _ => 1000 - x.toNatClampNeg) ?_ ⟨0, by omega, rfl, fr_rf _ _, fun g hg => absurd hg (Nat.not_lt_zero _), fun j _ => rfl⟩
            rintro R2 x y ⟨m, hm2, rfl, fy, hrow, hout⟩ hR2
            rw [fy.1 8 (by decide), fw.1 8 (by decide), hL.2.2.2.1]
            refine br_le (by omega) (by omega) (fun h2 => ?_) (fun h2 => ?_)
            · refine hk y ⟨fw.tr (fy.up (by decide)), by rw [fy.2.1 27 (by decide), w27], by rw [fy.2.1 29 (by decide)], fun i' g hi' hg => ?_⟩
              by_cases e : i' = i
              · rw [e]; exact hrow g (by omega)
              · rw [hout _ (by omega), w28]; exact r28 i' g (by omega) hg
            · refine jp_1 (fun v => v = oI (fP (Ds b) i m)) ?_ ?_
              · rintro _ rfl
                rw [show (500 : Int32) * nI i = nI (500 * i) from nI_mul 500 i, nI_add, ms_wr_iff, nI_cl (by omega), nI_1]
                refine ⟨vp_inN (by omega) (by omega), ?_⟩
                refine hR2 _ _ ⟨m + 1, by omega, rfl, fy.pa (by decide), fun g hg => ?_, fun j hj => ?_⟩ ?_
                · rw [ms_pa_eq]
                  by_cases eg : g = m
                  · rw [eg, upd_eq]
                  · rw [upd_ne (by omega)]; exact hrow g (by omega)
                · rw [ms_pa_eq, upd_ne (by omega)]; exact hout j hj
                · rw [nI_cl (by omega), nI_cl (by omega)]; omega
              · intro k2 hk2
                unfold fP at hk2
                cases hq : isK (Ds b) (fS i) with
                | false => exact ⟨fun _ => hk2 _ (by rw [hq]; rfl), fun z => absurd rfl z⟩
                | true =>
                  refine ⟨fun z => absurd z (by decide), fun _ => ?_⟩
                  rw [eb_rd_iff, nI_cl (by omega), fy.2.1 17 (by decide), hPw hq m (by omega)]
                  exact ⟨vp_inN (by omega) (by omega), hk2 _ (by rw [hq]; rfl)⟩
        · intro k hk
          cases hq : isK (Ds b) (fS i) with
          | false =>
            refine ⟨fun _ => hk _ ⟨fu.pa (by decide), by rw [ms_pa_ne (by decide)], by rw [ms_pa_ne (by decide)]; exact u28, fun i' hi' => ?_, fun z => by rw [hq] at z; exact absurd z (by decide)⟩, fun z => absurd rfl z⟩
            rw [ms_pa_eq]
            by_cases e : i' = i
            · rw [e, upd_eq]
              unfold fM
              rw [hq]; rfl
            · rw [upd_ne e, u29]; exact r29 i' (by omega)
          | true =>
            refine ⟨fun z => absurd z (by decide), fun _ => ?_⟩
            have f1 : fr fcW σ (ms_pa u 29 i 0) := fu.pa (by decide)
            refine sp_tells (hI.fr f1 (by decide)) hb hm.2.1 hz (hL.fr f1 (by decide)) (fun w fw m1 m2 m3 => ?_)
            rw [ms_wr_iff, nI_cl (by omega), m3.2.1]
            refine ⟨vp_inN (by omega) (by omega), ?_⟩
            refine hk _ ⟨(f1.tr (fw.up (by decide))).pa (by decide), ?_, ?_, fun i' hi' => ?_, fun _ g hg => ?_⟩
            · rw [ms_pa_ne (by decide), fw.2.1 27 (by decide), ms_pa_ne (by decide)]
            · rw [ms_pa_ne (by decide), fw.2.1 28 (by decide), ms_pa_ne (by decide)]; exact u28
            · rw [ms_pa_eq]
              by_cases e : i' = i
              · rw [e, upd_eq]
                unfold fM
                rw [hq]; rfl
              · rw [upd_ne e, fw.2.1 29 (by decide), ms_pa_eq, upd_ne e, u29]; exact r29 i' (by omega)
            · rw [ms_pa_ne (by decide)]; exact m3.1 g hg
      · intro k hk
        refine eb_loop2_i (fun x y => ∃ m, m ≤ ZD (Ds b) ∧ x = nI m ∧ fr [27] t y ∧ (∀ g, g < m → y.2.1 27 (500 * i + g) = oI (eP (Ds b) i g)) ∧ ∀ j, j < 500 * i → y.2.1 27 j = t.2.1 27 j) (fun x _ => 1000 - x.toNatClampNeg) ?_ ⟨0, by omega, rfl, fr_rf _ _, fun g hg => absurd hg (Nat.not_lt_zero _), fun j _ => rfl⟩
        rintro R2 x y ⟨m, hm2, rfl, fy, hrow, hout⟩ hR2
        rw [fy.1 8 (by decide), ft.1 8 (by decide), hL.2.2.2.1]
        refine br_le (by omega) (by omega) (fun h2 => ?_) (fun h2 => ?_)
        · refine hk y ⟨ft.tr (fy.up (by decide)), by rw [fy.2.1 28 (by decide), e28], by rw [fy.2.1 29 (by decide), e29], fun i' g hi' hg => ?_⟩
          by_cases e : i' = i
          · rw [e]; exact hrow g (by omega)
          · rw [hout _ (by omega), e27]; exact r27 i' g (by omega) hg
        · refine jp_1 (fun v => v = oI (eP (Ds b) i m)) ?_ ?_
          · rintro _ rfl
            rw [show (500 : Int32) * nI i = nI (500 * i) from nI_mul 500 i, nI_add, ms_wr_iff, nI_cl (by omega), nI_1]
            refine ⟨vp_inN (by omega) (by omega), ?_⟩
            refine hR2 _ _ ⟨m + 1, by omega, rfl, fy.pa (by decide), fun g hg => ?_, fun j hj => ?_⟩ ?_
            · rw [ms_pa_eq]
              by_cases eg : g = m
              · rw [eg, upd_eq]
              · rw [upd_ne (by omega)]; exact hrow g (by omega)
            · rw [ms_pa_eq, upd_ne (by omega)]; exact hout j hj
            · rw [nI_cl (by omega), nI_cl (by omega)]; omega
          · intro k2 hk2
            unfold eP at hk2
            cases hq : isK (Ds b) (2 ^ i) with
            | false => exact ⟨fun _ => hk2 _ (by rw [hq]; rfl), fun z => absurd rfl z⟩
            | true =>
              refine ⟨fun z => absurd z (by decide), fun _ => ?_⟩
              rw [eb_rd_iff, nI_cl (by omega), fy.2.1 17 (by decide), hP hq m (by omega)]
              exact ⟨vp_inN (by omega) (by omega), hk2 _ (by rw [hq]; rfl)⟩
    · intro k hk
      cases hq : isK (Ds b) (2 ^ i) with
      | false => exact ⟨fun _ => hk s ⟨fs, rfl, rfl, rfl, fun z => by rw [hq] at z; exact absurd z (by decide)⟩, fun z => absurd rfl z⟩
      | true =>
        refine ⟨fun z => absurd z (by decide), fun _ => ?_⟩
        refine sp_tells hs hb hm.2.2 hz hLs (fun w fw m1 m2 m3 => ?_)
        exact hk w ⟨fs.tr (fw.up (by decide)), fw.2.1 27 (by decide), fw.2.1 28 (by decide), fw.2.1 29 (by decide), fun _ => m3.1⟩
end API21
