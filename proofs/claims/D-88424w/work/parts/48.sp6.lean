set_option maxRecDepth 100000
section SP6
variable {σ : eb_MS} {b : Nat} {D : eb_D}
theorem ZD_le (hv : vD D) : ZD D ≤ 500 := by
  by_cases hz : ZD D = 0
  · omega
  · obtain ⟨hG, -, -, h3⟩ := TD_ok hv hz
    have := hG.1.2.2
    omega
set_option maxHeartbeats 1000000 in
theorem sp_loads {K : Int32 → eb_MS → Prop} (hv : vD D) (hD : mD σ b D) (hb : b < 4) (hR : mR σ) (hl : σ.1 5 = nI b → mL σ b D)
    (h0 : ZD D = 0 → ∀ s, fr lsW σ s → mL s b D → K 0 s) (h1 : ¬ ZD D = 0 → ∀ s, fr lsW σ s → mL s b D → K 1 s) : MX2_loads σ (nI b) K := by
  have hzl := ZD_le hv
  have hr := hv.1
  unfold MX2_loads
  refine ⟨fun hb5 => ?_, fun hb5 => ?_⟩
  · have hL := hl hb5
    rw [hL.2.2.2.1]
    refine br_le (b := 0) (by omega) (by omega) (fun h => ?_) (fun h => ?_)
    · exact h0 (by omega) σ (fr_rf _ _) hL
    · exact h1 (by omega) σ (fr_rf _ _) hL
  · rw [ms_ws_iff, eb_rd_iff, nI_cl (by omega)]
    refine ⟨vp_inN hb (by omega), ?_⟩
    rw [ms_ws_iff, eb_rd_iff, nI_cl (by omega)]
    refine ⟨vp_inN hb (by omega), ?_⟩
    rw [ms_ws_iff]
    have e1 : (ms_ps σ 5 (nI b)).2.1 1 b = nI D.1 := hD.1
    rw [e1]
    have e2 : (ms_ps (ms_ps σ 5 (nI b)) 6 (nI D.1)).2.1 3 b = nI D.2.2 := hD.2.1
    rw [e2]
    have f5 : fr lsW σ (ms_ps (ms_ps (ms_ps σ 5 (nI b)) 6 (nI D.1)) 7 (nI D.2.2)) := (((fr_rf _ _).ps (by decide)).ps (by decide)).ps (by decide)
    have g5 : (ms_ps (ms_ps (ms_ps σ 5 (nI b)) 6 (nI D.1)) 7 (nI D.2.2)).1 5 = nI b ∧ (ms_ps (ms_ps (ms_ps σ 5 (nI b)) 6 (nI D.1)) 7 (nI D.2.2)).1 6 = nI D.1 ∧ (ms_ps (ms_ps (ms_ps σ 5 (nI b)) 6 (nI D.1)) 7 (nI D.2.2)).1 7 = nI D.2.2 := by
      refine ⟨?_, ?_, ms_ps_eq _ _ _⟩
      · rw [ms_ps_ne (by decide), ms_ps_ne (by decide), ms_ps_eq]
      · rw [ms_ps_ne (by decide), ms_ps_eq]
    generalize ms_ps (ms_ps (ms_ps σ 5 (nI b)) 6 (nI D.1)) 7 (nI D.2.2) = s5 at f5 g5 ⊢
    refine sp_size hv (hD.fr f5 (by decide) (by decide) (by decide)) hb ?_
    rw [ms_ws_iff, ms_ps_eq]
    have f8 : fr lsW σ (ms_ps s5 8 (nI (ZD D))) := f5.ps (by decide)
    have g8 : (ms_ps s5 8 (nI (ZD D))).1 5 = nI b ∧ (ms_ps s5 8 (nI (ZD D))).1 6 = nI D.1 ∧ (ms_ps s5 8 (nI (ZD D))).1 7 = nI D.2.2 ∧ (ms_ps s5 8 (nI (ZD D))).1 8 = nI (ZD D) := ⟨by rw [ms_ps_ne (by decide)]; exact g5.1, by rw [ms_ps_ne (by decide)]; exact g5.2.1, by rw [ms_ps_ne (by decide)]; exact g5.2.2, ms_ps_eq _ _ _⟩
    generalize ms_ps s5 8 (nI (ZD D)) = s8 at f8 g8 ⊢
    refine br_eq (b := 0) (by omega) (by omega) (fun hz => ?_) (fun hz => ?_)
    · exact h0 hz s8 f8 ⟨g8.1, g8.2.1, g8.2.2.1, g8.2.2.2, fun z => absurd hz z⟩
    · obtain ⟨hG, he1, he2, he3⟩ := TD_ok hv hz
      have hn := hG.1.2
      refine jp_1 (fun s => fr [9] s8 s ∧ ∀ k, k < 16 → s.2.1 9 k = nI (TI (TD D) 0 k)) ?_ ?_
      · rintro s9 ⟨f9, i9⟩
        rw [ms_wr_iff]
        refine ⟨vp_inN (i := 0) (by omega) (by omega), ?_⟩
        rw [ms_wr_iff]
        refine ⟨vp_inN (i := 0) (by omega) (by omega), ?_⟩
        rw [ms_wr_iff]
        refine ⟨vp_inN (i := 0) (by omega) (by omega), ?_⟩
        refine jp_2 (fun x s => x = nI (ZD D) ∧ bI σ b D (TD D) (TD D).2.2.1 0 ((TD D).1 * (TD D).2.2.1) (TD D).2.2.1 s) ?_ ?_
        · rintro _ s ⟨rfl, hB⟩
          rw [he3] at hB
          obtain ⟨bf, bsc, bm, bx, b00, bto, -⟩ := hB
          rw [ms_ws_iff]
          have f15 : fr lsW σ (ms_ps s 8 (nI (ZD D))) := bf.ps (by decide)
          have hT : mT (ms_ps s 8 (nI (ZD D))) (ZD D) D.1 (Tto (TD D)) := by
            refine ⟨by rw [ms_ps_ne (by decide)]; exact bsc.2.1, ms_ps_eq _ _ _, fun g i hg hi => ?_⟩
            exact bto g i (by omega) (by omega) (Or.inl hg)
          have hto : tfo (ZD D) D.1 (Tto (TD D)) := by
            have := hG.tfo
            rw [he1, he3] at this
            exact this
          refine sp_tellsParts (s := 0) hv (hD.fr f15 (by decide) (by decide) (by decide)) hb (by rw [ms_ps_ne (by decide)]; exact bsc.1) (by decide) hT hzl hto (fun s17 f17 hp hmany _ => ?_)
          rw [ms_ws_iff, hmany]
          have f18 : fr lsW σ (ms_ps s17 16 (nI (pcnt D.1 (Tto (TD D)) (inS (stay D 0)) (ZD D)))) := (f15.tr (f17.up (by decide))).ps (by decide)
          have hsc : ∀ k, k = 5 ∨ k = 6 ∨ k = 7 ∨ k = 8 → (ms_ps s17 16 (nI (pcnt D.1 (Tto (TD D)) (inS (stay D 0)) (ZD D)))).1 k = (ms_ps s 8 (nI (ZD D))).1 k := by
            intro k hk
            rw [ms_ps_ne (by omega), f17.1 k (by simp; omega)]
          have har : ∀ k, k = 11 ∨ k = 12 ∨ k = 13 ∨ k = 14 → (ms_ps s17 16 (nI (pcnt D.1 (Tto (TD D)) (inS (stay D 0)) (ZD D)))).2.1 k = s.2.1 k := by
            intro k hk
            show s17.2.1 k = _
            rw [f17.2.1 k (by simp; omega)]
            rfl
          refine eb_loop2_i (fun x t => ∃ m, m ≤ ZD D ∧ x = nI m ∧ fr [15] (ms_ps s17 16 (nI (pcnt D.1 (Tto (TD D)) (inS (stay D 0)) (ZD D)))) t ∧ ∀ h, h < m → t.2.1 15 h = nI (prt D.1 (Tto (TD D)) (inS (stay D 0)) h)) (fun x _ => 1000 - x.toNatClampNeg) ?_ ⟨0, Nat.zero_le _, rfl, fr_rf _ _, fun h hh => absurd hh (Nat.not_lt_zero _)⟩
          rintro R x t ⟨m, hm, rfl, ft, hrow⟩ hRR
          rw [ft.1 8 (by decide), hsc 8 (by omega), ms_ps_eq]
          refine br_le (by omega) (by omega) (fun h2 => ?_) (fun h2 => ?_)
          · have hmz : m = ZD D := by omega
            subst hmz
            refine h1 hz t (f18.tr (ft.up (by decide))) ⟨?_, ?_, ?_, ?_, fun _ => ⟨fun g i hg hi => ?_, fun x hx => ?_, fun x hx hx0 => ?_, ?_, hrow, ?_⟩⟩
            · rw [ft.1 5 (by decide), hsc 5 (by omega), ms_ps_ne (by decide)]; exact bsc.1
            · rw [ft.1 6 (by decide), hsc 6 (by omega), ms_ps_ne (by decide)]; exact bsc.2.1
            · rw [ft.1 7 (by decide), hsc 7 (by omega), ms_ps_ne (by decide)]; exact bsc.2.2
            · rw [ft.1 8 (by decide), hsc 8 (by omega), ms_ps_eq]
            · rw [ft.2.1 11 (by decide), har 11 (by omega)]; exact bto g i (by omega) (by omega) (Or.inl hg)
            · rw [ft.2.1 12 (by decide), har 12 (by omega)]; exact (bx x hx).2.1
            · rw [ft.2.1 13 (by decide), har 13 (by omega), ft.2.1 14 (by decide), har 14 (by omega)]
              exact ⟨((bx x hx).2.2 hx0).1, ((bx x hx).2.2 hx0).2.1⟩
            · rw [ft.2.1 13 (by decide), har 13 (by omega), ft.2.1 14 (by decide), har 14 (by omega)]; exact b00
            · rw [ft.1 16 (by decide), ms_ps_eq]
          · rw [eb_rd_iff, nI_cl (by omega), ft.2.1 17 (by decide)]
            refine ⟨vp_inN (by omega) (by omega), ?_⟩
            have e17 : (ms_ps s17 16 (nI (pcnt D.1 (Tto (TD D)) (inS (stay D 0)) (ZD D)))).2.1 17 m = nI (prt D.1 (Tto (TD D)) (inS (stay D 0)) m) := hp m (by omega)
            rw [e17, ms_wr_iff, nI_cl (by omega)]
            refine ⟨vp_inN (by omega) (by omega), ?_⟩
            refine hRR _ _ ⟨m + 1, by omega, by rw [nI_1], ft.pa (by decide), fun h hh => ?_⟩ ?_
            · rw [ms_pa_eq]
              by_cases eh : h = m
              · rw [eh, upd_eq]
              · rw [upd_ne eh]; exact hrow h (by omega)
            · rw [nI_1, nI_cl (by omega), nI_cl (by omega)]; omega
        · intro k hk
          refine sp_makesGroup (e := TD D) (K := k) hv hD hb hR hG he1 he2 ?_ (fun s hB => hk _ _ ⟨by rw [he3], hB⟩)
          refine ⟨(((f8.tr (f9.up (by decide))).pa (by decide)).pa (by decide)).pa (by decide), ⟨?_, ?_, ?_⟩, ⟨by omega, by omega⟩, fun x hx => ?_, ⟨?_, ?_⟩, fun g' i' _ _ hor => ?_, fun x _ _ => Nat.zero_le _⟩
          · show s9.1 5 = _; rw [f9.1 5 (by decide)]; exact g8.1
          · show s9.1 6 = _; rw [f9.1 6 (by decide)]; exact g8.2.1
          · show s9.1 7 = _; rw [f9.1 7 (by decide)]; exact g8.2.2.1
          · have hx0 : x = 0 := by omega
            subst hx0
            refine ⟨fun k hk => ?_, ?_, fun z => absurd rfl z⟩
            · rw [ms_pa_ne (by decide), ms_pa_ne (by decide), ms_pa_ne (by decide), Nat.mul_zero, Nat.zero_add]
              exact i9 k hk
            · rw [ms_pa_ne (by decide), ms_pa_ne (by decide), ms_pa_eq, hG.2.2.1.1]
              exact upd_eq _ _ _
          · rw [ms_pa_ne (by decide), ms_pa_eq]; exact upd_eq _ _ _
          · rw [ms_pa_eq]; exact upd_eq _ _ _
          · omega
      · intro k hk
        refine eb_loop2_i (fun x s => ∃ m, m ≤ 16 ∧ x = nI m ∧ fr [9] s8 s ∧ ∀ k, k < m → s.2.1 9 k = nI (TI (TD D) 0 k)) (fun x _ => 20 - x.toNatClampNeg) ?_ ⟨0, by omega, rfl, fr_rf _ _, fun k hk => absurd hk (Nat.not_lt_zero _)⟩
        rintro R x s ⟨m, hm, rfl, fs, hrow⟩ hRR
        refine br_le (a := 16) (by omega) (by omega) (fun h2 => ?_) (fun h2 => ?_)
        · exact hk s ⟨fs, fun k hk => hrow k (by omega)⟩
        · refine jp_1 (fun x => x = nI (TI (TD D) 0 m)) ?_ ?_
          · rintro _ rfl
            rw [ms_wr_iff, nI_cl (by omega)]
            refine ⟨vp_inN (by omega) (by omega), ?_⟩
            refine hRR _ _ ⟨m + 1, by omega, by rw [nI_1], fs.pa (by decide), fun k hk => ?_⟩ ?_
            · rw [ms_pa_eq]
              by_cases ek : k = m
              · rw [ek, upd_eq]
              · rw [upd_ne ek]; exact hrow k (by omega)
            · rw [nI_1, nI_cl (by omega), nI_cl (by omega)]; omega
          · intro k2 hk2
            rw [nL_4, nI_div (by omega) (by omega), nI_rem (by omega) (by omega)]
            have h00 := hG.2.2.2.1.1 m (by omega)
            refine br_eq (by omega) (by omega) (fun h3 => hk2 _ ?_) (fun h3 => hk2 _ ?_)
            · rw [h00, nbT h3]; rfl
            · rw [h00, nbF h3]; rfl
end SP6
