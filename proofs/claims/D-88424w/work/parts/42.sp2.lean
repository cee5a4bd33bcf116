set_option maxRecDepth 100000
/-! the model's sizes -/
theorem sj_0 (f : Nat → Nat → Nat) (i : Nat) : ∀ m, m ≤ i + 1 → sj f i m = 0 := by
  intro m
  induction m with
  | zero => intro _; rfl
  | succ m ih =>
    intro hm
    show sj f i m + cond (Nat.blt i m) (f i m) 0 = 0
    rw [ih (by omega), nlF (by omega)]
    rfl
theorem sj_s (f : Nat → Nat → Nat) {i m : Nat} (h : i < m) : sj f i (m + 1) = sj f i m + f i m := by
  show sj f i m + cond (Nat.blt i m) (f i m) 0 = _
  rw [nlT h]
  rfl
theorem si_t {s : Nat} (f : Nat → Nat → Nat) {m : Nat} (h : bt s m = 1) : si s f (m + 1) = si s f m + sj f m 4 := by
  show si s f m + cond (Nat.beq (bt s m) 1) (sj f m 4) 0 = _
  rw [nbT h]
  rfl
theorem si_f {s : Nat} (f : Nat → Nat → Nat) {m : Nat} (h : ¬ bt s m = 1) : si s f (m + 1) = si s f m := by
  show si s f m + cond (Nat.beq (bt s m) 1) (sj f m 4) 0 = _
  rw [nbF h]
  rfl
theorem b1_le (b : Bool) : b1 b ≤ 1 := by cases b <;> decide
theorem sj_le {f : Nat → Nat → Nat} (hf : ∀ i k, f i k ≤ 1) (i : Nat) : ∀ m, sj f i m ≤ m := by
  intro m
  induction m with
  | zero => exact Nat.le_refl _
  | succ m ih =>
    have := hf i m
    show sj f i m + cond (Nat.blt i m) (f i m) 0 ≤ m + 1
    cases Nat.blt i m
    · show sj f i m + 0 ≤ _; omega
    · show sj f i m + f i m ≤ _; omega
theorem si_le {s : Nat} {f : Nat → Nat → Nat} (hf : ∀ i k, f i k ≤ 1) : ∀ m, si s f m ≤ 4 * m := by
  intro m
  induction m with
  | zero => exact Nat.le_refl _
  | succ m ih =>
    have := sj_le hf m 4
    show si s f m + cond (Nat.beq (bt s m) 1) (sj f m 4) 0 ≤ 4 * (m + 1)
    cases Nat.beq (bt s m) 1
    · show si s f m + 0 ≤ _; omega
    · show si s f m + sj f m 4 ≤ _; omega
theorem pc4_le (a : Nat) : pc4 a ≤ 4 := by
  have h0 := bt_lt a 0; have h1 := bt_lt a 1; have h2 := bt_lt a 2; have h3 := bt_lt a 3
  show bt a 0 + bt a 1 + (bt a 2 + bt a 3) ≤ 4
  omega
theorem smost_le (s : Nat) (j : Nat → Nat) : ∀ m, smost s j m ≤ 4 := by
  intro m
  induction m with
  | zero => exact Nat.zero_le _
  | succ m ih =>
    show cond (Nat.beq (bt s m) 1) (cond (Nat.blt (smost s j m) (pc4 (j m))) (pc4 (j m)) (smost s j m)) (smost s j m) ≤ 4
    cases Nat.beq (bt s m) 1
    · exact ih
    · cases Nat.blt (smost s j m) (pc4 (j m))
      · exact ih
      · exact pc4_le _
section SP2
variable {σ : eb_MS} {b : Nat} {D : eb_D}
theorem vD.ang {D : eb_D} (h : vD D) {i j : Nat} (hi : i < 4) (hj : j < 4) : D.2.1 (4 * i + j) ≤ 6 := (h.2.2 i j hi hj).2.1
theorem spm_le (hv : vD D) {s i k : Nat} (hi : i < 4) (hk : k < 4) : spm s D.2.1 i k ≤ 6 := by
  show cond (Nat.beq (bt s k) 1) (D.2.1 (4 * i + k)) 2 ≤ 6
  cases Nat.beq (bt s k) 1
  · exact (by decide : 2 ≤ 6)
  · exact hv.ang hi hk
abbrev fJ (s : Nat) (an : Nat → Nat) : Nat → Nat → Nat := fun i k => b1 (Nat.blt 2 (spm s an i k))
abbrev fE (q s : Nat) (an : Nat → Nat) : Nat → Nat → Nat := fun i k => b1 (Nat.beq (spm s an i k) q)
abbrev fX (s : Nat) (j an : Nat → Nat) : Nat → Nat → Nat := fun i k => b1 (and (Nat.beq (spm s an i k) 4) (or (Nat.beq (pc4 (j i)) 1) (Nat.beq (pc4 (j k)) 1)))
theorem twj_s {s : Nat} {an : Nat → Nat} {i v m : Nat} (h : i < m) : twj s an i v (m + 1) = cond (and (Nat.beq (bt s i) 1) (Nat.beq (bt s m) 1)) (an (4 * i + m)) (twj s an i v m) := by
  show cond (and (Nat.blt i m) (and (Nat.beq (bt s i) 1) (Nat.beq (bt s m) 1))) (an (4 * i + m)) (twj s an i v m) = _
  rw [nlT h]
  rfl
theorem twj_0 {s : Nat} {an : Nat → Nat} {i v : Nat} : ∀ m, m ≤ i + 1 → twj s an i v m = v := by
  intro m
  induction m with
  | zero => intro _; rfl
  | succ m ih =>
    intro hm
    show cond (and (Nat.blt i m) (and (Nat.beq (bt s i) 1) (Nat.beq (bt s m) 1))) (an (4 * i + m)) (twj s an i v m) = _
    rw [nlF (by omega), ih (by omega)]
    rfl
theorem twj_le (hv : vD D) {s i v : Nat} (hi : i < 4) (h0 : v ≤ 6) : ∀ m, m ≤ 4 → twj s D.2.1 i v m ≤ 6 := by
  intro m
  induction m with
  | zero => intro _; exact h0
  | succ m ih =>
    intro hm
    show cond (and (Nat.blt i m) (and (Nat.beq (bt s i) 1) (Nat.beq (bt s m) 1))) (D.2.1 (4 * i + m)) (twj s D.2.1 i v m) ≤ 6
    cases and (Nat.blt i m) (and (Nat.beq (bt s i) 1) (Nat.beq (bt s m) 1))
    · exact ih (by omega)
    · exact hv.ang hi (by omega)
theorem twi_le (hv : vD D) {s : Nat} : ∀ m, m ≤ 4 → twi s D.2.1 m ≤ 6 := by
  intro m
  induction m with
  | zero => intro _; exact (by decide : 2 ≤ 6)
  | succ m ih => intro hm; exact twj_le hv (by omega) (ih (by omega)) 4 (Nat.le_refl _)
set_option maxHeartbeats 1000000 in
theorem sp_makes {s : Nat} {K : Int32 → Prop} (hv : vD D) (hD : mD σ b D) (hb : b < 4) (hs : s < 16) (hs0 : ¬ s = 0) (hK : K (nI (mkM (fun i => jnp D.2.1 i D.1) D.2.1 s))) : MX2_makes σ (nI b) (nI s) K := by
  have hr := hv.1.2
  have hp1 := (mk_self s hs).2.2.2.2 hs0
  have hp4 := pc4_le s
  unfold MX2_makes
  refine sp_bits hs ?_
  rw [eb_jp6_iff]
  refine eb_loop7_i (fun x4 x5 x6 x7 x8 x9 x10 => ∃ i, i ≤ 4 ∧ x4 = nI (si s (fJ s D.2.1) i) ∧ x5 = nI (si s (fE 3 s D.2.1) i) ∧ x6 = nI (si s (fE 4 s D.2.1) i) ∧ x7 = nI (si s (fE 5 s D.2.1) i) ∧ x8 = nI (smost s (fun i => jnp D.2.1 i D.1) i) ∧ x9 = nI (si s (fX s (fun i => jnp D.2.1 i D.1) D.2.1) i) ∧ x10 = nI i) (fun _ _ _ _ _ _ x => 8 - x.toNatClampNeg) ?_ ⟨0, by omega, rfl, rfl, rfl, rfl, rfl, rfl, rfl⟩
  rintro R x4 x5 x6 x7 x8 x9 x10 ⟨i, hi, rfl, rfl, rfl, rfl, rfl, rfl, rfl⟩ hR
  rw [nL_4]
  refine br_le (by omega) (by omega) (fun h => ?_) (fun h => ?_)
  · have hi4 : i = 4 := by omega
    subst hi4
    have q1 := si_le (s := s) (f := fJ s D.2.1) (fun i k => b1_le _) 4
    have q2 := si_le (s := s) (f := fE 3 s D.2.1) (fun i k => b1_le _) 4
    have q3 := si_le (s := s) (f := fE 4 s D.2.1) (fun i k => b1_le _) 4
    have q4 := si_le (s := s) (f := fE 5 s D.2.1) (fun i k => b1_le _) 4
    have q5 := smost_le s (fun i => jnp D.2.1 i D.1) 4
    have q6 := si_le (s := s) (f := fX s (fun i => jnp D.2.1 i D.1) D.2.1) (fun i k => b1_le _) 4
    unfold mkM at hK
    simp only [Bool.cond_eq_ite, Nat.beq_eq, Bool.and_eq_true, Bool.not_eq_true', Bool.not_eq_true] at hK
    have htw : two s D.2.1 = twi s D.2.1 4 := rfl
    rw [htw] at hK
    have e1 : si s (fun i k => b1 (Nat.blt 2 (spm s D.2.1 i k))) 4 = si s (fJ s D.2.1) 4 := rfl
    have e2 : ∀ q, si s (fun i k => b1 (Nat.beq (spm s D.2.1 i k) q)) 4 = si s (fE q s D.2.1) 4 := fun _ => rfl
    have e3 : si s (fun i k => b1 (and (Nat.beq (spm s D.2.1 i k) 4) (or (Nat.beq (pc4 (jnp D.2.1 i D.1)) 1) (Nat.beq (pc4 (jnp D.2.1 k D.1)) 1)))) 4 = si s (fX s (fun i => jnp D.2.1 i D.1) D.2.1) 4 := rfl
    rw [nL_1]
    refine br_eq (by omega) (by omega) (fun h1 => ?_) (fun h1 => ?_)
    · rw [if_pos h1] at hK; exact hK
    rw [if_neg h1] at hK
    rw [nL_2]
    refine br_eq (by omega) (by omega) (fun h2 => ?_) (fun h2 => ?_)
    · rw [if_pos h2] at hK
      rw [eb_jp1_iff]
      refine eb_loop2_i (fun x y => ∃ i, i ≤ 4 ∧ x = nI (twi s D.2.1 i) ∧ y = nI i) (fun _ x => 8 - x.toNatClampNeg) ?_ ⟨0, by omega, rfl, rfl⟩
      rintro R x y ⟨i, hi, rfl, rfl⟩ hR
      refine br_le (by omega) (by omega) (fun h => ?_) (fun h => ?_)
      · rw [show i = 4 by omega]; show K (nI 2 * _); rw [nI_mul]; exact hK
      · rw [eb_jp1_iff]
        refine eb_loop2_i (fun x y => ∃ m, i + 1 ≤ m ∧ m ≤ 4 ∧ x = nI (twj s D.2.1 i (twi s D.2.1 i) m) ∧ y = nI m) (fun _ x => 8 - x.toNatClampNeg) ?_ ⟨i + 1, by omega, by omega, by rw [twj_0 _ (Nat.le_refl _)], nI_add i 1⟩
        rintro R2 x y ⟨m, hm1, hm, rfl, rfl⟩ hR2
        refine br_le (by omega) (by omega) (fun h3 => ?_) (fun h3 => ?_)
        · have hm4 : m = 4 := by omega
          subst hm4
          refine hR _ _ ⟨i + 1, by omega, rfl, nI_add i 1⟩ ?_
          rw [nI_add, nI_cl (by omega), nI_cl (by omega)]; omega
        · rw [eb_jp1_iff, eb_jp0_iff, mk_bit1 s hs i (by omega), mk_bit1 s hs m (by omega)]
          have go : ∀ v : Nat, twj s D.2.1 i (twi s D.2.1 i) (m + 1) = v → R2 (nI v) (nI m + nI 1) := by
            intro v e
            refine hR2 _ _ ⟨m + 1, by omega, by omega, by rw [e], nI_add m 1⟩ ?_
            rw [nI_add, nI_cl (by omega), nI_cl (by omega)]; omega
          refine br_eq (Nat.lt_trans (bt_lt _ _) (by decide)) (by decide) (fun h4 => ?_) (fun h4 => ?_)
          · refine br_eq (Nat.lt_trans (bt_lt _ _) (by decide)) (by decide) (fun h5 => ?_) (fun h5 => ?_)
            · refine sp_angleOf hD hb (by omega) (by omega) (go _ ?_)
              rw [twj_s (by omega), nbT h4, nbT h5]; rfl
            · refine go _ ?_
              rw [twj_s (by omega), nbT h4, nbF h5]; rfl
          · refine go _ ?_
            rw [twj_s (by omega), nbF h4]; rfl
    rw [if_neg h2] at hK
    rw [nI_sub hp1]
    simp only [e1, e2, e3] at hK
    generalize si s (fJ s D.2.1) 4 = J at *
    generalize si s (fE 3 s D.2.1) 4 = T3 at *
    generalize si s (fE 4 s D.2.1) 4 = T4 at *
    generalize si s (fE 5 s D.2.1) 4 = T5 at *
    generalize si s (fX s (fun i => jnp D.2.1 i D.1) D.2.1) 4 = TX at *
    generalize smost s (fun i => jnp D.2.1 i D.1) 4 = MO at *
    generalize pc4 s = p at *
    refine br_eq (by omega) (by omega) (fun h3 => ?_) (fun h3 => ?_)
    · have h3' : Nat.beq J (p - 1) = true := nbT h3
      rw [nL_3]
      refine br_eq (by omega) (by omega) (fun h4 => ?_) (fun h4 => ?_)
      · have h3' : Nat.beq J 2 = true := by rw [h4] at h3'; exact h3'
        refine br_eq (by omega) (by omega) (fun h5 => ?_) (fun h5 => ?_)
        · simp [h3', h4, h5] at hK; exact hK
        · rw [eb_jp0_iff]
          refine br_eq (by omega) (by omega) (fun h6 => ?_) (fun h6 => ?_)
          · refine br_eq (by omega) (by omega) (fun h7 => ?_) (fun h7 => ?_)
            · simp [h3', h4, h5, h6, h7] at hK; exact hK
            · refine br_eq (by omega) (by omega) (fun _ => ?_) (fun z => absurd h6 z)
              refine br_eq (by omega) (by omega) (fun h8 => ?_) (fun h8 => ?_)
              · simp [h3', h4, h5, h6, h7, h8] at hK; exact hK
              · simp [h3', h4, h5, h6, h7, h8] at hK; exact hK
          · refine br_eq (by omega) (by omega) (fun z => absurd z h6) (fun _ => ?_)
            simp [h3', h4, h5, h6] at hK; exact hK
      · refine br_eq (by omega) (by omega) (fun h5 => ?_) (fun h5 => ?_)
        · refine br_eq (by omega) (by omega) (fun h6 => ?_) (fun h6 => ?_) <;> (simp [h3', h4, h5, h6] at hK; exact hK)
        · refine br_eq (by omega) (by omega) (fun h6 => ?_) (fun h6 => ?_)
          · simp [h3', h4, h5, h6] at hK; exact hK
          · refine br_eq (by omega) (by omega) (fun h7 => ?_) (fun h7 => ?_)
            · refine br_eq (by omega) (by omega) (fun h8 => ?_) (fun h8 => ?_)
              · refine br_eq (by omega) (by omega) (fun h9 => ?_) (fun h9 => ?_) <;> (simp [h3', h4, h5, h6, h7, h8, h9] at hK; exact hK)
              · simp [h3', h4, h5, h6, h7, h8] at hK; exact hK
            · simp [h3', h4, h5, h6, h7] at hK; exact hK
    · have h3' : Nat.beq J (p - 1) = false := nbF h3
      simp [h3'] at hK; exact hK
  · rw [eb_jp6_iff, nL_1, mk_bit1 s hs i (by omega)]
    refine br_eq (Nat.lt_trans (bt_lt _ _) (by decide)) (by decide) (fun h1 => ?_) (fun h1 => ?_)
    · refine sp_joinedTo hv hD hb (by omega) ?_
      refine sp_bits (sp_jlt hv i) ?_
      have hpi := pc4_le (jnp D.2.1 i D.1)
      have hmo := smost_le s (fun i => jnp D.2.1 i D.1) i
      have hmoe : smost s (fun i => jnp D.2.1 i D.1) (i + 1) = cond (Nat.blt (smost s (fun i => jnp D.2.1 i D.1) i) (pc4 (jnp D.2.1 i D.1))) (pc4 (jnp D.2.1 i D.1)) (smost s (fun i => jnp D.2.1 i D.1) i) := by
        show cond (Nat.beq (bt s i) 1) _ _ = _
        rw [nbT h1]; rfl
      refine jp_1 (fun x => x = nI (smost s (fun i => jnp D.2.1 i D.1) (i + 1))) ?_ ?_
      · rintro _ rfl
        refine eb_loop6_i (fun x4 x5 x6 x7 x9 y => ∃ m, i + 1 ≤ m ∧ m ≤ 4 ∧ x4 = nI (si s (fJ s D.2.1) i + sj (fJ s D.2.1) i m) ∧ x5 = nI (si s (fE 3 s D.2.1) i + sj (fE 3 s D.2.1) i m) ∧ x6 = nI (si s (fE 4 s D.2.1) i + sj (fE 4 s D.2.1) i m) ∧ x7 = nI (si s (fE 5 s D.2.1) i + sj (fE 5 s D.2.1) i m) ∧ x9 = nI (si s (fX s (fun i => jnp D.2.1 i D.1) D.2.1) i + sj (fX s (fun i => jnp D.2.1 i D.1) D.2.1) i m) ∧ y = nI m) (fun _ _ _ _ _ x => 8 - x.toNatClampNeg) ?_ ⟨i + 1, by omega, by omega, by rw [sj_0 _ _ _ (Nat.le_refl _), Nat.add_zero], by rw [sj_0 _ _ _ (Nat.le_refl _), Nat.add_zero], by rw [sj_0 _ _ _ (Nat.le_refl _), Nat.add_zero], by rw [sj_0 _ _ _ (Nat.le_refl _), Nat.add_zero], by rw [sj_0 _ _ _ (Nat.le_refl _), Nat.add_zero], nI_add i 1⟩
        rintro R2 x4 x5 x6 x7 x9 y ⟨m, hm1, hm, rfl, rfl, rfl, rfl, rfl, rfl⟩ hR2
        refine br_le (by omega) (by omega) (fun h2 => ?_) (fun h2 => ?_)
        · have hm4 : m = 4 := by omega
          subst hm4
          refine hR _ _ _ _ _ _ _ ⟨i + 1, by omega, ?_, ?_, ?_, ?_, rfl, ?_, nI_add i 1⟩ ?_
          · rw [si_t _ h1]
          · rw [si_t _ h1]
          · rw [si_t _ h1]
          · rw [si_t _ h1]
          · rw [si_t _ h1]
          · rw [nI_add, nI_cl (by omega), nI_cl (by omega)]; omega
        · have hsp := spm_le hv (s := s) (i := i) (k := m) (by omega) (by omega)
          refine jp_1 (fun x => x = nI (spm s D.2.1 i m)) ?_ ?_
          · rintro _ rfl
            refine jp_1 (fun x => x = nI (fJ s D.2.1 i m)) ?_ ?_
            · rintro _ rfl
              refine jp_1 (fun x => x = nI (fE 3 s D.2.1 i m)) ?_ ?_
              · rintro _ rfl
                refine jp_1 (fun x => x = nI (fE 4 s D.2.1 i m)) ?_ ?_
                · rintro _ rfl
                  refine jp_1 (fun x => x = nI (fE 5 s D.2.1 i m)) ?_ ?_
                  · rintro _ rfl
                    refine jp_1 (fun x => x = nI (fX s (fun i => jnp D.2.1 i D.1) D.2.1 i m)) ?_ ?_
                    · rintro _ rfl
                      simp only [nI_add, Nat.add_assoc]
                      refine hR2 _ _ _ _ _ _ ⟨m + 1, by omega, by omega, ?_, ?_, ?_, ?_, ?_, rfl⟩ ?_
                      · rw [sj_s _ (by omega)]
                      · rw [sj_s _ (by omega)]
                      · rw [sj_s _ (by omega)]
                      · rw [sj_s _ (by omega)]
                      · rw [sj_s _ (by omega)]
                      · rw [nI_cl (by omega), nI_cl (by omega)]; omega
                    · intro k hk
                      refine br_eq (by omega) (by omega) (fun h3 => ?_) (fun h3 => ?_)
                      · refine br_eq (by omega) (by omega) (fun h4 => ?_) (fun h4 => ?_)
                        · refine hk _ ?_
                          show nI 1 = nI (b1 (and (Nat.beq (spm s D.2.1 i m) 4) (or (Nat.beq (pc4 (jnp D.2.1 i D.1)) 1) (Nat.beq (pc4 (jnp D.2.1 m D.1)) 1))))
                          rw [nbT h3, nbT h4]; rfl
                        · refine sp_joinedTo hv hD hb (by omega) ?_
                          refine sp_bits (sp_jlt hv m) ?_
                          have := pc4_le (jnp D.2.1 m D.1)
                          refine br_eq (by omega) (by omega) (fun h5 => ?_) (fun h5 => ?_)
                          · refine hk _ ?_
                            show nI 1 = nI (b1 (and (Nat.beq (spm s D.2.1 i m) 4) (or (Nat.beq (pc4 (jnp D.2.1 i D.1)) 1) (Nat.beq (pc4 (jnp D.2.1 m D.1)) 1))))
                            rw [nbT h3, nbF h4, nbT h5]; rfl
                          · refine hk _ ?_
                            show nI 0 = nI (b1 (and (Nat.beq (spm s D.2.1 i m) 4) (or (Nat.beq (pc4 (jnp D.2.1 i D.1)) 1) (Nat.beq (pc4 (jnp D.2.1 m D.1)) 1))))
                            rw [nbT h3, nbF h4, nbF h5]; rfl
                      · refine hk _ ?_
                        show nI 0 = nI (b1 (and (Nat.beq (spm s D.2.1 i m) 4) (or (Nat.beq (pc4 (jnp D.2.1 i D.1)) 1) (Nat.beq (pc4 (jnp D.2.1 m D.1)) 1))))
                        rw [nbF h3]; rfl
                  · intro k hk
                    refine br_eq (b := 5) (by omega) (by omega) (fun h3 => hk _ ?_) (fun h3 => hk _ ?_)
                    · show nI 1 = nI (b1 (Nat.beq (spm s D.2.1 i m) 5)); rw [nbT h3]; rfl
                    · show nI 0 = nI (b1 (Nat.beq (spm s D.2.1 i m) 5)); rw [nbF h3]; rfl
                · intro k hk
                  refine br_eq (b := 4) (by omega) (by omega) (fun h3 => hk _ ?_) (fun h3 => hk _ ?_)
                  · show nI 1 = nI (b1 (Nat.beq (spm s D.2.1 i m) 4)); rw [nbT h3]; rfl
                  · show nI 0 = nI (b1 (Nat.beq (spm s D.2.1 i m) 4)); rw [nbF h3]; rfl
              · intro k hk
                refine br_eq (b := 3) (by omega) (by omega) (fun h3 => hk _ ?_) (fun h3 => hk _ ?_)
                · show nI 1 = nI (b1 (Nat.beq (spm s D.2.1 i m) 3)); rw [nbT h3]; rfl
                · show nI 0 = nI (b1 (Nat.beq (spm s D.2.1 i m) 3)); rw [nbF h3]; rfl
            · intro k hk
              refine br_le (b := 2) (by omega) (by omega) (fun h3 => hk _ ?_) (fun h3 => hk _ ?_)
              · show nI 0 = nI (b1 (Nat.blt 2 (spm s D.2.1 i m))); rw [nlF (by omega)]; rfl
              · show nI 1 = nI (b1 (Nat.blt 2 (spm s D.2.1 i m))); rw [nlT (by omega)]; rfl
          · intro k hk
            rw [mk_bit1 s hs m (by omega)]
            refine br_eq (Nat.lt_trans (bt_lt _ _) (by decide)) (by decide) (fun h3 => ?_) (fun h3 => ?_)
            · refine sp_angleOf hD hb (by omega) (by omega) (hk _ ?_)
              show _ = nI (cond (Nat.beq (bt s m) 1) (D.2.1 (4 * i + m)) 2); rw [nbT h3]; rfl
            · refine hk _ ?_
              show _ = nI (cond (Nat.beq (bt s m) 1) (D.2.1 (4 * i + m)) 2); rw [nbF h3]; rfl
      · intro k hk
        rw [hmoe] at hk
        refine br_le (by omega) (by omega) (fun h2 => hk _ ?_) (fun h2 => hk _ ?_)
        · rw [nlF (by omega)]; rfl
        · rw [nlT (by omega)]; rfl
    · refine hR _ _ _ _ _ _ _ ⟨i + 1, by omega, ?_, ?_, ?_, ?_, ?_, ?_, nI_add i 1⟩ ?_
      · rw [si_f _ h1]
      · rw [si_f _ h1]
      · rw [si_f _ h1]
      · rw [si_f _ h1]
      · show _ = nI (cond (Nat.beq (bt s i) 1) _ _); rw [nbF h1]; rfl
      · rw [si_f _ h1]
      · rw [nI_add, nI_cl (by omega), nI_cl (by omega)]; omega
theorem szl_ok {s x : Nat} (hx : x < 16) (h : ¬ x = 0) (hs : s < 16) (hl : Nat.land (Nat.land x (16 - x)) s = Nat.land x (16 - x)) : Nat.land x (15 - s) < x ∧ Nat.land x (15 - s) < 16 :=
  (by decide +kernel : ∀ x, x < 16 → ∀ s, s < 16 → ¬ x = 0 → Nat.land (Nat.land x (16 - x)) s = Nat.land x (16 - x) → Nat.land x (15 - s) < x ∧ Nat.land x (15 - s) < 16) x hx s hs h hl
theorem mk_lowp : ∀ x, x < 16 → ¬ x = 0 → ¬ Nat.land x (16 - x) = 0 ∧ Nat.land x (16 - x) < 16 := by decide +kernel
theorem rit_sub {j : Nat → Nat} {w : Nat} (hj : ∀ m, m < 4 → j m < 16) (hw : w < 16) : ∀ k {x : Nat}, x < 16 → Nat.land x (rit j w k x) = x := by
  have tr : ∀ a, a < 16 → ∀ b, b < 16 → ∀ c, c < 16 → Nat.land a b = a → Nat.land b c = b → Nat.land a c = a := by decide +kernel
  intro k
  induction k with
  | zero => intro x hx; exact (mk_self x hx).1
  | succ k ih =>
    intro x hx
    have h1 := rst_ok hj hw hx 4 (Nat.le_refl _)
    exact tr x hx _ h1.1 _ (rit_lt hj hw k h1.1) h1.2 (ih h1.1)
theorem mk_shs : ∀ k, k < 5 → eb_shl 1 (nI k) - 1 = nI (2 ^ k - 1) := by decide +kernel
/-- the product of what is left, and of what was -/
theorem sp_sizeOf {K : Int32 → Prop} (hv : vD D) (hD : mD σ b D) (hb : b < 4) (hz : szMb D.1 (fun i => jnp D.2.1 i D.1) D.2.1 = true) (hK : K (nI (sz0 (szM D.1 (fun i => jnp D.2.1 i D.1) D.2.1)))) : MX2_sizeOf σ (nI b) K := by
  have hr := hv.1
  have h16 : 2 ^ D.1 ≤ 2 ^ 4 := Nat.pow_le_pow_right (by omega) hr.2
  have hpos : 1 ≤ 2 ^ D.1 := Nat.one_le_two_pow
  have hj : ∀ m, m < 4 → (fun i => jnp D.2.1 i D.1) m < 16 := fun m _ => sp_jlt hv m
  unfold MX2_sizeOf
  rw [eb_rd_iff, nI_cl (by omega), hD.1]
  refine ⟨vp_inN hb (by omega), ?_⟩
  rw [mk_shs _ (by omega)]
  refine jp_1 (fun x => ∃ v, v ≤ 20000 ∧ x = nI v ∧ szM D.1 (fun i => jnp D.2.1 i D.1) D.2.1 = v) ?_ ?_
  · rintro _ ⟨v, hvl, rfl, e⟩
    rw [e] at hK
    rw [nL_500]
    refine br_le (by omega) (by omega) (fun h => ?_) (fun h => ?_)
    · have e2 : sz0 v = v := by unfold sz0; rw [nlF (by omega)]; rfl
      rw [e2] at hK; exact hK
    · have e2 : sz0 v = 0 := by unfold sz0; rw [nlT (by omega)]; rfl
      rw [e2] at hK; exact hK
  · intro k hk
    refine eb_loop2_i (fun x y => ∃ m xx v, xx < 16 ∧ x = nI xx ∧ y = nI v ∧ szl (mkM (fun i => jnp D.2.1 i D.1) D.2.1) (fun _ y => rit (fun i => jnp D.2.1 i D.1) 15 4 y) m xx v = szM D.1 (fun i => jnp D.2.1 i D.1) D.2.1 ∧ szb (mkM (fun i => jnp D.2.1 i D.1) D.2.1) (fun _ y => rit (fun i => jnp D.2.1 i D.1) 15 4 y) m xx v = true) (fun x y => x.toNatClampNeg) ?_ ⟨4, 2 ^ D.1 - 1, 1, by omega, rfl, rfl, rfl, hz⟩
    rintro R x y ⟨m, xx, v, hxx, rfl, rfl, hl, hbb⟩ hR
    have hvl : v ≤ 20000 := by
      cases m with
      | zero => exact Nat.le_of_ble_eq_true ((Bool.and_eq_true _ _ ▸ hbb : _ ∧ _).2)
      | succ m => exact Nat.le_of_ble_eq_true ((Bool.and_eq_true _ _ ▸ hbb : _ ∧ _).1)
    refine br_eq (b := 0) (by omega) (by omega) (fun h => ?_) (fun h => ?_)
    · subst h
      refine hk _ ⟨v, hvl, rfl, ?_⟩
      rw [← hl]
      cases m <;> rfl
    · cases m with
      | zero =>
        have := (Bool.and_eq_true _ _ ▸ hbb : Nat.beq xx 0 = true ∧ _).1
        exact absurd (Nat.eq_of_beq_eq_true this) h
      | succ m =>
        have hb2 : and (Nat.ble v 20000) (cond (Nat.beq xx 0) true (and (Nat.ble (mkM (fun i => jnp D.2.1 i D.1) D.2.1 (rit (fun i => jnp D.2.1 i D.1) 15 4 (Nat.land xx (16 - xx)))) 20000) (szb (mkM (fun i => jnp D.2.1 i D.1) D.2.1) (fun _ y => rit (fun i => jnp D.2.1 i D.1) 15 4 y) m (Nat.land xx (15 - rit (fun i => jnp D.2.1 i D.1) 15 4 (Nat.land xx (16 - xx)))) (v * mkM (fun i => jnp D.2.1 i D.1) D.2.1 (rit (fun i => jnp D.2.1 i D.1) 15 4 (Nat.land xx (16 - xx))))))) = true := hbb
        have hl2 : cond (Nat.beq xx 0) v (szl (mkM (fun i => jnp D.2.1 i D.1) D.2.1) (fun _ y => rit (fun i => jnp D.2.1 i D.1) 15 4 y) m (Nat.land xx (15 - rit (fun i => jnp D.2.1 i D.1) 15 4 (Nat.land xx (16 - xx)))) (v * mkM (fun i => jnp D.2.1 i D.1) D.2.1 (rit (fun i => jnp D.2.1 i D.1) 15 4 (Nat.land xx (16 - xx))))) = szM D.1 (fun i => jnp D.2.1 i D.1) D.2.1 := hl
        rw [nbF h] at hb2 hl2
        rw [Bool.and_eq_true] at hb2
        have hb3 := hb2.2
        rw [cond_false, Bool.and_eq_true] at hb3
        have hlow := mk_lowp xx hxx h
        have hp := rit_lt hj (by decide : 15 < 16) 4 hlow.2
        have hps := rit_sub hj (by decide : 15 < 16) 4 hlow.2
        have hxs := szl_ok hxx h hp hps
        rw [mk_low xx hxx]
        refine jp_1 (fun x => x = nI (rit (fun i => jnp D.2.1 i D.1) 15 4 (Nat.land xx (16 - xx)))) ?_ ?_
        · rintro _ rfl
          have hp0 : ¬ rit (fun i => jnp D.2.1 i D.1) 15 4 (Nat.land xx (16 - xx)) = 0 := fun z => by
            rw [z] at hps
            exact hlow.1 (hps.symm.trans (by show Nat.land _ 0 = 0; exact Nat.and_zero _))
          refine sp_makes hv hD hb hp hp0 ?_
          rw [mk_andn xx hxx _ hp, nI_mul]
          refine hR _ _ ⟨m, _, _, hxs.2, rfl, rfl, hl2, hb3.2⟩ ?_
          rw [nI_cl (by omega), nI_cl (by omega)]
          exact hxs.1
        · intro k2 hk2
          refine eb_loop2_i (fun x y => ∃ k, x = nI (rit (fun i => jnp D.2.1 i D.1) 15 k (Nat.land xx (16 - xx))) ∧ (x = y → rst (fun i => jnp D.2.1 i D.1) 15 (rit (fun i => jnp D.2.1 i D.1) 15 k (Nat.land xx (16 - xx))) 4 = rit (fun i => jnp D.2.1 i D.1) 15 k (Nat.land xx (16 - xx)))) (fun x y => 2 * (16 - x.toNatClampNeg) + if x = y then 0 else 1) ?_ ?_
          · rintro R2 x y ⟨k, rfl, hf⟩ hR2
            have hlt := rit_lt hj (by decide : 15 < 16) k hlow.2
            refine ⟨fun hxy => ?_, fun hxy => ?_⟩
            · have he := rit_eq hj (by decide : 15 < 16) hlow.2 (hf hxy)
              exact hk2 _ (by rw [he])
            · rw [eb_jp1_iff]
              refine sp_round (P := fun y k => MX2_joinedTo σ (nI b) y (fun v => k v)) (w := 15) hv hlt (by decide) (fun m k hm hk => ?_) ?_
              · refine sp_joinedTo hv hD hb hm ?_
                rw [(mk_self _ (sp_jlt hv m)).2.2.2.1] at hk; exact hk
              · have hst := rst_ok hj (by decide : 15 < 16) hlt 4 (Nat.le_refl _)
                refine hR2 _ _ ⟨k + 1, by rw [rit_step], fun z => ?_⟩ ?_
                · rw [rit_step]
                  have z' := (nI_eq (by omega) (by omega)).mp z
                  rw [z']; exact z'
                · rw [nI_cl (by omega), nI_cl (by omega), if_neg hxy]
                  by_cases e : rst (fun i => jnp D.2.1 i D.1) 15 (rit (fun i => jnp D.2.1 i D.1) 15 k (Nat.land xx (16 - xx))) 4 = rit (fun i => jnp D.2.1 i D.1) 15 k (Nat.land xx (16 - xx))
                  · rw [e, if_pos rfl]; omega
                  · have := (mk_pc _ hlt _ hst.1 hst.2 (fun z => e z.symm)).2
                    split <;> omega
          · refine ⟨0, rfl, fun z => ?_⟩
            have z' : nI (Nat.land xx (16 - xx)) = nI 0 := z
            exact absurd ((nI_eq (by have := hlow.2; omega) (by omega)).mp z') hlow.1
end SP2
