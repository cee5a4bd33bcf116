set_option maxRecDepth 100000
/-! mirrors by another order -/
def orU (r w : Nat) : Nat → Nat
  | 0 => 0
  | s + 1 => Nat.lor (orU r w s) (cond (Nat.blt (dg w s) r) (2 ^ dg w s) 0)
def ord (r w i : Nat) : Nat := dg w (r - 1 - i)
def orR (g r w : Nat) : Nat → Nat
  | 0 => 0
  | i + 1 => Nat.lor (orR g r w i) (bt g (ord r w i) * 2 ^ i)
def okO (r w : Nat) : Prop := w / 10 ^ r = 0 ∧ orU r w r = 2 ^ r - 1
def inO (r k : Nat) : Bool := and (and (Nat.blt (k / 4) r) (Nat.blt (k % 4) r)) (not (Nat.beq (k / 4) (k % 4)))
def oD (D : eb_D) (w : Nat) : eb_D := (D.1, fun k => cond (inO D.1 k) (D.2.1 (4 * ord D.1 w (k / 4) + ord D.1 w (k % 4))) 2, orR D.2.2 D.1 w D.1)
theorem mk_p2 : ∀ d, d < 4 → 2 ^ d < 16 := by decide
theorem orU_lt {r w : Nat} (hr : r ≤ 4) : ∀ s, orU r w s < 16 ∧ pc4 (orU r w s) ≤ s := by
  have h1 : ∀ a, a < 16 → ∀ d, d < 4 → pc4 (Nat.lor a (2 ^ d)) ≤ pc4 a + 1 := by decide +kernel
  intro s
  induction s with
  | zero => exact ⟨show 0 < 16 by decide, show pc4 0 ≤ 0 by decide⟩
  | succ s ih =>
    have e : orU r w (s + 1) = Nat.lor (orU r w s) (cond (Nat.blt (dg w s) r) (2 ^ dg w s) 0) := rfl
    by_cases h : dg w s < r
    · rw [e, nlT h]
      have := h1 _ ih.1 (dg w s) (by omega)
      exact ⟨mk_orl _ ih.1 _ (mk_p2 _ (by omega)), by show pc4 (Nat.lor (orU r w s) (2 ^ dg w s)) ≤ s + 1; omega⟩
    · rw [e, nlF h]
      show Nat.lor (orU r w s) 0 < 16 ∧ pc4 (Nat.lor (orU r w s) 0) ≤ s + 1
      rw [(mk_self _ ih.1).2.2.1]
      exact ⟨ih.1, by omega⟩
theorem orU_lost {r w : Nat} (hr : r ≤ 4) {s' : Nat} (h : ¬ dg w s' < r) : ∀ s, s' < s → pc4 (orU r w s) + 1 ≤ s := by
  have h1 : ∀ a, a < 16 → ∀ d, d < 4 → pc4 (Nat.lor a (2 ^ d)) ≤ pc4 a + 1 := by decide +kernel
  intro s
  induction s with
  | zero => intro z; exact absurd z (Nat.not_lt_zero _)
  | succ s ih =>
    intro hs
    have e : orU r w (s + 1) = Nat.lor (orU r w s) (cond (Nat.blt (dg w s) r) (2 ^ dg w s) 0) := rfl
    have q := orU_lt (w := w) hr s
    by_cases hd : dg w s < r
    · have hne : ¬ s' = s := fun z => h (by rw [z]; exact hd)
      have := ih (by omega)
      have := h1 _ q.1 (dg w s) (by omega)
      rw [e, nlT hd]
      show pc4 (Nat.lor (orU r w s) (2 ^ dg w s)) + 1 ≤ s + 1
      omega
    · rw [e, nlF hd]
      show pc4 (Nat.lor (orU r w s) 0) + 1 ≤ s + 1
      rw [(mk_self _ q.1).2.2.1]
      omega
theorem okO_dg {r w : Nat} (hr : r ≤ 4) (h : okO r w) {s : Nat} (hs : s < r) : dg w s < r := by
  have h1 : ∀ r, r < 5 → pc4 (2 ^ r - 1) = r := by decide +kernel
  by_cases e : dg w s < r
  · exact e
  · have := orU_lost hr e r hs
    rw [h.2, h1 r (by omega)] at this
    omega
theorem okO_on {r w : Nat} (hr : r ≤ 4) (h : okO r w) {j : Nat} (hj : j < r) : ∃ s, s < r ∧ dg w s = j := by
  have h1 : ∀ a, a < 16 → ∀ d, d < 4 → ∀ j, j < 4 → bt (Nat.lor a (2 ^ d)) j = 1 → bt a j = 1 ∨ d = j := by decide +kernel
  have h2 : ∀ r, r < 5 → ∀ j, j < r → bt (2 ^ r - 1) j = 1 := by decide +kernel
  have key : ∀ s, bt (orU r w s) j = 1 → ∃ s', s' < s ∧ dg w s' = j := by
    intro s
    induction s with
    | zero =>
      intro z
      have : bt 0 j = 0 := by show (0 >>> j) % 2 = 0; rw [Nat.zero_shiftRight]
      have z' : bt 0 j = 1 := z
      omega
    | succ s ih =>
      intro z
      have e : orU r w (s + 1) = Nat.lor (orU r w s) (cond (Nat.blt (dg w s) r) (2 ^ dg w s) 0) := rfl
      have q := orU_lt (w := w) hr s
      rw [e] at z
      by_cases hd : dg w s < r
      · rw [nlT hd] at z
        rcases h1 _ q.1 _ (by omega : dg w s < 4) j (by omega) z with y | y
        · obtain ⟨s', a1, a2⟩ := ih y
          exact ⟨s', by omega, a2⟩
        · exact ⟨s, by omega, y⟩
      · rw [nlF hd] at z
        have z' : bt (Nat.lor (orU r w s) 0) j = 1 := z
        rw [(mk_self _ q.1).2.2.1] at z'
        obtain ⟨s', a1, a2⟩ := ih z'
        exact ⟨s', by omega, a2⟩
  exact key r (by rw [h.2]; exact h2 r (by omega) j hj)
theorem orR_lt {g r w : Nat} : ∀ m, m ≤ 4 → orR g r w m < 2 ^ m := by
  have h1 : ∀ m, m < 4 → ∀ a, a < 16 → a < 2 ^ m → ∀ b, b < 2 → Nat.lor a (b * 2 ^ m) < 2 ^ (m + 1) := by decide +kernel
  intro m
  induction m with
  | zero => intro _; exact (by decide : 0 < 1)
  | succ m ih =>
    intro hm
    have h := ih (by omega)
    have h16 : 2 ^ m ≤ 2 ^ 4 := Nat.pow_le_pow_right (by omega) (by omega)
    exact h1 m (by omega) _ (by omega) h _ (bt_lt _ _)
theorem orR_ge {g r w : Nat} {i : Nat} (h : bt g (ord r w i) = 1) : ∀ m, m ≤ 4 → i < m → 1 ≤ orR g r w m := by
  have h1 : ∀ a, a < 16 → ∀ b, b < 16 → a ≤ Nat.lor a b ∧ b ≤ Nat.lor a b := by decide +kernel
  have h2 : ∀ b, b < 2 → ∀ m, m < 4 → b * 2 ^ m < 16 := by decide +kernel
  intro m
  induction m with
  | zero => intro _ z; exact absurd z (Nat.not_lt_zero _)
  | succ m ih =>
    intro hm hi
    have h16 : 2 ^ m ≤ 2 ^ 4 := Nat.pow_le_pow_right (by omega) (by omega)
    have hl := orR_lt (g := g) (r := r) (w := w) m (by omega)
    have q := h1 (orR g r w m) (by omega) _ (h2 _ (bt_lt g (ord r w m)) m (by omega))
    by_cases e : i = m
    · subst e
      rw [h] at q
      have hp : 1 ≤ 2 ^ i := Nat.one_le_two_pow
      show 1 ≤ Nat.lor (orR g r w i) (bt g (ord r w i) * 2 ^ i)
      rw [h]
      omega
    · have := ih (by omega) (by omega)
      show 1 ≤ Nat.lor (orR g r w m) (bt g (ord r w m) * 2 ^ m)
      omega
theorem vD_ord {D : eb_D} {w : Nat} (hv : vD D) (h : okO D.1 w) : vD (oD D w) := by
  have hb : ∀ r, r < 5 → ∀ g, g < 2 ^ r → 1 ≤ g → ∃ j, j < r ∧ bt g j = 1 := by decide +kernel
  have hr := hv.1
  have ho : ∀ i, i < D.1 → ord D.1 w i < D.1 := fun i hi => okO_dg hr.2 h (by omega)
  obtain ⟨j, hj, hjb⟩ := hb D.1 (by omega) _ hv.2.1.2 hv.2.1.1
  obtain ⟨s, hs, hsd⟩ := okO_on hr.2 h hj
  have e : ord D.1 w (D.1 - 1 - s) = j := by unfold ord; rw [show D.1 - 1 - (D.1 - 1 - s) = s by omega]; exact hsd
  refine ⟨hr, ⟨orR_ge (i := D.1 - 1 - s) (by rw [e]; exact hjb) D.1 hr.2 (by omega), orR_lt D.1 hr.2⟩, fun i j hi hj => ?_⟩
  have d1 : (4 * i + j) / 4 = i := by omega
  have d2 : (4 * i + j) % 4 = j := by omega
  have d3 : (4 * j + i) / 4 = j := by omega
  have d4 : (4 * j + i) % 4 = i := by omega
  show 2 ≤ cond (inO D.1 (4 * i + j)) (D.2.1 (4 * ord D.1 w ((4 * i + j) / 4) + ord D.1 w ((4 * i + j) % 4))) 2 ∧ cond (inO D.1 (4 * i + j)) (D.2.1 (4 * ord D.1 w ((4 * i + j) / 4) + ord D.1 w ((4 * i + j) % 4))) 2 ≤ 6 ∧
    cond (inO D.1 (4 * i + j)) (D.2.1 (4 * ord D.1 w ((4 * i + j) / 4) + ord D.1 w ((4 * i + j) % 4))) 2 = cond (inO D.1 (4 * j + i)) (D.2.1 (4 * ord D.1 w ((4 * j + i) / 4) + ord D.1 w ((4 * j + i) % 4))) 2 ∧
    ((i = j ∨ D.1 ≤ i ∨ D.1 ≤ j) → cond (inO D.1 (4 * i + j)) (D.2.1 (4 * ord D.1 w ((4 * i + j) / 4) + ord D.1 w ((4 * i + j) % 4))) 2 = 2)
  unfold inO
  rw [d1, d2, d3, d4]
  by_cases h1 : i < D.1
  · by_cases h2 : j < D.1
    · by_cases h3 : i = j
      · subst h3
        rw [nbT (rfl : i = i), Bool.not_true, Bool.and_false]
        exact ⟨Nat.le_refl _, by show 2 ≤ 6; omega, rfl, fun _ => rfl⟩
      · rw [nlT h1, nlT h2, nbF h3, nbF (fun z => h3 z.symm)]
        have q := hv.2.2 (ord D.1 w i) (ord D.1 w j) (by have := ho i h1; omega) (by have := ho j h2; omega)
        exact ⟨q.1, q.2.1, q.2.2.1, fun z => by omega⟩
    · rw [nlF h2, Bool.and_false, Bool.false_and]
      exact ⟨Nat.le_refl _, by show 2 ≤ 6; omega, rfl, fun _ => rfl⟩
  · rw [nlF h1, Bool.and_false, Bool.false_and, Bool.false_and]
    exact ⟨Nat.le_refl _, by show 2 ≤ 6; omega, rfl, fun _ => rfl⟩
theorem nI_p (m : Nat) : nI (m + 1) + (-1) = nI m := by
  have := nI_sub (a := m + 1) (b := 1) (by omega)
  rw [Int32.sub_eq_add_neg] at this
  exact this
section API15
variable {σ : eb_MS} {Ds : Nat → eb_D}
theorem mk_shb : ∀ b, b < 2 → ∀ k, k < 4 → eb_shl (nI b) (nI k) = nI (b * 2 ^ k) ∧ b * 2 ^ k < 16 := by decide +kernel
theorem sp_order {a w c : Int32} {K : Int32 → eb_MS → Prop} (hI : mI σ Ds)
    (h2 : (∀ b x d, b < 4 → a = nI b → x < 2147483648 → w = nI x → d < 4 → c = nI d → ¬ okO (Ds b).1 x) → ∀ t, mI t Ds → K (-2) t)
    (h1 : ∀ b x d, b < 4 → a = nI b → x < 2147483648 → w = nI x → d < 4 → c = nI d → okO (Ds b).1 x → ∀ t, mI t (updD Ds d (oD (Ds b) x)) → K 1 t) : MX2_order σ a w c K := by
  unfold MX2_order
  rw [ms_ws_iff]
  have hI0 := hI.thrown (v := 0)
  refine sp_isBody (fun h => ?_) (fun h => ?_)
  · refine ⟨fun z => absurd z (by decide), fun _ => ?_⟩
    obtain ⟨b, hb, rfl⟩ : ∃ b : Nat, b < 4 ∧ a = nI b := (body_or a).resolve_right (fun z => z h)
    refine sp_isBody (fun h' => ?_) (fun h' => ?_)
    · refine ⟨fun z => absurd z (by decide), fun _ => ?_⟩
      obtain ⟨d, hd, rfl⟩ : ∃ b : Nat, b < 4 ∧ c = nI b := (body_or c).resolve_right (fun z => z h')
      refine ⟨fun hw0 => ?_, fun hw0 => h2 (fun b' x _ _ _ hx e _ _ _ => hw0 (by rw [e]; exact nI_pos' hx)) _ hI0⟩
      obtain ⟨x, hx, rfl⟩ := nI_of (Int32.not_lt.mpr hw0)
      have bad : ¬ okO (Ds b).1 x → ∀ t, mI t Ds → K (-2) t := fun hn => h2 (fun b' x' d' hb' e hx' ex _ _ z => hn (by
        have e1 : b = b' := (nI_eq (by omega) (by omega)).mp e
        have e2 : x = x' := (nI_eq hx hx').mp ex
        rw [e1, e2]; exact z))
      have good := h1 b x d hb rfl hx rfl hd rfl
      have q := hI0.1 b hb
      have hr := q.1.1
      generalize hs0 : ms_ps σ 0 0 = s0 at hI0 q ⊢
      rw [eb_rd_iff, nI_cl (by omega), q.2.1]
      refine ⟨vp_inN hb (by omega), ?_⟩
      refine jp_3 (fun y z t => y = nI (x / 10 ^ (Ds b).1) ∧ z = nI (orU (Ds b).1 x (Ds b).1) ∧ fr [34] s0 t ∧ ∀ i, i < (Ds b).1 → t.2.1 34 i = nI (ord (Ds b).1 x i)) ?_ ?_
      · rintro _ _ t ⟨rfl, rfl, ft, hrow⟩
        have ht := hI0.fr ft (by decide)
        have qt := ht.1 b hb
        have hdl : x / 10 ^ (Ds b).1 ≤ x := Nat.div_le_self _ _
        refine br_eq (b := 0) (by omega) (by omega) (fun h3 => ?_) (fun h3 => bad (fun z => h3 z.1) t ht)
        have hU := (orU_lt (r := (Ds b).1) (w := x) hr.2 (Ds b).1).1
        have h16 : 2 ^ (Ds b).1 ≤ 2 ^ 4 := Nat.pow_le_pow_right (by omega) hr.2
        rw [mk_shs _ (by omega)]
        refine br_eq (by omega) (by omega) (fun h4 => ?_) (fun h4 => bad (fun z => h4 z.2) t ht)
        have hok : okO (Ds b).1 x := ⟨h3, h4⟩
        have hol : ∀ i, i < (Ds b).1 → ord (Ds b).1 x i < (Ds b).1 := fun i hi => okO_dg hr.2 hok (by omega)
        have hring := q.1.ring
        refine jp_1 (fun t' => fr [10] t t' ∧ ∀ k, k < 16 → t'.2.1 10 k = nI ((oD (Ds b) x).2.1 k)) ?_ ?_
        · rintro t1 ⟨f1, r1⟩
          refine jp_1 (fun y => y = nI (orR (Ds b).2.2 (Ds b).1 x (Ds b).1)) ?_ ?_
          · rintro _ rfl
            rw [ms_wr_iff, nI_cl (by omega)]
            refine ⟨vp_inN hd (by omega), ?_⟩
            rw [ms_wr_iff, nI_cl (by omega)]
            refine ⟨vp_inN hd (by omega), ?_⟩
            have i1 := ht.fr f1 (by decide)
            refine jp_1 (fun s => mI (ms_ps s 5 (-1)) (updD Ds d (oD (Ds b) x))) (fun s hs => by rw [ms_ws_iff]; exact good hok _ hs) ?_
            intro k hk
            refine eb_loop2_i (fun y s => ∃ m, m ≤ 16 ∧ y = nI m ∧ fr [2] (ms_pa (ms_pa t1 1 d (nI (Ds b).1)) 3 d (nI (orR (Ds b).2.2 (Ds b).1 x (Ds b).1))) s ∧ (∀ k, k < m → s.2.1 2 (16 * d + k) = nI ((oD (Ds b) x).2.1 k)) ∧ ∀ k, k < 16 * d ∨ 16 * d + 16 ≤ k → s.2.1 2 k = t1.2.1 2 k) (fun y _ => 20 - y.toNatClampNeg) ?_ ⟨0, by omega, rfl, fr_rf _ _, fun k hk => absurd hk (Nat.not_lt_zero _), fun k _ => by rw [ms_pa_ne (by decide), ms_pa_ne (by decide)]⟩
            rintro R y s ⟨m, hm, rfl, hf, hrow2, hout⟩ hR
            refine br_le (a := 16) (by omega) (by omega) (fun h5 => ?_) (fun h5 => ?_)
            · refine hk s ?_
              have e1 : s.2.1 1 = upd (t1.2.1 1) d (nI (Ds b).1) := by rw [hf.2.1 1 (by decide), ms_pa_ne (by decide), ms_pa_eq]
              have e3 : s.2.1 3 = upd (t1.2.1 3) d (nI (orR (Ds b).2.2 (Ds b).1 x (Ds b).1)) := by rw [hf.2.1 3 (by decide), ms_pa_eq, ms_pa_ne (by decide)]
              refine mI_set i1 (vD_ord q.1 hok) ⟨?_, ?_, fun k hk => hrow2 k (by omega)⟩ (fun k hk hkd => ⟨?_, ?_, fun j hj => ?_⟩) ?_ (ms_ps_eq _ _ _)
              · show s.2.1 1 d = _
                rw [e1, upd_eq]; rfl
              · show s.2.1 3 d = _
                rw [e3, upd_eq]; rfl
              · show s.2.1 1 k = _
                rw [e1, upd_ne hkd]; exact (i1.1 k hk).2.1
              · show s.2.1 3 k = _
                rw [e3, upd_ne hkd]; exact (i1.1 k hk).2.2.1
              · show s.2.1 2 (16 * k + j) = _
                rw [hout _ (by omega)]; exact (i1.1 k hk).2.2.2 j hj
              · show s.2.1 4 = _
                rw [hf.2.1 4 (by decide), ms_pa_ne (by decide), ms_pa_ne (by decide)]
            · have e10 : s.2.1 10 m = nI ((oD (Ds b) x).2.1 m) := by rw [hf.2.1 10 (by decide), ms_pa_ne (by decide), ms_pa_ne (by decide)]; exact r1 m (by omega)
              rw [eb_rd_iff, nI_cl (by omega), e10]
              refine ⟨vp_inN (by omega) (by omega), ?_⟩
              rw [nL_16, nI_mul, nI_add, ms_wr_iff, nI_cl (by omega)]
              refine ⟨vp_inN (by omega) (by omega), ?_⟩
              refine hR _ _ ⟨m + 1, by omega, by rw [nI_1], hf.pa (by decide), fun k hk => ?_, fun k hk => ?_⟩ ?_
              · rw [ms_pa_eq]
                by_cases ek : k = m
                · rw [ek, upd_eq]
                · rw [upd_ne (by omega)]; exact hrow2 k (by omega)
              · rw [ms_pa_eq, upd_ne (by omega)]; exact hout k hk
              · rw [nI_1, nI_cl (by omega), nI_cl (by omega)]; omega
          · intro k hk
            refine eb_loop2_i (fun y z => ∃ m, m ≤ (Ds b).1 ∧ y = nI (orR (Ds b).2.2 (Ds b).1 x m) ∧ z = nI m) (fun _ z => 20 - z.toNatClampNeg) ?_ ⟨0, by omega, rfl, rfl⟩
            rintro R y z ⟨m, hm, rfl, rfl⟩ hR
            refine br_le (by omega) (by omega) (fun h5 => hk _ (by rw [show m = (Ds b).1 by omega])) (fun h5 => ?_)
            have ho := hol m (by omega)
            rw [eb_rd_iff, nI_cl (by omega), f1.2.1 3 (by decide), qt.2.2.1]
            refine ⟨vp_inN hb (by omega), ?_⟩
            rw [eb_rd_iff, nI_cl (by omega), f1.2.1 34 (by decide), hrow m (by omega)]
            refine ⟨vp_inN (by omega) (by omega), ?_⟩
            have hl := orR_lt (g := (Ds b).2.2) (r := (Ds b).1) (w := x) m (by omega)
            have h16' : 2 ^ m ≤ 2 ^ 4 := Nat.pow_le_pow_right (by omega) (by omega)
            rw [eb_let_iff, show eb_shr (nI (Ds b).2.2) (nI (ord (Ds b).1 x m)) &&& 1 = nI (bt (Ds b).2.2 (ord (Ds b).1 x m)) from mk_bit _ hring _ (by omega), (mk_shb _ (bt_lt _ _) m (by omega)).1, mk_or _ (by omega) _ (mk_shb _ (bt_lt _ _) m (by omega)).2, nI_1]
            refine hR _ _ ⟨m + 1, by omega, rfl, rfl⟩ ?_
            rw [nI_cl (by omega), nI_cl (by omega)]; omega
        · intro k hk
          refine eb_loop2_i (fun y t' => ∃ m, m ≤ 16 ∧ y = nI m ∧ fr [10] t t' ∧ ∀ k, k < m → t'.2.1 10 k = nI ((oD (Ds b) x).2.1 k)) (fun y _ => 20 - y.toNatClampNeg) ?_ ⟨0, by omega, rfl, fr_rf _ _, fun k hk => absurd hk (Nat.not_lt_zero _)⟩
          rintro R y t' ⟨m, hm, rfl, f', r'⟩ hR
          refine br_le (a := 16) (by omega) (by omega) (fun h5 => hk _ ⟨f', fun k hk => r' k (by omega)⟩) (fun h5 => ?_)
          rw [show nI m / 4 = nI (m / 4) from nI_div (by omega) (by omega : (4 : Nat) < 2147483648), show eb_rem (nI m) 4 = nI (m % 4) from nI_rem (by omega) (by omega : (4 : Nat) < 2147483648)]
          refine jp_1 (fun y => y = nI (b1 (inO (Ds b).1 m))) ?_ ?_
          · rintro _ rfl
            refine jp_1 (fun y => y = nI ((oD (Ds b) x).2.1 m)) ?_ ?_
            · rintro _ rfl
              rw [ms_wr_iff, nI_cl (by omega), nI_1]
              refine ⟨vp_inN (by omega) (by omega), ?_⟩
              refine hR _ _ ⟨m + 1, by omega, rfl, f'.pa (by decide), fun k hk => ?_⟩ ?_
              · rw [ms_pa_eq]
                by_cases ek : k = m
                · rw [ek, upd_eq]
                · rw [upd_ne ek]; exact r' k (by omega)
              · rw [nI_cl (by omega), nI_cl (by omega)]; omega
            · intro kk hkk
              have eO : (oD (Ds b) x).2.1 m = cond (inO (Ds b).1 m) ((Ds b).2.1 (4 * ord (Ds b).1 x (m / 4) + ord (Ds b).1 x (m % 4))) 2 := rfl
              cases hc : inO (Ds b).1 m with
              | false =>
                rw [hc] at eO
                exact ⟨fun _ => hkk _ (by rw [eO]; rfl), fun z => absurd rfl z⟩
              | true =>
                rw [hc] at eO
                have hc' := hc
                unfold inO at hc'
                rw [Bool.and_eq_true, Bool.and_eq_true] at hc'
                have a1 : m / 4 < (Ds b).1 := Nat.le_of_ble_eq_true hc'.1.1
                have a2 : m % 4 < (Ds b).1 := Nat.le_of_ble_eq_true hc'.1.2
                have o1 := hol _ a1
                have o2 := hol _ a2
                refine ⟨fun z => absurd z (by decide), fun _ => ?_⟩
                rw [eb_rd_iff, nI_cl (by omega), f'.2.1 34 (by decide), hrow _ a1]
                refine ⟨vp_inN (by omega) (by omega), ?_⟩
                rw [eb_rd_iff, nI_cl (by omega), hrow _ a2]
                refine ⟨vp_inN (by omega) (by omega), ?_⟩
                exact sp_angleOf (qt.2.fr f' (by decide) (by decide) (by decide)) hb (by omega) (by omega) (hkk _ (by rw [eO]; rfl))
          · intro kk hkk
            unfold inO at hkk
            refine br_le (by omega) (by omega) (fun h6 => hkk _ ?_) (fun h6 => ?_)
            · rw [nlF (by omega : ¬ m / 4 < (Ds b).1)]; rfl
            · refine br_le (by omega) (by omega) (fun h7 => hkk _ ?_) (fun h7 => ?_)
              · rw [nlF (by omega : ¬ m % 4 < (Ds b).1), Bool.and_false]; rfl
              · refine br_eq (by omega) (by omega) (fun h8 => hkk _ ?_) (fun h8 => hkk _ ?_)
                · rw [nbT h8, Bool.not_true, Bool.and_false]; rfl
                · rw [nlT (by omega : m / 4 < (Ds b).1), nlT (by omega : m % 4 < (Ds b).1), nbF h8]; rfl
      · intro k hk
        rw [show nI (Ds b).1 - 1 = nI ((Ds b).1 - 1) from nI_sub (b := 1) (by omega)]
        refine eb_loop4_i (fun y z u t => ∃ s, s ≤ (Ds b).1 ∧ y = nI (x / 10 ^ s) ∧ z = nI (orU (Ds b).1 x s) ∧ ((s < (Ds b).1 ∧ u = nI ((Ds b).1 - 1 - s)) ∨ (s = (Ds b).1 ∧ u = -1)) ∧ fr [34] s0 t ∧ ∀ j, j < s → t.2.1 34 ((Ds b).1 - 1 - j) = nI (dg x j)) (fun y z u t => if u < 0 then 0 else u.toNatClampNeg + 1) ?_ ⟨0, by omega, by rw [Nat.pow_zero, Nat.div_one], rfl, Or.inl ⟨by omega, rfl⟩, fr_rf _ _, fun j hj => absurd hj (Nat.not_lt_zero _)⟩
        rintro R y z u t ⟨s, hs, rfl, rfl, hu, ft, hrow⟩ hR
        rcases hu with ⟨hsr, rfl⟩ | ⟨hsr, rfl⟩
        · refine ⟨fun z => absurd z (nI_neg (by omega)), fun _ => ?_⟩
          have hdl : x / 10 ^ s ≤ x := Nat.div_le_self _ _
          have hdg : dg x s < 10 := Nat.mod_lt _ (by omega)
          have hU := (orU_lt (r := (Ds b).1) (w := x) hr.2 s).1
          have eU : orU (Ds b).1 x (s + 1) = Nat.lor (orU (Ds b).1 x s) (cond (Nat.blt (dg x s) (Ds b).1) (2 ^ dg x s) 0) := rfl
          rw [show eb_rem (nI (x / 10 ^ s)) 10 = nI (dg x s) from nI_rem (by omega) (by omega : (10 : Nat) < 2147483648), show nI (x / 10 ^ s) / 10 = nI (x / 10 ^ (s + 1)) by rw [ten_s]; exact nI_div (by omega) (by omega : (10 : Nat) < 2147483648)]
          rw [ms_wr_iff, nI_cl (by omega)]
          refine ⟨vp_inN (by omega) (by omega), ?_⟩
          rw [eb_rd_iff, nI_cl (by omega), ms_pa_eq, upd_eq]
          refine ⟨vp_inN (by omega) (by omega), ?_⟩
          refine jp_1 (fun y => y = nI (cond (Nat.blt (dg x s) (Ds b).1) (2 ^ dg x s) 0)) ?_ ?_
          · rintro _ rfl
            have hc : cond (Nat.blt (dg x s) (Ds b).1) (2 ^ dg x s) 0 < 16 := by
              by_cases e : dg x s < (Ds b).1
              · rw [nlT e]; exact mk_p2 _ (by omega)
              · rw [nlF e]; exact (by decide : 0 < 16)
            rw [mk_or _ hU _ hc]
            refine hR _ _ _ _ ⟨s + 1, by omega, rfl, by rw [eU], ?_, ft.pa (by decide), fun j hj => ?_⟩ ?_
            · by_cases e : s + 1 = (Ds b).1
              · right
                refine ⟨e, ?_⟩
                rw [show (Ds b).1 - 1 - s = 0 by omega]; decide
              · left
                refine ⟨by omega, ?_⟩
                rw [show (Ds b).1 - 1 - s = ((Ds b).1 - 1 - (s + 1)) + 1 by omega, nI_p]
            · rw [ms_pa_eq]
              by_cases ej : j = s
              · rw [ej, upd_eq]
              · rw [upd_ne (by omega)]; exact hrow j (by omega)
            · rw [if_neg (nI_neg (by omega) : ¬ nI ((Ds b).1 - 1 - s) < 0), nI_cl (by omega)]
              by_cases e : s + 1 = (Ds b).1
              · rw [show (Ds b).1 - 1 - s = 0 by omega, if_pos (by decide)]; omega
              · rw [show (Ds b).1 - 1 - s = ((Ds b).1 - 1 - (s + 1)) + 1 by omega, nI_p, if_neg (nI_neg (by omega)), nI_cl (by omega)]; omega
          · intro kk hkk
            refine br_le (by omega) (by omega) (fun h6 => hkk _ ?_) (fun h6 => ?_)
            · rw [nlF (by omega : ¬ dg x s < (Ds b).1)]; rfl
            · rw [eb_rd_iff, nI_cl (by omega), upd_eq]
              refine ⟨vp_inN (by omega) (by omega), hkk _ ?_⟩
              rw [nlT (by omega : dg x s < (Ds b).1), mk_shl _ (by omega)]; rfl
        · refine ⟨fun _ => hk _ _ _ ⟨by rw [hsr], by rw [hsr], ft, fun i hi => ?_⟩, fun z => absurd (by decide) z⟩
          have := hrow ((Ds b).1 - 1 - i) (by omega)
          rw [show (Ds b).1 - 1 - ((Ds b).1 - 1 - i) = i by omega] at this
          exact this
    · exact ⟨fun _ => h2 (fun b x d _ _ _ _ hd e _ => h' (by rw [e]; exact body_in hd)) _ hI0, fun z => absurd rfl z⟩
  · exact ⟨fun _ => h2 (fun b x d hb e _ _ _ _ _ => h (by rw [e]; exact body_in hb)) _ hI0, fun z => absurd rfl z⟩
end API15
