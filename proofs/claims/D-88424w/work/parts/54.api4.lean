set_option maxRecDepth 100000
/-! the model's bodies are changed -/
def updD (Ds : Nat → eb_D) (b : Nat) (D : eb_D) : Nat → eb_D := fun k => if k = b then D else Ds k
theorem updD_eq (Ds : Nat → eb_D) (b : Nat) (D : eb_D) : updD Ds b D b = D := by unfold updD; rw [if_pos rfl]
theorem updD_ne {Ds : Nat → eb_D} {b k : Nat} {D : eb_D} (h : ¬ k = b) : updD Ds b D k = Ds k := by unfold updD; rw [if_neg h]
section API4
variable {σ : eb_MS} {Ds : Nat → eb_D}
theorem mI_set {s : eb_MS} {b : Nat} {D : eb_D} (h : mI σ Ds) (hv : vD D) (hD : mD s b D) (ho : ∀ k, k < 4 → ¬ k = b → mD s k (Ds k)) (h4 : s.2.1 4 = σ.2.1 4) (h5 : s.1 5 = -1) : mI s (updD Ds b D) := by
  refine ⟨fun k hk => ?_, fun m a1 a2 => by rw [h4]; exact h.2.1 m a1 a2, fun k hk z => ?_⟩
  · by_cases e : k = b
    · rw [e, updD_eq]; exact ⟨hv, hD⟩
    · rw [updD_ne e]; exact ⟨(h.1 k hk).1, ho k hk e⟩
  · rw [h5] at z
    exact absurd z (nI_m1' (by omega))
theorem sp_renews {b n : Nat} {K : eb_MS → Prop} (hb : b < 4)
    (hK : ∀ s, s.2.1 4 = σ.2.1 4 → mD s b (n, fun _ => 2, 1) → (∀ k D, ¬ k = b → k < 4 → mD σ k D → mD s k D) → K s) : MX2_renews σ (nI b) (nI n) K := by
  unfold MX2_renews
  rw [ms_wr_iff, nI_cl (by omega)]
  refine ⟨vp_inN hb (by omega), ?_⟩
  rw [ms_wr_iff, nI_cl (by omega)]
  refine ⟨vp_inN hb (by omega), ?_⟩
  refine eb_loop2_i (fun x s => ∃ m, m ≤ 16 ∧ x = nI m ∧ fr [2] (ms_pa (ms_pa σ 1 b (nI n)) 3 b 1) s ∧ (∀ k, k < m → s.2.1 2 (16 * b + k) = nI 2) ∧ ∀ k, k < 16 * b ∨ 16 * b + 16 ≤ k → s.2.1 2 k = σ.2.1 2 k) (fun x _ => 20 - x.toNatClampNeg) ?_ ⟨0, by omega, rfl, fr_rf _ _, fun k hk => absurd hk (Nat.not_lt_zero _), fun k _ => by rw [ms_pa_ne (by decide), ms_pa_ne (by decide)]⟩
  rintro R x s ⟨m, hm, rfl, hf, hrow, hout⟩ hR
  refine br_le (a := 16) (by omega) (by omega) (fun h => ?_) (fun h => ?_)
  · have e1 : s.2.1 1 = upd (σ.2.1 1) b (nI n) := by rw [hf.2.1 1 (by decide), ms_pa_ne (by decide), ms_pa_eq]
    have e3 : s.2.1 3 = upd (σ.2.1 3) b 1 := by rw [hf.2.1 3 (by decide), ms_pa_eq, ms_pa_ne (by decide)]
    refine hK s ?_ ⟨?_, ?_, fun k hk => hrow k (by omega)⟩ (fun k D hkb hk4 hD => ⟨?_, ?_, fun j hj => ?_⟩)
    · rw [hf.2.1 4 (by decide), ms_pa_ne (by decide), ms_pa_ne (by decide)]
    · rw [e1, upd_eq]
    · rw [e3, upd_eq]; rfl
    · rw [e1, upd_ne hkb]; exact hD.1
    · rw [e3, upd_ne hkb]; exact hD.2.1
    · rw [hout _ (by omega)]; exact hD.2.2 j hj
  · rw [nL_16, nI_mul, nI_add, ms_wr_iff, nI_cl (by omega)]
    refine ⟨vp_inN (by omega) (by omega), ?_⟩
    refine hR _ _ ⟨m + 1, by omega, by rw [nI_1], hf.pa (by decide), fun k hk => ?_, fun k hk => ?_⟩ ?_
    · rw [ms_pa_eq]
      by_cases ek : k = m
      · rw [ek, upd_eq]; rfl
      · rw [upd_ne (by omega)]; exact hrow k (by omega)
    · rw [ms_pa_eq, upd_ne (by omega)]; exact hout k hk
    · rw [nI_1, nI_cl (by omega), nI_cl (by omega)]; omega
theorem vD_new {n : Nat} (h1 : 1 ≤ n) (h2 : n ≤ 4) : vD (n, fun _ => 2, 1) := by
  refine ⟨⟨h1, h2⟩, ⟨Nat.le_refl _, ?_⟩, fun i j _ _ => ⟨Nat.le_refl _, by show 2 ≤ 6; omega, rfl, fun _ => rfl⟩⟩
  show 1 < 2 ^ n
  exact Nat.one_lt_two_pow (by omega)
theorem sp_body {a n : Int32} {K : Int32 → eb_MS → Prop} (hI : mI σ Ds) (h2 : ¬ ((0 ≤ a ∧ a ≤ 3) ∧ (1 ≤ n ∧ n ≤ 4)) → ∀ s, mI s Ds → K (-2) s)
    (h1 : ∀ b m, b < 4 → 1 ≤ m → m ≤ 4 → a = nI b → n = nI m → ∀ s, mI s (updD Ds b (m, fun _ => 2, 1)) → K 1 s) : MX2_body σ a n K := by
  unfold MX2_body
  rw [ms_ws_iff]
  refine sp_isBody (fun h => ?_) (fun h => ?_)
  · refine ⟨fun z => absurd z (by decide), fun _ => ?_⟩
    refine sp_in (fun hn => ?_) (fun hn => ?_)
    · refine ⟨fun z => absurd z (by decide), fun _ => ?_⟩
      obtain ⟨b, hb, rfl⟩ : ∃ b : Nat, b < 4 ∧ a = nI b := (body_or a).resolve_right (fun z => z h)
      have hn0 : ¬ n < 0 := fun z => by
        have h3 := Int32.lt_iff_toInt_lt.mp z
        have h4 := Int32.le_iff_toInt_le.mp hn.1
        have e0 : (0 : Int32).toInt = 0 := by decide
        have e1 : (1 : Int32).toInt = 1 := by decide
        omega
      obtain ⟨m, hm, rfl⟩ := nI_of hn0
      have m1 : 1 ≤ m := (nI_leI (by omega : (1 : Nat) < 2147483648) hm).mp hn.1
      have m4 : m ≤ 4 := (nI_leI hm (by omega : (4 : Nat) < 2147483648)).mp hn.2
      refine sp_renews hb (fun s e4 hD ho => ?_)
      rw [ms_ws_iff]
      refine h1 b m hb m1 m4 rfl rfl _ (mI_set (hI.thrown (v := 0)) (vD_new m1 m4) hD (fun k hk hkb => ho k _ hkb hk ((hI.thrown (v := 0)).1 k hk).2) e4 (ms_ps_eq _ _ _))
    · exact ⟨fun _ => h2 (fun z => hn z.2) _ hI.thrown, fun z => absurd rfl z⟩
  · exact ⟨fun _ => h2 (fun z => h z.1) _ hI.thrown, fun z => absurd rfl z⟩
theorem sp_ring {a v : Int32} {K : Int32 → eb_MS → Prop} (hI : mI σ Ds) (h2 : ¬ (∃ b m, b < 4 ∧ a = nI b ∧ v = nI m ∧ 1 ≤ m ∧ m < 2 ^ (Ds b).1) → ∀ s, mI s Ds → K (-2) s)
    (h1 : ∀ b m, b < 4 → a = nI b → v = nI m → 1 ≤ m → m < 2 ^ (Ds b).1 → ∀ s, mI s (updD Ds b ((Ds b).1, (Ds b).2.1, m)) → K (nI (Ds b).2.2) s) : MX2_ring σ a v K := by
  unfold MX2_ring
  rw [ms_ws_iff]
  refine sp_isBody (fun h => ?_) (fun h => ?_)
  · refine ⟨fun z => absurd z (by decide), fun _ => ?_⟩
    obtain ⟨b, hb, rfl⟩ : ∃ b : Nat, b < 4 ∧ a = nI b := (body_or a).resolve_right (fun z => z h)
    have q := (hI.thrown (v := 0)).1 b hb
    have hr := q.1.1
    have h16 : 2 ^ (Ds b).1 ≤ 2 ^ 4 := Nat.pow_le_pow_right (by omega) hr.2
    have hpos : 1 ≤ 2 ^ (Ds b).1 := Nat.one_le_two_pow
    rw [eb_rd_iff, nI_cl (by omega), q.2.1]
    refine ⟨vp_inN hb (by omega), ?_⟩
    rw [mk_shs _ (by omega)]
    refine sp_in (fun hn => ?_) (fun hn => ?_)
    · refine ⟨fun z => absurd z (by decide), fun _ => ?_⟩
      have hn0 : ¬ v < 0 := fun z => by
        have h3 := Int32.lt_iff_toInt_lt.mp z
        have h4 := Int32.le_iff_toInt_le.mp hn.1
        have e0 : (0 : Int32).toInt = 0 := by decide
        have e1 : (1 : Int32).toInt = 1 := by decide
        omega
      obtain ⟨m, hm, rfl⟩ := nI_of hn0
      have m1 : 1 ≤ m := (nI_leI (by omega : (1 : Nat) < 2147483648) hm).mp hn.1
      have m4 := (nI_leI hm (by omega)).mp hn.2
      rw [eb_rd_iff, nI_cl (by omega), q.2.2.1]
      refine ⟨vp_inN hb (by omega), ?_⟩
      rw [ms_wr_iff, nI_cl (by omega)]
      refine ⟨vp_inN hb (by omega), ?_⟩
      rw [ms_ws_iff]
      refine h1 b m hb rfl rfl m1 (by omega) _ (mI_set (hI.thrown (v := 0)) ⟨hr, ⟨m1, by show m < 2 ^ (Ds b).1; omega⟩, q.1.2.2⟩ ⟨?_, ?_, fun k hk => ?_⟩ (fun k hk hkb => ⟨?_, ?_, fun j hj => ?_⟩) ?_ (ms_ps_eq _ _ _))
      · exact q.2.1
      · show (ms_pa (ms_ps σ 0 0) 3 b (nI m)).2.1 3 b = _
        rw [ms_pa_eq, upd_eq]
      · exact q.2.2.2 k hk
      · exact ((hI.thrown (v := 0)).1 k hk).2.1
      · show (ms_pa (ms_ps σ 0 0) 3 b (nI m)).2.1 3 k = _
        rw [ms_pa_eq, upd_ne hkb]
        exact ((hI.thrown (v := 0)).1 k hk).2.2.1
      · exact ((hI.thrown (v := 0)).1 k hk).2.2.2 j hj
      · rfl
    · refine ⟨fun _ => h2 (fun z => hn ?_) _ hI.thrown, fun z => absurd rfl z⟩
      obtain ⟨b', m, hb', hab, rfl, m1, m2⟩ := z
      have : b = b' := (nI_eq (by omega) (by omega)).mp hab
      subst this
      exact ⟨(nI_leI (by omega : (1 : Nat) < 2147483648) (by omega)).mpr m1, (nI_leI (by omega) (by omega)).mpr (by omega)⟩
  · refine ⟨fun _ => h2 (fun z => h ?_) _ hI.thrown, fun z => absurd rfl z⟩
    obtain ⟨b, m, hb, rfl, -⟩ := z
    exact body_in hb
theorem sp_isMirror {b : Nat} {D : eb_D} {i : Int32} {K : Int32 → Prop} (hv : vD D) (hD : mD σ b D) (hb : b < 4) (h1 : ∀ m, m < D.1 → i = nI m → K 1) (h0 : (∀ m, m < D.1 → ¬ i = nI m) → K 0) : MX2_isMirror σ (nI b) i K := by
  have hr := hv.1
  unfold MX2_isMirror
  rw [eb_rd_iff, nI_cl (by omega), hD.1]
  refine ⟨vp_inN hb (by omega), ?_⟩
  rw [show (1 : Int32) = nI 1 from rfl, nI_sub hr.1]
  refine sp_in (fun hn => ⟨Or.inr rfl, ?_⟩) (fun hn => ⟨Or.inl rfl, h0 (fun m hm z => hn ?_)⟩)
  · obtain ⟨m, hm, rfl⟩ := nI_of (Int32.not_lt.mpr hn.1)
    have := (nI_leI hm (by omega)).mp hn.2
    exact h1 m (by omega) rfl
  · rw [z]
    exact ⟨nI_pos' (by omega), (nI_leI (by omega) (by omega)).mpr (by omega)⟩
/-- an angle of a diagram is set -/
def setA (D : eb_D) (i j m : Nat) : eb_D := (D.1, fun k => if k = 4 * i + j ∨ k = 4 * j + i then m else D.2.1 k, D.2.2)
theorem vD_setA {D : eb_D} (h : vD D) {i j m : Nat} (hi : i < D.1) (hj : j < D.1) (hij : ¬ i = j) (h2 : 2 ≤ m) (h6 : m ≤ 6) : vD (setA D i j m) := by
  have hr := h.1
  refine ⟨h.1, h.2.1, fun x y hx hy => ?_⟩
  have q := h.2.2 x y hx hy
  show 2 ≤ (if 4 * x + y = 4 * i + j ∨ 4 * x + y = 4 * j + i then m else D.2.1 (4 * x + y)) ∧ (if 4 * x + y = 4 * i + j ∨ 4 * x + y = 4 * j + i then m else D.2.1 (4 * x + y)) ≤ 6 ∧ (if 4 * x + y = 4 * i + j ∨ 4 * x + y = 4 * j + i then m else D.2.1 (4 * x + y)) = (if 4 * y + x = 4 * i + j ∨ 4 * y + x = 4 * j + i then m else D.2.1 (4 * y + x)) ∧ ((x = y ∨ D.1 ≤ x ∨ D.1 ≤ y) → (if 4 * x + y = 4 * i + j ∨ 4 * x + y = 4 * j + i then m else D.2.1 (4 * x + y)) = 2)
  by_cases hc : 4 * x + y = 4 * i + j ∨ 4 * x + y = 4 * j + i
  · have hc' : 4 * y + x = 4 * i + j ∨ 4 * y + x = 4 * j + i := by omega
    rw [if_pos hc, if_pos hc']
    exact ⟨h2, h6, rfl, fun z => by omega⟩
  · have hc' : ¬ (4 * y + x = 4 * i + j ∨ 4 * y + x = 4 * j + i) := by omega
    rw [if_neg hc, if_neg hc']
    exact q
theorem sp_angle {a i j m : Int32} {K : Int32 → eb_MS → Prop} (hI : mI σ Ds)
    (h2 : ¬ (∃ b x y v, b < 4 ∧ a = nI b ∧ x < (Ds b).1 ∧ i = nI x ∧ y < (Ds b).1 ∧ j = nI y ∧ ¬ x = y ∧ 2 ≤ v ∧ v ≤ 6 ∧ m = nI v) → ∀ s, mI s Ds → K (-2) s)
    (h1 : ∀ b x y v, b < 4 → a = nI b → x < (Ds b).1 → i = nI x → y < (Ds b).1 → j = nI y → ¬ x = y → 2 ≤ v → v ≤ 6 → m = nI v → ∀ s, mI s (updD Ds b (setA (Ds b) x y v)) → K (nI ((Ds b).2.1 (4 * x + y))) s) : MX2_angle σ a i j m K := by
  unfold MX2_angle
  rw [ms_ws_iff]
  have hI0 := hI.thrown (v := 0)
  have un : ∀ {b b' : Nat}, b < 4 → b' < 4 → nI b = nI b' → b = b' := fun h h' z => (nI_eq (by omega) (by omega)).mp z
  refine sp_isBody (fun h => ?_) (fun h => ?_)
  · refine ⟨fun z => absurd z (by decide), fun _ => ?_⟩
    obtain ⟨b, hb, rfl⟩ : ∃ b : Nat, b < 4 ∧ a = nI b := (body_or a).resolve_right (fun z => z h)
    have q := hI0.1 b hb
    have hr := q.1.1
    refine sp_isMirror q.1 q.2 hb (fun x hx hix => ?_) (fun hno => ?_)
    · refine ⟨fun z => absurd z (by decide), fun _ => ?_⟩
      refine sp_isMirror q.1 q.2 hb (fun y hy hjy => ?_) (fun hno => ?_)
      · refine ⟨fun z => absurd z (by decide), fun _ => ?_⟩
        subst hix hjy
        refine br_eq (by omega) (by omega) (fun hxy => ?_) (fun hxy => ?_)
        · refine h2 (fun z => ?_) _ hI0
          obtain ⟨b', x', y', v, c1, c2, c3, c4, c5, c6, c7, -⟩ := z
          have e := un hb c1 c2
          subst e
          have e1 : x = x' := (nI_eq (by omega) (by omega)).mp c4
          have e2 : y = y' := (nI_eq (by omega) (by omega)).mp c6
          omega
        · refine sp_in (fun hn => ?_) (fun hn => ?_)
          · refine ⟨fun z => absurd z (by decide), fun _ => ?_⟩
            have hn0 : ¬ m < 0 := fun z => by
              have h3 := Int32.lt_iff_toInt_lt.mp z
              have h4 := Int32.le_iff_toInt_le.mp hn.1
              have e0 : (0 : Int32).toInt = 0 := by decide
              have e1 : (2 : Int32).toInt = 2 := by decide
              omega
            obtain ⟨v, hv, rfl⟩ := nI_of hn0
            have v2 : 2 ≤ v := (nI_leI (by omega : (2 : Nat) < 2147483648) hv).mp hn.1
            have v6 : v ≤ 6 := (nI_leI hv (by omega : (6 : Nat) < 2147483648)).mp hn.2
            refine sp_angleOf q.2 hb (by omega) (by omega) ?_
            rw [nL_16, nL_4]
            simp only [nI_mul, nI_add]
            rw [ms_wr_iff, nI_cl (by omega)]
            refine ⟨vp_inN (by omega) (by omega), ?_⟩
            rw [ms_wr_iff, nI_cl (by omega)]
            refine ⟨vp_inN (by omega) (by omega), ?_⟩
            rw [ms_ws_iff]
            have e2 : (ms_pa (ms_pa (ms_ps σ 0 0) 2 (16 * b + 4 * x + y) (nI v)) 2 (16 * b + 4 * y + x) (nI v)).2.1 2 = upd (upd (σ.2.1 2) (16 * b + 4 * x + y) (nI v)) (16 * b + 4 * y + x) (nI v) := by rw [ms_pa_eq, ms_pa_eq]; rfl
            refine h1 b x y v hb rfl hx rfl hy rfl hxy v2 v6 rfl _ (mI_set hI0 (vD_setA q.1 hx hy hxy v2 v6) ⟨q.2.1, q.2.2.1, fun k hk => ?_⟩ (fun k hk hkb => ⟨(hI0.1 k hk).2.1, (hI0.1 k hk).2.2.1, fun t ht => ?_⟩) rfl (ms_ps_eq _ _ _))
            · show (ms_pa (ms_pa (ms_ps σ 0 0) 2 (16 * b + 4 * x + y) (nI v)) 2 (16 * b + 4 * y + x) (nI v)).2.1 2 (16 * b + k) = nI (if k = 4 * x + y ∨ k = 4 * y + x then v else (Ds b).2.1 k)
              rw [e2]
              by_cases c1 : k = 4 * y + x
              · rw [if_pos (Or.inr c1), show 16 * b + k = 16 * b + 4 * y + x by omega, upd_eq]
              · rw [upd_ne (by omega)]
                by_cases c2 : k = 4 * x + y
                · rw [if_pos (Or.inl c2), show 16 * b + k = 16 * b + 4 * x + y by omega, upd_eq]
                · rw [upd_ne (by omega), if_neg (by omega)]
                  exact q.2.2.2 k hk
            · show (ms_pa (ms_pa (ms_ps σ 0 0) 2 (16 * b + 4 * x + y) (nI v)) 2 (16 * b + 4 * y + x) (nI v)).2.1 2 (16 * k + t) = _
              rw [e2, upd_ne (by omega), upd_ne (by omega)]
              exact (hI0.1 k hk).2.2.2 t ht
          · refine ⟨fun _ => h2 (fun z => hn ?_) _ hI0, fun z => absurd rfl z⟩
            obtain ⟨b', x', y', v, c1, c2, c3, c4, c5, c6, c7, c8, c9, rfl⟩ := z
            exact ⟨(nI_leI (by omega : (2 : Nat) < 2147483648) (by omega)).mpr c8, (nI_leI (by omega) (by omega : (6 : Nat) < 2147483648)).mpr c9⟩
      · refine ⟨fun _ => h2 (fun z => ?_) _ hI0, fun z => absurd rfl z⟩
        obtain ⟨b', x', y', v, c1, c2, c3, c4, c5, c6, -⟩ := z
        have e := un hb c1 c2
        subst e
        exact hno y' c5 c6
    · refine ⟨fun _ => h2 (fun z => ?_) _ hI0, fun z => absurd rfl z⟩
      obtain ⟨b', x', y', v, c1, c2, c3, c4, -⟩ := z
      have e := un hb c1 c2
      subst e
      exact hno x' c3 c4
  · refine ⟨fun _ => h2 (fun z => h ?_) _ hI0, fun z => absurd rfl z⟩
    obtain ⟨b', x', y', v, c1, rfl, -⟩ := z
    exact body_in c1
end API4
