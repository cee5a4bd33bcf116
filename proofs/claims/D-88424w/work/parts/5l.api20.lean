set_option maxRecDepth 100000
section API20
variable {σ : eb_MS} {Ds : Nat → eb_D}
theorem gat3_no {a : Int32} {f : Nat → Int32} (h : ¬ (0 ≤ a ∧ a ≤ 3)) : gat3 Ds a f = -2 := gat_no h
theorem gat3_z {b : Nat} {f : Nat → Int32} (hb : b < 4) (hz : ZD (Ds b) = 0) : gat3 Ds (nI b) f = -5 := gat_z hb hz
theorem gat3_3 {b : Nat} {f : Nat → Int32} (hb : b < 4) (hz : ¬ ZD (Ds b) = 0) (h : ¬ (Ds b).1 = 3) : gat3 Ds (nI b) f = -3 := by
  unfold gat3
  rw [gat_f hb hz, if_neg h]
theorem gat3_f {b : Nat} {f : Nat → Int32} (hb : b < 4) (hz : ¬ ZD (Ds b) = 0) (h : (Ds b).1 = 3) : gat3 Ds (nI b) f = f b := by
  unfold gat3
  rw [gat_f hb hz, if_pos h]
/-- refused, or not, by three mirrors -/
theorem sp_three {a : Int32} {f : Nat → Int32} {K : Int32 → eb_MS → Prop} {B : eb_MS → Prop} (hI : mI σ Ds) (hK : ∀ s, mI s Ds → K (gat3 Ds a f) s)
    (h0 : ∀ b, b < 4 → a = nI b → ¬ ZD (Ds b) = 0 → (Ds b).1 = 3 → ∀ s, mI s Ds → mL s b (Ds b) → (∀ s, mI s Ds → K (f b) s) → B s) : MX2_refusesThree σ a (fun v g => eb_br (0 ≤ v) (B g) (K v g)) := by
  refine sp_refusesThree hI (fun h => br_m2 ?_) (fun b hb hab hz s hs => br_m5 ?_) (fun b hb hab hz h3 s hs => br_m3 ?_) (fun b hb hab hz h3 s hs hL => br_0 ?_)
  · have := hK _ hI
    rw [gat3_no h] at this
    exact this
  · have := hK s hs
    rw [hab, gat3_z hb hz] at this
    exact this
  · have := hK s hs
    rw [hab, gat3_3 hb hz h3] at this
    exact this
  · refine h0 b hb hab hz h3 s hs hL (fun t ht => ?_)
    have := hK t ht
    rw [hab, gat3_f hb hz h3] at this
    exact this
noncomputable def snN (D : eb_D) (w : Int32) : Int32 := if w = 0 then nI (ZD D / 2) else if w = 1 then nI (jal (snA D) (ZD D / 2)) else nI (snI D none 3)
noncomputable def aSnub (Ds : Nat → eb_D) (a w : Int32) : Int32 := if 0 ≤ w ∧ w ≤ 2 then gat3 Ds a (fun b => snN (Ds b) w) else -2
theorem sp_snub {a w : Int32} {K : Int32 → eb_MS → Prop} (hI : mI σ Ds) (hK : ∀ s, mI s Ds → K (aSnub Ds a w) s) : MX2_snub σ a w K := by
  unfold MX2_snub
  rw [ms_ws_iff]
  unfold aSnub at hK
  have hI0 := hI.thrown (v := 0)
  refine sp_in (fun hn => ?_) (fun hn => ?_)
  · refine ⟨fun z => absurd z (by decide), fun _ => ?_⟩
    rw [if_pos hn] at hK
    refine sp_three hI0 hK (fun b hb hab hz h3 s hs hL hK => ?_)
    have hzl := ZD_le (hI.1 b hb).1
    refine sp_snubs hs hb hz h3 hL (fun t m1 m2 m3 => ?_)
    have := hK t m1
    unfold snN at this
    refine ⟨fun e => ?_, fun e => ?_⟩
    · rw [if_pos e] at this; exact this
    · rw [if_neg e] at this
      refine ⟨fun e1 => ?_, fun e1 => ?_⟩
      · rw [if_pos e1] at this
        exact sp_joinsAll (by omega) m3 this
      · rw [if_neg e1] at this
        exact sp_snubFacesOf (s := none) m1 hb m2 (fun x z => by simp at z) this
  · have := hK _ hI0
    rw [if_neg hn] at this
    exact ⟨fun _ => this, fun z => absurd rfl z⟩
noncomputable def aSnubLaw (Ds : Nat → eb_D) (a : Int32) : Int32 := gat3 Ds a (fun b => (nI (ZD (Ds b) / 2) - nI (jal (snA (Ds b)) (ZD (Ds b) / 2))) + nI (snI (Ds b) none 3))
theorem sp_snubLaw {a : Int32} {K : Int32 → eb_MS → Prop} (hI : mI σ Ds) (hK : ∀ s, mI s Ds → K (aSnubLaw Ds a) s) : MX2_snubLaw σ a K := by
  unfold MX2_snubLaw
  rw [ms_ws_iff]
  refine sp_three (hI.thrown (v := 0)) hK (fun b hb hab hz h3 s hs hL hK => ?_)
  have hzl := ZD_le (hI.1 b hb).1
  refine sp_snubs hs hb hz h3 hL (fun t m1 m2 m3 => ?_)
  refine sp_joinsAll (by omega) m3 ?_
  exact sp_snubFacesOf (s := none) m1 hb m2 (fun x z => by simp at z) (hK t m1)
noncomputable def aSnubDegree (Ds : Nat → eb_D) (a c : Int32) : Int32 := if 0 ≤ c then gat3 Ds a (fun b => if c.toNatClampNeg < ZD (Ds b) / 2 then nI (cnB (snA (Ds b) c.toNatClampNeg) (ZD (Ds b) / 2)) else -2) else -2
theorem sp_snubDegree {a c : Int32} {K : Int32 → eb_MS → Prop} (hI : mI σ Ds) (hK : ∀ s, mI s Ds → K (aSnubDegree Ds a c) s) : MX2_snubDegree σ a c K := by
  unfold MX2_snubDegree
  rw [ms_ws_iff]
  unfold aSnubDegree at hK
  refine ⟨fun hc => ?_, fun hc => ?_⟩
  · rw [if_pos hc] at hK
    obtain ⟨x, hx, rfl⟩ := nI_of (Int32.not_lt.mpr hc)
    rw [nI_cl hx] at hK
    refine sp_three (hI.thrown (v := 0)) hK (fun b hb hab hz h3 s hs hL hK => ?_)
    have hzl := ZD_le (hI.1 b hb).1
    refine sp_snubs hs hb hz h3 hL (fun t m1 m2 m3 => ?_)
    have := hK t m1
    refine br_le (by omega) hx (fun h => ?_) (fun h => ?_)
    · rw [if_neg (by omega)] at this; exact this
    · rw [if_pos (by omega)] at this
      exact sp_degreeOf (by omega) m3 (by omega) this
  · have := hK _ (hI.thrown (v := 0))
    rw [if_neg hc] at this
    exact this
noncomputable def aSnubFar (Ds : Nat → eb_D) (a c d : Int32) : Int32 := if 0 ≤ c ∧ 0 ≤ d then gat3 Ds a (fun b => if c.toNatClampNeg < ZD (Ds b) / 2 ∧ d.toNatClampNeg < ZD (Ds b) / 2 then oI (fo (snA (Ds b)) (ZD (Ds b) / 2) c.toNatClampNeg d.toNatClampNeg) else -2) else -2
theorem sp_snubFar {a c d : Int32} {K : Int32 → eb_MS → Prop} (hI : mI σ Ds) (hK : ∀ s, mI s Ds → K (aSnubFar Ds a c d) s) : MX2_snubFar σ a c d K := by
  unfold MX2_snubFar
  rw [ms_ws_iff]
  unfold aSnubFar at hK
  have hI0 := hI.thrown (v := 0)
  refine ⟨fun hc => ?_, fun hc => ?_⟩
  · have := hK _ hI0
    rw [if_neg (fun z => Int32.not_lt.mpr z.1 hc)] at this
    exact this
  · refine ⟨fun hd => ?_, fun hd => ?_⟩
    · rw [if_pos ⟨Int32.not_lt.mp hc, hd⟩] at hK
      obtain ⟨x, hx, rfl⟩ := nI_of hc
      obtain ⟨y, hy, rfl⟩ := nI_of (Int32.not_lt.mpr hd)
      rw [nI_cl hx, nI_cl hy] at hK
      refine sp_three hI0 hK (fun b hb hab hz h3 s hs hL hK => ?_)
      have hzl := ZD_le (hI.1 b hb).1
      refine sp_snubs hs hb hz h3 hL (fun t m1 m2 m3 => ?_)
      refine br_le (by omega) hx (fun h => ?_) (fun h => ?_)
      · have := hK t m1
        rw [if_neg (by omega)] at this; exact this
      · refine br_lt hy (by omega) (fun h4 => ?_) (fun h4 => ?_)
        · refine sp_walks (by omega) m3 (by omega) (fun t' ft' r22 hlt => ?_)
          have := hK t' (m1.fr ft' (by decide))
          rw [if_pos (by omega)] at this
          rw [eb_rd_iff, nI_cl hy, r22 y h4]
          exact ⟨vp_inN (by omega) (by omega), this⟩
        · have := hK t m1
          rw [if_neg (by omega)] at this; exact this
    · have := hK _ hI0
      rw [if_neg (fun z => hd z.2)] at this
      exact this
noncomputable def aSnubFaces (Ds : Nat → eb_D) (a c : Int32) : Int32 := if 2 ≤ c then gat3 Ds a (fun b => nI (snI (Ds b) (some c.toNatClampNeg) 3)) else -2
theorem sp_snubFaces {a c : Int32} {K : Int32 → eb_MS → Prop} (hI : mI σ Ds) (hK : ∀ s, mI s Ds → K (aSnubFaces Ds a c) s) : MX2_snubFaces σ a c K := by
  unfold MX2_snubFaces
  rw [ms_ws_iff]
  unfold aSnubFaces at hK
  refine ⟨fun hc => ?_, fun hc => ?_⟩
  · rw [if_pos hc] at hK
    have hc0 : ¬ c < 0 := fun z => by
      have h3 := Int32.lt_iff_toInt_lt.mp z
      have h4 := Int32.le_iff_toInt_le.mp hc
      have e0 : (0 : Int32).toInt = 0 := by decide
      have e1 : (2 : Int32).toInt = 2 := by decide
      omega
    obtain ⟨x, hx, rfl⟩ := nI_of hc0
    rw [nI_cl hx] at hK
    refine sp_three (hI.thrown (v := 0)) hK (fun b hb hab hz h3 s hs hL hK => ?_)
    refine sp_snubFacesOf (s := some x) hs hb hL (fun y z => ?_) (hK s hs)
    injection z with z
    omega
  · have := hK _ (hI.thrown (v := 0))
    rw [if_neg hc] at this
    exact this
/-- what is told of all bodies in one number -/
noncomputable def dgJ (D : eb_D) (i : Nat) : Nat → Int64 → Int64
  | 0, h => h
  | j + 1, h => cond (Nat.blt i j) (31 * dgJ D i j h + (nI (D.2.1 (4 * i + j))).toInt64) (dgJ D i j h)
noncomputable def dgI (D : eb_D) : Nat → Int64 → Int64
  | 0, h => h
  | i + 1, h => dgJ D i D.1 (dgI D i h)
noncomputable def dgB (D : eb_D) (h : Int64) : Int64 := 31 * (31 * dgI D D.1 (31 * h + (nI D.1).toInt64) + (nI D.2.2).toInt64) + (if ZD D = 0 then (-5 : Int32) else nI (ZD D)).toInt64
noncomputable def dgA (Ds : Nat → eb_D) : Nat → Int64
  | 0 => 271
  | b + 1 => dgB (Ds b) (dgA Ds b)
theorem dgJ_0 (D : eb_D) (i : Nat) (h : Int64) : ∀ j, j ≤ i + 1 → dgJ D i j h = h := by
  intro j
  induction j with
  | zero => intro _; rfl
  | succ j ih => intro z; show cond (Nat.blt i j) _ (dgJ D i j h) = h; rw [nlF (by omega)]; exact ih (by omega)
theorem sp_digest {K : Int64 → eb_MS → Prop} (hI : mI σ Ds) (hK : ∀ s, mI s Ds → K (dgA Ds 4) s) : MX2_digest σ K := by
  unfold MX2_digest
  rw [ms_ws_iff]
  have hI0 := hI.thrown (v := 0)
  refine jp_1 (fun v => v = dgA Ds 4) (fun v hv => by rw [hv]; exact hK _ hI0) ?_
  intro k hk
  refine eb_loop2_i (fun x y => ∃ b, b ≤ 4 ∧ x = dgA Ds b ∧ y = nI b) (fun _ y => 10 - y.toNatClampNeg) ?_ ⟨0, by omega, rfl, rfl⟩
  rintro R x y ⟨b, hb, rfl, rfl⟩ hR
  refine br_le (a := 4) (by omega) (by omega) (fun h => hk _ (by rw [show b = 4 by omega])) (fun h => ?_)
  have q := hI0.1 b (by omega)
  have hr := q.1.1
  have hzl := ZD_le q.1
  rw [eb_rd_iff, nI_cl (by omega), q.2.1]
  refine ⟨vp_inN (by omega) (by omega), ?_⟩
  refine jp_1 (fun v => v = dgI (Ds b) (Ds b).1 (31 * dgA Ds b + (nI (Ds b).1).toInt64)) ?_ ?_
  · rintro _ rfl
    rw [eb_rd_iff, nI_cl (by omega), q.2.2.1]
    refine ⟨vp_inN (by omega) (by omega), ?_⟩
    refine sp_size q.1 q.2 (by omega) ?_
    refine jp_1 (fun v => v = if ZD (Ds b) = 0 then (-5 : Int32) else nI (ZD (Ds b))) ?_ ?_
    · rintro _ rfl
      rw [eb_let_iff, nI_1]
      refine hR _ _ ⟨b + 1, by omega, rfl, rfl⟩ ?_
      rw [nI_cl (by omega), nI_cl (by omega)]; omega
    · intro k2 hk2
      refine br_eq (b := 0) (by omega) (by omega) (fun h2 => hk2 _ (by rw [if_pos h2])) (fun h2 => hk2 _ (by rw [if_neg h2]))
  · intro k2 hk2
    generalize hH : 31 * dgA Ds b + (nI (Ds b).1).toInt64 = H at *
    refine eb_loop2_i (fun x y => ∃ i, i ≤ (Ds b).1 ∧ x = dgI (Ds b) i H ∧ y = nI i) (fun _ y => 10 - y.toNatClampNeg) ?_ ⟨0, by omega, rfl, rfl⟩
    rintro R2 x y ⟨i, hi, rfl, rfl⟩ hR2
    rw [eb_rd_iff, nI_cl (by omega), q.2.1]
    refine ⟨vp_inN (by omega) (by omega), ?_⟩
    refine br_le (by omega) (by omega) (fun h2 => hk2 _ (by rw [show i = (Ds b).1 by omega])) (fun h2 => ?_)
    refine jp_1 (fun v => v = dgI (Ds b) (i + 1) H) ?_ ?_
    · rintro _ rfl
      rw [nI_1]
      refine hR2 _ _ ⟨i + 1, by omega, rfl, rfl⟩ ?_
      rw [nI_cl (by omega), nI_cl (by omega)]; omega
    · intro k3 hk3
      rw [nI_1]
      refine eb_loop2_i (fun x y => ∃ j, i + 1 ≤ j ∧ j ≤ (Ds b).1 ∧ x = dgJ (Ds b) i j (dgI (Ds b) i H) ∧ y = nI j) (fun _ y => 10 - y.toNatClampNeg) ?_ ⟨i + 1, by omega, by omega, by rw [dgJ_0 _ _ _ _ (Nat.le_refl _)], rfl⟩
      rintro R3 x y ⟨j, hj1, hj2, rfl, rfl⟩ hR3
      rw [eb_rd_iff, nI_cl (by omega), q.2.1]
      refine ⟨vp_inN (by omega) (by omega), ?_⟩
      refine br_le (by omega) (by omega) (fun h3 => hk3 _ (by rw [show j = (Ds b).1 by omega]; rfl)) (fun h3 => ?_)
      refine sp_angleOf q.2 (by omega) (by omega) (by omega) ?_
      rw [nI_1]
      refine hR3 _ _ ⟨j + 1, by omega, by omega, ?_, rfl⟩ ?_
      · show _ = cond (Nat.blt i j) (31 * dgJ (Ds b) i j (dgI (Ds b) i H) + (nI ((Ds b).2.1 (4 * i + j))).toInt64) _
        rw [nlT (by omega)]; rfl
      · rw [nI_cl (by omega), nI_cl (by omega)]; omega
end API20
