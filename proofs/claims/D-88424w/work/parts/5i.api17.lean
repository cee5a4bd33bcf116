set_option maxRecDepth 100000
section API17
variable {σ : eb_MS} {Ds : Nat → eb_D}
theorem mL.cm {σ : eb_MS} {b : Nat} {D : eb_D} (h : mL σ b D) (hz : ¬ ZD D = 0) : σ.1 16 = nI (NP D 0) := (h.2.2.2.2 hz).2.2.2.2.2
theorem mL.co {σ : eb_MS} {b : Nat} {D : eb_D} (h : mL σ b D) (hz : ¬ ZD D = 0) : ∀ m, m < ZD D → σ.2.1 15 m = nI (PN D 0 m) := fun m hm => (h.2.2.2.2 hz).2.2.2.2.1 m hm
theorem NP_pos {D : eb_D} (hz : ¬ ZD D = 0) (s : Nat) : 0 < NP D s := Nat.lt_of_le_of_lt (Nat.zero_le _) (PN_lt D s (show 0 < ZD D by omega))
noncomputable def aDegree (Ds : Nat → eb_D) (a c : Int32) : Int32 := if 0 ≤ c then gat Ds a (fun b => if c.toNatClampNeg < NP (Ds b) 0 then nI (cnB (jnd (Ds b) c.toNatClampNeg) (NP (Ds b) 0)) else -2) else -2
theorem sp_degree {a c : Int32} {K : Int32 → eb_MS → Prop} (hI : mI σ Ds) (hK : ∀ s, mI s Ds → K (aDegree Ds a c) s) : MX2_degree σ a c K := by
  unfold MX2_degree
  rw [ms_ws_iff]
  unfold aDegree at hK
  refine sp_refusesOf hI.thrown (fun h => ?_) (fun b hb hab hg hz s hs => ?_) (fun b hb hab hg hz s hs hL => ?_)
  · refine br_m2 ?_
    have := hK _ (hI.thrown (v := 0))
    rcases h with h | h
    · rw [gat_no h, ite_self] at this; exact this
    · rw [if_neg h] at this; exact this
  · refine br_m5 ?_
    have := hK s hs
    rw [if_pos hg, hab, gat_z hb hz] at this
    exact this
  · refine br_0 ?_
    subst hab
    obtain ⟨y, hy, rfl⟩ := nI_of (Int32.not_lt.mpr hg)
    have hv := (hI.1 b hb).1
    have hzl := ZD_le hv
    have hn0 := NP_le (Ds b) 0
    refine sp_joins hs hb hz hL (fun t ft m1 m2 m3 => ?_)
    have := hK t m1
    rw [if_pos hg, gat_f hb hz, nI_cl hy] at this
    rw [m2.cm hz]
    refine br_le (by omega) hy (fun h => ?_) (fun h => ?_)
    · rw [if_neg (by omega)] at this; exact this
    · rw [if_pos (by omega)] at this
      exact sp_degreeOf (by omega) m3 (by omega) this
noncomputable def aFar (Ds : Nat → eb_D) (a c d : Int32) : Int32 := gat2 Ds a c d (fun b x y => if x < NP (Ds b) 0 ∧ y < NP (Ds b) 0 then oI (fo (jnd (Ds b)) (NP (Ds b) 0) x y) else -2)
theorem sp_far {a c d : Int32} {K : Int32 → eb_MS → Prop} (hI : mI σ Ds) (hK : ∀ s, mI s Ds → K (aFar Ds a c d) s) : MX2_far σ a c d K := by
  unfold MX2_far
  rw [ms_ws_iff]
  unfold aFar at hK
  refine jp_min (fun mn hmn => ?_)
  refine sp_refusesOf hI.thrown (fun h => ?_) (fun b hb hab hg hz s hs => ?_) (fun b hb hab hg hz s hs hL => ?_)
  · refine br_m2 ?_
    have := hK _ (hI.thrown (v := 0))
    rcases h with h | h
    · rw [gat2_no h] at this; exact this
    · rw [gat2_neg (fun z => h (hmn.mpr z))] at this; exact this
  · refine br_m5 ?_
    have := hK s hs
    rw [hab, gat2_z hb (hmn.mp hg) hz] at this
    exact this
  · refine br_0 ?_
    subst hab
    have hg' := hmn.mp hg
    obtain ⟨x, hx, rfl⟩ := nI_of (Int32.not_lt.mpr hg'.1)
    obtain ⟨y, hy, rfl⟩ := nI_of (Int32.not_lt.mpr hg'.2)
    have hv := (hI.1 b hb).1
    have hzl := ZD_le hv
    have hn0 := NP_le (Ds b) 0
    rw [hL.cm hz]
    have bad : ¬ (x < NP (Ds b) 0 ∧ y < NP (Ds b) 0) → K (-2) s := fun hn => by
      have := hK s hs
      rw [gat2_f hb hx hy hz, if_neg hn] at this
      exact this
    refine br_le (by omega) hx (fun h => bad (by omega)) (fun h => ?_)
    refine br_lt hy (by omega) (fun h2 => ?_) (fun h2 => bad (by omega))
    refine sp_joins hs hb hz hL (fun t ft m1 m2 m3 => ?_)
    rw [m2.cm hz]
    refine sp_walks (by omega) m3 (by omega) (fun t' ft' r22 hlt => ?_)
    have := hK t' (m1.fr ft' (by decide))
    rw [gat2_f hb hx hy hz, if_pos ⟨by omega, h2⟩] at this
    rw [eb_rd_iff, nI_cl hy, r22 y h2]
    exact ⟨vp_inN (by omega) (by omega), this⟩
def isO (o : Option Nat) (n : Nat) : Bool := match o with
  | some d => Nat.beq d n
  | none => false
theorem br_oI {o : Option Nat} {n : Nat} {A B : Prop} (hn : n < 2147483648) (ho : ∀ d, o = some d → d < 2147483648) (h1 : isO o n = true → A) (h2 : isO o n = false → B) : eb_br (oI o = nI n) A B := by
  cases o with
  | none => exact ⟨fun z => absurd z (nI_m1' hn), fun _ => h2 rfl⟩
  | some d => exact br_eq (ho d rfl) hn (fun h => h1 (nbT h)) (fun h => h2 (nbF h))
noncomputable def aLayer (Ds : Nat → eb_D) (a n : Int32) : Int32 := if 0 ≤ n then gat Ds a (fun b => nI (cnB (fun c => isO (fo (jnd (Ds b)) (NP (Ds b) 0) 0 c) n.toNatClampNeg) (NP (Ds b) 0))) else -2
theorem sp_layer {a n : Int32} {K : Int32 → eb_MS → Prop} (hI : mI σ Ds) (hK : ∀ s, mI s Ds → K (aLayer Ds a n) s) : MX2_layer σ a n K := by
  unfold MX2_layer
  rw [ms_ws_iff]
  unfold aLayer at hK
  refine sp_refusesOf hI.thrown (fun h => ?_) (fun b hb hab hg hz s hs => ?_) (fun b hb hab hg hz s hs hL => ?_)
  · refine br_m2 ?_
    have := hK _ (hI.thrown (v := 0))
    rcases h with h | h
    · rw [gat_no h, ite_self] at this; exact this
    · rw [if_neg h] at this; exact this
  · refine br_m5 ?_
    have := hK s hs
    rw [if_pos hg, hab, gat_z hb hz] at this
    exact this
  · refine br_0 ?_
    subst hab
    obtain ⟨y, hy, rfl⟩ := nI_of (Int32.not_lt.mpr hg)
    have hv := (hI.1 b hb).1
    have hzl := ZD_le hv
    have hn0 := NP_le (Ds b) 0
    have hnp := NP_pos hz 0
    refine sp_joins hs hb hz hL (fun t ft m1 m2 m3 => ?_)
    rw [m2.cm hz]
    refine sp_walks (f := 0) (by omega) m3 hnp (fun t' ft' r22 hlt => ?_)
    have := hK t' (m1.fr ft' (by decide))
    rw [if_pos hg, gat_f hb hz, nI_cl hy] at this
    refine eb_loop2_i (fun x z => ∃ m, m ≤ NP (Ds b) 0 ∧ x = nI (cnB (fun c => isO (fo (jnd (Ds b)) (NP (Ds b) 0) 0 c) y) m) ∧ z = nI m) (fun _ z => 1000 - z.toNatClampNeg) ?_ ⟨0, by omega, rfl, rfl⟩
    rintro R x z ⟨m, hm, rfl, rfl⟩ hR
    rw [ft'.1 16 (by decide), m2.cm hz]
    refine br_le (by omega) (by omega) (fun h => ?_) (fun h => ?_)
    · rw [show m = NP (Ds b) 0 by omega]; exact this
    · rw [eb_rd_iff, nI_cl (by omega), r22 m (by omega)]
      refine ⟨vp_inN (by omega) (by omega), ?_⟩
      refine jp_1 (fun v => v = nI (b1 (isO (fo (jnd (Ds b)) (NP (Ds b) 0) 0 m) y))) ?_ ?_
      · rintro _ rfl
        rw [nI_add, nI_1]
        refine hR _ _ ⟨m + 1, by omega, rfl, rfl⟩ ?_
        rw [nI_cl (by omega), nI_cl (by omega)]; omega
      · intro k hk
        refine br_oI hy (fun d hd => by have := hlt m d (by omega) hd; omega) (fun e => hk _ (by rw [e]; rfl)) (fun e => hk _ (by rw [e]; rfl))
/-- two joined corners whose ways from corner 0 are both even, or both odd -/
def badC (A : Nat → Nat → Bool) (N c d : Nat) : Prop := A c d = true ∧ eb_rem (oI (fo A N 0 c)) 2 = eb_rem (oI (fo A N 0 d)) 2
noncomputable def aColoured (Ds : Nat → eb_D) (a : Int32) : Int32 := gat Ds a (fun b => @ite _ (∃ c d, c < NP (Ds b) 0 ∧ d < NP (Ds b) 0 ∧ badC (jnd (Ds b)) (NP (Ds b) 0) c d) (Classical.propDecidable _) 0 1)
theorem sp_coloured {a : Int32} {K : Int32 → eb_MS → Prop} (hI : mI σ Ds) (hK : ∀ s, mI s Ds → K (aColoured Ds a) s) : MX2_coloured σ a K := by
  unfold MX2_coloured
  rw [ms_ws_iff]
  unfold aColoured at hK
  refine sp_refuses hI.thrown (fun h => ?_) (fun b hb hab hz s hs => ?_) (fun b hb hab hz s hs hL => ?_)
  · refine br_m2 ?_
    have := hK _ (hI.thrown (v := 0))
    rw [gat_no h] at this
    exact this
  · refine br_m5 ?_
    have := hK s hs
    rw [hab, gat_z hb hz] at this
    exact this
  · refine br_0 ?_
    subst hab
    have hv := (hI.1 b hb).1
    have hzl := ZD_le hv
    have hn0 := NP_le (Ds b) 0
    have hnp := NP_pos hz 0
    refine sp_joins hs hb hz hL (fun t ft m1 m2 m3 => ?_)
    rw [m2.cm hz]
    refine sp_walks (f := 0) (by omega) m3 hnp (fun t' ft' r22 hlt => ?_)
    have hK' := hK t' (m1.fr ft' (by decide))
    rw [gat_f hb hz] at hK'
    have m3' := m3.fr ft' (by decide)
    have e16 : t'.1 16 = nI (NP (Ds b) 0) := by rw [ft'.1 16 (by decide)]; exact m2.cm hz
    generalize hA : jnd (Ds b) = A at *
    generalize hN : NP (Ds b) 0 = N at *
    refine jp_1 (fun v => (v = 1 ∧ ¬ ∃ c d, c < N ∧ d < N ∧ badC A N c d) ∨ (v = 0 ∧ ∃ c d, c < N ∧ d < N ∧ badC A N c d)) ?_ ?_
    · rintro v (⟨rfl, hn⟩ | ⟨rfl, hn⟩)
      · rw [@if_neg _ (Classical.propDecidable _) hn] at hK'
        exact ⟨fun z => absurd z (by decide), fun _ => hK'⟩
      · rw [@if_pos _ (Classical.propDecidable _) hn] at hK'
        exact ⟨fun _ => hK', fun z => absurd rfl z⟩
    · intro k hk
      refine eb_loop2_i (fun v x => ∃ m, m ≤ N ∧ x = nI m ∧ ((v = 1 ∧ ∀ c d, c < m → d < N → ¬ badC A N c d) ∨ (v = 0 ∧ ∃ c d, c < N ∧ d < N ∧ badC A N c d))) (fun _ x => 1000 - x.toNatClampNeg) ?_ ⟨0, by omega, rfl, Or.inl ⟨rfl, fun c d hc => absurd hc (Nat.not_lt_zero _)⟩⟩
      rintro R v x ⟨m, hm, rfl, hv1⟩ hR
      rw [e16]
      refine br_le (by omega) (by omega) (fun h => ?_) (fun h => ?_)
      · refine hk _ (hv1.imp (fun z => ⟨z.1, fun ⟨c, d, a1, a2, a3⟩ => z.2 c d (by omega) a2 a3⟩) id)
      · refine jp_1 (fun v => (v = 1 ∧ ∀ c d, c < m + 1 → d < N → ¬ badC A N c d) ∨ (v = 0 ∧ ∃ c d, c < N ∧ d < N ∧ badC A N c d)) ?_ ?_
        · intro v hv2
          rw [nI_1]
          refine hR _ _ ⟨m + 1, by omega, rfl, hv2⟩ ?_
          rw [nI_cl (by omega), nI_cl (by omega)]; omega
        · intro k2 hk2
          refine eb_loop2_i (fun v y => ∃ j, j ≤ N ∧ y = nI j ∧ ((v = 1 ∧ ∀ c d, (c < m ∧ d < N) ∨ (c = m ∧ d < j) → ¬ badC A N c d) ∨ (v = 0 ∧ ∃ c d, c < N ∧ d < N ∧ badC A N c d))) (fun _ y => 1000 - y.toNatClampNeg) ?_ ⟨0, by omega, rfl, hv1.imp (fun z => ⟨z.1, fun c d h2 => z.2 c d (by omega) (by omega)⟩) id⟩
          rintro R' v y ⟨j, hj, rfl, hv2⟩ hR'
          refine br_le (by omega) (by omega) (fun h2 => ?_) (fun h2 => ?_)
          · exact hk2 _ (hv2.imp (fun z => ⟨z.1, fun c d a1 a2 => z.2 c d (by omega)⟩) id)
          · rw [show (500 : Int32) * nI m = nI (500 * m) from nI_mul 500 m, nI_add, eb_rd_iff, nI_cl (by omega), m3' m j (by omega) (by omega)]
            refine ⟨vp_inN (by omega) (by omega), ?_⟩
            refine jp_1 (fun v => (v = 1 ∧ ¬ badC A N m j) ∨ (v = 0 ∧ badC A N m j)) ?_ ?_
            · intro w hw
              rw [nI_1]
              refine hR' _ _ ⟨j + 1, by omega, rfl, ?_⟩ ?_
              · rcases hw with ⟨rfl, hw⟩ | ⟨rfl, hw⟩
                · rcases hv2 with ⟨rfl, z⟩ | ⟨rfl, z⟩
                  · refine Or.inl ⟨by decide, fun c d h3 => ?_⟩
                    by_cases e : c = m ∧ d = j
                    · rw [e.1, e.2]; exact hw
                    · exact z c d (by omega)
                  · exact Or.inr ⟨by decide, z⟩
                · refine Or.inr ⟨?_, m, j, by omega, by omega, hw⟩
                  rcases hv2 with ⟨rfl, -⟩ | ⟨rfl, -⟩ <;> decide
              · rw [nI_cl (by omega), nI_cl (by omega)]; omega
            · intro k3 hk3
              cases ea : A m j with
              | false => exact ⟨fun _ => hk3 _ (Or.inl ⟨rfl, fun z => absurd (ea.symm.trans z.1) (by decide)⟩), fun z => absurd rfl z⟩
              | true =>
                refine ⟨fun z => absurd z (by decide), fun _ => ?_⟩
                rw [eb_rd_iff, nI_cl (by omega), r22 m (by omega)]
                refine ⟨vp_inN (by omega) (by omega), ?_⟩
                rw [eb_rd_iff, nI_cl (by omega), r22 j (by omega)]
                refine ⟨vp_inN (by omega) (by omega), ?_⟩
                exact ⟨fun z => hk3 _ (Or.inr ⟨rfl, ea, z⟩), fun z => hk3 _ (Or.inl ⟨rfl, fun y => z y.2⟩)⟩
end API17
