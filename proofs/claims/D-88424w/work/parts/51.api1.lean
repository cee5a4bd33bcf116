set_option maxRecDepth 100000
/-! the model between two calls; what it answers of a group -/
def mI (σ : eb_MS) (Ds : Nat → eb_D) : Prop := (∀ b, b < 4 → vD (Ds b) ∧ mD σ b (Ds b)) ∧ mR σ ∧ ∀ b, b < 4 → σ.1 5 = nI b → mL σ b (Ds b)
abbrev keepM : List Nat := [1, 2, 3, 4, 5, 6, 7, 8, 11, 12, 13, 14, 15, 16]
theorem mL.fr {S : List Nat} {σ σ' : eb_MS} {b : Nat} {D : eb_D} (h : mL σ b D) (hf : fr S σ σ') (hS : ∀ k ∈ keepM, k ∉ S) : mL σ' b D := by
  obtain ⟨h1, h2, h3, h4, h5⟩ := h
  refine ⟨by rw [hf.1 5 (hS 5 (by decide))]; exact h1, by rw [hf.1 6 (hS 6 (by decide))]; exact h2, by rw [hf.1 7 (hS 7 (by decide))]; exact h3, by rw [hf.1 8 (hS 8 (by decide))]; exact h4, fun hz => ?_⟩
  have q := h5 hz
  unfold mTab at q ⊢
  rw [hf.2.1 11 (hS 11 (by decide)), hf.2.1 12 (hS 12 (by decide)), hf.2.1 13 (hS 13 (by decide)), hf.2.1 14 (hS 14 (by decide)), hf.2.1 15 (hS 15 (by decide)), hf.1 16 (hS 16 (by decide))]
  exact q
theorem mI.fr {S : List Nat} {σ σ' : eb_MS} {Ds : Nat → eb_D} (h : mI σ Ds) (hf : fr S σ σ') (hS : ∀ k ∈ keepM, k ∉ S) : mI σ' Ds := by
  obtain ⟨h1, h2, h3⟩ := h
  refine ⟨fun b hb => ⟨(h1 b hb).1, (h1 b hb).2.fr hf (hS 1 (by decide)) (hS 2 (by decide)) (hS 3 (by decide))⟩, fun m a1 a2 => by rw [hf.2.1 4 (hS 4 (by decide))]; exact h2 m a1 a2, fun b hb h5 => ?_⟩
  rw [hf.1 5 (hS 5 (by decide))] at h5
  exact (h3 b hb h5).fr hf hS
theorem mI_load {σ s : eb_MS} {Ds : Nat → eb_D} {b : Nat} (h : mI σ Ds) (hb : b < 4) (hf : fr lsW σ s) (hL : mL s b (Ds b)) : mI s Ds := by
  obtain ⟨h1, h2, h3⟩ := h
  refine ⟨fun b hb => ⟨(h1 b hb).1, (h1 b hb).2.fr hf (by decide) (by decide) (by decide)⟩, fun m a1 a2 => by rw [hf.2.1 4 (by decide)]; exact h2 m a1 a2, fun b' hb' h5 => ?_⟩
  have : b = b' := (nI_eq (by omega) (by omega)).mp (hL.1.symm.trans h5)
  rw [← this]; exact hL
/-- an answer that a body's group gives; -2: no body, -5: too many elements -/
def gat (Ds : Nat → eb_D) (a : Int32) (f : Nat → Int32) : Int32 := if 0 ≤ a ∧ a ≤ 3 then (if ZD (Ds a.toNatClampNeg) = 0 then -5 else f a.toNatClampNeg) else -2
theorem body_or (a : Int32) : (∃ b : Nat, b < 4 ∧ a = nI b) ∨ ¬ (0 ≤ a ∧ a ≤ 3) := by
  by_cases h : 0 ≤ a ∧ a ≤ 3
  · obtain ⟨b, hb, rfl⟩ := nI_of (Int32.not_lt.mpr h.1)
    have := (nI_leI hb (by omega : (3 : Nat) < 2147483648)).mp h.2
    exact Or.inl ⟨b, by omega, rfl⟩
  · exact Or.inr h
theorem body_in {b : Nat} (hb : b < 4) : (0 : Int32) ≤ nI b ∧ nI b ≤ 3 := ⟨nI_pos' (by omega), (nI_leI (by omega) (by omega : (3 : Nat) < 2147483648)).mpr (by omega)⟩
section API1
variable {σ : eb_MS} {Ds : Nat → eb_D}
theorem gat_no {a : Int32} {f : Nat → Int32} (h : ¬ (0 ≤ a ∧ a ≤ 3)) : gat Ds a f = -2 := by unfold gat; rw [if_neg h]
theorem gat_z {b : Nat} {f : Nat → Int32} (hb : b < 4) (hz : ZD (Ds b) = 0) : gat Ds (nI b) f = -5 := by
  unfold gat
  rw [if_pos (body_in hb), nI_cl (by omega), if_pos hz]
theorem gat_f {b : Nat} {f : Nat → Int32} (hb : b < 4) (hz : ¬ ZD (Ds b) = 0) : gat Ds (nI b) f = f b := by
  unfold gat
  rw [if_pos (body_in hb), nI_cl (by omega), if_neg hz]
theorem sp_isBody {a : Int32} {K : Int32 → Prop} (h1 : 0 ≤ a ∧ a ≤ 3 → K 1) (h0 : ¬ (0 ≤ a ∧ a ≤ 3) → K 0) : MX2_isBody a K := sp_in (fun h => ⟨Or.inr rfl, h1 h⟩) (fun h => ⟨Or.inl rfl, h0 h⟩)
theorem sp_refuses {a : Int32} {K : Int32 → eb_MS → Prop} (hI : mI σ Ds) (h2 : ¬ (0 ≤ a ∧ a ≤ 3) → K (-2) σ) (h5 : ∀ b, b < 4 → a = nI b → ZD (Ds b) = 0 → ∀ s, mI s Ds → K (-5) s) (h0 : ∀ b, b < 4 → a = nI b → ¬ ZD (Ds b) = 0 → ∀ s, mI s Ds → mL s b (Ds b) → K 0 s) : MX2_refuses σ a K := by
  unfold MX2_refuses
  refine sp_isBody (fun h => ?_) (fun h => ?_)
  · refine ⟨fun z => absurd z (by decide), fun _ => ?_⟩
    rcases body_or a with ⟨b, hb, rfl⟩ | hno
    · have q := hI.1 b hb
      refine sp_loads q.1 q.2 hb hI.2.1 (hI.2.2 b hb) (fun hz s hf hL => ?_) (fun hz s hf hL => ?_)
      · exact ⟨fun _ => h5 b hb rfl hz s (mI_load hI hb hf hL), fun z => absurd rfl z⟩
      · exact ⟨fun z => absurd z (by decide), fun _ => h0 b hb rfl hz s (mI_load hI hb hf hL) hL⟩
    · exact absurd h hno
  · exact ⟨fun _ => h2 h, fun z => absurd rfl z⟩
theorem sp_refusesOf {a v : Int32} {K : Int32 → eb_MS → Prop} (hI : mI σ Ds) (h2 : ¬ (0 ≤ a ∧ a ≤ 3) ∨ ¬ 0 ≤ v → K (-2) σ) (h5 : ∀ b, b < 4 → a = nI b → 0 ≤ v → ZD (Ds b) = 0 → ∀ s, mI s Ds → K (-5) s) (h0 : ∀ b, b < 4 → a = nI b → 0 ≤ v → ¬ ZD (Ds b) = 0 → ∀ s, mI s Ds → mL s b (Ds b) → K 0 s) : MX2_refusesOf σ a v K := by
  unfold MX2_refusesOf
  refine sp_isBody (fun h => ?_) (fun h => ?_)
  · refine ⟨fun z => absurd z (by decide), fun _ => ?_⟩
    refine ⟨fun hv => ?_, fun hv => h2 (Or.inr hv)⟩
    rcases body_or a with ⟨b, hb, rfl⟩ | hno
    · have q := hI.1 b hb
      refine sp_loads q.1 q.2 hb hI.2.1 (hI.2.2 b hb) (fun hz s hf hL => ?_) (fun hz s hf hL => ?_)
      · exact ⟨fun _ => h5 b hb rfl hv hz s (mI_load hI hb hf hL), fun z => absurd rfl z⟩
      · exact ⟨fun z => absurd z (by decide), fun _ => h0 b hb rfl hv hz s (mI_load hI hb hf hL) hL⟩
    · exact absurd h hno
  · exact ⟨fun _ => h2 (Or.inl h), fun z => absurd rfl z⟩
theorem mL.E {σ : eb_MS} {b : Nat} {D : eb_D} (hv : vD D) (h : mL σ b D) (hz : ¬ ZD D = 0) : tG (TD D) ∧ mE σ (TD D) ∧ (TD D).2.2.1 = ZD D ∧ (TD D).1 = D.1 := by
  obtain ⟨hG, he1, he2, he3⟩ := TD_ok hv hz
  obtain ⟨t1, t2, t3, -⟩ := h.2.2.2.2 hz
  refine ⟨hG, ⟨?_, ?_, ?_⟩, he3, he1⟩
  · rw [he3, he1]; exact t1
  · rw [he3]; exact t2
  · rw [he3]; exact t3
theorem mI.thrown {v : Int32} (h : mI σ Ds) : mI (ms_ps σ 0 v) Ds := h.fr (S := [0]) ((fr_rf _ _).ps (by decide)) (by decide)
theorem br_0 {A B : Prop} (h : A) : eb_br ((0 : Int32) ≤ 0) A B := ⟨fun _ => h, fun z => absurd (by decide) z⟩
theorem br_m2 {A B : Prop} (h : B) : eb_br ((0 : Int32) ≤ -2) A B := ⟨fun z => absurd z (by decide), fun _ => h⟩
theorem br_m5 {A B : Prop} (h : B) : eb_br ((0 : Int32) ≤ -5) A B := ⟨fun z => absurd z (by decide), fun _ => h⟩
/-- the answers -/
def aSize (Ds : Nat → eb_D) (a : Int32) : Int32 := gat Ds a (fun b => nI (ZD (Ds b)))
theorem sp_sizeA {a : Int32} {K : Int32 → eb_MS → Prop} (hI : mI σ Ds) (hK : ∀ s, mI s Ds → K (aSize Ds a) s) : MX2_size σ a K := by
  unfold MX2_size
  rw [ms_ws_iff]
  refine sp_refuses hI.thrown (fun h => ?_) (fun b hb hab hz s hs => ?_) (fun b hb hab hz s hs hL => ?_)
  · refine br_m2 ?_
    have := hK _ (hI.thrown (v := 0))
    unfold aSize at this
    rw [gat_no h] at this
    exact this
  · refine br_m5 ?_
    have := hK s hs
    unfold aSize at this
    rw [hab, gat_z hb hz] at this
    exact this
  · refine br_0 ?_
    have := hK s hs
    unfold aSize at this
    rw [hab, gat_f hb hz] at this
    rw [hL.2.2.2.1]
    exact this
/-- a number below 0: no answer; an element's: -2 if it isn't there -/
def gatE (Ds : Nat → eb_D) (a g : Int32) (f : Nat → Nat → Int32) : Int32 := if 0 ≤ g then gat Ds a (fun b => if g.toNatClampNeg < ZD (Ds b) then f b g.toNatClampNeg else -2) else -2
noncomputable def aLength (Ds : Nat → eb_D) (a g : Int32) : Int32 := gatE Ds a g (fun b x => nI (Tlen (TD (Ds b)) x))
noncomputable def aInverse (Ds : Nat → eb_D) (a g : Int32) : Int32 := gatE Ds a g (fun b x => nI (Iv (TD (Ds b)) x))
theorem gatE_neg {a g : Int32} {f : Nat → Nat → Int32} (h : ¬ 0 ≤ g) : gatE Ds a g f = -2 := by unfold gatE; rw [if_neg h]
theorem gatE_no {a g : Int32} {f : Nat → Nat → Int32} (h : ¬ (0 ≤ a ∧ a ≤ 3)) : gatE Ds a g f = -2 := by
  unfold gatE
  split
  · exact gat_no h
  · rfl
theorem gatE_z {b : Nat} {g : Int32} {f : Nat → Nat → Int32} (hb : b < 4) (h : 0 ≤ g) (hz : ZD (Ds b) = 0) : gatE Ds (nI b) g f = -5 := by
  unfold gatE
  rw [if_pos h, gat_z hb hz]
theorem gatE_f {b x : Nat} {f : Nat → Nat → Int32} (hb : b < 4) (hx : x < 2147483648) (hz : ¬ ZD (Ds b) = 0) : gatE Ds (nI b) (nI x) f = if x < ZD (Ds b) then f b x else -2 := by
  unfold gatE
  rw [if_pos (nI_pos' hx), gat_f hb hz, nI_cl hx]
theorem sp_length {a g : Int32} {K : Int32 → eb_MS → Prop} (hI : mI σ Ds) (hK : ∀ s, mI s Ds → K (aLength Ds a g) s) : MX2_length σ a g K := by
  unfold MX2_length
  rw [ms_ws_iff]
  unfold aLength at hK
  refine sp_refusesOf hI.thrown (fun h => ?_) (fun b hb hab hg hz s hs => ?_) (fun b hb hab hg hz s hs hL => ?_)
  · refine br_m2 ?_
    have := hK _ (hI.thrown (v := 0))
    rcases h with h | h
    · rw [gatE_no h] at this; exact this
    · rw [gatE_neg h] at this; exact this
  · refine br_m5 ?_
    have := hK s hs
    rw [hab, gatE_z hb hg hz] at this
    exact this
  · refine br_0 ?_
    subst hab
    obtain ⟨x, hx, rfl⟩ := nI_of (Int32.not_lt.mpr hg)
    have := hK s hs
    rw [gatE_f hb hx hz] at this
    have hv := (hI.1 b hb).1
    have hzl := ZD_le hv
    obtain ⟨hG, hE, he3, he1⟩ := hL.E hv hz
    rw [hL.2.2.2.1]
    refine br_le (by omega) hx (fun h => ?_) (fun h => ?_)
    · rw [if_neg (by omega)] at this; exact this
    · rw [if_pos (by omega)] at this
      rw [eb_rd_iff, nI_cl hx, hE.2.1 x (by omega)]
      exact ⟨vp_inN (by omega) (by omega), this⟩
theorem sp_inverse {a g : Int32} {K : Int32 → eb_MS → Prop} (hI : mI σ Ds) (hK : ∀ s, mI s Ds → K (aInverse Ds a g) s) : MX2_inverse σ a g K := by
  unfold MX2_inverse
  rw [ms_ws_iff]
  unfold aInverse at hK
  refine sp_refusesOf hI.thrown (fun h => ?_) (fun b hb hab hg hz s hs => ?_) (fun b hb hab hg hz s hs hL => ?_)
  · refine br_m2 ?_
    have := hK _ (hI.thrown (v := 0))
    rcases h with h | h
    · rw [gatE_no h] at this; exact this
    · rw [gatE_neg h] at this; exact this
  · refine br_m5 ?_
    have := hK s hs
    rw [hab, gatE_z hb hg hz] at this
    exact this
  · refine br_0 ?_
    subst hab
    obtain ⟨x, hx, rfl⟩ := nI_of (Int32.not_lt.mpr hg)
    have := hK s hs
    rw [gatE_f hb hx hz] at this
    have hv := (hI.1 b hb).1
    have hzl := ZD_le hv
    obtain ⟨hG, hE, he3, he1⟩ := hL.E hv hz
    rw [hL.2.2.2.1]
    refine br_le (by omega) hx (fun h => ?_) (fun h => ?_)
    · rw [if_neg (by omega)] at this; exact this
    · rw [if_pos (by omega)] at this
      exact sp_inverseOf hG hE (by omega) this
end API1
