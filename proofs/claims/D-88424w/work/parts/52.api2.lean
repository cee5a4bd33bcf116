set_option maxRecDepth 100000
/-- so many pigeons -/
theorem php : ∀ (N : Nat) (x : Nat → Nat), (∀ i, i ≤ N → x i < N) → ∃ i j, i < j ∧ j ≤ N ∧ x i = x j := by
  intro N
  induction N with
  | zero => intro x h; exact absurd (h 0 (Nat.le_refl _)) (Nat.not_lt_zero _)
  | succ N ih =>
    intro x h
    by_cases hc : ∃ i, i ≤ N ∧ x i = x (N + 1)
    · obtain ⟨i, h1, h2⟩ := hc
      exact ⟨i, N + 1, by omega, Nat.le_refl _, h2⟩
    · have hne : ∀ i, i ≤ N → ¬ x i = x (N + 1) := fun i hi z => hc ⟨i, hi, z⟩
      have hl := h (N + 1) (Nat.le_refl _)
      obtain ⟨i, j, h1, h2, h3⟩ := ih (fun i => if x i < x (N + 1) then x i else x i - 1) (fun i hi => by
        show (if x i < x (N + 1) then x i else x i - 1) < N
        have := h i (by omega)
        have := hne i hi
        split <;> omega)
      refine ⟨i, j, h1, by omega, ?_⟩
      have a1 := hne i (by omega)
      have a2 := hne j h2
      have h3' : (if x i < x (N + 1) then x i else x i - 1) = (if x j < x (N + 1) then x j else x j - 1) := h3
      split at h3' <;> split at h3' <;> omega
section API2
variable {e : tE}
theorem Pr_l (h : tG e) : ∀ x, x < e.2.2.1 → Pr e 0 x = x := by
  intro x
  induction x using Nat.strongRecOn with
  | _ x ih =>
    intro hx
    by_cases h0 : x = 0
    · rw [h0, Pr_0 h]
    · have q := Tkey_lt h hx h0
      rw [Pr_s h hx h0, ih _ q.2.1 (by omega)]
      exact q.2.2.2.1
theorem Pr_inj (h : tG e) : ∀ x, x < e.2.2.1 → ∀ g g', g < e.2.2.1 → g' < e.2.2.1 → Pr e g x = Pr e g' x → g = g' := by
  intro x
  induction x using Nat.strongRecOn with
  | _ x ih =>
    intro hx g g' hg hg' he
    by_cases h0 : x = 0
    · rw [h0, Pr_0 h, Pr_0 h] at he; exact he
    · have q := Tkey_lt h hx h0
      rw [Pr_s h hx h0, Pr_s h hx h0] at he
      have p1 := Pr_lt h hg (Tpar e x) (by omega)
      have p2 := Pr_lt h hg' (Tpar e x) (by omega)
      have := (h.2.1 _ p1 _ q.2.2.1).2.1
      rw [he, (h.2.1 _ p2 _ q.2.2.1).2.1] at this
      exact ih _ q.2.1 (by omega) g g' hg hg' this.symm
/-- the powers of an element -/
def pw (e : tE) (g : Nat) : Nat → Nat
  | 0 => 0
  | k + 1 => Pr e (pw e g k) g
theorem pw_lt (h : tG e) {g : Nat} (hg : g < e.2.2.1) : ∀ k, pw e g k < e.2.2.1 := by
  intro k
  induction k with
  | zero => have := h.1.2.1; exact this
  | succ k ih => exact Pr_lt h ih g hg
theorem pw_sub (h : tG e) {g : Nat} (hg : g < e.2.2.1) : ∀ i d, pw e g i = pw e g (i + d) → pw e g d = 0 := by
  intro i
  induction i with
  | zero => intro d he; rw [Nat.zero_add] at he; exact he.symm
  | succ i ih =>
    intro d he
    rw [show i + 1 + d = (i + d) + 1 by omega] at he
    exact ih d (Pr_inj h g hg _ _ (pw_lt h hg _) (pw_lt h hg _) he)
theorem pw_0 (h : tG e) {g : Nat} (hg : g < e.2.2.1) : ∃ k, 1 ≤ k ∧ k ≤ e.2.2.1 ∧ pw e g k = 0 := by
  obtain ⟨i, j, h1, h2, h3⟩ := php e.2.2.1 (pw e g) (fun i _ => pw_lt h hg i)
  refine ⟨j - i, by omega, by omega, pw_sub h hg i (j - i) ?_⟩
  rw [show i + (j - i) = j by omega]
  exact h3
def trn (e : tE) (g : Nat) : Nat → Nat → Nat → Nat
  | 0, _, n => n
  | k + 1, v, n => if v = 0 then n else trn e g k (Pr e v g) (n + 1)
def Tr (e : tE) (g : Nat) : Nat := trn e g 501 g 1
variable {σ : eb_MS} {Ds : Nat → eb_D}
noncomputable def aTurns (Ds : Nat → eb_D) (a g : Int32) : Int32 := gatE Ds a g (fun b x => nI (Tr (TD (Ds b)) x))
theorem sp_turns {a g : Int32} {K : Int32 → eb_MS → Prop} (hI : mI σ Ds) (hK : ∀ s, mI s Ds → K (aTurns Ds a g) s) : MX2_turns σ a g K := by
  unfold MX2_turns
  rw [ms_ws_iff]
  unfold aTurns at hK
  refine sp_refusesOf hI.thrown (fun h => ?_) (fun b hb hab hg hz s hs => ?_) (fun b hb hab hg hz s hs hL => ?_)
  · refine br_m2 ?_
    have := hK _ (hI.thrown (v := 0))
    rcases h with h | h
    · rw [gatE_no h] at this; exact this
    · rw [gatE_neg h] at this; exact this
  · refine br_m5 ?_
    have := hK s hs
    rw [hab, gatE_z hb hg hz] at this
    exact this
  · refine br_0 ?_
    subst hab
    obtain ⟨x, hx, rfl⟩ := nI_of (Int32.not_lt.mpr hg)
    have := hK s hs
    rw [gatE_f hb hx hz] at this
    have hv := (hI.1 b hb).1
    have hzl := ZD_le hv
    obtain ⟨hG, hE, he3, he1⟩ := hL.E hv hz
    rw [hL.2.2.2.1]
    refine br_lt hx (by omega) (fun h => ?_) (fun h => ?_)
    · rw [if_pos h] at this
      have hxe : x < (TD (Ds b)).2.2.1 := by omega
      obtain ⟨k0, k1, k2, k3⟩ := pw_0 hG hxe
      have hx1 : pw (TD (Ds b)) x 1 = x := Pr_l hG x hxe
      refine eb_loop2_i (fun n v => ∃ i, 1 ≤ i ∧ i ≤ k0 ∧ n = nI i ∧ v = nI (pw (TD (Ds b)) x i) ∧ trn (TD (Ds b)) x (502 - i) (pw (TD (Ds b)) x i) i = Tr (TD (Ds b)) x) (fun n _ => 1000 - n.toNatClampNeg) ?_ ⟨1, Nat.le_refl _, k1, rfl, by rw [hx1], by rw [hx1]; rfl⟩
      rintro R n v ⟨i, i1, i2, rfl, rfl, ht⟩ hR
      have hp := pw_lt hG hxe i
      rw [show 502 - i = (501 - i) + 1 by omega] at ht
      have ht' : (if pw (TD (Ds b)) x i = 0 then i else trn (TD (Ds b)) x (501 - i) (Pr (TD (Ds b)) (pw (TD (Ds b)) x i) x) (i + 1)) = Tr (TD (Ds b)) x := ht
      refine br_eq (b := 0) (by omega) (by omega) (fun h0 => ?_) (fun h0 => ?_)
      · rw [if_pos h0] at ht'
        rw [ht']; exact this
      · rw [if_neg h0] at ht'
        refine sp_productOf hG hE hp hxe ?_
        have hik : ¬ i = k0 := fun z => h0 (by rw [z]; exact k3)
        refine hR _ _ ⟨i + 1, by omega, by omega, by rw [nI_1], rfl, ?_⟩ ?_
        · rw [show 502 - (i + 1) = 501 - i by omega]; exact ht'
        · rw [nI_1, nI_cl (by omega), nI_cl (by omega)]; omega
    · rw [if_neg h] at this; exact this
/-- two numbers, neither below 0 -/
def gat2 (Ds : Nat → eb_D) (a g h : Int32) (f : Nat → Nat → Nat → Int32) : Int32 := if 0 ≤ g ∧ 0 ≤ h then gat Ds a (fun b => f b g.toNatClampNeg h.toNatClampNeg) else -2
theorem gat2_neg {a g h : Int32} {f : Nat → Nat → Nat → Int32} (hh : ¬ (0 ≤ g ∧ 0 ≤ h)) : gat2 Ds a g h f = -2 := by unfold gat2; rw [if_neg hh]
theorem gat2_no {a g h : Int32} {f : Nat → Nat → Nat → Int32} (hh : ¬ (0 ≤ a ∧ a ≤ 3)) : gat2 Ds a g h f = -2 := by
  unfold gat2
  split
  · exact gat_no hh
  · rfl
theorem gat2_z {b : Nat} {g h : Int32} {f : Nat → Nat → Nat → Int32} (hb : b < 4) (hg : 0 ≤ g ∧ 0 ≤ h) (hz : ZD (Ds b) = 0) : gat2 Ds (nI b) g h f = -5 := by
  unfold gat2
  rw [if_pos hg, gat_z hb hz]
theorem gat2_f {b x y : Nat} {f : Nat → Nat → Nat → Int32} (hb : b < 4) (hx : x < 2147483648) (hy : y < 2147483648) (hz : ¬ ZD (Ds b) = 0) : gat2 Ds (nI b) (nI x) (nI y) f = f b x y := by
  unfold gat2
  rw [if_pos ⟨nI_pos' hx, nI_pos' hy⟩, gat_f hb hz, nI_cl hx, nI_cl hy]
/-- the lesser of two -/
theorem jp_min {g h : Int32} {K : Int32 → Prop} (hK : ∀ m, (0 ≤ m ↔ (0 ≤ g ∧ 0 ≤ h)) → K m) : eb_jp1 K (fun k => eb_br (h ≤ g) (k h) (k g)) := by
  rw [eb_jp1_iff]
  refine ⟨fun z => hK h ⟨fun q => ⟨Int32.le_trans q z, q⟩, fun q => q.2⟩, fun z => hK g ⟨fun q => ⟨q, ?_⟩, fun q => q.1⟩⟩
  have := Int32.not_le.mp z
  exact Int32.le_trans q (Int32.le_of_lt this)
noncomputable def aProduct (Ds : Nat → eb_D) (a g h : Int32) : Int32 := gat2 Ds a g h (fun b x y => if x < ZD (Ds b) ∧ y < ZD (Ds b) then nI (Pr (TD (Ds b)) x y) else -2)
theorem sp_product {a g h : Int32} {K : Int32 → eb_MS → Prop} (hI : mI σ Ds) (hK : ∀ s, mI s Ds → K (aProduct Ds a g h) s) : MX2_product σ a g h K := by
  unfold MX2_product
  rw [ms_ws_iff]
  unfold aProduct at hK
  refine jp_min (fun m hm => ?_)
  refine sp_refusesOf hI.thrown (fun h => ?_) (fun b hb hab hg hz s hs => ?_) (fun b hb hab hg hz s hs hL => ?_)
  · refine br_m2 ?_
    have := hK _ (hI.thrown (v := 0))
    rcases h with h | h
    · rw [gat2_no h] at this; exact this
    · rw [gat2_neg (fun z => h (hm.mpr z))] at this; exact this
  · refine br_m5 ?_
    have := hK s hs
    rw [hab, gat2_z hb (hm.mp hg) hz] at this
    exact this
  · refine br_0 ?_
    subst hab
    obtain ⟨x, hx, rfl⟩ := nI_of (Int32.not_lt.mpr (hm.mp hg).1)
    obtain ⟨y, hy, rfl⟩ := nI_of (Int32.not_lt.mpr (hm.mp hg).2)
    have := hK s hs
    rw [gat2_f hb hx hy hz] at this
    have hv := (hI.1 b hb).1
    have hzl := ZD_le hv
    obtain ⟨hG, hE, he3, he1⟩ := hL.E hv hz
    rw [hL.2.2.2.1, eb_jp0_iff]
    refine br_le (by omega) hx (fun h => ?_) (fun h => ?_)
    · rw [if_neg (by omega)] at this; exact this
    · refine br_le (by omega) hy (fun h' => ?_) (fun h' => ?_)
      · rw [if_neg (by omega)] at this; exact this
      · rw [if_pos (by omega)] at this
        exact sp_productOf hG hE (by omega) (by omega) this
noncomputable def aLetter (Ds : Nat → eb_D) (a g i : Int32) : Int32 := gat2 Ds a g i (fun b x y => if x < ZD (Ds b) then (if y < Tlen (TD (Ds b)) x then nI (Lt (TD (Ds b)) x y) else -1) else -2)
theorem sp_letter {a g h : Int32} {K : Int32 → eb_MS → Prop} (hI : mI σ Ds) (hK : ∀ s, mI s Ds → K (aLetter Ds a g h) s) : MX2_letter σ a g h K := by
  unfold MX2_letter
  rw [ms_ws_iff]
  unfold aLetter at hK
  refine jp_min (fun m hm => ?_)
  refine sp_refusesOf hI.thrown (fun h => ?_) (fun b hb hab hg hz s hs => ?_) (fun b hb hab hg hz s hs hL => ?_)
  · refine br_m2 ?_
    have := hK _ (hI.thrown (v := 0))
    rcases h with h | h
    · rw [gat2_no h] at this; exact this
    · rw [gat2_neg (fun z => h (hm.mpr z))] at this; exact this
  · refine br_m5 ?_
    have := hK s hs
    rw [hab, gat2_z hb (hm.mp hg) hz] at this
    exact this
  · refine br_0 ?_
    subst hab
    obtain ⟨x, hx, rfl⟩ := nI_of (Int32.not_lt.mpr (hm.mp hg).1)
    obtain ⟨y, hy, rfl⟩ := nI_of (Int32.not_lt.mpr (hm.mp hg).2)
    have := hK s hs
    rw [gat2_f hb hx hy hz] at this
    have hv := (hI.1 b hb).1
    have hzl := ZD_le hv
    obtain ⟨hG, hE, he3, he1⟩ := hL.E hv hz
    rw [hL.2.2.2.1]
    refine br_lt hx (by omega) (fun h => ?_) (fun h => ?_)
    · rw [if_pos h] at this
      have hl := (Tlen_0 hG (show x < (TD (Ds b)).2.2.1 by omega)).2
      rw [eb_rd_iff, nI_cl hx, hE.2.1 x (by omega)]
      refine ⟨vp_inN (by omega) (by omega), ?_⟩
      refine br_le (by omega) hy (fun h' => ?_) (fun h' => ?_)
      · rw [if_neg (by omega)] at this; exact this
      · rw [if_pos (by omega)] at this
        exact sp_letterOf hG hE (by omega) (by omega) this
    · rw [if_neg h] at this; exact this
end API2
