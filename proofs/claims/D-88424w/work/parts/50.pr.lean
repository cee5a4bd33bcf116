set_option maxRecDepth 100000
/-! products, inverses, letters in a table -/
def prd (e : tE) : Nat → Nat → Nat → Nat
  | 0, g, _ => g
  | k + 1, g, h => if h = 0 then g else Tto e (prd e k g (Tpar e h)) (Tlas e h)
def Pr (e : tE) (g h : Nat) : Nat := prd e (Tlen e h) g h
def ivd (e : tE) : Nat → Nat → Nat → Nat
  | 0, v, _ => v
  | k + 1, v, x => if x = 0 then v else ivd e k (Tto e v (Tlas e x)) (Tpar e x)
def Iv (e : tE) (g : Nat) : Nat := ivd e (Tlen e g) 0 g
/-- the k-th one above -/
def anc (e : tE) : Nat → Nat → Nat
  | 0, x => x
  | k + 1, x => anc e k (Tpar e x)
def Lt (e : tE) (g i : Nat) : Nat := Tlas e (anc e (Tlen e g - (i + 1)) g)
section PR
variable {e : tE}
theorem Tlen_0 (h : tG e) {x : Nat} (hx : x < e.2.2.1) : (Tlen e x = 0 ↔ x = 0) ∧ Tlen e x ≤ 16 := by
  by_cases h0 : x = 0
  · subst h0; rw [h.2.2.1.1]; exact ⟨⟨fun _ => rfl, fun _ => rfl⟩, by omega⟩
  · have := (Tkey_lt h hx h0).2.2.2.2
    exact ⟨⟨fun z => by omega, fun z => absurd z h0⟩, this.2⟩
theorem Pr_0 (h : tG e) (g : Nat) : Pr e g 0 = g := by unfold Pr; rw [h.2.2.1.1]; rfl
theorem Pr_s (h : tG e) {g x : Nat} (hx : x < e.2.2.1) (h0 : ¬ x = 0) : Pr e g x = Tto e (Pr e g (Tpar e x)) (Tlas e x) := by
  unfold Pr
  rw [(Tkey_lt h hx h0).2.2.2.2.1]
  show (if x = 0 then g else _) = _
  rw [if_neg h0]
theorem Pr_lt (h : tG e) {g : Nat} (hg : g < e.2.2.1) : ∀ x, x < e.2.2.1 → Pr e g x < e.2.2.1 := by
  intro x
  induction x using Nat.strongRecOn with
  | _ x ih =>
    intro hx
    by_cases h0 : x = 0
    · rw [h0, Pr_0 h]; exact hg
    · have q := Tkey_lt h hx h0
      rw [Pr_s h hx h0]
      exact (h.2.1 _ (ih _ q.2.1 (by omega)) _ q.2.2.1).1
theorem anc_s (k x : Nat) : anc e (k + 1) x = Tpar e (anc e k x) := by
  induction k generalizing x with
  | zero => rfl
  | succ k ih => exact ih (Tpar e x)
theorem anc_ok (h : tG e) {x : Nat} (hx : x < e.2.2.1) : ∀ k, k ≤ Tlen e x → anc e k x < e.2.2.1 ∧ Tlen e (anc e k x) = Tlen e x - k := by
  intro k
  induction k with
  | zero => intro _; exact ⟨hx, rfl⟩
  | succ k ih =>
    intro hk
    obtain ⟨h1, h2⟩ := ih (by omega)
    have h0 : ¬ anc e k x = 0 := fun z => by rw [z, h.2.2.1.1] at h2; omega
    have q := Tkey_lt h h1 h0
    rw [anc_s]
    exact ⟨by omega, by omega⟩
theorem anc_len (h : tG e) {x : Nat} (hx : x < e.2.2.1) : anc e (Tlen e x) x = 0 := by
  have := anc_ok h hx _ (Nat.le_refl _)
  exact ((Tlen_0 h this.1).1).mp (by omega)
variable {σ : eb_MS} {D : eb_D}
/-- a table in the model, without its corners -/
def mE (σ : eb_MS) (e : tE) : Prop := (∀ g i, g < e.2.2.1 → i < e.1 → σ.2.1 11 (4 * g + i) = nI (Tto e g i)) ∧ (∀ x, x < e.2.2.1 → σ.2.1 12 x = nI (Tlen e x)) ∧ ∀ x, x < e.2.2.1 → ¬ x = 0 → σ.2.1 13 x = nI (Tpar e x) ∧ σ.2.1 14 x = nI (Tlas e x)
theorem sp_letterOf {g i : Nat} {K : Int32 → Prop} (hG : tG e) (hE : mE σ e) (hg : g < e.2.2.1) (hi : i < Tlen e g) (hK : K (nI (Lt e g i))) : MX2_letterOf σ (nI g) (nI i) K := by
  have hn := hG.1.2.2
  have hl := (Tlen_0 hG hg).2
  unfold MX2_letterOf
  refine jp_1 (fun x => x = nI (anc e (Tlen e g - (i + 1)) g)) ?_ ?_
  · rintro _ rfl
    have q := anc_ok hG hg (Tlen e g - (i + 1)) (by omega)
    have h0 : ¬ anc e (Tlen e g - (i + 1)) g = 0 := fun z => by rw [z, hG.2.2.1.1] at q; omega
    rw [eb_rd_iff, nI_cl (by omega), (hE.2.2 _ q.1 h0).2]
    exact ⟨vp_inN (by omega) (by omega), hK⟩
  · intro k hk
    refine eb_loop1_i (fun x => ∃ j, j ≤ Tlen e g - (i + 1) ∧ x = nI (anc e j g)) (fun x => x.toNatClampNeg) ?_ ⟨0, Nat.zero_le _, rfl⟩
    rintro R x ⟨j, hj, rfl⟩ hR
    have q := anc_ok hG hg j (by omega)
    rw [eb_rd_iff, nI_cl (by omega), hE.2.1 _ q.1, nI_1]
    refine ⟨vp_inN (by omega) (by omega), ?_⟩
    refine br_le (by omega) (by omega) (fun h => ?_) (fun h => ?_)
    · have hjj : j = Tlen e g - (i + 1) := by omega
      exact hk _ (by rw [hjj])
    · have h0 : ¬ anc e j g = 0 := fun z => by rw [z, hG.2.2.1.1] at q; omega
      have q2 := Tkey_lt hG q.1 h0
      rw [eb_rd_iff, nI_cl (by omega), (hE.2.2 _ q.1 h0).1]
      refine ⟨vp_inN (by omega) (by omega), ?_⟩
      refine hR _ ⟨j + 1, by omega, by rw [anc_s]⟩ ?_
      rw [nI_cl (by omega), nI_cl (by omega)]
      exact q2.2.1
theorem sp_productOf {g h : Nat} {K : Int32 → Prop} (hG : tG e) (hE : mE σ e) (hg : g < e.2.2.1) (hh : h < e.2.2.1) (hK : K (nI (Pr e g h))) : MX2_productOf σ (nI g) (nI h) K := by
  have hn := hG.1.2.2
  have hr := hG.1.1
  have hl := (Tlen_0 hG hh).2
  unfold MX2_productOf
  rw [eb_rd_iff, nI_cl (by omega), hE.2.1 h hh]
  refine ⟨vp_inN (by omega) (by omega), ?_⟩
  refine eb_loop2_i (fun x y => ∃ i, i ≤ Tlen e h ∧ x = nI (Pr e g (anc e (Tlen e h - i) h)) ∧ y = nI i) (fun _ y => 100 - y.toNatClampNeg) ?_ ⟨0, Nat.zero_le _, by rw [Nat.sub_zero, anc_len hG hh, Pr_0 hG], rfl⟩
  rintro R x y ⟨i, hi, rfl, rfl⟩ hR
  refine br_le (by omega) (by omega) (fun h1 => ?_) (fun h1 => ?_)
  · rw [show Tlen e h - i = 0 by omega]; exact hK
  · refine sp_letterOf hG hE hh (by omega) ?_
    have q := anc_ok hG hh (Tlen e h - (i + 1)) (by omega)
    have h0 : ¬ anc e (Tlen e h - (i + 1)) h = 0 := fun z => by rw [z, hG.2.2.1.1] at q; omega
    have q2 := Tkey_lt hG q.1 h0
    have e1 : anc e (Tlen e h - i) h = Tpar e (anc e (Tlen e h - (i + 1)) h) := by rw [← anc_s]; congr 1; omega
    have hp := Pr_lt hG hg _ (show Tpar e (anc e (Tlen e h - (i + 1)) h) < e.2.2.1 by omega)
    have hlt : Lt e h i < e.1 := q2.2.2.1
    rw [e1, nL_4, nI_mul, nI_add, eb_rd_iff, nI_cl (by omega), hE.1 _ _ hp hlt]
    refine ⟨vp_inN (by omega) (by omega), ?_⟩
    refine hR _ _ ⟨i + 1, by omega, ?_, by rw [nI_1]⟩ ?_
    · rw [Pr_s hG q.1 h0]; rfl
    · rw [nI_1, nI_cl (by omega), nI_cl (by omega)]; omega
theorem ivd_lt (hG : tG e) : ∀ k v x, v < e.2.2.1 → x < e.2.2.1 → ivd e k v x < e.2.2.1 := by
  intro k
  induction k with
  | zero => intro v x hv _; exact hv
  | succ k ih =>
    intro v x hv hx
    show (if x = 0 then v else ivd e k (Tto e v (Tlas e x)) (Tpar e x)) < _
    by_cases h0 : x = 0
    · rw [if_pos h0]; exact hv
    · have q := Tkey_lt hG hx h0
      rw [if_neg h0]
      exact ih _ _ (hG.2.1 v hv _ q.2.2.1).1 (by omega)
theorem Iv_lt (hG : tG e) {g : Nat} (hg : g < e.2.2.1) : Iv e g < e.2.2.1 := ivd_lt hG _ _ _ (by have := hG.1.2.1; omega) hg
theorem sp_inverseOf {g : Nat} {K : Int32 → Prop} (hG : tG e) (hE : mE σ e) (hg : g < e.2.2.1) (hK : K (nI (Iv e g))) : MX2_inverseOf σ (nI g) K := by
  have hn := hG.1.2
  have hr := hG.1.1
  unfold MX2_inverseOf
  refine eb_loop2_i (fun x y => ∃ v a, v < e.2.2.1 ∧ a < e.2.2.1 ∧ x = nI v ∧ y = nI a ∧ ivd e (Tlen e a) v a = Iv e g) (fun _ y => y.toNatClampNeg) ?_ ⟨0, g, by omega, hg, rfl, rfl, rfl⟩
  rintro R x y ⟨v, a, hv, ha, rfl, rfl, hI⟩ hR
  refine br_eq (b := 0) (by omega) (by omega) (fun h => ?_) (fun h => ?_)
  · subst h
    rw [hG.2.2.1.1] at hI
    have hI' : v = Iv e g := hI
    rw [hI']; exact hK
  · have q := Tkey_lt hG ha h
    rw [eb_rd_iff, nI_cl (by omega), (hE.2.2 a ha h).2]
    refine ⟨vp_inN (by omega) (by omega), ?_⟩
    rw [nL_4, nI_mul, nI_add, eb_rd_iff, nI_cl (by omega), hE.1 v _ hv q.2.2.1]
    refine ⟨vp_inN (by omega) (by omega), ?_⟩
    rw [eb_rd_iff, nI_cl (by omega), (hE.2.2 a ha h).1]
    refine ⟨vp_inN (by omega) (by omega), ?_⟩
    refine hR _ _ ⟨_, _, (hG.2.1 v hv _ q.2.2.1).1, by omega, rfl, rfl, ?_⟩ ?_
    · rw [q.2.2.2.2.1] at hI
      have hI' : (if a = 0 then v else ivd e (Tlen e (Tpar e a)) (Tto e v (Tlas e a)) (Tpar e a)) = Iv e g := hI
      rw [if_neg h] at hI'
      exact hI'
    · rw [nI_cl (by omega), nI_cl (by omega)]; exact q.2.1
end PR
