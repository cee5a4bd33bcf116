set_option maxRecDepth 100000
/-! parts of a kind -/
noncomputable def PN (D : eb_D) (s h : Nat) : Nat := prt D.1 (Tto (TD D)) (inS (stay D s)) h
noncomputable def NP (D : eb_D) (s : Nat) : Nat := pcnt D.1 (Tto (TD D)) (inS (stay D s)) (ZD D)
/-- l is the least element of its part -/
def isF (D : eb_D) (s l : Nat) : Prop := isL D.1 (Tto (TD D)) (inS (stay D s)) l l
/-- a kind of a body -/
def okK (Ds : Nat → eb_D) (a k : Int32) (b s : Nat) : Prop := b < 4 ∧ a = nI b ∧ s < 16 ∧ k = nI s ∧ isK (Ds b) s = true
/-- the parts of a kind were told apart -/
def mP (σ : eb_MS) (D : eb_D) (s : Nat) : Prop := (∀ h, h < ZD D → σ.2.1 17 h = nI (PN D s h)) ∧ σ.1 18 = nI (NP D s) ∧ ∀ p, p < NP D s → ∃ l, l < ZD D ∧ σ.2.1 19 p = nI l ∧ isF D s l ∧ PN D s l = p
section API6
variable {σ : eb_MS} {Ds : Nat → eb_D}
theorem isK_lt {D : eb_D} (hv : vD D) {s : Nat} (h : isK D s = true) : s < 2 ^ D.1 ∧ s < 16 := by
  unfold isK at h
  rw [Bool.and_eq_true] at h
  have h1 : s < 2 ^ D.1 := Nat.le_of_ble_eq_true h.1
  have h16 : 2 ^ D.1 ≤ 2 ^ 4 := Nat.pow_le_pow_right (by omega) hv.1.2
  exact ⟨h1, by omega⟩
theorem NP_le (D : eb_D) (s : Nat) : NP D s ≤ ZD D := pcnt_le _
theorem PN_lt (D : eb_D) (s : Nat) {h : Nat} (hh : h < ZD D) : PN D s h < NP D s := prt_lt hh
theorem sp_tells {b s : Nat} {K : eb_MS → Prop} (hI : mI σ Ds) (hb : b < 4) (hs : s < 16) (hz : ¬ ZD (Ds b) = 0) (hL : mL σ b (Ds b)) (hK : ∀ t, fr [17, 18, 19, 21] σ t → mI t Ds → mL t b (Ds b) → mP t (Ds b) s → K t) : MX2_tellsParts σ (nI s) K := by
  have q := hI.1 b hb
  have hzl := ZD_le q.1
  obtain ⟨hG, hE, he3, he1⟩ := hL.E q.1 hz
  have hto : tfo (ZD (Ds b)) (Ds b).1 (Tto (TD (Ds b))) := by
    have := hG.tfo
    rw [he1, he3] at this
    exact this
  refine sp_tellsParts q.1 q.2 hb hL.1 hs ⟨hL.2.1, hL.2.2.2.1, (hL.2.2.2.2 hz).1⟩ hzl hto (fun t ft h1 h2 h3 => ?_)
  exact hK t ft (hI.fr ft (by decide)) (hL.fr ft (by decide)) ⟨h1, h2, h3⟩
theorem sp_refusesPart {a k v : Int32} {K : Int32 → eb_MS → Prop} (hI : mI σ Ds) (h2 : (∀ b s, ¬ okK Ds a k b s) ∨ ¬ 0 ≤ v → K (-2) σ)
    (h5 : ∀ b s, okK Ds a k b s → 0 ≤ v → ZD (Ds b) = 0 → ∀ t, mI t Ds → K (-5) t)
    (h0 : ∀ b s, okK Ds a k b s → 0 ≤ v → ¬ ZD (Ds b) = 0 → ∀ t, mI t Ds → mL t b (Ds b) → mP t (Ds b) s → K 0 t) : MX2_refusesPart σ a k v K := by
  unfold MX2_refusesPart
  refine sp_isBody (fun h => ?_) (fun h => ?_)
  · refine ⟨fun z => absurd z (by decide), fun _ => ?_⟩
    obtain ⟨b, hb, rfl⟩ : ∃ b : Nat, b < 4 ∧ a = nI b := (body_or a).resolve_right (fun z => z h)
    have q := hI.1 b hb
    have h16 : 2 ^ (Ds b).1 ≤ 2 ^ 4 := Nat.pow_le_pow_right (by omega) q.1.1.2
    have bad : (∀ s, s < 16 → k = nI s → ¬ isK (Ds b) s = true) → K (-2) σ := fun hn => h2 (Or.inl (fun b' s z => by
      obtain ⟨c1, c2, c3, c4, c5⟩ := z
      have e : b = b' := (nI_eq (by omega) (by omega)).mp c2
      subst e
      exact hn s c3 c4 c5))
    have good : ∀ s, s < 16 → k = nI s → isK (Ds b) s = true → eb_br (0 ≤ v) (MX2_loads σ (nI b) (fun v5 g6 => eb_br (v5 = 0) (K (-5) g6) (MX2_tellsParts g6 k (fun g8 => K 0 g8)))) (K (-2) σ) := by
      intro s hs hk hK
      have ok : okK Ds (nI b) k b s := ⟨hb, rfl, hs, hk, hK⟩
      refine ⟨fun hv => ?_, fun hv => h2 (Or.inr hv)⟩
      refine sp_loads q.1 q.2 hb hI.2.1 (hI.2.2 b hb) (fun hz t hf hL => ?_) (fun hz t hf hL => ?_)
      · exact ⟨fun _ => h5 b s ok hv hz t (mI_load hI hb hf hL), fun z => absurd rfl z⟩
      · refine ⟨fun z => absurd z (by decide), fun _ => ?_⟩
        rw [hk]
        exact sp_tells (mI_load hI hb hf hL) hb hs hz hL (fun t' _ m1 m2 m3 => h0 b s ok hv hz t' m1 m2 m3)
    refine sp_isKind q.1 q.2 hb (fun hn => ?_) (fun s hs hk hr => ?_) (fun s hs hk hr => ?_)
    · exact ⟨fun _ => bad (fun s _ hk hK => hn s (isK_lt q.1 hK).1 hk), fun z => absurd rfl z⟩
    · refine ⟨fun z => absurd z (by decide), fun _ => good s (by omega) hk ?_⟩
      unfold isK
      rw [nlT hs, nbT hr]; rfl
    · refine ⟨fun _ => bad (fun s' hs' hk' hK => ?_), fun z => absurd rfl z⟩
      have e : s = s' := (nI_eq (by omega) (by omega)).mp (hk.symm.trans hk')
      subst e
      unfold isK at hK
      rw [nlT hs, nbF hr] at hK
      exact absurd hK (by decide)
  · refine ⟨fun _ => h2 (Or.inl (fun b s z => h ?_)), fun z => absurd rfl z⟩
    obtain ⟨c1, rfl, -⟩ := z
    exact body_in c1
theorem sp_parts {a k : Int32} {K : Int32 → eb_MS → Prop} (hI : mI σ Ds) (h2 : (∀ b s, ¬ okK Ds a k b s) → ∀ t, mI t Ds → K (-2) t) (h5 : ∀ b s, okK Ds a k b s → ZD (Ds b) = 0 → ∀ t, mI t Ds → K (-5) t)
    (h1 : ∀ b s, okK Ds a k b s → ¬ ZD (Ds b) = 0 → ∀ t, mI t Ds → K (nI (NP (Ds b) s)) t) : MX2_parts σ a k K := by
  unfold MX2_parts
  rw [ms_ws_iff]
  refine sp_refusesPart hI.thrown (fun h => br_m2 ?_) (fun b s ok _ hz t ht => br_m5 (h5 b s ok hz t ht)) (fun b s ok _ hz t ht hL hP => br_0 ?_)
  · rcases h with h | h
    · exact h2 h _ hI.thrown
    · exact absurd (by decide) h
  · rw [hP.2.1]; exact h1 b s ok hz t ht
theorem sp_partOf {a k g : Int32} {K : Int32 → eb_MS → Prop} (hI : mI σ Ds) (h2 : (∀ b s, ¬ okK Ds a k b s) ∨ ¬ 0 ≤ g → ∀ t, mI t Ds → K (-2) t) (h5 : ∀ b s, okK Ds a k b s → 0 ≤ g → ZD (Ds b) = 0 → ∀ t, mI t Ds → K (-5) t)
    (h1 : ∀ b s x, okK Ds a k b s → g = nI x → x < 2147483648 → ¬ ZD (Ds b) = 0 → ∀ t, mI t Ds → K (if x < ZD (Ds b) then nI (PN (Ds b) s x) else -2) t) : MX2_partOf σ a k g K := by
  unfold MX2_partOf
  rw [ms_ws_iff]
  refine sp_refusesPart hI.thrown (fun h => br_m2 (h2 h _ hI.thrown)) (fun b s ok hg hz t ht => br_m5 (h5 b s ok hg hz t ht)) (fun b s ok hg hz t ht hL hP => br_0 ?_)
  obtain ⟨x, hx, rfl⟩ := nI_of (Int32.not_lt.mpr hg)
  have hK := h1 b s x ok rfl hx hz t ht
  have hzl := ZD_le (hI.1 b ok.1).1
  rw [hL.2.2.2.1]
  refine br_le (by omega) hx (fun h => ?_) (fun h => ?_)
  · rw [if_neg (by omega)] at hK; exact hK
  · rw [if_pos (by omega)] at hK
    rw [eb_rd_iff, nI_cl hx, hP.1 x (by omega)]
    exact ⟨vp_inN (by omega) (by omega), hK⟩
theorem sp_least {a k v : Int32} {K : Int32 → eb_MS → Prop} (hI : mI σ Ds) (h2 : (∀ b s, ¬ okK Ds a k b s) ∨ ¬ 0 ≤ v → ∀ t, mI t Ds → K (-2) t) (h5 : ∀ b s, okK Ds a k b s → 0 ≤ v → ZD (Ds b) = 0 → ∀ t, mI t Ds → K (-5) t)
    (h1 : ∀ b s p, okK Ds a k b s → v = nI p → ¬ ZD (Ds b) = 0 → p < NP (Ds b) s → ∀ l, l < ZD (Ds b) → isF (Ds b) s l → PN (Ds b) s l = p → ∀ t, mI t Ds → K (nI l) t)
    (h1' : ∀ b s p, okK Ds a k b s → v = nI p → p < 2147483648 → ¬ ZD (Ds b) = 0 → ¬ p < NP (Ds b) s → ∀ t, mI t Ds → K (-2) t) : MX2_least σ a k v K := by
  unfold MX2_least
  rw [ms_ws_iff]
  refine sp_refusesPart hI.thrown (fun h => br_m2 (h2 h _ hI.thrown)) (fun b s ok hg hz t ht => br_m5 (h5 b s ok hg hz t ht)) (fun b s ok hg hz t ht hL hP => br_0 ?_)
  obtain ⟨p, hp, rfl⟩ := nI_of (Int32.not_lt.mpr hg)
  have hzl := ZD_le (hI.1 b ok.1).1
  have hnp := NP_le (Ds b) s
  rw [hP.2.1]
  refine br_le (by omega) hp (fun h => ?_) (fun h => ?_)
  · exact h1' b s p ok rfl hp hz (by omega) t ht
  · obtain ⟨l, l1, l2, l3, l4⟩ := hP.2.2 p (by omega)
    rw [eb_rd_iff, nI_cl hp, l2]
    exact ⟨vp_inN (by omega) (by omega), h1 b s p ok rfl hz (by omega) l l1 l3 l4 t ht⟩
end API6
