set_option maxRecDepth 100000
/-! ways of so many steps -/
def smL (f : Nat → Int64) : Nat → Int64
  | 0 => 0
  | m + 1 => smL f m + f m
def wyL (A : Nat → Nat → Bool) (N c : Nat) : Nat → Nat → Int64
  | 0, k => cond (Nat.beq k c) 1 0
  | s + 1, k => smL (fun i => cond (A i k) (wyL A N c s i) 0) N
section API18
variable {σ : eb_MS} {Ds : Nat → eb_D}
theorem ms_pl_eq (σ : eb_MS) (k i : Nat) (v : Int64) : (ms_pl σ k i v).2.2 k = vp_updL (σ.2.2 k) i v := by show (if k = k then _ else _) = _; rw [if_pos rfl]
theorem ms_pl_ne {σ : eb_MS} {k i j : Nat} {v : Int64} (h : ¬ j = k) : (ms_pl σ k i v).2.2 j = σ.2.2 j := by show (if j = k then _ else _) = _; rw [if_neg h]
theorem fr.pl {S : List Nat} {σ σ' : eb_MS} (h : fr S σ σ') {k i : Nat} {v : Int64} (hk : k ∈ S) : fr S σ (ms_pl σ' k i v) := ⟨h.1, h.2.1, fun j hj => by rw [ms_pl_ne (fun z : j = k => hj (by rw [z]; exact hk))]; exact h.2.2 j hj⟩
theorem updL_eq (f : Nat → Int64) (k : Nat) (v : Int64) : vp_updL f k v k = v := by show (if k = k then _ else _) = _; rw [if_pos rfl]
theorem updL_ne {f : Nat → Int64} {k j : Nat} {v : Int64} (h : ¬ j = k) : vp_updL f k v j = f j := by show (if j = k then _ else _) = _; rw [if_neg h]
/-- in bounds for ways -/
def okY (Ds : Nat → eb_D) (a c d n : Int32) (b x y m : Nat) : Prop := b < 4 ∧ a = nI b ∧ x < 2147483648 ∧ c = nI x ∧ y < 2147483648 ∧ d = nI y ∧ m ≤ 12 ∧ n = nI m
theorem sp_ways {a c d n : Int32} {K : Int64 → eb_MS → Prop} (hI : mI σ Ds) (h2 : (∀ b x y m, ¬ okY Ds a c d n b x y m) → ∀ t, mI t Ds → K (-2) t)
    (h5 : ∀ b x y m, okY Ds a c d n b x y m → ZD (Ds b) = 0 → ∀ t, mI t Ds → K (Int32.toInt64 (-5)) t)
    (h1 : ∀ b x y m, okY Ds a c d n b x y m → ¬ ZD (Ds b) = 0 → ∀ t, mI t Ds → K (if x < NP (Ds b) 0 ∧ y < NP (Ds b) 0 then wyL (jnd (Ds b)) (NP (Ds b) 0) x m y else -2) t) : MX2_ways σ a c d n K := by
  unfold MX2_ways
  rw [ms_ws_iff]
  have hI0 := hI.thrown (v := 0)
  refine sp_in (fun hn => ?_) (fun hn => ?_)
  · refine ⟨fun z => absurd z (by decide), fun _ => ?_⟩
    obtain ⟨m, hm, rfl⟩ := nI_of (Int32.not_lt.mpr hn.1)
    have hm12 : m ≤ 12 := (nI_leI hm (by omega : (12 : Nat) < 2147483648)).mp hn.2
    refine jp_min (fun mn hmn => ?_)
    refine sp_refusesOf hI0 (fun h => ?_) (fun b hb hab hg hz s hs => ?_) (fun b hb hab hg hz s hs hL => ?_)
    · refine br_m2 (h2 (fun b x y m z => ?_) _ hI0)
      obtain ⟨c1, rfl, c3, rfl, c5, rfl, -⟩ := z
      rcases h with h | h
      · exact h (body_in c1)
      · exact h (hmn.mpr ⟨nI_pos' c3, nI_pos' c5⟩)
    · have hg' := hmn.mp hg
      obtain ⟨x, hx, rfl⟩ := nI_of (Int32.not_lt.mpr hg'.1)
      obtain ⟨y, hy, rfl⟩ := nI_of (Int32.not_lt.mpr hg'.2)
      exact br_m5 (h5 b x y m ⟨hb, hab, hx, rfl, hy, rfl, hm12, rfl⟩ hz s hs)
    · refine br_0 ?_
      have hg' := hmn.mp hg
      obtain ⟨x, hx, rfl⟩ := nI_of (Int32.not_lt.mpr hg'.1)
      obtain ⟨y, hy, rfl⟩ := nI_of (Int32.not_lt.mpr hg'.2)
      have hK := h1 b x y m ⟨hb, hab, hx, rfl, hy, rfl, hm12, rfl⟩ hz
      have hv := (hI.1 b hb).1
      have hzl := ZD_le hv
      have hn0 := NP_le (Ds b) 0
      have hnp := NP_pos hz 0
      refine jp_0 (¬ (x < NP (Ds b) 0 ∧ y < NP (Ds b) 0)) (fun hb2 => ?_) (fun k hk => ?_)
      · have := hK s hs
        rw [if_neg hb2] at this
        exact this
      · rw [hL.cm hz]
        refine br_le (by omega) hx (fun h => hk (by omega)) (fun h => ?_)
        refine br_lt hy (by omega) (fun h3 => ?_) (fun h3 => hk (by omega))
        refine sp_joins hs hb hz hL (fun t ft m1 m2 m3 => ?_)
        have e16 : ∀ t', fr [24, 25] t t' → t'.1 16 = nI (NP (Ds b) 0) := fun t' f' => by rw [f'.1 16 (by decide)]; exact m2.cm hz
        have fin : ∀ t', fr [24, 25] t t' → t'.2.2 24 y = wyL (jnd (Ds b)) (NP (Ds b) 0) x m y → K (t'.2.2 24 y) t' := fun t' f' e => by
          have := hK t' (m1.fr f' (by decide))
          rw [if_pos ⟨by omega, h3⟩] at this
          rw [e]; exact this
        clear hK
        generalize hA : jnd (Ds b) = A at *
        generalize hN : NP (Ds b) 0 = N at *
        refine jp_1 (fun t' => fr [24, 25] t t' ∧ ∀ k, k < N → t'.2.2 24 k = wyL A N x 0 k) ?_ ?_
        · rintro t0 ⟨f0, r0⟩
          refine jp_1 (fun t' => fr [24, 25] t t' ∧ ∀ k, k < N → t'.2.2 24 k = wyL A N x m k) ?_ ?_
          · rintro t' ⟨f', r'⟩
            rw [eb_rd_iff, nI_cl hy]
            exact ⟨vp_inN (by omega) (by omega), fin t' f' (r' y h3)⟩
          · intro k1 hk1
            refine eb_loop2_i (fun u t' => ∃ s, s ≤ m ∧ u = nI s ∧ fr [24, 25] t t' ∧ ∀ k, k < N → t'.2.2 24 k = wyL A N x s k) (fun u _ => 20 - u.toNatClampNeg) ?_ ⟨0, by omega, rfl, f0, r0⟩
            rintro R u t1 ⟨s, hs2, rfl, f1, r1⟩ hR
            refine br_le (by omega) (by omega) (fun h4 => ?_) (fun h4 => ?_)
            · rw [show s = m by omega] at r1
              exact hk1 t1 ⟨f1, r1⟩
            · refine jp_1 (fun t' => fr [24, 25] t t' ∧ ∀ k, k < N → t'.2.2 25 k = wyL A N x (s + 1) k) ?_ ?_
              · rintro t2 ⟨f2, r2⟩
                refine jp_1 (fun t' => fr [24, 25] t t' ∧ ∀ k, k < N → t'.2.2 24 k = wyL A N x (s + 1) k) ?_ ?_
                · rintro t3 ⟨f3, r3⟩
                  rw [nI_1]
                  refine hR _ _ ⟨s + 1, by omega, rfl, f3, r3⟩ ?_
                  rw [nI_cl (by omega), nI_cl (by omega)]; omega
                · intro k2 hk2
                  refine eb_loop2_i (fun u t' => ∃ j, j ≤ N ∧ u = nI j ∧ fr [24, 25] t t' ∧ t'.2.2 25 = t2.2.2 25 ∧ ∀ k, k < j → t'.2.2 24 k = wyL A N x (s + 1) k) (fun u _ => 1000 - u.toNatClampNeg) ?_ ⟨0, by omega, rfl, f2, rfl, fun k hk => absurd hk (Nat.not_lt_zero _)⟩
                  rintro R2 u t3 ⟨j, hj, rfl, f3, e3, r3⟩ hR2
                  rw [e16 t3 f3]
                  refine br_le (by omega) (by omega) (fun h5 => hk2 t3 ⟨f3, fun k hk => r3 k (by omega)⟩) (fun h5 => ?_)
                  rw [eb_rd_iff, nI_cl (by omega), e3, r2 j (by omega)]
                  refine ⟨vp_inN (by omega) (by omega), ?_⟩
                  rw [ms_wl_iff, nI_cl (by omega), nI_1]
                  refine ⟨vp_inN (by omega) (by omega), ?_⟩
                  refine hR2 _ _ ⟨j + 1, by omega, rfl, f3.pl (by decide), by rw [ms_pl_ne (by decide)]; exact e3, fun k hk => ?_⟩ ?_
                  · rw [ms_pl_eq]
                    by_cases ek : k = j
                    · rw [ek, updL_eq]
                    · rw [updL_ne ek]; exact r3 k (by omega)
                  · rw [nI_cl (by omega), nI_cl (by omega)]; omega
              · intro k2 hk2
                refine eb_loop2_i (fun u t' => ∃ j, j ≤ N ∧ u = nI j ∧ fr [24, 25] t t' ∧ t'.2.2 24 = t1.2.2 24 ∧ ∀ k, k < j → t'.2.2 25 k = wyL A N x (s + 1) k) (fun u _ => 1000 - u.toNatClampNeg) ?_ ⟨0, by omega, rfl, f1, rfl, fun k hk => absurd hk (Nat.not_lt_zero _)⟩
                rintro R2 u t3 ⟨j, hj, rfl, f3, e3, r3⟩ hR2
                rw [e16 t3 f3]
                refine br_le (by omega) (by omega) (fun h5 => hk2 t3 ⟨f3, fun k hk => r3 k (by omega)⟩) (fun h5 => ?_)
                rw [ms_wl_iff, nI_cl (by omega)]
                refine ⟨vp_inN (by omega) (by omega), ?_⟩
                refine jp_1 (fun t' => fr [24, 25] t t' ∧ t'.2.2 24 = t1.2.2 24 ∧ ∀ k, k < j + 1 → t'.2.2 25 k = wyL A N x (s + 1) k) ?_ ?_
                · rintro t4 ⟨f4, e4, r4⟩
                  rw [nI_1]
                  refine hR2 _ _ ⟨j + 1, by omega, rfl, f4, e4, r4⟩ ?_
                  rw [nI_cl (by omega), nI_cl (by omega)]; omega
                · intro k3 hk3
                  refine eb_loop2_i (fun u t' => ∃ i, i ≤ N ∧ u = nI i ∧ fr [24, 25] t t' ∧ t'.2.2 24 = t1.2.2 24 ∧ (∀ k, k < j → t'.2.2 25 k = wyL A N x (s + 1) k) ∧ t'.2.2 25 j = smL (fun i => cond (A i j) (wyL A N x s i) 0) i) (fun u _ => 1000 - u.toNatClampNeg) ?_
                    ⟨0, by omega, rfl, f3.pl (by decide), by rw [ms_pl_ne (by decide)]; exact e3, fun k hk => by rw [ms_pl_eq, updL_ne (by omega)]; exact r3 k hk, by rw [ms_pl_eq, updL_eq]; rfl⟩
                  rintro R3 u t4 ⟨i, hi, rfl, f4, e4, r4, s4⟩ hR3
                  rw [e16 t4 f4]
                  refine br_le (by omega) (by omega) (fun h6 => ?_) (fun h6 => ?_)
                  · refine hk3 t4 ⟨f4, e4, fun k hk => ?_⟩
                    by_cases ek : k = j
                    · rw [ek, s4, show i = N by omega]; rfl
                    · exact r4 k (by omega)
                  · rw [eb_rd_iff, nI_cl (by omega), s4]
                    refine ⟨vp_inN (by omega) (by omega), ?_⟩
                    rw [show (500 : Int32) * nI i = nI (500 * i) from nI_mul 500 i, nI_add, eb_rd_iff, nI_cl (by omega), f4.2.1 26 (by decide), m3 i j (by omega) (by omega)]
                    refine ⟨vp_inN (by omega) (by omega), ?_⟩
                    refine jp_1 (fun w => w = cond (A i j) (wyL A N x s i) 0) ?_ ?_
                    · rintro _ rfl
                      rw [ms_wl_iff, nI_cl (by omega), nI_1]
                      refine ⟨vp_inN (by omega) (by omega), ?_⟩
                      refine hR3 _ _ ⟨i + 1, by omega, rfl, f4.pl (by decide), by rw [ms_pl_ne (by decide)]; exact e4, fun k hk => by rw [ms_pl_eq, updL_ne (by omega)]; exact r4 k hk, by rw [ms_pl_eq, updL_eq]; rfl⟩ ?_
                      rw [nI_cl (by omega), nI_cl (by omega)]; omega
                    · intro k4 hk4
                      cases ea : A i j with
                      | false => exact ⟨fun _ => hk4 _ (by rw [ea]; rfl), fun z => absurd rfl z⟩
                      | true =>
                        refine ⟨fun z => absurd z (by decide), fun _ => ?_⟩
                        rw [eb_rd_iff, nI_cl (by omega), e4, r1 i (by omega)]
                        exact ⟨vp_inN (by omega) (by omega), hk4 _ (by rw [ea]; rfl)⟩
        · intro k1 hk1
          refine eb_loop2_i (fun u t' => ∃ j, j ≤ N ∧ u = nI j ∧ fr [24, 25] t t' ∧ ∀ k, k < j → t'.2.2 24 k = wyL A N x 0 k) (fun u _ => 1000 - u.toNatClampNeg) ?_ ⟨0, by omega, rfl, fr_rf _ _, fun k hk => absurd hk (Nat.not_lt_zero _)⟩
          rintro R2 u t3 ⟨j, hj, rfl, f3, r3⟩ hR2
          rw [e16 t3 f3]
          refine br_le (by omega) (by omega) (fun h5 => hk1 t3 ⟨f3, fun k hk => r3 k (by omega)⟩) (fun h5 => ?_)
          refine jp_1 (fun w => w = wyL A N x 0 j) ?_ ?_
          · rintro _ rfl
            rw [ms_wl_iff, nI_cl (by omega), nI_1]
            refine ⟨vp_inN (by omega) (by omega), ?_⟩
            refine hR2 _ _ ⟨j + 1, by omega, rfl, f3.pl (by decide), fun k hk => ?_⟩ ?_
            · rw [ms_pl_eq]
              by_cases ek : k = j
              · rw [ek, updL_eq]
              · rw [updL_ne ek]; exact r3 k (by omega)
            · rw [nI_cl (by omega), nI_cl (by omega)]; omega
          · intro k2 hk2
            refine br_eq (by omega) hx (fun h6 => hk2 _ ?_) (fun h6 => hk2 _ ?_)
            · show 1 = cond (Nat.beq j x) 1 0
              rw [nbT h6]; rfl
            · show 0 = cond (Nat.beq j x) 1 0
              rw [nbF h6]; rfl
  · refine ⟨fun _ => h2 (fun b x y m z => hn ?_) _ hI0, fun z => absurd rfl z⟩
    obtain ⟨-, -, -, -, -, -, h12, rfl⟩ := z
    exact ⟨nI_pos' (by omega), (nI_leI (by omega) (by omega : (12 : Nat) < 2147483648)).mpr h12⟩
end API18
