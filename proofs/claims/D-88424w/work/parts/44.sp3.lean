set_option maxRecDepth 100000
/-! what of the model's state is as it was -/
def fr (S : List Nat) (σ σ' : eb_MS) : Prop := (∀ k, k ∉ S → σ'.1 k = σ.1 k) ∧ (∀ k, k ∉ S → σ'.2.1 k = σ.2.1 k) ∧ ∀ k, k ∉ S → σ'.2.2 k = σ.2.2 k
theorem fr_rf (S : List Nat) (σ : eb_MS) : fr S σ σ := ⟨fun _ _ => rfl, fun _ _ => rfl, fun _ _ => rfl⟩
theorem fr.tr {S : List Nat} {σ σ' σ'' : eb_MS} (h : fr S σ σ') (h' : fr S σ' σ'') : fr S σ σ'' := ⟨fun k hk => (h'.1 k hk).trans (h.1 k hk), fun k hk => (h'.2.1 k hk).trans (h.2.1 k hk), fun k hk => (h'.2.2 k hk).trans (h.2.2 k hk)⟩
theorem fr.up {S S' : List Nat} {σ σ' : eb_MS} (h : fr S σ σ') (hs : ∀ k ∈ S, k ∈ S') : fr S' σ σ' := ⟨fun k hk => h.1 k (fun z => hk (hs k z)), fun k hk => h.2.1 k (fun z => hk (hs k z)), fun k hk => h.2.2 k (fun z => hk (hs k z))⟩
theorem ms_pa_eq (σ : eb_MS) (k i : Nat) (v : Int32) : (ms_pa σ k i v).2.1 k = upd (σ.2.1 k) i v := by show (if k = k then _ else _) = _; rw [if_pos rfl]
theorem ms_pa_ne {σ : eb_MS} {k i j : Nat} {v : Int32} (h : ¬ j = k) : (ms_pa σ k i v).2.1 j = σ.2.1 j := by show (if j = k then _ else _) = _; rw [if_neg h]
theorem ms_ps_eq (σ : eb_MS) (k : Nat) (v : Int32) : (ms_ps σ k v).1 k = v := by show (if k = k then _ else _) = _; rw [if_pos rfl]
theorem ms_ps_ne {σ : eb_MS} {k j : Nat} {v : Int32} (h : ¬ j = k) : (ms_ps σ k v).1 j = σ.1 j := by show (if j = k then _ else _) = _; rw [if_neg h]
theorem fr.pa {S : List Nat} {σ σ' : eb_MS} (h : fr S σ σ') {k i : Nat} {v : Int32} (hk : k ∈ S) : fr S σ (ms_pa σ' k i v) := ⟨h.1, fun j hj => by rw [ms_pa_ne (fun z : j = k => hj (by rw [z]; exact hk))]; exact h.2.1 j hj, h.2.2⟩
theorem fr.ps {S : List Nat} {σ σ' : eb_MS} (h : fr S σ σ') {k : Nat} {v : Int32} (hk : k ∈ S) : fr S σ (ms_ps σ' k v) := ⟨fun j hj => by rw [ms_ps_ne (fun z : j = k => hj (by rw [z]; exact hk))]; exact h.1 j hj, h.2.1, h.2.2⟩
theorem mD.fr {S : List Nat} {σ σ' : eb_MS} {b : Nat} {D : eb_D} (h : mD σ b D) (hf : fr S σ σ') (h1 : 1 ∉ S) (h2 : 2 ∉ S) (h3 : 3 ∉ S) : mD σ' b D := by
  unfold mD
  rw [hf.2.1 1 h1, hf.2.1 2 h2, hf.2.1 3 h3]
  exact h
theorem upd_eq (f : Nat → Int32) (k : Nat) (v : Int32) : upd f k v k = v := by show (if k = k then _ else _) = _; rw [if_pos rfl]
theorem upd_ne {f : Nat → Int32} {k j : Nat} {v : Int32} (h : ¬ j = k) : upd f k v j = f j := by show (if j = k then _ else _) = _; rw [if_neg h]
/-- the mirrors that stay, beside a set -/
def still (r ring s : Nat) (j : Nat → Nat) : Nat → Nat
  | 0 => 0
  | m + 1 => Nat.lor (still r ring s j m) (cond (and (Nat.beq (bt s m) 0) (and (Nat.beq (bt ring m) 0) (Nat.beq (Nat.land (j m) s) 0))) (Nat.pow 2 m) 0)
theorem still_lt (r ring s : Nat) (j : Nat → Nat) : ∀ m, m ≤ 4 → still r ring s j m < 16 := by
  intro m
  induction m with
  | zero => intro _; exact (by decide : 0 < 16)
  | succ m ih =>
    intro hm
    refine mk_orl _ (ih (by omega)) _ ?_
    cases and (Nat.beq (bt s m) 0) (and (Nat.beq (bt ring m) 0) (Nat.beq (Nat.land (j m) s) 0))
    · exact (by decide : 0 < 16)
    · show 2 ^ m < 16
      exact Nat.lt_of_le_of_lt (Nat.pow_le_pow_right (by omega) (show m ≤ 3 by omega)) (by decide)
section SP3
variable {σ : eb_MS} {b : Nat} {D : eb_D}
theorem sp_stillOf {s : Nat} {K : Int32 → Prop} (hv : vD D) (hD : mD σ b D) (hb : b < 4) (hs : s < 16) (hK : K (nI (still D.1 D.2.2 s (fun i => jnp D.2.1 i D.1) D.1))) : MX2_stillOf σ (nI b) (nI s) K := by
  have hr := hv.1.2
  have hring := hv.ring
  unfold MX2_stillOf
  refine eb_loop2_i (fun x y => ∃ m, m ≤ D.1 ∧ x = nI (still D.1 D.2.2 s (fun i => jnp D.2.1 i D.1) m) ∧ y = nI m) (fun _ x => 8 - x.toNatClampNeg) ?_ ⟨0, Nat.zero_le _, rfl, rfl⟩
  rintro R x y ⟨m, hm, rfl, rfl⟩ hR
  rw [eb_rd_iff, nI_cl (by omega), hD.1]
  refine ⟨vp_inN hb (by omega), ?_⟩
  refine br_le (by omega) (by omega) (fun h => ?_) (fun h => ?_)
  · rw [show m = D.1 by omega]; exact hK
  · have hl := still_lt D.1 D.2.2 s (fun i => jnp D.2.1 i D.1) m (by omega)
    have e : still D.1 D.2.2 s (fun i => jnp D.2.1 i D.1) (m + 1) = Nat.lor (still D.1 D.2.2 s (fun i => jnp D.2.1 i D.1) m) (cond (and (Nat.beq (bt s m) 0) (and (Nat.beq (bt D.2.2 m) 0) (Nat.beq (Nat.land (jnp D.2.1 m D.1) s) 0))) (Nat.pow 2 m) 0) := rfl
    refine jp_1 (fun x => x = nI (b1 (and (Nat.beq (bt s m) 0) (and (Nat.beq (bt D.2.2 m) 0) (Nat.beq (Nat.land (jnp D.2.1 m D.1) s) 0))))) ?_ ?_
    · rintro _ rfl
      refine jp_1 (fun x => ∃ v, v < 16 ∧ x = nI v ∧ still D.1 D.2.2 s (fun i => jnp D.2.1 i D.1) (m + 1) = Nat.lor (still D.1 D.2.2 s (fun i => jnp D.2.1 i D.1) m) v) ?_ ?_
      · rintro _ ⟨v, hv1, rfl, e1⟩
        refine hR _ _ ⟨m + 1, by omega, ?_, by rw [nI_1]⟩ ?_
        · rw [mk_or _ hl _ hv1, e1]
        · rw [nI_1, nI_cl (by omega), nI_cl (by omega)]; omega
      · intro k hk
        refine br_eq (b := 0) (by have := b1_le (and (Nat.beq (bt s m) 0) (and (Nat.beq (bt D.2.2 m) 0) (Nat.beq (Nat.land (jnp D.2.1 m D.1) s) 0))); omega) (by omega) (fun h1 => ?_) (fun h1 => ?_)
        · refine hk _ ⟨0, by decide, rfl, ?_⟩
          rw [e]
          cases hc : and (Nat.beq (bt s m) 0) (and (Nat.beq (bt D.2.2 m) 0) (Nat.beq (Nat.land (jnp D.2.1 m D.1) s) 0)) with
          | false => rfl
          | true => rw [hc] at h1; exact absurd h1 (by decide)
        · rw [mk_shl m (by omega)]
          refine hk _ ⟨2 ^ m, Nat.lt_of_le_of_lt (Nat.pow_le_pow_right (by omega) (show m ≤ 3 by omega)) (by decide), rfl, ?_⟩
          rw [e]
          cases hc : and (Nat.beq (bt s m) 0) (and (Nat.beq (bt D.2.2 m) 0) (Nat.beq (Nat.land (jnp D.2.1 m D.1) s) 0)) with
          | false => rw [hc] at h1; exact absurd rfl h1
          | true => rfl
    · intro k hk
      rw [nL_1, mk_bit1 s hs m (by omega)]
      refine br_eq (b := 0) (Nat.lt_trans (bt_lt _ _) (by decide)) (by decide) (fun h1 => ?_) (fun h1 => ?_)
      · rw [eb_rd_iff, nI_cl (by omega), hD.2.1]
        refine ⟨vp_inN hb (by omega), ?_⟩
        rw [mk_bit1 _ hring m (by omega)]
        refine br_eq (b := 0) (Nat.lt_trans (bt_lt _ _) (by decide)) (by decide) (fun h2 => ?_) (fun h2 => ?_)
        · refine sp_joinedTo hv hD hb (by omega) ?_
          rw [mk_and _ (sp_jlt hv m) _ hs]
          have hl2 := mk_andl _ (sp_jlt hv m) _ hs
          refine br_eq (b := 0) (by omega) (by omega) (fun h3 => ?_) (fun h3 => ?_)
          · refine hk _ ?_
            rw [nbT h1, nbT h2, nbT h3]; rfl
          · refine hk _ ?_
            rw [nbT h1, nbT h2, nbF h3]; rfl
        · refine hk _ ?_
          rw [nbT h1, nbF h2]; rfl
      · refine hk _ ?_
        rw [nbF h1]; rfl
/-- the set that stays: the kind's own mirrors and those -/
def stay (D : eb_D) (s : Nat) : Nat := Nat.lor s (still D.1 D.2.2 s (fun i => jnp D.2.1 i D.1) D.1)
def inS (s : Nat) : Nat → Bool := fun i => Nat.beq (bt s i) 1
/-- the group's table lies in the model -/
def mT (σ : eb_MS) (n r : Nat) (tf : Nat → Nat → Nat) : Prop := σ.1 6 = nI r ∧ σ.1 8 = nI n ∧ ∀ g i, g < n → i < r → σ.2.1 11 (4 * g + i) = nI (tf g i)
set_option maxHeartbeats 1000000 in
theorem sp_tellsParts {s n : Nat} {tf : Nat → Nat → Nat} {K : eb_MS → Prop} (hv : vD D) (hD : mD σ b D) (hb : b < 4) (hl : σ.1 5 = nI b) (hs : s < 16) (hT : mT σ n D.1 tf) (hn : n ≤ 500) (ht : tfo n D.1 tf)
    (hK : ∀ σ', fr [17, 18, 19, 21] σ σ' → (∀ h, h < n → σ'.2.1 17 h = nI (prt D.1 tf (inS (stay D s)) h)) → σ'.1 18 = nI (pcnt D.1 tf (inS (stay D s)) n) → (∀ p, p < pcnt D.1 tf (inS (stay D s)) n → ∃ l, l < n ∧ σ'.2.1 19 p = nI l ∧ isL D.1 tf (inS (stay D s)) l l ∧ prt D.1 tf (inS (stay D s)) l = p) → K σ') : MX2_tellsParts σ (nI s) K := by
  have hr := hv.1.2
  unfold MX2_tellsParts
  rw [hl]
  refine sp_stillOf hv hD hb hs ?_
  have hst := still_lt D.1 D.2.2 s (fun i => jnp D.2.1 i D.1) D.1 hr
  rw [mk_or s hs _ hst]
  have hby : stay D s < 16 := mk_orl s hs _ hst
  have e0 : Nat.lor s (still D.1 D.2.2 s (fun i => jnp D.2.1 i D.1) D.1) = stay D s := rfl
  rw [e0]
  refine jp_1 (fun g => fr [17, 18, 19, 21] σ g ∧ ∀ h, h < n → g.2.1 17 h = -1) ?_ ?_
  · rintro g3 ⟨hf3, hrow3⟩
    rw [ms_ws_iff]
    refine eb_loop2_i (fun x g => ∃ m, m ≤ n ∧ x = nI m ∧ fr [17, 18, 19, 21] σ g ∧ pO n D.1 tf (inS (stay D s)) m (g.2.1 17) ∧ g.1 18 = nI (pcnt D.1 tf (inS (stay D s)) m) ∧ ∀ p, p < pcnt D.1 tf (inS (stay D s)) m → ∃ l, l < n ∧ g.2.1 19 p = nI l ∧ isL D.1 tf (inS (stay D s)) l l ∧ prt D.1 tf (inS (stay D s)) l = p) (fun x _ => 1000 - x.toNatClampNeg) ?_ ⟨0, Nat.zero_le _, rfl, hf3.ps (by decide), pO_start hrow3, ms_ps_eq _ _ _, fun p hp => absurd hp (Nat.not_lt_zero _)⟩
    rintro R x g ⟨m, hm, rfl, hf, hO, hmany, hleast⟩ hR
    rw [hf.1 8 (by decide), hT.2.1]
    refine br_le (by omega) (by omega) (fun h1 => ?_) (fun h1 => ?_)
    · have hmn : m = n := by omega
      subst hmn
      exact hK g hf (fun h hh => pO_end hO hh) hmany hleast
    · have hmn : m < n := by omega
      rw [eb_rd_iff, nI_cl (by omega)]
      refine ⟨vp_inN (by omega) (by omega), ?_⟩
      refine jp_1 (fun g' => fr [17, 18, 19, 21] σ g' ∧ pO n D.1 tf (inS (stay D s)) (m + 1) (g'.2.1 17) ∧ g'.1 18 = nI (pcnt D.1 tf (inS (stay D s)) (m + 1)) ∧ ∀ p, p < pcnt D.1 tf (inS (stay D s)) (m + 1) → ∃ l, l < n ∧ g'.2.1 19 p = nI l ∧ isL D.1 tf (inS (stay D s)) l l ∧ prt D.1 tf (inS (stay D s)) l = p) ?_ ?_
      · rintro g' ⟨a1, a2, a3, a4⟩
        refine hR _ _ ⟨m + 1, by omega, by rw [nI_1], a1, a2, a3, a4⟩ ?_
        rw [nI_1, nI_cl (by omega), nI_cl (by omega)]; omega
      · intro k hk
        refine ⟨fun hm1 => ?_, fun hm1 => ?_⟩
        · have hpl := pcnt_le (r := D.1) (tf := tf) (S := inS (stay D s)) m
          obtain ⟨hfirst, -⟩ := pO_first ht hO hmn (by omega) hm1
          rw [ms_wr_iff, hmany, nI_cl (by omega)]
          refine ⟨vp_inN (by omega) (by omega), ?_⟩
          rw [ms_wr_iff, nI_cl (by omega)]
          refine ⟨vp_inN (by omega) (by omega), ?_⟩
          rw [ms_wr_iff]
          refine ⟨vp_inN (i := 0) (by omega) (by omega), ?_⟩
          have e1 : (ms_pa g 19 (pcnt D.1 tf (inS (stay D s)) m) (nI m)).1 18 = nI (pcnt D.1 tf (inS (stay D s)) m) := hmany
          rw [e1]
          refine jp_1 (fun g' => fr [17, 18, 19, 21] σ g' ∧ g'.1 18 = nI (pcnt D.1 tf (inS (stay D s)) m) ∧ g'.2.1 19 = upd (g.2.1 19) (pcnt D.1 tf (inS (stay D s)) m) (nI m) ∧ pO n D.1 tf (inS (stay D s)) (m + 1) (g'.2.1 17) ∧ pcnt D.1 tf (inS (stay D s)) (m + 1) = pcnt D.1 tf (inS (stay D s)) m + 1) ?_ ?_
          · rintro g' ⟨a1, a2, a3, a4, a5⟩
            rw [ms_ws_iff, a2, nI_1]
            refine hk _ ⟨a1.ps (by decide), a4, by rw [ms_ps_eq, a5], fun p hp => ?_⟩
            show ∃ l, l < n ∧ g'.2.1 19 p = nI l ∧ _
            rw [a3]
            rw [a5] at hp
            by_cases hpe : p = pcnt D.1 tf (inS (stay D s)) m
            · subst hpe
              exact ⟨m, hmn, upd_eq _ _ _, hfirst, prt_eq hfirst⟩
            · obtain ⟨l, b1, b2, b3⟩ := hleast p (by omega)
              exact ⟨l, b1, by rw [upd_ne hpe]; exact b2, b3⟩
          · intro k2 hk2
            refine eb_loop3_i (fun x4 x5 g' => ∃ e kk, kk ≤ e ∧ e ≤ n ∧ x4 = nI e ∧ x5 = nI kk ∧ fr [17, 18, 19, 21] σ g' ∧ g'.1 18 = nI (pcnt D.1 tf (inS (stay D s)) m) ∧ g'.2.1 19 = upd (g.2.1 19) (pcnt D.1 tf (inS (stay D s)) m) (nI m) ∧ pJ n D.1 tf (inS (stay D s)) m (g.2.1 17) (g'.2.1 17) (g'.2.1 21) e kk 0) (fun _ x _ => 1000 - x.toNatClampNeg) ?_ ?_
            · rintro R2 x4 x5 g2 ⟨e, kk, hke, hen, rfl, rfl, hf2, hm2, hl2, hJ⟩ hR2
              refine br_le (by omega) (by omega) (fun h2 => ?_) (fun h2 => ?_)
              · have hkk : kk = e := by omega
                subst hkk
                obtain ⟨c1, c2⟩ := pJ_end ht hO hmn (by omega) hm1 hJ
                exact hk2 g2 ⟨hf2, hm2, hl2, c1, c2⟩
              · obtain ⟨q, hq, hqk, hqc, -⟩ := hJ.2.1 kk (by omega)
                refine jp_2 (fun x4 g' => ∃ e', e ≤ e' ∧ e' ≤ n ∧ x4 = nI e' ∧ fr [17, 18, 19, 21] σ g' ∧ g'.1 18 = nI (pcnt D.1 tf (inS (stay D s)) m) ∧ g'.2.1 19 = upd (g.2.1 19) (pcnt D.1 tf (inS (stay D s)) m) (nI m) ∧ pJ n D.1 tf (inS (stay D s)) m (g.2.1 17) (g'.2.1 17) (g'.2.1 21) e' (kk + 1) 0) ?_ ?_
                · rintro _ g' ⟨e', d0, d1, rfl, d2, d3, d4, d5⟩
                  refine hR2 _ _ _ ⟨e', kk + 1, by omega, d1, rfl, by rw [nI_1], d2, d3, d4, d5⟩ ?_
                  rw [nI_1, nI_cl (by omega), nI_cl (by omega)]; omega
                · intro k3 hk3
                  refine eb_loop3_i (fun x4 x6 g' => ∃ e' i, e ≤ e' ∧ e' ≤ n ∧ i ≤ D.1 ∧ x4 = nI e' ∧ x6 = nI i ∧ fr [17, 18, 19, 21] σ g' ∧ g'.1 18 = nI (pcnt D.1 tf (inS (stay D s)) m) ∧ g'.2.1 19 = upd (g.2.1 19) (pcnt D.1 tf (inS (stay D s)) m) (nI m) ∧ g'.2.1 21 kk = nI q ∧ pJ n D.1 tf (inS (stay D s)) m (g.2.1 17) (g'.2.1 17) (g'.2.1 21) e' kk i) (fun _ x _ => 8 - x.toNatClampNeg) ?_ ⟨e, 0, Nat.le_refl _, hen, Nat.zero_le _, rfl, rfl, hf2, hm2, hl2, hqk, hJ⟩
                  rintro R3 x4 x6 g3' ⟨e', i, de, den, di, rfl, rfl, df, dm, dl, dq, dJ⟩ hR3
                  rw [df.1 6 (by decide), hT.1]
                  refine br_le (by omega) (by omega) (fun h3 => ?_) (fun h3 => ?_)
                  · have hir : i = D.1 := by omega
                    subst hir
                    exact hk3 _ _ ⟨e', de, den, rfl, df, dm, dl, pJ_next dJ⟩
                  · have hi : i < D.1 := by omega
                    rw [eb_rd_iff, nI_cl (by omega), dq]
                    refine ⟨vp_inN (by omega) (by omega), ?_⟩
                    rw [nL_4, nI_mul, nI_add, eb_rd_iff, nI_cl (by omega), df.2.1 11 (by decide), hT.2.2 q i hq hi]
                    refine ⟨vp_inN (by omega) (by omega), ?_⟩
                    have hlt := (ht q i hq hi).1
                    refine jp_2 (fun x4 g' => ∃ e2, e ≤ e2 ∧ e2 ≤ n ∧ x4 = nI e2 ∧ fr [17, 18, 19, 21] σ g' ∧ g'.1 18 = nI (pcnt D.1 tf (inS (stay D s)) m) ∧ g'.2.1 19 = upd (g.2.1 19) (pcnt D.1 tf (inS (stay D s)) m) (nI m) ∧ g'.2.1 21 kk = nI q ∧ pJ n D.1 tf (inS (stay D s)) m (g.2.1 17) (g'.2.1 17) (g'.2.1 21) e2 kk (i + 1)) ?_ ?_
                    · rintro _ g' ⟨e2, f0, f1, rfl, f2, f3, f4, f5, f6⟩
                      refine hR3 _ _ _ ⟨e2, i + 1, f0, f1, by omega, rfl, by rw [nI_1], f2, f3, f4, f5, f6⟩ ?_
                      rw [nI_1, nI_cl (by omega), nI_cl (by omega)]; omega
                    · intro k4 hk4
                      have noS : ¬ inS (stay D s) i = true → k4 (nI e') g3' := fun z => hk4 _ _ ⟨e', de, den, rfl, df, dm, dl, dq, pJ_skip ht (by omega) dJ (by omega) hi hq dq (fun w => absurd w z)⟩
                      rw [nL_1, mk_bit1 _ hby i (by omega)]
                      refine br_eq (Nat.lt_trans (bt_lt _ _) (by decide)) (by decide) (fun h4 => ?_) (fun h4 => ?_)
                      · have hSi : inS (stay D s) i = true := nbT h4
                        rw [eb_rd_iff, nI_cl (by omega)]
                        refine ⟨vp_inN (by omega) (by omega), ?_⟩
                        refine ⟨fun h5 => ?_, fun h5 => ?_⟩
                        · obtain ⟨p1, p2⟩ := pJ_push ht (by omega) hmn dJ (by omega) hi hq dq hSi h5
                          rw [ms_wr_iff, nI_cl (by omega), dm]
                          refine ⟨vp_inN (by omega) (by omega), ?_⟩
                          rw [ms_wr_iff, nI_cl (by omega)]
                          refine ⟨vp_inN (by omega) (by omega), ?_⟩
                          rw [nI_add]
                          refine hk4 _ _ ⟨e' + 1, by omega, by omega, rfl, (df.pa (by decide)).pa (by decide), dm, dl, ?_, ?_⟩
                          · rw [ms_pa_eq, upd_ne (by omega)]; exact dq
                          · rw [ms_pa_ne (by decide), ms_pa_eq, ms_pa_eq]; exact p2
                        · exact hk4 _ _ ⟨e', de, den, rfl, df, dm, dl, dq, pJ_skip ht (by omega) dJ (by omega) hi hq dq (fun _ => h5)⟩
                      · exact noS (by unfold inS; rw [nbF h4]; decide)
            · refine ⟨1, 0, by omega, by omega, rfl, rfl, ((hf.pa (by decide)).pa (by decide)).pa (by decide), hmany, ?_, ?_⟩
              · rw [ms_pa_ne (by decide), ms_pa_ne (by decide), ms_pa_eq]
              · rw [ms_pa_ne (by decide), ms_pa_eq, ms_pa_eq, ms_pa_ne (by decide)]
                exact pJ_start ht hO hmn (by omega) hm1
        · obtain ⟨a1, a2⟩ := pO_skip ht hO hmn hm1
          exact hk _ ⟨hf, a1, by rw [a2]; exact hmany, by rw [a2]; exact hleast⟩
  · intro k hk
    refine eb_loop2_i (fun x g => ∃ m, m ≤ n ∧ x = nI m ∧ fr [17, 18, 19, 21] σ g ∧ ∀ h, h < m → g.2.1 17 h = -1) (fun x _ => 1000 - x.toNatClampNeg) ?_ ⟨0, Nat.zero_le _, rfl, fr_rf _ _, fun h hh => absurd hh (Nat.not_lt_zero _)⟩
    rintro R x g ⟨m, hm, rfl, hf, hrow⟩ hR
    rw [hf.1 8 (by decide), hT.2.1]
    refine br_le (by omega) (by omega) (fun h1 => ?_) (fun h1 => ?_)
    · exact hk g ⟨hf, fun h hh => hrow h (by omega)⟩
    · rw [ms_wr_iff, nI_cl (by omega)]
      refine ⟨vp_inN (by omega) (by omega), ?_⟩
      refine hR _ _ ⟨m + 1, by omega, by rw [nI_1], hf.pa (by decide), fun h hh => ?_⟩ ?_
      · rw [ms_pa_eq]
        by_cases e : h = m
        · rw [e, upd_eq]
        · rw [upd_ne e]; exact hrow h (by omega)
      · rw [nI_1, nI_cl (by omega), nI_cl (by omega)]; omega
end SP3
