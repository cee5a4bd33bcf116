set_option maxRecDepth 100000
noncomputable def rdV (D : eb_D) (i : Int32) : Int32 := if i = -1 then nI (RL (uC D)) else if i.toNatClampNeg < RL (uC D) then nI (RW (uC D) i.toNatClampNeg) else -1
noncomputable def aRound (Ds : Nat → eb_D) (a i : Int32) : Int32 := if i < -1 then -2 else gat3 Ds a (fun b => rdV (Ds b) i)
theorem i_m1 {i : Int32} (h : ¬ i < -1) (h' : ¬ i = -1) : ∃ y : Nat, y < 2147483648 ∧ i = nI y := by
  have : ¬ i < 0 := fun z => by
    have h1 := Int32.not_lt.mp h
    rw [Int32.le_iff_toInt_le] at h1
    rw [Int32.lt_iff_toInt_lt] at z
    have e1 : (-1 : Int32).toInt = -1 := by decide
    have e0 : (0 : Int32).toInt = 0 := by decide
    exact h' (Int32.toInt_inj.mp (by omega))
  obtain ⟨y, hy, e⟩ := nI_of this
  exact ⟨y, hy, e⟩
theorem nI_p1 {n : Nat} (h : 1 ≤ n) : nI n - 1 = nI (n - 1) := by
  cases n with
  | zero => omega
  | succ n => exact nI_pred n
section RO2
variable {Γ : eb_C} {E : cET} {st st' : eb_S} {I I' : Nat → va_E → Prop} {ad : Nat → Nat} {bd : Nat → cBT} {x : cXT} {Ds : Nat → eb_D} {p bc bs : Nat}
theorem cW_round {a i : Int32} {K : Int32 → eb_S → Prop} (hE : cEm E) (hH : ∀ I p n D, E.1 I p n D ↔ huE Γ I p n D) (hW : cW Γ E st p Ds) (hbc : 298 ≤ bc) (hbs : 26415 ≤ bs) (hK : ∀ s, cW Γ E s p Ds → K (aRound Ds a i) s) : MX0_round Γ bc bs st p a i K := by
  unfold MX0_round
  unfold aRound at hK
  refine jp_1 (fun v => (v = 0 ∧ i < -1) ∨ (v = 1 ∧ ¬ i < -1)) ?_ (fun k hk => ⟨fun z => hk _ (Or.inl ⟨rfl, z⟩), fun z => hk _ (Or.inr ⟨rfl, z⟩)⟩)
  rintro _ (⟨rfl, hi⟩ | ⟨rfl, hi⟩)
  · rw [if_pos hi] at hK
    obtain ⟨I, ad, bd, x, hp, h⟩ := hW
    subst hp
    exact ⟨h.cs0, 0, 0, ⟨by omega, by omega⟩, sc_whyH0 h.cs0 ⟨fun z => absurd z (by decide), fun _ => hK _ (h.W rfl)⟩⟩
  · rw [if_neg hi] at hK
    refine sc_wh3 hE hW (by omega) (by omega) (by decide) hK (fun b hb hab hz h3 st' I' ad bd' x q hp hV hk hq hC hK' => ?_)
    subst hp
    rw [hab]
    refine hV.at hb ⟨(hV.body hb).cs, 274, 12745, ⟨by omega, by omega⟩, sc_hull hE hH hV hb hk hz h3 (Nat.le_refl _) (Nat.le_refl _) (fun s2 I2 bd2 n hV2 _ hk2 hn => st_nn ?_)⟩
    obtain ⟨hok, net, pj, pm, ps, pk, pr, pf, fj, fm, f3, f4, fr, ff, t, w, hSt, hr⟩ := hn
    have hS := hSt s2 hV2.fz
    have hL := (RW_b _ (u_cl hok)).1
    refine ⟨st_cs hS.1 (by simp), 2, 10, ⟨by omega, by omega⟩, sc_told hS hok hr (Nat.le_refl _) (Nat.le_refl _) (fun s3 y f g3 w3 hf => ?_)⟩
    have hV3 := hV2.keep (I' := I2) hE g3 (W := []) (fun w hw => absurd hw List.not_mem_nil) (fun _ _ z => z) (fun _ _ z => Or.inl z)
    have hKK := hK' s3 (hV3.W rfl)
    unfold rdV at hKK
    refine ⟨fun e => st_nn (st_ln w3 ?_), fun e => st_nn (st_ln w3 ?_)⟩
    · rw [if_pos e] at hKK; exact hKK
    · rw [if_neg e] at hKK
      obtain ⟨j, hj, rfl⟩ := i_m1 hi e
      rw [nI_cl hj] at hKK
      show MX0_in (nI j) 0 (nI (RL (uC (Ds b))) - 1) _
      by_cases hjl : j < RL (uC (Ds b))
      · rw [if_pos hjl] at hKK
        rw [nI_p1 (by omega)]
        refine sc_in (fun z => ⟨fun y => absurd y (by decide), fun _ => st_li w3 hjl (by omega) (by rw [hf j hjl]; exact hKK)⟩) (fun z => absurd ⟨nI_pos' hj, (nI_leI hj (by omega)).mpr (by omega)⟩ z)
      · rw [if_neg hjl] at hKK
        refine sc_in (fun z => ?_) (fun z => ⟨fun _ => hKK, fun y => absurd rfl y⟩)
        exfalso
        by_cases h0 : RL (uC (Ds b)) = 0
        · rw [h0] at z
          have := Int32.le_trans z.1 z.2
          revert this
          decide
        · rw [nI_p1 (by omega)] at z
          have := (nI_leI hj (by omega)).mp z.2
          omega
end RO2
