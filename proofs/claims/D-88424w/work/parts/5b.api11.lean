set_option maxRecDepth 100000
section API11
variable {σ : eb_MS} {Ds : Nat → eb_D}
theorem sp_count {a w : Int32} {K : Int32 → eb_MS → Prop} (hI : mI σ Ds) (h2 : ¬ (∃ b m, b < 4 ∧ a = nI b ∧ w = nI m ∧ m ≤ (Ds b).1) → ∀ s, mI s Ds → K (-2) s)
    (h5 : ∀ b m, b < 4 → a = nI b → w = nI m → m ≤ (Ds b).1 → ZD (Ds b) = 0 → ∀ s, mI s Ds → K (-5) s)
    (h1 : ∀ b m, b < 4 → a = nI b → w = nI m → m ≤ (Ds b).1 → ¬ ZD (Ds b) = 0 → ∀ s, mI s Ds → K (nI (cto (Ds b) m 16)) s) : MX2_count σ a w K := by
  unfold MX2_count
  rw [ms_ws_iff]
  have hI0 := hI.thrown (v := 0)
  refine sp_isBody (fun h => ?_) (fun h => ?_)
  · refine ⟨fun z => absurd z (by decide), fun _ => ?_⟩
    obtain ⟨b, hb, rfl⟩ : ∃ b : Nat, b < 4 ∧ a = nI b := (body_or a).resolve_right (fun z => z h)
    have q := hI0.1 b hb
    have hr := q.1.1
    rw [eb_rd_iff, nI_cl (by omega), q.2.1]
    refine ⟨vp_inN hb (by omega), ?_⟩
    refine sp_in (fun hn => ?_) (fun hn => ?_)
    · refine ⟨fun z => absurd z (by decide), fun _ => ?_⟩
      obtain ⟨m, hm, rfl⟩ := nI_of (Int32.not_lt.mpr hn.1)
      have hmr := (nI_leI hm (by omega)).mp hn.2
      refine sp_loads q.1 q.2 hb hI0.2.1 (hI0.2.2 b hb) (fun hz t hf hL => ?_) (fun hz t hf hL => ?_)
      · exact ⟨fun _ => h5 b m hb rfl rfl hmr hz t (mI_load hI0 hb hf hL), fun z => absurd rfl z⟩
      · refine ⟨fun z => absurd z (by decide), fun _ => ?_⟩
        exact sp_countOf (mI_load hI0 hb hf hL) hb hz hL hm (fun t' m1 _ => h1 b m hb rfl rfl hmr hz t' m1)
    · refine ⟨fun _ => h2 (fun z => hn ?_) _ hI0, fun z => absurd rfl z⟩
      obtain ⟨b', m, hb', hab, rfl, hm⟩ := z
      have e : b = b' := (nI_eq (by omega) (by omega)).mp hab
      subst e
      exact ⟨nI_pos' (by omega), (nI_leI (by omega) (by omega)).mpr hm⟩
  · refine ⟨fun _ => h2 (fun z => h ?_) _ hI0, fun z => absurd rfl z⟩
    obtain ⟨b, m, hb, rfl, -⟩ := z
    exact body_in hb
end API11
