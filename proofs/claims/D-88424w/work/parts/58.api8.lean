set_option maxRecDepth 100000
section API8
variable {σ : eb_MS} {Ds : Nat → eb_D}
/-- what is told about a body: mirrors, ringed ones, those that a mirror is joined to -/
theorem sp_about {a w i : Int32} {K : Int32 → eb_MS → Prop} (hI : mI σ Ds) (h2 : ¬ (∃ b, b < 4 ∧ a = nI b ∧ (w = 0 ∨ w = 1 ∨ (w = 2 ∧ ∃ x, x < (Ds b).1 ∧ i = nI x))) → ∀ t, mI t Ds → K (-2) t)
    (h0 : ∀ b, b < 4 → a = nI b → w = 0 → ∀ t, mI t Ds → K (nI (Ds b).1) t) (h1 : ∀ b, b < 4 → a = nI b → w = 1 → ∀ t, mI t Ds → K (nI (Ds b).2.2) t)
    (h3 : ∀ b x, b < 4 → a = nI b → w = 2 → x < (Ds b).1 → i = nI x → ∀ t, mI t Ds → K (nI (jnp (Ds b).2.1 x (Ds b).1)) t) : MX2_about σ a w i K := by
  unfold MX2_about
  rw [ms_ws_iff]
  have hI0 := hI.thrown (v := 0)
  refine sp_isBody (fun h => ?_) (fun h => ?_)
  · refine ⟨fun z => absurd z (by decide), fun _ => ?_⟩
    obtain ⟨b, hb, rfl⟩ : ∃ b : Nat, b < 4 ∧ a = nI b := (body_or a).resolve_right (fun z => z h)
    have q := hI0.1 b hb
    have hr := q.1.1
    have un : ∀ {b' : Nat}, b' < 4 → nI b = nI b' → b = b' := fun h' z => (nI_eq (by omega) (by omega)).mp z
    refine sp_in (fun hn => ?_) (fun hn => ?_)
    · refine ⟨fun z => absurd z (by decide), fun _ => ?_⟩
      refine jp_0 (w = 2 → ∃ x, x < (Ds b).1 ∧ i = nI x) (fun hx => ?_) (fun k hk => ?_)
      · refine ⟨fun hw => ?_, fun hw0 => ⟨fun hw => ?_, fun hw1 => ?_⟩⟩
        · rw [eb_rd_iff, nI_cl (by omega), q.2.1]
          exact ⟨vp_inN hb (by omega), h0 b hb rfl hw _ hI0⟩
        · rw [eb_rd_iff, nI_cl (by omega), q.2.2.1]
          exact ⟨vp_inN hb (by omega), h1 b hb rfl hw _ hI0⟩
        · have hw2 : w = 2 := by
            obtain ⟨m, hm, rfl⟩ := nI_of (Int32.not_lt.mpr hn.1)
            have h4 : m ≤ 2 := (nI_leI hm (by omega : (2 : Nat) < 2147483648)).mp hn.2
            have c0 : ¬ m = 0 := fun z => hw0 (by rw [z]; rfl)
            have c1 : ¬ m = 1 := fun z => hw1 (by rw [z]; rfl)
            rw [show m = 2 by omega]; rfl
          obtain ⟨x, hx1, rfl⟩ := hx hw2
          exact sp_joinedTo q.1 q.2 hb (by omega) (h3 b x hb rfl hw2 hx1 rfl _ hI0)
      · refine ⟨fun hw => ?_, fun hw => hk (fun z => absurd z hw)⟩
        refine sp_isMirror q.1 q.2 hb (fun x hx hix => ?_) (fun hno => ?_)
        · exact ⟨fun z => absurd z (by decide), fun _ => hk (fun _ => ⟨x, hx, hix⟩)⟩
        · refine ⟨fun _ => h2 (fun z => ?_) _ hI0, fun z => absurd rfl z⟩
          obtain ⟨b', c1, c2, c3⟩ := z
          have e := un c1 c2
          subst e
          rcases c3 with c3 | c3 | ⟨-, x, c4, c5⟩
          · rw [c3] at hw; exact absurd hw (by decide)
          · rw [c3] at hw; exact absurd hw (by decide)
          · exact hno x c4 c5
    · refine ⟨fun _ => h2 (fun z => hn ?_) _ hI0, fun z => absurd rfl z⟩
      obtain ⟨b', c1, c2, c3⟩ := z
      rcases c3 with rfl | rfl | ⟨rfl, -⟩ <;> decide
  · refine ⟨fun _ => h2 (fun z => h ?_) _ hI0, fun z => absurd rfl z⟩
    obtain ⟨b, hb, rfl, -⟩ := z
    exact body_in hb
end API8
