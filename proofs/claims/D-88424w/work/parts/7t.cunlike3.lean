set_option maxRecDepth 100000
section UN
variable {Γ : eb_C} {E : cET} {st st' : eb_S} {bc bs : Nat} {Ds : Nat → eb_D} {p : Nat}
theorem trN_le : ∀ s, s < 8 → trN s ≤ 21 := by decide
theorem cW_unlike {a : Int32} {fE : Nat → Option Nat} {K : Int32 → eb_S → Prop} (hE : cEm E) (hH : ∀ I p n D, E.1 I p n D ↔ huE Γ I p n D) (hUl : E.2.2 = ulN) (hW : cW Γ E st p Ds) (hE0 : st Γ.2.2.2 = some (eb_ra Γ 8 0 fE)) (hbc : 2200 ≤ bc) (hbs : 111999 ≤ bs) (hK : ∀ s, cW Γ E s p Ds → s Γ.2.2.2 = some (eb_ra Γ 8 0 fE) → K (aUnlike Ds a) s) : MX0_unlike Γ bc bs st p a K := by
  obtain ⟨I0, ad, bd0, x, hp, h0⟩ := hW
  subst hp
  have h : cV Γ E st (fun b y => I0 b y ∨ (b = Γ.2.2.2 ∧ y = eb_ra Γ 8 0 fE)) ad bd0 x Ds := h0.frz hE (fun _ _ z => Or.inl z) (fun b y hy => hy.imp id (fun ⟨z1, z2⟩ => ⟨by rw [z1, z2]; exact hE0, by rw [z1]; exact h0.ne0 hE0⟩))
  generalize hI : (fun b y => I0 b y ∨ (b = Γ.2.2.2 ∧ y = eb_ra Γ 8 0 fE)) = I at h
  have hIE : I Γ.2.2.2 (eb_ra Γ 8 0 fE) := by rw [← hI]; exact Or.inr ⟨rfl, rfl⟩
  unfold aUnlike at hK
  unfold MX0_unlike
  refine ⟨h.cs0, 22, 13660, ⟨by omega, by omega⟩, ?_⟩
  by_cases hab : 0 ≤ a ∧ a ≤ 3
  · obtain ⟨b, hb, rfl⟩ : ∃ b : Nat, b < 4 ∧ a = nI b := (body_or a).resolve_right (fun z => z hab)
    refine sc_whyM hE h hb (Nat.le_refl _) (Nat.le_refl _) (fun g2 I1 bd hV hm hk hII => ?_)
    have hI1 := hII _ _ hIE
    have hKK := hK g2 (hV.W rfl) (hV.fz _ _ hI1)
    unfold wc
    have hcase : ZD (Ds b) = 0 ∨ (¬ ZD (Ds b) = 0 ∧ ¬ (Ds b).1 = 3) ∨ (¬ ZD (Ds b) = 0 ∧ (Ds b).1 = 3) := by
      by_cases z1 : ZD (Ds b) = 0
      · exact Or.inl z1
      · by_cases z2 : (Ds b).1 = 3
        · exact Or.inr (Or.inr ⟨z1, z2⟩)
        · exact Or.inr (Or.inl ⟨z1, z2⟩)
    unfold wcN
    rcases hcase with hz | ⟨hz, h3⟩ | ⟨hz, h3⟩
    · rw [if_pos hz]
      rw [gat3_z hb hz] at hKK
      exact ⟨fun z => absurd z (by decide), fun _ => hKK⟩
    · rw [if_neg hz, if_neg h3]
      rw [gat3_3 hb hz h3] at hKK
      exact ⟨fun z => absurd z (by decide), fun _ => hKK⟩
    rw [if_neg hz, if_pos h3]
    have hKs : ∀ s, cW Γ E s (ad 16) Ds → s Γ.2.2.2 = some (eb_ra Γ 8 0 fE) → K (nI (ulN (uAt (Ds b)))) s := fun s z1 z2 => by
      have := hK s z1 z2
      rw [gat3_f hb hz h3] at this
      exact this
    have hok : ok3 (Ds b) := ⟨hV.v hb, hz, h3⟩
    have hat := uAt_lt hok
    refine ⟨fun _ => ?_, fun z => absurd rfl z⟩
    have hB := hV.body hb
    refine hV.at hb ⟨hB.cs, sc_angle (i := 0) (j := 1) hB (by omega) (by omega) ⟨hB.cs, sc_angle (i := 0) (j := 2) hB (by omega) (by omega) ⟨hB.cs, sc_angle (i := 1) (j := 2) hB (by omega) (by omega) ?_⟩⟩⟩
    have av := fun i j hi hj => hok.1.e i j hi hj
    have a01 := av 0 1 (by omega) (by omega)
    have a02 := av 0 2 (by omega) (by omega)
    have a12 := av 1 2 (by omega) (by omega)
    rw [eb_let_iff, at_i ⟨a01.2.2.1, a01.2.1⟩ ⟨a02.2.2.1, a02.2.1⟩ ⟨a12.2.2.1, a12.2.1⟩, show 25 * ((Ds b).2.1 (4 * 0 + 1) - 2) + 5 * ((Ds b).2.1 (4 * 0 + 2) - 2) + ((Ds b).2.1 (4 * 1 + 2) - 2) = uAt (Ds b) from rfl]
    have c18 : g2 (ad 18) = some (eb_ia Γ 0 125 x.2) := hV.1.2.1 2 (by omega)
    refine st_gr (hV.1.2.1 0 (by omega)) (v := some (ad 18)) rfl (st_nn (st_li c18 hat (by omega) ?_))
    refine jp_3 (fun g _ _ => ∃ I' bd' x', cV Γ E g I' ad bd' x' Ds ∧ g Γ.2.2.2 = some (eb_ra Γ 8 0 fE) ∧ x'.2 (uAt (Ds b)) = nI (ulN (uAt (Ds b)))) ?_ ?_
    · rintro g _ _ ⟨I', bd', x', hV', hg, hx⟩
      refine st_gr (hV'.1.2.1 0 (by omega)) (v := some (ad 18)) rfl (st_nn (st_li (hV'.1.2.1 2 (by omega)) hat (by omega) ?_))
      rw [hx]
      exact hKs g (hV'.W rfl) hg
    · intro k31 hk31
      refine ⟨fun _ => ?_, fun z => hk31 _ _ _ ⟨I1, bd, x, hV, hV.fz _ _ hI1, by rcases hV.2.2.2.2.1 _ hat with w | w; exact absurd w z; rw [w, hUl]⟩⟩
      refine st_mk (by omega) (by omega) (fun pl s1 f1 g1 w1 => ?_)
      unfold MJ5_init MJ4_init MJ3_init
      refine st_pt w1 (by simp) (fun s2 g2' w2 => st_pt w2 (by simp) (fun s3 g3 w3 => ?_))
      have m1 : ∀ {x y : Nat}, ¬ x = y → x ∉ [y] := fun h z => h (List.mem_singleton.mp z)
      have k3 : ∀ {c : Nat} {y : va_E}, g2 c = some y → s3 c = some y := fun {c y} hc => by
        have nc : ¬ c = pl := fun z => by rw [z, f1] at hc; exact absurd hc (by simp)
        exact g3 _ _ (g2' _ _ (g1 _ _ hc List.not_mem_nil) (m1 nc)) (m1 nc)
      have kV : ∀ g, (∀ c y, g2 c = some y → g c = some y) → cV Γ E g I1 ad bd x Ds := fun g hg => hV.keep (I' := I1) hE (W := []) (fun c y hc _ => hg c y hc) (fun w hw => absurd hw List.not_mem_nil) (fun _ _ z => z) (fun _ _ z => Or.inl z)
      obtain ⟨gp, gp1, gp2⟩ := (hV.grp hb hk).2 hz
      refine jp_3 (fun g _ _ => uLv Γ (Ds b) I1 g2 pl 7 g) ?_ ?_
      · rintro g u w ⟨n, arr, e, σ, J, hIJ, hJ, hAL, hpa, hn, hfo, hcov, hG1, hG2, hG3⟩
        have hVg := kV g hG1
        refine st_gr (hVg.1.2.1 0 (by omega)) (v := some (ad 18)) rfl ⟨st_cs hAL.1 (by simp), ?_⟩
        unfold MJ5_size
        refine st_gi hAL.1 rfl (st_nn (st_wi (hVg.1.2.1 2 (by omega)) hat (by omega) (fun g' h1 h2 => ?_)))
        have hul : nI n = nI (E.2.2 (uAt (Ds b))) := by
          rw [hUl, ulN_at hok, hn]
          rfl
        refine hk31 _ _ _ ⟨I1, bd, _, hVg.setU h1 h2 hul, ?_, ?_⟩
        · exact h1 _ _ (hVg.fz _ _ hI1) (fun z => hVg.ne0 (hVg.fz _ _ hI1) 18 (by omega) (List.mem_singleton.mp z))
        · show upd x.2 (uAt (Ds b)) (nI n) (uAt (Ds b)) = _
          rw [upd_eq, hul, hUl]
      · intro k48 hk48
        refine eb_loop4_i (fun x6 g u w => ∃ s, s ≤ 7 ∧ x6 = nI (s + 1) ∧ uLv Γ (Ds b) I1 g2 pl s g ∧ u ≤ 23 + 310 * s ∧ w ≤ 13663 + 12488 * s + 520 * trN s) (fun x6 _ _ _ => 10 - x6.toNatClampNeg) ?_ ⟨0, by omega, rfl, ⟨0, Γ.2.2.2, (fun _ => 0), (fun _ => 0), I1, fun _ _ z => z, fun c y hc => ⟨k3 (hV.fz _ _ hc), fun z => ?_, Or.inl rfl⟩, ⟨w3, Or.inl ⟨rfl, rfl⟩⟩, fun z => ?_, rfl, fun k hk => absurd hk (Nat.not_lt_zero _), fun j hj => absurd hj (Nat.not_lt_zero _), fun c y hc => k3 hc, f1, Or.inl rfl⟩, by omega, by show _ ≤ 13663 + 0 + 520 * 0; omega⟩
        · rintro R _ g u w ⟨s, hs, rfl, hL, hu, hw⟩ hR
          have htr := trN_le s (by omega)
          refine br_le (a := 8) (by omega) (by omega) (fun z => ?_) (fun z => ?_)
          · rw [show s = 7 by omega] at hL
            exact hk48 _ _ _ hL
          · have hG1 : ∀ c y, g2 c = some y → g c = some y := by
              obtain ⟨_, _, _, _, _, _, _, _, _, _, _, _, z, _⟩ := hL
              exact z
            have hXg := (kV g hG1).X hb hz gp1 gp2
            refine sc_ustep (a := fun j => ad (4 * b + j)) hok hXg hk hI1 (by omega) hL (by omega) ?_ (fun g' u' w' z1 z2 z3 => ?_)
            · have ts : trN (s + 1) = trN s + s := rfl
              have := trN_le (s + 1) (by omega)
              omega
            · rw [nI_1]
              refine hR _ _ _ _ ⟨s + 1, by omega, rfl, z1, by omega, ?_⟩ (by rw [nI_cl (by omega), nI_cl (by omega)]; omega)
              have ts : trN (s + 1) = trN s + s := rfl
              omega
        · have := hV.fz _ _ hc
          rw [z, f1] at this
          exact absurd this (by simp)
        · have := hV.fz _ _ hI1
          rw [← z, f1] at this
          exact absurd this (by simp)
  · have hKK := hK st (h.W rfl) hE0
    rw [gat3_no hab] at hKK
    exact sc_whyH hE h rfl (Or.inr ⟨Nat.le_refl _, Nat.le_refl _⟩) (fun _ => ⟨fun z => absurd z (by decide), fun _ => hKK⟩) (fun b hb e => absurd (by rw [e]; exact body_in hb) hab) (fun b hb e => absurd (by rw [e]; exact body_in hb) hab) (fun b hb e => absurd (by rw [e]; exact body_in hb) hab)
end UN
