set_option maxRecDepth 100000
/-! the dual: faces joined by an edge that both have -/
theorem cnB_img {M : Nat} {e : Nat → Nat} : ∀ (N : Nat) {P Q : Nat → Bool}, (∀ y, y < M → Q y = true → ∃ x, x < N ∧ P x = true ∧ e x = y) → cnB Q M ≤ cnB P N := by
  intro N
  induction N with
  | zero =>
    intro P Q h
    have : cnB Q M = 0 := by
      rw [cnB_cg (Q := fun _ => false) M (fun k hk => ?_)]
      · exact cnB_false (fun _ => rfl) M
      · cases hq : Q k with
        | false => rfl
        | true => obtain ⟨x, hx, _⟩ := h k hk hq; omega
    omega
  | succ N ih =>
    intro P Q h
    have hs : cnB P (N + 1) = cnB P N + b1 (P N) := rfl
    cases hp : P N with
    | false =>
      have := ih (P := P) (Q := Q) (fun y hy hq => by
        obtain ⟨x, hx, h1, h2⟩ := h y hy hq
        refine ⟨x, ?_, h1, h2⟩
        by_cases z : x = N
        · rw [z, hp] at h1; exact Bool.noConfusion h1
        · omega)
      omega
    | true =>
      have h' := ih (P := P) (Q := fun y => and (Q y) (not (Nat.beq y (e N)))) (fun y hy hq => by
        have hq' : and (Q y) (not (Nat.beq y (e N))) = true := hq
        rw [Bool.and_eq_true] at hq'
        obtain ⟨x, hx, h1, h2⟩ := h y hy hq'.1
        refine ⟨x, ?_, h1, h2⟩
        by_cases z : x = N
        · rw [z] at h2
          rw [nbT h2.symm] at hq'
          exact Bool.noConfusion hq'.2
        · omega)
      have : cnB Q M ≤ cnB (fun y => and (Q y) (not (Nat.beq y (e N)))) M + 1 := by
        by_cases hv : e N < M ∧ Q (e N) = true
        · rw [cnB_set (P := fun y => and (Q y) (not (Nat.beq y (e N)))) (Q := Q) (v := e N) (by show and _ (not (Nat.beq _ _)) = false; rw [nbT rfl, Bool.not_true, Bool.and_false]) hv.2 (fun k hk => by show and _ (not (Nat.beq _ _)) = _; rw [nbF hk, Bool.not_false, Bool.and_true]) M hv.1]
          exact Nat.le_refl _
        · rw [cnB_cg (P := Q) (Q := fun y => and (Q y) (not (Nat.beq y (e N)))) M (fun k hk => by
            show _ = and _ (not (Nat.beq _ _))
            by_cases z : k = e N
            · have : Q k = false := by
                cases hq : Q k with
                | false => rfl
                | true => exact absurd ⟨by omega, by rw [← z]; exact hq⟩ hv
              rw [this]; rfl
            · rw [nbF z, Bool.not_false, Bool.and_true])]
          omega
      have hb : b1 true = 1 := rfl
      rw [hs, hp, hb]
      omega
section DU
variable {D : eb_D}
/-- both ends of an edge -/
theorem duA_u (h : ok3 D) (a c : Nat) : duA D a c = true ↔ ¬ a = c ∧ ∃ x d, x < NP D 0 ∧ jnd D x d = true ∧ FA D a x = true ∧ FA D a d = true ∧ FA D c x = true ∧ FA D c d = true := by
  have hk := (u_ok h.1 h.2.1 h.2.2).2.1
  have fk : ∀ {k g p a : Nat}, fP D k g = some p → p + offF D (fM D) k = a → kdD D k = true ∧ FkD D k g = a := fun {k g p a} h1 h2 => by
    unfold fP at h1
    unfold kdD FkD
    cases hh : isK D (fS k) with
    | false => rw [hh] at h1; exact absurd h1 (by simp)
    | true =>
      rw [hh] at h1
      have e : some (PN D (fS k) g) = some p := h1
      injection e with e
      exact ⟨rfl, by rw [e]; omega⟩
  rw [duA_iff]
  refine and_congr_right (fun hne => ⟨?_, ?_⟩)
  · rintro ⟨g, i, h', k, l, hg, hh, hi, hk3, hl3, hki, hli, ⟨p, e1, e2⟩, ⟨p1, f1, f2⟩, ⟨p2, f3, f4⟩⟩
    obtain ⟨k1, k2⟩ := fk f1 f2
    obtain ⟨l1, l2⟩ := fk f3 f4
    unfold eP at e1 e2
    have hin : inS D.2.2 i = true := by
      rw [← hk i hi]
      cases hh : isK D (2 ^ i) with
      | false => rw [hh] at e1; exact absurd e1 (by simp)
      | true => rfl
    rw [hk i hi, hin] at e1 e2
    have e1' : some (PN D (2 ^ i) g) = some p := e1
    have e2' : some (PN D (2 ^ i) h') = some p := e2
    injection e1' with e1'
    injection e2' with e2'
    have A := (u_ed h hi hin hg a).mp ⟨g, k, hg, hk3, k1, hki, rfl, k2⟩
    have B := (u_ed h hi hin hg c).mp ⟨h', l, hh, hl3, l1, hli, by unfold EkD; rw [e1', e2'], l2⟩
    exact ⟨_, _, (FA_lt h A.1).2, (jnd_hJ h.2.2 _ _).mpr ⟨g, i, hg, hi, hin, rfl, rfl⟩, A.1, A.2, B.1, B.2⟩
  · rintro ⟨x, d, hx, hj, a1, a2, b1, b2⟩
    obtain ⟨g, i, hg, hi, hin, e1, e2⟩ := (jnd_hJ h.2.2 _ _).mp hj
    rw [← e1] at a1 b1
    rw [← e2] at a2 b2
    obtain ⟨h1, k, hh1, hk3, k1, k2, k3, k4⟩ := (u_ed h hi hin hg a).mpr ⟨a1, a2⟩
    obtain ⟨h2, l, hh2, hl3, l1, l2, l3, l4⟩ := (u_ed h hi hin hg c).mpr ⟨b1, b2⟩
    have eq : ∀ y, eP D i y = some (EkD D i y) := fun y => by unfold eP EkD; rw [hk i hi, hin]; rfl
    have fq : ∀ {k y : Nat}, kdD D k = true → fP D k y = some (PN D (fS k) y) := fun {k y} z => by
      unfold kdD at z
      unfold fP
      rw [z]; rfl
    refine ⟨h1, i, h2, k, l, hh1, hh2, hi, hk3, hl3, k2, l2, ⟨EkD D i g, ?_, ?_⟩, ⟨_, fq k1, ?_⟩, ⟨_, fq l1, ?_⟩⟩
    · rw [eq, k3]
    · rw [eq, l3]
    · rw [← k4]; unfold FkD; omega
    · rw [← l4]; unfold FkD; omega
theorem duA_lt (h : ok3 D) {a c : Nat} (e : duA D a c = true) : a < duN D ∧ c < duN D := by
  obtain ⟨_, x, d, _, _, h1, _, h2, _⟩ := (duA_u h a c).mp e
  exact ⟨(FA_lt h h1).1, (FA_lt h h2).1⟩
theorem duA_solid (h : ok3 D) {a c : Nat} (e : duA D a c = true) : 3 ≤ uG D := by
  obtain ⟨h0, x, d, hx, _, h1, _, h2, _⟩ := (duA_u h a c).mp e
  by_cases hd : 3 ≤ uG D
  · exact hd
  · rcases u_flat h hd with ⟨z1, z2, z3⟩ | ⟨z1, z2, z3⟩
    · have e1 := ((z3 x hx).1 a).mp h1
      have e2 := ((z3 x hx).1 c).mp h2
      omega
    · have := (FA_lt h h1).1
      omega
/-- a face has at most as many joins as corners -/
theorem duA_dg (h : ok3 D) {f : Nat} (hf : f < duN D) (M : Nat) : cnB (duA D f) M ≤ 12 := by
  have hg := u_dg h
  have key : ∀ y, duA D f y = true → ∃ c j, c < NP D 0 ∧ j < uG D ∧ uF D c j = f ∧ uF D c (prI (uG D) j) = y := fun y hy => by
    have hd := duA_solid h hy
    obtain ⟨hne, x, d, hx, hj, h1, h2, h3, h4⟩ := (duA_u h f y).mp hy
    obtain ⟨i, hi, rfl⟩ := (u_jnd h hx).mp hj
    obtain ⟨s1, s2, s3, s4⟩ := u_sol h hd hx hi
    have A := (s3 f).mp ⟨h1, h2⟩
    have B := (s3 y).mp ⟨h3, h4⟩
    rcases A with A | A
    · rcases B with B | B
      · exact absurd (A.trans B.symm) hne
      · exact ⟨x, i, hx, hi, A.symm, B.symm⟩
    · rcases B with B | B
      · obtain ⟨j, hj', e⟩ := u_back h hx hi
        have ho := u_or h hx hi hj' e
        have hc1 := u_nb h hx hi
        obtain ⟨t1, t2, t3, t4⟩ := u_sol h hd hc1 hj'
        rw [e] at t3
        refine ⟨_, j, hc1, hj', ?_, ?_⟩
        · rcases (t3 f).mp ⟨h2, h1⟩ with z | z
          · exact z.symm
          · rw [ho, ← B] at z; exact absurd z hne
        · rw [ho, B]
      · exact absurd (A.trans B.symm) hne
  have hq := u_sz h hf
  have hex : ∀ c, ∃ y, c < NP D 0 → FA D f c = true → ∀ j, j < uG D → uF D c j = f → 3 ≤ uG D → uF D c (prI (uG D) j) = y := fun c => by
    by_cases z : c < NP D 0 ∧ 3 ≤ uG D ∧ ∃ j, j < uG D ∧ uF D c j = f
    · obtain ⟨z1, z2, j, z3, z4⟩ := z
      exact ⟨uF D c (prI (uG D) j), fun hc _ j' hj' e _ => by rw [u_finj h z2 z1 hj' z3 (e.trans z4.symm)]⟩
    · exact ⟨0, fun hc _ j hj e hd => absurd ⟨hc, hd, j, hj, e⟩ z⟩
  have hF : ¬ duN D = 0 := by omega
  refine Nat.le_trans (cnB_img (e := fun c => Classical.choose (hex c)) (NP D 0) (P := FA D f) (fun y _ hy => ?_)) (by omega)
  obtain ⟨c, j, hc, hj, e1, e2⟩ := key y hy
  have hfa : FA D f c = true := by rw [← e1]; exact u_FA h hF hc hj
  refine ⟨c, hc, hfa, ?_⟩
  show Classical.choose (hex c) = y
  rw [← Classical.choose_spec (hex c) hc hfa j hj e1 (duA_solid h hy), e2]
end DU
/-- faces joined by edges that were seen -/
def dBP (D : eb_D) (nb : Nat → Nat → Nat) (m i a b : Nat) : Prop := ¬ a = b ∧ ∃ x k, (x < m ∨ (x = m ∧ k < i)) ∧ x < NP D 0 ∧ k < uG D ∧ FA D a x = true ∧ FA D a (nb x k) = true ∧ FA D b x = true ∧ FA D b (nb x k) = true
noncomputable def dBB (D : eb_D) (nb : Nat → Nat → Nat) (m i a b : Nat) : Bool := @decide (dBP D nb m i a b) (Classical.propDecidable _)
theorem dBB_iff {D : eb_D} {nb : Nat → Nat → Nat} {m i a b : Nat} : dBB D nb m i a b = true ↔ dBP D nb m i a b := by unfold dBB; exact @decide_eq_true_iff _ (Classical.propDecidable _)
theorem dBP.sy {D : eb_D} {nb : Nat → Nat → Nat} {m i a b : Nat} (h : dBP D nb m i a b) : dBP D nb m i b a := by
  obtain ⟨h0, x, k, h1, h2, h3, h4, h5, h6, h7⟩ := h
  exact ⟨fun e => h0 e.symm, x, k, h1, h2, h3, h6, h7, h4, h5⟩
noncomputable def dN (D : eb_D) : Nat := if duN D = 0 then 1 else duN D
section DU2
variable {Γ : eb_C} {st st' : eb_S} {bc bs : Nat} {q p net pj pm ps pk pr pf : Nat} {D : eb_D} {fj fm f3 f4 fr ff : Nat → Int32}
theorem dN_b (h : ok3 D) : duN D ≤ dN D ∧ 1 ≤ dN D ∧ dN D ≤ 64 ∧ (¬ duN D = 0 → dN D = duN D) := by
  have := (u_N h).2
  unfold dN
  split
  · exact ⟨by omega, by omega, by omega, fun z => absurd (by assumption) z⟩
  · exact ⟨by omega, by omega, by omega, fun _ => rfl⟩
theorem hS.keep (h : hS Γ st q p net pj pm ps pk pr pf D fj fm f3 f4 fr ff) (k : ∀ {a : Nat} {y : va_E}, st a = some y → st' a = some y) : hS Γ st' q p net pj pm ps pk pr pf D fj fm f3 f4 fr ff := by
  obtain ⟨h1, h2, h3, h4, h5, h6, h7⟩ := h
  exact ⟨k h1, ⟨h2.1, k h2.2.1, k h2.2.2.1, k h2.2.2.2.1, h2.2.2.2.2⟩, k h3, k h4, h5, k h6, k h7⟩
theorem sc_dual {K : Option Nat → eb_S → Prop} (h : hS Γ st q p net pj pm ps pk pr pf D fj fm f3 f4 fr ff) (h3 : ok3 D) (hbc : 3 ≤ bc) (hbs : 1092 ≤ bs)
    (hK : ∀ s y pj' pm' fj' fm', sf [] st s → nC Γ s 9 y pj' pm' 16 (dN D) [] (duA D) fj' fm' → K (some y) s) : MX12_dual Γ bc bs st q K := by
  have hg := u_dg h3
  have hN := u_N h3
  obtain ⟨d1, d2, d3, d4⟩ := dN_b h3
  unfold MX12_dual
  refine st_mk (by omega) (by omega) (fun p1 s1 f1 g1 w1 => ?_)
  have hS1 : hS Γ s1 q p net pj pm ps pk pr pf D fj fm f3 f4 fr ff := h.keep (fun ha => g1 _ _ ha List.not_mem_nil)
  refine st_gi hS1.1 rfl ?_
  have hmax : ∀ {F : Int32 → Prop}, F (nI (dN D)) → MJ2_max 1 (nI (duN D)) F := fun {F} hF => by
    unfold MJ2_max
    unfold dN at hF
    refine br_lt (a := 1) (by omega) (by omega) (fun z => ?_) (fun z => ?_)
    · rw [if_neg (by omega)] at hF; exact hF
    · by_cases e : duN D = 0
      · rw [if_pos e] at hF; exact hF
      · rw [if_neg e, show duN D = 1 by omega] at hF; exact hF
  refine hmax ⟨2, 1088, ⟨by omega, by omega⟩, sc_netinit (w := 16) (Or.inl rfl) w1 (by omega) (by omega) (by omega) (Nat.le_refl _) (by omega) (fun s2 dj dm g2 fj0 fm0 hC0 => ?_)⟩
  have fjs : st dj = none := by
    cases hh : st dj with
    | none => rfl
    | some y => have := g1 _ _ hh List.not_mem_nil; rw [fj0] at this; exact absurd this (by simp)
  have fms : st dm = none := by
    cases hh : st dm with
    | none => rfl
    | some y => have := g1 _ _ hh List.not_mem_nil; rw [fm0] at this; exact absurd this (by simp)
  have k2 : ∀ s, sf [dj, dm] s2 s → ∀ {a : Nat} {y : va_E}, st a = some y → s a = some y := fun s hs {a y} ha => hs _ _ (g2 _ _ (g1 _ _ ha List.not_mem_nil) (fun z => by rw [List.mem_singleton.mp z, f1] at ha; exact absurd ha (by simp))) (fun z => by
    simp only [List.mem_cons, List.not_mem_nil, or_false] at z
    rcases z with z | z
    · rw [z, fjs] at ha; exact absurd ha (by simp)
    · rw [z, fms] at ha; exact absurd ha (by simp))
  obtain ⟨nb, n1, n2, n3⟩ := h.2.1.2.2.2.2.1
  have hdg : ∀ x, x < NP D 0 → cnB (jnd D x) (NP D 0) = uG D := fun x hx => u_deg h3 hx
  have nbj : ∀ {x k : Nat}, x < NP D 0 → k < uG D → fj (24 * x + k) = nI (nb x k) ∧ nb x k < NP D 0 ∧ jnd D x (nb x k) = true := fun hx hk => (n1 _ hx).2.2 _ (by rw [hdg _ hx]; exact hk)
  have sub : ∀ {m i a b : Nat}, dBP D nb m i a b → duA D a b = true := fun {m i a b} z => by
    obtain ⟨h0, x, k, _, h2, h3', h4, h5, h6, h7⟩ := z
    exact (duA_u h3 a b).mpr ⟨h0, x, nb x k, h2, (nbj h2 h3').2.2, h4, h5, h6, h7⟩
  have deg16 : ∀ x, x < dN D → cnB (duA D x) (dN D) ≤ 16 := fun x hx => by
    by_cases z : x < duN D
    · have := duA_dg h3 z (dN D); omega
    · have : cnB (duA D x) (dN D) ≤ 0 := by
        rw [cnB_cg (Q := fun _ => false) (dN D) (fun k hk => ?_), cnB_false (fun _ => rfl)]
        · exact Nat.le_refl _
        · cases hh : duA D x k with
          | false => rfl
          | true => exact absurd (duA_lt h3 hh).1 z
      omega
  refine jp_1 (fun s => ∃ fj' fm', sf [dj, dm] s2 s ∧ nC Γ s 9 p1 dj dm 16 (dN D) [] (dBB D nb (NP D 0) 0) fj' fm') ?_ ?_
  · rintro s ⟨fj', fm', hs, hC⟩
    refine hK s p1 dj dm fj' fm' (fun a y ha _ => k2 s hs ha) ?_
    obtain ⟨c1, c2, c3, c4, c5, c6⟩ := hC
    refine ⟨c1, c2, c3, c4, c5.cg (fun x y hx hy => Bool_ext ?_), c6⟩
    rw [dBB_iff]
    refine ⟨sub, fun z => ?_⟩
    obtain ⟨h0, x, d, hx, hj, z1, z2, z3, z4⟩ := (duA_u h3 _ _).mp z
    obtain ⟨k, hk, rfl⟩ := n2 x d hx (FA_lt h3 z2).2 hj
    rw [hdg x hx] at hk
    exact ⟨h0, x, k, Or.inl hx, hx, hk, z1, z2, z3, z4⟩
  · intro k13 hk13
    refine eb_loop2_i (fun u s => ∃ m fj' fm', m ≤ NP D 0 ∧ u = nI m ∧ sf [dj, dm] s2 s ∧ nC Γ s 9 p1 dj dm 16 (dN D) [] (dBB D nb m 0) fj' fm') (fun u _ => 1000 - u.toNatClampNeg) ?_ ⟨0, _, _, by omega, rfl, sf.rf _ _, hC0.1, hC0.2.1, hC0.2.2.1, hC0.2.2.2.1, hC0.2.2.2.2.1.cg (fun x y _ _ => ?_), hC0.2.2.2.2.2⟩
    · rintro R _ s ⟨m, fj', fm', hm, rfl, hs, hC⟩ hR
      have hSs := h.keep (k2 s hs)
      refine st_gr hSs.1 (v := some net) rfl (st_nn (st_ni hSs.2.1.1 hSs.2.1.2.1 rfl (br_le (by omega) (by omega) (fun z => ?_) (fun z => ?_))))
      · rw [show m = NP D 0 by omega] at hC
        exact hk13 _ ⟨fj', fm', hs, hC⟩
      have hmN : m < NP D 0 := by omega
      refine jp_1 (fun s => ∃ fj' fm', sf [dj, dm] s2 s ∧ nC Γ s 9 p1 dj dm 16 (dN D) [] (dBB D nb (m + 1) 0) fj' fm') ?_ ?_
      · rintro s ⟨fj', fm', hs, hC⟩
        rw [nI_1]
        exact hR _ _ ⟨m + 1, fj', fm', by omega, rfl, hs, hC⟩ (by rw [nI_cl (by omega), nI_cl (by omega)]; omega)
      intro k21 hk21
      refine eb_loop2_i (fun u s => ∃ i fj' fm', i ≤ uG D ∧ u = nI i ∧ sf [dj, dm] s2 s ∧ nC Γ s 9 p1 dj dm 16 (dN D) [] (dBB D nb m i) fj' fm') (fun u _ => 10 - u.toNatClampNeg) ?_ ⟨0, fj', fm', by omega, rfl, hs, hC⟩
      rintro R2 _ s ⟨i, fj', fm', hi, rfl, hs, hC⟩ hR2
      have hSs := h.keep (k2 s hs)
      refine st_gr hSs.1 (v := some net) rfl (st_nn ⟨hSs.2.1.cs, sc_ndeg hSs.2.1 hmN ?_⟩)
      rw [hdg m hmN]
      refine br_le (by omega) (by omega) (fun z => ?_) (fun z => ?_)
      · refine hk21 _ ⟨fj', fm', hs, hC.1, hC.2.1, hC.2.2.1, hC.2.2.2.1, hC.2.2.2.2.1.cg (fun x y _ _ => Bool_ext ?_), hC.2.2.2.2.2⟩
        rw [dBB_iff, dBB_iff]
        constructor
        · rintro ⟨h0, x, k, h1, h2⟩
          exact ⟨h0, x, k, Or.inl (by omega), h2⟩
        · rintro ⟨h0, x, k, h1, h2, h4, h5⟩
          exact ⟨h0, x, k, by omega, h2, h4, h5⟩
      have hiG : i < uG D := by omega
      obtain ⟨e1, e2, e3⟩ := nbj hmN hiG
      refine st_gr hSs.1 (v := some net) rfl (st_nn ⟨hSs.2.1.cs, sc_nat hSs.2.1 hmN (by omega) ?_⟩)
      rw [e1]
      -- on to the next neighbour
      have same : (∀ a b, FA D a m = true → FA D a (nb m i) = true → FA D b m = true → FA D b (nb m i) = true → a = b) → R2 (nI i + 1) s := fun hno => by
        rw [nI_1]
        refine hR2 _ _ ⟨i + 1, fj', fm', by omega, rfl, hs, hC.1, hC.2.1, hC.2.2.1, hC.2.2.2.1, hC.2.2.2.2.1.cg (fun x y _ _ => Bool_ext ?_), hC.2.2.2.2.2⟩ (by rw [nI_cl (by omega), nI_cl (by omega)]; omega)
        rw [dBB_iff, dBB_iff]
        constructor
        · rintro ⟨h0, x, k, h1, h2⟩
          exact ⟨h0, x, k, by omega, h2⟩
        · rintro ⟨h0, x, k, h1, h2, h4, h5, h6, h7, h8⟩
          refine ⟨h0, x, k, ?_, h2, h4, h5, h6, h7, h8⟩
          by_cases ex : x = m ∧ k = i
          · rw [ex.1] at h5 h7
            rw [ex.1, ex.2] at h6 h8
            exact absurd (hno _ _ h5 h6 h7 h8) h0
          · omega
      refine ⟨st_cs hSs.1 (by simp), sc_faceOf hSs h3 hmN e2 (fun f hf a1 a2 _ => ?_) (fun hno => ?_)⟩
      · refine jp_1 (fun v => (v = -1 ∧ ∀ b, FA D b m = true → FA D b (nb m i) = true → b = f) ∨ ∃ f', v = nI f' ∧ f' < duN D ∧ ¬ f' = f ∧ FA D f' m = true ∧ FA D f' (nb m i) = true) ?_ ?_
        · rintro _ (⟨rfl, hno⟩ | ⟨f', rfl, hf', hne, b1, b2⟩)
          · refine jp_1 (fun s' => s' = s) (fun s' e => ?_) (fun k hk => ⟨fun _ => hk _ rfl, fun z => absurd rfl z⟩)
            rw [e]
            exact same (fun a b z1 z2 z3 z4 => (hno a z1 z2).trans (hno b z3 z4).symm)
          · refine jp_1 (fun s => ∃ fj' fm', sf [dj, dm] s2 s ∧ nC Γ s 9 p1 dj dm 16 (dN D) [] (dBB D nb m (i + 1)) fj' fm') ?_ ?_
            · rintro s' ⟨fj1, fm1, hs', hC'⟩
              rw [nI_1]
              exact hR2 _ _ ⟨i + 1, fj1, fm1, by omega, rfl, hs', hC'⟩ (by rw [nI_cl (by omega), nI_cl (by omega)]; omega)
            · intro k43 hk43
              refine ⟨fun z => (nI_m1 (by omega) z).elim, fun _ => ⟨hC.cs, sc_joins (A := duA D) hC (by omega) (by omega) (fun x y _ _ => Bool_ext (by rw [dBB_iff, dBB_iff]; exact ⟨dBP.sy, dBP.sy⟩)) deg16 (fun x y _ _ z => sub (dBB_iff.mp z)) (fun _ => ⟨(duA_u h3 _ _).mpr ⟨fun e => hne e.symm, m, nb m i, hmN, e3, a1, a2, b1, b2⟩, (duA_u h3 _ _).mpr ⟨hne, m, nb m i, hmN, e3, b1, b2, a1, a2⟩⟩) (fun s' fj1 fm1 g' hC' => hk43 _ ⟨fj1, fm1, hs.tr g', hC'.1, hC'.2.1, hC'.2.2.1, hC'.2.2.2.1, hC'.2.2.2.2.1.cg (fun x y _ _ => Bool_ext ?_), hC'.2.2.2.2.2⟩)⟩⟩
              rw [nJ_iff, dBB_iff, dBB_iff]
              constructor
              · rintro (⟨h0, x, k, h1, h2⟩ | ⟨_, ⟨rfl, rfl⟩ | ⟨rfl, rfl⟩⟩)
                · exact ⟨h0, x, k, by omega, h2⟩
                · exact ⟨fun e => hne e.symm, m, i, by omega, hmN, hiG, a1, a2, b1, b2⟩
                · exact ⟨hne, m, i, by omega, hmN, hiG, b1, b2, a1, a2⟩
              · rintro ⟨h0, x', k, h1, h2, h4, h5, h6, h7, h8⟩
                by_cases ex : x' = m ∧ k = i
                · obtain ⟨rfl, rfl⟩ := ex
                  refine Or.inr ⟨fun e => hne e.symm, ?_⟩
                  -- two faces alone have both
                  have two : ∀ y, FA D y x' = true → FA D y (nb x' k) = true → y = f ∨ y = f' := fun y y1 y2 => by
                    have hd : 3 ≤ uG D := duA_solid h3 ((duA_u h3 f f').mpr ⟨fun e => hne e.symm, x', nb x' k, hmN, e3, a1, a2, b1, b2⟩)
                    obtain ⟨i', hi', e⟩ := (u_jnd h3 hmN).mp e3
                    rw [← e] at a2 b2 y2
                    obtain ⟨_, _, t3, _⟩ := u_sol h3 hd hmN hi'
                    have z1 := (t3 f).mp ⟨a1, a2⟩
                    have z2 := (t3 f').mp ⟨b1, b2⟩
                    have z3 := (t3 y).mp ⟨y1, y2⟩
                    omega
                  have := two _ h5 h6
                  have := two _ h7 h8
                  omega
                · exact Or.inl ⟨h0, x', k, by omega, h2, h4, h5, h6, h7, h8⟩
        · intro k49 hk49
          refine ⟨fun z => (nI_m1 (by omega) z).elim, fun _ => st_gr hSs.1 (v := some net) rfl (st_nn ⟨hSs.2.1.cs, sc_nat hSs.2.1 hmN (by omega) ?_⟩)⟩
          rw [e1]
          refine ⟨st_cs hSs.1 (by simp), sc_faceOf hSs h3 hmN e2 (fun f' hf' b1 b2 hne => hk49 _ (Or.inr ⟨f', rfl, hf', fun e => hne (by rw [e]), b1, b2⟩)) (fun hno => hk49 _ (Or.inl ⟨rfl, fun b z1 z2 => ?_⟩))⟩
          have hb := (FA_lt h3 z1).1
          exact (nI_eq (by omega) (by omega)).mp (hno b hb z1 z2)
      · refine jp_1 (fun v => v = -1) ?_ (fun k hk => ⟨fun _ => hk _ rfl, fun z => absurd rfl z⟩)
        rintro _ rfl
        refine jp_1 (fun s' => s' = s) (fun s' e => ?_) (fun k hk => ⟨fun _ => hk _ rfl, fun z => absurd rfl z⟩)
        rw [e]
        exact same (fun a b z1 z2 z3 z4 => by
          have hb := (FA_lt h3 z1).1
          exact (nI_m1 (by omega) (hno a hb z1 z2)).elim)
    · show false = _
      cases hh : dBB D nb 0 0 x y with
      | false => rfl
      | true =>
        obtain ⟨_, _, _, z, _⟩ := dBB_iff.mp hh
        omega
end DU2
