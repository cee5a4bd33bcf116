set_option maxRecDepth 100000
noncomputable def aUnlike (Ds : Nat → eb_D) (a : Int32) : Int32 := gat3 Ds a (fun b => nI (ulN (uAt (Ds b))))
def trN : Nat → Nat
  | 0 => 0
  | s + 1 => trN s + s
section UM
variable {Γ : eb_C} {E : cET} {st st' : eb_S} {I J : Nat → va_E → Prop} {bc bs : Nat} {ad : Nat → Nat} {bd : Nat → cBT} {x : cXT} {Ds : Nat → eb_D} {p : Nat} {D : eb_D}
/-- after s rings: the list of those that are unlike -/
def uLv (Γ : eb_C) (D : eb_D) (I : Nat → va_E → Prop) (G0 : eb_S) (pl s : Nat) (g : eb_S) : Prop :=
  ∃ (n arr : Nat) (e σ : Nat → Nat) (J : Nat → va_E → Prop), (∀ a y, I a y → J a y) ∧ (∀ a y, J a y → g a = some y ∧ ¬ a = pl ∧ (n = 0 ∨ ¬ a = arr)) ∧ aL Γ g pl arr n e ∧ ¬ pl = arr ∧ n = cnB (nwB (ulF D)) s ∧
    (∀ k, k < n → σ k < s ∧ ∃ pb, huE Γ J pb (e k) (rgD D (σ k + 1))) ∧ (∀ j, j < s → ∃ k, k < n ∧ ulF D (σ k) = ulF D j) ∧ (∀ b y, G0 b = some y → g b = some y) ∧ G0 pl = none ∧ (n = 0 ∨ G0 arr = none)
theorem sc_ustep {G0 : eb_S} {s pl U W : Nat} {a : Nat → Nat} {d : cBT} {gp : Nat} {fE : Nat → Option Nat} {kk : eb_S → Nat → Nat → Prop} (h3 : ok3 D) (hX : bX Γ st I a D d gp) (hk : d.1.2.2 = 1) (hE0 : I Γ.2.2.2 (eb_ra Γ 8 0 fE)) (hs : s < 7) (hL : uLv Γ D I G0 pl s st) (hU : U + 310 ≤ bc) (hW : W + 12488 + 520 * s ≤ bs)
    (hK : ∀ g u w, uLv Γ D I G0 pl (s + 1) g → u ≤ U + 310 → w ≤ W + 12488 + 520 * s → kk g u w) :
    eb_mk st (.inr (11, [.null, .null, .int 0, .null, .null, .null, .null])) 7 bc bs U W (fun p54 g55 => eb_cs g55 (a 0) [1] ∧ ∃ c58 s59 : Nat, ((U + 1) + c58 ≤ bc ∧ (W + 7) + s59 ≤ bs) ∧ MX1_ringedBy Γ c58 s59 g55 (a 0) (nI (s + 1)) (fun v56 g57 => eb_nn v56 (fun p60 => ∃ c63 s64 : Nat, ((((U + 1) + c58)) + c63 ≤ bc ∧ (((W + 7) + s59)) + s64 ≤ bs) ∧ MX12_init Γ c63 s64 g57 p54 p60 (fun g62 => eb_cs g62 pl [14] ∧ ∃ c67 s68 : Nat, (((((U + 1) + c58) + c63)) + c67 ≤ bc ∧ ((((W + 7) + s59) + s64)) + s68 ≤ bs) ∧ MJ5_iterator Γ c67 s68 g62 pl (fun v65 g66 => eb_jp4 (fun (x8_69 : Int32) (g70 : eb_S) (u71 : Nat) (w72 : Nat) => eb_jp3 (fun (g73 : eb_S) (u74 : Nat) (w75 : Nat) => kk g73 u74 w75) (fun k76 => eb_br (x8_69 = 0) (k76 g70 u71 w72) (eb_cs g70 pl [14] ∧ ∃ c79 s80 : Nat, (u71 + c79 ≤ bc ∧ w72 + s80 ≤ bs) ∧ MJ5_add Γ c79 s80 g70 pl p54 (fun v77 g78 => k76 g78 (u71 + c79) (w72 + s80))))) (fun k82 => eb_loop4 (fun r87 (x8_83 : Int32) (g84 : eb_S) (u85 : Nat) (w86 : Nat) => eb_nn v65 (fun p88 => eb_cs g84 p88 [15] ∧ MJ6_hasNext Γ g84 p88 (fun v89 => eb_br (v89 = 0) (k82 x8_83 g84 u85 w86) (eb_cs g84 p88 [15] ∧ MJ6_next Γ g84 p88 (fun v93 g94 => eb_nn v93 (fun p97 => eb_cs g94 p97 [11] ∧ (eb_jp4 (fun (s98 : Int32) (g99 : eb_S) (u100 : Nat) (w101 : Nat) => r87 s98 g99 u100 w101) (fun k102 => eb_br (x8_83 = 0) (k102 0 g94 u85 w86) (eb_cs g94 p54 [11] ∧ ∃ c105 s106 : Nat, (u85 + c105 ≤ bc ∧ w86 + s106 ≤ bs) ∧ MX12_isLike Γ c105 s106 g94 p54 p97 (fun v103 g104 => eb_br (v103 = 0) (k102 1 g104 (u85 + c105) (w86 + s106)) (k102 0 g104 (u85 + c105) (w86 + s106)))))))))))) 1 g66 (((((U + 1) + c58) + c63) + c67)) (((((W + 7) + s59) + s64) + s68)))))))) := by
  obtain ⟨n, arr, e, σ, J, hIJ, hJ, hAL, hpa, hn, hfo, hcov, hG1, hG2, hG3⟩ := hL
  have hn6 : n ≤ s := by rw [hn]; exact cnB_le _ _
  have m1 : ∀ {x y : Nat}, ¬ x = y → x ∉ [y] := fun h z => h (List.mem_singleton.mp z)
  have sy : ∀ {x y : Nat}, ¬ x = y → ¬ y = x := fun h z => h z.symm
  have hs2 : s + 1 < 2 ^ D.1 := by rw [h3.2.2]; show s + 1 < 8; omega
  have hok := ok3_rg h3 (s := s + 1) (by omega) (by omega)
  refine st_mk (by omega) (by omega) (fun q s1 f1 g1 w1 => ?_)
  have hX1 := hX.keep (I' := I) g1 (W := []) (fun w hw => absurd hw List.not_mem_nil) (fun _ _ z => z) (fun _ _ z => Or.inl z)
  have hJ1 : ∀ b y, J b y → s1 b = some y := fun b y hb => g1 _ _ (hJ b y hb).1 List.not_mem_nil
  refine ⟨hX1.body.cs, 4, 57, ⟨by omega, by omega⟩, sc_ringedBy hX1 hk (by omega) hs2 (Nat.le_refl _) (Nat.le_refl _) hIJ hJ1 (fun s2 a' d' g2 fa hX2 => st_nn ⟨273, 12410, ⟨by omega, by omega⟩, ?_⟩)⟩
  have oq : ownC J a' q := ⟨fun j hj z => by have := fa j hj; rw [z, w1] at this; exact absurd this (by simp), fun y hy => by have := (hJ q y hy).1; rw [f1] at this; exact absurd this (by simp)⟩
  refine sc_hullinit hX2 hok (g2 _ _ w1 List.not_mem_nil) oq (Nat.le_refl _) (Nat.le_refl _) (fun s3 I3 d3 net pj pm ps pk pr pf fj fm f3 f4 fr ff t w hX3 g3 hI3 hN3 hk3 hS3 hr3 hnew => ?_)
  -- what was known is kept
  have k3 : ∀ {b : Nat} {y : va_E}, st b = some y → s3 b = some y := fun {b y} hb => by
    have hb1 := g1 _ _ hb List.not_mem_nil
    refine g3 _ _ (g2 _ _ hb1 List.not_mem_nil) (fun z => ?_)
    simp only [List.mem_cons, List.not_mem_nil, or_false] at z
    rcases z with z | z | z
    · rw [z, f1] at hb; exact absurd hb (by simp)
    · have := fa 2 (by omega); rw [← z, hb1] at this; exact absurd this (by simp)
    · have := fa 3 (by omega); rw [← z, hb1] at this; exact absurd this (by simp)
  -- the hull's own cells
  have hc : ∀ {b : Nat} {y : va_E}, st b = some y → ¬ (b = q ∨ b = net ∨ b = pj ∨ b = pm ∨ b = ps ∨ b = pk ∨ b = pr ∨ b = pf) := fun {b y} hb z => by
    rcases z with z | z
    · rw [z, f1] at hb; exact absurd hb (by simp)
    · have := hnew b z
      rw [g2 _ _ (g1 _ _ hb List.not_mem_nil) List.not_mem_nil] at this
      exact absurd this (by simp)
  have pl3 := k3 hAL.1
  refine ⟨st_cs pl3 (by simp), 1, 4, ⟨by omega, by omega⟩, ?_⟩
  unfold MJ5_iterator
  refine st_mk (by omega) (by omega) (fun pi s4 f4' g4 w4 => ?_)
  have npl : ¬ pl = pi := st_ne pl3 f4'
  unfold MJ6_init
  refine st_pt w4 (by simp) (fun s5 g5 w5 => st_pt w5 (by simp) (fun s6 g6 w6 => st_gr w6 (v := some pl) rfl (st_nn ?_)))
  have pl6 := g6 _ _ (g5 _ _ (g4 _ _ pl3 List.not_mem_nil) (m1 npl)) (m1 npl)
  refine st_gi pl6 rfl (st_pt w6 (by simp) (fun s7 g7 w7 => ?_))
  have k7 : ∀ {b : Nat} {y : va_E}, s3 b = some y → s7 b = some y ∧ ¬ b = pi := fun {b y} hb => by
    have nb : ¬ b = pi := fun z => by rw [z, f4'] at hb; exact absurd hb (by simp)
    exact ⟨g7 _ _ (g6 _ _ (g5 _ _ (g4 _ _ hb List.not_mem_nil) (m1 nb)) (m1 nb)) (m1 nb), nb⟩
  generalize hJ2 : (fun b y => J b y ∨ (s3 b = some y ∧ (b = q ∨ b = net ∨ b = pj ∨ b = pm ∨ b = ps ∨ b = pk ∨ b = pr ∨ b = pf))) = J2
  have J2_3 : ∀ b y, J2 b y → s3 b = some y ∧ ¬ b = pl ∧ (n = 0 ∨ ¬ b = arr) := fun b y hb => by
    rw [← hJ2] at hb
    rcases hb with z | ⟨z1, z2⟩
    · obtain ⟨y1, y2, y3⟩ := hJ b y z
      exact ⟨k3 y1, y2, y3⟩
    · refine ⟨z1, fun z => hc hAL.1 (by rw [← z]; exact z2), ?_⟩
      rcases hAL.2 with ⟨y1, _⟩ | ⟨_, f, y1, _⟩
      · exact Or.inl y1
      · exact Or.inr (fun z => hc y1 (by rw [← z]; exact z2))
  have JJ2 : ∀ b y, J b y → J2 b y := fun b y hb => by rw [← hJ2]; exact Or.inl hb
  have hh2 : huE Γ J2 (a' 0) q (rgD D (s + 1)) := by
    rw [← hJ2]
    refine ⟨hok, net, pj, pm, ps, pk, pr, pf, fj, fm, f3, f4, fr, ff, t, w, fun g hg => ?_, hr3⟩
    obtain ⟨e1, e2, e3, e4, e5, e6, e7⟩ := hS3
    have k : ∀ {b : Nat} {y : va_E}, (b = q ∨ b = net ∨ b = pj ∨ b = pm ∨ b = ps ∨ b = pk ∨ b = pr ∨ b = pf) → s3 b = some y → g b = some y := fun hb hy => hg _ _ (Or.inr ⟨hy, hb⟩)
    exact ⟨k (by simp) e1, ⟨e2.1, k (by simp) e2.2.1, k (by simp) e2.2.2.1, k (by simp) e2.2.2.2.1, e2.2.2.2.2⟩, k (by simp) e3, k (by simp) e4, e5, k (by simp) e6, k (by simp) e7⟩
  have hAL7 : aL Γ s7 pl arr n e := ⟨(k7 pl3).1, hAL.2.imp id (fun ⟨z1, f, z2, z3⟩ => ⟨z1, f, (k7 (k3 z2)).1, z3⟩)⟩
  have J2_7 : ∀ b y, J2 b y → s7 b = some y := fun b y hb => (k7 (J2_3 b y hb).1).1
  have J2E : J2 Γ.2.2.2 (eb_ra Γ 8 0 fE) := JJ2 _ _ (hIJ _ _ hE0)
  have narr : ¬ pi = arr := fun z => by
    rcases hAL.2 with ⟨_, y1⟩ | ⟨_, f, y1, _⟩
    · rw [y1] at z
      exact (k7 (J2_3 _ _ J2E).1).2 z.symm
    · exact (k7 (k3 y1)).2 z.symm
  refine jp_4 (fun v g u' w' => v = nI (b1 (tal n (fun k => not (Nat.beq (ulF D s) (ulF D (σ k)))))) ∧ sf [pi] s7 g ∧ u' ≤ U + 279 + 5 * n ∧ w' ≤ W + 12478 + 520 * n) ?_ ?_
  · rintro _ g u' w' ⟨rfl, hg, hu', hw'⟩
    have kg : ∀ {b : Nat} {y : va_E}, s3 b = some y → g b = some y := fun hb => hg _ _ (k7 hb).1 (m1 (k7 hb).2)
    have hALg : aL Γ g pl arr n e := ⟨kg pl3, hAL.2.imp id (fun ⟨z1, f, z2, z3⟩ => ⟨z1, f, kg (k3 z2), z3⟩)⟩
    have ns : nwB (ulF D) s = tal n (fun k => not (Nat.beq (ulF D s) (ulF D (σ k)))) := by
      unfold nwB
      refine Bool_ext ⟨fun z => tal_of (fun k hk => ?_), fun z => tal_of (fun j hj => ?_)⟩
      · have := tal_spec z (σ k) (hfo k hk).1
        rw [Bool.not_eq_true'] at this ⊢
        rw [nbF]
        intro e1
        rw [nbT e1.symm] at this
        exact Bool.noConfusion this
      · obtain ⟨k, hk, ek⟩ := hcov j hj
        have := tal_spec z k hk
        rw [Bool.not_eq_true'] at this ⊢
        rw [nbF]
        intro e1
        rw [nbT (e1.symm.trans ek.symm)] at this
        exact Bool.noConfusion this
    have cs1 : cnB (nwB (ulF D)) (s + 1) = n + b1 (nwB (ulF D) s) := by rw [hn]; rfl
    rw [← ns]
    have stn : ∀ {b : Nat} {y : va_E}, st b = some y → g b = some y := fun hb => kg (k3 hb)
    refine jp_3 (fun g' u2 w2 => uLv Γ D I G0 pl (s + 1) g' ∧ u2 ≤ U + 310 ∧ w2 ≤ W + 12488 + 520 * s) (fun g' u2 w2 ⟨z1, z2, z3⟩ => hK g' u2 w2 z1 z2 z3) ?_
    intro k76 hk76
    have h520 : 520 * n ≤ 520 * s := Nat.mul_le_mul_left _ hn6
    cases hnew' : nwB (ulF D) s with
    | false =>
      rw [hnew'] at cs1
      have cs2 : cnB (nwB (ulF D)) (s + 1) = n := cs1
      refine ⟨fun _ => hk76 _ _ _ ⟨⟨n, arr, e, σ, J2, fun b y hb => JJ2 _ _ (hIJ _ _ hb), fun b y hb => ⟨kg (J2_3 b y hb).1, (J2_3 b y hb).2⟩, hALg, hpa, cs2.symm, fun k hk => ?_, fun j hj => ?_, fun b y hb => stn (hG1 b y hb), hG2, hG3⟩, by omega, by omega⟩, fun z => absurd rfl z⟩
      · obtain ⟨z1, pb, z2⟩ := hfo k hk
        exact ⟨by omega, pb, z2.mono JJ2⟩
      · by_cases ej : j = s
        · rw [ej]
          rw [ns] at hnew'
          have : ¬ ∀ k, k < n → not (Nat.beq (ulF D s) (ulF D (σ k))) = true := fun z => by
            rw [tal_of z] at hnew'
            exact Bool.noConfusion hnew'
          by_cases hex : ∃ k, k < n ∧ ulF D (σ k) = ulF D s
          · exact hex
          · exfalso
            refine this (fun k hk => ?_)
            rw [nbF (fun e1 => hex ⟨k, hk, e1.symm⟩)]
            rfl
        · exact hcov j (by omega)
    | true =>
      rw [hnew'] at cs1
      have cs2 : cnB (nwB (ulF D)) (s + 1) = n + 1 := cs1
      have qg := kg hS3.1
      have npq : ¬ q = pl := fun z => by have := hAL.1; rw [← z, f1] at this; exact absurd this (by simp)
      have nqa : ¬ q = arr := fun z => by
        rcases hAL.2 with ⟨_, y1⟩ | ⟨_, f, y1, _⟩
        · have := (hJ _ _ (hIJ _ _ hE0)).1
          rw [← y1, ← z, f1] at this
          exact absurd this (by simp)
        · rw [← z, f1] at y1; exact absurd y1 (by simp)
      refine ⟨fun z => absurd z (by decide), fun _ => ⟨st_cs hALg.1 (by simp), 1, 10, ⟨by omega, by omega⟩, ?_⟩⟩
      refine sc_ladd hALg (kg (J2_3 _ _ J2E).1) qg (by omega) hpa npq nqa (fun z => (J2_3 _ _ J2E).2.1 z.symm) (Nat.le_refl _) (Nat.le_refl _) (fun g' arr' g1' hor hne hpn hAL' => hk76 _ _ _ ?_)
      -- none of the frozen ones is the new array
      have nJ : ∀ b y, J2 b y → ¬ b = arr' := fun b y hb z => by
        rcases hor with w | w
        · rcases (J2_3 b y hb).2.2 with v | v
          · rcases hAL.2 with ⟨_, y1⟩ | ⟨y1, _⟩
            · exact hne (w.trans y1)
            · omega
          · exact v (z.trans w)
        · rw [← z, kg (J2_3 b y hb).1] at w; exact absurd w (by simp)
      have kg' : ∀ b y, J2 b y → g' b = some y := fun b y hb => g1' _ _ (kg (J2_3 b y hb).1) (fun z => by
        simp only [List.mem_cons, List.not_mem_nil, or_false] at z
        rcases z with z | z
        · exact (J2_3 b y hb).2.1 z
        · exact nJ b y hb z)
      refine ⟨⟨n + 1, arr', updN e n q, updN σ n s, J2, fun b y hb => JJ2 _ _ (hIJ _ _ hb), fun b y hb => ⟨kg' b y hb, (J2_3 b y hb).2.1, Or.inr (nJ b y hb)⟩, hAL', hpn, cs2.symm, fun k hk => ?_, fun j hj => ?_, fun b y hb => g1' _ _ (stn (hG1 b y hb)) (fun z => ?_), hG2, Or.inr ?_⟩, by omega, by omega⟩
      · by_cases ek : k = n
        · rw [ek, updN_eq, updN_eq]
          exact ⟨by omega, a' 0, hh2⟩
        · rw [updN_ne ek, updN_ne ek]
          obtain ⟨z1, pb, z2⟩ := hfo k (by omega)
          exact ⟨by omega, pb, z2.mono JJ2⟩
      · by_cases ej : j = s
        · exact ⟨n, by omega, by rw [updN_eq, ej]⟩
        · obtain ⟨k, hk, ek⟩ := hcov j (by omega)
          exact ⟨k, by omega, by rw [updN_ne (by omega)]; exact ek⟩
      · simp only [List.mem_cons, List.not_mem_nil, or_false] at z
        rcases z with z | z
        · rw [z, hG2] at hb; exact absurd hb (by simp)
        · rcases hor with w | w
          · rcases hG3 with v | v
            · rcases hAL.2 with ⟨_, y1⟩ | ⟨y1, _⟩
              · exact hne (w.trans y1)
              · omega
            · rw [z, w, v] at hb; exact absurd hb (by simp)
          · rw [← z, stn (hG1 b y hb)] at w; exact absurd w (by simp)
      · cases hh : G0 arr' with
        | none => rfl
        | some y =>
          exfalso
          rcases hor with w | w
          · rcases hG3 with v | v
            · rcases hAL.2 with ⟨_, y1⟩ | ⟨y1, _⟩
              · exact hne (w.trans y1)
              · omega
            · rw [w, v] at hh; exact absurd hh (by simp)
          · rw [stn (hG1 _ _ hh)] at w; exact absurd w (by simp)
  · intro k82 hk82
    exact sc_uloop (J := J2) hAL7 w7 (by omega) J2_7 (sy npl) narr (fun y hy => (k7 (J2_3 _ y hy).1).2 rfl) hh2 (fun k hk => by
      obtain ⟨z1, pb, z2⟩ := hfo k hk
      exact ⟨pb, z2.mono JJ2⟩) (by omega) (by omega) (fun g u w z1 z2 z3 => hk82 _ _ _ _ ⟨rfl, z1, by omega, by omega⟩)
end UM
