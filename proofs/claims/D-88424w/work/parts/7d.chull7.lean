set_option maxRecDepth 100000
section HI3
variable {Γ : eb_C} {st st' : eb_S} {I I' : Nat → va_E → Prop} {bc bs : Nat} {a : Nat → Nat} {D : eb_D} {d : cBT} {gp : Nat}
theorem cHB_0 (D : eb_D) : cHB D 0 0 = fun _ _ => false := by
  funext f c
  cases h : cHB D 0 0 f c with
  | false => rfl
  | true =>
    obtain ⟨g, k, _, _, _, z, _⟩ := cHB_iff.mp h
    omega
theorem rB_0 (N : Nat) : rB N (fun _ _ => false) (fun _ => 0) (fun _ => 0) := by
  have e : ∀ n, cnB (fun _ => false) n = 0 := cnB_false (fun _ => rfl)
  refine ⟨fun _ _ => 0, fun f hf => ?_⟩
  rw [e]
  exact ⟨rfl, by omega, fun k hk => absurd hk (Nat.not_lt_zero _), fun c _ h => Bool.noConfusion h⟩
theorem sc_hullinit {q : Nat} {K : eb_S → Prop} (h : bX Γ st I a D d gp) (h3 : ok3 D) (hq : st q = some (.inr (11, [.null, .null, .int 0, .null, .null, .null, .null]))) (hqO : ownC I a q) (hbc : 273 ≤ bc) (hbs : 12410 ≤ bs)
    (hK : ∀ st' I' d' net pj pm ps pk pr pf fj fm f3 f4 fr ff t w, bX Γ st' I' a D d' gp → sf [q, a 2, a 3] st st' → (∀ b y, I b y → I' b y) → (∀ b y, I' b y → I b y ∨ (st' b = some y ∧ st b = none)) → bKK d d' → hS Γ st' q (a 0) net pj pm ps pk pr pf D fj fm f3 f4 fr ff → rAll D t (fun _ => w) fr ff →
      (∀ x, (x = net ∨ x = pj ∨ x = pm ∨ x = ps ∨ x = pk ∨ x = pr ∨ x = pf) → st x = none) → K st') : MX12_init Γ bc bs st q (a 0) K := by
  have hNl := u_N h3
  have hv := h3.1
  have m1 : ∀ {x y : Nat}, ¬ x = y → x ∉ [y] := fun h z => h (List.mem_singleton.mp z)
  unfold MX12_init
  refine st_mk (by omega) (by omega) (fun ps s1 f1 g1 w1 => ?_)
  have nqs : ¬ q = ps := st_ne hq f1
  refine st_pt (g1 _ _ hq List.not_mem_nil) (by simp) (fun s2 g2 w2 => st_mk (by omega) (by omega) (fun pk s3 fk3 g3 w3 => ?_))
  have nqk : ¬ q = pk := st_ne w2 fk3
  have e2 := g2 _ _ w1 (m1 (fun z => nqs z.symm))
  have nsk : ¬ ps = pk := st_ne e2 fk3
  refine st_pt (g3 _ _ w2 List.not_mem_nil) (by simp) (fun s4 g4 w4 => st_pt w4 (by simp) (fun s5 g5 w5 => ?_))
  have es5 := g5 _ _ (g4 _ _ (g3 _ _ e2 List.not_mem_nil) (m1 (fun z => nqs z.symm))) (m1 (fun z => nqs z.symm))
  have ek5 := g5 _ _ (g4 _ _ w3 (m1 (fun z => nqk z.symm))) (m1 (fun z => nqk z.symm))
  have hs5 : sf [q] st s5 := ((((g1.up (fun _ z => absurd z List.not_mem_nil)).tr g2).tr (g3.up (fun _ z => absurd z List.not_mem_nil))).tr g4).tr g5
  have fks : st pk = none := by
    cases hh : st pk with
    | none => rfl
    | some y => have := g2 _ _ (g1 _ _ hh List.not_mem_nil) (m1 (fun z => nqk z.symm)); rw [fk3] at this; exact absurd this (by simp)
  have hX5 := h.keep (I' := I) hs5 (fun w hw => by rw [List.mem_singleton.mp hw]; exact hqO) (fun _ _ z => z) (fun _ _ z => Or.inl z)
  refine st_mk (by omega) (by omega) (fun net s6 f6 g6 w6 => ⟨4, 1000 + (NP D 0 * 24 + NP D 0), ⟨by omega, by omega⟩, ?_⟩)
  have nqn : ¬ q = net := st_ne w5 f6
  have nsn : ¬ ps = net := st_ne es5 f6
  have nkn : ¬ pk = net := st_ne ek5 f6
  have hX6 := hX5.keep (I' := I) g6 (W := []) (fun w hw => absurd hw List.not_mem_nil) (fun _ _ z => z) (fun _ _ z => Or.inl z)
  have onet := hX5.own f6
  have fns : st net = none := by
    cases hh : st net with
    | none => rfl
    | some y => have := hs5 _ _ hh (m1 (fun z => nqn z.symm)); rw [f6] at this; exact absurd this (by simp)
  refine sc_corners hX6 w6 onet.2 (fun j hj z => onet.1 j hj z.symm) (Nat.le_refl _) (Nat.le_refl _) (fun s7 I7 d7 pj pm fj fm hX7 g7 hI7 hN7 hk7 hp7 hC7 fj7 fm7 pjI pmI => ?_)
  -- own cells so far
  have osv : ∀ {x : Nat} {y : va_E}, s6 x = some y → ownC I a x → ownC I7 a x := fun hx ho => ho.mono hx hN7
  have oq6 : ownC I7 a q := osv (g6 _ _ w5 List.not_mem_nil) hqO
  have os6 : ownC I7 a ps := osv (g6 _ _ es5 List.not_mem_nil) (h.own f1)
  have ok6 : ownC I7 a pk := osv (g6 _ _ ek5 List.not_mem_nil) (h.own fks)
  have on7 : ownC I7 a net := osv w6 onet
  have oj7 : ownC I7 a pj := ⟨fun j hj z => by have := hX6.1.1 j hj; rw [z, fj7] at this; exact absurd this (by simp), pjI⟩
  have om7 : ownC I7 a pm := ⟨fun j hj z => by have := hX6.1.1 j hj; rw [z, fm7] at this; exact absurd this (by simp), pmI⟩
  have m3 : ∀ {x : Nat}, ¬ x = net → ownC I7 a x → x ∉ [net, a 2, a 3] := fun {x} h1 h2 z => by
    simp only [List.mem_cons, List.not_mem_nil, or_false] at z
    rcases z with z | z | z
    · exact h1 z
    · exact h2.1 2 (by omega) z.symm
    · exact h2.1 3 (by omega) z.symm
  have q7 := g7 _ _ (g6 _ _ w5 List.not_mem_nil) (m3 nqn oq6)
  have s7' := g7 _ _ (g6 _ _ es5 List.not_mem_nil) (m3 nsn os6)
  have k7' := g7 _ _ (g6 _ _ ek5 List.not_mem_nil) (m3 nkn ok6)
  -- what is new is not what was there
  have fr6 : ∀ {x : Nat}, s6 x = none → st x = none ∧ ¬ x = q ∧ ¬ x = ps ∧ ¬ x = pk ∧ ¬ x = net := fun {x} hx => by
    have nq : ¬ x = q := fun z => by rw [z, g6 _ _ w5 List.not_mem_nil] at hx; exact absurd hx (by simp)
    refine ⟨?_, nq, fun z => by rw [z, g6 _ _ es5 List.not_mem_nil] at hx; exact absurd hx (by simp), fun z => by rw [z, g6 _ _ ek5 List.not_mem_nil] at hx; exact absurd hx (by simp), fun z => by rw [z, w6] at hx; exact absurd hx (by simp)⟩
    cases hh : st x with
    | none => rfl
    | some y => have := g6 _ _ (hs5 _ _ hh (m1 nq)) List.not_mem_nil; rw [hx] at this; exact absurd this (by simp)
  obtain ⟨fjs, njq, njs, njk, njn⟩ := fr6 fj7
  obtain ⟨fms, nmq, nms, nmk, nmn⟩ := fr6 fm7
  refine st_pt q7 (by simp) (fun s8 g8 w8 => ?_)
  have k8 : ∀ {x : Nat} {y : va_E}, ¬ x = q → s7 x = some y → s8 x = some y := fun hx hy => g8 _ _ hy (m1 hx)
  have hC8 : nC Γ s8 10 net pj pm 24 (NP D 0) [] (jnd D) fj fm := ⟨hC7.1, k8 (fun z => nqn z.symm) hC7.2.1, k8 njq hC7.2.2.1, k8 nmq hC7.2.2.2.1, hC7.2.2.2.2⟩
  refine st_gr w8 (v := some net) rfl (st_nn (st_ni hC8.1 hC8.2.1 rfl ⟨?_, ?_⟩))
  · rw [show (8 : Int32) * nI (NP D 0) = nI (8 * NP D 0) from nI_mul 8 _]; exact st_ok1 (by omega)
  rw [show (8 : Int32) * nI (NP D 0) = nI (8 * NP D 0) from nI_mul 8 _, nI_cl (by omega)]
  refine st_mk (by omega) (by omega) (fun pr s9 f9 g9 w9 => ?_)
  have new8 : ∀ {x : Nat}, s8 x = none → s6 x = none ∧ ¬ x = pj ∧ ¬ x = pm := fun {x} hx => by
    have nq : ¬ x = q := fun z => by rw [z, w8] at hx; exact absurd hx (by simp)
    have nn : ¬ x = net := fun z => by rw [z, hC8.2.1] at hx; exact absurd hx (by simp)
    refine ⟨?_, fun z => by rw [z, hC8.2.2.1] at hx; exact absurd hx (by simp), fun z => by rw [z, hC8.2.2.2.1] at hx; exact absurd hx (by simp)⟩
    cases hh : s6 x with
    | none => rfl
    | some y =>
      have n2 : x ∉ [net, a 2, a 3] := fun z => by
        simp only [List.mem_cons, List.not_mem_nil, or_false] at z
        rcases z with z | z | z
        · exact nn z
        · have := hX7.1.1 2 (by omega)
          rw [← z] at this
          have := k8 nq this
          rw [hx] at this
          exact absurd this (by simp)
        · have := hX7.1.1 3 (by omega)
          rw [← z] at this
          have := k8 nq this
          rw [hx] at this
          exact absurd this (by simp)
      have := k8 nq (g7 _ _ hh n2)
      rw [hx] at this
      exact absurd this (by simp)
  obtain ⟨r6, nrj, nrm⟩ := new8 f9
  obtain ⟨frs, nrq, nrs, nrk, nrn⟩ := fr6 r6
  have hX8 : bX Γ s8 I7 a D d7 gp := hX7.keep (I' := I7) g8 (fun w hw => by rw [List.mem_singleton.mp hw]; exact oq6) (fun _ _ z => z) (fun _ _ z => Or.inl z)
  refine st_pt (g9 _ _ w8 List.not_mem_nil) (by simp) (fun s10 g10 w10 => ?_)
  have k10 : ∀ {x : Nat} {y : va_E}, ¬ x = q → s8 x = some y → s10 x = some y := fun hx hy => g10 _ _ (g9 _ _ hy List.not_mem_nil) (m1 hx)
  have hC10 : nC Γ s10 10 net pj pm 24 (NP D 0) [] (jnd D) fj fm := ⟨hC8.1, k10 (fun z => nqn z.symm) hC8.2.1, k10 njq hC8.2.2.1, k10 nmq hC8.2.2.2.1, hC8.2.2.2.2⟩
  refine st_gr w10 (v := some net) rfl (st_nn (st_ni hC10.1 hC10.2.1 rfl ⟨?_, ?_⟩))
  · rw [show (8 : Int32) * nI (NP D 0) = nI (8 * NP D 0) from nI_mul 8 _]; exact st_ok1 (by omega)
  rw [show (8 : Int32) * nI (NP D 0) = nI (8 * NP D 0) from nI_mul 8 _, nI_cl (by omega)]
  refine st_mk (by omega) (by omega) (fun pf s11 f11 g11 w11 => ?_)
  have f8f : s8 pf = none ∧ ¬ pf = pr ∧ ¬ pf = q := by
    have nq : ¬ pf = q := fun z => by rw [z, w10] at f11; exact absurd f11 (by simp)
    refine ⟨?_, fun z => by rw [z, g10 _ _ w9 (m1 nrq)] at f11; exact absurd f11 (by simp), nq⟩
    cases hh : s8 pf with
    | none => rfl
    | some y => have := k10 nq hh; rw [f11] at this; exact absurd this (by simp)
  obtain ⟨p6, nfj, nfm⟩ := new8 f8f.1
  obtain ⟨ffs, nfq, nfs, nfk, nfn⟩ := fr6 p6
  refine st_pt (g11 _ _ w10 List.not_mem_nil) (by simp) (fun s12 g12 w12 => ?_)
  have k12 : ∀ {x : Nat} {y : va_E}, ¬ x = q → s10 x = some y → s12 x = some y := fun hx hy => g12 _ _ (g11 _ _ hy List.not_mem_nil) (m1 hx)
  have o9 : ownC I7 a pr := hX8.own f9
  have hX10 : bX Γ s10 I7 a D d7 gp := hX8.keep (I' := I7) (W := [q]) ((g9.up (fun _ z => absurd z List.not_mem_nil)).tr g10) (fun w hw => by rw [List.mem_singleton.mp hw]; exact oq6) (fun _ _ z => z) (fun _ _ z => Or.inl z)
  have o11 : ownC I7 a pf := hX10.own f11
  have hX12 : bX Γ s12 I7 a D d7 gp := hX10.keep (I' := I7) (W := [q]) ((g11.up (fun _ z => absurd z List.not_mem_nil)).tr g12) (fun w hw => by rw [List.mem_singleton.mp hw]; exact oq6) (fun _ _ z => z) (fun _ _ z => Or.inl z)
  have hB12 : hB Γ s12 q (a 0) net pj pm ps pk pr pf D 0 (cHB D 0 0) fj fm (fun _ => 0) (fun _ => 0) (fun _ => 0) (fun _ => 0) := by
    rw [cHB_0]
    exact ⟨w12, ⟨hC10.1, k12 (fun z => nqn z.symm) hC10.2.1, k12 njq hC10.2.2.1, k12 nmq hC10.2.2.2.1, hC10.2.2.2.2⟩, k12 (fun z => nqs z.symm) (k10 (fun z => nqs z.symm) (k8 (fun z => nqs z.symm) s7')), k12 (fun z => nqk z.symm) (k10 (fun z => nqk z.symm) (k8 (fun z => nqk z.symm) k7')), rB_0 _, k12 nrq (g10 _ _ w9 (m1 nrq)), g12 _ _ w11 (m1 nfq)⟩
  have hO12 : ∀ x, (x = q ∨ x = net ∨ x = pj ∨ x = pm ∨ x = ps ∨ x = pk ∨ x = pr ∨ x = pf) → ownC I7 a x := fun x hx => by
    rcases hx with rfl | rfl | rfl | rfl | rfl | rfl | rfl | rfl
    · exact oq6
    · exact on7
    · exact oj7
    · exact om7
    · exact os6
    · exact ok6
    · exact o9
    · exact o11
  have hs12 : sf [q, a 2, a 3] st s12 := fun b y hb hw => by
    simp only [List.mem_cons, List.not_mem_nil, or_false] at hw
    have nq : ¬ b = q := fun z => hw (Or.inl z)
    refine k12 nq (k10 nq (k8 nq (g7 _ _ (g6 _ _ (hs5 _ _ hb (m1 nq)) List.not_mem_nil) (fun z => ?_))))
    simp only [List.mem_cons, List.not_mem_nil, or_false] at z
    rcases z with z | z
    · rw [z, fns] at hb; exact absurd hb (by simp)
    · exact hw (Or.inr z)
  have hne : hNe q net pj pm ps pk pr pf := by
    refine ⟨fun z => f8f.2.1 z.symm, fun x hx => ?_⟩
    rcases hx with rfl | rfl | rfl | rfl | rfl | rfl
    · exact ⟨fun z => nrq z.symm, fun z => nfq z.symm⟩
    · exact ⟨fun z => nrn z.symm, fun z => nfn z.symm⟩
    · exact ⟨fun z => nrj z.symm, fun z => nfj z.symm⟩
    · exact ⟨fun z => nrm z.symm, fun z => nfm z.symm⟩
    · exact ⟨fun z => nrs z.symm, fun z => nfs z.symm⟩
    · exact ⟨fun z => nrk z.symm, fun z => nfk z.symm⟩
  refine ⟨hX12.body.cs, 0, 0, ⟨by omega, by omega⟩, sc_partsX (s := 0) hX12 (isK_0 D hv).2 (Or.inl hp7) (fun s13 I13 d13 row f hX13 g13 hI13 hN13 hk13 hr13 hrI hf _ => ?_)⟩
  have own13 : ∀ {x : Nat}, ownC I7 a x → x ∉ [a 2, a 3] := fun {x} hx z => by
    simp only [List.mem_cons, List.not_mem_nil, or_false] at z
    rcases z with z | z
    · exact hx.1 2 (by omega) z.symm
    · exact hx.1 3 (by omega) z.symm
  have hB13 : hB Γ s13 q (a 0) net pj pm ps pk pr pf D 0 (cHB D 0 0) fj fm (fun _ => 0) (fun _ => 0) (fun _ => 0) (fun _ => 0) := by
    obtain ⟨b1, b2, b3, b4, b5, b6, b7⟩ := hB12
    exact ⟨g13 _ _ b1 (own13 oq6), ⟨b2.1, g13 _ _ b2.2.1 (own13 on7), g13 _ _ b2.2.2.1 (own13 oj7), g13 _ _ b2.2.2.2.1 (own13 om7), b2.2.2.2.2⟩, g13 _ _ b3 (own13 os6), g13 _ _ b4 (own13 ok6), b5, g13 _ _ b6 (own13 o9), g13 _ _ b7 (own13 o11)⟩
  have hO13 : ∀ x, (x = q ∨ x = net ∨ x = pj ∨ x = pm ∨ x = ps ∨ x = pk ∨ x = pr ∨ x = pf) → ownC I13 a x := fun x hx => by
    have hst : ∃ y, s12 x = some y := by
      obtain ⟨b1, b2, b3, b4, b5, b6, b7⟩ := hB12
      rcases hx with rfl | rfl | rfl | rfl | rfl | rfl | rfl | rfl
      · exact ⟨_, b1⟩
      · exact ⟨_, b2.2.1⟩
      · exact ⟨_, b2.2.2.1⟩
      · exact ⟨_, b2.2.2.2.1⟩
      · exact ⟨_, b3⟩
      · exact ⟨_, b4⟩
      · exact ⟨_, b6⟩
      · exact ⟨_, b7⟩
    obtain ⟨y, hy⟩ := hst
    exact (hO12 x hx).mono hy hN13
  refine sc_hfaces hX13 h3 hB13 hO13 ⟨⟨nsk, nqs, nqk⟩, ⟨fun z => nsn z.symm, fun z => nkn z.symm, fun z => nqn z.symm⟩, ⟨njs, njk, njq⟩, ⟨nms, nmk, nmq⟩, ⟨nrs, nrk, nrq⟩, ⟨nfs, nfk, nfq⟩⟩ hrI hf (by omega) (by omega) (fun s14 I14 d14 f3 f4 u w hX14 g14 hI14 hN14 hk14 hS14 hu hw => ?_)
  -- round each corner
  refine jp_1 (fun s => ∃ fr ff t w, sf [pr, pf] s14 s ∧ hS Γ s q (a 0) net pj pm ps pk pr pf D fj fm f3 f4 fr ff ∧ rAll D t w fr ff) ?_ ?_
  · rintro s15 ⟨fr, ff, t, w', g15, hS15, hr15⟩
    refine ⟨st_cs hS15.1 (by simp), 258, 1536, ⟨by omega, by omega⟩, sc_turnsAll hS15 hne h3 hr15 (Nat.le_refl _) (Nat.le_refl _) (fun s16 fr' ff' t' w'' g16 hS16 hr16 => ?_)⟩
    have hO14 : ∀ x, (x = pr ∨ x = pf) → ownC I14 a x := fun x hx => by
      have hx' : x = q ∨ x = net ∨ x = pj ∨ x = pm ∨ x = ps ∨ x = pk ∨ x = pr ∨ x = pf := by
        rcases hx with rfl | rfl <;> simp
      have hst : ∃ y, s13 x = some y := by
        rcases hx with rfl | rfl
        · exact ⟨_, hB13.2.2.2.2.2.1⟩
        · exact ⟨_, hB13.2.2.2.2.2.2⟩
      obtain ⟨y, hy⟩ := hst
      exact (hO13 x hx').mono hy hN14
    have g1416 : sf [pr, pf] s14 s16 := g15.tr g16
    have hX16 : bX Γ s16 I14 a D d14 gp := hX14.keep (I' := I14) g1416 (fun w hw => by
      simp only [List.mem_cons, List.not_mem_nil, or_false] at hw
      exact hO14 w hw) (fun _ _ z => z) (fun _ _ z => Or.inl z)
    -- new ones are new to what was there at first
    have hNall : ∀ b y, I14 b y → I b y ∨ st b = none := fun b y hb => by
      have up12 : ∀ b y, I13 b y → I b y ∨ st b = none := fun b y hb => by
        have up7 : ∀ b y, I7 b y → I b y ∨ st b = none := fun b y hb => by
          rcases hN7 b y hb with z | ⟨_, z⟩
          · exact Or.inl z
          · exact Or.inr (fr6 z).1
        rcases hN13 b y hb with z | ⟨_, z⟩
        · exact up7 b y z
        · refine Or.inr ?_
          cases hh : st b with
          | none => rfl
          | some y' =>
            have hbn : b ∉ [q, a 2, a 3] := fun w => by
              simp only [List.mem_cons, List.not_mem_nil, or_false] at w
              rcases w with w | w | w
              · exact (hO13 b (Or.inl w)).2 y hb
              · exact (hX13.2.2.2.2.2.2.1 b y hb).2 2 (by omega) w
              · exact (hX13.2.2.2.2.2.2.1 b y hb).2 3 (by omega) w
            have := hs12 _ _ hh hbn
            rw [z] at this
            exact absurd this (by simp)
      rcases hN14 b y hb with z | ⟨_, z⟩
      · exact up12 b y z
      · refine Or.inr ?_
        cases hh : st b with
        | none => rfl
        | some y' =>
          have hbn : b ∉ [q, a 2, a 3] := fun w => by
            simp only [List.mem_cons, List.not_mem_nil, or_false] at w
            rcases w with w | w | w
            · rw [w, hB13.1] at z; exact absurd z (by simp)
            · exact (hX14.2.2.2.2.2.2.1 b y hb).2 2 (by omega) w
            · exact (hX14.2.2.2.2.2.2.1 b y hb).2 3 (by omega) w
          have hb2 : b ∉ [a 2, a 3] := fun w => hbn (by
            simp only [List.mem_cons, List.not_mem_nil, or_false] at w ⊢
            exact Or.inr w)
          have := g13 _ _ (hs12 _ _ hh hbn) hb2
          rw [z] at this
          exact absurd this (by simp)
    refine hK s16 I14 d14 net pj pm ps pk pr pf fj fm f3 f4 fr' ff' t' w'' hX16 (fun b y hb hw => ?_) (fun b y z => hI14 _ _ (hI13 _ _ (hI7 _ _ z))) (fun b y hb => (hNall b y hb).imp id (fun z => ⟨hX16.fz _ _ hb, z⟩)) ((hk7.tr hk13).tr hk14) hS16 hr16 (fun x hx => ?_)
    · have k : ∀ {x : Nat}, st x = none → ¬ b = x := fun hx z => by rw [z, hx] at hb; exact absurd hb (by simp)
      have hwn := hw
      simp only [List.mem_cons, List.not_mem_nil, or_false] at hwn
      refine g1416 _ _ (g14 _ _ (g13 _ _ (hs12 _ _ hb hw) (fun z => ?_)) (fun z => ?_)) (fun z => ?_)
      · simp only [List.mem_cons, List.not_mem_nil, or_false] at z
        exact hwn (Or.inr z)
      · simp only [List.mem_cons, List.not_mem_nil, or_false] at z
        rcases z with z | z | z | z
        · exact hwn (Or.inl z)
        · exact k f1 z
        · exact k fks z
        · exact hwn (Or.inr z)
      · simp only [List.mem_cons, List.not_mem_nil, or_false] at z
        rcases z with z | z
        · exact k frs z
        · exact k ffs z
    · rcases hx with rfl | rfl | rfl | rfl | rfl | rfl | rfl
      · exact fns
      · exact fjs
      · exact fms
      · exact f1
      · exact fks
      · exact frs
      · exact ffs
  · intro k39 hk39
    have hg := u_dg h3
    refine eb_loop2_i (fun x3 s => ∃ m fr ff t w, m ≤ NP D 0 ∧ x3 = nI m ∧ sf [pr, pf] s14 s ∧ hS Γ s q (a 0) net pj pm ps pk pr pf D fj fm f3 f4 fr ff ∧ ∀ c, c < m → rOk D c (t c) (w c) fr ff ∧ t c < uG D ∧ (uG D < 3 → w c = true)) (fun x3 _ => 1000 - x3.toNatClampNeg) ?_ ⟨0, _, _, (fun _ => 0), (fun _ => true), by omega, rfl, sf.rf _ _, hS14, fun c hc => absurd hc (Nat.not_lt_zero _)⟩
    rintro R _ s ⟨m, fr, ff, t, w', hm, rfl, hs, hSs, hrow⟩ hR
    refine st_gr hSs.1 (v := some net) rfl (st_nn (st_ni hSs.2.1.1 hSs.2.1.2.1 rfl (br_le (by omega) (by omega) (fun h5 => hk39 _ ⟨fr, ff, t, w', hs, hSs, fun c hc => hrow c (by omega)⟩) (fun h5 => ⟨st_cs hSs.1 (by simp), sc_goesRound hSs hne h3 (by omega) (fun s' fr' ff' t1 w1' g' hS' ht1 hw1 hr1 ho => ?_)⟩))))
    rw [nI_1]
    refine hR _ _ ⟨m + 1, fr', ff', updN t m t1, updW w' m w1', by omega, rfl, hs.tr g', hS', fun c hc => ?_⟩ ?_
    · by_cases e : c = m
      · rw [e, updN_eq, updW_eq]; exact ⟨hr1, ht1, hw1⟩
      · rw [updN_ne e, updW_ne e]
        obtain ⟨z1, z2, z3⟩ := hrow c (by omega)
        exact ⟨rOk_out z1 hg.2 e ho, z2, z3⟩
    · rw [nI_cl (by omega), nI_cl (by omega)]; omega
end HI3
