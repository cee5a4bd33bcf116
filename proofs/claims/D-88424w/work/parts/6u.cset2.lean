set_option maxRecDepth 100000
section CSET2
variable {Γ : eb_C} {E : cET} {st st' : eb_S} {I I' : Nat → va_E → Prop} {ad : Nat → Nat} {bd : Nat → cBT} {x : cXT} {Ds : Nat → eb_D} {p bc bs : Nat}
theorem sc_isMirror {a i : Int32} {K : Int32 → Prop} (h : cV Γ E st I ad bd x Ds) (hp : ad 16 = p) (h1 : ∀ b m, b < 4 → a = nI b → m < (Ds b).1 → i = nI m → K 1) (h0 : (∀ b m, b < 4 → a = nI b → m < (Ds b).1 → ¬ i = nI m) → K 0) : MX0_isMirror Γ st p a i K := by
  subst hp
  unfold MX0_isMirror
  refine sc_isBody (fun hba => ⟨fun z => absurd z (by decide), fun _ => ?_⟩) (fun hb => ⟨fun _ => h0 (fun b m hb' e _ _ => hb (by rw [e]; exact body_in hb')), fun z => absurd rfl z⟩)
  obtain ⟨b, hb, rfl⟩ : ∃ b : Nat, b < 4 ∧ a = nI b := (body_or a).resolve_right (fun w => w hba)
  have hv := h.v hb
  have hr := hv.1
  refine h.at hb ((h.body hb).r ?_)
  rw [show nI (Ds b).1 - 1 = nI ((Ds b).1 - 1) from nI_sub (b := 1) (by omega)]
  refine sc_in (fun hn => ⟨fun z => absurd z (by decide), fun _ => ?_⟩) (fun hn => ⟨fun _ => h0 (fun b' m hb' e hm z => hn ?_), fun z => absurd rfl z⟩)
  · obtain ⟨m, hm, rfl⟩ := nI_of (Int32.not_lt.mpr hn.1)
    have := (nI_leI hm (by omega)).mp hn.2
    exact h1 b m hb rfl (by omega) rfl
  · have : b = b' := (nI_eq (by omega) (by omega)).mp e
    subst this
    rw [z]
    exact ⟨nI_pos' (by omega), (nI_leI (by omega) (by omega)).mpr (by omega)⟩
theorem cW_about {a w i : Int32} {K : Int32 → Prop} (hW : cW Γ E st p Ds) (h2 : ¬ (∃ b, b < 4 ∧ a = nI b ∧ (w = 0 ∨ w = 1 ∨ (w = 2 ∧ ∃ x, x < (Ds b).1 ∧ i = nI x))) → K (-2))
    (h0 : ∀ b, b < 4 → a = nI b → w = 0 → K (nI (Ds b).1)) (h1 : ∀ b, b < 4 → a = nI b → w = 1 → K (nI (Ds b).2.2))
    (h3 : ∀ b x, b < 4 → a = nI b → w = 2 → x < (Ds b).1 → i = nI x → K (nI (jnp (Ds b).2.1 x (Ds b).1))) : MX0_about Γ st p a w i K := by
  obtain ⟨I, ad, bd, x, hp, h⟩ := hW
  subst hp
  unfold MX0_about
  refine sc_isBody (fun hba => ⟨fun z => absurd z (by decide), fun _ => ?_⟩) (fun hb => ⟨fun _ => h2 (fun ⟨b, hb', e, _⟩ => hb (by rw [e]; exact body_in hb')), fun z => absurd rfl z⟩)
  obtain ⟨b, hb, rfl⟩ : ∃ b : Nat, b < 4 ∧ a = nI b := (body_or a).resolve_right (fun w => w hba)
  have hv := h.v hb
  have hr := hv.1
  have un : ∀ {b' : Nat}, b' < 4 → nI b = nI b' → b = b' := fun h' z => (nI_eq (by omega) (by omega)).mp z
  refine sc_in (fun hn => ⟨fun z => absurd z (by decide), fun _ => ?_⟩) (fun hn => ⟨fun _ => h2 (fun z => hn ?_), fun z => absurd rfl z⟩)
  · refine jp_0 (w = 2 → ∃ x, x < (Ds b).1 ∧ i = nI x) (fun hx => ?_) (fun k hk => ?_)
    · refine ⟨fun hw => h.at hb ((h.body hb).r (h0 b hb rfl hw)), fun hw0 => ⟨fun hw => h.at hb ((h.body hb).g (h1 b hb rfl hw)), fun hw1 => ?_⟩⟩
      have hw2 : w = 2 := by
        obtain ⟨m, hm, rfl⟩ := nI_of (Int32.not_lt.mpr hn.1)
        have h4 : m ≤ 2 := (nI_leI hm (by omega : (2 : Nat) < 2147483648)).mp hn.2
        have c0 : ¬ m = 0 := fun z => hw0 (by rw [z]; rfl)
        have c1 : ¬ m = 1 := fun z => hw1 (by rw [z]; rfl)
        rw [show m = 2 by omega]; rfl
      obtain ⟨x, hx1, rfl⟩ := hx hw2
      exact h.at hb ⟨(h.body hb).cs, sc_joined hv (h.body hb) (by omega) (h3 b x hb rfl hw2 hx1 rfl)⟩
    · refine ⟨fun hw => ⟨h.cs0, ?_⟩, fun hw => hk (fun z => absurd z hw)⟩
      refine sc_isMirror h rfl (fun b' x hb' e hx hix => ?_) (fun hno => ?_)
      · have := un hb' e
        subst this
        exact ⟨fun z => absurd z (by decide), fun _ => hk (fun _ => ⟨x, hx, hix⟩)⟩
      · refine ⟨fun _ => h2 (fun z => ?_), fun z => absurd rfl z⟩
        obtain ⟨b', c1, c2, c3⟩ := z
        rcases c3 with c3 | c3 | ⟨-, x, c4, c5⟩
        · rw [c3] at hw; exact absurd hw (by decide)
        · rw [c3] at hw; exact absurd hw (by decide)
        · exact hno b' x c1 c2 c4 c5
  · obtain ⟨b', c1, c2, c3⟩ := z
    rcases c3 with rfl | rfl | ⟨rfl, -⟩ <;> decide
theorem cW_ring {a v : Int32} {K : Int32 → eb_S → Prop} (hR : cEr E) (hW : cW Γ E st p Ds) (h2 : ¬ (∃ b m, b < 4 ∧ a = nI b ∧ v = nI m ∧ 1 ≤ m ∧ m < 2 ^ (Ds b).1) → ∀ s, cW Γ E s p Ds → K (-2) s)
    (h1 : ∀ b m, b < 4 → a = nI b → v = nI m → 1 ≤ m → m < 2 ^ (Ds b).1 → ∀ s, cW Γ E s p (updD Ds b ((Ds b).1, (Ds b).2.1, m)) → K (nI (Ds b).2.2) s) : MX0_ring Γ st p a v K := by
  obtain ⟨I, ad, bd, x, hp, h⟩ := hW
  subst hp
  unfold MX0_ring
  refine sc_isBody (fun hba => ⟨fun z => absurd z (by decide), fun _ => ?_⟩) (fun hb => ⟨fun _ => h2 (fun ⟨b, m, hb', e, _⟩ => hb (by rw [e]; exact body_in hb')) _ (h.W rfl), fun z => absurd rfl z⟩)
  obtain ⟨b, hb, rfl⟩ : ∃ b : Nat, b < 4 ∧ a = nI b := (body_or a).resolve_right (fun w => w hba)
  have hv := h.v hb
  have hr := hv.1
  have h16 : 2 ^ (Ds b).1 ≤ 2 ^ 4 := Nat.pow_le_pow_right (by omega) hr.2
  have hp1 : 1 ≤ 2 ^ (Ds b).1 := Nat.one_le_two_pow
  refine h.at hb ⟨(h.body hb).cs, sc_all hv (h.body hb) ?_⟩
  refine sc_in (fun hn => ⟨fun z => absurd z (by decide), fun _ => ?_⟩) (fun hn => ⟨fun _ => h2 (fun z => hn ?_) _ (h.W rfl), fun z => absurd rfl z⟩)
  · obtain ⟨m, hm, rfl⟩ := nI_of (Int32.not_lt.mpr (Int32.le_trans (by decide : (0 : Int32) ≤ 1) hn.1))
    have m1 : 1 ≤ m := (nI_leI (by omega : (1 : Nat) < 2147483648) hm).mp hn.1
    have m2 : m ≤ 2 ^ (Ds b).1 - 1 := (nI_leI hm (by omega)).mp hn.2
    have c0 := h.1.1 b 0 hb (by omega)
    have c2 := h.1.1 b 2 hb (by omega)
    rw [Nat.add_zero] at c0
    refine h.at hb ((h.body hb).g (h.at hb (st_pt c0 (by simp) (fun s1 g1 w1 => ?_))))
    have n16 : ∀ {i : Nat}, i < 19 → ¬ i = 4 * b → ad i ∉ [ad (4 * b)] := fun hi hne z => hne (h.1.2.2 _ _ hi (by omega) (List.mem_singleton.mp z))
    refine st_gr (g1 _ _ (h.1.2.1 0 (by omega)) (n16 (by omega) (by omega))) (v := some (ad 17)) rfl (st_nn (st_lr (g1 _ _ (h.1.2.1 1 (by omega)) (n16 (by omega) (by omega))) hb (by omega) ?_))
    rw [wR_b hb]
    refine st_nn ⟨st_cs w1 (by simp), ?_⟩
    refine sc_forgets w1 (by simp) (q2 := ad (4 * b + 2)) rfl (g1 _ _ c2 (n16 (by omega) (by omega))) (fun z => by have := h.1.2.2 _ _ (by omega) (by omega) z; omega) (fun s2 f2 g2 w2 k2 z2 => ?_)
    have hs : sf [ad (4 * b), ad (4 * b + 2)] st s2 := (g1.up (fun k hk => by rw [List.mem_singleton.mp hk]; simp)).tr g2
    obtain ⟨q1, ⟨q2, q3, q4⟩, q5, q6, q7, q8⟩ := h.2.2.1 b hb
    have hv' : vD ((Ds b).1, (Ds b).2.1, m) := ⟨hv.1, ⟨m1, by show m < 2 ^ (Ds b).1; omega⟩, hv.2.2⟩
    have hsA : sameA (Ds b) ((Ds b).1, (Ds b).2.1, m) := ⟨rfl, fun _ _ => rfl⟩
    have nb : ∀ {i : Nat}, i < 19 → ¬ i = 4 * b → ¬ i = 4 * b + 2 → ad i ∉ [ad (4 * b), ad (4 * b + 2)] := fun {i} hi h1' h2' z => by
      simp only [List.mem_cons, List.not_mem_nil, or_false] at z
      rcases z with z | z
      · exact h1' (h.1.2.2 _ _ hi (by omega) z)
      · exact h2' (h.1.2.2 _ _ hi (by omega) z)
    refine h1 b m hb rfl rfl m1 (by omega) s2 (cV.W (h.setD (d := (((bd b).1.1, nI m, (bd b).1.2.2), ((bd b).2.1.1, none, (bd b).2.1.2.2), (bd b).2.2.1, f2, (bd b).2.2.2.2)) hb (fun w hw => ?_) hs (fun j hj => ?_) _ ⟨hv', ⟨q2, rfl, q4⟩, ?_, fun s q hs' hq => ?_, fun y z => absurd z (by simp), fun y z => ?_⟩ (fun g hg => ⟨hg, hsA⟩)) rfl)
    · simp only [List.mem_cons, List.not_mem_nil, or_false] at hw
      rcases hw with z | z
      · exact ⟨0, by omega, z⟩
      · exact ⟨2, by omega, z⟩
    · match j, hj with
      | 0, _ => exact w2
      | 1, _ => exact hs _ _ (h.1.1 b 1 hb (by omega)) (nb (by omega) (by omega) (by omega))
      | 2, _ => exact k2
      | 3, _ => exact hs _ _ (h.1.1 b 3 hb (by omega)) (nb (by omega) (by omega) (by omega))
    · refine q5.imp id (fun z => ?_)
      rw [← hsA.T.1, ← hsA.T.2]
      exact z
    · have := z2 s hs'
      have e : f2 s = some q := hq
      rw [this] at e
      exact absurd e (by simp)
    · exact hR _ _ _ _ _ hv hv' hsA (q8 y z)
  · obtain ⟨b', m, hb', e, rfl, m1, m2⟩ := z
    have : b = b' := (nI_eq (by omega) (by omega)).mp e
    subst this
    exact ⟨(nI_leI (by omega : (1 : Nat) < 2147483648) (by omega)).mpr m1, (nI_leI (by omega) (by omega)).mpr (by omega)⟩
theorem cW_angle {a i j m : Int32} {K : Int32 → eb_S → Prop} (hW : cW Γ E st p Ds)
    (h2 : ¬ (∃ b x y v, b < 4 ∧ a = nI b ∧ x < (Ds b).1 ∧ i = nI x ∧ y < (Ds b).1 ∧ j = nI y ∧ ¬ x = y ∧ 2 ≤ v ∧ v ≤ 6 ∧ m = nI v) → ∀ s, cW Γ E s p Ds → K (-2) s)
    (h1 : ∀ b x y v, b < 4 → a = nI b → x < (Ds b).1 → i = nI x → y < (Ds b).1 → j = nI y → ¬ x = y → 2 ≤ v → v ≤ 6 → m = nI v → ∀ s, cW Γ E s p (updD Ds b (setA (Ds b) x y v)) → K (nI ((Ds b).2.1 (4 * x + y))) s) : MX0_angle Γ st p a i j m K := by
  obtain ⟨I, ad, bd, x, hp, h⟩ := hW
  subst hp
  unfold MX0_angle
  refine ⟨h.cs0, sc_isMirror h rfl (fun b x1 hb hab hx hix => ?_) (fun hno => ?_)⟩
  rotate_left
  · exact jp_0 True (fun _ => h2 (fun ⟨b, x, y, v, c1, c2, c3, c4, _⟩ => hno b x c1 c2 c3 c4) _ (h.W rfl)) (fun k hk => ⟨fun _ => hk trivial, fun z => absurd rfl z⟩)
  have un : ∀ {b' : Nat}, b' < 4 → a = nI b' → b' = b := fun h' z => (nI_eq (by omega) (by omega)).mp (z.symm.trans hab)
  refine jp_0 (¬ (∃ b x y v, b < 4 ∧ a = nI b ∧ x < (Ds b).1 ∧ i = nI x ∧ y < (Ds b).1 ∧ j = nI y ∧ ¬ x = y ∧ 2 ≤ v ∧ v ≤ 6 ∧ m = nI v)) (fun hn => h2 hn _ (h.W rfl)) (fun k hk => ⟨fun z => absurd z (by decide), fun _ => ⟨h.cs0, ?_⟩⟩)
  have hv := h.v hb
  have hr := hv.1
  refine sc_isMirror h rfl (fun b' y hb' hab' hy hjy => ?_) (fun hno => ⟨fun _ => hk (fun ⟨b, x, y, v, c1, c2, c3, c4, c5, c6, _⟩ => hno b y c1 c2 c5 c6), fun z => absurd rfl z⟩)
  have := un hb' hab'
  subst this
  refine ⟨fun z => absurd z (by decide), fun _ => ?_⟩
  rw [hix, hjy]
  refine br_eq (by omega) (by omega) (fun hxy => hk (fun ⟨b, x, y', v, c1, c2, c3, c4, c5, c6, c7, _⟩ => ?_)) (fun hxy => ?_)
  · have e0 := un c1 c2
    subst e0
    have e1 := (nI_eq (by omega) (by omega)).mp (hix.symm.trans c4)
    have e2 := (nI_eq (by omega) (by omega)).mp (hjy.symm.trans c6)
    omega
  · refine sc_in (fun hn => ⟨fun z => absurd z (by decide), fun _ => ?_⟩) (fun hn => ⟨fun _ => hk (fun ⟨b, x, y', v, c1, c2, c3, c4, c5, c6, c7, c8, c9, c10⟩ => hn ?_), fun z => absurd rfl z⟩)
    · obtain ⟨v, hvv, rfl⟩ := nI_of (Int32.not_lt.mpr (Int32.le_trans (by decide : (0 : Int32) ≤ 2) hn.1))
      have v1 : 2 ≤ v := (nI_leI (by omega : (2 : Nat) < 2147483648) hvv).mp hn.1
      have v2 : v ≤ 6 := (nI_leI hvv (by omega : (6 : Nat) < 2147483648)).mp hn.2
      have hK := h1 b' x1 y v hb hab hx hix hy hjy hxy v1 v2 rfl
      rw [hab]
      have c0 := h.1.1 b' 0 hb (by omega)
      have c1 := h.1.1 b' 1 hb (by omega)
      have c2 := h.1.1 b' 2 hb (by omega)
      rw [Nat.add_zero] at c0
      have hne : ∀ {i j : Nat}, i < 19 → j < 19 → ¬ i = j → ad i ∉ [ad j] := fun hi hj hne z => hne (h.1.2.2 _ _ hi hj (List.mem_singleton.mp z))
      refine h.at hb ⟨(h.body hb).cs, ?_⟩
      unfold MX1_turns
      refine ⟨(h.body hb).cs, sc_angle (h.body hb) (by omega) (by omega) ?_⟩
      rw [show (4 : Int32) * nI x1 + nI y = nI (4 * x1 + y) by rw [show (4 : Int32) = nI 4 from rfl, nI_mul, nI_add], show (4 : Int32) * nI y + nI x1 = nI (4 * y + x1) by rw [show (4 : Int32) = nI 4 from rfl, nI_mul, nI_add]]
      refine st_gr c0 (v := some (ad (4 * b' + 1))) rfl (st_nn (st_wi c1 (by omega) (by omega) (fun s1 g1 w1 => ?_)))
      have d0 := g1 _ _ c0 (hne (by omega) (by omega) (by omega))
      refine st_gr d0 (v := some (ad (4 * b' + 1))) rfl (st_nn (st_wi w1 (by omega) (by omega) (fun s2 g2 w2 => ?_)))
      have d0' := g2 _ _ d0 (hne (by omega) (by omega) (by omega))
      refine st_pt d0' (by simp) (fun s3 g3 w3 => st_pt w3 (by simp) (fun s4 g4 w4 => st_pt w4 (by simp) (fun s5 g5 w5 => ⟨st_cs w5 (by simp), ?_⟩)))
      have g35 : sf [ad (4 * b')] s2 s5 := (g3.tr g4).tr g5
      have g12 : sf [ad (4 * b' + 1)] st s2 := g1.tr g2
      have e2 := g35 _ _ (g12 _ _ c2 (hne (by omega) (by omega) (by omega))) (hne (by omega) (by omega) (by omega))
      have e1 := g35 _ _ w2 (hne (by omega) (by omega) (by omega))
      refine sc_forgets w5 (by simp) (q2 := ad (4 * b' + 2)) rfl e2 (fun z => by have := h.1.2.2 _ _ (by omega) (by omega) z; omega) (fun s6 f6 g6 w6 k6 z6 => ?_)
      have nin : ∀ {i j k : Nat}, i < 19 → j < 19 → k < 19 → ¬ i = j → ¬ i = k → ad i ∉ [ad j, ad k] := fun {i j k} hi hj hk h1' h2' z => by
        simp only [List.mem_cons, List.not_mem_nil, or_false] at z
        rcases z with z | z
        · exact h1' (h.1.2.2 _ _ hi hj z)
        · exact h2' (h.1.2.2 _ _ hi hk z)
      have hs : sf [ad (4 * b'), ad (4 * b' + 1), ad (4 * b' + 2)] st s6 := ((g12.up (fun k hk => by rw [List.mem_singleton.mp hk]; simp)).tr (g35.up (fun k hk => by rw [List.mem_singleton.mp hk]; simp))).tr (g6.up (fun k hk => by
        simp only [List.mem_cons, List.not_mem_nil, or_false] at hk
        rcases hk with z | z <;> rw [z] <;> simp))
      obtain ⟨q1, ⟨q2, q3, q4⟩, q5, q6, q7, q8⟩ := h.2.2.1 b' hb
      have hv' := vD_setA hv hx hy hxy v1 v2
      refine hK s6 (cV.W (h.setD (d := (((bd b').1.1, (bd b').1.2.1, 0), (none, none, none), upd (upd (bd b').2.2.1 (4 * x1 + y) (nI v)) (4 * y + x1) (nI v), f6, (bd b').2.2.2.2)) hb (fun w hw => ?_) hs (fun j hj => ?_) _ ⟨hv', ⟨q2, q3, fun k hk => ?_⟩, Or.inl ⟨rfl, rfl⟩, fun s q hs' hq => ?_, fun y z => absurd z (by simp), fun y z => absurd z (by simp)⟩ (fun g hg => absurd hg (by simp))) rfl)
      · simp only [List.mem_cons, List.not_mem_nil, or_false] at hw
        rcases hw with z | z | z
        · exact ⟨0, by omega, z⟩
        · exact ⟨1, by omega, z⟩
        · exact ⟨2, by omega, z⟩
      · match j, hj with
        | 0, _ => exact w6
        | 1, _ => exact g6 _ _ e1 (nin (by omega) (by omega) (by omega) (by omega) (by omega))
        | 2, _ => exact k6
        | 3, _ =>
          refine hs _ _ (h.1.1 b' 3 hb (by omega)) (fun z => ?_)
          simp only [List.mem_cons, List.not_mem_nil, or_false] at z
          rcases z with z | z | z <;> have := h.1.2.2 _ _ (by omega) (by omega) z <;> omega
      · show upd (upd (bd b').2.2.1 (4 * x1 + y) (nI v)) (4 * y + x1) (nI v) k = nI (if k = 4 * x1 + y ∨ k = 4 * y + x1 then v else (Ds b').2.1 k)
        by_cases e1 : k = 4 * y + x1
        · rw [if_pos (Or.inr e1), e1, upd_eq]
        · rw [upd_ne e1]
          by_cases e2 : k = 4 * x1 + y
          · rw [if_pos (Or.inl e2), e2, upd_eq]
          · rw [upd_ne e2, if_neg (fun z => z.elim e2 e1)]
            exact q4 k hk
      · have := z6 s hs'
        have e : f6 s = some q := hq
        rw [this] at e
        exact absurd e (by simp)
    · rw [c10]
      exact ⟨(nI_leI (by omega : (2 : Nat) < 2147483648) (by omega)).mpr c8, (nI_leI (by omega) (by omega : (6 : Nat) < 2147483648)).mpr c9⟩
end CSET2
