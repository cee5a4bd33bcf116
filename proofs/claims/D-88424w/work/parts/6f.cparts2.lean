set_option maxRecDepth 100000
section CPB
variable {Γ : eb_C} {E : cET} {st st' : eb_S} {I I' : Nat → va_E → Prop} {ad : Nat → Nat} {bd : Nat → cBT} {x : cXT} {Ds : Nat → eb_D} {p bc bs : Nat}
theorem cV.bC {b : Nat} (h : cV Γ E st I ad bd x Ds) (hb : b < 4) : bC Γ st (fun j => ad (4 * b + j)) (bd b) := by
  refine ⟨fun j hj => ?_, fun i j hi hj e => ?_⟩
  · have := h.1.1 b j hb hj
    rw [this]
    match j, hj with
    | 0, _ => rfl
    | 1, _ => rfl
    | 2, _ => rfl
    | 3, _ => rfl
  · have := h.1.2.2 (4 * b + i) (4 * b + j) (by omega) (by omega) e
    omega
/-- two of a body's cells are changed, and more may stay as it is -/
theorem cV.setP {b s q : Nat} {f : Nat → Int32} (hE : cEm E) (h : cV Γ E st I ad bd x Ds) (hb : b < 4) (hs : sf [ad (4 * b + 2), ad (4 * b + 3)] st st') (hs16 : s < 16) (h2 : st' (ad (4 * b + 2)) = some (eb_ra Γ 6 16 (va_up (bd b).2.2.2.1 s (some q)))) (h3 : st' (ad (4 * b + 3)) = some (eb_ia Γ 0 16 (upd (bd b).2.2.2.2 s (nI (NP (Ds b) s))))) (hq : st q = none) (hqc : st' q = some (eb_ia Γ 3 (ZD (Ds b)) f)) (hf : ∀ h, h < ZD (Ds b) → f h = nI (PN (Ds b) s h)) (hz : ¬ ZD (Ds b) = 0) :
    cV Γ E st' (fun a y => I a y ∨ (a = q ∧ y = eb_ia Γ 3 (ZD (Ds b)) f)) ad (upB bd b ((bd b).1, (bd b).2.1, (bd b).2.2.1, va_up (bd b).2.2.2.1 s (some q), upd (bd b).2.2.2.2 s (nI (NP (Ds b) s)))) x Ds := by
  obtain ⟨h1, h2', h3', h4⟩ := h
  have hI : ∀ a y, I a y → (fun a y => I a y ∨ (a = q ∧ y = eb_ia Γ 3 (ZD (Ds b)) f)) a y := fun a y z => Or.inl z
  have ne : ∀ {i : Nat}, i < 19 → ¬ i = 4 * b + 2 → ¬ i = 4 * b + 3 → ad i ∉ [ad (4 * b + 2), ad (4 * b + 3)] := fun hi n2 n3 z => by
    simp only [List.mem_cons, List.not_mem_nil, or_false] at z
    rcases z with z | z
    · exact n2 (h1.2.2 _ _ hi (by omega) z)
    · exact n3 (h1.2.2 _ _ hi (by omega) z)
  refine ⟨⟨fun b' j' hb' hj' => ?_, fun j' hj' => hs _ _ (h1.2.1 j' hj') (ne (by omega) (by omega) (by omega)), h1.2.2⟩, fun a y hy => ?_, fun b' hb' => ?_, ?_⟩
  · by_cases e : b' = b
    · subst e
      rw [upB_eq]
      match j', hj' with
      | 0, _ => exact hs _ _ (h1.1 b' 0 hb' (by omega)) (ne (by omega) (by omega) (by omega))
      | 1, _ => exact hs _ _ (h1.1 b' 1 hb' (by omega)) (ne (by omega) (by omega) (by omega))
      | 2, _ => exact h2
      | 3, _ => exact h3
    · rw [upB_ne e]; exact hs _ _ (h1.1 b' j' hb' hj') (ne (by omega) (by omega) (by omega))
  · rcases hy with z | ⟨rfl, rfl⟩
    · exact ⟨hs _ _ (h2' a y z).1 (fun w => by
        simp only [List.mem_cons, List.not_mem_nil, or_false] at w
        rcases w with w | w
        · exact (h2' a y z).2 _ (by omega) w
        · exact (h2' a y z).2 _ (by omega) w), (h2' a y z).2⟩
    · refine ⟨hqc, fun i hi e => ?_⟩
      obtain ⟨y', hy'⟩ := h1.known hi
      rw [← e, hq] at hy'
      exact absurd hy' (by simp)
  · by_cases e : b' = b
    · subst e
      rw [upB_eq]
      obtain ⟨r1, r2, r3, r4, r5, r6⟩ := (h3' b' hb').mono hE hI
      refine ⟨r1, r2, r3, fun s' q' hs' hq' => ?_, r5, r6⟩
      by_cases es : s' = s
      · subst es
        have e1 : va_up (bd b').2.2.2.1 s' (some q) s' = some q' := hq'
        rw [vu_eq] at e1
        injection e1 with e1
        subst e1
        exact ⟨hz, ⟨f, Or.inr ⟨rfl, rfl⟩, hf⟩, upd_eq _ _ _⟩
      · have e1 : va_up (bd b').2.2.2.1 s (some q) s' = some q' := hq'
        rw [vu_ne es] at e1
        obtain ⟨z1, z2, z3⟩ := r4 s' q' hs' e1
        refine ⟨z1, z2, ?_⟩
        show upd (bd b').2.2.2.2 s (nI (NP (Ds b') s)) s' = _
        rw [upd_ne es]; exact z3
    · rw [upB_ne e]; exact (h3' b' hb').mono hE hI
  · obtain ⟨q1, q2, q3⟩ := h4
    refine ⟨fun a ha => ?_, q2, q3.imp id (fun ⟨D', net, g, r1, r2, r3, r4, r5, r6, ⟨y, r7⟩, r8⟩ => ⟨D', net, g, r1, r2, r3, r4, r5.mono hI, r6, ⟨y, hI _ _ r7⟩, fun b' hb' e1 e2 => ?_⟩)⟩
    · obtain ⟨y, hy⟩ := q1 a ha
      by_cases e : a = ad (4 * b + 2)
      · rw [e]; exact ⟨_, h2⟩
      · by_cases e' : a = ad (4 * b + 3)
        · rw [e']; exact ⟨_, h3⟩
        · exact ⟨y, hs _ _ hy (fun z => by
            simp only [List.mem_cons, List.not_mem_nil, or_false] at z
            rcases z with z | z
            · exact e z
            · exact e' z)⟩
    · by_cases e : b' = b
      · subst e
        rw [upB_eq] at e2
        exact r8 b' hb' e1 e2
      · rw [upB_ne e] at e2
        exact r8 b' hb' e1 e2
/-- what a body keeps while its parts are told -/
def bK (bd bd' : Nat → cBT) (b : Nat) : Prop := (bd' b).1 = (bd b).1 ∧ (bd' b).2.1 = (bd b).2.1 ∧ (∀ s, ¬ (bd b).2.2.2.1 s = none → ¬ (bd' b).2.2.2.1 s = none)
theorem bK.rf (bd : Nat → cBT) (b : Nat) : bK bd bd b := ⟨rfl, rfl, fun _ h => h⟩
theorem bK.tr {b1 b2 b3 : Nat → cBT} {b : Nat} (h : bK b1 b2 b) (h' : bK b2 b3 b) : bK b1 b3 b := ⟨h'.1.trans h.1, h'.2.1.trans h.2.1, fun s z => h'.2.2 s (h.2.2 s z)⟩
theorem sc_partsV {b s : Nat} {K : Option Nat → eb_S → Prop} (hE : cEm E) (h : cV Γ E st I ad bd x Ds) (hb : b < 4) (hk : (bd b).1.2.2 = 1) (hz : ¬ ZD (Ds b) = 0) (hs : s < 2 ^ (Ds b).1) (hroom : ¬ (bd b).2.2.2.1 s = none ∨ (2 ≤ bc ∧ 1000 ≤ bs))
    (hK : ∀ st' I' bd' q f, cV Γ E st' I' ad bd' x Ds → sf [ad (4 * b + 2), ad (4 * b + 3)] st st' → (∀ a y, I a y → I' a y) → (∀ a y, I' a y → I a y ∨ st a = none) → bK bd bd' b → (bd' b).2.2.2.1 s = some q → I' q (eb_ia Γ 3 (ZD (Ds b)) f) → (∀ h, h < ZD (Ds b) → f h = nI (PN (Ds b) s h)) → (bd' b).2.2.2.2 s = nI (NP (Ds b) s) → K (some q) st') : MX1_parts Γ bc bs st (ad (4 * b)) (nI s) K := by
  have hv := h.v hb
  have h16 : 2 ^ (Ds b).1 ≤ 2 ^ 4 := Nat.pow_le_pow_right (by omega) hv.1.2
  obtain ⟨g, g1, g2⟩ := (h.grp hb hk).2 hz
  obtain ⟨r1, r2, r3, r4, r5, r6⟩ := h.2.2.1 b hb
  refine sc_parts (a := fun j => ad (4 * b + j)) (h.bC hb) hv r2 g1 g2 h.fz hz hs hroom (fun q hq => ?_) (fun hq st' q f z1 z2 z3 z4 z5 z6 => ?_)
  · obtain ⟨-, ⟨f, q2, q3⟩, q4⟩ := r4 s q (by omega) hq
    exact hK st I bd q f h (sf.rf _ _) (fun _ _ z => z) (fun _ _ z => Or.inl z) (bK.rf _ _) hq q2 q3 q4
  · refine hK st' _ _ q f (h.setP hE hb z1 (by omega) z2 z3 z4 z5 z6 hz) z1 (fun _ _ z => Or.inl z) (fun a y z => z.imp id (fun w => by rw [w.1]; exact z4)) ⟨?_, ?_, fun s' hs' => ?_⟩ ?_ (Or.inr ⟨rfl, rfl⟩) z6 ?_
    · rw [upB_eq]
    · rw [upB_eq]
    · rw [upB_eq]
      show ¬ va_up (bd b).2.2.2.1 s (some q) s' = none
      by_cases e : s' = s
      · rw [e, vu_eq]; simp
      · rw [vu_ne e]; exact hs'
    · rw [upB_eq]; exact vu_eq _ _ _
    · rw [upB_eq]; exact upd_eq _ _ _
theorem sc_many1 {b s : Nat} {K : Int32 → eb_S → Prop} (hE : cEm E) (h : cV Γ E st I ad bd x Ds) (hb : b < 4) (hk : (bd b).1.2.2 = 1) (hz : ¬ ZD (Ds b) = 0) (hs : s < 2 ^ (Ds b).1) (hroom : ¬ (bd b).2.2.2.1 s = none ∨ (2 ≤ bc ∧ 1000 ≤ bs))
    (hK : ∀ st' I' bd', cV Γ E st' I' ad bd' x Ds → sf [ad (4 * b + 2), ad (4 * b + 3)] st st' → (∀ a y, I a y → I' a y) → (∀ a y, I' a y → I a y ∨ st a = none) → bK bd bd' b → ¬ (bd' b).2.2.2.1 s = none → K (nI (NP (Ds b) s)) st') : MX1_many Γ bc bs st (ad (4 * b)) (nI s) K := by
  have hv := h.v hb
  have h16 : 2 ^ (Ds b).1 ≤ 2 ^ 4 := Nat.pow_le_pow_right (by omega) hv.1.2
  unfold MX1_many
  refine ⟨(h.body hb).cs, bc, bs, ⟨by omega, by omega⟩, ?_⟩
  refine sc_partsV hE h hb hk hz hs hroom (fun st' I' bd' q f hV hs' hI hN hbk hq _ _ hn => ?_)
  have c0 := hV.1.1 b 0 hb (by omega)
  have c3 := hV.1.1 b 3 hb (by omega)
  rw [Nat.add_zero] at c0
  refine st_gr c0 (v := some (ad (4 * b + 3))) rfl (st_nn (st_li c3 (by omega) (by omega) ?_))
  rw [hn]
  exact hK st' I' bd' hV hs' hI hN hbk (by rw [hq]; simp)
theorem sc_least1 {b s l : Nat} {K : Int32 → eb_S → Prop} (hE : cEm E) (h : cV Γ E st I ad bd x Ds) (hb : b < 4) (hk : (bd b).1.2.2 = 1) (hz : ¬ ZD (Ds b) = 0) (hs : s < 2 ^ (Ds b).1) (hroom : ¬ (bd b).2.2.2.1 s = none ∨ (2 ≤ bc ∧ 1000 ≤ bs)) (hl : l < ZD (Ds b)) (hF : isF (Ds b) s l)
    (hK : ∀ st' I' bd', cV Γ E st' I' ad bd' x Ds → sf [ad (4 * b + 2), ad (4 * b + 3)] st st' → (∀ a y, I a y → I' a y) → (∀ a y, I' a y → I a y ∨ st a = none) → bK bd bd' b → ¬ (bd' b).2.2.2.1 s = none → K (nI l) st') : MX1_least Γ bc bs st (ad (4 * b)) (nI s) (nI (PN (Ds b) s l)) K := by
  have hv := h.v hb
  have hzl := ZD_le hv
  unfold MX1_least
  refine ⟨(h.body hb).cs, bc, bs, ⟨by omega, by omega⟩, ?_⟩
  refine sc_partsV hE h hb hk hz hs hroom (fun st' I' bd' q f hV hs' hI hN hbk hq hqI hf hn => ?_)
  refine eb_loop1_i (fun y => ∃ m, m ≤ l ∧ y = nI m) (fun y => 1000 - y.toNatClampNeg) ?_ ⟨0, by omega, rfl⟩
  rintro R y ⟨m, hm, rfl⟩ hR
  refine st_nn (st_li (hV.fz _ _ hqI) (by omega) (by omega) ?_)
  rw [hf m (by omega)]
  have p1 := PN_lt (Ds b) s (show m < ZD (Ds b) by omega)
  have p2 := PN_lt (Ds b) s hl
  have p3 := NP_le (Ds b) s
  refine br_eq (by omega) (by omega) (fun e => ?_) (fun e => ?_)
  · by_cases em : m = l
    · rw [em]; exact hK st' I' bd' hV hs' hI hN hbk (by rw [hq]; simp)
    · exact absurd e (isF_least hv hz hF hl (by omega))
  · rw [nI_1]
    have : ¬ m = l := fun z => e (by rw [z])
    refine hR _ ⟨m + 1, by omega, rfl⟩ ?_
    rw [nI_cl (by omega), nI_cl (by omega)]; omega
/-- cells that are not the world's are changed -/
theorem cV.keep2 {W : List Nat} (h : cV Γ E st I ad bd x Ds) (hs : sf W st st') (hW : ∀ w ∈ W, (∀ i, i < 19 → ¬ ad i = w) ∧ (∀ y, ¬ I w y) ∧ ∃ y, st' w = some y) : cV Γ E st' I ad bd x Ds := by
  obtain ⟨h1, h2, h3, h4⟩ := h
  refine ⟨h1.keep hs (fun w hw => (hW w hw).1), fun a y hy => ⟨hs _ _ (h2 a y hy).1 (fun z => (hW a z).2.1 y hy), (h2 a y hy).2⟩, h3, ?_⟩
  obtain ⟨q1, q2, q3⟩ := h4
  refine ⟨fun a ha => ?_, q2, q3⟩
  obtain ⟨y, hy⟩ := q1 a ha
  by_cases e : a ∈ W
  · exact (hW a e).2.2
  · exact ⟨y, hs _ _ hy e⟩
/-- which parts of a kind have an element of a part of another one -/
theorem sc_meets {b s s2 w : Nat} {K : Option Nat → eb_S → Prop} (hE : cEm E) (h : cV Γ E st I ad bd x Ds) (hb : b < 4) (hk : (bd b).1.2.2 = 1) (hz : ¬ ZD (Ds b) = 0) (hs : s < 2 ^ (Ds b).1) (hs2 : s2 < 2 ^ (Ds b).1) (hbc : 5 ≤ bc) (hbs : 2500 ≤ bs) (hw : w < 2147483648)
    (hK : ∀ st' I' bd' q f, cV Γ E st' I' ad bd' x Ds → (∀ a y, I a y → I' a y) → bK bd bd' b → st' q = some (eb_ia Γ 1 (NP (Ds b) s) f) → (∀ k, k < NP (Ds b) s → f k = nI (b1 (mkF (fun g => Nat.beq (PN (Ds b) s2 g) w) (PN (Ds b) s) (ZD (Ds b)) k))) → K (some q) st') : MX1_meets Γ bc bs st (ad (4 * b)) (nI s) (nI s2) (nI w) K := by
  have hv := h.v hb
  have hzl := ZD_le hv
  have hn := NP_le (Ds b) s
  have hn2 := NP_le (Ds b) s2
  obtain ⟨hG, he1, he2, he3⟩ := TD_ok hv hz
  unfold MX1_meets
  refine ⟨(h.body hb).cs, 2, 1000, ⟨by omega, by omega⟩, ?_⟩
  refine sc_many1 hE h hb hk hz hs (Or.inr ⟨Nat.le_refl _, Nat.le_refl _⟩) (fun s1 I1 bd1 hV1 _ hI1 _ hb1 hp1 => ?_)
  rw [nI_cl (show NP (Ds b) s < 2147483648 by omega)]
  refine ⟨st_ok1 (by omega), st_mk (by omega) (by omega) (fun pw t1 f1 g1 w1 => ?_)⟩
  have hVt := hV1.keep (I' := I1) hE g1 (W := []) (fun w hw => absurd hw List.not_mem_nil) (fun _ _ z => z) (fun _ _ z => Or.inl z)
  have hk1 : (bd1 b).1.2.2 = 1 := by rw [hb1.1]; exact hk
  have pwn : ∀ i, i < 19 → ¬ pw = ad i := fun i hi z => by
    obtain ⟨y, hy⟩ := hV1.1.known hi
    rw [← z, f1] at hy
    exact absurd hy (by simp)
  refine ⟨(hVt.body hb).cs, 0, 0, ⟨by omega, by omega⟩, ?_⟩
  refine sc_partsV hE hVt hb hk1 hz hs (Or.inl hp1) (fun s2' I2 bd2 q fq hV2 hf2 hI2 hN2 hb2 hq2 hqI hfq _ => ?_)
  have hk2 : (bd2 b).1.2.2 = 1 := by rw [hb2.1]; exact hk1
  refine ⟨(hV2.body hb).cs, 2, 1000, ⟨by omega, by omega⟩, ?_⟩
  refine sc_partsV hE hV2 hb hk2 hz hs2 (Or.inr ⟨Nat.le_refl _, Nat.le_refl _⟩) (fun s3 I3 bd3 r fr hV3 hf3 hI3 hN3 hb3 hr3 hrI hfr _ => ?_)
  have hk3 : (bd3 b).1.2.2 = 1 := by rw [hb3.1]; exact hk2
  obtain ⟨gp, gp1, gp2⟩ := (hV3.grp hb hk3).2 hz
  have pw3 : s3 pw = some (eb_ia Γ 1 (NP (Ds b) s) (fun _ => 0)) := by
    refine hf3 _ _ (hf2 _ _ w1 (fun z => ?_)) (fun z => ?_)
    · simp only [List.mem_cons, List.not_mem_nil, or_false] at z
      rcases z with z | z
      · exact pwn _ (by omega) z
      · exact pwn _ (by omega) z
    · simp only [List.mem_cons, List.not_mem_nil, or_false] at z
      rcases z with z | z
      · exact pwn _ (by omega) z
      · exact pwn _ (by omega) z
  -- the marks' cell is none of those that stay
  have pwI : ∀ y, ¬ I3 pw y := fun y hy => by
    rcases hN3 _ _ hy with z | z
    · rcases hN2 _ _ z with z' | z'
      · have := (hV1.2.1 _ _ z').1
        rw [f1] at this
        exact absurd this (by simp)
      · rw [w1] at z'
        exact absurd z' (by simp)
    · have : s2' pw = some (eb_ia Γ 1 (NP (Ds b) s) (fun _ => 0)) := hf2 _ _ w1 (fun z => by
        simp only [List.mem_cons, List.not_mem_nil, or_false] at z
        rcases z with z | z
        · exact pwn _ (by omega) z
        · exact pwn _ (by omega) z)
      rw [z] at this
      exact absurd this (by simp)
  have hI3' : ∀ t, sf [pw] s3 t → ∀ a y, I3 a y → t a = some y := fun t ht a y hy => ht _ _ (hV3.fz a y hy) (fun z => pwI y (by rw [← List.mem_singleton.mp z]; exact hy))
  have hqI3 : I3 q (eb_ia Γ 3 (ZD (Ds b)) fq) := hI3 _ _ hqI
  have c0 := hV3.1.1 b 0 hb (by omega)
  rw [Nat.add_zero] at c0
  refine jp_1 (fun t => ∃ f, sf [pw] s3 t ∧ t pw = some (eb_ia Γ 1 (NP (Ds b) s) f) ∧ ∀ k, k < NP (Ds b) s → f k = nI (b1 (mkF (fun g => Nat.beq (PN (Ds b) s2 g) w) (PN (Ds b) s) (ZD (Ds b)) k))) ?_ ?_
  · rintro t ⟨f, ht, htp, hf⟩
    refine hK t I3 bd3 pw f (hV3.keep2 ht (fun w hw => ?_)) (fun a y z => hI3 _ _ (hI2 _ _ (hI1 _ _ z))) ((hb1.tr hb2).tr hb3) htp hf
    rw [List.mem_singleton.mp hw]
    exact ⟨fun i hi z => pwn i hi z.symm, pwI, ⟨_, htp⟩⟩
  · intro k16 hk16
    refine eb_loop2_i (fun u t => ∃ m f, m ≤ ZD (Ds b) ∧ u = nI m ∧ sf [pw] s3 t ∧ t pw = some (eb_ia Γ 1 (NP (Ds b) s) f) ∧ ∀ k, k < NP (Ds b) s → f k = nI (b1 (mkF (fun g => Nat.beq (PN (Ds b) s2 g) w) (PN (Ds b) s) m k))) (fun u _ => 1000 - u.toNatClampNeg) ?_ ⟨0, _, by omega, rfl, sf.rf _ _, pw3, fun k hk => rfl⟩
    rintro R u t ⟨m, f, hm, rfl, ht, htp, hf⟩ hR
    have hIt := hI3' t ht
    have c0t := ht _ _ c0 (fun z => pwn (4 * b) (by omega) (List.mem_singleton.mp z).symm)
    refine st_gr c0t (v := some gp) (by rw [← gp1]; rfl) (st_nn (gp2.n hIt ?_))
    rw [he3]
    refine br_le (by omega) (by omega) (fun h2 => hk16 t ⟨f, ht, htp, fun k hk => by rw [hf k hk, show m = ZD (Ds b) by omega]⟩) (fun h2 => ?_)
    have p1 := PN_lt (Ds b) s (show m < ZD (Ds b) by omega)
    have p2 := PN_lt (Ds b) s2 (show m < ZD (Ds b) by omega)
    refine st_nn (st_li (hIt _ _ hrI) (by omega) (by omega) ?_)
    rw [hfr m (by omega)]
    refine jp_1 (fun t => ∃ f, sf [pw] s3 t ∧ t pw = some (eb_ia Γ 1 (NP (Ds b) s) f) ∧ ∀ k, k < NP (Ds b) s → f k = nI (b1 (mkF (fun g => Nat.beq (PN (Ds b) s2 g) w) (PN (Ds b) s) (m + 1) k))) ?_ ?_
    · rintro t ⟨f, ht, htp, hf⟩
      rw [nI_1]
      refine hR _ _ ⟨m + 1, f, by omega, rfl, ht, htp, hf⟩ ?_
      rw [nI_cl (by omega), nI_cl (by omega)]; omega
    · intro k26 hk26
      refine br_eq (by omega) hw (fun e => ?_) (fun e => ?_)
      · have hPm : (fun g => Nat.beq (PN (Ds b) s2 g) w) m = true := nbT e
        refine st_nn (st_li (hIt _ _ hqI3) (by omega) (by omega) ?_)
        rw [hfq m (by omega), nar_b1]
        refine st_wi htp p1 (by omega) (fun t' ht' wt' => ?_)
        refine hk26 t' ⟨_, ht.tr ht', wt', fun k hk => ?_⟩
        by_cases ek : k = PN (Ds b) s m
        · rw [ek, upd_eq, mkF_eq (P := fun g => Nat.beq (PN (Ds b) s2 g) w) (f := PN (Ds b) s) hPm]; rfl
        · rw [upd_ne ek, mkF_ne ek]; exact hf k hk
      · have hPm : (fun g => Nat.beq (PN (Ds b) s2 g) w) m = false := nbF e
        exact hk26 t ⟨f, ht, htp, fun k hk => by rw [mkF_no (P := fun g => Nat.beq (PN (Ds b) s2 g) w) hPm]; exact hf k hk⟩
/-- a kind of a body, as it is asked -/
theorem sc_isKind0 {a k : Int32} {K : Int32 → Prop} (h : cV Γ E st I ad bd x Ds) (hp : ad 16 = p) (h0 : (∀ b s, ¬ okK Ds a k b s) → K 0) (h1 : ∀ b s, okK Ds a k b s → s < 2 ^ (Ds b).1 → K 1) : MX0_isKind Γ st p a k K := by
  subst hp
  unfold MX0_isKind
  refine sc_isBody (fun hbd => ?_) (fun hbd => ⟨fun _ => h0 (fun b s z => hbd ?_), fun z => absurd rfl z⟩)
  · obtain ⟨b, hb, rfl⟩ : ∃ b : Nat, b < 4 ∧ a = nI b := (body_or a).resolve_right (fun z => z hbd)
    have hv := h.v hb
    have hr := hv.1
    have h16 : 2 ^ (Ds b).1 ≤ 2 ^ 4 := Nat.pow_le_pow_right (by omega) hr.2
    have hpos : 1 ≤ 2 ^ (Ds b).1 := Nat.one_le_two_pow
    have hB := h.body hb
    have bad : (∀ s, s < 16 → k = nI s → ¬ isK (Ds b) s = true) → K 0 := fun hn => h0 (fun b' s z => by
      obtain ⟨c1, c2, c3, c4, c5⟩ := z
      have e : b = b' := (nI_eq (by omega) (by omega)).mp c2
      subst e
      exact hn s c3 c4 c5)
    refine ⟨fun z => absurd z (by decide), fun _ => h.at hb ⟨hB.cs, sc_all hv hB ?_⟩⟩
    refine sc_in (fun hn => ?_) (fun hn => ?_)
    · refine ⟨fun z => absurd z (by decide), fun _ => ?_⟩
      obtain ⟨s, hs, rfl⟩ := nI_of (Int32.not_lt.mpr hn.1)
      have hs2 := (nI_leI hs (by omega)).mp hn.2
      refine h.at hb ⟨hB.cs, sc_isKind hv hB (by omega) ?_⟩
      refine cond_br (fun c => bad (fun s' hs' e => ?_)) (fun c => h1 b s ⟨hb, rfl, by omega, rfl, c⟩ (by omega))
      have : s = s' := (nI_eq hs (by omega)).mp e
      rw [← this, c]; decide
    · refine ⟨fun _ => bad (fun s hs e c => hn ?_), fun z => absurd rfl z⟩
      have := (isK_lt hv c).1
      rw [e]
      exact ⟨nI_pos' (by omega), (nI_leI (by omega) (by omega)).mpr (by omega)⟩
  · obtain ⟨c1, rfl, -⟩ := z
    exact body_in c1
/-- a part of a kind, as it is asked -/
theorem sc_isPart {a k v : Int32} {K : Int32 → eb_S → Prop} (hE : cEm E) (h : cV Γ E st I ad bd x Ds) (hp : ad 16 = p) (hroom : ((∀ b, b < 4 → a = nI b → (bd b).1.2.2 = 1) ∧ 2 ≤ bc ∧ 1000 ≤ bs) ∨ (24 ≤ bc ∧ 14660 ≤ bs))
    (h0 : (∀ b s, ¬ okK Ds a k b s) ∨ ¬ 0 ≤ v → K 0 st) (hz : ∀ b s, okK Ds a k b s → 0 ≤ v → ZD (Ds b) = 0 → ∀ st' I' bd', cV Γ E st' I' ad bd' x Ds → (bd' b).1.2.2 = 1 → K 1 st')
    (h1 : ∀ b s y, okK Ds a k b s → s < 2 ^ (Ds b).1 → v = nI y → y < 2147483648 → ¬ ZD (Ds b) = 0 → ∀ st' I' bd', cV Γ E st' I' ad bd' x Ds → (bd' b).1.2.2 = 1 → ¬ (bd' b).2.2.2.1 s = none → K (nI (b1 (Nat.blt y (NP (Ds b) s)))) st') : MX0_isPart Γ bc bs st p a k v K := by
  subst hp
  unfold MX0_isPart
  refine ⟨h.cs0, sc_isKind0 h rfl (fun hno => ⟨fun _ => h0 (Or.inl hno), fun z => absurd rfl z⟩) (fun b s ok hs => ?_)⟩
  obtain ⟨hb, rfl, hs16, rfl, hK⟩ := id ok
  refine ⟨fun z => absurd z (by decide), fun _ => ⟨fun hv => h0 (Or.inr (fun z => Int32.not_lt.mpr z hv)), fun hv => ?_⟩⟩
  obtain ⟨y, hy, rfl⟩ := nI_of hv
  have hrm : ∃ c1 s1 c2 s2, ((bd b).1.2.2 = 1 ∨ (22 ≤ c1 ∧ 13660 ≤ s1)) ∧ (2 ≤ c2 ∧ 1000 ≤ s2) ∧ c1 + c2 ≤ bc ∧ s1 + s2 ≤ bs := by
    rcases hroom with ⟨z, z1, z2⟩ | ⟨z1, z2⟩
    · exact ⟨0, 0, 2, 1000, Or.inl (z b hb rfl), ⟨Nat.le_refl _, Nat.le_refl _⟩, by omega, by omega⟩
    · exact ⟨22, 13660, 2, 1000, Or.inr ⟨Nat.le_refl _, Nat.le_refl _⟩, ⟨Nat.le_refl _, Nat.le_refl _⟩, by omega, by omega⟩
  obtain ⟨c1, s1, c2, s2, q1, q2, q3, q4⟩ := hrm
  refine h.at hb ⟨(h.body hb).cs, c1, s1, ⟨by omega, by omega⟩, ?_⟩
  refine sc_grp2 hE h hb q1 (fun st' I' bd' hV hk => ?_)
  have q := hV.grp hb hk
  by_cases hzz : ZD (Ds b) = 0
  · rw [q.1 hzz]
    exact ⟨fun _ => hz b s ok (Int32.not_lt.mp hv) hzz st' I' bd' hV hk, fun _ z => absurd z (by simp)⟩
  · obtain ⟨gp, g1, g2⟩ := q.2 hzz
    rw [g1]
    refine ⟨fun z => absurd z (by simp), fun _ _ => ?_⟩
    refine hV.at hb ⟨(hV.body hb).cs, c2, s2, ⟨by omega, by omega⟩, ?_⟩
    refine sc_many1 hE hV hb hk hzz hs (Or.inr q2) (fun st2 I2 bd2 hV2 _ _ _ hb2 hp2 => ?_)
    have hzl := ZD_le (hV.v hb)
    have hn := NP_le (Ds b) s
    have hK' := h1 b s y ok hs rfl hy hzz st2 I2 bd2 hV2 (by rw [hb2.1]; exact hk) hp2
    refine br_le (by omega) hy (fun z => ?_) (fun z => ?_)
    · rw [nlF (by omega)] at hK'; exact hK'
    · rw [nlT (by omega)] at hK'; exact hK'
end CPB
