set_option maxRecDepth 100000
theorem sc_fmw {g t i : Nat} {wy : Bool} {K : Int32 → Prop} (hg : g < 6) (ht : t < g) (hi : i < g) (hK : K (nI (pP g wy t i))) : MJ2_floorMod (nI t + cond wy 1 (-1) * nI i) (nI g) K := by
  obtain ⟨q1, q2⟩ := fmP g hg t ht i hi
  cases wy with
  | true =>
    refine sc_fmod (x := t + i) (y := 0) (n := g) ?_ (by omega) (by omega) (by omega) hg (by rw [q2]; exact hK)
    show nI t + 1 * nI i = nI (t + i) - nI 0
    rw [add_one, ← nI_add]
    show nI t + nI i = nI t + nI i - 0
    grind
  | false =>
    refine sc_fmod (x := t) (y := i) (n := g) ?_ (by omega) (by omega) (by omega) hg (by rw [q1]; exact hK)
    show nI t + (-1) * nI i = _
    exact add_mone _ _
theorem sub_mone (a b : Int32) : a - (-1) * b = a + b := by grind
theorem sub_one (a b : Int32) : a - 1 * b = a - b := by grind
theorem sc_fmb {g x y : Nat} {wy : Bool} {K : Int32 → Prop} (hg : g < 6) (ht : x < g) (hi : y < g) (hK : K (nI (pP g (not wy) x y))) : MJ2_floorMod (nI x - cond wy 1 (-1) * nI y) (nI g) K := by
  obtain ⟨q1, q2⟩ := fmP g hg x ht y hi
  cases wy with
  | true =>
    refine sc_fmod (x := x) (y := y) (n := g) ?_ (by omega) (by omega) (by omega) hg (by rw [q1]; exact hK)
    show nI x - 1 * nI y = _
    exact sub_one _ _
  | false =>
    refine sc_fmod (x := x + y) (y := 0) (n := g) ?_ (by omega) (by omega) (by omega) hg (by rw [q2]; exact hK)
    show nI x - (-1) * nI y = nI (x + y) - nI 0
    rw [sub_mone, ← nI_add]
    show nI x + nI y = nI x + nI y - 0
    grind
theorem sp_fill4 {Γ : eb_C} {st : eb_S} {a n : Nat} {f : Nat → Int32} {x : Int32} {K : eb_S → Prop} (h : st a = some (eb_ia Γ 1 n f)) (hn : n < 2147483648) (hK : ∀ st' f', sf [a] st st' → st' a = some (eb_ia Γ 1 n f') → (∀ k, k < n → f' k = vp_nar .boolean x) → K st') : MJ0_fill_4 Γ st a x K := by
  unfold MJ0_fill_4
  refine st_ln h ?_
  refine eb_loop2_i (fun y s => ∃ m f', m ≤ n ∧ y = nI m ∧ sf [a] st s ∧ s a = some (eb_ia Γ 1 n f') ∧ ∀ k, k < m → f' k = vp_nar .boolean x) (fun y _ => 2147483648 - y.toNatClampNeg) ?_ ⟨0, f, by omega, rfl, sf.rf _ _, h, fun k hk => absurd hk (Nat.not_lt_zero _)⟩
  rintro R y s ⟨m, f', hm, rfl, hs, hc, hr⟩ hR
  refine br_le hn (by omega) (fun h1 => hK s f' hs hc (fun k hk => hr k (by omega))) (fun h1 => ?_)
  refine st_wi hc (by omega) hn (fun s' hs' hc' => ?_)
  rw [nI_1]
  refine hR _ _ ⟨m + 1, _, by omega, rfl, hs.tr hs', hc', fun k hk => ?_⟩ ?_
  · by_cases e : k = m
    · rw [e, upd_eq]
    · rw [upd_ne e]; exact hr k (by omega)
  · rw [nI_cl (by omega), nI_cl (by omega)]; omega
/-- one hull on another: cells -/
def lS (Γ : eb_C) (st : eb_S) (q h1 h2 on tu us qu N e : Nat) (fon ft fu fq : Nat → Int32) : Prop :=
  st q = some (.inr (12, [.ref h1, .ref h2, .int (nI N), .ref on, .ref tu, .ref us, .ref qu, .int (nI e)])) ∧ st on = some (eb_ia Γ 0 N fon) ∧ st tu = some (eb_ia Γ 0 N ft) ∧ st us = some (eb_ia Γ 1 N fu) ∧ st qu = some (eb_ia Γ 0 N fq)
def lD (q on tu us qu : Nat) : Prop := ¬ q = on ∧ ¬ q = tu ∧ ¬ q = us ∧ ¬ q = qu ∧ ¬ on = tu ∧ ¬ on = us ∧ ¬ on = qu ∧ ¬ tu = us ∧ ¬ tu = qu ∧ ¬ us = qu
/-- what they tell -/
def lV (N e : Nat) (ov : Nat → Option Nat) (tt : Nat → Nat) (ud : Nat → Bool) (qq : Nat → Nat) (fon ft fu fq : Nat → Int32) : Prop :=
  (∀ c, c < N → fon c = oI (ov c)) ∧ (∀ c, c < N → ¬ ov c = none → ft c = nI (tt c)) ∧ (∀ d, d < N → fu d = nI (b1 (ud d))) ∧ ∀ k, k < e → fq k = nI (qq k)
def lI (N g : Nat) (G : Prop) (os ts : Nat → Nat) (ov : Nat → Option Nat) (tt : Nat → Nat) (ud : Nat → Bool) (qq : Nat → Nat) (e : Nat) : Prop :=
  (∀ c d, c < N → ov c = some d → d < N ∧ tt c < g) ∧ (∀ k, k < e → qq k < N ∧ ¬ ov (qq k) = none) ∧ e = cnB (fun c => (ov c).isSome) N ∧ (∀ c, c < N → ¬ ov c = none → ∃ k, k < e ∧ qq k = c) ∧ (G → ∀ c d, c < N → ov c = some d → d = os c ∧ tt c = ts c) ∧ ∀ d, d < N → ud d = true → ∃ c, c < N ∧ ov c = some d
def lX (ov ov' : Nat → Option Nat) (tt tt' qq qq' : Nat → Nat) (e e' : Nat) : Prop := e ≤ e' ∧ (∀ k, k < e → qq' k = qq k) ∧ ∀ c d, ov c = some d → ov' c = some d ∧ tt' c = tt c
theorem lX.rf (ov : Nat → Option Nat) (tt qq : Nat → Nat) (e : Nat) : lX ov ov tt tt qq qq e e := ⟨Nat.le_refl _, fun _ _ => rfl, fun _ _ h => ⟨h, rfl⟩⟩
theorem lX.tr {o1 o2 o3 : Nat → Option Nat} {t1 t2 t3 q1 q2 q3 : Nat → Nat} {e1 e2 e3 : Nat} (h : lX o1 o2 t1 t2 q1 q2 e1 e2) (h' : lX o2 o3 t2 t3 q2 q3 e2 e3) : lX o1 o3 t1 t3 q1 q3 e1 e3 :=
  ⟨Nat.le_trans h.1 h'.1, fun k hk => (h'.2.1 k (Nat.lt_of_lt_of_le hk h.1)).trans (h.2.1 k hk), fun c d z => by
    obtain ⟨a, b⟩ := h.2.2 c d z
    obtain ⟨a', b'⟩ := h'.2.2 c d a
    exact ⟨a', b'.trans b⟩⟩
theorem lX.some {ov ov' : Nat → Option Nat} {tt tt' qq qq' : Nat → Nat} {e e' : Nat} (h : lX ov ov' tt tt' qq qq' e e') {c : Nat} (hc : ¬ ov c = none) : ¬ ov' c = none := by
  cases z : ov c with
  | none => exact absurd z hc
  | some d => rw [(h.2.2 c d z).1]; simp
theorem ne_some {o : Option Nat} (h : ¬ o = none) : ∃ d, o = some d := by
  cases o with
  | none => exact absurd rfl h
  | some d => exact ⟨d, rfl⟩
section LA
variable {Γ : eb_C} {st st' : eb_S} {q h1 h2 on tu us qu N e g : Nat} {fon ft fu fq : Nat → Int32} {G : Prop} {os ts : Nat → Nat} {ov : Nat → Option Nat} {tt : Nat → Nat} {ud : Nat → Bool} {qq : Nat → Nat}
theorem lI.lt (h : lI N g G os ts ov tt ud qq e) {to : Nat} (hto : to < N) (hn : ov to = none) : e < N := by
  rw [h.2.2.1]
  have : cnB (fun c => (ov c).isSome) N < cnB (fun _ => true) N := cnB_ltP (fun _ _ _ => rfl) hto (by show (ov to).isSome = false; rw [hn]; rfl) rfl
  have := cnB_le (fun _ => true) N
  omega
theorem sc_lcomes {to there by' : Nat} {K : eb_S → Prop} (hS : lS Γ st q h1 h2 on tu us qu N e fon ft fu fq) (hD : lD q on tu us qu) (hV : lV N e ov tt ud qq fon ft fu fq) (hI : lI N g G os ts ov tt ud qq e) (hN : N ≤ 500) (hto : to < N) (hn : ov to = none) (hth : there < N) (hby : by' < g) (hG : G → there = os to ∧ by' = ts to)
    (hK : ∀ s fon' ft' fu' fq', sf [q, on, tu, us, qu] st s → lS Γ s q h1 h2 on tu us qu N (e + 1) fon' ft' fu' fq' → lV N (e + 1) (upo ov to (some there)) (updN tt to by') (updW ud there true) (updN qq e to) fon' ft' fu' fq' → lI N g G os ts (upo ov to (some there)) (updN tt to by') (updW ud there true) (updN qq e to) (e + 1) → lX ov (upo ov to (some there)) tt (updN tt to by') qq (updN qq e to) e (e + 1) → K s) : MX13_comes Γ st q (nI to) (nI there) (nI by') K := by
  have he := hI.lt hto hn
  obtain ⟨s1, s2, s3, s4, s5⟩ := hS
  obtain ⟨n1, n2, n3, n4, n5, n6, n7, n8, n9, n10⟩ := hD
  have m1 : ∀ {x y : Nat}, ¬ x = y → x ∉ [y] := fun h z => h (List.mem_singleton.mp z)
  have sy : ∀ {x y : Nat}, ¬ x = y → ¬ y = x := fun h z => h z.symm
  unfold MX13_comes
  refine st_gr s1 (v := some on) rfl (st_nn (st_wi s2 hto (by omega) (fun a1 g1 w1 => ?_)))
  refine st_gr (g1 _ _ s1 (m1 n1)) (v := some tu) rfl (st_nn (st_wi (g1 _ _ s3 (m1 (sy n5))) hto (by omega) (fun a2 g2 w2 => ?_)))
  have q2 := g2 _ _ (g1 _ _ s1 (m1 n1)) (m1 n2)
  refine st_gr q2 (v := some us) rfl (st_nn (st_wi (g2 _ _ (g1 _ _ s4 (m1 (sy n6))) (m1 (sy n8))) hth (by omega) (fun a3 g3 w3 => ?_)))
  have q3 := g3 _ _ q2 (m1 n3)
  have u3 := g3 _ _ (g2 _ _ (g1 _ _ s5 (m1 (sy n7))) (m1 (sy n9))) (m1 (sy n10))
  refine st_gr q3 (v := some qu) rfl (st_gi q3 rfl (st_nn (st_wi u3 he (by omega) (fun a4 g4 w4 => ?_))))
  have q4 := g4 _ _ q3 (m1 n4)
  refine st_gi q4 rfl (st_pt q4 (by simp) (fun a5 g5 w5 => ?_))
  have o5 : a5 on = some (eb_ia Γ 0 N (upd fon to (nI there))) := g5 _ _ (g4 _ _ (g3 _ _ (g2 _ _ w1 (m1 n5)) (m1 n6)) (m1 n7)) (m1 (sy n1))
  have t5 := g5 _ _ (g4 _ _ (g3 _ _ w2 (m1 n8)) (m1 n9)) (m1 (sy n2))
  have v5 := g5 _ _ (g4 _ _ w3 (m1 n10)) (m1 (sy n3))
  have k5 := g5 _ _ w4 (m1 (sy n4))
  rw [nI_1] at w5
  refine hK a5 _ _ _ _ ?_ ⟨w5, o5, t5, v5, k5⟩ ⟨fun c hc => ?_, fun c hc hne => ?_, fun d hd => ?_, fun k hk => ?_⟩ ⟨fun c d hc z => ?_, fun k hk => ?_, ?_, fun c hc z => ?_, fun hg c d hc z => ?_, fun d hd z => ?_⟩ ⟨by omega, fun k hk => ?_, fun c d z => ?_⟩
  · intro b y hb hw
    simp only [List.mem_cons, List.not_mem_nil, or_false, not_or] at hw
    exact g5 _ _ (g4 _ _ (g3 _ _ (g2 _ _ (g1 _ _ hb (m1 hw.2.1)) (m1 hw.2.2.1)) (m1 hw.2.2.2.1)) (m1 hw.2.2.2.2)) (m1 hw.1)
  · by_cases z : c = to
    · rw [z, upd_eq, upo_eq]; rfl
    · rw [upd_ne z, upo_ne z]; exact hV.1 c hc
  · by_cases z : c = to
    · rw [z, upd_eq, updN_eq]
    · rw [upd_ne z, updN_ne z]
      rw [upo_ne z] at hne
      exact hV.2.1 c hc hne
  · by_cases z : d = there
    · rw [z, upd_eq, updW_eq]; decide
    · rw [upd_ne z, updW_ne z]; exact hV.2.2.1 d hd
  · by_cases z : k = e
    · rw [z, upd_eq, updN_eq]
    · rw [upd_ne z, updN_ne z]; exact hV.2.2.2 k (by omega)
  · by_cases y : c = to
    · rw [y, upo_eq] at z
      injection z with z
      rw [y, updN_eq, ← z]
      exact ⟨hth, hby⟩
    · rw [upo_ne y] at z
      rw [updN_ne y]
      exact hI.1 c d hc z
  · by_cases z : k = e
    · rw [z, updN_eq, upo_eq]; exact ⟨hto, by simp⟩
    · rw [updN_ne z]
      obtain ⟨r1, r2⟩ := hI.2.1 k (by omega)
      refine ⟨r1, ?_⟩
      rw [upo_ne (fun z => r2 (by rw [z]; exact hn))]
      exact r2
  · rw [hI.2.2.1]
    refine (cnB_set (v := to) (by show (ov to).isSome = false; rw [hn]; rfl) (by show (upo ov to _ to).isSome = true; rw [upo_eq]; rfl) (fun k hk => by show (ov k).isSome = (upo ov to _ k).isSome; rw [upo_ne hk]) N hto).symm
  · by_cases y : c = to
    · exact ⟨e, by omega, by rw [updN_eq, y]⟩
    · rw [upo_ne y] at z
      obtain ⟨k, hk, r⟩ := hI.2.2.2.1 c hc z
      exact ⟨k, by omega, by rw [updN_ne (by omega)]; exact r⟩
  · by_cases y : c = to
    · rw [y, upo_eq] at z
      injection z with z
      rw [y, updN_eq, ← z]
      exact hG hg
    · rw [upo_ne y] at z
      rw [updN_ne y]
      exact hI.2.2.2.2.1 hg c d hc z
  · by_cases y : d = there
    · exact ⟨to, hto, by rw [upo_eq, y]⟩
    · rw [updW_ne y] at z
      obtain ⟨c, hc, r⟩ := hI.2.2.2.2.2 d hd z
      refine ⟨c, hc, ?_⟩
      rw [upo_ne (fun w => by rw [w, hn] at r; exact absurd r (by simp))]
      exact r
  · rw [updN_ne (by omega)]
  · have y : ¬ c = to := fun w => by rw [w, hn] at z; exact absurd z (by simp)
    rw [upo_ne y, updN_ne y]
    exact ⟨z, rfl⟩
end LA
