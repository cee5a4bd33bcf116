set_option maxRecDepth 100000
/-! the class' tables of remainders -/
theorem ix_inj {r k c k' c' : Nat} (hc : c < r) (hc' : c' < r) (h : r * k + c = r * k' + c') : k = k' ∧ c = c' := by
  have h1 : (r * k + c) / r = k := by rw [Nat.mul_add_div (by omega), Nat.div_eq_of_lt hc, Nat.add_zero]
  have h2 : (r * k' + c') / r = k' := by rw [Nat.mul_add_div (by omega), Nat.div_eq_of_lt hc', Nat.add_zero]
  have h3 : k = k' := by rw [← h1, h, h2]
  subst h3
  exact ⟨rfl, by omega⟩
theorem ix_lt {r n k c : Nat} (hk : k < n) (hc : c < r) : r * k + c < r * n := by
  have : r * (k + 1) ≤ r * n := Nat.mul_le_mul_left r (by omega)
  rw [Nat.mul_succ] at this
  omega
theorem ix_dm {r k : Nat} (hr : 0 < r) (hk : k < r * r) : k / r < r ∧ k % r < r ∧ r * (k / r) + k % r = k := ⟨Nat.div_lt_of_lt_mul hk, Nat.mod_lt _ hr, Nat.div_add_mod k r⟩
theorem rr_le {r : Nat} (hr : r ≤ 4) : r * r ≤ 16 := Nat.mul_le_mul hr hr
/-- the class' matrices: below the prime, and told apart -/
theorem TJ_0 {e : tE} (h : tG e) : ∀ a, a < e.1 → ∀ c, c < e.1 → TJ e 0 (e.1 * a + c) = cond (Nat.beq a c) 1 0 := h.2.2.2.2.1
theorem TJ_s {e : tE} (h : tG e) {g i : Nat} (hg : g < e.2.2.1) (hi : i < e.1) : ∀ a, a < e.1 → ∀ c, c < e.1 → TJ e (Tto e g i) (e.1 * a + c) = cond (Nat.beq c i) (tCcol e.1 e.2.1 (TJ e g) i a) (TJ e g (e.1 * a + c)) := (h.2.2.2.2.2.2 g hg i hi).2
theorem TJ_lt {e : tE} (h : tG e) : ∀ x, x < e.2.2.1 → ∀ a, a < e.1 → ∀ c, c < e.1 → TJ e x (e.1 * a + c) < 1201 := by
  intro x
  induction x using Nat.strongRecOn with
  | _ x ih =>
    intro hx a ha c hc
    by_cases h0 : x = 0
    · rw [h0, TJ_0 h a ha c hc]
      cases Nat.beq a c
      · exact (by decide : 0 < 1201)
      · exact (by decide : 1 < 1201)
    · obtain ⟨-, q2, q3, q4, -⟩ := Tkey_lt h hx h0
      have := TJ_s h (show Tpar e x < e.2.2.1 by omega) q3 a ha c hc
      rw [q4] at this
      rw [this]
      cases Nat.beq c (Tlas e x)
      · exact ih _ q2 (by omega) a ha c hc
      · exact Nat.mod_lt _ (by decide)
theorem tCcol_cg {r A : Nat} {f f' : Nat → Nat} {i a : Nat} (h : ∀ k, k < r → f (r * a + k) = f' (r * a + k)) : tCcol r A f i a = tCcol r A f' i a := by
  have key : ∀ m, m ≤ r → Nat.rec (motive := fun _ => Nat) 0 (fun k s => Nat.add s (Nat.mul (f (Nat.add (Nat.mul r a) k)) (cond (Nat.beq k i) 1200 (tcC (t4 A (Nat.add (Nat.mul 4 i) k)))))) m = Nat.rec (motive := fun _ => Nat) 0 (fun k s => Nat.add s (Nat.mul (f' (Nat.add (Nat.mul r a) k)) (cond (Nat.beq k i) 1200 (tcC (t4 A (Nat.add (Nat.mul 4 i) k)))))) m := by
    intro m
    induction m with
    | zero => intro _; rfl
    | succ m ih =>
      intro hm
      have e1 : f (Nat.add (Nat.mul r a) m) = f' (Nat.add (Nat.mul r a) m) := h m (by omega)
      show Nat.add (Nat.rec (motive := fun _ => Nat) 0 _ m) (Nat.mul (f (Nat.add (Nat.mul r a) m)) _) = Nat.add (Nat.rec (motive := fun _ => Nat) 0 _ m) (Nat.mul (f' (Nat.add (Nat.mul r a) m)) _)
      rw [ih (by omega), e1]
  unfold tCcol
  rw [key r (Nat.le_refl _)]
theorem TJ_inj {e : tE} (h : tG e) : ∀ x g, g < e.2.2.1 → x < e.2.2.1 → (∀ k, k < e.1 * e.1 → TJ e g k = TJ e x k) → g = x := by
  have hr := h.1.1
  refine val_inj (m := e.1 * e.1) (st := fun i f k => cond (Nat.beq (k % e.1) i) (tCcol e.1 e.2.1 f i (k / e.1)) (f k)) h.tfo (fun g i k hg hi hk => ?_) (fun i f f' hi hf k hk => ?_) h.2.2.2.2.2.1 (fun y hy => ?_)
  · obtain ⟨d1, d2, d3⟩ := ix_dm (by omega) hk
    have := TJ_s h hg hi (k / e.1) d1 (k % e.1) d2
    rw [d3] at this
    exact this
  · obtain ⟨d1, d2, d3⟩ := ix_dm (by omega) hk
    show cond (Nat.beq (k % e.1) i) (tCcol e.1 e.2.1 f i (k / e.1)) (f k) = cond (Nat.beq (k % e.1) i) (tCcol e.1 e.2.1 f' i (k / e.1)) (f' k)
    rw [hf k hk, tCcol_cg (fun c hc => hf _ (ix_lt d1 hc))]
  · obtain ⟨a1, a2, a3, -, -⟩ := h.2.2.1.2 y hy
    exact ⟨_, _, a1, a2, a3⟩
/-- places by hashes -/
def hsh (v : Nat → Int32) : Nat → Int32
  | 0 => 7
  | k + 1 => 31 * hsh v k + v k
theorem hsh_cg {v w : Nat → Int32} : ∀ n, (∀ k, k < n → v k = w k) → hsh v n = hsh w n := by
  intro n
  induction n with
  | zero => intro _; rfl
  | succ n ih => intro h; show 31 * hsh v n + v n = 31 * hsh w n + w n; rw [ih (fun k hk => h k (by omega)), h n (by omega)]
theorem msk_pos (x : Int32) : 0 ≤ x &&& 2147483647 := by
  rw [Int32.le_iff_toInt_le]
  show (0 : Int) ≤ (x.toBitVec &&& 2147483647#32).toInt
  have h : (x.toBitVec &&& 2147483647#32).msb = false := by rw [BitVec.msb_and]; rw [show (2147483647#32).msb = false by decide, Bool.and_false]
  rw [BitVec.toInt_eq_toNat_of_msb h]
  omega
def hs0 (x : Int32) : Nat := (x &&& 2147483647).toNatClampNeg % 2048
theorem hs0_eq (x : Int32) : eb_rem (x &&& 2147483647) (nI 2048) = nI (hs0 x) := by
  obtain ⟨a, ha, e⟩ := nI_of (Int32.not_lt.mpr (msk_pos x))
  unfold hs0
  rw [e, nI_cl ha, nI_rem ha (by omega)]
def slt (x : Int32) (d : Nat) : Nat := (hs0 x + d) % 2048
theorem slt_s (x : Int32) (d : Nat) : slt x (d + 1) = (slt x d + 1) % 2048 := by unfold slt; omega
theorem slt_lt (x : Int32) (d : Nat) : slt x d < 2048 := Nat.mod_lt _ (by decide)
theorem slt_on (x : Int32) {s : Nat} (hs : s < 2048) : ∃ d, d < 2048 ∧ slt x d = s := by
  refine ⟨(s + 2048 - hs0 x) % 2048, Nat.mod_lt _ (by decide), ?_⟩
  have : hs0 x < 2048 := Nat.mod_lt _ (by decide)
  unfold slt
  omega
/-- the places are right for m rows with hashes H -/
def plO (fp : Nat → Int32) (m : Nat) (H : Nat → Int32) : Prop :=
  (∀ s, s < 2048 → fp s = -1 ∨ ∃ j, j < m ∧ fp s = nI j) ∧ um 2048 fp + m = 2048 ∧ ∀ j, j < m → ∃ d, d < 2048 ∧ fp (slt (H j) d) = nI j ∧ ∀ d', d' < d → ¬ fp (slt (H j) d') = -1
theorem um_ex {f : Nat → Int32} : ∀ n, 1 ≤ um n f → ∃ s, s < n ∧ f s = -1 := by
  intro n
  induction n with
  | zero => intro h; exact absurd h (by show ¬ 1 ≤ 0; omega)
  | succ n ih =>
    intro h
    by_cases e : f n = -1
    · exact ⟨n, by omega, e⟩
    · have : um (n + 1) f = um n f := by
        show um n f + (if f n = -1 then 1 else 0) = um n f
        rw [if_neg e]; rfl
      obtain ⟨s, h1, h2⟩ := ih (by omega)
      exact ⟨s, by omega, h2⟩
theorem plO_put {fp : Nat → Int32} {m : Nat} {H : Nat → Int32} {x : Int32} {d : Nat} (h : plO fp m H) (hm : m < 2147483648) (hd : d < 2048) (he : fp (slt x d) = -1) (hb : ∀ d', d' < d → ¬ fp (slt x d') = -1) (hx : H m = x) : plO (upd fp (slt x d) (nI m)) (m + 1) H := by
  obtain ⟨h1, h2, h3⟩ := h
  refine ⟨fun s hs => ?_, ?_, fun j hj => ?_⟩
  · by_cases e : s = slt x d
    · rw [e, upd_eq]; exact Or.inr ⟨m, by omega, rfl⟩
    · rw [upd_ne e]
      rcases h1 s hs with z | ⟨j, hj, z⟩
      · exact Or.inl z
      · exact Or.inr ⟨j, by omega, z⟩
  · have := (um_upd (n := 2048) he (nI_m1 hm : ¬ nI m = -1)).1 (slt_lt x d)
    omega
  · by_cases e : j = m
    · subst e
      refine ⟨d, hd, by rw [hx, upd_eq], fun d' hd' => ?_⟩
      rw [hx]
      by_cases e2 : slt x d' = slt x d
      · rw [e2, upd_eq]; exact nI_m1 hm
      · rw [upd_ne e2]; exact hb d' hd'
    · obtain ⟨d0, q1, q2, q3⟩ := h3 j (by omega)
      refine ⟨d0, q1, ?_, fun d' hd' => ?_⟩
      · rw [upd_ne (fun z => by rw [z, he] at q2; exact absurd q2.symm (nI_m1 (by omega)))]; exact q2
      · by_cases e2 : slt (H j) d' = slt x d
        · rw [e2, upd_eq]; exact nI_m1 hm
        · rw [upd_ne e2]; exact q3 d' hd'
/-- the maker: its rows of remainders J, m of them, room for n; its mirrors' rows M -/
def cMk (Γ : eb_C) (X : List Nat) (st : eb_S) (p pq pc pp pm r n m : Nat) (J : Nat → Nat → Nat) (M : Nat → Nat → Nat) (fd : Nat → Int32) : Prop :=
  ∃ (q : Nat → Nat) (F : Nat → Nat → Int32) (fc fp : Nat → Int32),
    st p = some (.inr (8, [.int (nI r), .ref pq, .ref pc, .ref pp, .ref pm, .int (nI m)])) ∧
    st pq = some (eb_ra Γ 5 r (fun i => some (q i))) ∧ (∀ i, i < r → st (q i) = some (eb_ia Γ 0 (r * r) (F i)) ∧ q i ∉ [p, pc, pp, pm]) ∧ (∀ i k, i < r → k < r * r → F i k = nI (M i k)) ∧
    st pc = some (eb_ia Γ 0 (n * r * r) fc) ∧ (∀ g k, g < m → k < r * r → fc (r * r * g + k) = nI (J g k)) ∧
    st pp = some (eb_ia Γ 0 2048 fp) ∧ plO fp m (fun g => hsh (fun k => nI (J g k)) (r * r)) ∧
    st pm = some (eb_ia Γ 0 16 fd) ∧ (¬ pc = pp ∧ ¬ pc = pm ∧ ¬ pp = pm) ∧ (1 ≤ r ∧ r ≤ 4) ∧ m ≤ n ∧ n ≤ 500 ∧ pq ∉ X ∧ ∀ i, i < r → q i ∉ X
theorem st_cp {Γ : eb_C} {st : eb_S} {a b n0 n1 s d n : Nat} {f g : Nat → Int32} {K : eb_S → Prop} (ha : st a = some (eb_ia Γ 0 n0 f)) (hb : st b = some (eb_ia Γ 0 n1 g)) (h0 : s + n ≤ n0) (h1 : d + n ≤ n1) (hn0 : n0 < 2147483648) (hn1 : n1 < 2147483648)
    (hK : ∀ st', sf [b] st st' → st' b = some (eb_ia Γ 0 n1 (va_cpy f g s d n)) → K st') : eb_cp Γ st a (nI s) b (nI d) (nI n) K := by
  refine ⟨n0, n1, f, g, ha, hb, nI_neg (by omega), nI_neg (by omega), nI_neg (by omega), ?_, ?_, fun st' e => ?_⟩
  · rw [nI_cl (by omega), nI_cl (by omega)]; exact h0
  · rw [nI_cl (by omega), nI_cl (by omega)]; exact h1
  · rw [nI_cl (by omega), nI_cl (by omega), nI_cl (by omega)] at e
    rw [e]
    exact hK _ ((sf.rf _ _).set (List.mem_singleton.mpr rfl)) eb_up_eq
section MK
variable {Γ : eb_C} {X : List Nat} {st : eb_S} {p pq pc pp pm r n m : Nat} {J M : Nat → Nat → Nat} {fd : Nat → Int32}
theorem sc_isMade {j : Nat} {K : Int32 → Prop} (h : cMk Γ X st p pq pc pp pm r n m J M fd) (hj : j < m) (h1 : (∀ k, k < r * r → nI (J j k) = fd k) → K 1) (h0 : ¬ (∀ k, k < r * r → nI (J j k) = fd k) → K 0) : MX9_isMade Γ st p (nI j) K := by
  obtain ⟨q, F, fc, fp, c1, c2, c3, c4, c5, c6, c7, c8, c9, c10, c11, c12, c13, c14⟩ := h
  have hrr := rr_le c11.2
  have hnr : n * r * r ≤ 8000 := by rw [Nat.mul_assoc]; exact Nat.mul_le_mul c13 hrr
  have gr : ∀ {K : Int32 → Prop}, K (nI r) → eb_gi st p 8 0 K := fun h => st_gi c1 rfl h
  unfold MX9_isMade
  refine eb_loop1_i (fun x => ∃ k, k ≤ r * r ∧ x = nI k ∧ ∀ k', k' < k → nI (J j k') = fd k') (fun x => 100 - x.toNatClampNeg) ?_ ⟨0, by omega, rfl, fun k hk => absurd hk (Nat.not_lt_zero _)⟩
  rintro R x ⟨k, hk, rfl, hall⟩ hR
  refine gr (gr ?_)
  rw [nI_mul]
  refine br_le (by omega) (by omega) (fun h2 => h1 (fun k' hk' => hall k' (by omega))) (fun h2 => ?_)
  refine st_gr c1 (v := some pc) rfl (gr (gr (st_nn ?_)))
  rw [nI_mul, nI_mul, nI_add]
  have hix : r * r * j + k < r * r * n := ix_lt (by omega) (by omega)
  have e1 : n * r * r = r * r * n := by rw [Nat.mul_assoc, Nat.mul_comm]
  refine st_li c5 (by omega) (by omega) ?_
  rw [c6 j k hj (by omega)]
  refine st_gr c1 (v := some pm) rfl (st_nn (st_li c9 (by omega) (by omega) ?_))
  refine ⟨fun e => ?_, fun e => h0 (fun z => e (z k (by omega)))⟩
  rw [nI_1]
  refine hR _ ⟨k + 1, by omega, rfl, fun k' hk' => ?_⟩ ?_
  · by_cases ek : k' = k
    · rw [ek]; exact e
    · exact hall k' (by omega)
  · rw [nI_cl (by omega), nI_cl (by omega)]; omega
/-- what is made is row x of the table: it's found, or it's the next one -/
theorem sc_place {x : Nat} {K : Int32 → eb_S → Prop} (h : cMk Γ X st p pq pc pp pm r n m J M fd) (hx : x ≤ m) (hxn : x < n) (hfd : ∀ k, k < r * r → fd k = nI (J x k)) (hJ : ∀ g k, g < n → k < r * r → J g k < 2147483648) (hinj : ∀ g, g < n → (∀ k, k < r * r → J g k = J x k) → g = x)
    (h1 : x < m → K (nI x) st) (h2 : x = m → ∀ st', sf [p, pc, pp, pm] st st' → cMk Γ X st' p pq pc pp pm r n (m + 1) J M fd → K (nI m) st') : MX9_place Γ st p K := by
  have hM := h
  obtain ⟨q, F, fc, fp, c1, c2, c3, c4, c5, c6, c7, c8, c9, c10, c11, c12, c13, c14⟩ := h
  have hrr := rr_le c11.2
  have hnr : n * r * r ≤ 8000 := by rw [Nat.mul_assoc]; exact Nat.mul_le_mul c13 hrr
  have gr : ∀ {K : Int32 → Prop}, K (nI r) → eb_gi st p 8 0 K := fun h => st_gi c1 rfl h
  have made : ∀ j, j < m → (∀ k, k < r * r → nI (J j k) = fd k) → j = x := fun j hj hz => hinj j (by omega) (fun k hk => (nI_eq (hJ j k (by omega) hk) (hJ x k hxn hk)).mp (by rw [hz k hk, hfd k hk]))
  unfold MX9_place
  refine jp_1 (fun v => v = hsh (fun k => nI (J x k)) (r * r)) ?_ ?_
  · rintro _ rfl
    generalize hH : hsh (fun k => nI (J x k)) (r * r) = H at *
    refine st_gr c1 (v := some pp) rfl (st_nn (st_ln c7 ?_))
    refine ⟨(by decide : ¬ nI 2048 = 0), ?_⟩
    refine jp_1 (fun v => ∃ d, d < 2048 ∧ v = nI (slt H d) ∧ fp (slt H d) = -1 ∧ (∀ d', d' < d → ¬ fp (slt H d') = -1) ∧ ¬ x < m) ?_ ?_
    · rintro _ ⟨d, hd, rfl, he, hb, hxm⟩
      have exm : x = m := by omega
      have hmn : m < n := by omega
      have hsl := slt_lt H d
      refine st_gr c1 (v := some pp) rfl (st_gi c1 rfl (st_nn (st_wi c7 hsl (by omega) (fun s1 f1 w1 => ?_))))
      have n1 : s1 p = some (.inr (8, [.int (nI r), .ref pq, .ref pc, .ref pp, .ref pm, .int (nI m)])) := f1 _ _ c1 (fun z => by
        have z' := List.mem_singleton.mp z
        rw [z', c7] at c1
        exact absurd c1 (by simp))
      have gr1 : ∀ {K : Int32 → Prop}, K (nI r) → eb_gi s1 p 8 0 K := fun h => st_gi n1 rfl h
      have n2 : s1 pm = some (eb_ia Γ 0 16 fd) := f1 _ _ c9 (fun z => c10.2.2 (List.mem_singleton.mp z).symm)
      have n3 : s1 pc = some (eb_ia Γ 0 (n * r * r) fc) := f1 _ _ c5 (fun z => c10.1 (List.mem_singleton.mp z))
      refine st_gr n1 (v := some pm) rfl (st_gr n1 (v := some pc) rfl (gr1 (gr1 (st_gi n1 rfl (gr1 (gr1 (st_nn (st_nn ?_))))))))
      rw [nI_mul, nI_mul]
      have hle : r * r * m + r * r ≤ n * r * r := by
        have : r * r * (m + 1) ≤ r * r * n := Nat.mul_le_mul_left _ (by omega)
        rw [Nat.mul_succ] at this
        rw [show n * r * r = r * r * n by rw [Nat.mul_assoc, Nat.mul_comm]]
        exact this
      refine st_cp (s := 0) n2 n3 (by omega) hle (by omega) (by omega) (fun s2 f2 w2 => ?_)
      have m1 : s2 p = some (.inr (8, [.int (nI r), .ref pq, .ref pc, .ref pp, .ref pm, .int (nI m)])) := f2 _ _ n1 (fun z => by
        have z' := List.mem_singleton.mp z
        rw [z', n3] at n1
        exact absurd n1 (by simp))
      refine st_gi m1 rfl (st_pt m1 (by simp) (fun s3 f3 w3 => st_gi w3 rfl ?_))
      rw [nI_1, show nI (m + 1) - 1 = nI m from nI_sub (b := 1) (by omega)]
      have nep : ∀ {a : Nat} {y : ClassId × vp_A}, st a = some (.inl y) → ¬ a = p := fun hy z => by rw [z, c1] at hy; exact absurd hy (by simp)
      have all : sf [p, pc, pp, pm] st s3 := ((f1.up (by simp)).tr (f2.up (by simp))).tr (f3.up (by simp))
      refine h2 exm s3 all ⟨q, F, va_cpy fd fc 0 (r * r * m) (r * r), upd fp (slt H d) (nI m), ?_, ?_, fun i hi => ⟨?_, (c3 i hi).2⟩, c4, ?_, fun g k hg hk => ?_, ?_, ?_, ?_, c10, c11, by omega, c13, c14⟩
      · rw [w3]; rw [nI_1]; rfl
      · refine all _ _ c2 (fun z => ?_)
        have z1 : ¬ pq = p := nep c2
        have z2 : ¬ pq = pc := fun y => by rw [y, c5] at c2; injection c2 with c2; injection c2 with c2; injection c2 with _ c2; injection c2 with _ c2; exact absurd c2 (by simp)
        have z3 : ¬ pq = pp := fun y => by rw [y, c7] at c2; injection c2 with c2; injection c2 with c2; injection c2 with _ c2; injection c2 with _ c2; exact absurd c2 (by simp)
        have z4 : ¬ pq = pm := fun y => by rw [y, c9] at c2; injection c2 with c2; injection c2 with c2; injection c2 with _ c2; injection c2 with _ c2; exact absurd c2 (by simp)
        simp only [List.mem_cons, List.not_mem_nil, or_false] at z
        rcases z with z | z | z | z
        · exact z1 z
        · exact z2 z
        · exact z3 z
        · exact z4 z
      · exact all _ _ (c3 i hi).1 (c3 i hi).2
      · exact f3 _ _ w2 (fun z => nep c5 (List.mem_singleton.mp z))
      · show (if r * r * m ≤ r * r * g + k ∧ r * r * g + k < r * r * m + r * r then fd (0 + (r * r * g + k - r * r * m)) else fc (r * r * g + k)) = _
        by_cases eg : g = m
        · subst eg
          rw [if_pos (by omega), show 0 + (r * r * g + k - r * r * g) = k by omega, hfd k hk, exm]
        · have hlt : r * r * g + k < r * r * m := ix_lt (by omega) hk
          rw [if_neg (by omega)]
          exact c6 g k (by omega) hk
      · refine f3 _ _ (f2 _ _ w1 (fun z => c10.1 (List.mem_singleton.mp z).symm)) (fun z => nep c7 (List.mem_singleton.mp z))
      · refine plO_put c8 (by omega) hd he hb ?_
        show hsh (fun k => nI (J m k)) (r * r) = H
        rw [← exm]; exact hH
      · exact f3 _ _ (f2 _ _ n2 (fun z => c10.2.1 (List.mem_singleton.mp z).symm)) (fun z => nep c9 (List.mem_singleton.mp z))
    · intro k hk
      have hum : 1 ≤ um 2048 fp := by have := c8.2.1; omega
      obtain ⟨s0, hs0', hs1⟩ := um_ex 2048 hum
      obtain ⟨D0, hD0, hD1⟩ := slt_on H hs0'
      rw [show eb_rem (H &&& 2147483647) (nI ((2048, Sum.inl fp) : vp_A).1) = nI (slt H 0) from by
        have := hs0_eq H
        have e0 : slt H 0 = hs0 H := by
          have : hs0 H < 2048 := Nat.mod_lt _ (by decide)
          unfold slt; omega
        rw [e0]; exact this]
      refine eb_loop1_i (fun v => ∃ d, d ≤ D0 ∧ v = nI (slt H d) ∧ ∀ d', d' < d → ¬ fp (slt H d') = -1 ∧ ¬ fp (slt H d') = nI x) (fun v => (slt H D0 + 2048 - v.toNatClampNeg) % 2048) ?_ ⟨0, by omega, rfl, fun d' hd' => absurd hd' (Nat.not_lt_zero _)⟩
      rintro R v ⟨d, hd, rfl, hb⟩ hR
      have hsl := slt_lt H d
      refine st_gr c1 (v := some pp) rfl (st_nn (st_li c7 hsl (by omega) ?_))
      refine ⟨fun he => hk _ ⟨d, by omega, rfl, he, fun d' hd' => (hb d' hd').1, fun hxm => ?_⟩, fun hne => ?_⟩
      · obtain ⟨d0, q1, q2, q3⟩ := c8.2.2 x hxm
        have q2' : fp (slt H d0) = nI x := by rw [← hH]; exact q2
        have q3' : ∀ d', d' < d0 → ¬ fp (slt H d') = -1 := by rw [← hH]; exact q3
        rcases Nat.lt_trichotomy d0 d with z | z | z
        · exact (hb d0 z).2 q2'
        · rw [z, he] at q2'; exact nI_m1' (by omega) q2'
        · exact q3' d z he
      · obtain ⟨j, hj, hfj⟩ := (c8.1 _ hsl).resolve_left hne
        refine st_gr c1 (v := some pp) rfl (st_nn (st_li c7 hsl (by omega) ?_))
        rw [hfj]
        refine ⟨st_cs c1 (List.mem_singleton.mpr rfl), sc_isMade hM hj (fun hz => ?_) (fun hz => ?_)⟩
        · refine ⟨fun z => absurd z (by decide), fun _ => ?_⟩
          refine st_gr c1 (v := some pp) rfl (st_nn (st_li c7 hsl (by omega) ?_))
          have := made j hj hz
          rw [hfj, this]
          exact h1 (by omega)
        · refine ⟨fun _ => ?_, fun z => absurd rfl z⟩
          refine st_gr c1 (v := some pp) rfl (st_nn (st_ln c7 ⟨(by decide : ¬ nI 2048 = 0), ?_⟩))
          have hdD : ¬ d = D0 := fun z => by rw [z, hD1] at hne; exact hne hs1
          rw [nI_1]
          have e1 : eb_rem (nI (slt H d + 1)) (nI ((2048, Sum.inl fp) : vp_A).1) = nI (slt H (d + 1)) := by
            rw [slt_s]; exact nI_rem (by omega) (by omega : (2048 : Nat) < 2147483648)
          rw [e1]
          refine hR _ ⟨d + 1, by omega, rfl, fun d' hd' => ?_⟩ ?_
          · by_cases ed : d' = d
            · rw [ed]
              refine ⟨hne, fun z => hz (fun k hk => ?_)⟩
              rw [hfj] at z
              have := (nI_eq (by omega) (by omega)).mp z
              rw [this, hfd k hk]
            · exact hb d' (by omega)
          · have h9 := slt_lt H (d + 1)
            have hh : hs0 H < 2048 := Nat.mod_lt _ (by decide)
            rw [nI_cl (by omega), nI_cl (by omega)]
            unfold slt
            omega
  · intro k hk
    refine eb_loop2_i (fun y z => ∃ i, i ≤ r * r ∧ y = hsh (fun k => nI (J x k)) i ∧ z = nI i) (fun _ z => 100 - z.toNatClampNeg) ?_ ⟨0, by omega, rfl, rfl⟩
    rintro R y z ⟨i, hi, rfl, rfl⟩ hR
    refine gr (gr ?_)
    rw [nI_mul]
    refine br_le (by omega) (by omega) (fun h3 => hk _ (by rw [show i = r * r by omega])) (fun h3 => ?_)
    refine st_gr c1 (v := some pm) rfl (st_nn (st_li c9 (by omega) (by omega) ?_))
    rw [hfd i (by omega), nI_1]
    refine hR _ _ ⟨i + 1, by omega, rfl, rfl⟩ ?_
    rw [nI_cl (by omega), nI_cl (by omega)]; omega
end MK
