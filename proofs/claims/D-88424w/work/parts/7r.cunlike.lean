set_option maxRecDepth 100000
theorem tal_s (P : Nat → Bool) (m : Nat) : tal (m + 1) P = and (tal m P) (P m) := Bool_ext (by
  rw [Bool.and_eq_true]
  exact ⟨fun z => ⟨tal_of (fun k hk => tal_spec z k (by omega)), tal_spec z m (by omega)⟩, fun z => tal_of (fun k hk => by
    by_cases e : k = m
    · rw [e]; exact z.2
    · exact tal_spec z.1 k (by omega))⟩)
theorem tal_0 (P : Nat → Bool) : tal 0 P = true := tal_of (fun k hk => absurd hk (Nat.not_lt_zero _))
def e_len : va_E → Nat
  | .inl y => y.2.1
  | .inr _ => 1000
theorem at_5 : ∀ a, a < 5 → ∀ b, b < 5 → ∀ c, c < 5 → (((25 * (nI (a + 2) - 2)) + (5 * (nI (b + 2) - 2))) + nI (c + 2)) - 2 = nI (25 * a + 5 * b + c) := by decide +kernel
theorem at_i {a b c : Nat} (ha : 2 ≤ a ∧ a ≤ 6) (hb : 2 ≤ b ∧ b ≤ 6) (hc : 2 ≤ c ∧ c ≤ 6) : (((25 * (nI a - 2)) + (5 * (nI b - 2))) + nI c) - 2 = nI (25 * (a - 2) + 5 * (b - 2) + (c - 2)) := by
  have := at_5 (a - 2) (by omega) (b - 2) (by omega) (c - 2) (by omega)
  rw [show a - 2 + 2 = a by omega, show b - 2 + 2 = b by omega, show c - 2 + 2 = c by omega] at this
  exact this
section UL
variable {Γ : eb_C} {E : cET} {st st' : eb_S} {I J : Nat → va_E → Prop} {bc bs : Nat} {ad : Nat → Nat} {bd : Nat → cBT} {x : cXT} {Ds : Nat → eb_D} {p : Nat} {D : eb_D}
/-- a count is written down -/
theorem cV.setU {k : Nat} {v : Int32} (h : cV Γ E st I ad bd x Ds) (hs : sf [ad 18] st st') (hw : st' (ad 18) = some (eb_ia Γ 0 125 (upd x.2 k v))) (hv : v = nI (E.2.2 k)) : cV Γ E st' I ad bd (x.1, upd x.2 k v) Ds := by
  obtain ⟨h1, h2, h3, q1, q2, q3⟩ := h
  refine ⟨h1.setX (j := 2) (by omega) hs hw (fun k' hk' hne => ?_), fun a y hy => ⟨hs _ _ (h2 a y hy).1 (fun z => (h2 a y hy).2 18 (by omega) (List.mem_singleton.mp z)), (h2 a y hy).2⟩, h3, fun a ha => ?_, fun j hj => ?_, q3⟩
  · match k', hk' with
    | 0, _ => rfl
    | 1, _ => rfl
    | 2, _ => exact absurd rfl hne
  · by_cases e : a = ad 18
    · rw [e]; exact ⟨_, hw⟩
    · obtain ⟨y, hy⟩ := q1 a ha
      exact ⟨y, hs _ _ hy (fun z => e (List.mem_singleton.mp z))⟩
  · show upd x.2 k v j = 0 ∨ upd x.2 k v j = _
    by_cases e : j = k
    · rw [e, upd_eq]; exact Or.inr hv
    · rw [upd_ne e]; exact q2 j hj
/-- the list's cell is none of the world's -/
theorem cV.ne0 {a : Nat} {f : Nat → Option Nat} (h : cV Γ E st I ad bd x Ds) (ha : st a = some (eb_ra Γ 8 0 f)) : ∀ i, i < 19 → ¬ a = ad i := fun i hi e => by
  have key : ∀ y, st (ad i) = some y → ¬ e_len y = 0 → False := fun y hy hl => by
    rw [e, hy] at ha
    injection ha with ha
    rw [ha] at hl
    exact hl rfl
  by_cases hi16 : i < 16
  · have := h.1.1 (i / 4) (i % 4) (by omega) (by omega)
    rw [show 4 * (i / 4) + i % 4 = i by omega] at this
    refine key _ this ?_
    have hj : i % 4 = 0 ∨ i % 4 = 1 ∨ i % 4 = 2 ∨ i % 4 = 3 := by omega
    rcases hj with z | z | z | z <;> rw [z]
    · show ¬ (1000 : Nat) = 0; decide
    · show ¬ (16 : Nat) = 0; decide
    · show ¬ (16 : Nat) = 0; decide
    · show ¬ (16 : Nat) = 0; decide
  · have := h.1.2.1 (i - 16) (by omega)
    rw [show 16 + (i - 16) = i by omega] at this
    refine key _ this ?_
    have hj : i - 16 = 0 ∨ i - 16 = 1 ∨ i - 16 = 2 := by omega
    rcases hj with z | z | z <;> rw [z]
    · show ¬ (1000 : Nat) = 0; decide
    · show ¬ (4 : Nat) = 0; decide
    · show ¬ (125 : Nat) = 0; decide
/-- whether a hull is like one of those that were found -/
theorem sc_uloop {n s pl arr pi ph pb U W : Nat} {e σ : Nat → Nat} {lr : Int32} {kk : Int32 → eb_S → Nat → Nat → Prop} (hL : aL Γ st pl arr n e) (hpi : st pi = some (.inr (15, [.int (nI 0), .int lr, .int (nI n), .ref pl]))) (hn : n ≤ 6) (hJ : ∀ a y, J a y → st a = some y) (hpl : ¬ pi = pl) (hparr : ¬ pi = arr) (hJp : ∀ y, ¬ J pi y)
    (hh : huE Γ J pb ph (rgD D (s + 1))) (hf : ∀ k, k < n → ∃ pb, huE Γ J pb (e k) (rgD D (σ k + 1))) (hU : U + 5 * n ≤ bc) (hW : W + 520 * n ≤ bs)
    (hK : ∀ g u w, sf [pi] st g → u ≤ U + 5 * n → w ≤ W + 520 * n → kk (nI (b1 (tal n (fun k => not (Nat.beq (ulF D s) (ulF D (σ k))))))) g u w) :
    eb_loop4 (fun r87 (x8_83 : Int32) (g84 : eb_S) (u85 : Nat) (w86 : Nat) => eb_nn (some pi) (fun p88 => eb_cs g84 p88 [15] ∧ MJ6_hasNext Γ g84 p88 (fun v89 => eb_br (v89 = 0) (kk x8_83 g84 u85 w86) (eb_cs g84 p88 [15] ∧ MJ6_next Γ g84 p88 (fun v93 g94 => eb_nn v93 (fun p97 => eb_cs g94 p97 [11] ∧ (eb_jp4 (fun (s98 : Int32) (g99 : eb_S) (u100 : Nat) (w101 : Nat) => r87 s98 g99 u100 w101) (fun k102 => eb_br (x8_83 = 0) (k102 0 g94 u85 w86) (eb_cs g94 ph [11] ∧ ∃ c105 s106 : Nat, (u85 + c105 ≤ bc ∧ w86 + s106 ≤ bs) ∧ MX12_isLike Γ c105 s106 g94 ph p97 (fun v103 g104 => eb_br (v103 = 0) (k102 1 g104 (u85 + c105) (w86 + s106)) (k102 0 g104 (u85 + c105) (w86 + s106)))))))))))) 1 st U W := by
  have m1 : ∀ {x y : Nat}, ¬ x = y → x ∉ [y] := fun h z => h (List.mem_singleton.mp z)
  have sy : ∀ {x y : Nat}, ¬ x = y → ¬ y = x := fun h z => h z.symm
  refine eb_loop4_i (fun x8 g u w => ∃ m lr, m ≤ n ∧ x8 = nI (b1 (tal m (fun k => not (Nat.beq (ulF D s) (ulF D (σ k)))))) ∧ sf [pi] st g ∧ g pi = some (.inr (15, [.int (nI m), .int lr, .int (nI n), .ref pl])) ∧ u ≤ U + 5 * m ∧ w ≤ W + 520 * m ∧ ∃ v, g pi = some (.inr (15, [.int (nI m), .int v, .int (nI n), .ref pl])) ∧ m + v.toNatClampNeg * 0 = m) (fun _ g _ _ => match g pi with | some (.inr (_, .int v :: _)) => 10 - v.toNatClampNeg | _ => 0) ?_ ⟨0, lr, by omega, by rw [tal_0]; rfl, sf.rf _ _, hpi, by omega, by omega, lr, hpi, by omega⟩
  rintro R _ g u w ⟨m, lr', hm, rfl, hs, hp, hu, hw, _⟩ hR
  have hpl' := hs _ _ hL.1 (m1 (sy hpl))
  refine st_nn ⟨st_cs hp (by simp), ?_⟩
  unfold MJ6_hasNext
  refine st_gi hp rfl (st_gr hp (v := some pl) rfl (st_nn (st_gi hpl' rfl (br_eq (by omega) (by omega) (fun z => ⟨fun _ => ?_, fun y => absurd rfl y⟩) (fun z => ⟨fun y => absurd y (by decide), fun _ => ⟨st_cs hp (by simp), ?_⟩⟩)))))
  · subst z
    exact hK g u w hs hu hw
  have hmn : m < n := by omega
  unfold MJ6_next
  refine ⟨st_cs hp (by simp), ?_⟩
  unfold MJ6_checkForComodification
  refine st_gr hp (v := some pl) rfl (st_nn (st_gi hpl' rfl (st_gi hp rfl ⟨fun _ => ?_, fun y => absurd rfl y⟩)))
  refine st_gi hp rfl (st_gr hp (v := some pl) rfl (st_nn (st_gi hpl' rfl (br_lt (by omega) (by omega) (fun _ => ?_) (fun y => absurd hmn y)))))
  obtain ⟨f, ha, hfe⟩ : ∃ f, st arr = some (eb_ra Γ 8 10 f) ∧ ∀ k, k < n → f k = some (e k) := by
    rcases hL.2 with ⟨z1, _⟩ | ⟨_, f, z1, z2⟩
    · omega
    · exact ⟨f, z1, z2⟩
  have ha' := hs _ _ ha (m1 (sy hparr))
  refine st_gr hp (v := some pl) rfl (st_nn (st_gr hpl' (v := some arr) rfl (st_nn (st_ln ha' (br_lt (b := 10) (by omega) (by omega) (fun _ => ?_) (fun y => absurd (by omega) y))))))
  refine st_pt hp (by simp) (fun s1 g1 w1 => st_pt w1 (by simp) (fun s2 g2 w2 => st_lr (g2 _ _ (g1 _ _ ha' (m1 (sy hparr))) (m1 (sy hparr))) (by omega) (by omega) ?_))
  rw [hfe m hmn]
  rw [nI_1] at w2
  have hs2 : sf [pi] st s2 := (hs.tr g1).tr g2
  obtain ⟨pb2, ok2, net', pj', pm', ps', pk', pr', pf', fj', fm', f3', f4', fr', ff', t', w', hSt', hr'⟩ := hf m hmn
  obtain ⟨ok1, net, pj, pm, ps, pk, pr, pf, fj, fm, f3, f4, fr, ff, t, ww, hSt, hr⟩ := id hh
  have hJ2 : ∀ a y, J a y → s2 a = some y := fun a y hy => hs2 _ _ (hJ a y hy) (fun z => hJp y (by rw [← List.mem_singleton.mp z]; exact hy))
  have S1 := hSt s2 hJ2
  have S2 := hSt' s2 hJ2
  refine st_nn ⟨st_cs S2.1 (by simp), ?_⟩
  have next : ∀ (v : Bool) (g' : eb_S) (u' w' : Nat), v = tal (m + 1) (fun k => not (Nat.beq (ulF D s) (ulF D (σ k)))) → sf [] s2 g' → u' ≤ u + 5 → w' ≤ w + 520 → R (nI (b1 v)) g' u' w' := fun v g' u' w' hv hg' hu' hw' => by
    have wp := hg' _ _ w2 List.not_mem_nil
    refine hR _ _ _ _ ⟨m + 1, nI m, by omega, by rw [hv], fun a y ha hw => hg' _ _ (hs2 a y ha hw) List.not_mem_nil, wp, by omega, by omega, nI m, wp, by omega⟩ ?_
    show (match g' pi with | some (.inr (_, .int v :: _)) => 10 - v.toNatClampNeg | _ => 0) < (match g pi with | some (.inr (_, .int v :: _)) => 10 - v.toNatClampNeg | _ => 0)
    rw [wp, hp]
    show 10 - (nI (m + 1)).toNatClampNeg < 10 - (nI m).toNatClampNeg
    rw [nI_cl (by omega), nI_cl (by omega)]; omega
  refine jp_4 (fun v g' u' w' => ∃ b, v = nI (b1 b) ∧ b = tal (m + 1) (fun k => not (Nat.beq (ulF D s) (ulF D (σ k)))) ∧ sf [] s2 g' ∧ u' ≤ u + 5 ∧ w' ≤ w + 520) (fun v g' u' w' ⟨b, z1, z2, z3, z4, z5⟩ => by rw [z1]; exact next b g' u' w' z2 z3 z4 z5) ?_
  intro k102 hk102
  have ets := tal_s (fun k => not (Nat.beq (ulF D s) (ulF D (σ k)))) m
  cases htl : tal m (fun k => not (Nat.beq (ulF D s) (ulF D (σ k)))) with
  | false =>
    rw [htl] at ets
    refine ⟨fun _ => hk102 _ _ _ _ ⟨false, rfl, ets.symm, sf.rf _ _, by omega, by omega⟩, fun y => absurd rfl y⟩
  | true =>
    rw [htl] at ets
    refine ⟨fun y => absurd y (by decide), fun _ => ⟨st_cs S1.1 (by simp), 5, 520, ⟨by omega, by omega⟩, sc_isLike ok1 ok2 S1 S2 hr hr' (Nat.le_refl _) (Nat.le_refl _) (fun s3 g3 => ?_)⟩⟩
    have ets' : tal (m + 1) (fun k => not (Nat.beq (ulF D s) (ulF D (σ k)))) = not (Nat.beq (ulF D s) (ulF D (σ m))) := by rw [ets]; rfl
    show eb_br (nI (b1 (Nat.beq (ulF D s) (ulF D (σ m)))) = 0) _ _
    cases hbe : Nat.beq (ulF D s) (ulF D (σ m)) with
    | false =>
      rw [hbe] at ets'
      exact ⟨fun _ => hk102 _ _ _ _ ⟨true, rfl, ets'.symm, g3, by omega, by omega⟩, fun y => absurd rfl y⟩
    | true =>
      rw [hbe] at ets'
      exact ⟨fun y => absurd y (by decide), fun _ => hk102 _ _ _ _ ⟨false, rfl, ets'.symm, g3, by omega, by omega⟩⟩
end UL
