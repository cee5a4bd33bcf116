set_option maxRecDepth 100000
section CA1
variable {Γ : eb_C} {E : cET} {st st' : eb_S} {I I' : Nat → va_E → Prop} {ad : Nat → Nat} {bd : Nat → cBT} {x : cXT} {Ds : Nat → eb_D} {p bc bs : Nat}
theorem sc_in {a lo hi : Int32} {K : Int32 → Prop} (h1 : lo ≤ a ∧ a ≤ hi → K 1) (h2 : ¬ (lo ≤ a ∧ a ≤ hi) → K 0) : MX0_in a lo hi K := by
  unfold MX0_in
  refine ⟨fun h => h2 (fun z => Int32.not_lt.mpr z.1 h), fun h => ⟨fun h' => h2 (fun z => Int32.not_lt.mpr z.2 h'), fun h' => h1 ⟨Int32.not_lt.mp h, Int32.not_lt.mp h'⟩⟩⟩
theorem sc_isBody {a : Int32} {K : Int32 → Prop} (h1 : 0 ≤ a ∧ a ≤ 3 → K 1) (h0 : ¬ (0 ≤ a ∧ a ≤ 3) → K 0) : MX0_isBody a K := sc_in (fun h => ⟨Or.inr rfl, h1 h⟩) (fun h => ⟨Or.inl rfl, h0 h⟩)
theorem cV.W (h : cV Γ E st I ad bd x Ds) (hp : ad 16 = p) : cW Γ E st p Ds := ⟨I, ad, bd, x, hp, h⟩
/-- the group of a body whose group is known -/
theorem cV.grp {b : Nat} (h : cV Γ E st I ad bd x Ds) (hb : b < 4) (hk : (bd b).1.2.2 = 1) : (ZD (Ds b) = 0 → (bd b).2.1.1 = none) ∧ (¬ ZD (Ds b) = 0 → ∃ g, (bd b).2.1.1 = some g ∧ cGr Γ I g (TD (Ds b))) := by
  rcases (h.2.2.1 b hb).2.2.1 with z | z
  · rw [hk] at z; exact absurd z.1 (by decide)
  · exact z.2
theorem sc_grp2 {b : Nat} {K : Option Nat → eb_S → Prop} (hE : cEm E) (h : cV Γ E st I ad bd x Ds) (hb : b < 4) (hroom : (bd b).1.2.2 = 1 ∨ (22 ≤ bc ∧ 13660 ≤ bs))
    (hK : ∀ st' I' bd', cV Γ E st' I' ad bd' x Ds → (bd' b).1.2.2 = 1 → K (bd' b).2.1.1 st') : MX1_group Γ bc bs st (ad (4 * b)) K :=
  sc_grp hE h hb hroom (fun st' I' d hV hd _ => by
    have := hK st' I' _ hV (by rw [upB_eq]; exact hd)
    rw [upB_eq] at this
    exact this)
theorem sc_why {a v : Int32} {K : Int32 → eb_S → Prop} (hE : cEm E) (h : cV Γ E st I ad bd x Ds) (hp : ad 16 = p) (hroom : (∀ b, b < 4 → a = nI b → (bd b).1.2.2 = 1) ∨ (22 ≤ bc ∧ 13660 ≤ bs)) (h2 : ¬ (0 ≤ a ∧ a ≤ 3) ∨ v = 0 → K (-2) st)
    (h5 : ∀ b, b < 4 → a = nI b → ¬ v = 0 → ZD (Ds b) = 0 → ∀ st' I' bd', cV Γ E st' I' ad bd' x Ds → K (-5) st')
    (h1 : ∀ b, b < 4 → a = nI b → ¬ v = 0 → ¬ ZD (Ds b) = 0 → ∀ st' I' bd' g, cV Γ E st' I' ad bd' x Ds → (bd' b).1.2.2 = 1 → (bd' b).2.1.1 = some g → cGr Γ I' g (TD (Ds b)) → K 1 st') : MX0_why Γ bc bs st p a v K := by
  subst hp
  unfold MX0_why
  refine sc_isBody (fun hbd => ?_) (fun hbd => ?_)
  · obtain ⟨b, hb, rfl⟩ : ∃ b : Nat, b < 4 ∧ a = nI b := (body_or a).resolve_right (fun z => z hbd)
    refine jp_0 (v = 0) (fun hv => h2 (Or.inr hv)) (fun k5 hk5 => ⟨fun z => absurd z (by decide), fun _ => ⟨fun hv => hk5 hv, fun hv => ?_⟩⟩)
    refine h.at hb ⟨(h.body hb).cs, bc, bs, ⟨by omega, by omega⟩, ?_⟩
    refine sc_grp2 hE h hb (hroom.imp (fun z => z b hb rfl) id) (fun st' I' bd' hV hk => ?_)
    have q := hV.grp hb hk
    by_cases hz : ZD (Ds b) = 0
    · rw [q.1 hz]
      exact ⟨fun _ => h5 b hb rfl hv hz st' I' bd' hV, fun _ z => absurd z (by simp)⟩
    · obtain ⟨g, g1, g2⟩ := q.2 hz
      rw [g1]
      exact ⟨fun z => absurd z (by simp), fun _ _ => h1 b hb rfl hv hz st' I' bd' g hV hk g1 g2⟩
  · exact jp_0 True (fun _ => h2 (Or.inl hbd)) (fun k5 hk5 => ⟨fun _ => hk5 trivial, fun z => absurd rfl z⟩)
theorem cGr.n {q : Nat} {e : tE} {K : Int32 → Prop} (h : cGr Γ I q e) (hI : ∀ a y, I a y → st a = some y) (hK : K (nI e.2.2.1)) : eb_gi st q 7 1 K := by
  obtain ⟨pn, pf, pl, pg, fn, ff, fl, fg, h1, -⟩ := h
  exact st_gi (hI _ _ h1) rfl hK
theorem cGr.r {q : Nat} {e : tE} {K : Int32 → Prop} (h : cGr Γ I q e) (hI : ∀ a y, I a y → st a = some y) (hK : K (nI e.1)) : eb_gi st q 7 0 K := by
  obtain ⟨pn, pf, pl, pg, fn, ff, fl, fg, h1, -⟩ := h
  exact st_gi (hI _ _ h1) rfl hK
theorem cGr.cs {q : Nat} {e : tE} (h : cGr Γ I q e) (hI : ∀ a y, I a y → st a = some y) : eb_cs st q [7] := by
  obtain ⟨pn, pf, pl, pg, fn, ff, fl, fg, h1, -⟩ := h
  exact st_cs (hI _ _ h1) (List.mem_singleton.mpr rfl)
theorem cGr.len {q y : Nat} {e : tE} {K : Int32 → Prop} (h : cGr Γ I q e) (hI : ∀ a y, I a y → st a = some y) (hn : e.2.2.1 ≤ 500) (hy : y < e.2.2.1) (hK : K (nI (Tlen e y))) : eb_gr st q 7 5 (fun v => eb_nn v (fun r => eb_li Γ st r 4 (nI y) K)) := by
  obtain ⟨pn, pf, pl, pg, fn, ff, fl, fg, h1, h2, h3, h4, h5, h6, h7, h8, h9⟩ := h
  refine st_gr (hI _ _ h1) (v := some pg) rfl (st_nn (st_li (hI _ _ h5) (by omega) (by omega) ?_))
  rw [h7 y hy]; exact hK
theorem cGr.frm {q y : Nat} {e : tE} {K : Int32 → Prop} (h : cGr Γ I q e) (hI : ∀ a y, I a y → st a = some y) (hn : e.2.2.1 ≤ 500) (hy : y < e.2.2.1) (h0 : ¬ y = 0) (hK : K (nI (Tpar e y))) : eb_gr st q 7 3 (fun v => eb_nn v (fun r => eb_li Γ st r 3 (nI y) K)) := by
  obtain ⟨pn, pf, pl, pg, fn, ff, fl, fg, h1, h2, h3, h4, h5, h6, h7, h8, h9⟩ := h
  refine st_gr (hI _ _ h1) (v := some pf) rfl (st_nn (st_li (hI _ _ h3) (by omega) (by omega) ?_))
  rw [(h8 y hy h0).1]; exact hK
theorem cGr.las {q y : Nat} {e : tE} {K : Int32 → Prop} (h : cGr Γ I q e) (hI : ∀ a y, I a y → st a = some y) (hn : e.2.2.1 ≤ 500) (hy : y < e.2.2.1) (h0 : ¬ y = 0) (hK : K (nI (Tlas e y))) : eb_gr st q 7 4 (fun v => eb_nn v (fun r => eb_li Γ st r 4 (nI y) K)) := by
  obtain ⟨pn, pf, pl, pg, fn, ff, fl, fg, h1, h2, h3, h4, h5, h6, h7, h8, h9⟩ := h
  refine st_gr (hI _ _ h1) (v := some pl) rfl (st_nn (st_li (hI _ _ h4) (by omega) (by omega) ?_))
  rw [(h8 y hy h0).2]; exact hK
theorem sc_by {q g i : Nat} {e : tE} {K : Int32 → Prop} (hG : tG e) (h : cGr Γ I q e) (hI : ∀ a y, I a y → st a = some y) (hg : g < e.2.2.1) (hi : i < e.1) (hK : K (nI (Tto e g i))) : MX8_by Γ st q (nI g) (nI i) K := by
  obtain ⟨pn, pf, pl, pg, fn, ff, fl, fg, h1, h2, h3, h4, h5, h6, h7, h8, h9⟩ := h
  have hn := hG.1
  have hix : e.1 * g + i < e.1 * e.2.2.1 := ix_lt hg hi
  have hle : e.1 * e.2.2.1 ≤ 4 * 500 := Nat.mul_le_mul hn.1.2 hn.2.2
  unfold MX8_by
  refine st_gr (hI _ _ h1) (v := some pn) rfl (st_gi (hI _ _ h1) rfl (st_nn ?_))
  rw [nI_mul, nI_add]
  refine st_li (hI _ _ h2) hix (by omega) ?_
  rw [h6 g i hg hi]; exact hK
theorem sc_product {q g : Nat} {e : tE} (hG : tG e) (h : cGr Γ I q e) (hI : ∀ a y, I a y → st a = some y) (hg : g < e.2.2.1) : ∀ (d y : Nat) (K : Int32 → Prop), y < e.2.2.1 → Tlen e y < d → K (nI (Pr e g y)) → MX8_product Γ d st q (nI g) (nI y) K := by
  have hn := hG.1.2
  intro d
  induction d with
  | zero => intro y K _ hd; exact absurd hd (Nat.not_lt_zero _)
  | succ d ih =>
    intro y K hy hd hK
    refine br_eq (b := 0) (by omega) (by omega) (fun h0 => ?_) (fun h0 => ?_)
    · rw [h0, Pr_0 hG] at hK; exact hK
    · have k := Tkey_lt hG hy h0
      refine h.frm hI hn.2 hy h0 ⟨h.cs hI, ih _ _ (by omega) (by omega) ?_⟩
      refine h.las hI hn.2 hy h0 ⟨h.cs hI, sc_by hG h hI (Pr_lt hG hg _ (by omega)) k.2.2.1 ?_⟩
      rw [Pr_s hG hy h0] at hK
      exact hK
theorem sc_prod {q g y : Nat} {e : tE} {K : Int32 → Prop} (hG : tG e) (h : cGr Γ I q e) (hI : ∀ a y, I a y → st a = some y) (hg : g < e.2.2.1) (hy : y < e.2.2.1) (hK : K (nI (Pr e g y))) : MX8_product Γ 20 st q (nI g) (nI y) K :=
  sc_product hG h hI hg 20 y K hy (by have := (Tlen_0 hG hy).2; omega) hK
end CA1
