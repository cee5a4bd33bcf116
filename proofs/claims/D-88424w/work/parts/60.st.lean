set_option maxRecDepth 100000
/-! the class' store: reads, writes, what stays -/
/-- what was known stays known, but for the cells W -/
def sf (W : List Nat) (st st' : eb_S) : Prop := ∀ a e, st a = some e → a ∉ W → st' a = some e
theorem sf.rf (W : List Nat) (st : eb_S) : sf W st st := fun _ _ h _ => h
theorem sf.tr {W : List Nat} {s1 s2 s3 : eb_S} (h : sf W s1 s2) (h' : sf W s2 s3) : sf W s1 s3 := fun a e ha hw => h' a e (h a e ha hw) hw
theorem sf.up {W W' : List Nat} {s1 s2 : eb_S} (h : sf W s1 s2) (hs : ∀ k ∈ W, k ∈ W') : sf W' s1 s2 := fun a e ha hw => h a e ha (fun z => hw (hs a z))
theorem sf.set {W : List Nat} {s1 s2 : eb_S} (h : sf W s1 s2) {a : Nat} {e : va_E} (ha : a ∈ W) : sf W s1 (eb_up s2 a e) := fun b x hb hw => eb_up_some (h b x hb hw) (fun z => hw (by rw [z]; exact ha))
theorem sf.new {W : List Nat} {s1 s2 : eb_S} (h : sf W s1 s2) {a : Nat} {e : va_E} (ha : s2 a = none) : sf W s1 (eb_up s2 a e) := fun b x hb hw => eb_up_some (h b x hb hw) (fun z => by have := h b x hb hw; rw [z, ha] at this; exact absurd this (by simp))
theorem st_ne {st : eb_S} {a b : Nat} {e : va_E} (h : st a = some e) (hb : st b = none) : ¬ a = b := fun z => by rw [z, hb] at h; exact absurd h (by simp)
/-- one that was new is not among what was known -/
theorem sf.out {W : List Nat} {st st' : eb_S} (h : sf W st st') {a : Nat} {e : va_E} (ha : st a = some e) (hw : ∀ w ∈ W, st w = none) : st' a = some e := h a e ha (fun z => by rw [hw a z] at ha; exact absurd ha (by simp))
section ST
variable {Γ : eb_C} {st : eb_S} {a c k t n : Nat}
theorem st_gi {fs : List Value} {v : Int32} {K : Int32 → Prop} (h : st a = some (.inr (c, fs))) (hk : fs[k]? = some (.int v)) (hK : K v) : eb_gi st a c k K := ⟨fs, v, h, hk, hK⟩
theorem st_gr {fs : List Value} {v : Option Nat} {K : Option Nat → Prop} (h : st a = some (.inr (c, fs))) (hk : fs[k]? = some (va_rf v)) (hK : K v) : eb_gr st a c k K := ⟨fs, v, h, hk, hK⟩
theorem st_ni {fs : List Value} {v : Int32} {K : Int32 → Prop} (hc : eb_isN c) (h : st a = some (.inr (c, fs))) (hk : fs[k]? = some (.int v)) (hK : K v) : eb_ni st a k K := ⟨c, fs, v, hc, h, hk, hK⟩
theorem st_nr {fs : List Value} {v : Option Nat} {K : Option Nat → Prop} (hc : eb_isN c) (h : st a = some (.inr (c, fs))) (hk : fs[k]? = some (va_rf v)) (hK : K v) : eb_nr st a k K := ⟨c, fs, v, hc, h, hk, hK⟩
theorem st_np {fs : List Value} {x : Value} {K : eb_S → Prop} (hc : eb_isN c) (h : st a = some (.inr (c, fs))) (hk : k < fs.length) (hK : ∀ st', sf [a] st st' → st' a = some (.inr (c, fs.set k x)) → K st') : eb_np st a k x K :=
  ⟨c, fs, hc, h, hk, fun _ e => e ▸ hK _ ((sf.rf _ _).set (List.mem_singleton.mpr rfl)) eb_up_eq⟩
theorem st_pt {fs : List Value} {x : Value} {K : eb_S → Prop} (h : st a = some (.inr (c, fs))) (hk : k < fs.length) (hK : ∀ st', sf [a] st st' → st' a = some (.inr (c, fs.set k x)) → K st') : eb_pt st a c k x K :=
  ⟨fs, h, hk, fun _ e => e ▸ hK _ ((sf.rf _ _).set (List.mem_singleton.mpr rfl)) eb_up_eq⟩
theorem st_nn {p : Nat} {K : Nat → Prop} (hK : K p) : eb_nn (some p) K := ⟨p, rfl, hK⟩
theorem st_li {f : Nat → Int32} {i : Nat} {K : Int32 → Prop} (h : st a = some (eb_ia Γ t n f)) (hi : i < n) (hn : n < 2147483648) (hK : K (f i)) : eb_li Γ st a t (nI i) K :=
  ⟨n, f, h, vp_inN hi hn, fun v e => by rw [e, nI_cl (by omega)]; exact hK⟩
theorem st_ll {f : Nat → Int64} {i : Nat} {K : Int64 → Prop} (h : st a = some (eb_la Γ n f)) (hi : i < n) (hn : n < 2147483648) (hK : K (f i)) : eb_ll Γ st a (nI i) K :=
  ⟨n, f, h, vp_inN hi hn, fun v e => by rw [e, nI_cl (by omega)]; exact hK⟩
theorem st_lr {f : Nat → Option Nat} {i : Nat} {K : Option Nat → Prop} (h : st a = some (eb_ra Γ t n f)) (hi : i < n) (hn : n < 2147483648) (hK : K (f i)) : eb_lr Γ st a t (nI i) K :=
  ⟨n, f, h, vp_inN hi hn, fun v e => by rw [e, nI_cl (by omega)]; exact hK⟩
theorem st_wi {f : Nat → Int32} {i : Nat} {x : Int32} {K : eb_S → Prop} (h : st a = some (eb_ia Γ t n f)) (hi : i < n) (hn : n < 2147483648) (hK : ∀ st', sf [a] st st' → st' a = some (eb_ia Γ t n (upd f i x)) → K st') : eb_wi Γ st a t (nI i) x K :=
  ⟨n, f, h, vp_inN hi hn, fun st' e => by rw [nI_cl (by omega)] at e; rw [e]; exact hK _ ((sf.rf _ _).set (List.mem_singleton.mpr rfl)) eb_up_eq⟩
theorem st_wl {f : Nat → Int64} {i : Nat} {x : Int64} {K : eb_S → Prop} (h : st a = some (eb_la Γ n f)) (hi : i < n) (hn : n < 2147483648) (hK : ∀ st', sf [a] st st' → st' a = some (eb_la Γ n (vp_updL f i x)) → K st') : eb_wl Γ st a (nI i) x K :=
  ⟨n, f, h, vp_inN hi hn, fun st' e => by rw [nI_cl (by omega)] at e; rw [e]; exact hK _ ((sf.rf _ _).set (List.mem_singleton.mpr rfl)) eb_up_eq⟩
theorem st_wr {f : Nat → Option Nat} {i : Nat} {x : Option Nat} {K : eb_S → Prop} (h : st a = some (eb_ra Γ t n f)) (hi : i < n) (hn : n < 2147483648) (hK : ∀ st', sf [a] st st' → st' a = some (eb_ra Γ t n (va_up f i x)) → K st') : eb_wr Γ st a t (nI i) x K :=
  ⟨n, f, h, vp_inN hi hn, fun st' e => by rw [nI_cl (by omega)] at e; rw [e]; exact hK _ ((sf.rf _ _).set (List.mem_singleton.mpr rfl)) eb_up_eq⟩
theorem st_ln {x : vp_A} {K : Int32 → Prop} (h : st a = some (.inl (Γ.2.1 t, x))) (hK : K (nI x.1)) : eb_ln Γ st a t K := ⟨x, h, hK⟩
theorem st_mk {e : va_E} {bc bs uc us : Nat} {K : Nat → eb_S → Prop} (hc : uc + 1 ≤ bc) (hs : us + n ≤ bs) (hK : ∀ a st', st a = none → sf [] st st' → st' a = some e → K a st') : eb_mk st e n bc bs uc us K :=
  ⟨hc, hs, fun a ha _ e' => e' ▸ hK a _ ha ((sf.rf _ _).new ha) eb_up_eq⟩
theorem st_cs {fs : List Value} {cs : List Nat} (h : st a = some (.inr (c, fs))) (hc : c ∈ cs) : eb_cs st a cs := ⟨c, fs, hc, h⟩
theorem st_ok1 {m : Nat} (h : m ≤ 67108864) : eb_ok1 (nI m) := ⟨nI_neg (by omega), by rw [nI_cl (by omega)]; omega⟩
theorem vu_eq {α : Type} (f : Nat → α) (k : Nat) (v : α) : va_up f k v k = v := by unfold va_up; rw [if_pos rfl]
theorem vu_ne {α : Type} {f : Nat → α} {k j : Nat} {v : α} (h : ¬ j = k) : va_up f k v j = f j := by unfold va_up; rw [if_neg h]
end ST
theorem nar_sh : ∀ a, a < 501 → vp_nar .short (nI a).toInt16.toInt32 = nI a := by decide +kernel
theorem nar_by : ∀ a, a < 121 → vp_nar .byte (nI a).toInt8.toInt32 = nI a := by decide +kernel
theorem nar_sm : vp_nar .short (-1) = -1 := by decide +kernel
/-- a row is filled -/
theorem sp_fill {Γ : eb_C} {st : eb_S} {a n : Nat} {f : Nat → Int32} {x : Int32} {K : eb_S → Prop} (h : st a = some (eb_ia Γ 0 n f)) (hn : n < 2147483648) (hK : ∀ st' f', sf [a] st st' → st' a = some (eb_ia Γ 0 n f') → (∀ k, k < n → f' k = x) → K st') : MJ0_fill Γ st a x K := by
  unfold MJ0_fill
  refine st_ln h ?_
  refine eb_loop2_i (fun y s => ∃ m f', m ≤ n ∧ y = nI m ∧ sf [a] st s ∧ s a = some (eb_ia Γ 0 n f') ∧ ∀ k, k < m → f' k = x) (fun y _ => 2147483648 - y.toNatClampNeg) ?_ ⟨0, f, by omega, rfl, sf.rf _ _, h, fun k hk => absurd hk (Nat.not_lt_zero _)⟩
  rintro R y s ⟨m, f', hm, rfl, hs, hc, hr⟩ hR
  refine br_le hn (by omega) (fun h1 => hK s f' hs hc (fun k hk => hr k (by omega))) (fun h1 => ?_)
  refine st_wi hc (by omega) hn (fun s' hs' hc' => ?_)
  rw [nI_1]
  refine hR _ _ ⟨m + 1, _, by omega, rfl, hs.tr hs', hc', fun k hk => ?_⟩ ?_
  · by_cases e : k = m
    · rw [e, upd_eq]
    · rw [upd_ne e]; exact hr k (by omega)
  · rw [nI_cl (by omega), nI_cl (by omega)]; omega
theorem sp_fill3 {Γ : eb_C} {st : eb_S} {a n : Nat} {f : Nat → Int32} {x : Int32} {K : eb_S → Prop} (h : st a = some (eb_ia Γ 3 n f)) (hn : n < 2147483648) (hK : ∀ st' f', sf [a] st st' → st' a = some (eb_ia Γ 3 n f') → (∀ k, k < n → f' k = vp_nar .short x) → K st') : MJ0_fill_3 Γ st a x K := by
  unfold MJ0_fill_3
  refine st_ln h ?_
  refine eb_loop2_i (fun y s => ∃ m f', m ≤ n ∧ y = nI m ∧ sf [a] st s ∧ s a = some (eb_ia Γ 3 n f') ∧ ∀ k, k < m → f' k = vp_nar .short x) (fun y _ => 2147483648 - y.toNatClampNeg) ?_ ⟨0, f, by omega, rfl, sf.rf _ _, h, fun k hk => absurd hk (Nat.not_lt_zero _)⟩
  rintro R y s ⟨m, f', hm, rfl, hs, hc, hr⟩ hR
  refine br_le hn (by omega) (fun h1 => hK s f' hs hc (fun k hk => hr k (by omega))) (fun h1 => ?_)
  refine st_wi hc (by omega) hn (fun s' hs' hc' => ?_)
  rw [nI_1]
  refine hR _ _ ⟨m + 1, _, by omega, rfl, hs.tr hs', hc', fun k hk => ?_⟩ ?_
  · by_cases e : k = m
    · rw [e, upd_eq]
    · rw [upd_ne e]; exact hr k (by omega)
  · rw [nI_cl (by omega), nI_cl (by omega)]; omega
