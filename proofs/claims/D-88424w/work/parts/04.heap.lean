set_option maxRecDepth 100000
section HROWS
variable {l : Launch} {Γ : eb_C} {P : Option Value → eb_S → Prop} {X : eb_X} {cc : ByteArray} {own : String} {nL : Nat} {ret : Option FieldType} {R : Room} {pc pc1 tgt : Nat} {lv lv' : eb_L} {stk : List Value} {st : eb_S} {uc us : Nat}
theorem eg_get {a ci i : Nat} {C ref : String} {T : u_T} {N : Nat} {fs : List Value} {v : Value} (k : Nat) (hin : ∀ w ∈ u_ws C T N, w ∈ lw_all) (he : st a = some (.inr (ci, fs))) (hc : eb_cl[ci]? = some (C, T, N)) (hk : k < N) (hq : Cond.fieldLink own i ref (T k).2.1 (T k).2.2.1 ∈ lw_all) (hsame : (T k).1 = ref) (hv : fs[k]? = some v) (hd : eb_dc cc pc (.getfield i) 3 pc1) (kk : eb_G l Γ P X cc own nL ret R pc1 lv (v :: stk) st uc us) : eb_G l Γ P X cc own nL ret R pc lv (.ref a :: stk) st uc us := by
  obtain ⟨hd, rfl⟩ := hd
  obtain ⟨p, e, s, m, args, below, meth, c, A⟩ := X
  intro hX ls H locs hl hP hS
  obtain ⟨hx, hb, hml, hown, hts, hr, hlk, hK, hA⟩ := id hX
  exact va_get hx hb hts hin hown hK.1 (hP.P he) 0 rfl hc k hk (hts _ hq) (fun x h => by rw [← hsame]; exact h) hv hd (kk hX ls H locs hl hP hS)
theorem eg_getN {host : String} {a ci i : Nat} {C ref : String} {T : u_T} {N : Nat} {fs : List Value} {v : Value} (k : Nat) (hin : ∀ w ∈ u_ws C T N, w ∈ lw_all) (he : st a = some (.inr (ci, fs))) (hc : eb_cl[ci]? = some (C, T, N)) (hk : k < N) (hq : (own, i, ref, (T k).2.1, (T k).2.2.1, host) ∈ eb_nF) (hsame : (T k).1 = ref) (hv : fs[k]? = some v) (hd : eb_dc cc pc (.getfield i) 3 pc1) (kk : eb_G l Γ P X cc own nL ret R pc1 lv (v :: stk) st uc us) : eb_G l Γ P X cc own nL ret R pc lv (.ref a :: stk) st uc us := by
  obtain ⟨hd, rfl⟩ := hd
  obtain ⟨p, e, s, m, args, below, meth, c, A⟩ := X
  intro hX ls H locs hl hP hS
  obtain ⟨hx, hb, hml, hown, hts, hr, hlk, hK, hA⟩ := id hX
  exact va_getN (host := host) hx hb hts hin hown hK.1 (hP.P he) 0 rfl hc k hk (va_Nw.use rfl (hK.2.1.1 _ hq)) (fun x h => by rw [← hsame]; exact h) hv hd (kk hX ls H locs hl hP hS)
theorem eg_put {a ci i : Nat} {C ref : String} {T : u_T} {N : Nat} {fs : List Value} {v : Value} (k : Nat) (hin : ∀ w ∈ u_ws C T N, w ∈ lw_all) (he : st a = some (.inr (ci, fs))) (hc : eb_cl[ci]? = some (C, T, N)) (hk : k < N) (ty0 : Nat → FieldType) (hty : ∀ k, k < N → parseFieldDescriptor (T k).2.2.1 = some (ty0 k)) (hnm : ∀ a, a < N → ∀ b, b < N → a ≠ b → (T a).2.1 ≠ (T b).2.1) (hq : Cond.fieldLink own i ref (T k).2.1 (T k).2.2.1 ∈ lw_all) (hsame : (T k).1 = ref) (hfin : (T k).2.2.2 = false) (hn : narrow (ty0 k) v = v) (hfit : fits (ty0 k) v = true) (hlen : k < fs.length) (hd : eb_dc cc pc (.putfield i) 3 pc1) (kk : eb_G l Γ P X cc own nL ret R pc1 lv stk (eb_up st a (.inr (ci, fs.set k v))) uc us) : eb_G l Γ P X cc own nL ret R pc lv (v :: .ref a :: stk) st uc us := by
  obtain ⟨hd, rfl⟩ := hd
  obtain ⟨p, e, s, m, args, below, meth, c, A⟩ := X
  intro hX ls H locs hl hP hS
  obtain ⟨hx, hb, hml, hown, hts, hr, hlk, hK, hA⟩ := id hX
  have hap := va_apart (own := own) hts hin ty0 hty hnm hK.1 hc
  obtain ⟨r, h1, cell, q1, q2, q3, q4⟩ := (hP.1 a _ he).1
  have hr1 : r = (C, T, N) := Option.some.inj (h1.symm.trans hc)
  subst hr1
  obtain ⟨hS1, hfc, kC, hkC, hkind⟩ := hK.1.1 ci _ hc
  obtain ⟨cf, kf, fi, f, hi, hsl⟩ := hS1 k hk
  have hlay := hts _ (hin _ (u_in_lay hk))
  unfold u_lay at hlay
  have hst := (u_facts hfc hkC (u_lays hts hin hk) hi).1
  have hsm : s.fieldFound? ref (T k).2.1 (T k).2.2.1 = some (cf, kf, fi, f) := by rw [← hsame]; exact hi
  rw [if_neg (by rw [hfin]; decide)] at hlay
  have h6 := u_store hfc hkC hkind hlay hi (hty k hk) hn hfit
  refine W.putK hx hb (f := f) ⟨hown, hts _ hq, ⟨_, _, _, hsm⟩, hst⟩ (by rw [q2]; exact h6) q1 q3 (by rw [hsl]; exact k2_hasslot (q4 k hk)) rfl rfl hd fun H' e1 e2 e3 => ?_
  rw [hsl] at e1 ⊢
  exact kk hX ls H' _ hl (hP.set he ⟨_, hc, t_OB.to (V := updV (vp_V fs) k v) ⟨_, e1, q2, q3, t_set q4 hap hk v⟩ (fun j _ => vp_updV_set hlen v j)⟩ e3) (hS.put e2 e3 (hP.1 a _ he).2)
theorem eg_putF {a ci i : Nat} {C ref : String} {T : u_T} {N : Nat} {fs : List Value} {v : Value} (k : Nat) (hin : ∀ w ∈ u_ws C T N, w ∈ lw_all) (he : st a = some (.inr (ci, fs))) (hc : eb_cl[ci]? = some (C, T, N)) (hk : k < N) (ty0 : Nat → FieldType) (hty : ∀ k, k < N → parseFieldDescriptor (T k).2.2.1 = some (ty0 k)) (hnm : ∀ a, a < N → ∀ b, b < N → a ≠ b → (T a).2.1 ≠ (T b).2.1) (hq : Cond.fieldLink own i ref (T k).2.1 (T k).2.2.1 ∈ lw_all) (hsame : (T k).1 = ref) (hfin : (T k).2.2.2 = true) (hin2 : eb_in X) (hdecl : (T k).1 = own) (hn : narrow (ty0 k) v = v) (hfit : fits (ty0 k) v = true) (hlen : k < fs.length) (hd : eb_dc cc pc (.putfield i) 3 pc1) (kk : eb_G l Γ P X cc own nL ret R pc1 lv stk (eb_up st a (.inr (ci, fs.set k v))) uc us) : eb_G l Γ P X cc own nL ret R pc lv (v :: .ref a :: stk) st uc us := by
  obtain ⟨hd, rfl⟩ := hd
  obtain ⟨p, e, s, m, args, below, meth, c, A⟩ := X
  intro hX ls H locs hl hP hS
  obtain ⟨hx, hb, hml, hown, hts, hr, hlk, hK, hA⟩ := id hX
  have hap := va_apart (own := own) hts hin ty0 hty hnm hK.1 hc
  obtain ⟨r, h1, cell, q1, q2, q3, q4⟩ := (hP.1 a _ he).1
  have hr1 : r = (C, T, N) := Option.some.inj (h1.symm.trans hc)
  subst hr1
  obtain ⟨hS1, hfc, kC, hkC, hkind⟩ := hK.1.1 ci _ hc
  obtain ⟨cf, kf, fi, f, hi, hsl⟩ := hS1 k hk
  have hlay := hts _ (hin _ (u_in_lay hk))
  unfold u_lay at hlay
  have hst := (u_facts hfc hkC (u_lays hts hin hk) hi).1
  have hsm : s.fieldFound? ref (T k).2.1 (T k).2.2.1 = some (cf, kf, fi, f) := by rw [← hsame]; exact hi
  rw [if_pos hfin] at hlay
  have hcf : m.cls = cf := by
    obtain ⟨_, _, c', _, _, _, -, -, hf', -, -, -, hown2, -⟩ := Cond.laysFinal_spec hlay
    have e1 : c' = cf := by have := hi.symm.trans hf'; simp at this; exact this.1.symm
    rw [hdecl] at hown2
    rw [← e1]; exact Option.some.inj (hown.symm.trans hown2)
  have h6 := u_fits hfc hkC hkind (Or.inr hlay) hi (hty k hk) hn hfit
  refine W.putFinK hx hb hown (hts _ hq) hsm hst hcf hin2 (by rw [q2]; exact h6) q1 q3 (by rw [hsl]; exact k2_hasslot (q4 k hk)) rfl rfl hd fun H' e1 e2 e3 => ?_
  rw [hsl] at e1 ⊢
  exact kk hX ls H' _ hl (hP.set he ⟨_, hc, t_OB.to (V := updV (vp_V fs) k v) ⟨_, e1, q2, q3, t_set q4 hap hk v⟩ (fun j _ => vp_updV_set hlen v j)⟩ e3) (hS.put e2 e3 (hP.1 a _ he).2)
theorem eg_putN {host : String} {a ci i : Nat} {C ref : String} {T : u_T} {N : Nat} {fs : List Value} {v : Value} (k : Nat) (hin : ∀ w ∈ u_ws C T N, w ∈ lw_all) (he : st a = some (.inr (ci, fs))) (hc : eb_cl[ci]? = some (C, T, N)) (hk : k < N) (ty0 : Nat → FieldType) (hty : ∀ k, k < N → parseFieldDescriptor (T k).2.2.1 = some (ty0 k)) (hnm : ∀ a, a < N → ∀ b, b < N → a ≠ b → (T a).2.1 ≠ (T b).2.1) (hq : (own, i, ref, (T k).2.1, (T k).2.2.1, host) ∈ eb_nF) (hsame : (T k).1 = ref) (hfin : (T k).2.2.2 = false) (hn : narrow (ty0 k) v = v) (hfit : fits (ty0 k) v = true) (hlen : k < fs.length) (hd : eb_dc cc pc (.putfield i) 3 pc1) (kk : eb_G l Γ P X cc own nL ret R pc1 lv stk (eb_up st a (.inr (ci, fs.set k v))) uc us) : eb_G l Γ P X cc own nL ret R pc lv (v :: .ref a :: stk) st uc us := by
  obtain ⟨hd, rfl⟩ := hd
  obtain ⟨p, e, s, m, args, below, meth, c, A⟩ := X
  intro hX ls H locs hl hP hS
  obtain ⟨hx, hb, hml, hown, hts, hr, hlk, hK, hA⟩ := id hX
  have hap := va_apart (own := own) hts hin ty0 hty hnm hK.1 hc
  obtain ⟨r, h1, cell, q1, q2, q3, q4⟩ := (hP.1 a _ he).1
  have hr1 : r = (C, T, N) := Option.some.inj (h1.symm.trans hc)
  subst hr1
  obtain ⟨hS1, hfc, kC, hkC, hkind⟩ := hK.1.1 ci _ hc
  obtain ⟨cf, kf, fi, f, hi, hsl⟩ := hS1 k hk
  have hlay := hts _ (hin _ (u_in_lay hk))
  unfold u_lay at hlay
  have hst := (u_facts hfc hkC (u_lays hts hin hk) hi).1
  have hsm : s.fieldFound? ref (T k).2.1 (T k).2.2.1 = some (cf, kf, fi, f) := by rw [← hsame]; exact hi
  rw [if_neg (by rw [hfin]; decide)] at hlay
  have h6 := u_store hfc hkC hkind hlay hi (hty k hk) hn hfit
  refine va_WputK hx hb hown (va_Nw.use rfl (hK.2.1.1 _ hq)) hsm hst (by rw [q2]; exact h6) q1 q3 (by rw [hsl]; exact k2_hasslot (q4 k hk)) rfl rfl hd fun H' e1 e2 e3 => ?_
  rw [hsl] at e1 ⊢
  exact kk hX ls H' _ hl (hP.set he ⟨_, hc, t_OB.to (V := updV (vp_V fs) k v) ⟨_, e1, q2, q3, t_set q4 hap hk v⟩ (fun j _ => vp_updV_set hlen v j)⟩ e3) (hS.put e2 e3 (hP.1 a _ he).2)
theorem eg_iald {a n : Nat} {f : Nat → Int32} {i : Int32} (he : st a = some (.inl (Γ.2.1 0, n, .inl f))) (hin : vp_in i n) (hd : eb_dc cc pc (.iaload) 1 pc1) (kk : eb_G l Γ P X cc own nL ret R pc1 lv (.int (f i.toNatClampNeg) :: stk) st uc us) : eb_G l Γ P X cc own nL ret R pc lv (.int i :: .ref a :: stk) st uc us := by
  obtain ⟨hd, rfl⟩ := hd
  obtain ⟨p, e, s, m, args, below, meth, c, A⟩ := X
  intro hX ls H locs hl hP hS
  obtain ⟨hx, hb, hml, hown, hts, hr, hlk, hK, hA⟩ := id hX
  exact va_iald hx hb hK.1 (hP.P he) 0 0 rfl rfl hin hd (kk hX ls H locs hl hP hS)
theorem eg_zald {a n : Nat} {f : Nat → Int32} {i : Int32} (he : st a = some (.inl (Γ.2.1 1, n, .inl f))) (hin : vp_in i n) (hd : eb_dc cc pc (.baload) 1 pc1) (kk : eb_G l Γ P X cc own nL ret R pc1 lv (.int (f i.toNatClampNeg) :: stk) st uc us) : eb_G l Γ P X cc own nL ret R pc lv (.int i :: .ref a :: stk) st uc us := by
  obtain ⟨hd, rfl⟩ := hd
  obtain ⟨p, e, s, m, args, below, meth, c, A⟩ := X
  intro hX ls H locs hl hP hS
  obtain ⟨hx, hb, hml, hown, hts, hr, hlk, hK, hA⟩ := id hX
  exact va_zald hx hb hK.1 (hP.P he) 0 1 rfl rfl hin hd (kk hX ls H locs hl hP hS)
theorem eg_bald {a n : Nat} {f : Nat → Int32} {i : Int32} (he : st a = some (.inl (Γ.2.1 4, n, .inl f))) (hin : vp_in i n) (hd : eb_dc cc pc (.baload) 1 pc1) (kk : eb_G l Γ P X cc own nL ret R pc1 lv (.int (f i.toNatClampNeg) :: stk) st uc us) : eb_G l Γ P X cc own nL ret R pc lv (.int i :: .ref a :: stk) st uc us := by
  obtain ⟨hd, rfl⟩ := hd
  obtain ⟨p, e, s, m, args, below, meth, c, A⟩ := X
  intro hX ls H locs hl hP hS
  obtain ⟨hx, hb, hml, hown, hts, hr, hlk, hK, hA⟩ := id hX
  exact va_bald hx hb hK.1 (hP.P he) 0 4 rfl rfl hin hd (kk hX ls H locs hl hP hS)
theorem eg_sald {a n : Nat} {f : Nat → Int32} {i : Int32} (he : st a = some (.inl (Γ.2.1 3, n, .inl f))) (hin : vp_in i n) (hd : eb_dc cc pc (.saload) 1 pc1) (kk : eb_G l Γ P X cc own nL ret R pc1 lv (.int (f i.toNatClampNeg) :: stk) st uc us) : eb_G l Γ P X cc own nL ret R pc lv (.int i :: .ref a :: stk) st uc us := by
  obtain ⟨hd, rfl⟩ := hd
  obtain ⟨p, e, s, m, args, below, meth, c, A⟩ := X
  intro hX ls H locs hl hP hS
  obtain ⟨hx, hb, hml, hown, hts, hr, hlk, hK, hA⟩ := id hX
  exact va_sald hx hb hK.1 (hP.P he) 0 3 rfl rfl hin hd (kk hX ls H locs hl hP hS)
theorem eg_lald {a n : Nat} {f : Nat → Int64} {i : Int32} (he : st a = some (.inl (Γ.2.1 2, n, .inr (.inl f)))) (hin : vp_in i n) (hd : eb_dc cc pc (.laload) 1 pc1) (kk : eb_G l Γ P X cc own nL ret R pc1 lv (.long (f i.toNatClampNeg) :: stk) st uc us) : eb_G l Γ P X cc own nL ret R pc lv (.int i :: .ref a :: stk) st uc us := by
  obtain ⟨hd, rfl⟩ := hd
  obtain ⟨p, e, s, m, args, below, meth, c, A⟩ := X
  intro hX ls H locs hl hP hS
  obtain ⟨hx, hb, hml, hown, hts, hr, hlk, hK, hA⟩ := id hX
  exact va_lald hx hb hK.1 (hP.P he) 0 2 rfl rfl hin hd (kk hX ls H locs hl hP hS)
theorem eg_iast {a n : Nat} {f : Nat → Int32} {i : Int32} {x : Int32} (he : st a = some (.inl (Γ.2.1 0, n, .inl f))) (hin : vp_in i n) (hd : eb_dc cc pc (.iastore) 1 pc1) (kk : eb_G l Γ P X cc own nL ret R pc1 lv stk (eb_up st a (.inl (Γ.2.1 0, n, .inl (upd f i.toNatClampNeg x)))) uc us) : eb_G l Γ P X cc own nL ret R pc lv (.int x :: .int i :: .ref a :: stk) st uc us := by
  obtain ⟨hd, rfl⟩ := hd
  obtain ⟨p, e, s, m, args, below, meth, c, A⟩ := X
  intro hX ls H locs hl hP hS
  obtain ⟨hx, hb, hml, hown, hts, hr, hlk, hK, hA⟩ := id hX
  refine W.iast hx hb (hP.1 a _ he).1 ((hK.1.2 0 _ rfl).1 n (fun j => .int (f j))) (fun q => by cases q) (by show ¬ (i < 0 ∨ (arrV _ _ _).slots.size ≤ _); rw [arrV_size]; exact hin) rfl rfl hd fun H1 e z oq => ?_
  refine kk hX ls H1 _ hl (hP.set he ?_ oq) (hS.put z oq (hP.1 a _ he).2)
  show H1[a]? = some (vp_cell _ _)
  rw [e]
  rw [vp_cell_i, vp_cell_i, arrV_store]
  congr 2
  funext q
  by_cases hq : q = i.toNatClampNeg
  · subst hq
    simp [updV, upd, vp_nar, vp_updL]
    try rfl
  · simp [updV, upd, vp_updL, hq]
theorem eg_zast {a n : Nat} {f : Nat → Int32} {i : Int32} {x : Int32} (he : st a = some (.inl (Γ.2.1 1, n, .inl f))) (hin : vp_in i n) (hd : eb_dc cc pc (.bastore) 1 pc1) (kk : eb_G l Γ P X cc own nL ret R pc1 lv stk (eb_up st a (.inl (Γ.2.1 1, n, .inl (upd f i.toNatClampNeg (vp_nar .boolean x))))) uc us) : eb_G l Γ P X cc own nL ret R pc lv (.int x :: .int i :: .ref a :: stk) st uc us := by
  obtain ⟨hd, rfl⟩ := hd
  obtain ⟨p, e, s, m, args, below, meth, c, A⟩ := X
  intro hX ls H locs hl hP hS
  obtain ⟨hx, hb, hml, hown, hts, hr, hlk, hK, hA⟩ := id hX
  refine W.zast hx hb (hP.1 a _ he).1 ((hK.1.2 1 _ rfl).1 n (fun j => .int (f j))) (fun q => by cases q) (by show ¬ (i < 0 ∨ (arrV _ _ _).slots.size ≤ _); rw [arrV_size]; exact hin) rfl rfl hd fun H1 e z oq => ?_
  refine kk hX ls H1 _ hl (hP.set he ?_ oq) (hS.put z oq (hP.1 a _ he).2)
  show H1[a]? = some (vp_cell _ _)
  rw [e]
  rw [vp_cell_i, vp_cell_i, arrV_store]
  congr 2
  funext q
  by_cases hq : q = i.toNatClampNeg
  · subst hq
    simp [updV, upd, vp_nar, vp_updL]
    try rfl
  · simp [updV, upd, vp_updL, hq]
theorem eg_bast {a n : Nat} {f : Nat → Int32} {i : Int32} {x : Int32} (he : st a = some (.inl (Γ.2.1 4, n, .inl f))) (hin : vp_in i n) (hd : eb_dc cc pc (.bastore) 1 pc1) (kk : eb_G l Γ P X cc own nL ret R pc1 lv stk (eb_up st a (.inl (Γ.2.1 4, n, .inl (upd f i.toNatClampNeg (vp_nar .byte x))))) uc us) : eb_G l Γ P X cc own nL ret R pc lv (.int x :: .int i :: .ref a :: stk) st uc us := by
  obtain ⟨hd, rfl⟩ := hd
  obtain ⟨p, e, s, m, args, below, meth, c, A⟩ := X
  intro hX ls H locs hl hP hS
  obtain ⟨hx, hb, hml, hown, hts, hr, hlk, hK, hA⟩ := id hX
  refine W.bast hx hb (hP.1 a _ he).1 ((hK.1.2 4 _ rfl).1 n (fun j => .int (f j))) (fun q => by cases q) (by show ¬ (i < 0 ∨ (arrV _ _ _).slots.size ≤ _); rw [arrV_size]; exact hin) rfl rfl hd fun H1 e z oq => ?_
  refine kk hX ls H1 _ hl (hP.set he ?_ oq) (hS.put z oq (hP.1 a _ he).2)
  show H1[a]? = some (vp_cell _ _)
  rw [e]
  rw [vp_cell_i, vp_cell_i, arrV_store]
  congr 2
  funext q
  by_cases hq : q = i.toNatClampNeg
  · subst hq
    simp [updV, upd, vp_nar, vp_updL]
    try rfl
  · simp [updV, upd, vp_updL, hq]
theorem eg_sast {a n : Nat} {f : Nat → Int32} {i : Int32} {x : Int32} (he : st a = some (.inl (Γ.2.1 3, n, .inl f))) (hin : vp_in i n) (hd : eb_dc cc pc (.sastore) 1 pc1) (kk : eb_G l Γ P X cc own nL ret R pc1 lv stk (eb_up st a (.inl (Γ.2.1 3, n, .inl (upd f i.toNatClampNeg (vp_nar .short x))))) uc us) : eb_G l Γ P X cc own nL ret R pc lv (.int x :: .int i :: .ref a :: stk) st uc us := by
  obtain ⟨hd, rfl⟩ := hd
  obtain ⟨p, e, s, m, args, below, meth, c, A⟩ := X
  intro hX ls H locs hl hP hS
  obtain ⟨hx, hb, hml, hown, hts, hr, hlk, hK, hA⟩ := id hX
  refine W.sast hx hb (hP.1 a _ he).1 ((hK.1.2 3 _ rfl).1 n (fun j => .int (f j))) (fun q => by cases q) (by show ¬ (i < 0 ∨ (arrV _ _ _).slots.size ≤ _); rw [arrV_size]; exact hin) rfl rfl hd fun H1 e z oq => ?_
  refine kk hX ls H1 _ hl (hP.set he ?_ oq) (hS.put z oq (hP.1 a _ he).2)
  show H1[a]? = some (vp_cell _ _)
  rw [e]
  rw [vp_cell_i, vp_cell_i, arrV_store]
  congr 2
  funext q
  by_cases hq : q = i.toNatClampNeg
  · subst hq
    simp [updV, upd, vp_nar, vp_updL]
    try rfl
  · simp [updV, upd, vp_updL, hq]
theorem eg_last {a n : Nat} {f : Nat → Int64} {i : Int32} {x : Int64} (he : st a = some (.inl (Γ.2.1 2, n, .inr (.inl f)))) (hin : vp_in i n) (hd : eb_dc cc pc (.lastore) 1 pc1) (kk : eb_G l Γ P X cc own nL ret R pc1 lv stk (eb_up st a (.inl (Γ.2.1 2, n, .inr (.inl (vp_updL f i.toNatClampNeg x))))) uc us) : eb_G l Γ P X cc own nL ret R pc lv (.long x :: .int i :: .ref a :: stk) st uc us := by
  obtain ⟨hd, rfl⟩ := hd
  obtain ⟨p, e, s, m, args, below, meth, c, A⟩ := X
  intro hX ls H locs hl hP hS
  obtain ⟨hx, hb, hml, hown, hts, hr, hlk, hK, hA⟩ := id hX
  refine W.last hx hb (hP.1 a _ he).1 ((hK.1.2 2 _ rfl).1 n (fun j => .long (f j))) (fun q => by cases q) (by show ¬ (i < 0 ∨ (arrV _ _ _).slots.size ≤ _); rw [arrV_size]; exact hin) rfl rfl hd fun H1 e z oq => ?_
  refine kk hX ls H1 _ hl (hP.set he ?_ oq) (hS.put z oq (hP.1 a _ he).2)
  show H1[a]? = some (vp_cell _ _)
  rw [e]
  rw [vp_cell_l, vp_cell_l, arrV_store]
  congr 2
  funext q
  by_cases hq : q = i.toNatClampNeg
  · subst hq
    simp [updV, upd, vp_nar, vp_updL]
    try rfl
  · simp [updV, upd, vp_updL, hq]
theorem eg_alen {a t : Nat} {x : vp_A} {cA : ClassId} {ty : FieldType} {v : Int32} (he : st a = some (.inl (cA, x))) (ht : (eb_tys Γ.2.1)[t]? = some (cA, ty)) (hv : Int32.ofNat x.1 = v) (hd : eb_dc cc pc (.arraylength) 1 pc1) (kk : eb_G l Γ P X cc own nL ret R pc1 lv (.int v :: stk) st uc us) : eb_G l Γ P X cc own nL ret R pc lv (.ref a :: stk) st uc us := by
  obtain ⟨hd, rfl⟩ := hd
  obtain ⟨p, e, s, m, args, below, meth, c, A⟩ := X
  intro hX ls H locs hl hP hS
  obtain ⟨hx, hb, hml, hown, hts, hr, hlk, hK, hA⟩ := id hX
  exact va_alen hx hb hK.1 (hP.P he) 0 t rfl ht hv hd (kk hX ls H locs hl hP hS)
theorem eb_HP.fresh {Γ : eb_C} {A : Nat → Prop} {st : eb_S} {H : Heap} (h : eb_HP Γ A st H) : st H.size = none := by
  cases hq : st H.size with
  | none => rfl
  | some e => exact absurd (h.1 _ e hq).1.lt (Nat.lt_irrefl _)
theorem eg_newa {atype : ArrayType} {ty : FieldType} {t : Nat} {n : Int32} {N' : Nat} {a0 : vp_A} (hq : Cond.arrayClass ty ∈ lw_all) (hty : newarray.typeOf atype = ty) (hfc : (eb_tys Γ.2.1)[t]? = some (Γ.2.1 t, ty)) (hpr : ∀ C, ty ≠ .object C) (ha : ∀ cA : ClassId, vp_cell cA a0 = arrV cA N' (fun _ => defaultValue ty)) (hn : ¬ n < 0) (hN : n.toNatClampNeg = N') (hbytes : N' * componentBytes ty ≤ 536870912) (hcells : uc + 1 ≤ R.cells) (hslots : us + N' ≤ R.slots) (hd : eb_dc cc pc (.newarray atype) 2 pc1)
    (kk : ∀ a : Nat, st a = none → eb_G l Γ P X cc own nL ret R pc1 lv (.ref a :: stk) (eb_up st a (.inl (Γ.2.1 t, a0))) (uc + 1) (us + N')) : eb_G l Γ P X cc own nL ret R pc lv (.int n :: stk) st uc us := by
  obtain ⟨hd, rfl⟩ := hd
  subst hty
  obtain ⟨p, e, s, m, args, below, meth, c, A⟩ := X
  intro hX ls H locs hl hP hS
  obtain ⟨hx, hb, hml, hown, hts, hr, hlk, hK, hA⟩ := id hX
  refine va_newaK hx hb (hts _ hq) rfl hd rfl hn hN hbytes hcells hslots rfl fun H1 cA e1 z1 o1 hAr hNm => ?_
  have hcA : cA = Γ.2.1 t := by
    have h9 := (hK.1.2 t _ hfc).2
    generalize hg : newarray.typeOf atype = ty at h9 hNm hpr
    cases ty with
    | object C => exact absurd rfl (hpr C)
    | _ => exact Option.some.inj (hNm.symm.trans h9)
  subst hcA
  refine kk H.size hP.fresh hX ls H1 locs hl (hP.push rfl (hA _ hS.1) ?_ o1) ⟨Nat.le_trans hS.1 (by omega), fun x h1 h2 => (o1 x (Nat.lt_of_lt_of_le h1 hS.1)).trans (hS.2.1 x h1 h2), hS.2.2⟩
  show H1[H.size]? = some (vp_cell _ _)
  rw [ha]
  exact e1
theorem eg_new {C : String} {T : u_T} {N ci i : Nat} {fs : List Value} (hin : ∀ w ∈ u_ws C T N, w ∈ lw_all) (ty : Nat → FieldType) (hty : ∀ k, k < N → parseFieldDescriptor (T k).2.2.1 = some (ty k)) (hcl : Cond.classLink own i C ∈ lw_all) (hinst : Cond.instantiable C N ∈ lw_all) (hini : Cond.initialized C ∈ lw_all) (hc : eb_cl[ci]? = some (C, T, N)) (hfs : ∀ j, j < N → defaultValue (ty j) = vp_V fs j) (hcells : uc + 1 ≤ R.cells) (hslots : us + N ≤ R.slots) (hd : eb_dc cc pc (.new i) 3 pc1)
    (kk : ∀ a : Nat, st a = none → eb_G l Γ P X cc own nL ret R pc1 lv (.ref a :: stk) (eb_up st a (.inr (ci, fs))) (uc + 1) (us + N)) : eb_G l Γ P X cc own nL ret R pc lv stk st uc us := by
  obtain ⟨hd, rfl⟩ := hd
  obtain ⟨p, e, s, m, args, below, meth, c, A⟩ := X
  intro hX ls H locs hl hP hS
  obtain ⟨hx, hb, hml, hown, hts, hr, hlk, hK, hA⟩ := id hX
  have hKn := hK.1.1 ci _ hc
  refine W.newcK hx hb hown (hts _ hcl) (hts _ hinst) (hts _ hini) rfl hd hcells hslots hKn.2.1 rfl fun H1 kC hkC e1 z1 o1 => ?_
  refine kk H.size hP.fresh hX ls H1 locs hl (hP.push rfl (hA _ hS.1) ?_ o1) ⟨Nat.le_trans hS.1 (by omega), fun x h1 h2 => (o1 x (Nat.lt_of_lt_of_le h1 hS.1)).trans (hS.2.1 x h1 h2), hS.2.2⟩
  exact ⟨_, hc, (u_born ty hts hin hKn hkC e1 hty).to hfs⟩
theorem eg_objInit {i a : Nat} (hq : Cond.methodLink own i Lib.objectInit ∈ lw_all) (hq1 : Cond.instanceMethod Lib.objectInit ∈ lw_all) (hq2 : Cond.code Lib.objectInit ⟨#[0xb1]⟩ 1 none ∈ lw_all) (hd : eb_dc cc pc (.invokespecial i) 3 pc1) (hf : 1 ≤ R.frames) (hlo : (stk.map fun v => v.category).sum + 12 ≤ R.locals) (kk : eb_G l Γ P X cc own nL ret R pc1 lv stk st uc us) : eb_G l Γ P X cc own nL ret R pc lv (.ref a :: stk) st uc us := by
  obtain ⟨hd, rfl⟩ := hd
  obtain ⟨p, e, s, m, args, below, meth, c, A⟩ := X
  intro hX ls H locs hl hP hS
  obtain ⟨hx, hb, hml, hown, hts, hr, hlk, hK, hA⟩ := id hX
  refine W.objInit hx hb hown (hts _ hq) (hts _ hq1) (hts _ hq2) rfl (by rw [hml]; exact hl.1) rfl hd hf ?_ (kk hX ls H locs hl hP hS)
  show 2 * 0 + _ + 12 ≤ _
  omega
theorem eb_callk {p : Program} {e : Env} {s : State} {m : MethodId} {args : Array Value} {below : List Frame} {meth : Method} {c : Code} {H : Heap} {locs : List Loc} {Q : State → Prop} {A : Nat → Prop} {K : Option Value → eb_S → Prop} {mc ms : Nat} {ls : Array Slot} {st0 rest : List Value} {a : Array Value}
    (hr : va_Run p l e R s m args below meth c H locs uc us mc ms (F0 m pc ls st0) rest (eb_Q Γ (eb_A st H.size) K a) (eb_A st H.size)) (hS : va_S A s.heap H locs) (hA : ∀ q, eb_A st H.size q → A q)
    (kk : ∀ (v : Option Value) (st' : eb_S) (H1 : Heap) (locs1 : List Loc), K v st' → eb_HP Γ (eb_A st H.size) st' H1 → va_S A s.heap H1 locs1 → W p l e R s m args below meth c H1 locs1 (uc + mc) (us + ms) Q (F0 m (pc + 3) ls (v.toList ++ rest))) : W p l e R s m args below meth c H locs uc us Q (F0 m pc ls st0) := by
  intro T hT X
  obtain ⟨v, st₀, t, T', L, h0, X', hL, e1, e2, ⟨⟨v', st', hv, hp, hb⟩, hz, hk⟩, stp⟩ := hr T hT X
  cases hv
  rw [h0] at hz hk
  obtain ⟨t2, a1, b1⟩ := kk v st' T'.heap (locs ++ L) hp (by rw [e1]; exact hb)
    ⟨Nat.le_trans hS.1 (by rw [e1]; exact hz), fun q h1 h2 => by rw [e1, hk q (Nat.lt_of_lt_of_le h1 hS.1) (fun z => h2 (hA q z))]; exact hS.2.1 q h1 h2, fun q hq => by
      rcases List.mem_append.mp hq with h | h
      · exact hS.2.2 q h
      · exact hA _ (hL q h)⟩ T' rfl X'
  exact ⟨t2, stp t2 a1, b1⟩
theorem eb_blind {av : List Value} {sz : Nat} : FrameBlind (va_Pc av (fun U => U.heap.size = sz ∧ eb_HP Γ (eb_A st sz) st U.heap ∧ eb_K Γ U)) := fun a U g mk q => by
  obtain ⟨q0, q1, qP, qK⟩ := q
  exact ⟨q0, q1, qP, qK.same rfl⟩
theorem eb_hA {A : Nat → Prop} {s : State} {H : Heap} {locs : List Loc} (hP : eb_HP Γ A st H) (hS : va_S A s.heap H locs) (hA : ∀ q, s.heap.size ≤ q → A q) : ∀ q, eb_A st H.size q → A q := fun q h => by
  rcases h with ⟨e, h⟩ | h
  · exact (hP.1 q e h).2
  · exact hA q (Nat.le_trans hS.1 h)
theorem eb_HP.callee {A : Nat → Prop} {s : State} {H : Heap} {locs : List Loc} (hP : eb_HP Γ A st H) (hS : va_S A s.heap H locs) (hA : ∀ q, s.heap.size ≤ q → A q) : eb_HP Γ (eb_A st H.size) st H :=
  ⟨fun a e h => ⟨(hP.1 a e h).1, Or.inl ⟨e, h⟩⟩, fun q hq => ⟨(hP.2 q hq).1, fun z => (hP.2 q hq).2 (eb_hA hP hS hA _ z)⟩⟩
theorem eb_HP.back {A B : Nat → Prop} {st' : eb_S} {H H1 : Heap} (hP : eb_HP Γ A st H) (h : eb_HP Γ B st' H1) (hBA : ∀ q, B q → A q) : eb_HP Γ A st' H1 :=
  ⟨fun a e he => ⟨(h.1 a e he).1, hBA a (h.1 a e he).2⟩, fun q hq => ⟨(h.2 q hq).1, (hP.2 q hq).2⟩⟩
abbrev eb_ar (y : MethodName) (n : Nat) : Prop := y.cls ≠ "java/lang/invoke/MethodHandle" ∧ y.cls ≠ "java/lang/invoke/VarHandle" ∧ (parseMethodDescriptor y.desc).map (fun d => d.parameters.length) = some n
theorem eg_callV {y : MethodName} {bytes : ByteArray} {maxL n i : Nat} {rt : Option FieldType} {rm : Room} {As rest stk0 : List Value} {K : Option Value → eb_S → Prop} {b ci : Nat} {C : String} {T : u_T} {N : Nat} {fs : List Value} (hct : eb_Ct l Γ y bytes maxL rt rm (.ref b :: As) st K) (hg : GoodIn lw_all (wsV own i C y (ws_ y bytes maxL rt))) (hC : y.cls = C) (har : eb_ar y n) (hR : rm.frames + 1 ≤ R.frames ∧ 8 + (maxL + 11) + rm.locals ≤ R.locals) (hc : uc + rm.cells ≤ R.cells ∧ us + rm.slots ≤ R.slots) (he : st b = some (.inr (ci, fs))) (hcl : eb_cl[ci]? = some (C, T, N)) (hn : As.length = n) (hstk : stk0 = As.reverse ++ .ref b :: rest) (hro : (rest.map fun v => v.category).sum ≤ 8) (hd : eb_dc cc pc (.invokevirtual i) 3 pc1) (kk : ∀ (v : Option Value) (st' : eb_S), K v st' → eb_G l Γ P X cc own nL ret R pc1 lv (v.toList ++ rest) st' (uc + rm.cells) (us + rm.slots)) : eb_G l Γ P X cc own nL ret R pc lv stk0 st uc us := by
  obtain ⟨hd, rfl⟩ := hd
  subst hstk
  obtain ⟨p, e, s, m, args, below, meth, c, A⟩ := X
  intro hX ls H locs hl hP hS
  obtain ⟨hx, hb, hml, hown, hts, hr, hlk, hK, hA⟩ := id hX
  refine eb_callk (st := st) (K := K) (a := (Value.ref b :: As).toArray) ?_ hS (eb_hA hP hS hA) (fun v st' H1 locs1 hk hP1 hS1 => kk v st' hk hX ls H1 locs1 hl (hP.back hP1 (eb_hA hP hS hA)) hS1)
  exact va_runV ⟨hx, hb, hml, hown, hts⟩ (hct H.size) (cwV n hts hg rfl rfl rfl ⟨hC, har⟩ hR) ⟨eb_blind, va_recv hK.1 (hP.P he) hcl (q0 := 0) rfl, fun U hU hW => ⟨rfl, by rw [hU], by rw [hU]; exact hP.callee hS hA, hK.warm hW⟩⟩ rfl hn hl.1 rfl (lv_room hro) hd hc
theorem eg_callS {y : MethodName} {bytes : ByteArray} {maxL n i : Nat} {rt : Option FieldType} {rm : Room} {As rest stk0 : List Value} {K : Option Value → eb_S → Prop} (hct : eb_Ct l Γ y bytes maxL rt rm As st K) (hg : GoodIn lw_all (va_wsS own i y (ws_ y bytes maxL rt))) (har : eb_ar y n) (hR : rm.frames + 1 ≤ R.frames ∧ 8 + (maxL + 11) + rm.locals ≤ R.locals) (hc : uc + rm.cells ≤ R.cells ∧ us + rm.slots ≤ R.slots) (hn : As.length = n) (hstk : stk0 = As.reverse ++ rest) (hro : (rest.map fun v => v.category).sum ≤ 8) (hd : eb_dc cc pc (.invokestatic i) 3 pc1) (kk : ∀ (v : Option Value) (st' : eb_S), K v st' → eb_G l Γ P X cc own nL ret R pc1 lv (v.toList ++ rest) st' (uc + rm.cells) (us + rm.slots)) : eb_G l Γ P X cc own nL ret R pc lv stk0 st uc us := by
  obtain ⟨hd, rfl⟩ := hd
  subst hstk
  obtain ⟨p, e, s, m, args, below, meth, c, A⟩ := X
  intro hX ls H locs hl hP hS
  obtain ⟨hx, hb, hml, hown, hts, hr, hlk, hK, hA⟩ := id hX
  refine eb_callk (st := st) (K := K) (a := As.toArray) ?_ hS (eb_hA hP hS hA) (fun v st' H1 locs1 hk hP1 hS1 => kk v st' hk hX ls H1 locs1 hl (hP.back hP1 (eb_hA hP hS hA)) hS1)
  exact va_runS ⟨hx, hb, hml, hown, hts⟩ (hct H.size) (va_cwS n hts hg rfl rfl rfl har hR) ⟨eb_blind, fun U hU hW => ⟨rfl, by rw [hU], by rw [hU]; exact hP.callee hS hA, hK.warm hW⟩⟩ rfl hn hl.1 rfl (lv_room hro) hd hc
theorem eg_callI {y : MethodName} {bytes : ByteArray} {maxL n i : Nat} {rt : Option FieldType} {rm : Room} {As rest stk0 : List Value} {K : Option Value → eb_S → Prop} {b : Nat} (hct : eb_Ct l Γ y bytes maxL none rm (.ref b :: As) st K) (hq : Cond.code y bytes maxL none ∈ lw_all) (hq1 : Cond.initialized y.cls ∈ lw_all) (hq2 : Cond.methodLink own i y ∈ lw_all) (hq3 : Cond.instanceMethod y ∈ lw_all) (hi : y.name = "<init>") (har : eb_ar y n) (hR : rm.frames + 1 ≤ R.frames ∧ 8 + (maxL + 11) + rm.locals ≤ R.locals) (hc : uc + rm.cells ≤ R.cells ∧ us + rm.slots ≤ R.slots) (hn : As.length = n) (hstk : stk0 = As.reverse ++ .ref b :: rest) (hro : (rest.map fun v => v.category).sum ≤ 8) (hd : eb_dc cc pc (.invokespecial i) 3 pc1) (kk : ∀ (v : Option Value) (st' : eb_S), K v st' → eb_G l Γ P X cc own nL ret R pc1 lv (v.toList ++ rest) st' (uc + rm.cells) (us + rm.slots)) : eb_G l Γ P X cc own nL ret R pc lv stk0 st uc us := by
  obtain ⟨hd, rfl⟩ := hd
  subst hstk
  obtain ⟨p, e, s, m, args, below, meth, c, A⟩ := X
  intro hX ls H locs hl hP hS
  obtain ⟨hx, hb, hml, hown, hts, hr, hlk, hK, hA⟩ := id hX
  refine eb_callk (st := st) (K := K) (a := (Value.ref b :: As).toArray) ?_ hS (eb_hA hP hS hA) (fun v st' H1 locs1 hk hP1 hS1 => kk v st' hk hX ls H1 locs1 hl (hP.back hP1 (eb_hA hP hS hA)) hS1)
  exact va_runI ⟨hx, hb, hml, hown, hts⟩ (hct H.size) (cwI n hts (lw_meth hq) rfl rfl rfl (hts _ hq1) (hts _ hq2) (hts _ hq3) hi har hR) ⟨eb_blind, fun U hU hW => ⟨rfl, by rw [hU], by rw [hU]; exact hP.callee hS hA, hK.warm hW⟩⟩ rfl hn hl.1 rfl (lv_room hro) hd hc
end HROWS
