set_option maxRecDepth 100000
theorem eb_rfc (v : Option Nat) : (va_rf v).category = 1 := by cases v <;> rfl
theorem eb_rfz (v : Option Nat) : va_rf v = .null ∨ ∃ a, va_rf v = .ref a := by
  cases v with
  | none => exact Or.inl rfl
  | some a => exact Or.inr ⟨a, rfl⟩
/-- ints copied from one array to another -/
def eb_cp (Γ : eb_C) (st : eb_S) (a : Nat) (sp : Int32) (b : Nat) (dp n : Int32) (K : eb_S → Prop) : Prop := ∃ (n0 n1 : Nat) (f g : Nat → Int32), st a = some (eb_ia Γ 0 n0 f) ∧ st b = some (eb_ia Γ 0 n1 g) ∧ ¬ sp < 0 ∧ ¬ dp < 0 ∧ ¬ n < 0 ∧ sp.toNatClampNeg + n.toNatClampNeg ≤ n0 ∧ dp.toNatClampNeg + n.toNatClampNeg ≤ n1 ∧ ∀ st' : eb_S, st' = eb_up st b (eb_ia Γ 0 n1 (va_cpy f g sp.toNatClampNeg dp.toNatClampNeg n.toNatClampNeg)) → K st'
section UROWS
variable {l : Launch} {Γ : eb_C} {P : Option Value → eb_S → Prop} {X : eb_X} {cc : ByteArray} {own : String} {nL : Nat} {ret : Option FieldType} {R : Room} {pc pc1 tgt : Nat} {lv lv' : eb_L} {stk : List Value} {st : eb_S} {uc us : Nat}
theorem eh_aload_n {q : Fin 4} {i : Nat} {v : Option Nat} (j : Nat) (hd : eb_dc cc pc (.aload_n q) 1 pc1) (hi : (q : Nat) = i) (hj : lv[j]? = some (i, va_rf v)) (k : eb_G l Γ P X cc own nL ret R pc1 lv (va_rf v :: stk) st uc us) : eb_G l Γ P X cc own nL ret R pc lv stk st uc us := by
  cases v with
  | some x => exact eg_aload_n j hd hi hj k
  | none =>
  obtain ⟨hd, rfl⟩ := hd
  obtain ⟨p, e, s, m, args, below, meth, c, A⟩ := X
  intro hX ls H locs hl hP hS
  obtain ⟨hx, hb, hml, hown, hts, hr, hlk, hK, hA⟩ := id hX
  exact lv_aload_nN hx hb hd hi (lv_at hl j hj) (k hX ls H locs hl hP hS)
theorem eh_aload {i : Nat} {v : Option Nat} (j : Nat) (hd : eb_dc cc pc (.aload i) 2 pc1) (hj : lv[j]? = some (i, va_rf v)) (k : eb_G l Γ P X cc own nL ret R pc1 lv (va_rf v :: stk) st uc us) : eb_G l Γ P X cc own nL ret R pc lv stk st uc us := by
  cases v with
  | some x => exact eg_aload j hd hj k
  | none =>
  obtain ⟨hd, rfl⟩ := hd
  obtain ⟨p, e, s, m, args, below, meth, c, A⟩ := X
  intro hX ls H locs hl hP hS
  obtain ⟨hx, hb, hml, hown, hts, hr, hlk, hK, hA⟩ := id hX
  exact lv_aloadN hx hb hd (lv_at hl j hj) (k hX ls H locs hl hP hS)
theorem eh_astore_n {q : Fin 4} {i : Nat} {v : Option Nat} (hd : eb_dc cc pc (.astore_n q) 1 pc1) (hi : (q : Nat) = i) (hn : i < nL) (h0 : (i, va_rf v) :: lv.filter (fun q => !(q.1 == i) && !(q.1 + 1 == i && q.2.category == 2)) = lv') (k : eb_G l Γ P X cc own nL ret R pc1 lv' stk st uc us) : eb_G l Γ P X cc own nL ret R pc lv (va_rf v :: stk) st uc us := by
  cases v with
  | some x => exact eg_astore_n hd hi hn h0 k
  | none =>
  obtain ⟨hd, rfl⟩ := hd
  obtain ⟨p, e, s, m, args, below, meth, c, A⟩ := X
  intro hX ls H locs hl hP hS
  obtain ⟨hx, hb, hml, hown, hts, hr, hlk, hK, hA⟩ := id hX
  exact lv_astore_nN hx hb hd hi hl hn h0 (fun ls hl => k hX ls H locs hl hP hS)
theorem eh_astore {i : Nat} {v : Option Nat} (hd : eb_dc cc pc (.astore i) 2 pc1) (hn : i < nL) (h0 : (i, va_rf v) :: lv.filter (fun q => !(q.1 == i) && !(q.1 + 1 == i && q.2.category == 2)) = lv') (k : eb_G l Γ P X cc own nL ret R pc1 lv' stk st uc us) : eb_G l Γ P X cc own nL ret R pc lv (va_rf v :: stk) st uc us := by
  cases v with
  | some x => exact eg_astore hd hn h0 k
  | none =>
  obtain ⟨hd, rfl⟩ := hd
  obtain ⟨p, e, s, m, args, below, meth, c, A⟩ := X
  intro hX ls H locs hl hP hS
  obtain ⟨hx, hb, hml, hown, hts, hr, hlk, hK, hA⟩ := id hX
  exact lv_astoreN hx hb hd hl hn h0 (fun ls hl => k hX ls H locs hl hP hS)
theorem eg_copy {a b i : Nat} {sp dp n : Int32} {rest stk0 : List Value} {K : eb_S → Prop} (hq : Cond.methodLink own i arraycopyName ∈ lw_all) (hq1 : Cond.native arraycopyName ∈ lw_all) (hq2 : Cond.static arraycopyName ∈ lw_all) (hq3 : Cond.initialized "java/lang/System" ∈ lw_all) (hstk : stk0 = .int n :: .int dp :: .ref b :: .int sp :: .ref a :: rest) (hfr : 1 ≤ R.frames) (hlo : (rest.map fun v => v.category).sum + (nativeFrameWords "java/lang/System" "arraycopy" 5 + 11) ≤ R.locals) (hd : eb_dc cc pc (.invokestatic i) 3 pc1) (h : eb_cp Γ st a sp b dp n K) (kk : ∀ st' : eb_S, K st' → eb_G l Γ P X cc own nL ret R pc1 lv rest st' uc us) : eb_G l Γ P X cc own nL ret R pc lv stk0 st uc us := by
  subst hstk
  obtain ⟨hd, rfl⟩ := hd
  obtain ⟨p, e, s, m, args, below, meth, c, A⟩ := X
  intro hX ls H locs hl hP hS
  obtain ⟨hx, hb, hml, hown, hts, hr, hlk, hK, hA⟩ := id hX
  obtain ⟨n0, n1, f, g, ha, hb1, h1, h2, h3, h4, h5, hk⟩ := h
  have kk := kk _ (hk _ rfl)
  have nn : ∀ z : Int32, ¬ z < 0 → z.toInt = (z.toNatClampNeg : Int) := by
    intro z hz
    have hz0 : (0 : Int) ≤ z.toInt := by
      have := Int32.not_lt.mp hz
      simpa using Int32.le_iff_toInt_le.mp this
    show z.toInt = ((z.toInt.toNat : Nat) : Int)
    omega
  intro T hT X
  have hc0 : H[a]? = some (vp_cell (Γ.2.1 0) (n0, .inl f)) := (hP.1 a _ ha).1
  have hc1 : H[b]? = some (vp_cell (Γ.2.1 0) (n1, .inl g)) := (hP.1 b _ hb1).1
  obtain ⟨-, k0, hk0, cm0, hkk0⟩ := (hK.1.2 0 _ rfl).1 n0 (fun j => .int (f j))
  obtain ⟨-, k1, hk1, cm1, hkk1⟩ := (hK.1.2 0 _ rfl).1 n1 (fun j => .int (g j))
  obtain ⟨vm', X', step⟩ := X.arraycopy hx hown (hts _ hq) (hts _ hq1) (hts _ hq2) (hts _ hq3) (src := a) (dst := b) (cs := vp_cell (Γ.2.1 0) (n0, .inl f)) (cd := vp_cell (Γ.2.1 0) (n1, .inl g)) (srcPos := sp) (destPos := dp) (n := n) (by rw [hT]; exact hc0) (by rw [hT]; exact hc1)
    (fun _ h => by cases h) (fun _ h => by cases h) (fun h => by cases h) (fun h => by cases h) hk0 hk1 hkk0 hkk1 rfl h1 h2 h3
    (by rw [nn sp h1, nn n h3]; show ¬ _ > ((arrV _ n0 (fun j => .int (f j))).slots.size : Int); rw [arrV_size]; omega)
    (by rw [nn dp h2, nn n h3]; show ¬ _ > ((arrV _ n1 (fun j => .int (g j))).slots.size : Int); rw [arrV_size]; omega)
    (fun vm₁ _ i hi => by
      have e : (vp_cell (Γ.2.1 0) (n0, .inl f)).slots.getD (sp.toNatClampNeg + i) .null = .int (f (sp.toNatClampNeg + i)) := by
        show (arrV _ n0 (fun j => .int (f j))).slots.getD _ _ = _
        rw [Array.getD_eq_getD_getElem?, arrV_read _ _ (by omega)]
        rfl
      refine ⟨?_, ?_⟩
      · rw [e]
        rfl
      · rw [e]
        exact trivial)
    (g := F0 m pc ls (.int n :: .int dp :: .ref b :: .int sp :: .ref a :: rest)) rfl (by rw [hml]; exact hl.1) (rest := rest) rfl (by rw [hb]; exact hd) hfr (by show 2 * 0 + _ + _ ≤ _; omega)
  have e1 : copied (vp_cell (Γ.2.1 0) (n0, .inl f)) (vp_cell (Γ.2.1 0) (n1, .inl g)) sp dp n = vp_cell (Γ.2.1 0) (n1, .inl (va_cpy f g sp.toNatClampNeg dp.toNatClampNeg n.toNatClampNeg)) := va_copied (fun z => .int z) (Γ.2.1 0) (Γ.2.1 0) f g h4
  rw [e1] at X' step
  have hlt : b < H.size := (Array.getElem?_eq_some_iff.mp hc1).1
  have hheap : ((T.setVm vm').setCell b (vp_cell (Γ.2.1 0) (n1, .inl (va_cpy f g sp.toNatClampNeg dp.toNatClampNeg n.toNatClampNeg)))).heap = H.setIfInBounds b (vp_cell (Γ.2.1 0) (n1, .inl (va_cpy f g sp.toNatClampNeg dp.toNatClampNeg n.toNatClampNeg))) := by rw [← hT]; rfl
  have oq : ∀ q : Nat, q ≠ b → (H.setIfInBounds b (vp_cell (Γ.2.1 0) (n1, .inl (va_cpy f g sp.toNatClampNeg dp.toNatClampNeg n.toNatClampNeg))))[q]? = H[q]? := fun q hq => by simp [Array.getElem?_setIfInBounds, Ne.symm hq]
  obtain ⟨t, a1, b1⟩ := kk hX ls _ _ hl (hP.set hb1 (show (H.setIfInBounds b _)[b]? = some _ by simp [Array.getElem?_setIfInBounds, hlt]) oq) ⟨by simp; exact hS.1, fun q g1 g2 => by
      rw [oq q (fun e => g2 (by rw [e]; exact (hP.1 b _ hb1).2))]
      exact hS.2.1 q g1 g2, fun q hq => by
      rcases List.mem_append.mp hq with h | h
      · exact hS.2.2 q h
      · obtain ⟨z, -, hz⟩ := List.mem_map.mp h
        rw [← hz]
        exact (hP.1 b _ hb1).2⟩ _ hheap X'
  exact ⟨t, step t a1, b1⟩
theorem eg_ts4 {x : Int32} {dflt o2 o3 o4 o5 : Int} {len t2 t3 t4 t5 td : Nat} (hd : decode cc pc = .ok (.tableswitch dflt 2 5 #[o2, o3, o4, o5], len)) (e0 : (pc : Int) + o2 = t2 ∧ (pc : Int) + o3 = t3 ∧ (pc : Int) + o4 = t4 ∧ (pc : Int) + o5 = t5 ∧ (pc : Int) + dflt = td) (k2 : x = 2 → eb_G l Γ P X cc own nL ret R t2 lv stk st uc us) (k3 : x = 3 → eb_G l Γ P X cc own nL ret R t3 lv stk st uc us) (k4 : x = 4 → eb_G l Γ P X cc own nL ret R t4 lv stk st uc us) (k5 : x = 5 → eb_G l Γ P X cc own nL ret R t5 lv stk st uc us) (kd : ¬ x = 2 → ¬ x = 3 → ¬ x = 4 → ¬ x = 5 → eb_G l Γ P X cc own nL ret R td lv stk st uc us) : eb_G l Γ P X cc own nL ret R pc lv (.int x :: stk) st uc us := by
  obtain ⟨p, e, s, m, args, below, meth, c, A⟩ := X
  intro hX ls H locs hl hP hS
  obtain ⟨hx, hb, hml, hown, hts, hr, hlk, hK, hA⟩ := id hX
  by_cases h2 : x = 2
  · subst h2; exact lv_tableIn hx hb hd (by decide) (by decide) (off := o2) rfl e0.1 (k2 rfl hX ls H locs hl hP hS)
  by_cases h3 : x = 3
  · subst h3; exact lv_tableIn hx hb hd (by decide) (by decide) (off := o3) rfl e0.2.1 (k3 rfl hX ls H locs hl hP hS)
  by_cases h4 : x = 4
  · subst h4; exact lv_tableIn hx hb hd (by decide) (by decide) (off := o4) rfl e0.2.2.1 (k4 rfl hX ls H locs hl hP hS)
  by_cases h5 : x = 5
  · subst h5; exact lv_tableIn hx hb hd (by decide) (by decide) (off := o5) rfl e0.2.2.2.1 (k5 rfl hX ls H locs hl hP hS)
  refine lv_tableOut hx hb hd ?_ e0.2.2.2.2 (kd h2 h3 h4 h5 hX ls H locs hl hP hS)
  have q2 : x.toInt ≠ 2 := fun z => h2 (Int32.toInt_inj.mp z)
  have q3 : x.toInt ≠ 3 := fun z => h3 (Int32.toInt_inj.mp z)
  have q4 : x.toInt ≠ 4 := fun z => h4 (Int32.toInt_inj.mp z)
  have q5 : x.toInt ≠ 5 := fun z => h5 (Int32.toInt_inj.mp z)
  omega
theorem eg_castX12 {a i : Nat} (hq : Cond.classLink own i RX12 ∈ lw_all) (hcs : eb_cs st a [11]) (hd : eb_dc cc pc (.checkcast i) 3 pc1) (kk : eb_G l Γ P X cc own nL ret R pc1 lv (.ref a :: stk) st uc us) : eb_G l Γ P X cc own nL ret R pc lv (.ref a :: stk) st uc us := by
  obtain ⟨c0, fs, hc0, he⟩ := hcs
  cases List.mem_singleton.mp hc0
  obtain ⟨hd, rfl⟩ := hd
  obtain ⟨p, e, s, m, args, below, meth, c, A⟩ := X
  intro hX ls H locs hl hP hS
  obtain ⟨hx, hb, hml, hown, hts, hr, hlk, hK, hA⟩ := id hX
  exact va_castS hx hb hown (hts _ hq) (hK.1.1 11 _ rfl).2 (va_recv hK.1 (hP.P he) (ci := 11) rfl (q0 := 0) rfl) hd (kk hX ls H locs hl hP hS)
theorem eg_sempty {i : Nat} (hq : Cond.fieldLink own i "java/util/ArrayList" "DEFAULTCAPACITY_EMPTY_ELEMENTDATA" "[Ljava/lang/Object;" ∈ lw_all) (hd : eb_dc cc pc (.getstatic i) 3 pc1) (kk : eb_G l Γ P X cc own nL ret R pc1 lv (.ref Γ.2.2.2 :: stk) st uc us) : eb_G l Γ P X cc own nL ret R pc lv stk st uc us := by
  obtain ⟨hd, rfl⟩ := hd
  obtain ⟨p, e, s, m, args, below, meth, c, A⟩ := X
  intro hX ls H locs hl hP hS
  obtain ⟨hx, hb, hml, hown, hts, hr, hlk, hK, hA⟩ := id hX
  have hst : ∀ q ∈ Γ.2.2.1, s.heap[q.1]? = some q.2 := by
    intro q hq
    have h := hP.2 q hq
    have hlt : q.1 < s.heap.size := Nat.not_le.mp (fun z => h.2 (hA _ z))
    rw [← hS.2.1 q.1 hlt h.2]
    exact h.1
  obtain ⟨cf, kf, fi, f, a, cell, g1, g2, g3, g4, g5, g6, g7, g8⟩ := hK.2.2 s.heap hst
  refine va_gets (A := A) hx hb ⟨cf, kf, fi, f, a, cell, g1, g2, g3, g4, g5, g6, g7, fun z => g8 (fun q hq e => (hP.2 q hq).2 (e ▸ z))⟩ hS hown (hts _ hq) (fun x h => h) hd (kk hX ls H locs hl hP hS)
theorem eg_astO {a n v : Nat} {f : Nat → Option Nat} {fs : List Value} {i : Int32} (he : st a = some (eb_ra Γ 8 n f)) (hv : st v = some (.inr (11, fs))) (hin : vp_in i n) (hd : eb_dc cc pc (.aastore) 1 pc1) (kk : eb_G l Γ P X cc own nL ret R pc1 lv stk (eb_up st a (eb_ra Γ 8 n (va_up f i.toNatClampNeg (some v)))) uc us) : eb_G l Γ P X cc own nL ret R pc lv (.ref v :: .int i :: .ref a :: stk) st uc us := by
  obtain ⟨hd, rfl⟩ := hd
  obtain ⟨p, e, s, m, args, below, meth, c, A⟩ := X
  intro hX ls H locs hl hP hS
  obtain ⟨hx, hb, hml, hown, hts, hr, hlk, hK, hA⟩ := id hX
  have hlt : i.toNatClampNeg < n := Nat.not_le.mp fun q => hin (Or.inr q)
  have h0 : ¬ i < 0 := fun q => hin (Or.inl q)
  obtain ⟨r', hr', cellV, g1, g2, g3, -⟩ := (hP.1 v _ hv).1
  have hcls := (hK.1.1 11 _ rfl).2
  obtain ⟨kA, comp, k1, k2, k3, -⟩ := (hK.1.2 8 _ rfl).2
  obtain ⟨kE, hkE, -⟩ := Vm.findClass_spec k3
  obtain ⟨c0, t1, f1, f2, f3⟩ := Cond.castable_spec (va_Nw.use (A := args) rfl (hK.2.1.2.2.2.1 _ (List.mem_of_getElem? (i := 8) rfl)))
  cases hcls.1.symm.trans f1
  cases k3.symm.trans f2
  obtain ⟨kC, hkC, -⟩ := hcls.2
  refine W.aast hx hb (hP.1 a _ he).1 (fun q h => by cases h) (fun h => by cases h) k1 k2 rfl hkE ⟨h0, by show _ < (arrV _ _ _).slots.size; rw [arrV_size]; exact hlt⟩ g1 (fun q h => by rw [g3] at h; cases h) (by rw [g2]; exact hkC) (by rw [g2]; exact f3) rfl rfl hd fun H1 e z oq => ?_
  refine kk hX ls H1 _ hl (hP.set he ?_ oq) (hS.put z oq (hP.1 a _ he).2)
  show H1[a]? = some (vp_cell _ _)
  rw [e]
  rw [vp_cell_q, vp_cell_q, arrV_store]
  congr 2
  funext q
  by_cases hq : q = i.toNatClampNeg
  · subst hq
    simp [updV, va_up, va_rf]
  · simp [updV, va_up, hq]
end UROWS
section FROWS
variable {l : Launch} {Γ : eb_C} {P : Option Value → eb_S → Prop} {X : eb_X} {cc : ByteArray} {own : String} {nL : Nat} {ret : Option FieldType} {R : Room} {pc pc1 tgt : Nat} {lv lv' : eb_L} {stk : List Value} {st : eb_S} {uc us : Nat}
theorem eb_callk5 {p : Program} {e : Env} {s : State} {m : MethodId} {args : Array Value} {below : List Frame} {meth : Method} {c : Code} {H : Heap} {locs : List Loc} {Q : State → Prop} {A : Nat → Prop} {K : Option Value → eb_S → Prop} {mc ms : Nat} {ls : Array Slot} {st0 rest : List Value} {a : Array Value}
    (hr : va_Run5 p l e R s m args below meth c H locs uc us mc ms (F0 m pc ls st0) rest (eb_Q Γ (eb_A st H.size) K a) (eb_A st H.size)) (hS : va_S A s.heap H locs) (hA : ∀ q, eb_A st H.size q → A q)
    (kk : ∀ (v : Option Value) (st' : eb_S) (H1 : Heap) (locs1 : List Loc), K v st' → eb_HP Γ (eb_A st H.size) st' H1 → va_S A s.heap H1 locs1 → W p l e R s m args below meth c H1 locs1 (uc + mc) (us + ms) Q (F0 m (pc + 5) ls (v.toList ++ rest))) : W p l e R s m args below meth c H locs uc us Q (F0 m pc ls st0) := by
  intro T hT X
  obtain ⟨v, st₀, t, T', L, h0, X', hL, e1, e2, ⟨⟨v', st', hv, hp, hb⟩, hz, hk⟩, stp⟩ := hr T hT X
  cases hv
  rw [h0] at hz hk
  obtain ⟨t2, a1, b1⟩ := kk v st' T'.heap (locs ++ L) hp (by rw [e1]; exact hb)
    ⟨Nat.le_trans hS.1 (by rw [e1]; exact hz), fun q h1 h2 => by rw [e1, hk q (Nat.lt_of_lt_of_le h1 hS.1) (fun z => h2 (hA q z))]; exact hS.2.1 q h1 h2, fun q hq => by
      rcases List.mem_append.mp hq with h | h
      · exact hS.2.2 q h
      · exact hA _ (hL q h)⟩ T' rfl X'
  exact ⟨t2, stp t2 a1, b1⟩
theorem lw_F {own : String} {idx : Nat} {C : String} {x y : MethodName} {b : ByteArray} {L : Nat} {r : Option FieldType} (h1 : Cond.methodLink own idx x ∈ lw_all) (h3 : Cond.selects C x y ∈ lw_all) (h4 : Cond.instanceMethod y ∈ lw_all) (h5 : Cond.initialized y.cls ∈ lw_all) (h6 : Cond.code y b L r ∈ lw_all) : GoodIn lw_all (va_wsF own idx C x y (ws_ y b L r)) := by
  refine lw_app ?_ (lw_meth h6)
  intro w hw
  simp only [List.mem_cons, List.not_mem_nil, or_false] at hw
  rcases hw with e | e | e | e
  · rw [e]; exact h1
  · rw [e]; exact h3
  · rw [e]; exact h4
  · rw [e]; exact h5
theorem eg_callF {x y : MethodName} {bytes : ByteArray} {maxL n i cnt : Nat} {rt : Option FieldType} {rm : Room} {As rest stk0 : List Value} {K : Option Value → eb_S → Prop} {b ci : Nat} {C : String} {T : u_T} {N : Nat} (hct : eb_Ct l Γ y bytes maxL rt rm (.ref b :: As) st K) (hg : GoodIn lw_all (va_wsF own i C x y (ws_ y bytes maxL rt))) (hI : (C, x, y) ∈ eb_nI) (hcl : eb_cl[ci]? = some (C, T, N)) (hcs : eb_cs st b [ci]) (har : eb_ar x n) (hR : rm.frames + 1 ≤ R.frames ∧ 8 + (maxL + 11) + rm.locals ≤ R.locals) (hc : uc + rm.cells ≤ R.cells ∧ us + rm.slots ≤ R.slots) (hn : As.length = n) (hstk : stk0 = As.reverse ++ .ref b :: rest) (hro : (rest.map fun v => v.category).sum ≤ 8) (hd : eb_dc cc pc (.invokeinterface i cnt) 5 pc1) (kk : ∀ (v : Option Value) (st' : eb_S), K v st' → eb_G l Γ P X cc own nL ret R pc1 lv (v.toList ++ rest) st' (uc + rm.cells) (us + rm.slots)) : eb_G l Γ P X cc own nL ret R pc lv stk0 st uc us := by
  obtain ⟨hd, rfl⟩ := hd
  subst hstk
  obtain ⟨c0, fs, hc0, he⟩ := hcs
  cases List.mem_singleton.mp hc0
  obtain ⟨p, e, s, m, args, below, meth, c, A⟩ := X
  intro hX ls H locs hl hP hS
  obtain ⟨hx, hb, hml, hown, hts, hr, hlk, hK, hA⟩ := id hX
  refine eb_callk5 (st := st) (K := K) (a := (Value.ref b :: As).toArray) ?_ hS (eb_hA hP hS hA) (fun v st' H1 locs1 hk hP1 hS1 => kk v st' hk hX ls H1 locs1 hl (hP.back hP1 (eb_hA hP hS hA)) hS1)
  exact va_runF (hK.1.1 _ _ hcl).2 ⟨hx, hb, hml, hown, hts⟩ (hct H.size) (va_cwF n hts hg rfl rfl rfl (hK.2.1.2.2.2.2.1 _ hI) har hR) ⟨eb_blind, va_recv hK.1 (hP.P he) hcl (q0 := 0) rfl, fun U hU hW => ⟨rfl, by rw [hU], by rw [hU]; exact hP.callee hS hA, hK.warm hW⟩⟩ rfl hn hl.1 rfl (lv_room hro) hd hc
theorem ec_FIp {x y : MethodName} {bytes : ByteArray} {maxL n i cnt : Nat} {rt : Option FieldType} {rm : Room} {As rest stk0 : List Value} {K : Int32 → Prop} {b ci : Nat} {C : String} {T : u_T} {N : Nat} (hct : eb_Ct l Γ y bytes maxL rt rm (.ref b :: As) st (eb_pI st K)) (hg : GoodIn lw_all (va_wsF own i C x y (ws_ y bytes maxL rt))) (hI : (C, x, y) ∈ eb_nI) (hcl : eb_cl[ci]? = some (C, T, N)) (hcs : eb_cs st b [ci]) (har : eb_ar x n) (hR : rm.frames + 1 ≤ R.frames ∧ 8 + (maxL + 11) + rm.locals ≤ R.locals) (hz : rm.cells = 0 ∧ rm.slots = 0) (hu : uc ≤ R.cells ∧ us ≤ R.slots) (hn : As.length = n) (hstk : stk0 = As.reverse ++ .ref b :: rest) (hro : (rest.map fun v => v.category).sum ≤ 8) (hd : eb_dc cc pc (.invokeinterface i cnt) 5 pc1) (kk : ∀ (r : Int32)  , K r → eb_G l Γ P X cc own nL ret R pc1 lv (.int r :: rest) st uc us) : eb_G l Γ P X cc own nL ret R pc lv stk0 st uc us := by
  refine eg_callF (rest := rest) hct hg hI hcl hcs har hR ⟨by rw [hz.1]; exact hu.1, by rw [hz.2]; exact hu.2⟩ hn hstk hro hd (fun v st' h => ?_)
  obtain ⟨r, rfl, rfl, h⟩ := h
  rw [hz.1, hz.2]
  exact kk r h
theorem ec_FIw {x y : MethodName} {bytes : ByteArray} {maxL n i cnt : Nat} {rt : Option FieldType} {rm : Room} {As rest stk0 : List Value} {K : Int32 → eb_S → Prop} {b ci : Nat} {C : String} {T : u_T} {N : Nat} (hct : eb_Ct l Γ y bytes maxL rt rm (.ref b :: As) st (eb_oI K)) (hg : GoodIn lw_all (va_wsF own i C x y (ws_ y bytes maxL rt))) (hI : (C, x, y) ∈ eb_nI) (hcl : eb_cl[ci]? = some (C, T, N)) (hcs : eb_cs st b [ci]) (har : eb_ar x n) (hR : rm.frames + 1 ≤ R.frames ∧ 8 + (maxL + 11) + rm.locals ≤ R.locals) (hz : rm.cells = 0 ∧ rm.slots = 0) (hu : uc ≤ R.cells ∧ us ≤ R.slots) (hn : As.length = n) (hstk : stk0 = As.reverse ++ .ref b :: rest) (hro : (rest.map fun v => v.category).sum ≤ 8) (hd : eb_dc cc pc (.invokeinterface i cnt) 5 pc1) (kk : ∀ (r : Int32)  (st' : eb_S), K r st' → eb_G l Γ P X cc own nL ret R pc1 lv (.int r :: rest) st' uc us) : eb_G l Γ P X cc own nL ret R pc lv stk0 st uc us := by
  refine eg_callF (rest := rest) hct hg hI hcl hcs har hR ⟨by rw [hz.1]; exact hu.1, by rw [hz.2]; exact hu.2⟩ hn hstk hro hd (fun v st' h => ?_)
  obtain ⟨r, rfl, h⟩ := h
  rw [hz.1, hz.2]
  exact kk r st' h
theorem ec_FIa {x y : MethodName} {bytes : ByteArray} {maxL n i cnt : Nat} {rt : Option FieldType} {rm : Room} {As rest stk0 : List Value} {K : Int32 → eb_S → Prop} {b ci : Nat} {C : String} {T : u_T} {N : Nat} (hct : eb_Ct l Γ y bytes maxL rt rm (.ref b :: As) st (eb_oI K)) (hg : GoodIn lw_all (va_wsF own i C x y (ws_ y bytes maxL rt))) (hI : (C, x, y) ∈ eb_nI) (hcl : eb_cl[ci]? = some (C, T, N)) (hcs : eb_cs st b [ci]) (har : eb_ar x n) (hR : rm.frames + 1 ≤ R.frames ∧ 8 + (maxL + 11) + rm.locals ≤ R.locals) {c s : Nat} (hz : rm.cells = c ∧ rm.slots = s) (hu : uc + c ≤ R.cells ∧ us + s ≤ R.slots) (hn : As.length = n) (hstk : stk0 = As.reverse ++ .ref b :: rest) (hro : (rest.map fun v => v.category).sum ≤ 8) (hd : eb_dc cc pc (.invokeinterface i cnt) 5 pc1) (kk : ∀ (r : Int32)  (st' : eb_S), K r st' → eb_G l Γ P X cc own nL ret R pc1 lv (.int r :: rest) st' (uc + c) (us + s)) : eb_G l Γ P X cc own nL ret R pc lv stk0 st uc us := by
  refine eg_callF (rest := rest) hct hg hI hcl hcs har hR ⟨by rw [hz.1]; exact hu.1, by rw [hz.2]; exact hu.2⟩ hn hstk hro hd (fun v st' h => ?_)
  obtain ⟨r, rfl, h⟩ := h
  rw [hz.1, hz.2]
  exact kk r st' h
theorem ec_FRw {x y : MethodName} {bytes : ByteArray} {maxL n i cnt : Nat} {rt : Option FieldType} {rm : Room} {As rest stk0 : List Value} {K : Option Nat → eb_S → Prop} {b ci : Nat} {C : String} {T : u_T} {N : Nat} (hct : eb_Ct l Γ y bytes maxL rt rm (.ref b :: As) st (eb_oR K)) (hg : GoodIn lw_all (va_wsF own i C x y (ws_ y bytes maxL rt))) (hI : (C, x, y) ∈ eb_nI) (hcl : eb_cl[ci]? = some (C, T, N)) (hcs : eb_cs st b [ci]) (har : eb_ar x n) (hR : rm.frames + 1 ≤ R.frames ∧ 8 + (maxL + 11) + rm.locals ≤ R.locals) (hz : rm.cells = 0 ∧ rm.slots = 0) (hu : uc ≤ R.cells ∧ us ≤ R.slots) (hn : As.length = n) (hstk : stk0 = As.reverse ++ .ref b :: rest) (hro : (rest.map fun v => v.category).sum ≤ 8) (hd : eb_dc cc pc (.invokeinterface i cnt) 5 pc1) (kk : ∀ (r : Option Nat)  (st' : eb_S), K r st' → eb_G l Γ P X cc own nL ret R pc1 lv (va_rf r :: rest) st' uc us) : eb_G l Γ P X cc own nL ret R pc lv stk0 st uc us := by
  refine eg_callF (rest := rest) hct hg hI hcl hcs har hR ⟨by rw [hz.1]; exact hu.1, by rw [hz.2]; exact hu.2⟩ hn hstk hro hd (fun v st' h => ?_)
  obtain ⟨r, rfl, h⟩ := h
  rw [hz.1, hz.2]
  exact kk r st' h
theorem ec_FRa {x y : MethodName} {bytes : ByteArray} {maxL n i cnt : Nat} {rt : Option FieldType} {rm : Room} {As rest stk0 : List Value} {K : Option Nat → eb_S → Prop} {b ci : Nat} {C : String} {T : u_T} {N : Nat} (hct : eb_Ct l Γ y bytes maxL rt rm (.ref b :: As) st (eb_oR K)) (hg : GoodIn lw_all (va_wsF own i C x y (ws_ y bytes maxL rt))) (hI : (C, x, y) ∈ eb_nI) (hcl : eb_cl[ci]? = some (C, T, N)) (hcs : eb_cs st b [ci]) (har : eb_ar x n) (hR : rm.frames + 1 ≤ R.frames ∧ 8 + (maxL + 11) + rm.locals ≤ R.locals) {c s : Nat} (hz : rm.cells = c ∧ rm.slots = s) (hu : uc + c ≤ R.cells ∧ us + s ≤ R.slots) (hn : As.length = n) (hstk : stk0 = As.reverse ++ .ref b :: rest) (hro : (rest.map fun v => v.category).sum ≤ 8) (hd : eb_dc cc pc (.invokeinterface i cnt) 5 pc1) (kk : ∀ (r : Option Nat)  (st' : eb_S), K r st' → eb_G l Γ P X cc own nL ret R pc1 lv (va_rf r :: rest) st' (uc + c) (us + s)) : eb_G l Γ P X cc own nL ret R pc lv stk0 st uc us := by
  refine eg_callF (rest := rest) hct hg hI hcl hcs har hR ⟨by rw [hz.1]; exact hu.1, by rw [hz.2]; exact hu.2⟩ hn hstk hro hd (fun v st' h => ?_)
  obtain ⟨r, rfl, h⟩ := h
  rw [hz.1, hz.2]
  exact kk r st' h
end FROWS
theorem eb_ofF {l : Launch} {Γ : eb_C} {y : MethodName} {cc : ByteArray} {nL : Nat} {ret : Option FieldType} {rm : Room} {av : List Value} {st : eb_S} {K : Option Value → eb_S → Prop} (hy : plainFor y = true) (hn : (lg_sl av).length ≤ nL)
    (body : ∀ (X : eb_X) (P : Option Value → eb_S → Prop), (∀ v st', K v st' → P v st') → (y.name = "<init>" → eb_in X) → eb_G l Γ P X cc y.cls nL ret rm 0 (lv_args 0 av) [] st 0 0) : eb_Ct l Γ y cc nL ret rm av st K := by
  intro sz
  refine va_MetF (cc := cc) (maxL := nL) (ret := ret) hy rfl ?_
  intro p e s m args below meth c s₁ B hml hv
  obtain ⟨rfl, hsz, hP, hK⟩ := hv
  have hts := atoms_spec (ws := ws_ y cc nL ret) B.pre
  have hts : ∀ w ∈ lw_all, w.before _ s = true := fun w h => hts w (List.mem_cons_of_mem _ h)
  have hown : s.vm.findClass y.cls = some m.cls := findClass_of_methodNamed B.named
  subst hsz
  have hl := lv_entry av (n := nL) hn
  rw [lg_entry_eq]
  exact body (p, e, s, m, av.toArray, below, meth, c, eb_A st s.heap.size) K (fun _ _ h => h) (fun h => (name_of_methodNamed B.named B.method).1.trans h) ⟨B.exec, B.bytes, hml, hown, hts, B.returns, B.notSynchronized, hK, fun q h => Or.inr h⟩ _ s.heap [] hl hP va_S.rf
