set_option maxRecDepth 100000
/-! words over a store: a field read, a field written, an array read, written, made; an object made -/
def eb_gi (st : eb_S) (a c k : Nat) (K : Int32 → Prop) : Prop := ∃ (fs : List Value) (v : Int32), st a = some (.inr (c, fs)) ∧ fs[k]? = some (.int v) ∧ K v
def eb_gr (st : eb_S) (a c k : Nat) (K : Option Nat → Prop) : Prop := ∃ (fs : List Value) (v : Option Nat), st a = some (.inr (c, fs)) ∧ fs[k]? = some (va_rf v) ∧ K v
def eb_isN (c : Nat) : Prop := c = 9 ∨ c = 10 ∨ c = 13
/-- of a net, plain, of corners, of a snub -/
def eb_ni (st : eb_S) (a k : Nat) (K : Int32 → Prop) : Prop := ∃ (c : Nat) (fs : List Value) (v : Int32), eb_isN c ∧ st a = some (.inr (c, fs)) ∧ fs[k]? = some (.int v) ∧ K v
def eb_nr (st : eb_S) (a k : Nat) (K : Option Nat → Prop) : Prop := ∃ (c : Nat) (fs : List Value) (v : Option Nat), eb_isN c ∧ st a = some (.inr (c, fs)) ∧ fs[k]? = some (va_rf v) ∧ K v
def eb_np (st : eb_S) (a k : Nat) (x : Value) (K : eb_S → Prop) : Prop := ∃ (c : Nat) (fs : List Value), eb_isN c ∧ st a = some (.inr (c, fs)) ∧ k < fs.length ∧ ∀ st' : eb_S, st' = eb_up st a (.inr (c, fs.set k x)) → K st'
def eb_pt (st : eb_S) (a c k : Nat) (x : Value) (K : eb_S → Prop) : Prop := ∃ fs : List Value, st a = some (.inr (c, fs)) ∧ k < fs.length ∧ ∀ st' : eb_S, st' = eb_up st a (.inr (c, fs.set k x)) → K st'
def eb_nn (v : Option Nat) (K : Nat → Prop) : Prop := ∃ a : Nat, v = some a ∧ K a
def eb_nb (v : Option Nat) (A : Prop) (B : Nat → Prop) : Prop := (v = none → A) ∧ ∀ a : Nat, v = some a → B a
/-- arrays of ints (booleans, bytes, shorts), of longs, of references -/
abbrev eb_ia (Γ : eb_C) (t n : Nat) (f : Nat → Int32) : va_E := .inl (Γ.2.1 t, n, .inl f)
abbrev eb_la (Γ : eb_C) (n : Nat) (f : Nat → Int64) : va_E := .inl (Γ.2.1 2, n, .inr (.inl f))
abbrev eb_ra (Γ : eb_C) (t n : Nat) (f : Nat → Option Nat) : va_E := .inl (Γ.2.1 t, n, .inr (.inr (.inr (.inr f))))
def eb_li (Γ : eb_C) (st : eb_S) (a t : Nat) (i : Int32) (K : Int32 → Prop) : Prop := ∃ (n : Nat) (f : Nat → Int32), st a = some (eb_ia Γ t n f) ∧ vp_in i n ∧ ∀ v : Int32, v = f i.toNatClampNeg → K v
def eb_ll (Γ : eb_C) (st : eb_S) (a : Nat) (i : Int32) (K : Int64 → Prop) : Prop := ∃ (n : Nat) (f : Nat → Int64), st a = some (eb_la Γ n f) ∧ vp_in i n ∧ ∀ v : Int64, v = f i.toNatClampNeg → K v
def eb_lr (Γ : eb_C) (st : eb_S) (a t : Nat) (i : Int32) (K : Option Nat → Prop) : Prop := ∃ (n : Nat) (f : Nat → Option Nat), st a = some (eb_ra Γ t n f) ∧ vp_in i n ∧ ∀ v : Option Nat, v = f i.toNatClampNeg → K v
def eb_wi (Γ : eb_C) (st : eb_S) (a t : Nat) (i x : Int32) (K : eb_S → Prop) : Prop := ∃ (n : Nat) (f : Nat → Int32), st a = some (eb_ia Γ t n f) ∧ vp_in i n ∧ ∀ st' : eb_S, st' = eb_up st a (eb_ia Γ t n (upd f i.toNatClampNeg x)) → K st'
def eb_wl (Γ : eb_C) (st : eb_S) (a : Nat) (i : Int32) (x : Int64) (K : eb_S → Prop) : Prop := ∃ (n : Nat) (f : Nat → Int64), st a = some (eb_la Γ n f) ∧ vp_in i n ∧ ∀ st' : eb_S, st' = eb_up st a (eb_la Γ n (vp_updL f i.toNatClampNeg x)) → K st'
def eb_wr (Γ : eb_C) (st : eb_S) (a t : Nat) (i : Int32) (x : Option Nat) (K : eb_S → Prop) : Prop := ∃ (n : Nat) (f : Nat → Option Nat), st a = some (eb_ra Γ t n f) ∧ vp_in i n ∧ ∀ st' : eb_S, st' = eb_up st a (eb_ra Γ t n (va_up f i.toNatClampNeg x)) → K st'
/-- the length of an array of class t -/
def eb_ln (Γ : eb_C) (st : eb_S) (a t : Nat) (K : Int32 → Prop) : Prop := ∃ x : vp_A, st a = some (.inl (Γ.2.1 t, x)) ∧ K (Int32.ofNat x.1)
/-- something new, of so many slots, in the room that is left -/
def eb_mk (st : eb_S) (e : va_E) (n bc bs uc us : Nat) (K : Nat → eb_S → Prop) : Prop := uc + 1 ≤ bc ∧ us + n ≤ bs ∧ ∀ a : Nat, st a = none → ∀ st' : eb_S, st' = eb_up st a e → K a st'
def eb_ok1 (n : Int32) : Prop := ¬ n < 0 ∧ n.toNatClampNeg * 8 ≤ 536870912
/-- the ends of methods -/
def eb_oI (K : Int32 → eb_S → Prop) : Option Value → eb_S → Prop := fun v st' => ∃ r : Int32, v = some (.int r) ∧ K r st'
def eb_oL (K : Int64 → eb_S → Prop) : Option Value → eb_S → Prop := fun v st' => ∃ r : Int64, v = some (.long r) ∧ K r st'
def eb_oR (K : Option Nat → eb_S → Prop) : Option Value → eb_S → Prop := fun v st' => ∃ r : Option Nat, v = some (va_rf r) ∧ K r st'
def eb_oV (K : eb_S → Prop) : Option Value → eb_S → Prop := fun v st' => v = none ∧ K st'
def eb_cs (st : eb_S) (a : Nat) (cs : List Nat) : Prop := ∃ (c : Nat) (fs : List Value), c ∈ cs ∧ st a = some (.inr (c, fs))

section SROWS
variable {l : Launch} {Γ : eb_C} {P : Option Value → eb_S → Prop} {X : eb_X} {cc : ByteArray} {own : String} {nL : Nat} {ret : Option FieldType} {R : Room} {pc pc1 tgt : Nat} {lv lv' : eb_L} {stk : List Value} {st : eb_S} {uc us : Nat}
theorem eg_ifnull {v : Option Nat} {off : Int} (hd : eb_dj cc pc (.ifnull off) off pc1 tgt) (kt : v = none → eb_G l Γ P X cc own nL ret R tgt lv stk st uc us) (kf : ∀ a : Nat, v = some a → eb_G l Γ P X cc own nL ret R pc1 lv stk st uc us) : eb_G l Γ P X cc own nL ret R pc lv (va_rf v :: stk) st uc us := by
  obtain ⟨hd, rfl, ht⟩ := hd
  obtain ⟨p, e, s, m, args, below, meth, c, A⟩ := X
  intro hX ls H locs hl hP hS
  obtain ⟨hx, hb, hml, hown, hts, hr, hlk, hK, hA⟩ := id hX
  cases v with
  | none => exact lv_ifnullN hx hb hd ht (kt rfl hX ls H locs hl hP hS)
  | some a => exact lv_ifnull hx hb hd (kf a rfl hX ls H locs hl hP hS)
theorem eg_ifnonnull {v : Option Nat} {off : Int} (hd : eb_dj cc pc (.ifnonnull off) off pc1 tgt) (kt : ∀ a : Nat, v = some a → eb_G l Γ P X cc own nL ret R tgt lv stk st uc us) (kf : v = none → eb_G l Γ P X cc own nL ret R pc1 lv stk st uc us) : eb_G l Γ P X cc own nL ret R pc lv (va_rf v :: stk) st uc us := by
  obtain ⟨hd, rfl, ht⟩ := hd
  obtain ⟨p, e, s, m, args, below, meth, c, A⟩ := X
  intro hX ls H locs hl hP hS
  obtain ⟨hx, hb, hml, hown, hts, hr, hlk, hK, hA⟩ := id hX
  cases v with
  | none => exact lv_ifnonnullN hx hb hd (kf rfl hX ls H locs hl hP hS)
  | some a => exact lv_ifnonnull hx hb hd ht (kt a rfl hX ls H locs hl hP hS)
theorem eg_acmp_eq {rx ry : Option Nat} {off : Int} (hd : eb_dj cc pc (.if_acmp .eq off) off pc1 tgt) (kt : rx = ry → eb_G l Γ P X cc own nL ret R tgt lv stk st uc us) (kf : ¬ rx = ry → eb_G l Γ P X cc own nL ret R pc1 lv stk st uc us) : eb_G l Γ P X cc own nL ret R pc lv (va_rf ry :: va_rf rx :: stk) st uc us := by
  obtain ⟨hd, rfl, ht⟩ := hd
  obtain ⟨p, e, s, m, args, below, meth, c, A⟩ := X
  intro hX ls H locs hl hP hS
  obtain ⟨hx, hb, hml, hown, hts, hr, hlk, hK, hA⟩ := id hX
  exact lv_acmp_eq hx hb hd ht (fun h => kt h hX ls H locs hl hP hS) (fun h => kf h hX ls H locs hl hP hS)
theorem eg_acmp_ne {rx ry : Option Nat} {off : Int} (hd : eb_dj cc pc (.if_acmp .ne off) off pc1 tgt) (kt : ¬ rx = ry → eb_G l Γ P X cc own nL ret R tgt lv stk st uc us) (kf : rx = ry → eb_G l Γ P X cc own nL ret R pc1 lv stk st uc us) : eb_G l Γ P X cc own nL ret R pc lv (va_rf ry :: va_rf rx :: stk) st uc us := by
  obtain ⟨hd, rfl, ht⟩ := hd
  obtain ⟨p, e, s, m, args, below, meth, c, A⟩ := X
  intro hX ls H locs hl hP hS
  obtain ⟨hx, hb, hml, hown, hts, hr, hlk, hK, hA⟩ := id hX
  exact lv_acmp_ne hx hb hd ht (fun h => kt h hX ls H locs hl hP hS) (fun h => kf h hX ls H locs hl hP hS)
theorem eg_lcmp {x y : Int64} (hd : eb_dc cc pc (.lcmp) 1 pc1) (kk : eb_G l Γ P X cc own nL ret R pc1 lv (.int (lg_cmp x y) :: stk) st uc us) : eb_G l Γ P X cc own nL ret R pc lv (.long y :: .long x :: stk) st uc us := by
  obtain ⟨hd, rfl⟩ := hd
  obtain ⟨p, e, s, m, args, below, meth, c, A⟩ := X
  intro hX ls H locs hl hP hS
  obtain ⟨hx, hb, hml, hown, hts, hr, hlk, hK, hA⟩ := id hX
  exact W.lcmp hx hb hd (kk hX ls H locs hl hP hS)
theorem eg_aald {a t n : Nat} {ty : FieldType} {f : Nat → Option Nat} {i : Int32} (ht : (eb_tys Γ.2.1)[t]? = some (Γ.2.1 t, ty)) (hty : ty.isReference = true) (he : st a = some (eb_ra Γ t n f)) (hin : vp_in i n) (hd : eb_dc cc pc (.aaload) 1 pc1) (kk : ∀ v : Option Nat, v = f i.toNatClampNeg → eb_G l Γ P X cc own nL ret R pc1 lv (va_rf v :: stk) st uc us) : eb_G l Γ P X cc own nL ret R pc lv (.int i :: .ref a :: stk) st uc us := by
  obtain ⟨hd, rfl⟩ := hd
  obtain ⟨p, e, s, m, args, below, meth, c, A⟩ := X
  intro hX ls H locs hl hP hS
  obtain ⟨hx, hb, hml, hown, hts, hr, hlk, hK, hA⟩ := id hX
  have hlt : i.toNatClampNeg < n := Nat.not_le.mp fun q => hin (Or.inr q)
  exact W.aald (v := va_rf (f i.toNatClampNeg)) (ty := ty) hx hb (hP.1 a _ he).1 ((hK.1.2 t _ ht).1 n (fun j => va_rf (f j))) hty (fun q => by cases q) (by show ¬ (i < 0 ∨ (arrV _ _ _).slots.size ≤ _); rw [arrV_size]; exact hin) (by show (arrV _ _ _).slots[_]? = _; rw [arrV_read _ _ hlt]) rfl rfl hd (kk _ rfl hX ls H locs hl hP hS)
theorem eg_astN {a t n : Nat} {C : String} {f : Nat → Option Nat} {i : Int32} (ht : (eb_tys Γ.2.1)[t]? = some (Γ.2.1 t, .object C)) (he : st a = some (eb_ra Γ t n f)) (hin : vp_in i n) (hd : eb_dc cc pc (.aastore) 1 pc1) (kk : eb_G l Γ P X cc own nL ret R pc1 lv stk (eb_up st a (eb_ra Γ t n (va_up f i.toNatClampNeg none))) uc us) : eb_G l Γ P X cc own nL ret R pc lv (.null :: .int i :: .ref a :: stk) st uc us := by
  obtain ⟨hd, rfl⟩ := hd
  obtain ⟨p, e, s, m, args, below, meth, c, A⟩ := X
  intro hX ls H locs hl hP hS
  obtain ⟨hx, hb, hml, hown, hts, hr, hlk, hK, hA⟩ := id hX
  refine va_WaastN (C := C) hx hb (hP.1 a _ he).1 ((hK.1.2 t _ ht).1 n (fun j => va_rf (f j))) (fun h => by cases h) (by show ¬ (i < 0 ∨ (arrV _ _ _).slots.size ≤ _); rw [arrV_size]; exact hin) rfl rfl hd fun H1 e z oq => ?_
  refine kk hX ls H1 _ hl (hP.set he ?_ oq) (hS.put z oq (hP.1 a _ he).2)
  show H1[a]? = some (vp_cell _ _)
  rw [e]
  rw [vp_cell_q, vp_cell_q, arrV_store]
  congr 2
  funext q
  by_cases hq : q = i.toNatClampNeg
  · subst hq
    simp [updV, va_up, va_rf]
  · simp [updV, va_up, hq]
theorem eg_ast {a t n v ci : Nat} {r : vw_C} {f : Nat → Option Nat} {fs : List Value} {i : Int32} (ht : (eb_tys Γ.2.1)[t]? = some (Γ.2.1 t, .object r.1)) (hc : eb_cl[ci]? = some r) (he : st a = some (eb_ra Γ t n f)) (hv : st v = some (.inr (ci, fs))) (hin : vp_in i n) (hd : eb_dc cc pc (.aastore) 1 pc1) (kk : eb_G l Γ P X cc own nL ret R pc1 lv stk (eb_up st a (eb_ra Γ t n (va_up f i.toNatClampNeg (some v)))) uc us) : eb_G l Γ P X cc own nL ret R pc lv (.ref v :: .int i :: .ref a :: stk) st uc us := by
  obtain ⟨hd, rfl⟩ := hd
  obtain ⟨p, e, s, m, args, below, meth, c, A⟩ := X
  intro hX ls H locs hl hP hS
  obtain ⟨hx, hb, hml, hown, hts, hr, hlk, hK, hA⟩ := id hX
  have hlt : i.toNatClampNeg < n := Nat.not_le.mp fun q => hin (Or.inr q)
  have h0 : ¬ i < 0 := fun q => hin (Or.inl q)
  obtain ⟨r', hr', cellV, g1, g2, g3, -⟩ := (hP.1 v _ hv).1
  have hcls := (hK.1.1 ci r hc).2
  obtain ⟨kA, comp, k1, k2, k3, -⟩ := (hK.1.2 t _ ht).2
  have hcomp : comp = Γ.1.1 ci := Option.some.inj (k3.symm.trans hcls.1)
  subst hcomp
  obtain ⟨kC, hkC, -⟩ := hcls.2
  refine W.aast hx hb (hP.1 a _ he).1 (fun q h => by cases h) (fun h => by cases h) k1 k2 rfl hkC ⟨h0, by show _ < (arrV _ _ _).slots.size; rw [arrV_size]; exact hlt⟩ g1 (fun q h => by rw [g3] at h; cases h) (by rw [g2]; exact hkC) (by rw [g2]; exact va_assign hcls) rfl rfl hd fun H1 e z oq => ?_
  refine kk hX ls H1 _ hl (hP.set he ?_ oq) (hS.put z oq (hP.1 a _ he).2)
  show H1[a]? = some (vp_cell _ _)
  rw [e]
  rw [vp_cell_q, vp_cell_q, arrV_store]
  congr 2
  funext q
  by_cases hq : q = i.toNatClampNeg
  · subst hq
    simp [updV, va_up, va_rf]
  · simp [updV, va_up, hq]
theorem eb_arrT {Γ : eb_C} {s : State} (hK : eb_K Γ s) {t u : Nat} {ty : FieldType} (ht : (eb_tys Γ.2.1)[t]? = some (Γ.2.1 t, .array ty)) (hu : (eb_tys Γ.2.1)[u]? = some (Γ.2.1 u, ty)) (hf : FieldType.array ty ∈ eb_ft) (hn : ∀ C, ty ≠ .object C) : ∃ kA : Class, s.vm.classes[Γ.2.1 t]? = some kA ∧ kA.kind = .array (Γ.2.1 u) (.array ty) := by
  obtain ⟨comp, cA, kA, h1, -, h3, h4, h5⟩ := arrayOverA_spec (hK.2.1.2.2.2.2.2 _ hf)
  have e1 := (hK.1.2 t _ ht).2
  have e2 := (hK.1.2 u _ hu).2
  have e1' : s.vm.findClass ("[" ++ (FieldType.array ty).toString) = some (Γ.2.1 t) := e1
  have e2' : s.vm.findClass ("[" ++ ty.toString) = some (Γ.2.1 u) := by
    cases ty with
    | object C => exact absurd rfl (hn C)
    | _ => exact e2
  cases h5.symm.trans e1'
  have h1' : s.vm.findClass ("[" ++ ty.toString) = some comp := h1
  cases h1'.symm.trans e2'
  exact ⟨kA, h3, h4⟩
theorem eg_astNA {a t n : Nat} {ty : FieldType} {f : Nat → Option Nat} {i : Int32} (ht : (eb_tys Γ.2.1)[t]? = some (Γ.2.1 t, .array ty)) (he : st a = some (eb_ra Γ t n f)) (hin : vp_in i n) (hd : eb_dc cc pc (.aastore) 1 pc1) (kk : eb_G l Γ P X cc own nL ret R pc1 lv stk (eb_up st a (eb_ra Γ t n (va_up f i.toNatClampNeg none))) uc us) : eb_G l Γ P X cc own nL ret R pc lv (.null :: .int i :: .ref a :: stk) st uc us := by
  obtain ⟨hd, rfl⟩ := hd
  obtain ⟨p, e, s, m, args, below, meth, c, A⟩ := X
  intro hX ls H locs hl hP hS
  obtain ⟨hx, hb, hml, hown, hts, hr, hlk, hK, hA⟩ := id hX
  have harr := (hK.1.2 t _ ht).1 n (fun j => va_rf (f j))
  have hin' : ¬ (i < 0 ∨ (arrV (Γ.2.1 t) n (fun j => va_rf (f j))).slots.size ≤ i.toNatClampNeg) := by rw [arrV_size]; exact hin
  have hcell : H[a]? = some (arrV (Γ.2.1 t) n (fun j => va_rf (f j))) := (hP.1 a _ he).1
  intro T hT X
  have hT' : T.heap[a]? = some (arrV (Γ.2.1 t) n (fun j => va_rf (f j))) := by rw [hT]; exact hcell
  have hTa := State.isArrayOf_alike X.warmed.alike harr
  have hfit : T.fitsSlot (arrV (Γ.2.1 t) n (fun j => va_rf (f j))).cls (arrV (Γ.2.1 t) n (fun j => va_rf (f j))).vm i.toNatClampNeg .null = true := by
    obtain ⟨hobj, k, hk, comp, hkind⟩ := hTa
    cases hvm : (arrV (Γ.2.1 t) n (fun j => va_rf (f j))).vm <;> first | exact absurd hvm (hobj _) | simp [State.fitsSlot, State.slotType?, hk, hkind, fits]
  have hlt : a < T.heap.size := (Array.getElem?_eq_some_iff.mp hT').1
  have hkk := kk hX ls (T.setCell a ((arrV (Γ.2.1 t) n (fun j => va_rf (f j))).setSlot i.toNatClampNeg .null)).heap (locs ++ [⟨a, i.toNatClampNeg⟩]) hl (hP.set he (by
      show _ = some (vp_cell _ _)
      rw [heapAt_setCell_self _ hlt]
      rw [vp_cell_q, arrV_store]
      congr 2
      funext q
      by_cases hq : q = i.toNatClampNeg
      · subst hq
        simp [updV, va_up, va_rf]
      · simp [updV, va_up, hq]) (fun q hq => by rw [heapAt_setCell_ne _ (Ne.symm hq), hT])) (hS.put (by rw [size_setCell, hT]) (fun q hq => by rw [heapAt_setCell_ne _ (Ne.symm hq), hT]) (hP.1 a _ he).2)
  obtain ⟨t', a1, b1⟩ := hkk _ rfl (X.stored hT' _ _)
  refine ⟨t', ?_, b1⟩
  subst hb
  jvm_step X.here [hx, hd]
  refine aastore.wp_of_null (c := arrV (Γ.2.1 t) n (fun j => va_rf (f j))) (t := .array ty) X.here.top rfl hT' hTa hin' (fun h => by cases h) (Nat.not_le.mp fun q => hin' (Or.inr q)) hfit ?_
  intro acts
  rw [afterInstr_ok]
  exact a1
theorem eg_astA {a t u n v : Nat} {ty : FieldType} {f : Nat → Option Nat} {x : vp_A} {i : Int32} (ht : (eb_tys Γ.2.1)[t]? = some (Γ.2.1 t, .array ty)) (hu : (eb_tys Γ.2.1)[u]? = some (Γ.2.1 u, ty)) (hf : FieldType.array ty ∈ eb_ft) (hn : ∀ C, ty ≠ .object C) (he : st a = some (eb_ra Γ t n f)) (hv : st v = some (.inl (Γ.2.1 u, x))) (hin : vp_in i n) (hd : eb_dc cc pc (.aastore) 1 pc1) (kk : eb_G l Γ P X cc own nL ret R pc1 lv stk (eb_up st a (eb_ra Γ t n (va_up f i.toNatClampNeg (some v)))) uc us) : eb_G l Γ P X cc own nL ret R pc lv (.ref v :: .int i :: .ref a :: stk) st uc us := by
  obtain ⟨hd, rfl⟩ := hd
  obtain ⟨p, e, s, m, args, below, meth, c, A⟩ := X
  intro hX ls H locs hl hP hS
  obtain ⟨hx, hb, hml, hown, hts, hr, hlk, hK, hA⟩ := id hX
  have hlt : i.toNatClampNeg < n := Nat.not_le.mp fun q => hin (Or.inr q)
  have h0 : ¬ i < 0 := fun q => hin (Or.inl q)
  have g1 : H[v]? = some (vp_cell (Γ.2.1 u) x) := (hP.1 v _ hv).1
  obtain ⟨kA, k1, k2⟩ := eb_arrT hK ht hu hf hn
  obtain ⟨-, kU, hkU, cu, hkindU⟩ := (hK.1.2 u _ hu).1 0 (fun _ => .null)
  have hkU' : s.vm.classes[Γ.2.1 u]? = some kU := hkU
  have hvc : (vp_cell (Γ.2.1 u) x).cls = Γ.2.1 u := by unfold vp_cell; split <;> rfl
  have hvm : (vp_cell (Γ.2.1 u) x).vm = .none := by unfold vp_cell; split <;> rfl
  refine W.aast hx hb (hP.1 a _ he).1 (fun q h => by cases h) (fun h => by cases h) k1 k2 rfl hkU' ⟨h0, by show _ < (arrV _ _ _).slots.size; rw [arrV_size]; exact hlt⟩ g1 (fun q h => by rw [hvm] at h; cases h) (by rw [hvc]; exact hkU') (by rw [hvc]; show Vm.assignableAux s.vm (255 + 1) _ _ = true; rw [Vm.assignableAux, beq_self_eq_true, Bool.true_or]) rfl rfl hd fun H1 e z oq => ?_
  refine kk hX ls H1 _ hl (hP.set he ?_ oq) (hS.put z oq (hP.1 a _ he).2)
  show H1[a]? = some (vp_cell _ _)
  rw [e]
  rw [vp_cell_q, vp_cell_q, arrV_store]
  congr 2
  funext q
  by_cases hq : q = i.toNatClampNeg
  · subst hq
    simp [updV, va_up, va_rf]
  · simp [updV, va_up, hq]
theorem eg_anew {t i : Nat} {C : String} {n : Int32} {N' : Nat} (hcl : Cond.classLink own i C ∈ lw_all) (hft : .object C ∈ eb_ft) (ht : (eb_tys Γ.2.1)[t]? = some (Γ.2.1 t, .object C)) (hn : ¬ n < 0) (hN : n.toNatClampNeg = N') (hbytes : N' * 8 ≤ 536870912) (hcells : uc + 1 ≤ R.cells) (hslots : us + N' ≤ R.slots) (hd : eb_dc cc pc (.anewarray i) 3 pc1) (kk : ∀ a : Nat, st a = none → eb_G l Γ P X cc own nL ret R pc1 lv (.ref a :: stk) (eb_up st a (eb_ra Γ t N' (fun _ => none))) (uc + 1) (us + N')) : eb_G l Γ P X cc own nL ret R pc lv (.int n :: stk) st uc us := by
  obtain ⟨hd, rfl⟩ := hd
  obtain ⟨p, e, s, m, args, below, meth, c, A⟩ := X
  intro hX ls H locs hl hP hS
  obtain ⟨hx, hb, hml, hown, hts, hr, hlk, hK, hA⟩ := id hX
  subst hN
  refine W.anew hx hb hown (hts _ hcl) (hK.2.1.2.2.2.2.2 _ hft) rfl hd rfl hn (by omega) hcells hslots fun cA kA comp f1 f2 f3 f4 => ?_
  generalize hH1 : H.push ({ cls := cA, slots := Array.replicate n.toNatClampNeg .null, vm := .none } : Cell) = H1
  have z1 : H1.size = H.size + 1 := by rw [← hH1, Array.size_push]
  have e1 : H1[H.size]? = some (arrV cA n.toNatClampNeg (fun _ => .null)) := by rw [← hH1, Array.getElem?_push_size, ← arrV_new]
  have o1 : ∀ q : Nat, q < H.size → H1[q]? = H[q]? := fun q hq => by rw [← hH1, Array.getElem?_push, if_neg (Nat.ne_of_lt hq)]
  obtain ⟨-, -, -, -, -, h9⟩ := (hK.1.2 t _ ht).2
  have hcA : cA = Γ.2.1 t := Option.some.inj (f1.symm.trans h9)
  subst hcA
  refine kk H.size hP.fresh hX ls _ locs hl (hP.push rfl (hA _ hS.1) ?_ o1) ⟨Nat.le_trans hS.1 (by omega), fun x h1 h2 => (o1 x (Nat.lt_of_lt_of_le h1 hS.1)).trans (hS.2.1 x h1 h2), hS.2.2⟩
  show _ = some (vp_cell _ _)
  rw [vp_cell_q]
  exact e1
theorem eg_anewA {t i : Nat} {ty : FieldType} {nm : String} {n : Int32} {N' : Nat} (hnm : nm = (FieldType.array ty).toString) (hcl : Cond.classLink own i nm ∈ lw_all) (hft : .array ty ∈ eb_ft) (ht : (eb_tys Γ.2.1)[t]? = some (Γ.2.1 t, .array ty)) (hn : ¬ n < 0) (hN : n.toNatClampNeg = N') (hbytes : N' * 8 ≤ 536870912) (hcells : uc + 1 ≤ R.cells) (hslots : us + N' ≤ R.slots) (hd : eb_dc cc pc (.anewarray i) 3 pc1) (kk : ∀ a : Nat, st a = none → eb_G l Γ P X cc own nL ret R pc1 lv (.ref a :: stk) (eb_up st a (eb_ra Γ t N' (fun _ => none))) (uc + 1) (us + N')) : eb_G l Γ P X cc own nL ret R pc lv (.int n :: stk) st uc us := by
  obtain ⟨hd, rfl⟩ := hd
  obtain ⟨p, e, s, m, args, below, meth, c, A⟩ := X
  intro hX ls H locs hl hP hS
  obtain ⟨hx, hb, hml, hown, hts, hr, hlk, hK, hA⟩ := id hX
  subst hnm
  subst hN
  refine W.anewA hx hb hown (hts _ hcl) (hK.2.1.2.2.2.2.2 _ hft) rfl hd rfl hn (by omega) hcells hslots fun cA kA comp f1 f2 f3 f4 => ?_
  generalize hH1 : H.push ({ cls := cA, slots := Array.replicate n.toNatClampNeg .null, vm := .none } : Cell) = H1
  have z1 : H1.size = H.size + 1 := by rw [← hH1, Array.size_push]
  have e1 : H1[H.size]? = some (arrV cA n.toNatClampNeg (fun _ => .null)) := by rw [← hH1, Array.getElem?_push_size, ← arrV_new]
  have o1 : ∀ q : Nat, q < H.size → H1[q]? = H[q]? := fun q hq => by rw [← hH1, Array.getElem?_push, if_neg (Nat.ne_of_lt hq)]
  have h9 : s.vm.findClass ("[" ++ (FieldType.array ty).toString) = some (Γ.2.1 t) := (hK.1.2 t _ ht).2
  have hcA : cA = Γ.2.1 t := Option.some.inj (f1.symm.trans h9)
  subst hcA
  refine kk H.size hP.fresh hX ls _ locs hl (hP.push rfl (hA _ hS.1) ?_ o1) ⟨Nat.le_trans hS.1 (by omega), fun x h1 h2 => (o1 x (Nat.lt_of_lt_of_le h1 hS.1)).trans (hS.2.1 x h1 h2), hS.2.2⟩
  show _ = some (vp_cell _ _)
  rw [vp_cell_q]
  exact e1
end SROWS
