set_option maxRecDepth 100000
def eb_T0 : u_T := fun _ => ("", "", "", false)
abbrev eb_cl : List vw_C := [(RX0, TX0, 6), (RX1, TX1, 9), (RX2, TX2, 35), (RX4, TX4, 1), (RX5, eb_T0, 0), (RX6, TX6, 1), (RX7, TX7, 1), (RX8, TX8, 6), (RX9, TX9, 6), (RX10, TX10, 4), (RX11, TX11, 4), (RX12, TX12, 7), (RX13, TX13, 8), (RX14, TX14, 6), (RJ5, TJ5, 3), (RJ6, TJ6, 4)]
def eb_nF : List (String × Nat × String × String × String × String) := [("java/util/ArrayList$Itr", 28, "java/util/ArrayList", "size", "I", "java/util/ArrayList"), ("EvenBodies", 34, "EvenBodies$Body", "mirrors", "I", "EvenBodies"), ("EvenBodies", 56, "EvenBodies$Body", "angles", "[I", "EvenBodies"), ("EvenBodies", 50, "EvenBodies$Body", "ringed", "I", "EvenBodies"), ("EvenBodies", 148, "EvenBodies$Body", "group", "LEvenBodies$Group;", "EvenBodies"), ("EvenBodies", 235, "EvenBodies$Body", "snub", "LEvenBodies$Snub;", "EvenBodies"), ("EvenBodies", 104, "EvenBodies$Group", "mirrors", "I", "EvenBodies"), ("EvenBodies", 70, "EvenBodies$Group", "n", "I", "EvenBodies"), ("EvenBodies", 82, "EvenBodies$Group", "length", "[B", "EvenBodies"), ("EvenBodies", 263, "EvenBodies$Hull", "corners", "LEvenBodies$Net;", "EvenBodies"), ("EvenBodies", 256, "EvenBodies$Hull", "faces", "I", "EvenBodies"), ("EvenBodies$Body", 103, "EvenBodies$Group", "n", "I", "EvenBodies"), ("EvenBodies$Corners", 27, "EvenBodies$Body", "mirrors", "I", "EvenBodies"), ("EvenBodies$Corners", 30, "EvenBodies$Body", "ringed", "I", "EvenBodies"), ("EvenBodies$Corners", 17, "EvenBodies$Body", "group", "LEvenBodies$Group;", "EvenBodies"), ("EvenBodies$Corners", 21, "EvenBodies$Group", "n", "I", "EvenBodies"), ("EvenBodies$Hull", 63, "EvenBodies$Body", "group", "LEvenBodies$Group;", "EvenBodies"), ("EvenBodies$Hull", 67, "EvenBodies$Group", "n", "I", "EvenBodies"), ("EvenBodies$Laid", 18, "EvenBodies$Hull", "corners", "LEvenBodies$Net;", "EvenBodies"), ("EvenBodies$Snub", 3, "EvenBodies$Body", "group", "LEvenBodies$Group;", "EvenBodies"), ("EvenBodies$Snub", 9, "EvenBodies$Group", "n", "I", "EvenBodies"), ("EvenBodies$Group", 22, "EvenBodies$Body", "mirrors", "I", "EvenBodies"), ("EvenBodies$Maker", 18, "EvenBodies$Body", "mirrors", "I", "EvenBodies")]
def eb_nM : List (String × Nat × MethodName × String) := [("EvenBodies$Laid", 75, { cls := "EvenBodies$Hull", name := "before", desc := "(II)I" }, "EvenBodies"), ("EvenBodies$Laid", 78, { cls := "EvenBodies$Hull", name := "sizeBehind", desc := "(II)I" }, "EvenBodies"), ("EvenBodies$Laid", 81, { cls := "EvenBodies$Hull", name := "neighbour", desc := "(II)I" }, "EvenBodies"), ("EvenBodies$Laid", 84, { cls := "EvenBodies$Hull", name := "placeOf", desc := "(II)I" }, "EvenBodies"), ("EvenBodies$Piece", 27, { cls := "EvenBodies$Endless", name := "<init>", desc := "()V" }, "EvenBodies"), ("EvenBodies$Ring", 1, { cls := "EvenBodies$Piece", name := "<init>", desc := "()V" }, "EvenBodies"), ("EvenBodies$Endless", 1, { cls := "EvenBodies$Piece", name := "<init>", desc := "()V" }, "EvenBodies"), ("EvenBodies$Star", 3, { cls := "EvenBodies$Piece", name := "<init>", desc := "()V" }, "EvenBodies"), ("EvenBodies$Path", 1, { cls := "EvenBodies$Piece", name := "<init>", desc := "()V" }, "EvenBodies"), ("EvenBodies$Maker", 39, { cls := "EvenBodies", name := "cosine", desc := "(I)I" }, "EvenBodies")]
def eb_nD : List MethodName := [{ cls := "java/lang/Object", name := "getClass", desc := "()Ljava/lang/Class;" }, { cls := "EvenBodies$Net", name := "joins", desc := "(II)V" }, { cls := "EvenBodies$Net", name := "all", desc := "()I" }, { cls := "EvenBodies$Net", name := "degree", desc := "(I)I" }, { cls := "EvenBodies$Net", name := "far", desc := "(I)[I" }, { cls := "EvenBodies$Piece", name := "size", desc := "()I" }, { cls := "java/util/Iterator", name := "hasNext", desc := "()Z" }, { cls := "java/util/Iterator", name := "next", desc := "()Ljava/lang/Object;" }, { cls := "java/util/List", name := "iterator", desc := "()Ljava/util/Iterator;" }, { cls := "java/util/List", name := "add", desc := "(Ljava/lang/Object;)Z" }, { cls := "java/util/List", name := "size", desc := "()I" }]
def eb_nC : List (String × String) := [("java/util/ArrayList", "java/util/List"), ("java/util/ArrayList", "java/lang/Object"), ("java/util/ArrayList$Itr", "java/util/Iterator"), ("java/util/ArrayList$Itr", "java/lang/Object"), ("EvenBodies", "java/lang/Object"), ("EvenBodies$Body", "java/lang/Object"), ("EvenBodies$Net", "java/lang/Object"), ("EvenBodies$Corners", "java/lang/Object"), ("EvenBodies$Hull", "java/lang/Object"), ("EvenBodies$Laid", "java/lang/Object"), ("EvenBodies$Snub", "java/lang/Object"), ("EvenBodiesModel", "java/lang/Object"), ("EvenBodies$Ring", "java/lang/Object"), ("EvenBodies$Endless", "java/lang/Object"), ("EvenBodies$Star", "java/lang/Object"), ("EvenBodies$Path", "java/lang/Object"), ("EvenBodies$Group", "java/lang/Object"), ("EvenBodies$Maker", "java/lang/Object"), ("[B", "java/lang/Object"), ("[I", "java/lang/Object"), ("[J", "java/lang/Object"), ("[LEvenBodies$Body;", "java/lang/Object"), ("[Ljava/lang/Object;", "java/lang/Object"), ("[S", "java/lang/Object"), ("[Z", "java/lang/Object"), ("[[I", "java/lang/Object"), ("[[S", "java/lang/Object")]
/-! the store: which cells are known; the judgement eb_G: the machine at a pc, with locals, stack and store -/
abbrev eb_S : Type := Nat → Option va_E
abbrev eb_L : Type := List (Nat × Value)
/-- classes' numbers, array classes' numbers, cells that stay as they are, the address of ArrayList's empty array -/
abbrev eb_C : Type := va_G × (Nat → ClassId) × List (Nat × Cell) × Nat
def eb_up (st : eb_S) (a : Nat) (e : va_E) : eb_S := fun q => if q = a then some e else st q
abbrev eb_tys (dA : Nat → ClassId) : List (ClassId × FieldType) := [(dA 0, .int), (dA 1, .boolean), (dA 2, .long), (dA 3, .short), (dA 4, .byte), (dA 5, .array .int), (dA 6, .array .short), (dA 7, .object "EvenBodies$Body"), (dA 8, .object "java/lang/Object")]
def eb_AO (t : FieldType) (U : State) : Prop := (Cond.arrayOver t).before #[] U = true
def eb_nI : List (String × MethodName × MethodName) := [("java/util/ArrayList", ⟨"java/util/List", "iterator", "()Ljava/util/Iterator;"⟩, ⟨"java/util/ArrayList", "iterator", "()Ljava/util/Iterator;"⟩), ("java/util/ArrayList", ⟨"java/util/List", "add", "(Ljava/lang/Object;)Z"⟩, ⟨"java/util/ArrayList", "add", "(Ljava/lang/Object;)Z"⟩), ("java/util/ArrayList", ⟨"java/util/List", "size", "()I"⟩, ⟨"java/util/ArrayList", "size", "()I"⟩), ("java/util/ArrayList$Itr", ⟨"java/util/Iterator", "hasNext", "()Z"⟩, ⟨"java/util/ArrayList$Itr", "hasNext", "()Z"⟩), ("java/util/ArrayList$Itr", ⟨"java/util/Iterator", "next", "()Ljava/lang/Object;"⟩, ⟨"java/util/ArrayList$Itr", "next", "()Ljava/lang/Object;"⟩)]
def eb_ft : List FieldType := [.object "EvenBodies$Body", .object "java/lang/Object", .array .short, .array .int]
/-- the words of the tables that don't ride in the lists -/
def eb_Z (U : State) : Prop :=
  (∀ q ∈ eb_nF, va_Nw (.fieldLinkNest q.1 q.2.1 q.2.2.1 q.2.2.2.1 q.2.2.2.2.1 q.2.2.2.2.2) U) ∧ (∀ q ∈ eb_nM, va_Nw (.methodLinkNest q.1 q.2.1 q.2.2.1 q.2.2.2) U) ∧ (∀ q ∈ eb_nD, va_Nw (.declares q) U) ∧ (∀ q ∈ eb_nC, va_Nw (.castable q.1 q.2) U) ∧
  (∀ q ∈ eb_nI, va_Fw q.1 q.2.1 q.2.2 U) ∧ (∀ t ∈ eb_ft, eb_AO t U)
def eb_sz (Γ : eb_C) (U : State) : Prop := ∀ H : Heap, (∀ q ∈ Γ.2.2.1, H[q.1]? = some q.2) → va_Z "java/util/ArrayList" "DEFAULTCAPACITY_EMPTY_ELEMENTDATA" "[Ljava/lang/Object;" (.ref Γ.2.2.2) (fun a => ∀ q ∈ Γ.2.2.1, q.1 ≠ a) U H
def eb_K (Γ : eb_C) (U : State) : Prop := va_K Γ.1 eb_cl (eb_tys Γ.2.1) U ∧ eb_Z U ∧ eb_sz Γ U
def eb_HP (Γ : eb_C) (A : Nat → Prop) (st : eb_S) (H : Heap) : Prop := (∀ (a : Nat) (e : va_E), st a = some e → va_at Γ.1 eb_cl (a, e) H ∧ A a) ∧ ∀ q ∈ Γ.2.2.1, H[q.1]? = some q.2 ∧ ¬ A q.1
def eb_A (st : eb_S) (sz : Nat) : Nat → Prop := fun q => (∃ e, st q = some e) ∨ sz ≤ q
theorem eb_AO.moved {t : FieldType} {u U : State} (hvm : u.vm.Alike U.vm) (h : eb_AO t u) : eb_AO t U :=
  (by rw [Cond.arrayOver_setVmC hvm]; exact h : (Cond.arrayOver t).before #[] (u.setVm U.vm) = true)
theorem eb_nI_ok : ∀ q ∈ eb_nI, q.2.1.cls ≠ "java/lang/invoke/MethodHandle" ∧ q.2.1.cls ≠ "java/lang/invoke/VarHandle" := by decide +kernel
theorem eb_Z.warm {s U : State} (hW : s.WarmedH U.vm) (h : eb_Z s) : eb_Z U := by
  obtain ⟨h1, h2, h3, h4, h5, h6⟩ := h
  refine ⟨fun q hq => va_Nw.warmF hW (h1 q hq), fun q hq => va_Nw.warmM hW (h2 q hq), fun q hq => va_Nw.warmD hW (h3 q hq), fun q hq => va_Nw.warmC hW (h4 q hq), fun q hq => ?_, fun t ht => (h6 t ht).moved hW.alike⟩
  exact va_Fw.moved (eb_nI_ok q hq) hW.alike (h5 q hq)
theorem eb_Z.same {s U : State} (hW : s.vm = U.vm) (h : eb_Z s) : eb_Z U := by
  obtain ⟨h1, h2, h3, h4, h5, h6⟩ := h
  have ha : s.vm.Alike U.vm := hW ▸ Vm.Alike.refl s.vm
  refine ⟨fun q hq => va_Nw.same rfl hW (h1 q hq), fun q hq => va_Nw.same rfl hW (h2 q hq), fun q hq => va_Nw.same rfl hW (h3 q hq), fun q hq => va_Nw.same rfl hW (h4 q hq), fun q hq => ?_, fun t ht => (h6 t ht).moved ha⟩
  exact va_Fw.moved (eb_nI_ok q hq) ha (h5 q hq)
theorem eb_K.warm {Γ : eb_C} {s U : State} (hW : s.WarmedH U.vm) (h : eb_K Γ s) : eb_K Γ U := ⟨va_K.moved hW.alike h.1, h.2.1.warm hW, fun H hH => (h.2.2 H hH).moved hW.alike⟩
theorem eb_K.same {Γ : eb_C} {s U : State} (hW : s.vm = U.vm) (h : eb_K Γ s) : eb_K Γ U := ⟨va_K.moved (hW ▸ Vm.Alike.refl s.vm) h.1, h.2.1.same hW, fun H hH => (h.2.2 H hH).moved (hW ▸ Vm.Alike.refl s.vm)⟩
/-- a contract's end -/
def eb_Q (Γ : eb_C) (A : Nat → Prop) (K : Option Value → eb_S → Prop) : Array Value → State → Outcome → State → Prop := fun _ s0 oc t =>
  (∃ (v : Option Value) (st' : eb_S), oc = .returned v ∧ K v st' ∧ eb_HP Γ A st' t.heap) ∧ va_F A s0 t
/-- a contract: from the store st, with these arguments, the method returns, and K holds of its answer and of the store behind it; what isn't known stays -/
def eb_Ct (l : Launch) (Γ : eb_C) (y : MethodName) (cc : ByteArray) (nL : Nat) (ret : Option FieldType) (rm : Room) (av : List Value) (st : eb_S) (K : Option Value → eb_S → Prop) : Prop :=
  ∀ sz : Nat, Met l y (ws_ y cc nL ret) rm (va_Pc av (fun U => U.heap.size = sz ∧ eb_HP Γ (eb_A st sz) st U.heap ∧ eb_K Γ U)) (eb_Q Γ (eb_A st sz) K) rm.cells rm.slots (eb_A st sz)
abbrev eb_X : Type := Program × Env × State × MethodId × Array Value × List Frame × Method × Code × (Nat → Prop)
def eb_ok (Γ : eb_C) : eb_X → ByteArray → String → Nat → Option FieldType → Prop
  | (p, _, s, m, args, _, meth, c, A), cc, own, nL, ret => p.tables.exec = Jvm.exec ∧ c.code = cc ∧ c.maxLocals = nL ∧ s.vm.findClass own = some m.cls ∧ (∀ w ∈ lw_all, w.before args s = true) ∧ meth.sig.returnType = ret ∧ meth.locks = false ∧ eb_K Γ s ∧ (∀ q, s.heap.size ≤ q → A q)
/-- the machine at pc, with these locals, this stack, this store, so many cells and slots made since the method's start: it comes to the method's end with P of its answer and store -/
def eb_G (l : Launch) (Γ : eb_C) (P : Option Value → eb_S → Prop) : eb_X → ByteArray → String → Nat → Option FieldType → Room → Nat → eb_L → List Value → eb_S → Nat → Nat → Prop
  | (p, e, s, m, args, below, meth, c, A), cc, own, nL, ret, R, pc, lv, stk, st, uc, us => eb_ok Γ (p, e, s, m, args, below, meth, c, A) cc own nL ret → ∀ (ls : Array Slot) (H : Heap) (locs : List Loc), lv_has ls nL lv → eb_HP Γ A st H → va_S A s.heap H locs →
    W p l e R s m args below meth c H locs uc us (MQ below (eb_Q Γ A P) args s R.cells R.slots A) (F0 m pc ls stk)
/-- a constructor's own name, which a final field's store asks for -/
def eb_in : eb_X → Prop
  | (_, _, _, _, _, _, meth, _, _) => meth.name = "<init>"
theorem eb_of {l : Launch} {Γ : eb_C} {y : MethodName} {cc : ByteArray} {nL : Nat} {ret : Option FieldType} {rm : Room} {av : List Value} {st : eb_S} {K : Option Value → eb_S → Prop} (hy : plainName y.cls = true) (hn : (lg_sl av).length ≤ nL)
    (body : ∀ (X : eb_X) (P : Option Value → eb_S → Prop), (∀ v st', K v st' → P v st') → (y.name = "<init>" → eb_in X) → eb_G l Γ P X cc y.cls nL ret rm 0 (lv_args 0 av) [] st 0 0) : eb_Ct l Γ y cc nL ret rm av st K := by
  intro sz
  refine Met.ofW (cc := cc) (maxL := nL) (ret := ret) hy rfl ?_
  intro p e s m args below meth c s₁ B hml hv
  obtain ⟨rfl, hsz, hP, hK⟩ := hv
  have hts := atoms_spec (ws := ws_ y cc nL ret) B.pre
  have hts : ∀ w ∈ lw_all, w.before _ s = true := fun w h => hts w (List.mem_cons_of_mem _ h)
  have hown : s.vm.findClass y.cls = some m.cls := findClass_of_methodNamed B.named
  subst hsz
  have hl := lv_entry av (n := nL) hn
  rw [lg_entry_eq]
  exact body (p, e, s, m, av.toArray, below, meth, c, eb_A st s.heap.size) K (fun _ _ h => h) (fun h => (name_of_methodNamed B.named B.method).1.trans h) ⟨B.exec, B.bytes, hml, hown, hts, B.returns, B.notSynchronized, hK, fun q h => Or.inr h⟩ _ s.heap [] hl hP va_S.rf
abbrev eb_dc (cc : ByteArray) (pc : Nat) (i : Instr) (n pc1 : Nat) : Prop := decode cc pc = .ok (i, n) ∧ pc + n = pc1
abbrev eb_dj (cc : ByteArray) (pc : Nat) (i : Instr) (off : Int) (pc1 tgt : Nat) : Prop := decode cc pc = .ok (i, 3) ∧ pc + 3 = pc1 ∧ (pc : Int) + off = (tgt : Int)
theorem eb_HP.P {Γ : eb_C} {A : Nat → Prop} {st : eb_S} {H : Heap} (h : eb_HP Γ A st H) {a : Nat} {e : va_E} (he : st a = some e) : va_P Γ.1 eb_cl [(a, e)] H := by
  intro k q hq
  match k, hq with
  | 0, hq => cases hq; exact (h.1 a e he).1
theorem eb_HP.set {Γ : eb_C} {A : Nat → Prop} {st : eb_S} {H H1 : Heap} {a : Nat} {e0 e : va_E} (h : eb_HP Γ A st H) (h0 : st a = some e0) (he : va_at Γ.1 eb_cl (a, e) H1) (oq : ∀ q : Nat, q ≠ a → H1[q]? = H[q]?) : eb_HP Γ A (eb_up st a e) H1 := by
  refine ⟨fun b x hx => ?_, fun q hq => ?_⟩
  · unfold eb_up at hx
    by_cases hb : b = a
    · rw [if_pos hb] at hx
      cases hx
      subst hb
      exact ⟨he, (h.1 b e0 h0).2⟩
    · rw [if_neg hb] at hx
      exact ⟨(h.1 b x hx).1.kept (oq b hb), (h.1 b x hx).2⟩
  · have hne : q.1 ≠ a := fun z => (h.2 q hq).2 (z ▸ (h.1 a e0 h0).2)
    exact ⟨(oq q.1 hne).trans (h.2 q hq).1, (h.2 q hq).2⟩
theorem eb_HP.push {Γ : eb_C} {A : Nat → Prop} {st : eb_S} {H H1 : Heap} {a : Nat} {e : va_E} (h : eb_HP Γ A st H) (ha : a = H.size) (hA : A a) (he : va_at Γ.1 eb_cl (a, e) H1) (oq : ∀ q : Nat, q < a → H1[q]? = H[q]?) : eb_HP Γ A (eb_up st a e) H1 := by
  refine ⟨fun b x hx => ?_, fun q hq => ?_⟩
  · unfold eb_up at hx
    by_cases hb : b = a
    · rw [if_pos hb] at hx
      cases hx
      subst hb
      exact ⟨he, hA⟩
    · rw [if_neg hb] at hx
      have hlt := (h.1 b x hx).1.lt
      exact ⟨(h.1 b x hx).1.kept (oq b (by rw [ha]; exact hlt)), (h.1 b x hx).2⟩
  · have hlt : q.1 < H.size := (Array.getElem?_eq_some_iff.mp (h.2 q hq).1).1
    exact ⟨(oq q.1 (by rw [ha]; exact hlt)).trans (h.2 q hq).1, (h.2 q hq).2⟩

def eb_shl (x y : Int32) : Int32 := x <<< (y &&& 31)
def eb_shr (x y : Int32) : Int32 := x >>> (y &&& 31)
def eb_ushr (x y : Int32) : Int32 := (x.toUInt32 >>> (y.toUInt32 &&& Int32.toUInt32 31)).toInt32
def eb_rem (x y : Int32) : Int32 := x - x / y * y
section ROWS
variable {l : Launch} {Γ : eb_C} {P : Option Value → eb_S → Prop} {X : eb_X} {cc : ByteArray} {own : String} {nL : Nat} {ret : Option FieldType} {R : Room} {pc pc1 tgt : Nat} {lv lv' : eb_L} {stk : List Value} {st : eb_S} {uc us : Nat}
theorem eg_iconst {n : Int} {v : Int32} (hd : eb_dc cc pc (.iconst n) 1 pc1) (hv : Int32.ofInt n = v) (k : eb_G l Γ P X cc own nL ret R pc1 lv (.int v :: stk) st uc us) : eb_G l Γ P X cc own nL ret R pc lv stk st uc us := by
  obtain ⟨hd, rfl⟩ := hd
  obtain ⟨p, e, s, m, args, below, meth, c, A⟩ := X
  intro hX ls H locs hl hP hS
  obtain ⟨hx, hb, hml, hown, hts, hr, hlk, hK, hA⟩ := id hX
  exact lv_iconst hx hb hd hv (k hX ls H locs hl hP hS)
theorem eg_bipush {n : Int} {v : Int32} (hd : eb_dc cc pc (.bipush n) 2 pc1) (hv : (Int8.ofInt n).toInt32 = v) (k : eb_G l Γ P X cc own nL ret R pc1 lv (.int v :: stk) st uc us) : eb_G l Γ P X cc own nL ret R pc lv stk st uc us := by
  obtain ⟨hd, rfl⟩ := hd
  obtain ⟨p, e, s, m, args, below, meth, c, A⟩ := X
  intro hX ls H locs hl hP hS
  obtain ⟨hx, hb, hml, hown, hts, hr, hlk, hK, hA⟩ := id hX
  exact lv_bipush hx hb hd hv (k hX ls H locs hl hP hS)
theorem eg_sipush {n : Int} {v : Int32} (hd : eb_dc cc pc (.sipush n) 3 pc1) (hv : (Int16.ofInt n).toInt32 = v) (k : eb_G l Γ P X cc own nL ret R pc1 lv (.int v :: stk) st uc us) : eb_G l Γ P X cc own nL ret R pc lv stk st uc us := by
  obtain ⟨hd, rfl⟩ := hd
  obtain ⟨p, e, s, m, args, below, meth, c, A⟩ := X
  intro hX ls H locs hl hP hS
  obtain ⟨hx, hb, hml, hown, hts, hr, hlk, hK, hA⟩ := id hX
  exact lv_sipush hx hb hd hv (k hX ls H locs hl hP hS)
theorem eg_lconst {n : Fin 2} {v : Int64} (hd : eb_dc cc pc (.lconst n) 1 pc1) (hv : Int64.ofNat (n : Nat) = v) (k : eb_G l Γ P X cc own nL ret R pc1 lv (.long v :: stk) st uc us) : eb_G l Γ P X cc own nL ret R pc lv stk st uc us := by
  obtain ⟨hd, rfl⟩ := hd
  obtain ⟨p, e, s, m, args, below, meth, c, A⟩ := X
  intro hX ls H locs hl hP hS
  obtain ⟨hx, hb, hml, hown, hts, hr, hlk, hK, hA⟩ := id hX
  exact lv_lconst hx hb hd hv (k hX ls H locs hl hP hS)
theorem eg_iload_n {q : Fin 4} {i : Nat} {x : Int32} (j : Nat) (hd : eb_dc cc pc (.iload_n q) 1 pc1) (hi : (q : Nat) = i) (hj : lv[j]? = some (i, .int x)) (k : eb_G l Γ P X cc own nL ret R pc1 lv (.int x :: stk) st uc us) : eb_G l Γ P X cc own nL ret R pc lv stk st uc us := by
  obtain ⟨hd, rfl⟩ := hd
  obtain ⟨p, e, s, m, args, below, meth, c, A⟩ := X
  intro hX ls H locs hl hP hS
  obtain ⟨hx, hb, hml, hown, hts, hr, hlk, hK, hA⟩ := id hX
  exact lv_iload_n hx hb hd hi (lv_at hl j hj) (k hX ls H locs hl hP hS)
theorem eg_iload {i : Nat} {x : Int32} (j : Nat) (hd : eb_dc cc pc (.iload i) 2 pc1) (hj : lv[j]? = some (i, .int x)) (k : eb_G l Γ P X cc own nL ret R pc1 lv (.int x :: stk) st uc us) : eb_G l Γ P X cc own nL ret R pc lv stk st uc us := by
  obtain ⟨hd, rfl⟩ := hd
  obtain ⟨p, e, s, m, args, below, meth, c, A⟩ := X
  intro hX ls H locs hl hP hS
  obtain ⟨hx, hb, hml, hown, hts, hr, hlk, hK, hA⟩ := id hX
  exact lv_iload hx hb hd (lv_at hl j hj) (k hX ls H locs hl hP hS)
theorem eg_istore_n {q : Fin 4} {i : Nat} {x : Int32} (hd : eb_dc cc pc (.istore_n q) 1 pc1) (hi : (q : Nat) = i) (hn : i < nL) (h0 : (i, Value.int x) :: lv.filter (fun q => !(q.1 == i) && !(q.1 + 1 == i && q.2.category == 2)) = lv') (k : eb_G l Γ P X cc own nL ret R pc1 lv' stk st uc us) : eb_G l Γ P X cc own nL ret R pc lv (.int x :: stk) st uc us := by
  obtain ⟨hd, rfl⟩ := hd
  obtain ⟨p, e, s, m, args, below, meth, c, A⟩ := X
  intro hX ls H locs hl hP hS
  obtain ⟨hx, hb, hml, hown, hts, hr, hlk, hK, hA⟩ := id hX
  exact lv_istore_n hx hb hd hi hl hn h0 (fun ls hl => k hX ls H locs hl hP hS)
theorem eg_istore {i : Nat} {x : Int32} (hd : eb_dc cc pc (.istore i) 2 pc1) (hn : i < nL) (h0 : (i, Value.int x) :: lv.filter (fun q => !(q.1 == i) && !(q.1 + 1 == i && q.2.category == 2)) = lv') (k : eb_G l Γ P X cc own nL ret R pc1 lv' stk st uc us) : eb_G l Γ P X cc own nL ret R pc lv (.int x :: stk) st uc us := by
  obtain ⟨hd, rfl⟩ := hd
  obtain ⟨p, e, s, m, args, below, meth, c, A⟩ := X
  intro hX ls H locs hl hP hS
  obtain ⟨hx, hb, hml, hown, hts, hr, hlk, hK, hA⟩ := id hX
  exact lv_istore hx hb hd hl hn h0 (fun ls hl => k hX ls H locs hl hP hS)
theorem eg_lload_n {q : Fin 4} {i : Nat} {x : Int64} (j : Nat) (hd : eb_dc cc pc (.lload_n q) 1 pc1) (hi : (q : Nat) = i) (hj : lv[j]? = some (i, .long x)) (k : eb_G l Γ P X cc own nL ret R pc1 lv (.long x :: stk) st uc us) : eb_G l Γ P X cc own nL ret R pc lv stk st uc us := by
  obtain ⟨hd, rfl⟩ := hd
  obtain ⟨p, e, s, m, args, below, meth, c, A⟩ := X
  intro hX ls H locs hl hP hS
  obtain ⟨hx, hb, hml, hown, hts, hr, hlk, hK, hA⟩ := id hX
  exact lv_lload_n hx hb hd hi (lv_at hl j hj) (k hX ls H locs hl hP hS)
theorem eg_lload {i : Nat} {x : Int64} (j : Nat) (hd : eb_dc cc pc (.lload i) 2 pc1) (hj : lv[j]? = some (i, .long x)) (k : eb_G l Γ P X cc own nL ret R pc1 lv (.long x :: stk) st uc us) : eb_G l Γ P X cc own nL ret R pc lv stk st uc us := by
  obtain ⟨hd, rfl⟩ := hd
  obtain ⟨p, e, s, m, args, below, meth, c, A⟩ := X
  intro hX ls H locs hl hP hS
  obtain ⟨hx, hb, hml, hown, hts, hr, hlk, hK, hA⟩ := id hX
  exact lv_lload hx hb hd (lv_at hl j hj) (k hX ls H locs hl hP hS)
theorem eg_lstore_n {q : Fin 4} {i : Nat} {x : Int64} (hd : eb_dc cc pc (.lstore_n q) 1 pc1) (hi : (q : Nat) = i) (hn : i + 1 < nL) (h0 : (i, Value.long x) :: lv.filter (fun q => !(q.1 == i) && (!(q.1 == i + 1) && !(q.1 + 1 == i && q.2.category == 2))) = lv') (k : eb_G l Γ P X cc own nL ret R pc1 lv' stk st uc us) : eb_G l Γ P X cc own nL ret R pc lv (.long x :: stk) st uc us := by
  obtain ⟨hd, rfl⟩ := hd
  obtain ⟨p, e, s, m, args, below, meth, c, A⟩ := X
  intro hX ls H locs hl hP hS
  obtain ⟨hx, hb, hml, hown, hts, hr, hlk, hK, hA⟩ := id hX
  exact lv_lstore_n hx hb hd hi hl hn h0 (fun ls hl => k hX ls H locs hl hP hS)
theorem eg_lstore {i : Nat} {x : Int64} (hd : eb_dc cc pc (.lstore i) 2 pc1) (hn : i + 1 < nL) (h0 : (i, Value.long x) :: lv.filter (fun q => !(q.1 == i) && (!(q.1 == i + 1) && !(q.1 + 1 == i && q.2.category == 2))) = lv') (k : eb_G l Γ P X cc own nL ret R pc1 lv' stk st uc us) : eb_G l Γ P X cc own nL ret R pc lv (.long x :: stk) st uc us := by
  obtain ⟨hd, rfl⟩ := hd
  obtain ⟨p, e, s, m, args, below, meth, c, A⟩ := X
  intro hX ls H locs hl hP hS
  obtain ⟨hx, hb, hml, hown, hts, hr, hlk, hK, hA⟩ := id hX
  exact lv_lstore hx hb hd hl hn h0 (fun ls hl => k hX ls H locs hl hP hS)
theorem eg_aload_n {q : Fin 4} {i : Nat} {x : Nat} (j : Nat) (hd : eb_dc cc pc (.aload_n q) 1 pc1) (hi : (q : Nat) = i) (hj : lv[j]? = some (i, .ref x)) (k : eb_G l Γ P X cc own nL ret R pc1 lv (.ref x :: stk) st uc us) : eb_G l Γ P X cc own nL ret R pc lv stk st uc us := by
  obtain ⟨hd, rfl⟩ := hd
  obtain ⟨p, e, s, m, args, below, meth, c, A⟩ := X
  intro hX ls H locs hl hP hS
  obtain ⟨hx, hb, hml, hown, hts, hr, hlk, hK, hA⟩ := id hX
  exact lv_aload_n hx hb hd hi (lv_at hl j hj) (k hX ls H locs hl hP hS)
theorem eg_aload {i : Nat} {x : Nat} (j : Nat) (hd : eb_dc cc pc (.aload i) 2 pc1) (hj : lv[j]? = some (i, .ref x)) (k : eb_G l Γ P X cc own nL ret R pc1 lv (.ref x :: stk) st uc us) : eb_G l Γ P X cc own nL ret R pc lv stk st uc us := by
  obtain ⟨hd, rfl⟩ := hd
  obtain ⟨p, e, s, m, args, below, meth, c, A⟩ := X
  intro hX ls H locs hl hP hS
  obtain ⟨hx, hb, hml, hown, hts, hr, hlk, hK, hA⟩ := id hX
  exact lv_aload hx hb hd (lv_at hl j hj) (k hX ls H locs hl hP hS)
theorem eg_astore_n {q : Fin 4} {i : Nat} {x : Nat} (hd : eb_dc cc pc (.astore_n q) 1 pc1) (hi : (q : Nat) = i) (hn : i < nL) (h0 : (i, Value.ref x) :: lv.filter (fun q => !(q.1 == i) && !(q.1 + 1 == i && q.2.category == 2)) = lv') (k : eb_G l Γ P X cc own nL ret R pc1 lv' stk st uc us) : eb_G l Γ P X cc own nL ret R pc lv (.ref x :: stk) st uc us := by
  obtain ⟨hd, rfl⟩ := hd
  obtain ⟨p, e, s, m, args, below, meth, c, A⟩ := X
  intro hX ls H locs hl hP hS
  obtain ⟨hx, hb, hml, hown, hts, hr, hlk, hK, hA⟩ := id hX
  exact lv_astore_n hx hb hd hi hl hn h0 (fun ls hl => k hX ls H locs hl hP hS)
theorem eg_astore {i : Nat} {x : Nat} (hd : eb_dc cc pc (.astore i) 2 pc1) (hn : i < nL) (h0 : (i, Value.ref x) :: lv.filter (fun q => !(q.1 == i) && !(q.1 + 1 == i && q.2.category == 2)) = lv') (k : eb_G l Γ P X cc own nL ret R pc1 lv' stk st uc us) : eb_G l Γ P X cc own nL ret R pc lv (.ref x :: stk) st uc us := by
  obtain ⟨hd, rfl⟩ := hd
  obtain ⟨p, e, s, m, args, below, meth, c, A⟩ := X
  intro hX ls H locs hl hP hS
  obtain ⟨hx, hb, hml, hown, hts, hr, hlk, hK, hA⟩ := id hX
  exact lv_astore hx hb hd hl hn h0 (fun ls hl => k hX ls H locs hl hP hS)
theorem eg_iinc {i j : Nat} {n : Int} {x v : Int32} (hd : eb_dc cc pc (.iinc i n) 3 pc1) (hj : lv[j]? = some (i, .int x)) (hv : x + Int32.ofInt n = v) (hn : i < nL) (h0 : (i, Value.int v) :: lv.filter (fun q => !(q.1 == i) && !(q.1 + 1 == i && q.2.category == 2)) = lv') (k : eb_G l Γ P X cc own nL ret R pc1 lv' stk st uc us) : eb_G l Γ P X cc own nL ret R pc lv stk st uc us := by
  obtain ⟨hd, rfl⟩ := hd
  obtain ⟨p, e, s, m, args, below, meth, c, A⟩ := X
  intro hX ls H locs hl hP hS
  obtain ⟨hx, hb, hml, hown, hts, hr, hlk, hK, hA⟩ := id hX
  exact lv_iinc hx hb hd hl hj hv hn h0 (fun ls hl => k hX ls H locs hl hP hS)
theorem eg_iadd {x y : Int32} (hd : eb_dc cc pc (.iadd) 1 pc1) (k : eb_G l Γ P X cc own nL ret R pc1 lv (.int (x + y) :: stk) st uc us) : eb_G l Γ P X cc own nL ret R pc lv (.int y :: .int x :: stk) st uc us := by
  obtain ⟨hd, rfl⟩ := hd
  obtain ⟨p, e, s, m, args, below, meth, c, A⟩ := X
  intro hX ls H locs hl hP hS
  obtain ⟨hx, hb, hml, hown, hts, hr, hlk, hK, hA⟩ := id hX
  exact lv_iadd hx hb hd (k hX ls H locs hl hP hS)
theorem eg_isub {x y : Int32} (hd : eb_dc cc pc (.isub) 1 pc1) (k : eb_G l Γ P X cc own nL ret R pc1 lv (.int (x - y) :: stk) st uc us) : eb_G l Γ P X cc own nL ret R pc lv (.int y :: .int x :: stk) st uc us := by
  obtain ⟨hd, rfl⟩ := hd
  obtain ⟨p, e, s, m, args, below, meth, c, A⟩ := X
  intro hX ls H locs hl hP hS
  obtain ⟨hx, hb, hml, hown, hts, hr, hlk, hK, hA⟩ := id hX
  exact lv_isub hx hb hd (k hX ls H locs hl hP hS)
theorem eg_imul {x y : Int32} (hd : eb_dc cc pc (.imul) 1 pc1) (k : eb_G l Γ P X cc own nL ret R pc1 lv (.int (x * y) :: stk) st uc us) : eb_G l Γ P X cc own nL ret R pc lv (.int y :: .int x :: stk) st uc us := by
  obtain ⟨hd, rfl⟩ := hd
  obtain ⟨p, e, s, m, args, below, meth, c, A⟩ := X
  intro hX ls H locs hl hP hS
  obtain ⟨hx, hb, hml, hown, hts, hr, hlk, hK, hA⟩ := id hX
  exact lv_imul hx hb hd (k hX ls H locs hl hP hS)
theorem eg_iand {x y : Int32} (hd : eb_dc cc pc (.iand) 1 pc1) (k : eb_G l Γ P X cc own nL ret R pc1 lv (.int (x &&& y) :: stk) st uc us) : eb_G l Γ P X cc own nL ret R pc lv (.int y :: .int x :: stk) st uc us := by
  obtain ⟨hd, rfl⟩ := hd
  obtain ⟨p, e, s, m, args, below, meth, c, A⟩ := X
  intro hX ls H locs hl hP hS
  obtain ⟨hx, hb, hml, hown, hts, hr, hlk, hK, hA⟩ := id hX
  exact lv_iand hx hb hd (k hX ls H locs hl hP hS)
theorem eg_ior {x y : Int32} (hd : eb_dc cc pc (.ior) 1 pc1) (k : eb_G l Γ P X cc own nL ret R pc1 lv (.int (x ||| y) :: stk) st uc us) : eb_G l Γ P X cc own nL ret R pc lv (.int y :: .int x :: stk) st uc us := by
  obtain ⟨hd, rfl⟩ := hd
  obtain ⟨p, e, s, m, args, below, meth, c, A⟩ := X
  intro hX ls H locs hl hP hS
  obtain ⟨hx, hb, hml, hown, hts, hr, hlk, hK, hA⟩ := id hX
  exact lv_ior hx hb hd (k hX ls H locs hl hP hS)
theorem eg_ixor {x y : Int32} (hd : eb_dc cc pc (.ixor) 1 pc1) (k : eb_G l Γ P X cc own nL ret R pc1 lv (.int (x ^^^ y) :: stk) st uc us) : eb_G l Γ P X cc own nL ret R pc lv (.int y :: .int x :: stk) st uc us := by
  obtain ⟨hd, rfl⟩ := hd
  obtain ⟨p, e, s, m, args, below, meth, c, A⟩ := X
  intro hX ls H locs hl hP hS
  obtain ⟨hx, hb, hml, hown, hts, hr, hlk, hK, hA⟩ := id hX
  exact lv_ixor hx hb hd (k hX ls H locs hl hP hS)
theorem eg_ishl {x y : Int32} (hd : eb_dc cc pc (.ishl) 1 pc1) (k : eb_G l Γ P X cc own nL ret R pc1 lv (.int (eb_shl x y) :: stk) st uc us) : eb_G l Γ P X cc own nL ret R pc lv (.int y :: .int x :: stk) st uc us := by
  obtain ⟨hd, rfl⟩ := hd
  obtain ⟨p, e, s, m, args, below, meth, c, A⟩ := X
  intro hX ls H locs hl hP hS
  obtain ⟨hx, hb, hml, hown, hts, hr, hlk, hK, hA⟩ := id hX
  exact lv_ishl hx hb hd (k hX ls H locs hl hP hS)
theorem eg_ishr {x y : Int32} (hd : eb_dc cc pc (.ishr) 1 pc1) (k : eb_G l Γ P X cc own nL ret R pc1 lv (.int (eb_shr x y) :: stk) st uc us) : eb_G l Γ P X cc own nL ret R pc lv (.int y :: .int x :: stk) st uc us := by
  obtain ⟨hd, rfl⟩ := hd
  obtain ⟨p, e, s, m, args, below, meth, c, A⟩ := X
  intro hX ls H locs hl hP hS
  obtain ⟨hx, hb, hml, hown, hts, hr, hlk, hK, hA⟩ := id hX
  exact lv_ishr hx hb hd (k hX ls H locs hl hP hS)
theorem eg_idiv {x y : Int32} (hd : eb_dc cc pc (.idiv) 1 pc1) (hne : ¬ y = 0) (k : eb_G l Γ P X cc own nL ret R pc1 lv (.int (x / y) :: stk) st uc us) : eb_G l Γ P X cc own nL ret R pc lv (.int y :: .int x :: stk) st uc us := by
  obtain ⟨hd, rfl⟩ := hd
  obtain ⟨p, e, s, m, args, below, meth, c, A⟩ := X
  intro hX ls H locs hl hP hS
  obtain ⟨hx, hb, hml, hown, hts, hr, hlk, hK, hA⟩ := id hX
  exact lv_idiv hx hb hd hne (k hX ls H locs hl hP hS)
theorem eg_irem {x y : Int32} (hd : eb_dc cc pc (.irem) 1 pc1) (hne : ¬ y = 0) (k : eb_G l Γ P X cc own nL ret R pc1 lv (.int (eb_rem x y) :: stk) st uc us) : eb_G l Γ P X cc own nL ret R pc lv (.int y :: .int x :: stk) st uc us := by
  obtain ⟨hd, rfl⟩ := hd
  obtain ⟨p, e, s, m, args, below, meth, c, A⟩ := X
  intro hX ls H locs hl hP hS
  obtain ⟨hx, hb, hml, hown, hts, hr, hlk, hK, hA⟩ := id hX
  exact lv_irem hx hb hd hne (k hX ls H locs hl hP hS)
theorem eg_ineg {x : Int32} (hd : eb_dc cc pc (.ineg) 1 pc1) (k : eb_G l Γ P X cc own nL ret R pc1 lv (.int (-x) :: stk) st uc us) : eb_G l Γ P X cc own nL ret R pc lv (.int x :: stk) st uc us := by
  obtain ⟨hd, rfl⟩ := hd
  obtain ⟨p, e, s, m, args, below, meth, c, A⟩ := X
  intro hX ls H locs hl hP hS
  obtain ⟨hx, hb, hml, hown, hts, hr, hlk, hK, hA⟩ := id hX
  exact lv_ineg hx hb hd (k hX ls H locs hl hP hS)
theorem eg_iushr {x y : Int32} (hd : eb_dc cc pc (.iushr) 1 pc1) (k : eb_G l Γ P X cc own nL ret R pc1 lv (.int (eb_ushr x y) :: stk) st uc us) : eb_G l Γ P X cc own nL ret R pc lv (.int y :: .int x :: stk) st uc us := by
  obtain ⟨hd, rfl⟩ := hd
  obtain ⟨p, e, s, m, args, below, meth, c, A⟩ := X
  intro hX ls H locs hl hP hS
  obtain ⟨hx, hb, hml, hown, hts, hr, hlk, hK, hA⟩ := id hX
  exact lv_iushr hx hb hd rfl (k hX ls H locs hl hP hS)
theorem eg_ladd {x y : Int64} (hd : eb_dc cc pc (.ladd) 1 pc1) (k : eb_G l Γ P X cc own nL ret R pc1 lv (.long (x + y) :: stk) st uc us) : eb_G l Γ P X cc own nL ret R pc lv (.long y :: .long x :: stk) st uc us := by
  obtain ⟨hd, rfl⟩ := hd
  obtain ⟨p, e, s, m, args, below, meth, c, A⟩ := X
  intro hX ls H locs hl hP hS
  obtain ⟨hx, hb, hml, hown, hts, hr, hlk, hK, hA⟩ := id hX
  exact lv_ladd hx hb hd (k hX ls H locs hl hP hS)
theorem eg_lmul {x y : Int64} (hd : eb_dc cc pc (.lmul) 1 pc1) (k : eb_G l Γ P X cc own nL ret R pc1 lv (.long (x * y) :: stk) st uc us) : eb_G l Γ P X cc own nL ret R pc lv (.long y :: .long x :: stk) st uc us := by
  obtain ⟨hd, rfl⟩ := hd
  obtain ⟨p, e, s, m, args, below, meth, c, A⟩ := X
  intro hX ls H locs hl hP hS
  obtain ⟨hx, hb, hml, hown, hts, hr, hlk, hK, hA⟩ := id hX
  exact lv_lmul hx hb hd (k hX ls H locs hl hP hS)
theorem eg_i2l {x : Int32} (hd : eb_dc cc pc (.i2l) 1 pc1) (k : eb_G l Γ P X cc own nL ret R pc1 lv (.long x.toInt64 :: stk) st uc us) : eb_G l Γ P X cc own nL ret R pc lv (.int x :: stk) st uc us := by
  obtain ⟨hd, rfl⟩ := hd
  obtain ⟨p, e, s, m, args, below, meth, c, A⟩ := X
  intro hX ls H locs hl hP hS
  obtain ⟨hx, hb, hml, hown, hts, hr, hlk, hK, hA⟩ := id hX
  exact lv_i2l hx hb hd rfl (k hX ls H locs hl hP hS)
theorem eg_l2i {x : Int64} (hd : eb_dc cc pc (.l2i) 1 pc1) (k : eb_G l Γ P X cc own nL ret R pc1 lv (.int x.toInt32 :: stk) st uc us) : eb_G l Γ P X cc own nL ret R pc lv (.long x :: stk) st uc us := by
  obtain ⟨hd, rfl⟩ := hd
  obtain ⟨p, e, s, m, args, below, meth, c, A⟩ := X
  intro hX ls H locs hl hP hS
  obtain ⟨hx, hb, hml, hown, hts, hr, hlk, hK, hA⟩ := id hX
  exact lv_l2i hx hb hd rfl (k hX ls H locs hl hP hS)
theorem eg_i2b {x : Int32} (hd : eb_dc cc pc (.i2b) 1 pc1) (k : eb_G l Γ P X cc own nL ret R pc1 lv (.int x.toInt8.toInt32 :: stk) st uc us) : eb_G l Γ P X cc own nL ret R pc lv (.int x :: stk) st uc us := by
  obtain ⟨hd, rfl⟩ := hd
  obtain ⟨p, e, s, m, args, below, meth, c, A⟩ := X
  intro hX ls H locs hl hP hS
  obtain ⟨hx, hb, hml, hown, hts, hr, hlk, hK, hA⟩ := id hX
  exact lv_i2b hx hb hd rfl (k hX ls H locs hl hP hS)
theorem eg_i2s {x : Int32} (hd : eb_dc cc pc (.i2s) 1 pc1) (k : eb_G l Γ P X cc own nL ret R pc1 lv (.int x.toInt16.toInt32 :: stk) st uc us) : eb_G l Γ P X cc own nL ret R pc lv (.int x :: stk) st uc us := by
  obtain ⟨hd, rfl⟩ := hd
  obtain ⟨p, e, s, m, args, below, meth, c, A⟩ := X
  intro hX ls H locs hl hP hS
  obtain ⟨hx, hb, hml, hown, hts, hr, hlk, hK, hA⟩ := id hX
  exact lv_i2s hx hb hd rfl (k hX ls H locs hl hP hS)
theorem eg_dup {v : Value} (hd : eb_dc cc pc (.dup) 1 pc1) (hv : v.category = 1) (k : eb_G l Γ P X cc own nL ret R pc1 lv (v :: v :: stk) st uc us) : eb_G l Γ P X cc own nL ret R pc lv (v :: stk) st uc us := by
  obtain ⟨hd, rfl⟩ := hd
  obtain ⟨p, e, s, m, args, below, meth, c, A⟩ := X
  intro hX ls H locs hl hP hS
  obtain ⟨hx, hb, hml, hown, hts, hr, hlk, hK, hA⟩ := id hX
  exact lv_dup hx hb hd hv (k hX ls H locs hl hP hS)
theorem eg_pop {v : Value} (hd : eb_dc cc pc (.pop) 1 pc1) (hv : v.category = 1) (k : eb_G l Γ P X cc own nL ret R pc1 lv stk st uc us) : eb_G l Γ P X cc own nL ret R pc lv (v :: stk) st uc us := by
  obtain ⟨hd, rfl⟩ := hd
  obtain ⟨p, e, s, m, args, below, meth, c, A⟩ := X
  intro hX ls H locs hl hP hS
  obtain ⟨hx, hb, hml, hown, hts, hr, hlk, hK, hA⟩ := id hX
  exact lv_pop hx hb hd hv (k hX ls H locs hl hP hS)
theorem eg_dup_x1 {v u : Value} (hd : eb_dc cc pc (.dup_x1) 1 pc1) (hv : v.category = 1) (hu : u.category = 1) (k : eb_G l Γ P X cc own nL ret R pc1 lv (v :: u :: v :: stk) st uc us) : eb_G l Γ P X cc own nL ret R pc lv (v :: u :: stk) st uc us := by
  obtain ⟨hd, rfl⟩ := hd
  obtain ⟨p, e, s, m, args, below, meth, c, A⟩ := X
  intro hX ls H locs hl hP hS
  obtain ⟨hx, hb, hml, hown, hts, hr, hlk, hK, hA⟩ := id hX
  exact lv_dup_x1 hx hb hd hv hu (k hX ls H locs hl hP hS)
theorem eg_dup2 {v u : Value} (hd : eb_dc cc pc (.dup2) 1 pc1) (hv : v.category = 1) (hu : u.category = 1) (k : eb_G l Γ P X cc own nL ret R pc1 lv (v :: u :: v :: u :: stk) st uc us) : eb_G l Γ P X cc own nL ret R pc lv (v :: u :: stk) st uc us := by
  obtain ⟨hd, rfl⟩ := hd
  obtain ⟨p, e, s, m, args, below, meth, c, A⟩ := X
  intro hX ls H locs hl hP hS
  obtain ⟨hx, hb, hml, hown, hts, hr, hlk, hK, hA⟩ := id hX
  exact lv_dup2_11 hx hb hd hv hu (k hX ls H locs hl hP hS)
theorem eg_null  (hd : eb_dc cc pc (.aconst_null) 1 pc1) (k : eb_G l Γ P X cc own nL ret R pc1 lv (.null :: stk) st uc us) : eb_G l Γ P X cc own nL ret R pc lv stk st uc us := by
  obtain ⟨hd, rfl⟩ := hd
  obtain ⟨p, e, s, m, args, below, meth, c, A⟩ := X
  intro hX ls H locs hl hP hS
  obtain ⟨hx, hb, hml, hown, hts, hr, hlk, hK, hA⟩ := id hX
  exact lv_null hx hb hd (k hX ls H locs hl hP hS)
theorem eg_ldc {i : Nat} {v : Int32} (hd : eb_dc cc pc (.ldc i) 2 pc1) (hq : Cond.constant own i v ∈ lw_all) (k : eb_G l Γ P X cc own nL ret R pc1 lv (.int v :: stk) st uc us) : eb_G l Γ P X cc own nL ret R pc lv stk st uc us := by
  obtain ⟨hd, rfl⟩ := hd
  obtain ⟨p, e, s, m, args, below, meth, c, A⟩ := X
  intro hX ls H locs hl hP hS
  obtain ⟨hx, hb, hml, hown, hts, hr, hlk, hK, hA⟩ := id hX
  exact lv_ldc hx hb hown (hts _ hq) hd (k hX ls H locs hl hP hS)
theorem eg_ldcw {i : Nat} {v : Int32} (hd : eb_dc cc pc (.ldc_w i) 3 pc1) (hq : Cond.constant own i v ∈ lw_all) (k : eb_G l Γ P X cc own nL ret R pc1 lv (.int v :: stk) st uc us) : eb_G l Γ P X cc own nL ret R pc lv stk st uc us := by
  obtain ⟨hd, rfl⟩ := hd
  obtain ⟨p, e, s, m, args, below, meth, c, A⟩ := X
  intro hX ls H locs hl hP hS
  obtain ⟨hx, hb, hml, hown, hts, hr, hlk, hK, hA⟩ := id hX
  exact lv_ldcw hx hb hown (hts _ hq) hd (k hX ls H locs hl hP hS)
theorem eg_ldc2 {i : Nat} {v : Int64} (hd : eb_dc cc pc (.ldc2_w i) 3 pc1) (hq : Cond.constantLong own i v ∈ lw_all) (k : eb_G l Γ P X cc own nL ret R pc1 lv (.long v :: stk) st uc us) : eb_G l Γ P X cc own nL ret R pc lv stk st uc us := by
  obtain ⟨hd, rfl⟩ := hd
  obtain ⟨p, e, s, m, args, below, meth, c, A⟩ := X
  intro hX ls H locs hl hP hS
  obtain ⟨hx, hb, hml, hown, hts, hr, hlk, hK, hA⟩ := id hX
  exact lv_ldc2 hx hb hown (hts _ hq) hd (k hX ls H locs hl hP hS)
theorem eg_if_eq {x : Int32} {off : Int} (hd : eb_dj cc pc (.ifCond .eq off) off pc1 tgt) (kt : x = 0 → eb_G l Γ P X cc own nL ret R tgt lv stk st uc us) (kf : ¬ x = 0 → eb_G l Γ P X cc own nL ret R pc1 lv stk st uc us) : eb_G l Γ P X cc own nL ret R pc lv (.int x :: stk) st uc us := by
  obtain ⟨hd, rfl, ht⟩ := hd
  obtain ⟨p, e, s, m, args, below, meth, c, A⟩ := X
  intro hX ls H locs hl hP hS
  obtain ⟨hx, hb, hml, hown, hts, hr, hlk, hK, hA⟩ := id hX
  exact lv_if_eq hx hb hd ht (fun h => kt h hX ls H locs hl hP hS) (fun h => kf h hX ls H locs hl hP hS)
theorem eg_icmp_eq {x y : Int32} {off : Int} (hd : eb_dj cc pc (.if_icmp .eq off) off pc1 tgt) (kt : x = y → eb_G l Γ P X cc own nL ret R tgt lv stk st uc us) (kf : ¬ x = y → eb_G l Γ P X cc own nL ret R pc1 lv stk st uc us) : eb_G l Γ P X cc own nL ret R pc lv (.int y :: .int x :: stk) st uc us := by
  obtain ⟨hd, rfl, ht⟩ := hd
  obtain ⟨p, e, s, m, args, below, meth, c, A⟩ := X
  intro hX ls H locs hl hP hS
  obtain ⟨hx, hb, hml, hown, hts, hr, hlk, hK, hA⟩ := id hX
  exact lv_icmp_eq hx hb hd ht (fun h => kt h hX ls H locs hl hP hS) (fun h => kf h hX ls H locs hl hP hS)
theorem eg_if_ne {x : Int32} {off : Int} (hd : eb_dj cc pc (.ifCond .ne off) off pc1 tgt) (kt : ¬ x = 0 → eb_G l Γ P X cc own nL ret R tgt lv stk st uc us) (kf : x = 0 → eb_G l Γ P X cc own nL ret R pc1 lv stk st uc us) : eb_G l Γ P X cc own nL ret R pc lv (.int x :: stk) st uc us := by
  obtain ⟨hd, rfl, ht⟩ := hd
  obtain ⟨p, e, s, m, args, below, meth, c, A⟩ := X
  intro hX ls H locs hl hP hS
  obtain ⟨hx, hb, hml, hown, hts, hr, hlk, hK, hA⟩ := id hX
  exact lv_if_ne hx hb hd ht (fun h => kt h hX ls H locs hl hP hS) (fun h => kf h hX ls H locs hl hP hS)
theorem eg_icmp_ne {x y : Int32} {off : Int} (hd : eb_dj cc pc (.if_icmp .ne off) off pc1 tgt) (kt : ¬ x = y → eb_G l Γ P X cc own nL ret R tgt lv stk st uc us) (kf : x = y → eb_G l Γ P X cc own nL ret R pc1 lv stk st uc us) : eb_G l Γ P X cc own nL ret R pc lv (.int y :: .int x :: stk) st uc us := by
  obtain ⟨hd, rfl, ht⟩ := hd
  obtain ⟨p, e, s, m, args, below, meth, c, A⟩ := X
  intro hX ls H locs hl hP hS
  obtain ⟨hx, hb, hml, hown, hts, hr, hlk, hK, hA⟩ := id hX
  exact lv_icmp_ne hx hb hd ht (fun h => kt h hX ls H locs hl hP hS) (fun h => kf h hX ls H locs hl hP hS)
theorem eg_if_lt {x : Int32} {off : Int} (hd : eb_dj cc pc (.ifCond .lt off) off pc1 tgt) (kt : x < 0 → eb_G l Γ P X cc own nL ret R tgt lv stk st uc us) (kf : ¬ x < 0 → eb_G l Γ P X cc own nL ret R pc1 lv stk st uc us) : eb_G l Γ P X cc own nL ret R pc lv (.int x :: stk) st uc us := by
  obtain ⟨hd, rfl, ht⟩ := hd
  obtain ⟨p, e, s, m, args, below, meth, c, A⟩ := X
  intro hX ls H locs hl hP hS
  obtain ⟨hx, hb, hml, hown, hts, hr, hlk, hK, hA⟩ := id hX
  exact lv_if_lt hx hb hd ht (fun h => kt h hX ls H locs hl hP hS) (fun h => kf h hX ls H locs hl hP hS)
theorem eg_icmp_lt {x y : Int32} {off : Int} (hd : eb_dj cc pc (.if_icmp .lt off) off pc1 tgt) (kt : x < y → eb_G l Γ P X cc own nL ret R tgt lv stk st uc us) (kf : ¬ x < y → eb_G l Γ P X cc own nL ret R pc1 lv stk st uc us) : eb_G l Γ P X cc own nL ret R pc lv (.int y :: .int x :: stk) st uc us := by
  obtain ⟨hd, rfl, ht⟩ := hd
  obtain ⟨p, e, s, m, args, below, meth, c, A⟩ := X
  intro hX ls H locs hl hP hS
  obtain ⟨hx, hb, hml, hown, hts, hr, hlk, hK, hA⟩ := id hX
  exact lv_icmp_lt hx hb hd ht (fun h => kt h hX ls H locs hl hP hS) (fun h => kf h hX ls H locs hl hP hS)
theorem eg_if_ge {x : Int32} {off : Int} (hd : eb_dj cc pc (.ifCond .ge off) off pc1 tgt) (kt : 0 ≤ x → eb_G l Γ P X cc own nL ret R tgt lv stk st uc us) (kf : ¬ 0 ≤ x → eb_G l Γ P X cc own nL ret R pc1 lv stk st uc us) : eb_G l Γ P X cc own nL ret R pc lv (.int x :: stk) st uc us := by
  obtain ⟨hd, rfl, ht⟩ := hd
  obtain ⟨p, e, s, m, args, below, meth, c, A⟩ := X
  intro hX ls H locs hl hP hS
  obtain ⟨hx, hb, hml, hown, hts, hr, hlk, hK, hA⟩ := id hX
  exact lv_if_ge hx hb hd ht (fun h => kt h hX ls H locs hl hP hS) (fun h => kf h hX ls H locs hl hP hS)
theorem eg_icmp_ge {x y : Int32} {off : Int} (hd : eb_dj cc pc (.if_icmp .ge off) off pc1 tgt) (kt : y ≤ x → eb_G l Γ P X cc own nL ret R tgt lv stk st uc us) (kf : ¬ y ≤ x → eb_G l Γ P X cc own nL ret R pc1 lv stk st uc us) : eb_G l Γ P X cc own nL ret R pc lv (.int y :: .int x :: stk) st uc us := by
  obtain ⟨hd, rfl, ht⟩ := hd
  obtain ⟨p, e, s, m, args, below, meth, c, A⟩ := X
  intro hX ls H locs hl hP hS
  obtain ⟨hx, hb, hml, hown, hts, hr, hlk, hK, hA⟩ := id hX
  exact lv_icmp_ge hx hb hd ht (fun h => kt h hX ls H locs hl hP hS) (fun h => kf h hX ls H locs hl hP hS)
theorem eg_if_gt {x : Int32} {off : Int} (hd : eb_dj cc pc (.ifCond .gt off) off pc1 tgt) (kt : 0 < x → eb_G l Γ P X cc own nL ret R tgt lv stk st uc us) (kf : ¬ 0 < x → eb_G l Γ P X cc own nL ret R pc1 lv stk st uc us) : eb_G l Γ P X cc own nL ret R pc lv (.int x :: stk) st uc us := by
  obtain ⟨hd, rfl, ht⟩ := hd
  obtain ⟨p, e, s, m, args, below, meth, c, A⟩ := X
  intro hX ls H locs hl hP hS
  obtain ⟨hx, hb, hml, hown, hts, hr, hlk, hK, hA⟩ := id hX
  exact lv_if_gt hx hb hd ht (fun h => kt h hX ls H locs hl hP hS) (fun h => kf h hX ls H locs hl hP hS)
theorem eg_icmp_gt {x y : Int32} {off : Int} (hd : eb_dj cc pc (.if_icmp .gt off) off pc1 tgt) (kt : y < x → eb_G l Γ P X cc own nL ret R tgt lv stk st uc us) (kf : ¬ y < x → eb_G l Γ P X cc own nL ret R pc1 lv stk st uc us) : eb_G l Γ P X cc own nL ret R pc lv (.int y :: .int x :: stk) st uc us := by
  obtain ⟨hd, rfl, ht⟩ := hd
  obtain ⟨p, e, s, m, args, below, meth, c, A⟩ := X
  intro hX ls H locs hl hP hS
  obtain ⟨hx, hb, hml, hown, hts, hr, hlk, hK, hA⟩ := id hX
  exact lv_icmp_gt hx hb hd ht (fun h => kt h hX ls H locs hl hP hS) (fun h => kf h hX ls H locs hl hP hS)
theorem eg_if_le {x : Int32} {off : Int} (hd : eb_dj cc pc (.ifCond .le off) off pc1 tgt) (kt : x ≤ 0 → eb_G l Γ P X cc own nL ret R tgt lv stk st uc us) (kf : ¬ x ≤ 0 → eb_G l Γ P X cc own nL ret R pc1 lv stk st uc us) : eb_G l Γ P X cc own nL ret R pc lv (.int x :: stk) st uc us := by
  obtain ⟨hd, rfl, ht⟩ := hd
  obtain ⟨p, e, s, m, args, below, meth, c, A⟩ := X
  intro hX ls H locs hl hP hS
  obtain ⟨hx, hb, hml, hown, hts, hr, hlk, hK, hA⟩ := id hX
  exact lv_if_le hx hb hd ht (fun h => kt h hX ls H locs hl hP hS) (fun h => kf h hX ls H locs hl hP hS)
theorem eg_icmp_le {x y : Int32} {off : Int} (hd : eb_dj cc pc (.if_icmp .le off) off pc1 tgt) (kt : x ≤ y → eb_G l Γ P X cc own nL ret R tgt lv stk st uc us) (kf : ¬ x ≤ y → eb_G l Γ P X cc own nL ret R pc1 lv stk st uc us) : eb_G l Γ P X cc own nL ret R pc lv (.int y :: .int x :: stk) st uc us := by
  obtain ⟨hd, rfl, ht⟩ := hd
  obtain ⟨p, e, s, m, args, below, meth, c, A⟩ := X
  intro hX ls H locs hl hP hS
  obtain ⟨hx, hb, hml, hown, hts, hr, hlk, hK, hA⟩ := id hX
  exact lv_icmp_le hx hb hd ht (fun h => kt h hX ls H locs hl hP hS) (fun h => kf h hX ls H locs hl hP hS)
theorem eg_goto {off : Int} (hd : eb_dj cc pc (.goto off) off pc1 tgt) (k : eb_G l Γ P X cc own nL ret R tgt lv stk st uc us) : eb_G l Γ P X cc own nL ret R pc lv stk st uc us := by
  obtain ⟨hd, -, ht⟩ := hd
  obtain ⟨p, e, s, m, args, below, meth, c, A⟩ := X
  intro hX ls H locs hl hP hS
  obtain ⟨hx, hb, hml, hown, hts, hr, hlk, hK, hA⟩ := id hX
  exact lv_goto hx hb hd ht (k hX ls H locs hl hP hS)
theorem eg_sub (ks : List Nat) (hk : lv_pick lv ks = lv') (k : eb_G l Γ P X cc own nL ret R pc lv' stk st uc us) : eb_G l Γ P X cc own nL ret R pc lv stk st uc us := by
  obtain ⟨p, e, s, m, args, below, meth, c, A⟩ := X
  intro hX ls H locs hl hP hS
  obtain ⟨hx, hb, hml, hown, hts, hr, hlk, hK, hA⟩ := id hX
  exact k hX ls H locs (lv_sub hl ks hk) hP hS
theorem eg_widen {uc' us' : Nat} (h1 : uc ≤ uc') (h2 : us ≤ us') (k : eb_G l Γ P X cc own nL ret R pc lv stk st uc' us') : eb_G l Γ P X cc own nL ret R pc lv stk st uc us := by
  obtain ⟨p, e, s, m, args, below, meth, c, A⟩ := X
  intro hX ls H locs hl hP hS
  obtain ⟨hx, hb, hml, hown, hts, hr, hlk, hK, hA⟩ := id hX
  exact W.widen h1 h2 (k hX ls H locs hl hP hS)
theorem eg_iret {v : Int32} (hd : eb_dc cc pc (.ireturn) 1 pc1) (hu : uc ≤ R.cells) (hv : us ≤ R.slots) (h : P (some (.int v)) st) : eb_G l Γ P X cc own nL (some .int) R pc lv [.int v] st uc us := by
  obtain ⟨hd, -⟩ := hd
  obtain ⟨p, e, s, m, args, below, meth, c, A⟩ := X
  intro hX ls H locs hl hP hS
  obtain ⟨hx, hb, hml, hown, hts, hr, hlk, hK, hA⟩ := id hX
  refine W.widen hu hv ?_
  exact W.iret hx hb hr (fun t ht hW => ⟨⟨_, st, rfl, h, by rw [ht]; exact hP⟩, hS.F ht⟩) hS.2.2 hd hlk
theorem eg_zret {v : Int32} (hd : eb_dc cc pc (.ireturn) 1 pc1) (hz : narrow .boolean (.int v) = .int v) (hu : uc ≤ R.cells) (hv : us ≤ R.slots) (h : P (some (.int v)) st) : eb_G l Γ P X cc own nL (some .boolean) R pc lv [.int v] st uc us := by
  obtain ⟨hd, -⟩ := hd
  obtain ⟨p, e, s, m, args, below, meth, c, A⟩ := X
  intro hX ls H locs hl hP hS
  obtain ⟨hx, hb, hml, hown, hts, hr, hlk, hK, hA⟩ := id hX
  refine W.widen hu hv ?_
  exact W.zret hx hb hr hz (fun t ht hW => ⟨⟨_, st, rfl, h, by rw [ht]; exact hP⟩, hS.F ht⟩) hS.2.2 hd hlk
theorem eg_lret {v : Int64} (hd : eb_dc cc pc (.lreturn) 1 pc1) (hu : uc ≤ R.cells) (hv : us ≤ R.slots) (h : P (some (.long v)) st) : eb_G l Γ P X cc own nL (some .long) R pc lv [.long v] st uc us := by
  obtain ⟨hd, -⟩ := hd
  obtain ⟨p, e, s, m, args, below, meth, c, A⟩ := X
  intro hX ls H locs hl hP hS
  obtain ⟨hx, hb, hml, hown, hts, hr, hlk, hK, hA⟩ := id hX
  refine W.widen hu hv ?_
  exact W.lret hx hb hr (fun t ht hW => ⟨⟨_, st, rfl, h, by rw [ht]; exact hP⟩, hS.F ht⟩) hS.2.2 hd hlk
theorem eg_vret  (hd : eb_dc cc pc (.return_) 1 pc1) (hu : uc ≤ R.cells) (hv : us ≤ R.slots) (h : P none st) : eb_G l Γ P X cc own nL none R pc lv [] st uc us := by
  obtain ⟨hd, -⟩ := hd
  obtain ⟨p, e, s, m, args, below, meth, c, A⟩ := X
  intro hX ls H locs hl hP hS
  obtain ⟨hx, hb, hml, hown, hts, hr, hlk, hK, hA⟩ := id hX
  refine W.widen hu hv ?_
  exact W.vret hx hb hr (fun t ht hW => ⟨⟨_, st, rfl, h, by rw [ht]; exact hP⟩, hS.F ht⟩) hS.2.2 hd hlk
theorem eg_aret {v : Value} {rt : FieldType} (hd : eb_dc cc pc (.areturn) 1 pc1) (hrt : (∃ n, rt = .object n) ∨ ∃ t, rt = .array t) (hz : v = .null ∨ ∃ a, v = .ref a) (hu : uc ≤ R.cells) (hv : us ≤ R.slots) (h : P (some v) st) : eb_G l Γ P X cc own nL (some rt) R pc lv [v] st uc us := by
  obtain ⟨hd, -⟩ := hd
  obtain ⟨p, e, s, m, args, below, meth, c, A⟩ := X
  intro hX ls H locs hl hP hS
  obtain ⟨hx, hb, hml, hown, hts, hr, hlk, hK, hA⟩ := id hX
  refine W.widen hu hv ?_
  exact W.aret hx hb hr hrt hz (fun t ht hW => ⟨⟨_, st, rfl, h, by rw [ht]; exact hP⟩, hS.F ht⟩) hS.2.2 hd hlk
end ROWS

