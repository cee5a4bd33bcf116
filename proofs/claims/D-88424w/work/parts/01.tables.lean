-- ===== PART A: goes FIRST, ahead of the names: the tables' words, and 'selects' of the private methods out of them =====
/-- a private method of a class that the tables say can be made, by its rows of tables_1 -/
def lw_okq (q : MethodName × Nat) : Prop := (q.1.cls ≠ "java/lang/invoke/MethodHandle" ∧ q.1.cls ≠ "java/lang/invoke/VarHandle") ∧ Cond.instantiable q.1.cls q.2 ∈ tables_1 ∧ Cond.privateMethod q.1 ∈ tables_1 ∧ Cond.instanceMethod q.1 ∈ tables_1
set_option maxRecDepth 100000
theorem lw_t1 {w : Cond} (h : w ∈ tables_1_1) : w ∈ tables_1 := List.mem_append_left _ h
theorem lw_t2 {w : Cond} (h : w ∈ tables_1_2) : w ∈ tables_1 := List.mem_append_right _ (List.mem_append_left _ h)
theorem lw_t3 {w : Cond} (h : w ∈ tables_1_3) : w ∈ tables_1 := List.mem_append_right _ (List.mem_append_right _ (List.mem_append_left _ h))
theorem lw_t4 {w : Cond} (h : w ∈ tables_1_4) : w ∈ tables_1 := List.mem_append_right _ (List.mem_append_right _ (List.mem_append_right _ (List.mem_append_left _ h)))
theorem lw_t5 {w : Cond} (h : w ∈ tables_1_5) : w ∈ tables_1 := List.mem_append_right _ (List.mem_append_right _ (List.mem_append_right _ (List.mem_append_right _ (List.mem_append_left _ h))))
theorem lw_t6 {w : Cond} (h : w ∈ tables_1_6) : w ∈ tables_1 := List.mem_append_right _ (List.mem_append_right _ (List.mem_append_right _ (List.mem_append_right _ (List.mem_append_right _ (List.mem_append_left _ h)))))
theorem lw_t7 {w : Cond} (h : w ∈ tables_1_7) : w ∈ tables_1 := List.mem_append_right _ (List.mem_append_right _ (List.mem_append_right _ (List.mem_append_right _ (List.mem_append_right _ (List.mem_append_right _ h)))))
theorem lw_p0 : lw_okq (⟨"EvenBodies", "isMirror", "(II)Z"⟩, 6) := ⟨⟨by decide +kernel, by decide +kernel⟩, lw_t1 (List.mem_of_getElem? (i := 26) rfl), lw_t1 (List.mem_of_getElem? (i := 120) rfl), lw_t1 (List.mem_of_getElem? (i := 121) rfl)⟩
theorem lw_p1 : lw_okq (⟨"EvenBodies", "why", "(IZ)I"⟩, 6) := ⟨⟨by decide +kernel, by decide +kernel⟩, lw_t1 (List.mem_of_getElem? (i := 26) rfl), lw_t1 (List.mem_of_getElem? (i := 165) rfl), lw_t1 (List.mem_of_getElem? (i := 166) rfl)⟩
theorem lw_p2 : lw_okq (⟨"EvenBodies$Path", "is", "(III)Z"⟩, 1) := ⟨⟨by decide +kernel, by decide +kernel⟩, lw_t1 (List.mem_of_getElem? (i := 228) rfl), lw_t2 (List.mem_of_getElem? (i := 7) rfl), lw_t2 (List.mem_of_getElem? (i := 8) rfl)⟩
theorem lw_p3 : lw_okq (⟨"EvenBodies$Maker", "place", "()I"⟩, 6) := ⟨⟨by decide +kernel, by decide +kernel⟩, lw_t2 (List.mem_of_getElem? (i := 24) rfl), lw_t2 (List.mem_of_getElem? (i := 40) rfl), lw_t2 (List.mem_of_getElem? (i := 41) rfl)⟩
theorem lw_p4 : lw_okq (⟨"EvenBodies$Maker", "isMade", "(I)Z"⟩, 6) := ⟨⟨by decide +kernel, by decide +kernel⟩, lw_t2 (List.mem_of_getElem? (i := 24) rfl), lw_t2 (List.mem_of_getElem? (i := 45) rfl), lw_t2 (List.mem_of_getElem? (i := 46) rfl)⟩
theorem lw_p5 : lw_okq (⟨"EvenBodies", "isElement", "(II)Z"⟩, 6) := ⟨⟨by decide +kernel, by decide +kernel⟩, lw_t1 (List.mem_of_getElem? (i := 26) rfl), lw_t2 (List.mem_of_getElem? (i := 107) rfl), lw_t2 (List.mem_of_getElem? (i := 108) rfl)⟩
theorem lw_p6 : lw_okq (⟨"EvenBodies", "isWidth", "(II)Z"⟩, 6) := ⟨⟨by decide +kernel, by decide +kernel⟩, lw_t1 (List.mem_of_getElem? (i := 26) rfl), lw_t2 (List.mem_of_getElem? (i := 173) rfl), lw_t2 (List.mem_of_getElem? (i := 174) rfl)⟩
theorem lw_p7 : lw_okq (⟨"EvenBodies", "kindOf", "(LEvenBodies$Body;II)I"⟩, 6) := ⟨⟨by decide +kernel, by decide +kernel⟩, lw_t1 (List.mem_of_getElem? (i := 26) rfl), lw_t2 (List.mem_of_getElem? (i := 177) rfl), lw_t2 (List.mem_of_getElem? (i := 178) rfl)⟩
theorem lw_p8 : lw_okq (⟨"EvenBodies", "isKind", "(II)Z"⟩, 6) := ⟨⟨by decide +kernel, by decide +kernel⟩, lw_t1 (List.mem_of_getElem? (i := 26) rfl), lw_t2 (List.mem_of_getElem? (i := 194) rfl), lw_t2 (List.mem_of_getElem? (i := 195) rfl)⟩
theorem lw_p9 : lw_okq (⟨"EvenBodies", "isPart", "(III)Z"⟩, 6) := ⟨⟨by decide +kernel, by decide +kernel⟩, lw_t1 (List.mem_of_getElem? (i := 26) rfl), lw_t2 (List.mem_of_getElem? (i := 223) rfl), lw_t2 (List.mem_of_getElem? (i := 224) rfl)⟩
theorem lw_p10 : lw_okq (⟨"EvenBodies", "countOf", "(LEvenBodies$Body;I)I"⟩, 6) := ⟨⟨by decide +kernel, by decide +kernel⟩, lw_t1 (List.mem_of_getElem? (i := 26) rfl), lw_t3 (List.mem_of_getElem? (i := 19) rfl), lw_t3 (List.mem_of_getElem? (i := 20) rfl)⟩
theorem lw_p11 : lw_okq (⟨"EvenBodies", "isCorner", "(II)Z"⟩, 6) := ⟨⟨by decide +kernel, by decide +kernel⟩, lw_t1 (List.mem_of_getElem? (i := 26) rfl), lw_t3 (List.mem_of_getElem? (i := 31) rfl), lw_t3 (List.mem_of_getElem? (i := 32) rfl)⟩
theorem lw_p12 : lw_okq (⟨"EvenBodies", "netOf", "(I)LEvenBodies$Net;"⟩, 6) := ⟨⟨by decide +kernel, by decide +kernel⟩, lw_t1 (List.mem_of_getElem? (i := 26) rfl), lw_t3 (List.mem_of_getElem? (i := 39) rfl), lw_t3 (List.mem_of_getElem? (i := 40) rfl)⟩
theorem lw_p13 : lw_okq (⟨"EvenBodies$Net", "isJoined", "(II)Z"⟩, 4) := ⟨⟨by decide +kernel, by decide +kernel⟩, lw_t3 (List.mem_of_getElem? (i := 63) rfl), lw_t3 (List.mem_of_getElem? (i := 61) rfl), lw_t3 (List.mem_of_getElem? (i := 62) rfl)⟩
theorem lw_p14 : lw_okq (⟨"EvenBodies$Net", "to", "(II)V"⟩, 4) := ⟨⟨by decide +kernel, by decide +kernel⟩, lw_t3 (List.mem_of_getElem? (i := 63) rfl), lw_t3 (List.mem_of_getElem? (i := 73) rfl), lw_t3 (List.mem_of_getElem? (i := 74) rfl)⟩
theorem lw_p15 : lw_okq (⟨"EvenBodies", "whyHull", "(IZ)I"⟩, 6) := ⟨⟨by decide +kernel, by decide +kernel⟩, lw_t1 (List.mem_of_getElem? (i := 26) rfl), lw_t3 (List.mem_of_getElem? (i := 133) rfl), lw_t3 (List.mem_of_getElem? (i := 134) rfl)⟩
def lw_privs_1 : List (MethodName × Nat) := [(⟨"EvenBodies", "isMirror", "(II)Z"⟩, 6), (⟨"EvenBodies", "why", "(IZ)I"⟩, 6), (⟨"EvenBodies$Path", "is", "(III)Z"⟩, 1), (⟨"EvenBodies$Maker", "place", "()I"⟩, 6), (⟨"EvenBodies$Maker", "isMade", "(I)Z"⟩, 6), (⟨"EvenBodies", "isElement", "(II)Z"⟩, 6), (⟨"EvenBodies", "isWidth", "(II)Z"⟩, 6), (⟨"EvenBodies", "kindOf", "(LEvenBodies$Body;II)I"⟩, 6), (⟨"EvenBodies", "isKind", "(II)Z"⟩, 6), (⟨"EvenBodies", "isPart", "(III)Z"⟩, 6), (⟨"EvenBodies", "countOf", "(LEvenBodies$Body;I)I"⟩, 6), (⟨"EvenBodies", "isCorner", "(II)Z"⟩, 6), (⟨"EvenBodies", "netOf", "(I)LEvenBodies$Net;"⟩, 6), (⟨"EvenBodies$Net", "isJoined", "(II)Z"⟩, 4), (⟨"EvenBodies$Net", "to", "(II)V"⟩, 4), (⟨"EvenBodies", "whyHull", "(IZ)I"⟩, 6)]
theorem lw_r1 : ∀ q ∈ lw_privs_1, lw_okq q := List.forall_mem_cons.mpr ⟨lw_p0, List.forall_mem_cons.mpr ⟨lw_p1, List.forall_mem_cons.mpr ⟨lw_p2, List.forall_mem_cons.mpr ⟨lw_p3, List.forall_mem_cons.mpr ⟨lw_p4, List.forall_mem_cons.mpr ⟨lw_p5, List.forall_mem_cons.mpr ⟨lw_p6, List.forall_mem_cons.mpr ⟨lw_p7, List.forall_mem_cons.mpr ⟨lw_p8, List.forall_mem_cons.mpr ⟨lw_p9, List.forall_mem_cons.mpr ⟨lw_p10, List.forall_mem_cons.mpr ⟨lw_p11, List.forall_mem_cons.mpr ⟨lw_p12, List.forall_mem_cons.mpr ⟨lw_p13, List.forall_mem_cons.mpr ⟨lw_p14, List.forall_mem_cons.mpr ⟨lw_p15, fun _ h => absurd h List.not_mem_nil⟩⟩⟩⟩⟩⟩⟩⟩⟩⟩⟩⟩⟩⟩⟩⟩
theorem lw_p16 : lw_okq (⟨"EvenBodies$Hull", "comes", "(II)V"⟩, 7) := ⟨⟨by decide +kernel, by decide +kernel⟩, lw_t3 (List.mem_of_getElem? (i := 141) rfl), lw_t3 (List.mem_of_getElem? (i := 153) rfl), lw_t3 (List.mem_of_getElem? (i := 154) rfl)⟩
theorem lw_p17 : lw_okq (⟨"EvenBodies$Hull", "has", "(II)Z"⟩, 7) := ⟨⟨by decide +kernel, by decide +kernel⟩, lw_t3 (List.mem_of_getElem? (i := 141) rfl), lw_t3 (List.mem_of_getElem? (i := 157) rfl), lw_t3 (List.mem_of_getElem? (i := 158) rfl)⟩
theorem lw_p18 : lw_okq (⟨"EvenBodies$Hull", "goesRound", "(I)V"⟩, 7) := ⟨⟨by decide +kernel, by decide +kernel⟩, lw_t3 (List.mem_of_getElem? (i := 141) rfl), lw_t3 (List.mem_of_getElem? (i := 162) rfl), lw_t3 (List.mem_of_getElem? (i := 163) rfl)⟩
theorem lw_p19 : lw_okq (⟨"EvenBodies$Hull", "faceOf", "(III)I"⟩, 7) := ⟨⟨by decide +kernel, by decide +kernel⟩, lw_t3 (List.mem_of_getElem? (i := 141) rfl), lw_t3 (List.mem_of_getElem? (i := 168) rfl), lw_t3 (List.mem_of_getElem? (i := 169) rfl)⟩
theorem lw_p20 : lw_okq (⟨"EvenBodies$Hull", "other", "(III)I"⟩, 7) := ⟨⟨by decide +kernel, by decide +kernel⟩, lw_t3 (List.mem_of_getElem? (i := 141) rfl), lw_t3 (List.mem_of_getElem? (i := 172) rfl), lw_t3 (List.mem_of_getElem? (i := 173) rfl)⟩
theorem lw_p21 : lw_okq (⟨"EvenBodies$Hull", "neighbour", "(II)I"⟩, 7) := ⟨⟨by decide +kernel, by decide +kernel⟩, lw_t3 (List.mem_of_getElem? (i := 141) rfl), lw_t3 (List.mem_of_getElem? (i := 176) rfl), lw_t3 (List.mem_of_getElem? (i := 177) rfl)⟩
theorem lw_p22 : lw_okq (⟨"EvenBodies$Hull", "turnsAll", "()V"⟩, 7) := ⟨⟨by decide +kernel, by decide +kernel⟩, lw_t3 (List.mem_of_getElem? (i := 141) rfl), lw_t3 (List.mem_of_getElem? (i := 180) rfl), lw_t3 (List.mem_of_getElem? (i := 181) rfl)⟩
theorem lw_p23 : lw_okq (⟨"EvenBodies$Hull", "placeOf", "(II)I"⟩, 7) := ⟨⟨by decide +kernel, by decide +kernel⟩, lw_t3 (List.mem_of_getElem? (i := 141) rfl), lw_t3 (List.mem_of_getElem? (i := 184) rfl), lw_t3 (List.mem_of_getElem? (i := 185) rfl)⟩
theorem lw_p24 : lw_okq (⟨"EvenBodies$Hull", "before", "(II)I"⟩, 7) := ⟨⟨by decide +kernel, by decide +kernel⟩, lw_t3 (List.mem_of_getElem? (i := 141) rfl), lw_t3 (List.mem_of_getElem? (i := 188) rfl), lw_t3 (List.mem_of_getElem? (i := 189) rfl)⟩
theorem lw_p25 : lw_okq (⟨"EvenBodies$Hull", "behind", "(II)I"⟩, 7) := ⟨⟨by decide +kernel, by decide +kernel⟩, lw_t3 (List.mem_of_getElem? (i := 141) rfl), lw_t3 (List.mem_of_getElem? (i := 195) rfl), lw_t3 (List.mem_of_getElem? (i := 196) rfl)⟩
theorem lw_p26 : lw_okq (⟨"EvenBodies$Hull", "turns", "(I)V"⟩, 7) := ⟨⟨by decide +kernel, by decide +kernel⟩, lw_t3 (List.mem_of_getElem? (i := 141) rfl), lw_t3 (List.mem_of_getElem? (i := 199) rfl), lw_t3 (List.mem_of_getElem? (i := 200) rfl)⟩
theorem lw_p27 : lw_okq (⟨"EvenBodies$Hull", "sizeBehind", "(II)I"⟩, 7) := ⟨⟨by decide +kernel, by decide +kernel⟩, lw_t3 (List.mem_of_getElem? (i := 141) rfl), lw_t3 (List.mem_of_getElem? (i := 233) rfl), lw_t3 (List.mem_of_getElem? (i := 234) rfl)⟩
theorem lw_p28 : lw_okq (⟨"EvenBodies$Laid", "comes", "(III)V"⟩, 8) := ⟨⟨by decide +kernel, by decide +kernel⟩, lw_t4 (List.mem_of_getElem? (i := 8) rfl), lw_t4 (List.mem_of_getElem? (i := 47) rfl), lw_t4 (List.mem_of_getElem? (i := 48) rfl)⟩
theorem lw_p29 : lw_okq (⟨"EvenBodies$Laid", "goesOn", "(II)Z"⟩, 8) := ⟨⟨by decide +kernel, by decide +kernel⟩, lw_t4 (List.mem_of_getElem? (i := 8) rfl), lw_t4 (List.mem_of_getElem? (i := 51) rfl), lw_t4 (List.mem_of_getElem? (i := 52) rfl)⟩
theorem lw_p30 : lw_okq (⟨"java/util/ArrayList", "add", "(Ljava/lang/Object;[Ljava/lang/Object;I)V"⟩, 3) := ⟨⟨by decide +kernel, by decide +kernel⟩, lw_t4 (List.mem_of_getElem? (i := 65) rfl), lw_t4 (List.mem_of_getElem? (i := 164) rfl), lw_t4 (List.mem_of_getElem? (i := 165) rfl)⟩
theorem lw_p31 : lw_okq (⟨"java/util/ArrayList", "grow", "()[Ljava/lang/Object;"⟩, 3) := ⟨⟨by decide +kernel, by decide +kernel⟩, lw_t4 (List.mem_of_getElem? (i := 65) rfl), lw_t4 (List.mem_of_getElem? (i := 168) rfl), lw_t4 (List.mem_of_getElem? (i := 169) rfl)⟩
def lw_privs_2 : List (MethodName × Nat) := [(⟨"EvenBodies$Hull", "comes", "(II)V"⟩, 7), (⟨"EvenBodies$Hull", "has", "(II)Z"⟩, 7), (⟨"EvenBodies$Hull", "goesRound", "(I)V"⟩, 7), (⟨"EvenBodies$Hull", "faceOf", "(III)I"⟩, 7), (⟨"EvenBodies$Hull", "other", "(III)I"⟩, 7), (⟨"EvenBodies$Hull", "neighbour", "(II)I"⟩, 7), (⟨"EvenBodies$Hull", "turnsAll", "()V"⟩, 7), (⟨"EvenBodies$Hull", "placeOf", "(II)I"⟩, 7), (⟨"EvenBodies$Hull", "before", "(II)I"⟩, 7), (⟨"EvenBodies$Hull", "behind", "(II)I"⟩, 7), (⟨"EvenBodies$Hull", "turns", "(I)V"⟩, 7), (⟨"EvenBodies$Hull", "sizeBehind", "(II)I"⟩, 7), (⟨"EvenBodies$Laid", "comes", "(III)V"⟩, 8), (⟨"EvenBodies$Laid", "goesOn", "(II)Z"⟩, 8), (⟨"java/util/ArrayList", "add", "(Ljava/lang/Object;[Ljava/lang/Object;I)V"⟩, 3), (⟨"java/util/ArrayList", "grow", "()[Ljava/lang/Object;"⟩, 3)]
theorem lw_r2 : ∀ q ∈ lw_privs_2, lw_okq q := List.forall_mem_cons.mpr ⟨lw_p16, List.forall_mem_cons.mpr ⟨lw_p17, List.forall_mem_cons.mpr ⟨lw_p18, List.forall_mem_cons.mpr ⟨lw_p19, List.forall_mem_cons.mpr ⟨lw_p20, List.forall_mem_cons.mpr ⟨lw_p21, List.forall_mem_cons.mpr ⟨lw_p22, List.forall_mem_cons.mpr ⟨lw_p23, List.forall_mem_cons.mpr ⟨lw_p24, List.forall_mem_cons.mpr ⟨lw_p25, List.forall_mem_cons.mpr ⟨lw_p26, List.forall_mem_cons.mpr ⟨lw_p27, List.forall_mem_cons.mpr ⟨lw_p28, List.forall_mem_cons.mpr ⟨lw_p29, List.forall_mem_cons.mpr ⟨lw_p30, List.forall_mem_cons.mpr ⟨lw_p31, fun _ h => absurd h List.not_mem_nil⟩⟩⟩⟩⟩⟩⟩⟩⟩⟩⟩⟩⟩⟩⟩⟩
theorem lw_p32 : lw_okq (⟨"java/util/ArrayList", "grow", "(I)[Ljava/lang/Object;"⟩, 3) := ⟨⟨by decide +kernel, by decide +kernel⟩, lw_t4 (List.mem_of_getElem? (i := 65) rfl), lw_t4 (List.mem_of_getElem? (i := 172) rfl), lw_t4 (List.mem_of_getElem? (i := 173) rfl)⟩
theorem lw_p33 : lw_okq (⟨"EvenBodies", "snubOf", "(I)LEvenBodies$Snub;"⟩, 6) := ⟨⟨by decide +kernel, by decide +kernel⟩, lw_t1 (List.mem_of_getElem? (i := 26) rfl), lw_t4 (List.mem_of_getElem? (i := 234) rfl), lw_t4 (List.mem_of_getElem? (i := 235) rfl)⟩
theorem lw_p34 : lw_okq (⟨"EvenBodies", "isHalfCorner", "(II)Z"⟩, 6) := ⟨⟨by decide +kernel, by decide +kernel⟩, lw_t1 (List.mem_of_getElem? (i := 26) rfl), lw_t5 (List.mem_of_getElem? (i := 42) rfl), lw_t5 (List.mem_of_getElem? (i := 43) rfl)⟩
theorem lw_p35 : lw_okq (⟨"EvenBodiesModel", "renews", "(II)V"⟩, 35) := ⟨⟨by decide +kernel, by decide +kernel⟩, lw_t5 (List.mem_of_getElem? (i := 96) rfl), lw_t5 (List.mem_of_getElem? (i := 103) rfl), lw_t5 (List.mem_of_getElem? (i := 104) rfl)⟩
theorem lw_p36 : lw_okq (⟨"EvenBodiesModel", "isMirror", "(II)Z"⟩, 35) := ⟨⟨by decide +kernel, by decide +kernel⟩, lw_t5 (List.mem_of_getElem? (i := 96) rfl), lw_t5 (List.mem_of_getElem? (i := 230) rfl), lw_t5 (List.mem_of_getElem? (i := 231) rfl)⟩
theorem lw_p37 : lw_okq (⟨"EvenBodiesModel", "angleOf", "(III)I"⟩, 35) := ⟨⟨by decide +kernel, by decide +kernel⟩, lw_t5 (List.mem_of_getElem? (i := 96) rfl), lw_t5 (List.mem_of_getElem? (i := 234) rfl), lw_t5 (List.mem_of_getElem? (i := 235) rfl)⟩
theorem lw_p38 : lw_okq (⟨"EvenBodiesModel", "joinedTo", "(II)I"⟩, 35) := ⟨⟨by decide +kernel, by decide +kernel⟩, lw_t5 (List.mem_of_getElem? (i := 96) rfl), lw_t6 (List.mem_of_getElem? (i := 10) rfl), lw_t6 (List.mem_of_getElem? (i := 11) rfl)⟩
theorem lw_p39 : lw_okq (⟨"EvenBodiesModel", "refuses", "(I)I"⟩, 35) := ⟨⟨by decide +kernel, by decide +kernel⟩, lw_t5 (List.mem_of_getElem? (i := 96) rfl), lw_t6 (List.mem_of_getElem? (i := 18) rfl), lw_t6 (List.mem_of_getElem? (i := 19) rfl)⟩
theorem lw_p40 : lw_okq (⟨"EvenBodiesModel", "loads", "(I)Z"⟩, 35) := ⟨⟨by decide +kernel, by decide +kernel⟩, lw_t5 (List.mem_of_getElem? (i := 96) rfl), lw_t6 (List.mem_of_getElem? (i := 22) rfl), lw_t6 (List.mem_of_getElem? (i := 23) rfl)⟩
theorem lw_p41 : lw_okq (⟨"EvenBodiesModel", "sizeOf", "(I)I"⟩, 35) := ⟨⟨by decide +kernel, by decide +kernel⟩, lw_t5 (List.mem_of_getElem? (i := 96) rfl), lw_t6 (List.mem_of_getElem? (i := 26) rfl), lw_t6 (List.mem_of_getElem? (i := 27) rfl)⟩
theorem lw_p42 : lw_okq (⟨"EvenBodiesModel", "makes", "(II)I"⟩, 35) := ⟨⟨by decide +kernel, by decide +kernel⟩, lw_t5 (List.mem_of_getElem? (i := 96) rfl), lw_t6 (List.mem_of_getElem? (i := 30) rfl), lw_t6 (List.mem_of_getElem? (i := 31) rfl)⟩
theorem lw_p43 : lw_okq (⟨"EvenBodiesModel", "turned", "(III)V"⟩, 35) := ⟨⟨by decide +kernel, by decide +kernel⟩, lw_t5 (List.mem_of_getElem? (i := 96) rfl), lw_t6 (List.mem_of_getElem? (i := 37) rfl), lw_t6 (List.mem_of_getElem? (i := 38) rfl)⟩
theorem lw_p44 : lw_okq (⟨"EvenBodiesModel", "found", "(I)I"⟩, 35) := ⟨⟨by decide +kernel, by decide +kernel⟩, lw_t5 (List.mem_of_getElem? (i := 96) rfl), lw_t6 (List.mem_of_getElem? (i := 41) rfl), lw_t6 (List.mem_of_getElem? (i := 42) rfl)⟩
theorem lw_p45 : lw_okq (⟨"EvenBodiesModel", "tellsParts", "(I)V"⟩, 35) := ⟨⟨by decide +kernel, by decide +kernel⟩, lw_t5 (List.mem_of_getElem? (i := 96) rfl), lw_t6 (List.mem_of_getElem? (i := 45) rfl), lw_t6 (List.mem_of_getElem? (i := 46) rfl)⟩
theorem lw_p46 : lw_okq (⟨"EvenBodiesModel", "stillOf", "(II)I"⟩, 35) := ⟨⟨by decide +kernel, by decide +kernel⟩, lw_t5 (List.mem_of_getElem? (i := 96) rfl), lw_t6 (List.mem_of_getElem? (i := 49) rfl), lw_t6 (List.mem_of_getElem? (i := 50) rfl)⟩
theorem lw_p47 : lw_okq (⟨"EvenBodiesModel", "refusesOf", "(II)I"⟩, 35) := ⟨⟨by decide +kernel, by decide +kernel⟩, lw_t5 (List.mem_of_getElem? (i := 96) rfl), lw_t6 (List.mem_of_getElem? (i := 57) rfl), lw_t6 (List.mem_of_getElem? (i := 58) rfl)⟩
def lw_privs_3 : List (MethodName × Nat) := [(⟨"java/util/ArrayList", "grow", "(I)[Ljava/lang/Object;"⟩, 3), (⟨"EvenBodies", "snubOf", "(I)LEvenBodies$Snub;"⟩, 6), (⟨"EvenBodies", "isHalfCorner", "(II)Z"⟩, 6), (⟨"EvenBodiesModel", "renews", "(II)V"⟩, 35), (⟨"EvenBodiesModel", "isMirror", "(II)Z"⟩, 35), (⟨"EvenBodiesModel", "angleOf", "(III)I"⟩, 35), (⟨"EvenBodiesModel", "joinedTo", "(II)I"⟩, 35), (⟨"EvenBodiesModel", "refuses", "(I)I"⟩, 35), (⟨"EvenBodiesModel", "loads", "(I)Z"⟩, 35), (⟨"EvenBodiesModel", "sizeOf", "(I)I"⟩, 35), (⟨"EvenBodiesModel", "makes", "(II)I"⟩, 35), (⟨"EvenBodiesModel", "turned", "(III)V"⟩, 35), (⟨"EvenBodiesModel", "found", "(I)I"⟩, 35), (⟨"EvenBodiesModel", "tellsParts", "(I)V"⟩, 35), (⟨"EvenBodiesModel", "stillOf", "(II)I"⟩, 35), (⟨"EvenBodiesModel", "refusesOf", "(II)I"⟩, 35)]
theorem lw_r3 : ∀ q ∈ lw_privs_3, lw_okq q := List.forall_mem_cons.mpr ⟨lw_p32, List.forall_mem_cons.mpr ⟨lw_p33, List.forall_mem_cons.mpr ⟨lw_p34, List.forall_mem_cons.mpr ⟨lw_p35, List.forall_mem_cons.mpr ⟨lw_p36, List.forall_mem_cons.mpr ⟨lw_p37, List.forall_mem_cons.mpr ⟨lw_p38, List.forall_mem_cons.mpr ⟨lw_p39, List.forall_mem_cons.mpr ⟨lw_p40, List.forall_mem_cons.mpr ⟨lw_p41, List.forall_mem_cons.mpr ⟨lw_p42, List.forall_mem_cons.mpr ⟨lw_p43, List.forall_mem_cons.mpr ⟨lw_p44, List.forall_mem_cons.mpr ⟨lw_p45, List.forall_mem_cons.mpr ⟨lw_p46, List.forall_mem_cons.mpr ⟨lw_p47, fun _ h => absurd h List.not_mem_nil⟩⟩⟩⟩⟩⟩⟩⟩⟩⟩⟩⟩⟩⟩⟩⟩
theorem lw_p48 : lw_okq (⟨"EvenBodiesModel", "letterOf", "(II)I"⟩, 35) := ⟨⟨by decide +kernel, by decide +kernel⟩, lw_t5 (List.mem_of_getElem? (i := 96) rfl), lw_t6 (List.mem_of_getElem? (i := 65) rfl), lw_t6 (List.mem_of_getElem? (i := 66) rfl)⟩
theorem lw_p49 : lw_okq (⟨"EvenBodiesModel", "productOf", "(II)I"⟩, 35) := ⟨⟨by decide +kernel, by decide +kernel⟩, lw_t5 (List.mem_of_getElem? (i := 96) rfl), lw_t6 (List.mem_of_getElem? (i := 77) rfl), lw_t6 (List.mem_of_getElem? (i := 78) rfl)⟩
theorem lw_p50 : lw_okq (⟨"EvenBodiesModel", "inverseOf", "(I)I"⟩, 35) := ⟨⟨by decide +kernel, by decide +kernel⟩, lw_t5 (List.mem_of_getElem? (i := 96) rfl), lw_t6 (List.mem_of_getElem? (i := 85) rfl), lw_t6 (List.mem_of_getElem? (i := 86) rfl)⟩
theorem lw_p51 : lw_okq (⟨"EvenBodiesModel", "clears", "()V"⟩, 35) := ⟨⟨by decide +kernel, by decide +kernel⟩, lw_t5 (List.mem_of_getElem? (i := 96) rfl), lw_t6 (List.mem_of_getElem? (i := 97) rfl), lw_t6 (List.mem_of_getElem? (i := 98) rfl)⟩
theorem lw_p52 : lw_okq (⟨"EvenBodiesModel", "isKind", "(II)Z"⟩, 35) := ⟨⟨by decide +kernel, by decide +kernel⟩, lw_t5 (List.mem_of_getElem? (i := 96) rfl), lw_t6 (List.mem_of_getElem? (i := 113) rfl), lw_t6 (List.mem_of_getElem? (i := 114) rfl)⟩
theorem lw_p53 : lw_okq (⟨"EvenBodiesModel", "refusesPart", "(III)I"⟩, 35) := ⟨⟨by decide +kernel, by decide +kernel⟩, lw_t5 (List.mem_of_getElem? (i := 96) rfl), lw_t6 (List.mem_of_getElem? (i := 125) rfl), lw_t6 (List.mem_of_getElem? (i := 126) rfl)⟩
theorem lw_p54 : lw_okq (⟨"EvenBodiesModel", "cornersOf", "(I)I"⟩, 35) := ⟨⟨by decide +kernel, by decide +kernel⟩, lw_t5 (List.mem_of_getElem? (i := 96) rfl), lw_t6 (List.mem_of_getElem? (i := 141) rfl), lw_t6 (List.mem_of_getElem? (i := 142) rfl)⟩
theorem lw_p55 : lw_okq (⟨"EvenBodiesModel", "countOf", "(I)I"⟩, 35) := ⟨⟨by decide +kernel, by decide +kernel⟩, lw_t5 (List.mem_of_getElem? (i := 96) rfl), lw_t6 (List.mem_of_getElem? (i := 164) rfl), lw_t6 (List.mem_of_getElem? (i := 165) rfl)⟩
theorem lw_p56 : lw_okq (⟨"EvenBodiesModel", "joins", "()V"⟩, 35) := ⟨⟨by decide +kernel, by decide +kernel⟩, lw_t5 (List.mem_of_getElem? (i := 96) rfl), lw_t6 (List.mem_of_getElem? (i := 180) rfl), lw_t6 (List.mem_of_getElem? (i := 181) rfl)⟩
theorem lw_p57 : lw_okq (⟨"EvenBodiesModel", "degreeOf", "(II)I"⟩, 35) := ⟨⟨by decide +kernel, by decide +kernel⟩, lw_t5 (List.mem_of_getElem? (i := 96) rfl), lw_t6 (List.mem_of_getElem? (i := 184) rfl), lw_t6 (List.mem_of_getElem? (i := 185) rfl)⟩
theorem lw_p58 : lw_okq (⟨"EvenBodiesModel", "walks", "(II)V"⟩, 35) := ⟨⟨by decide +kernel, by decide +kernel⟩, lw_t5 (List.mem_of_getElem? (i := 96) rfl), lw_t6 (List.mem_of_getElem? (i := 192) rfl), lw_t6 (List.mem_of_getElem? (i := 193) rfl)⟩
theorem lw_p59 : lw_okq (⟨"EvenBodiesModel", "refusesThree", "(I)I"⟩, 35) := ⟨⟨by decide +kernel, by decide +kernel⟩, lw_t5 (List.mem_of_getElem? (i := 96) rfl), lw_t6 (List.mem_of_getElem? (i := 213) rfl), lw_t6 (List.mem_of_getElem? (i := 214) rfl)⟩
theorem lw_p60 : lw_okq (⟨"EvenBodiesModel", "rounds", "()V"⟩, 35) := ⟨⟨by decide +kernel, by decide +kernel⟩, lw_t5 (List.mem_of_getElem? (i := 96) rfl), lw_t6 (List.mem_of_getElem? (i := 217) rfl), lw_t6 (List.mem_of_getElem? (i := 218) rfl)⟩
theorem lw_p61 : lw_okq (⟨"EvenBodiesModel", "faces", "()V"⟩, 35) := ⟨⟨by decide +kernel, by decide +kernel⟩, lw_t5 (List.mem_of_getElem? (i := 96) rfl), lw_t6 (List.mem_of_getElem? (i := 221) rfl), lw_t6 (List.mem_of_getElem? (i := 222) rfl)⟩
theorem lw_p62 : lw_okq (⟨"EvenBodiesModel", "edgeWith", "(II)I"⟩, 35) := ⟨⟨by decide +kernel, by decide +kernel⟩, lw_t5 (List.mem_of_getElem? (i := 96) rfl), lw_t6 (List.mem_of_getElem? (i := 225) rfl), lw_t6 (List.mem_of_getElem? (i := 226) rfl)⟩
theorem lw_p63 : lw_okq (⟨"EvenBodiesModel", "faceSize", "(I)I"⟩, 35) := ⟨⟨by decide +kernel, by decide +kernel⟩, lw_t5 (List.mem_of_getElem? (i := 96) rfl), lw_t6 (List.mem_of_getElem? (i := 229) rfl), lw_t6 (List.mem_of_getElem? (i := 230) rfl)⟩
def lw_privs_4 : List (MethodName × Nat) := [(⟨"EvenBodiesModel", "letterOf", "(II)I"⟩, 35), (⟨"EvenBodiesModel", "productOf", "(II)I"⟩, 35), (⟨"EvenBodiesModel", "inverseOf", "(I)I"⟩, 35), (⟨"EvenBodiesModel", "clears", "()V"⟩, 35), (⟨"EvenBodiesModel", "isKind", "(II)Z"⟩, 35), (⟨"EvenBodiesModel", "refusesPart", "(III)I"⟩, 35), (⟨"EvenBodiesModel", "cornersOf", "(I)I"⟩, 35), (⟨"EvenBodiesModel", "countOf", "(I)I"⟩, 35), (⟨"EvenBodiesModel", "joins", "()V"⟩, 35), (⟨"EvenBodiesModel", "degreeOf", "(II)I"⟩, 35), (⟨"EvenBodiesModel", "walks", "(II)V"⟩, 35), (⟨"EvenBodiesModel", "refusesThree", "(I)I"⟩, 35), (⟨"EvenBodiesModel", "rounds", "()V"⟩, 35), (⟨"EvenBodiesModel", "faces", "()V"⟩, 35), (⟨"EvenBodiesModel", "edgeWith", "(II)I"⟩, 35), (⟨"EvenBodiesModel", "faceSize", "(I)I"⟩, 35)]
theorem lw_r4 : ∀ q ∈ lw_privs_4, lw_okq q := List.forall_mem_cons.mpr ⟨lw_p48, List.forall_mem_cons.mpr ⟨lw_p49, List.forall_mem_cons.mpr ⟨lw_p50, List.forall_mem_cons.mpr ⟨lw_p51, List.forall_mem_cons.mpr ⟨lw_p52, List.forall_mem_cons.mpr ⟨lw_p53, List.forall_mem_cons.mpr ⟨lw_p54, List.forall_mem_cons.mpr ⟨lw_p55, List.forall_mem_cons.mpr ⟨lw_p56, List.forall_mem_cons.mpr ⟨lw_p57, List.forall_mem_cons.mpr ⟨lw_p58, List.forall_mem_cons.mpr ⟨lw_p59, List.forall_mem_cons.mpr ⟨lw_p60, List.forall_mem_cons.mpr ⟨lw_p61, List.forall_mem_cons.mpr ⟨lw_p62, List.forall_mem_cons.mpr ⟨lw_p63, fun _ h => absurd h List.not_mem_nil⟩⟩⟩⟩⟩⟩⟩⟩⟩⟩⟩⟩⟩⟩⟩⟩
theorem lw_p64 : lw_okq (⟨"EvenBodiesModel", "faceWith", "(II)I"⟩, 35) := ⟨⟨by decide +kernel, by decide +kernel⟩, lw_t5 (List.mem_of_getElem? (i := 96) rfl), lw_t6 (List.mem_of_getElem? (i := 233) rfl), lw_t6 (List.mem_of_getElem? (i := 234) rfl)⟩
theorem lw_p65 : lw_okq (⟨"EvenBodiesModel", "isLess", "(II)Z"⟩, 35) := ⟨⟨by decide +kernel, by decide +kernel⟩, lw_t5 (List.mem_of_getElem? (i := 96) rfl), lw_t6 (List.mem_of_getElem? (i := 237) rfl), lw_t6 (List.mem_of_getElem? (i := 238) rfl)⟩
theorem lw_p66 : lw_okq (⟨"EvenBodiesModel", "told", "(II)I"⟩, 35) := ⟨⟨by decide +kernel, by decide +kernel⟩, lw_t5 (List.mem_of_getElem? (i := 96) rfl), lw_t7 (List.mem_of_getElem? (i := 1) rfl), lw_t7 (List.mem_of_getElem? (i := 2) rfl)⟩
theorem lw_p67 : lw_okq (⟨"EvenBodiesModel", "signs", "(I)V"⟩, 35) := ⟨⟨by decide +kernel, by decide +kernel⟩, lw_t5 (List.mem_of_getElem? (i := 96) rfl), lw_t7 (List.mem_of_getElem? (i := 9) rfl), lw_t7 (List.mem_of_getElem? (i := 10) rfl)⟩
theorem lw_p68 : lw_okq (⟨"EvenBodiesModel", "isLike", "(II)Z"⟩, 35) := ⟨⟨by decide +kernel, by decide +kernel⟩, lw_t5 (List.mem_of_getElem? (i := 96) rfl), lw_t7 (List.mem_of_getElem? (i := 13) rfl), lw_t7 (List.mem_of_getElem? (i := 14) rfl)⟩
theorem lw_p69 : lw_okq (⟨"EvenBodiesModel", "snubs", "()I"⟩, 35) := ⟨⟨by decide +kernel, by decide +kernel⟩, lw_t5 (List.mem_of_getElem? (i := 96) rfl), lw_t7 (List.mem_of_getElem? (i := 25) rfl), lw_t7 (List.mem_of_getElem? (i := 26) rfl)⟩
theorem lw_p70 : lw_okq (⟨"EvenBodiesModel", "joinsAll", "(I)I"⟩, 35) := ⟨⟨by decide +kernel, by decide +kernel⟩, lw_t5 (List.mem_of_getElem? (i := 96) rfl), lw_t7 (List.mem_of_getElem? (i := 29) rfl), lw_t7 (List.mem_of_getElem? (i := 30) rfl)⟩
theorem lw_p71 : lw_okq (⟨"EvenBodiesModel", "snubFacesOf", "(I)I"⟩, 35) := ⟨⟨by decide +kernel, by decide +kernel⟩, lw_t5 (List.mem_of_getElem? (i := 96) rfl), lw_t7 (List.mem_of_getElem? (i := 33) rfl), lw_t7 (List.mem_of_getElem? (i := 34) rfl)⟩
theorem lw_p72 : lw_okq (⟨"EvenBodiesModel", "duals", "()I"⟩, 35) := ⟨⟨by decide +kernel, by decide +kernel⟩, lw_t5 (List.mem_of_getElem? (i := 96) rfl), lw_t7 (List.mem_of_getElem? (i := 57) rfl), lw_t7 (List.mem_of_getElem? (i := 58) rfl)⟩
def lw_privs_5 : List (MethodName × Nat) := [(⟨"EvenBodiesModel", "faceWith", "(II)I"⟩, 35), (⟨"EvenBodiesModel", "isLess", "(II)Z"⟩, 35), (⟨"EvenBodiesModel", "told", "(II)I"⟩, 35), (⟨"EvenBodiesModel", "signs", "(I)V"⟩, 35), (⟨"EvenBodiesModel", "isLike", "(II)Z"⟩, 35), (⟨"EvenBodiesModel", "snubs", "()I"⟩, 35), (⟨"EvenBodiesModel", "joinsAll", "(I)I"⟩, 35), (⟨"EvenBodiesModel", "snubFacesOf", "(I)I"⟩, 35), (⟨"EvenBodiesModel", "duals", "()I"⟩, 35)]
theorem lw_r5 : ∀ q ∈ lw_privs_5, lw_okq q := List.forall_mem_cons.mpr ⟨lw_p64, List.forall_mem_cons.mpr ⟨lw_p65, List.forall_mem_cons.mpr ⟨lw_p66, List.forall_mem_cons.mpr ⟨lw_p67, List.forall_mem_cons.mpr ⟨lw_p68, List.forall_mem_cons.mpr ⟨lw_p69, List.forall_mem_cons.mpr ⟨lw_p70, List.forall_mem_cons.mpr ⟨lw_p71, List.forall_mem_cons.mpr ⟨lw_p72, fun _ h => absurd h List.not_mem_nil⟩⟩⟩⟩⟩⟩⟩⟩⟩
def lw_privs : List (MethodName × Nat) := lw_privs_1 ++ (lw_privs_2 ++ (lw_privs_3 ++ (lw_privs_4 ++ (lw_privs_5))))
def lw_sub : List Cond := [Cond.selects "EvenBodies$Corners" ⟨"EvenBodies$Net", "isJoined", "(II)Z"⟩ ⟨"EvenBodies$Net", "isJoined", "(II)Z"⟩, Cond.selects "EvenBodies$Corners" ⟨"EvenBodies$Net", "to", "(II)V"⟩ ⟨"EvenBodies$Net", "to", "(II)V"⟩, Cond.selects "EvenBodies$Snub" ⟨"EvenBodies$Net", "isJoined", "(II)Z"⟩ ⟨"EvenBodies$Net", "isJoined", "(II)Z"⟩, Cond.selects "EvenBodies$Snub" ⟨"EvenBodies$Net", "to", "(II)V"⟩ ⟨"EvenBodies$Net", "to", "(II)V"⟩]
def lw_tbl : List Cond := (k2_sels lw_privs ++ tables_1) ++ lw_sub
theorem lw_privs_ok : ∀ q ∈ lw_privs, lw_okq q := by
  show ∀ q ∈ lw_privs_1 ++ (lw_privs_2 ++ (lw_privs_3 ++ (lw_privs_4 ++ (lw_privs_5)))), lw_okq q
  exact List.forall_mem_append.mpr ⟨lw_r1, List.forall_mem_append.mpr ⟨lw_r2, List.forall_mem_append.mpr ⟨lw_r3, List.forall_mem_append.mpr ⟨lw_r4, lw_r5⟩⟩⟩⟩
-- ===== ONE list of words for every method: the tables' words that hold all through a run =====
def lw_all : List Cond := lw_tbl.filter goodWord
/-- a word of the tables by its place: claim/WORDS.tsv -/
theorem lw_w {w : Cond} (i : Nat) (h : lw_tbl[i]? = some w) (g : goodWord w = true) : w ∈ lw_all := List.mem_filter.mpr ⟨List.mem_of_getElem? h, g⟩
theorem lw_all_tbl {w : Cond} (h : w ∈ lw_all) : w ∈ lw_tbl := (List.mem_filter.mp h).1
theorem lw_self : GoodIn lw_all lw_all := fun w h => ⟨h, good_of_word (List.mem_filter.mp h).2⟩
/-- a class's field words, by their places -/
theorem lw_in (ws : List Cond) (ps : List Nat) (hp : ws = ps.filterMap (fun i => lw_tbl[i]?)) (hg : ws.all goodWord = true) : ∀ w ∈ ws, w ∈ lw_all := by
  intro w h
  have h1 := List.all_eq_true.mp hg w h
  rw [hp] at h
  obtain ⟨i, -, hi⟩ := List.mem_filterMap.mp h
  exact lw_w i hi h1
/-- the words of a contract for the method y with code b, L locals, answer r -/
abbrev ws_ (y : MethodName) (b : ByteArray) (L : Nat) (r : Option FieldType) : List Cond := Cond.code y b L r :: lw_all
theorem lw_meth {y : MethodName} {b : ByteArray} {L : Nat} {r : Option FieldType} (h : Cond.code y b L r ∈ lw_all) : GoodIn lw_all (ws_ y b L r) := by
  intro w hw
  rcases List.mem_cons.mp hw with e | e
  · rw [e]
    exact lw_self _ h
  · exact lw_self _ e
theorem lw_app {a c : List Cond} (ha : ∀ w ∈ a, w ∈ lw_all) (hc : GoodIn lw_all c) : GoodIn lw_all (a ++ c) := by
  intro w hw
  rcases List.mem_append.mp hw with e | e
  · exact lw_self w (ha w e)
  · exact hc w e
/-- what a call through an object asks: cwV n hts (lw_V ..) -/
theorem lw_V {own : String} {idx : Nat} {C : String} {y : MethodName} {b : ByteArray} {L : Nat} {r : Option FieldType} (h1 : Cond.methodLink own idx y ∈ lw_all) (h2 : Cond.instanceMethod y ∈ lw_all) (h3 : Cond.selects C y y ∈ lw_all) (h4 : Cond.initialized C ∈ lw_all) (h5 : Cond.code y b L r ∈ lw_all) : GoodIn lw_all (wsV own idx C y (ws_ y b L r)) := by
  refine lw_app ?_ (lw_meth h5)
  intro w hw
  simp only [List.mem_cons, List.not_mem_nil, or_false] at hw
  rcases hw with e | e | e | e
  · rw [e]; exact h1
  · rw [e]; exact h2
  · rw [e]; exact h3
  · rw [e]; exact h4
/-- what a static call asks: va_cwS n hts (lw_S ..) -/
theorem lw_S {own : String} {idx : Nat} {y : MethodName} {b : ByteArray} {L : Nat} {r : Option FieldType} (h1 : Cond.methodLink own idx y ∈ lw_all) (h2 : Cond.static y ∈ lw_all) (h3 : Cond.initialized y.cls ∈ lw_all) (h4 : Cond.code y b L r ∈ lw_all) : GoodIn lw_all (va_wsS own idx y (ws_ y b L r)) := by
  refine lw_app ?_ (lw_meth h4)
  intro w hw
  simp only [List.mem_cons, List.not_mem_nil, or_false] at hw
  rcases hw with e | e | e
  · rw [e]; exact h1
  · rw [e]; exact h2
  · rw [e]; exact h3
/-- the words of a contract for a method WITH HANDLERS (hh: its table) -/
abbrev wsW_ (y : MethodName) (b : ByteArray) (L : Nat) (r : Option FieldType) (hh : List (Nat × Nat × Nat × Nat)) : List Cond := Cond.codeWith y b L r hh :: lw_all
theorem lw_methW {y : MethodName} {b : ByteArray} {L : Nat} {r : Option FieldType} {hh : List (Nat × Nat × Nat × Nat)} (h : Cond.codeWith y b L r hh ∈ lw_all) : GoodIn lw_all (wsW_ y b L r hh) := by
  intro w hw
  rcases List.mem_cons.mp hw with e | e
  · rw [e]
    exact lw_self _ h
  · exact lw_self _ e
/-- any list of words by their places (lw_in), good -/
theorem lw_good {ws : List Cond} (h : ∀ w ∈ ws, w ∈ lw_all) : GoodIn lw_all ws := fun w hw => lw_self w (h w hw)
/-- what a call of a method with handlers asks: vx_cwVW n hts (lw_VW ..), vx_cwSW n hts (lw_SW ..) -/
theorem lw_VW {own : String} {idx : Nat} {C : String} {y : MethodName} {b : ByteArray} {L : Nat} {r : Option FieldType} {hh : List (Nat × Nat × Nat × Nat)} (h1 : Cond.methodLink own idx y ∈ lw_all) (h2 : Cond.instanceMethod y ∈ lw_all) (h3 : Cond.selects C y y ∈ lw_all) (h4 : Cond.initialized C ∈ lw_all) (h5 : Cond.codeWith y b L r hh ∈ lw_all) : GoodIn lw_all (wsV own idx C y (wsW_ y b L r hh)) := by
  refine lw_app ?_ (lw_methW h5)
  intro w hw
  simp only [List.mem_cons, List.not_mem_nil, or_false] at hw
  rcases hw with e | e | e | e
  · rw [e]; exact h1
  · rw [e]; exact h2
  · rw [e]; exact h3
  · rw [e]; exact h4
theorem lw_SW {own : String} {idx : Nat} {y : MethodName} {b : ByteArray} {L : Nat} {r : Option FieldType} {hh : List (Nat × Nat × Nat × Nat)} (h1 : Cond.methodLink own idx y ∈ lw_all) (h2 : Cond.static y ∈ lw_all) (h3 : Cond.initialized y.cls ∈ lw_all) (h4 : Cond.codeWith y b L r hh ∈ lw_all) : GoodIn lw_all (va_wsS own idx y (wsW_ y b L r hh)) := by
  refine lw_app ?_ (lw_methW h4)
  intro w hw
  simp only [List.mem_cons, List.not_mem_nil, or_false] at hw
  rcases hw with e | e | e
  · rw [e]; exact h1
  · rw [e]; exact h2
  · rw [e]; exact h3
/-- a word by its place in its run of the tables -/
theorem lw_at {r : List Cond} (hr : ∀ w ∈ r, w ∈ lw_tbl) {w : Cond} (i : Nat) (h : r[i]? = some w) : w ∈ lw_tbl := hr w (List.mem_of_getElem? h)
theorem lw_g {w : Cond} (h : w ∈ lw_tbl) (g : goodWord w = true) : w ∈ lw_all := List.mem_filter.mpr ⟨h, g⟩
theorem lw_ms : ∀ w ∈ k2_sels lw_privs, w ∈ lw_tbl := fun w h => List.mem_append_left lw_sub (show w ∈ k2_sels lw_privs ++ tables_1 from List.mem_append_left _ h)
theorem lw_m1 : ∀ w ∈ tables_1_1, w ∈ lw_tbl := fun w h => List.mem_append_left lw_sub (show w ∈ k2_sels lw_privs ++ tables_1 from List.mem_append_right (k2_sels lw_privs) (show w ∈ tables_1 from List.mem_append_left _ h))
theorem lw_m2 : ∀ w ∈ tables_1_2, w ∈ lw_tbl := fun w h => List.mem_append_left lw_sub (show w ∈ k2_sels lw_privs ++ tables_1 from List.mem_append_right (k2_sels lw_privs) (show w ∈ tables_1 from List.mem_append_right _ (List.mem_append_left _ h)))
theorem lw_m3 : ∀ w ∈ tables_1_3, w ∈ lw_tbl := fun w h => List.mem_append_left lw_sub (show w ∈ k2_sels lw_privs ++ tables_1 from List.mem_append_right (k2_sels lw_privs) (show w ∈ tables_1 from List.mem_append_right _ (List.mem_append_right _ (List.mem_append_left _ h))))
theorem lw_m4 : ∀ w ∈ tables_1_4, w ∈ lw_tbl := fun w h => List.mem_append_left lw_sub (show w ∈ k2_sels lw_privs ++ tables_1 from List.mem_append_right (k2_sels lw_privs) (show w ∈ tables_1 from List.mem_append_right _ (List.mem_append_right _ (List.mem_append_right _ (List.mem_append_left _ h)))))
theorem lw_m5 : ∀ w ∈ tables_1_5, w ∈ lw_tbl := fun w h => List.mem_append_left lw_sub (show w ∈ k2_sels lw_privs ++ tables_1 from List.mem_append_right (k2_sels lw_privs) (show w ∈ tables_1 from List.mem_append_right _ (List.mem_append_right _ (List.mem_append_right _ (List.mem_append_right _ (List.mem_append_left _ h))))))
theorem lw_m6 : ∀ w ∈ tables_1_6, w ∈ lw_tbl := fun w h => List.mem_append_left lw_sub (show w ∈ k2_sels lw_privs ++ tables_1 from List.mem_append_right (k2_sels lw_privs) (show w ∈ tables_1 from List.mem_append_right _ (List.mem_append_right _ (List.mem_append_right _ (List.mem_append_right _ (List.mem_append_right _ (List.mem_append_left _ h)))))))
theorem lw_m7 : ∀ w ∈ tables_1_7, w ∈ lw_tbl := fun w h => List.mem_append_left lw_sub (show w ∈ k2_sels lw_privs ++ tables_1 from List.mem_append_right (k2_sels lw_privs) (show w ∈ tables_1 from List.mem_append_right _ (List.mem_append_right _ (List.mem_append_right _ (List.mem_append_right _ (List.mem_append_right _ (List.mem_append_right _ h)))))))
theorem qs0 : (Cond.selects "EvenBodies" ⟨"EvenBodies", "isMirror", "(II)Z"⟩ ⟨"EvenBodies", "isMirror", "(II)Z"⟩) ∈ lw_all := lw_g (lw_at lw_ms 0 rfl) rfl
theorem qs1 : (Cond.selects "EvenBodies" ⟨"EvenBodies", "why", "(IZ)I"⟩ ⟨"EvenBodies", "why", "(IZ)I"⟩) ∈ lw_all := lw_g (lw_at lw_ms 1 rfl) rfl
theorem qs2 : (Cond.selects "EvenBodies$Path" ⟨"EvenBodies$Path", "is", "(III)Z"⟩ ⟨"EvenBodies$Path", "is", "(III)Z"⟩) ∈ lw_all := lw_g (lw_at lw_ms 2 rfl) rfl
theorem qs3 : (Cond.selects "EvenBodies$Maker" ⟨"EvenBodies$Maker", "place", "()I"⟩ ⟨"EvenBodies$Maker", "place", "()I"⟩) ∈ lw_all := lw_g (lw_at lw_ms 3 rfl) rfl
theorem qs4 : (Cond.selects "EvenBodies$Maker" ⟨"EvenBodies$Maker", "isMade", "(I)Z"⟩ ⟨"EvenBodies$Maker", "isMade", "(I)Z"⟩) ∈ lw_all := lw_g (lw_at lw_ms 4 rfl) rfl
theorem qs5 : (Cond.selects "EvenBodies" ⟨"EvenBodies", "isElement", "(II)Z"⟩ ⟨"EvenBodies", "isElement", "(II)Z"⟩) ∈ lw_all := lw_g (lw_at lw_ms 5 rfl) rfl
theorem qs6 : (Cond.selects "EvenBodies" ⟨"EvenBodies", "isWidth", "(II)Z"⟩ ⟨"EvenBodies", "isWidth", "(II)Z"⟩) ∈ lw_all := lw_g (lw_at lw_ms 6 rfl) rfl
theorem qs7 : (Cond.selects "EvenBodies" ⟨"EvenBodies", "kindOf", "(LEvenBodies$Body;II)I"⟩ ⟨"EvenBodies", "kindOf", "(LEvenBodies$Body;II)I"⟩) ∈ lw_all := lw_g (lw_at lw_ms 7 rfl) rfl
theorem qs8 : (Cond.selects "EvenBodies" ⟨"EvenBodies", "isKind", "(II)Z"⟩ ⟨"EvenBodies", "isKind", "(II)Z"⟩) ∈ lw_all := lw_g (lw_at lw_ms 8 rfl) rfl
theorem qs9 : (Cond.selects "EvenBodies" ⟨"EvenBodies", "isPart", "(III)Z"⟩ ⟨"EvenBodies", "isPart", "(III)Z"⟩) ∈ lw_all := lw_g (lw_at lw_ms 9 rfl) rfl
theorem qs10 : (Cond.selects "EvenBodies" ⟨"EvenBodies", "countOf", "(LEvenBodies$Body;I)I"⟩ ⟨"EvenBodies", "countOf", "(LEvenBodies$Body;I)I"⟩) ∈ lw_all := lw_g (lw_at lw_ms 10 rfl) rfl
theorem qs11 : (Cond.selects "EvenBodies" ⟨"EvenBodies", "isCorner", "(II)Z"⟩ ⟨"EvenBodies", "isCorner", "(II)Z"⟩) ∈ lw_all := lw_g (lw_at lw_ms 11 rfl) rfl
theorem qs12 : (Cond.selects "EvenBodies" ⟨"EvenBodies", "netOf", "(I)LEvenBodies$Net;"⟩ ⟨"EvenBodies", "netOf", "(I)LEvenBodies$Net;"⟩) ∈ lw_all := lw_g (lw_at lw_ms 12 rfl) rfl
theorem qs13 : (Cond.selects "EvenBodies$Net" ⟨"EvenBodies$Net", "isJoined", "(II)Z"⟩ ⟨"EvenBodies$Net", "isJoined", "(II)Z"⟩) ∈ lw_all := lw_g (lw_at lw_ms 13 rfl) rfl
theorem qs14 : (Cond.selects "EvenBodies$Net" ⟨"EvenBodies$Net", "to", "(II)V"⟩ ⟨"EvenBodies$Net", "to", "(II)V"⟩) ∈ lw_all := lw_g (lw_at lw_ms 14 rfl) rfl
theorem qs15 : (Cond.selects "EvenBodies" ⟨"EvenBodies", "whyHull", "(IZ)I"⟩ ⟨"EvenBodies", "whyHull", "(IZ)I"⟩) ∈ lw_all := lw_g (lw_at lw_ms 15 rfl) rfl
theorem qs16 : (Cond.selects "EvenBodies$Hull" ⟨"EvenBodies$Hull", "comes", "(II)V"⟩ ⟨"EvenBodies$Hull", "comes", "(II)V"⟩) ∈ lw_all := lw_g (lw_at lw_ms 16 rfl) rfl
theorem qs17 : (Cond.selects "EvenBodies$Hull" ⟨"EvenBodies$Hull", "has", "(II)Z"⟩ ⟨"EvenBodies$Hull", "has", "(II)Z"⟩) ∈ lw_all := lw_g (lw_at lw_ms 17 rfl) rfl
theorem qs18 : (Cond.selects "EvenBodies$Hull" ⟨"EvenBodies$Hull", "goesRound", "(I)V"⟩ ⟨"EvenBodies$Hull", "goesRound", "(I)V"⟩) ∈ lw_all := lw_g (lw_at lw_ms 18 rfl) rfl
theorem qs19 : (Cond.selects "EvenBodies$Hull" ⟨"EvenBodies$Hull", "faceOf", "(III)I"⟩ ⟨"EvenBodies$Hull", "faceOf", "(III)I"⟩) ∈ lw_all := lw_g (lw_at lw_ms 19 rfl) rfl
theorem qs20 : (Cond.selects "EvenBodies$Hull" ⟨"EvenBodies$Hull", "other", "(III)I"⟩ ⟨"EvenBodies$Hull", "other", "(III)I"⟩) ∈ lw_all := lw_g (lw_at lw_ms 20 rfl) rfl
theorem qs21 : (Cond.selects "EvenBodies$Hull" ⟨"EvenBodies$Hull", "neighbour", "(II)I"⟩ ⟨"EvenBodies$Hull", "neighbour", "(II)I"⟩) ∈ lw_all := lw_g (lw_at lw_ms 21 rfl) rfl
theorem qs22 : (Cond.selects "EvenBodies$Hull" ⟨"EvenBodies$Hull", "turnsAll", "()V"⟩ ⟨"EvenBodies$Hull", "turnsAll", "()V"⟩) ∈ lw_all := lw_g (lw_at lw_ms 22 rfl) rfl
theorem qs23 : (Cond.selects "EvenBodies$Hull" ⟨"EvenBodies$Hull", "placeOf", "(II)I"⟩ ⟨"EvenBodies$Hull", "placeOf", "(II)I"⟩) ∈ lw_all := lw_g (lw_at lw_ms 23 rfl) rfl
theorem qs24 : (Cond.selects "EvenBodies$Hull" ⟨"EvenBodies$Hull", "before", "(II)I"⟩ ⟨"EvenBodies$Hull", "before", "(II)I"⟩) ∈ lw_all := lw_g (lw_at lw_ms 24 rfl) rfl
theorem qs25 : (Cond.selects "EvenBodies$Hull" ⟨"EvenBodies$Hull", "behind", "(II)I"⟩ ⟨"EvenBodies$Hull", "behind", "(II)I"⟩) ∈ lw_all := lw_g (lw_at lw_ms 25 rfl) rfl
theorem qs26 : (Cond.selects "EvenBodies$Hull" ⟨"EvenBodies$Hull", "turns", "(I)V"⟩ ⟨"EvenBodies$Hull", "turns", "(I)V"⟩) ∈ lw_all := lw_g (lw_at lw_ms 26 rfl) rfl
theorem qs27 : (Cond.selects "EvenBodies$Hull" ⟨"EvenBodies$Hull", "sizeBehind", "(II)I"⟩ ⟨"EvenBodies$Hull", "sizeBehind", "(II)I"⟩) ∈ lw_all := lw_g (lw_at lw_ms 27 rfl) rfl
theorem qs28 : (Cond.selects "EvenBodies$Laid" ⟨"EvenBodies$Laid", "comes", "(III)V"⟩ ⟨"EvenBodies$Laid", "comes", "(III)V"⟩) ∈ lw_all := lw_g (lw_at lw_ms 28 rfl) rfl
theorem qs29 : (Cond.selects "EvenBodies$Laid" ⟨"EvenBodies$Laid", "goesOn", "(II)Z"⟩ ⟨"EvenBodies$Laid", "goesOn", "(II)Z"⟩) ∈ lw_all := lw_g (lw_at lw_ms 29 rfl) rfl
theorem qs30 : (Cond.selects "java/util/ArrayList" ⟨"java/util/ArrayList", "add", "(Ljava/lang/Object;[Ljava/lang/Object;I)V"⟩ ⟨"java/util/ArrayList", "add", "(Ljava/lang/Object;[Ljava/lang/Object;I)V"⟩) ∈ lw_all := lw_g (lw_at lw_ms 30 rfl) rfl
theorem qs31 : (Cond.selects "java/util/ArrayList" ⟨"java/util/ArrayList", "grow", "()[Ljava/lang/Object;"⟩ ⟨"java/util/ArrayList", "grow", "()[Ljava/lang/Object;"⟩) ∈ lw_all := lw_g (lw_at lw_ms 31 rfl) rfl
theorem qs32 : (Cond.selects "java/util/ArrayList" ⟨"java/util/ArrayList", "grow", "(I)[Ljava/lang/Object;"⟩ ⟨"java/util/ArrayList", "grow", "(I)[Ljava/lang/Object;"⟩) ∈ lw_all := lw_g (lw_at lw_ms 32 rfl) rfl
theorem qs33 : (Cond.selects "EvenBodies" ⟨"EvenBodies", "snubOf", "(I)LEvenBodies$Snub;"⟩ ⟨"EvenBodies", "snubOf", "(I)LEvenBodies$Snub;"⟩) ∈ lw_all := lw_g (lw_at lw_ms 33 rfl) rfl
theorem qs34 : (Cond.selects "EvenBodies" ⟨"EvenBodies", "isHalfCorner", "(II)Z"⟩ ⟨"EvenBodies", "isHalfCorner", "(II)Z"⟩) ∈ lw_all := lw_g (lw_at lw_ms 34 rfl) rfl
theorem qs35 : (Cond.selects "EvenBodiesModel" ⟨"EvenBodiesModel", "renews", "(II)V"⟩ ⟨"EvenBodiesModel", "renews", "(II)V"⟩) ∈ lw_all := lw_g (lw_at lw_ms 35 rfl) rfl
theorem qs36 : (Cond.selects "EvenBodiesModel" ⟨"EvenBodiesModel", "isMirror", "(II)Z"⟩ ⟨"EvenBodiesModel", "isMirror", "(II)Z"⟩) ∈ lw_all := lw_g (lw_at lw_ms 36 rfl) rfl
theorem qs37 : (Cond.selects "EvenBodiesModel" ⟨"EvenBodiesModel", "angleOf", "(III)I"⟩ ⟨"EvenBodiesModel", "angleOf", "(III)I"⟩) ∈ lw_all := lw_g (lw_at lw_ms 37 rfl) rfl
theorem qs38 : (Cond.selects "EvenBodiesModel" ⟨"EvenBodiesModel", "joinedTo", "(II)I"⟩ ⟨"EvenBodiesModel", "joinedTo", "(II)I"⟩) ∈ lw_all := lw_g (lw_at lw_ms 38 rfl) rfl
theorem qs39 : (Cond.selects "EvenBodiesModel" ⟨"EvenBodiesModel", "refuses", "(I)I"⟩ ⟨"EvenBodiesModel", "refuses", "(I)I"⟩) ∈ lw_all := lw_g (lw_at lw_ms 39 rfl) rfl
theorem qs40 : (Cond.selects "EvenBodiesModel" ⟨"EvenBodiesModel", "loads", "(I)Z"⟩ ⟨"EvenBodiesModel", "loads", "(I)Z"⟩) ∈ lw_all := lw_g (lw_at lw_ms 40 rfl) rfl
theorem qs41 : (Cond.selects "EvenBodiesModel" ⟨"EvenBodiesModel", "sizeOf", "(I)I"⟩ ⟨"EvenBodiesModel", "sizeOf", "(I)I"⟩) ∈ lw_all := lw_g (lw_at lw_ms 41 rfl) rfl
theorem qs42 : (Cond.selects "EvenBodiesModel" ⟨"EvenBodiesModel", "makes", "(II)I"⟩ ⟨"EvenBodiesModel", "makes", "(II)I"⟩) ∈ lw_all := lw_g (lw_at lw_ms 42 rfl) rfl
theorem qs43 : (Cond.selects "EvenBodiesModel" ⟨"EvenBodiesModel", "turned", "(III)V"⟩ ⟨"EvenBodiesModel", "turned", "(III)V"⟩) ∈ lw_all := lw_g (lw_at lw_ms 43 rfl) rfl
theorem qs44 : (Cond.selects "EvenBodiesModel" ⟨"EvenBodiesModel", "found", "(I)I"⟩ ⟨"EvenBodiesModel", "found", "(I)I"⟩) ∈ lw_all := lw_g (lw_at lw_ms 44 rfl) rfl
theorem qs45 : (Cond.selects "EvenBodiesModel" ⟨"EvenBodiesModel", "tellsParts", "(I)V"⟩ ⟨"EvenBodiesModel", "tellsParts", "(I)V"⟩) ∈ lw_all := lw_g (lw_at lw_ms 45 rfl) rfl
theorem qs46 : (Cond.selects "EvenBodiesModel" ⟨"EvenBodiesModel", "stillOf", "(II)I"⟩ ⟨"EvenBodiesModel", "stillOf", "(II)I"⟩) ∈ lw_all := lw_g (lw_at lw_ms 46 rfl) rfl
theorem qs47 : (Cond.selects "EvenBodiesModel" ⟨"EvenBodiesModel", "refusesOf", "(II)I"⟩ ⟨"EvenBodiesModel", "refusesOf", "(II)I"⟩) ∈ lw_all := lw_g (lw_at lw_ms 47 rfl) rfl
theorem qs48 : (Cond.selects "EvenBodiesModel" ⟨"EvenBodiesModel", "letterOf", "(II)I"⟩ ⟨"EvenBodiesModel", "letterOf", "(II)I"⟩) ∈ lw_all := lw_g (lw_at lw_ms 48 rfl) rfl
theorem qs49 : (Cond.selects "EvenBodiesModel" ⟨"EvenBodiesModel", "productOf", "(II)I"⟩ ⟨"EvenBodiesModel", "productOf", "(II)I"⟩) ∈ lw_all := lw_g (lw_at lw_ms 49 rfl) rfl
theorem qs50 : (Cond.selects "EvenBodiesModel" ⟨"EvenBodiesModel", "inverseOf", "(I)I"⟩ ⟨"EvenBodiesModel", "inverseOf", "(I)I"⟩) ∈ lw_all := lw_g (lw_at lw_ms 50 rfl) rfl
theorem qs51 : (Cond.selects "EvenBodiesModel" ⟨"EvenBodiesModel", "clears", "()V"⟩ ⟨"EvenBodiesModel", "clears", "()V"⟩) ∈ lw_all := lw_g (lw_at lw_ms 51 rfl) rfl
theorem qs52 : (Cond.selects "EvenBodiesModel" ⟨"EvenBodiesModel", "isKind", "(II)Z"⟩ ⟨"EvenBodiesModel", "isKind", "(II)Z"⟩) ∈ lw_all := lw_g (lw_at lw_ms 52 rfl) rfl
theorem qs53 : (Cond.selects "EvenBodiesModel" ⟨"EvenBodiesModel", "refusesPart", "(III)I"⟩ ⟨"EvenBodiesModel", "refusesPart", "(III)I"⟩) ∈ lw_all := lw_g (lw_at lw_ms 53 rfl) rfl
theorem qs54 : (Cond.selects "EvenBodiesModel" ⟨"EvenBodiesModel", "cornersOf", "(I)I"⟩ ⟨"EvenBodiesModel", "cornersOf", "(I)I"⟩) ∈ lw_all := lw_g (lw_at lw_ms 54 rfl) rfl
theorem qs55 : (Cond.selects "EvenBodiesModel" ⟨"EvenBodiesModel", "countOf", "(I)I"⟩ ⟨"EvenBodiesModel", "countOf", "(I)I"⟩) ∈ lw_all := lw_g (lw_at lw_ms 55 rfl) rfl
theorem qs56 : (Cond.selects "EvenBodiesModel" ⟨"EvenBodiesModel", "joins", "()V"⟩ ⟨"EvenBodiesModel", "joins", "()V"⟩) ∈ lw_all := lw_g (lw_at lw_ms 56 rfl) rfl
theorem qs57 : (Cond.selects "EvenBodiesModel" ⟨"EvenBodiesModel", "degreeOf", "(II)I"⟩ ⟨"EvenBodiesModel", "degreeOf", "(II)I"⟩) ∈ lw_all := lw_g (lw_at lw_ms 57 rfl) rfl
theorem qs58 : (Cond.selects "EvenBodiesModel" ⟨"EvenBodiesModel", "walks", "(II)V"⟩ ⟨"EvenBodiesModel", "walks", "(II)V"⟩) ∈ lw_all := lw_g (lw_at lw_ms 58 rfl) rfl
theorem qs59 : (Cond.selects "EvenBodiesModel" ⟨"EvenBodiesModel", "refusesThree", "(I)I"⟩ ⟨"EvenBodiesModel", "refusesThree", "(I)I"⟩) ∈ lw_all := lw_g (lw_at lw_ms 59 rfl) rfl
theorem qs60 : (Cond.selects "EvenBodiesModel" ⟨"EvenBodiesModel", "rounds", "()V"⟩ ⟨"EvenBodiesModel", "rounds", "()V"⟩) ∈ lw_all := lw_g (lw_at lw_ms 60 rfl) rfl
theorem qs61 : (Cond.selects "EvenBodiesModel" ⟨"EvenBodiesModel", "faces", "()V"⟩ ⟨"EvenBodiesModel", "faces", "()V"⟩) ∈ lw_all := lw_g (lw_at lw_ms 61 rfl) rfl
theorem qs62 : (Cond.selects "EvenBodiesModel" ⟨"EvenBodiesModel", "edgeWith", "(II)I"⟩ ⟨"EvenBodiesModel", "edgeWith", "(II)I"⟩) ∈ lw_all := lw_g (lw_at lw_ms 62 rfl) rfl
theorem qs63 : (Cond.selects "EvenBodiesModel" ⟨"EvenBodiesModel", "faceSize", "(I)I"⟩ ⟨"EvenBodiesModel", "faceSize", "(I)I"⟩) ∈ lw_all := lw_g (lw_at lw_ms 63 rfl) rfl
theorem qs64 : (Cond.selects "EvenBodiesModel" ⟨"EvenBodiesModel", "faceWith", "(II)I"⟩ ⟨"EvenBodiesModel", "faceWith", "(II)I"⟩) ∈ lw_all := lw_g (lw_at lw_ms 64 rfl) rfl
theorem qs65 : (Cond.selects "EvenBodiesModel" ⟨"EvenBodiesModel", "isLess", "(II)Z"⟩ ⟨"EvenBodiesModel", "isLess", "(II)Z"⟩) ∈ lw_all := lw_g (lw_at lw_ms 65 rfl) rfl
theorem qs66 : (Cond.selects "EvenBodiesModel" ⟨"EvenBodiesModel", "told", "(II)I"⟩ ⟨"EvenBodiesModel", "told", "(II)I"⟩) ∈ lw_all := lw_g (lw_at lw_ms 66 rfl) rfl
theorem qs67 : (Cond.selects "EvenBodiesModel" ⟨"EvenBodiesModel", "signs", "(I)V"⟩ ⟨"EvenBodiesModel", "signs", "(I)V"⟩) ∈ lw_all := lw_g (lw_at lw_ms 67 rfl) rfl
theorem qs68 : (Cond.selects "EvenBodiesModel" ⟨"EvenBodiesModel", "isLike", "(II)Z"⟩ ⟨"EvenBodiesModel", "isLike", "(II)Z"⟩) ∈ lw_all := lw_g (lw_at lw_ms 68 rfl) rfl
theorem qs69 : (Cond.selects "EvenBodiesModel" ⟨"EvenBodiesModel", "snubs", "()I"⟩ ⟨"EvenBodiesModel", "snubs", "()I"⟩) ∈ lw_all := lw_g (lw_at lw_ms 69 rfl) rfl
theorem qs70 : (Cond.selects "EvenBodiesModel" ⟨"EvenBodiesModel", "joinsAll", "(I)I"⟩ ⟨"EvenBodiesModel", "joinsAll", "(I)I"⟩) ∈ lw_all := lw_g (lw_at lw_ms 70 rfl) rfl
theorem qs71 : (Cond.selects "EvenBodiesModel" ⟨"EvenBodiesModel", "snubFacesOf", "(I)I"⟩ ⟨"EvenBodiesModel", "snubFacesOf", "(I)I"⟩) ∈ lw_all := lw_g (lw_at lw_ms 71 rfl) rfl
theorem qs72 : (Cond.selects "EvenBodiesModel" ⟨"EvenBodiesModel", "duals", "()I"⟩ ⟨"EvenBodiesModel", "duals", "()I"⟩) ∈ lw_all := lw_g (lw_at lw_ms 72 rfl) rfl
theorem lw_mu : ∀ w ∈ lw_sub, w ∈ lw_tbl := fun w h => List.mem_append_right (k2_sels lw_privs ++ tables_1) h
theorem qu0 : (Cond.selects "EvenBodies$Corners" ⟨"EvenBodies$Net", "isJoined", "(II)Z"⟩ ⟨"EvenBodies$Net", "isJoined", "(II)Z"⟩) ∈ lw_all := lw_g (lw_at lw_mu 0 rfl) rfl
theorem qu1 : (Cond.selects "EvenBodies$Corners" ⟨"EvenBodies$Net", "to", "(II)V"⟩ ⟨"EvenBodies$Net", "to", "(II)V"⟩) ∈ lw_all := lw_g (lw_at lw_mu 1 rfl) rfl
theorem qu2 : (Cond.selects "EvenBodies$Snub" ⟨"EvenBodies$Net", "isJoined", "(II)Z"⟩ ⟨"EvenBodies$Net", "isJoined", "(II)Z"⟩) ∈ lw_all := lw_g (lw_at lw_mu 2 rfl) rfl
theorem qu3 : (Cond.selects "EvenBodies$Snub" ⟨"EvenBodies$Net", "to", "(II)V"⟩ ⟨"EvenBodies$Net", "to", "(II)V"⟩) ∈ lw_all := lw_g (lw_at lw_mu 3 rfl) rfl
theorem lw_selP {C : String} {y : MethodName} {s : State} {args : Array Value} {n n' : Nat} (hy : y.cls ≠ "java/lang/invoke/MethodHandle" ∧ y.cls ≠ "java/lang/invoke/VarHandle")
    (hinsC : (Cond.instantiable C n').before args s = true) (hins : (Cond.instantiable y.cls n).before args s = true) (hpriv : (Cond.privateMethod y).before args s = true) (hinst : (Cond.instanceMethod y).before args s = true) :
    (Cond.selects C y y).before args s = true := by
  obtain ⟨cC, kC, hcC, -, -, -, -, -⟩ := Cond.instantiable_spec hinsC
  obtain ⟨c, k, hc, hk, -, hniab, -, -⟩ := Cond.instantiable_spec hins
  have hni : k.isInterface = false := (Bool.or_eq_false_iff.mp hniab).1
  obtain ⟨mk, methM, hnamed, hmethM, -, -⟩ := Cond.instanceMethod_spec hinst
  have hfound : s.methodFound? y.cls y.name y.desc = some mk := State.methodFound?_of_named hnamed hy
  have hcls : mk.cls = c := Option.some.inj ((findClass_of_methodNamed hnamed).symm.trans hc)
  have hsel : selectMethod {} s.vm cC mk = .method mk := selectMethod_private hmethM (Cond.privateMethod_at hpriv mk methM hnamed hmethM)
  simp only [Cond.before, Cond.holds, Cond.value, hcC, hfound, hnamed, hsel, hcls, hk]
  simp; exact hni
theorem lw_mem1 {w : Cond} (ok : w ∈ tables_1_1 ∨ w ∈ tables_1_2 ∨ w ∈ tables_1_3 ∨ w ∈ tables_1_4 ∨ w ∈ tables_1_5 ∨ w ∈ tables_1_6 ∨ w ∈ tables_1_7) : w ∈ tables_1 := by
  unfold tables_1
  simp only [List.mem_append]
  exact ok
