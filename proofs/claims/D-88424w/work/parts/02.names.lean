set_option maxRecDepth 100000
def RJ0 : String := "java/util/Arrays"
abbrev cJ0_fill : ByteArray := prog_27_method_103_code
def yJ0_fill : MethodName := ⟨RJ0, "fill", "([II)V"⟩
abbrev cJ0_fill_2 : ByteArray := prog_27_method_117_code
def yJ0_fill_2 : MethodName := ⟨RJ0, "fill", "([Ljava/lang/Object;Ljava/lang/Object;)V"⟩
abbrev cJ0_fill_3 : ByteArray := prog_27_method_105_code
def yJ0_fill_3 : MethodName := ⟨RJ0, "fill", "([SS)V"⟩
abbrev cJ0_fill_4 : ByteArray := prog_27_method_111_code
def yJ0_fill_4 : MethodName := ⟨RJ0, "fill", "([ZZ)V"⟩
abbrev cJ0_copyOf : ByteArray := prog_27_method_119_code
def yJ0_copyOf : MethodName := ⟨RJ0, "copyOf", "([Ljava/lang/Object;I)[Ljava/lang/Object;"⟩
abbrev cJ0_copyOf_2 : ByteArray := prog_27_method_120_code
def yJ0_copyOf_2 : MethodName := ⟨RJ0, "copyOf", "([Ljava/lang/Object;ILjava/lang/Class;)[Ljava/lang/Object;"⟩
theorem q76 : (Jvm.Cond.initialized "java/util/Arrays") ∈ lw_all := lw_g (lw_at lw_m1 3 rfl) rfl
theorem q116 : (Jvm.Cond.static ({ cls := "java/util/Arrays", name := "fill", desc := "([II)V" } : Jvm.MethodName)) ∈ lw_all := lw_g (lw_at lw_m1 43 rfl) rfl
theorem q117 : (Jvm.Cond.code ({ cls := "java/util/Arrays", name := "fill", desc := "([II)V" } : Jvm.MethodName) prog_27_method_103_code (4 : Nat) (Option.none : Option Jvm.ClassFile.FieldType)) ∈ lw_all := lw_g (lw_at lw_m1 44 rfl) rfl
theorem q209 : (Jvm.Cond.static ({ cls := "java/util/Arrays", name := "fill", desc := "([Ljava/lang/Object;Ljava/lang/Object;)V" } : Jvm.MethodName)) ∈ lw_all := lw_g (lw_at lw_m1 136 rfl) rfl
theorem q210 : (Jvm.Cond.code ({ cls := "java/util/Arrays", name := "fill", desc := "([Ljava/lang/Object;Ljava/lang/Object;)V" } : Jvm.MethodName) prog_27_method_117_code (4 : Nat) (Option.none : Option Jvm.ClassFile.FieldType)) ∈ lw_all := lw_g (lw_at lw_m1 137 rfl) rfl
theorem q523 : (Jvm.Cond.static ({ cls := "java/util/Arrays", name := "fill", desc := "([SS)V" } : Jvm.MethodName)) ∈ lw_all := lw_g (lw_at lw_m2 210 rfl) rfl
theorem q524 : (Jvm.Cond.code ({ cls := "java/util/Arrays", name := "fill", desc := "([SS)V" } : Jvm.MethodName) prog_27_method_105_code (4 : Nat) (Option.none : Option Jvm.ClassFile.FieldType)) ∈ lw_all := lw_g (lw_at lw_m2 211 rfl) rfl
theorem q837 : (Jvm.Cond.static ({ cls := "java/util/Arrays", name := "fill", desc := "([ZZ)V" } : Jvm.MethodName)) ∈ lw_all := lw_g (lw_at lw_m4 44 rfl) rfl
theorem q838 : (Jvm.Cond.code ({ cls := "java/util/Arrays", name := "fill", desc := "([ZZ)V" } : Jvm.MethodName) prog_27_method_111_code (4 : Nat) (Option.none : Option Jvm.ClassFile.FieldType)) ∈ lw_all := lw_g (lw_at lw_m4 45 rfl) rfl
theorem q979 : (Jvm.Cond.static ({ cls := "java/util/Arrays", name := "copyOf", desc := "([Ljava/lang/Object;I)[Ljava/lang/Object;" } : Jvm.MethodName)) ∈ lw_all := lw_g (lw_at lw_m4 186 rfl) rfl
theorem q980 : (Jvm.Cond.code ({ cls := "java/util/Arrays", name := "copyOf", desc := "([Ljava/lang/Object;I)[Ljava/lang/Object;" } : Jvm.MethodName) prog_27_method_119_code (2 : Nat) (Option.some (Jvm.ClassFile.FieldType.array (Jvm.ClassFile.FieldType.object "java/lang/Object")))) ∈ lw_all := lw_g (lw_at lw_m4 187 rfl) rfl
theorem q981 : (Jvm.Cond.methodLink "java/util/Arrays" (86 : Nat) ({ cls := "java/lang/Object", name := "getClass", desc := "()Ljava/lang/Class;" } : Jvm.MethodName)) ∈ lw_all := lw_g (lw_at lw_m4 188 rfl) rfl
theorem q1001 : (Jvm.Cond.methodLink "java/util/Arrays" (300 : Nat) ({ cls := "java/util/Arrays", name := "copyOf", desc := "([Ljava/lang/Object;ILjava/lang/Class;)[Ljava/lang/Object;" } : Jvm.MethodName)) ∈ lw_all := lw_g (lw_at lw_m4 208 rfl) rfl
theorem q1002 : (Jvm.Cond.static ({ cls := "java/util/Arrays", name := "copyOf", desc := "([Ljava/lang/Object;ILjava/lang/Class;)[Ljava/lang/Object;" } : Jvm.MethodName)) ∈ lw_all := lw_g (lw_at lw_m4 209 rfl) rfl
theorem q1003 : (Jvm.Cond.code ({ cls := "java/util/Arrays", name := "copyOf", desc := "([Ljava/lang/Object;ILjava/lang/Class;)[Ljava/lang/Object;" } : Jvm.MethodName) prog_27_method_120_code (4 : Nat) (Option.some (Jvm.ClassFile.FieldType.array (Jvm.ClassFile.FieldType.object "java/lang/Object")))) ∈ lw_all := lw_g (lw_at lw_m4 210 rfl) rfl
theorem q1004 : (Jvm.Cond.classLink "java/util/Arrays" (110 : Nat) "[Ljava/lang/Object;") ∈ lw_all := lw_g (lw_at lw_m4 211 rfl) rfl
theorem q1006 : (Jvm.Cond.classLink "java/util/Arrays" (2 : Nat) "java/lang/Object") ∈ lw_all := lw_g (lw_at lw_m4 213 rfl) rfl
theorem q1007 : (Jvm.Cond.methodLink "java/util/Arrays" (304 : Nat) ({ cls := "java/lang/Math", name := "min", desc := "(II)I" } : Jvm.MethodName)) ∈ lw_all := lw_g (lw_at lw_m4 214 rfl) rfl
theorem q1010 : (Jvm.Cond.methodLink "java/util/Arrays" (150 : Nat) ({ cls := "java/lang/System", name := "arraycopy", desc := "(Ljava/lang/Object;ILjava/lang/Object;II)V" } : Jvm.MethodName)) ∈ lw_all := lw_g (lw_at lw_m4 217 rfl) rfl
def RJ1 : String := "java/lang/Integer"
abbrev cJ1_lowestOneBit : ByteArray := prog_19_method_46_code
def yJ1_lowestOneBit : MethodName := ⟨RJ1, "lowestOneBit", "(I)I"⟩
abbrev cJ1_bitCount : ByteArray := prog_19_method_49_code
def yJ1_bitCount : MethodName := ⟨RJ1, "bitCount", "(I)I"⟩
abbrev cJ1_numberOfTrailingZeros : ByteArray := prog_19_method_48_code
def yJ1_numberOfTrailingZeros : MethodName := ⟨RJ1, "numberOfTrailingZeros", "(I)I"⟩
theorem q78 : (Jvm.Cond.initialized "java/lang/Integer") ∈ lw_all := lw_g (lw_at lw_m1 5 rfl) rfl
theorem q247 : (Jvm.Cond.static ({ cls := "java/lang/Integer", name := "lowestOneBit", desc := "(I)I" } : Jvm.MethodName)) ∈ lw_all := lw_g (lw_at lw_m1 174 rfl) rfl
theorem q248 : (Jvm.Cond.code ({ cls := "java/lang/Integer", name := "lowestOneBit", desc := "(I)I" } : Jvm.MethodName) prog_19_method_46_code (1 : Nat) (Option.some Jvm.ClassFile.FieldType.int)) ∈ lw_all := lw_g (lw_at lw_m1 175 rfl) rfl
theorem q258 : (Jvm.Cond.static ({ cls := "java/lang/Integer", name := "bitCount", desc := "(I)I" } : Jvm.MethodName)) ∈ lw_all := lw_g (lw_at lw_m1 185 rfl) rfl
theorem q259 : (Jvm.Cond.code ({ cls := "java/lang/Integer", name := "bitCount", desc := "(I)I" } : Jvm.MethodName) prog_19_method_49_code (1 : Nat) (Option.some Jvm.ClassFile.FieldType.int)) ∈ lw_all := lw_g (lw_at lw_m1 186 rfl) rfl
theorem q260 : (Jvm.Cond.constant "java/lang/Integer" (265 : Nat) (1431655765 : Int32)) ∈ lw_all := lw_g (lw_at lw_m1 187 rfl) rfl
theorem q261 : (Jvm.Cond.constant "java/lang/Integer" (266 : Nat) (858993459 : Int32)) ∈ lw_all := lw_g (lw_at lw_m1 188 rfl) rfl
theorem q262 : (Jvm.Cond.constant "java/lang/Integer" (267 : Nat) (252645135 : Int32)) ∈ lw_all := lw_g (lw_at lw_m1 189 rfl) rfl
theorem q296 : (Jvm.Cond.static ({ cls := "java/lang/Integer", name := "numberOfTrailingZeros", desc := "(I)I" } : Jvm.MethodName)) ∈ lw_all := lw_g (lw_at lw_m1 223 rfl) rfl
theorem q297 : (Jvm.Cond.code ({ cls := "java/lang/Integer", name := "numberOfTrailingZeros", desc := "(I)I" } : Jvm.MethodName) prog_19_method_48_code (2 : Nat) (Option.some Jvm.ClassFile.FieldType.int)) ∈ lw_all := lw_g (lw_at lw_m1 224 rfl) rfl
theorem q298 : (Jvm.Cond.constant "java/lang/Integer" (264 : Nat) (65536 : Int32)) ∈ lw_all := lw_g (lw_at lw_m1 225 rfl) rfl
def RJ2 : String := "java/lang/Math"
abbrev cJ2_floorMod : ByteArray := prog_21_method_50_code
def yJ2_floorMod : MethodName := ⟨RJ2, "floorMod", "(II)I"⟩
abbrev cJ2_max : ByteArray := prog_21_method_65_code
def yJ2_max : MethodName := ⟨RJ2, "max", "(II)I"⟩
abbrev cJ2_min : ByteArray := prog_21_method_69_code
def yJ2_min : MethodName := ⟨RJ2, "min", "(II)I"⟩
theorem q90 : (Jvm.Cond.initialized "java/lang/Math") ∈ lw_all := lw_g (lw_at lw_m1 17 rfl) rfl
theorem q745 : (Jvm.Cond.static ({ cls := "java/lang/Math", name := "floorMod", desc := "(II)I" } : Jvm.MethodName)) ∈ lw_all := lw_g (lw_at lw_m3 192 rfl) rfl
theorem q746 : (Jvm.Cond.code ({ cls := "java/lang/Math", name := "floorMod", desc := "(II)I" } : Jvm.MethodName) prog_21_method_50_code (3 : Nat) (Option.some Jvm.ClassFile.FieldType.int)) ∈ lw_all := lw_g (lw_at lw_m3 193 rfl) rfl
theorem q972 : (Jvm.Cond.static ({ cls := "java/lang/Math", name := "max", desc := "(II)I" } : Jvm.MethodName)) ∈ lw_all := lw_g (lw_at lw_m4 179 rfl) rfl
theorem q973 : (Jvm.Cond.code ({ cls := "java/lang/Math", name := "max", desc := "(II)I" } : Jvm.MethodName) prog_21_method_65_code (2 : Nat) (Option.some Jvm.ClassFile.FieldType.int)) ∈ lw_all := lw_g (lw_at lw_m4 180 rfl) rfl
theorem q1008 : (Jvm.Cond.static ({ cls := "java/lang/Math", name := "min", desc := "(II)I" } : Jvm.MethodName)) ∈ lw_all := lw_g (lw_at lw_m4 215 rfl) rfl
theorem q1009 : (Jvm.Cond.code ({ cls := "java/lang/Math", name := "min", desc := "(II)I" } : Jvm.MethodName) prog_21_method_69_code (2 : Nat) (Option.some Jvm.ClassFile.FieldType.int)) ∈ lw_all := lw_g (lw_at lw_m4 216 rfl) rfl
def RJ3 : String := "java/util/AbstractCollection"
abbrev cJ3_init : ByteArray := prog_23_method_1_code
def yJ3_init : MethodName := ⟨RJ3, "<init>", "()V"⟩
theorem q92 : (Jvm.Cond.initialized "java/util/AbstractCollection") ∈ lw_all := lw_g (lw_at lw_m1 19 rfl) rfl
theorem q866 : (Jvm.Cond.instanceMethod ({ cls := "java/util/AbstractCollection", name := "<init>", desc := "()V" } : Jvm.MethodName)) ∈ lw_all := lw_g (lw_at lw_m4 73 rfl) rfl
theorem q867 : (Jvm.Cond.code ({ cls := "java/util/AbstractCollection", name := "<init>", desc := "()V" } : Jvm.MethodName) prog_23_method_1_code (1 : Nat) (Option.none : Option Jvm.ClassFile.FieldType)) ∈ lw_all := lw_g (lw_at lw_m4 74 rfl) rfl
theorem q868 : (Jvm.Cond.methodLink "java/util/AbstractCollection" (1 : Nat) ({ cls := "java/lang/Object", name := "<init>", desc := "()V" } : Jvm.MethodName)) ∈ lw_all := lw_g (lw_at lw_m4 75 rfl) rfl
def RJ4 : String := "java/util/AbstractList"
abbrev cJ4_init : ByteArray := prog_24_method_1_code
def yJ4_init : MethodName := ⟨RJ4, "<init>", "()V"⟩
theorem q93 : (Jvm.Cond.initialized "java/util/AbstractList") ∈ lw_all := lw_g (lw_at lw_m1 20 rfl) rfl
theorem q863 : (Jvm.Cond.instanceMethod ({ cls := "java/util/AbstractList", name := "<init>", desc := "()V" } : Jvm.MethodName)) ∈ lw_all := lw_g (lw_at lw_m4 70 rfl) rfl
theorem q864 : (Jvm.Cond.code ({ cls := "java/util/AbstractList", name := "<init>", desc := "()V" } : Jvm.MethodName) prog_24_method_1_code (1 : Nat) (Option.none : Option Jvm.ClassFile.FieldType)) ∈ lw_all := lw_g (lw_at lw_m4 71 rfl) rfl
theorem q865 : (Jvm.Cond.methodLink "java/util/AbstractList" (1 : Nat) ({ cls := "java/util/AbstractCollection", name := "<init>", desc := "()V" } : Jvm.MethodName)) ∈ lw_all := lw_g (lw_at lw_m4 72 rfl) rfl
theorem q875 : (Jvm.Cond.fieldLink "java/util/AbstractList" (7 : Nat) "java/util/AbstractList" "modCount" "I") ∈ lw_all := lw_g (lw_at lw_m4 82 rfl) rfl
theorem q884 : (Jvm.Cond.soleField "java/util/AbstractList" "modCount") ∈ lw_all := lw_g (lw_at lw_m4 91 rfl) rfl
def RJ5 : String := "java/util/ArrayList"
def TJ5 : u_T := fun k => match k with
  | 0 => ("java/util/AbstractList", "modCount", "I", false)
  | 1 => ("java/util/ArrayList", "elementData", "[Ljava/lang/Object;", false)
  | _ => ("java/util/ArrayList", "size", "I", false)
def tyJ5 : Nat → FieldType := fun k => match k with
  | 0 => .int
  | 1 => .array (.object "java/lang/Object")
  | _ => .int
abbrev wsJ50 : List Cond := u_ws RJ5 TJ5 3
theorem nmJ5 : ∀ a, a < 3 → ∀ b, b < 3 → a ≠ b → (TJ5 a).2.1 ≠ (TJ5 b).2.1 := by decide +kernel
theorem tyJ5_ok : ∀ k, k < 3 → parseFieldDescriptor (TJ5 k).2.2.1 = some (tyJ5 k) := by decide +kernel
abbrev cJ5_init : ByteArray := prog_25_method_2_code
def yJ5_init : MethodName := ⟨RJ5, "<init>", "()V"⟩
abbrev cJ5_iterator : ByteArray := prog_25_method_55_code
def yJ5_iterator : MethodName := ⟨RJ5, "iterator", "()Ljava/util/Iterator;"⟩
abbrev cJ5_add : ByteArray := prog_25_method_25_code
def yJ5_add : MethodName := ⟨RJ5, "add", "(Ljava/lang/Object;)Z"⟩
abbrev cJ5_add_2 : ByteArray := prog_25_method_24_code
def yJ5_add_2 : MethodName := ⟨RJ5, "add", "(Ljava/lang/Object;[Ljava/lang/Object;I)V"⟩
abbrev cJ5_grow : ByteArray := prog_25_method_7_code
def yJ5_grow : MethodName := ⟨RJ5, "grow", "()[Ljava/lang/Object;"⟩
abbrev cJ5_grow_2 : ByteArray := prog_25_method_6_code
def yJ5_grow_2 : MethodName := ⟨RJ5, "grow", "(I)[Ljava/lang/Object;"⟩
abbrev cJ5_size : ByteArray := prog_25_method_8_code
def yJ5_size : MethodName := ⟨RJ5, "size", "()I"⟩
theorem q94 : (Jvm.Cond.initialized "java/util/ArrayList") ∈ lw_all := lw_g (lw_at lw_m1 21 rfl) rfl
theorem q858 : (Jvm.Cond.instantiable "java/util/ArrayList" (3 : Nat)) ∈ lw_all := lw_g (lw_at lw_m4 65 rfl) rfl
theorem q860 : (Jvm.Cond.instanceMethod ({ cls := "java/util/ArrayList", name := "<init>", desc := "()V" } : Jvm.MethodName)) ∈ lw_all := lw_g (lw_at lw_m4 67 rfl) rfl
theorem q861 : (Jvm.Cond.code ({ cls := "java/util/ArrayList", name := "<init>", desc := "()V" } : Jvm.MethodName) prog_25_method_2_code (1 : Nat) (Option.none : Option Jvm.ClassFile.FieldType)) ∈ lw_all := lw_g (lw_at lw_m4 68 rfl) rfl
theorem q862 : (Jvm.Cond.methodLink "java/util/ArrayList" (1 : Nat) ({ cls := "java/util/AbstractList", name := "<init>", desc := "()V" } : Jvm.MethodName)) ∈ lw_all := lw_g (lw_at lw_m4 69 rfl) rfl
theorem q869 : (Jvm.Cond.fieldLink "java/util/ArrayList" (39 : Nat) "java/util/ArrayList" "DEFAULTCAPACITY_EMPTY_ELEMENTDATA" "[Ljava/lang/Object;") ∈ lw_all := lw_g (lw_at lw_m4 76 rfl) rfl
theorem q870 : (Jvm.Cond.laysStatic "java/util/ArrayList" "DEFAULTCAPACITY_EMPTY_ELEMENTDATA" "[Ljava/lang/Object;") ∈ lw_tbl := lw_at lw_m4 77 rfl
theorem q871 : (Jvm.Cond.fieldLink "java/util/ArrayList" (9 : Nat) "java/util/ArrayList" "elementData" "[Ljava/lang/Object;") ∈ lw_all := lw_g (lw_at lw_m4 78 rfl) rfl
theorem q874 : (Jvm.Cond.fieldLink "java/util/ArrayList" (48 : Nat) "java/util/ArrayList" "size" "I") ∈ lw_all := lw_g (lw_at lw_m4 81 rfl) rfl
theorem q877 : (Jvm.Cond.sameField "java/util/ArrayList" "java/util/AbstractList" "modCount" "I") ∈ lw_all := lw_g (lw_at lw_m4 84 rfl) rfl
theorem q878 : (Jvm.Cond.fieldLink "java/util/ArrayList" (63 : Nat) "java/util/ArrayList" "modCount" "I") ∈ lw_all := lw_g (lw_at lw_m4 85 rfl) rfl
theorem q879 : (Jvm.Cond.lays "java/util/ArrayList" "java/util/ArrayList" "elementData" "[Ljava/lang/Object;") ∈ lw_all := lw_g (lw_at lw_m4 86 rfl) rfl
theorem q880 : (Jvm.Cond.soleField "java/util/ArrayList" "elementData") ∈ lw_all := lw_g (lw_at lw_m4 87 rfl) rfl
theorem q881 : (Jvm.Cond.lays "java/util/ArrayList" "java/util/ArrayList" "size" "I") ∈ lw_all := lw_g (lw_at lw_m4 88 rfl) rfl
theorem q882 : (Jvm.Cond.soleField "java/util/ArrayList" "size") ∈ lw_all := lw_g (lw_at lw_m4 89 rfl) rfl
theorem q883 : (Jvm.Cond.lays "java/util/ArrayList" "java/util/AbstractList" "modCount" "I") ∈ lw_all := lw_g (lw_at lw_m4 90 rfl) rfl
theorem q885 : (Jvm.Cond.superclass "java/util/ArrayList" "java/util/AbstractList") ∈ lw_all := lw_g (lw_at lw_m4 92 rfl) rfl
theorem q899 : (Jvm.Cond.castable "java/util/ArrayList" "java/util/List") ∈ lw_tbl := lw_at lw_m4 106 rfl
theorem q900 : (Jvm.Cond.selects "java/util/ArrayList" ({ cls := "java/util/List", name := "iterator", desc := "()Ljava/util/Iterator;" } : Jvm.MethodName) ({ cls := "java/util/ArrayList", name := "iterator", desc := "()Ljava/util/Iterator;" } : Jvm.MethodName)) ∈ lw_all := lw_g (lw_at lw_m4 107 rfl) rfl
theorem q901 : (Jvm.Cond.unhidden "java/util/ArrayList" "iterator" "()Ljava/util/Iterator;") ∈ lw_tbl := lw_at lw_m4 108 rfl
theorem q902 : (Jvm.Cond.instanceMethod ({ cls := "java/util/ArrayList", name := "iterator", desc := "()Ljava/util/Iterator;" } : Jvm.MethodName)) ∈ lw_all := lw_g (lw_at lw_m4 109 rfl) rfl
theorem q903 : (Jvm.Cond.publicMethod ({ cls := "java/util/ArrayList", name := "iterator", desc := "()Ljava/util/Iterator;" } : Jvm.MethodName)) ∈ lw_tbl := lw_at lw_m4 110 rfl
theorem q904 : (Jvm.Cond.code ({ cls := "java/util/ArrayList", name := "iterator", desc := "()Ljava/util/Iterator;" } : Jvm.MethodName) prog_25_method_55_code (1 : Nat) (Option.some (Jvm.ClassFile.FieldType.object "java/util/Iterator"))) ∈ lw_all := lw_g (lw_at lw_m4 111 rfl) rfl
theorem q905 : (Jvm.Cond.classLink "java/util/ArrayList" (267 : Nat) "java/util/ArrayList$Itr") ∈ lw_all := lw_g (lw_at lw_m4 112 rfl) rfl
theorem q907 : (Jvm.Cond.methodLink "java/util/ArrayList" (269 : Nat) ({ cls := "java/util/ArrayList$Itr", name := "<init>", desc := "(Ljava/util/ArrayList;)V" } : Jvm.MethodName)) ∈ lw_all := lw_g (lw_at lw_m4 114 rfl) rfl
theorem q951 : (Jvm.Cond.selects "java/util/ArrayList" ({ cls := "java/util/List", name := "add", desc := "(Ljava/lang/Object;)Z" } : Jvm.MethodName) ({ cls := "java/util/ArrayList", name := "add", desc := "(Ljava/lang/Object;)Z" } : Jvm.MethodName)) ∈ lw_all := lw_g (lw_at lw_m4 158 rfl) rfl
theorem q952 : (Jvm.Cond.unhidden "java/util/ArrayList" "add" "(Ljava/lang/Object;)Z") ∈ lw_tbl := lw_at lw_m4 159 rfl
theorem q953 : (Jvm.Cond.instanceMethod ({ cls := "java/util/ArrayList", name := "add", desc := "(Ljava/lang/Object;)Z" } : Jvm.MethodName)) ∈ lw_all := lw_g (lw_at lw_m4 160 rfl) rfl
theorem q954 : (Jvm.Cond.publicMethod ({ cls := "java/util/ArrayList", name := "add", desc := "(Ljava/lang/Object;)Z" } : Jvm.MethodName)) ∈ lw_tbl := lw_at lw_m4 161 rfl
theorem q955 : (Jvm.Cond.code ({ cls := "java/util/ArrayList", name := "add", desc := "(Ljava/lang/Object;)Z" } : Jvm.MethodName) prog_25_method_25_code (2 : Nat) (Option.some Jvm.ClassFile.FieldType.boolean)) ∈ lw_all := lw_g (lw_at lw_m4 162 rfl) rfl
theorem q956 : (Jvm.Cond.methodLink "java/util/ArrayList" (131 : Nat) ({ cls := "java/util/ArrayList", name := "add", desc := "(Ljava/lang/Object;[Ljava/lang/Object;I)V" } : Jvm.MethodName)) ∈ lw_all := lw_g (lw_at lw_m4 163 rfl) rfl
theorem q957 : (Jvm.Cond.privateMethod ({ cls := "java/util/ArrayList", name := "add", desc := "(Ljava/lang/Object;[Ljava/lang/Object;I)V" } : Jvm.MethodName)) ∈ lw_tbl := lw_at lw_m4 164 rfl
theorem q958 : (Jvm.Cond.instanceMethod ({ cls := "java/util/ArrayList", name := "add", desc := "(Ljava/lang/Object;[Ljava/lang/Object;I)V" } : Jvm.MethodName)) ∈ lw_all := lw_g (lw_at lw_m4 165 rfl) rfl
theorem q959 : (Jvm.Cond.code ({ cls := "java/util/ArrayList", name := "add", desc := "(Ljava/lang/Object;[Ljava/lang/Object;I)V" } : Jvm.MethodName) prog_25_method_24_code (4 : Nat) (Option.none : Option Jvm.ClassFile.FieldType)) ∈ lw_all := lw_g (lw_at lw_m4 166 rfl) rfl
theorem q960 : (Jvm.Cond.methodLink "java/util/ArrayList" (129 : Nat) ({ cls := "java/util/ArrayList", name := "grow", desc := "()[Ljava/lang/Object;" } : Jvm.MethodName)) ∈ lw_all := lw_g (lw_at lw_m4 167 rfl) rfl
theorem q961 : (Jvm.Cond.privateMethod ({ cls := "java/util/ArrayList", name := "grow", desc := "()[Ljava/lang/Object;" } : Jvm.MethodName)) ∈ lw_tbl := lw_at lw_m4 168 rfl
theorem q962 : (Jvm.Cond.instanceMethod ({ cls := "java/util/ArrayList", name := "grow", desc := "()[Ljava/lang/Object;" } : Jvm.MethodName)) ∈ lw_all := lw_g (lw_at lw_m4 169 rfl) rfl
theorem q963 : (Jvm.Cond.code ({ cls := "java/util/ArrayList", name := "grow", desc := "()[Ljava/lang/Object;" } : Jvm.MethodName) prog_25_method_7_code (1 : Nat) (Option.some (Jvm.ClassFile.FieldType.array (Jvm.ClassFile.FieldType.object "java/lang/Object")))) ∈ lw_all := lw_g (lw_at lw_m4 170 rfl) rfl
theorem q964 : (Jvm.Cond.methodLink "java/util/ArrayList" (69 : Nat) ({ cls := "java/util/ArrayList", name := "grow", desc := "(I)[Ljava/lang/Object;" } : Jvm.MethodName)) ∈ lw_all := lw_g (lw_at lw_m4 171 rfl) rfl
theorem q965 : (Jvm.Cond.privateMethod ({ cls := "java/util/ArrayList", name := "grow", desc := "(I)[Ljava/lang/Object;" } : Jvm.MethodName)) ∈ lw_tbl := lw_at lw_m4 172 rfl
theorem q966 : (Jvm.Cond.instanceMethod ({ cls := "java/util/ArrayList", name := "grow", desc := "(I)[Ljava/lang/Object;" } : Jvm.MethodName)) ∈ lw_all := lw_g (lw_at lw_m4 173 rfl) rfl
theorem q967 : (Jvm.Cond.code ({ cls := "java/util/ArrayList", name := "grow", desc := "(I)[Ljava/lang/Object;" } : Jvm.MethodName) prog_25_method_6_code (4 : Nat) (Option.some (Jvm.ClassFile.FieldType.array (Jvm.ClassFile.FieldType.object "java/lang/Object")))) ∈ lw_all := lw_g (lw_at lw_m4 174 rfl) rfl
theorem q968 : (Jvm.Cond.methodLink "java/util/ArrayList" (73 : Nat) ({ cls := "jdk/internal/util/ArraysSupport", name := "newLength", desc := "(III)I" } : Jvm.MethodName)) ∈ lw_all := lw_g (lw_at lw_m4 175 rfl) rfl
theorem q978 : (Jvm.Cond.methodLink "java/util/ArrayList" (66 : Nat) ({ cls := "java/util/Arrays", name := "copyOf", desc := "([Ljava/lang/Object;I)[Ljava/lang/Object;" } : Jvm.MethodName)) ∈ lw_all := lw_g (lw_at lw_m4 185 rfl) rfl
theorem q998 : (Jvm.Cond.selects "java/util/ArrayList" ({ cls := "java/lang/Object", name := "getClass", desc := "()Ljava/lang/Class;" } : Jvm.MethodName) ({ cls := "java/lang/Object", name := "getClass", desc := "()Ljava/lang/Class;" } : Jvm.MethodName)) ∈ lw_all := lw_g (lw_at lw_m4 205 rfl) rfl
theorem q1011 : (Jvm.Cond.methodLink "java/util/ArrayList" (79 : Nat) ({ cls := "java/lang/Math", name := "max", desc := "(II)I" } : Jvm.MethodName)) ∈ lw_all := lw_g (lw_at lw_m4 218 rfl) rfl
theorem q1012 : (Jvm.Cond.classLink "java/util/ArrayList" (7 : Nat) "java/lang/Object") ∈ lw_all := lw_g (lw_at lw_m4 219 rfl) rfl
theorem q1017 : (Jvm.Cond.selects "java/util/ArrayList" ({ cls := "java/util/List", name := "size", desc := "()I" } : Jvm.MethodName) ({ cls := "java/util/ArrayList", name := "size", desc := "()I" } : Jvm.MethodName)) ∈ lw_all := lw_g (lw_at lw_m4 224 rfl) rfl
theorem q1018 : (Jvm.Cond.unhidden "java/util/ArrayList" "size" "()I") ∈ lw_tbl := lw_at lw_m4 225 rfl
theorem q1019 : (Jvm.Cond.instanceMethod ({ cls := "java/util/ArrayList", name := "size", desc := "()I" } : Jvm.MethodName)) ∈ lw_all := lw_g (lw_at lw_m4 226 rfl) rfl
theorem q1020 : (Jvm.Cond.publicMethod ({ cls := "java/util/ArrayList", name := "size", desc := "()I" } : Jvm.MethodName)) ∈ lw_tbl := lw_at lw_m4 227 rfl
theorem q1021 : (Jvm.Cond.code ({ cls := "java/util/ArrayList", name := "size", desc := "()I" } : Jvm.MethodName) prog_25_method_8_code (1 : Nat) (Option.some Jvm.ClassFile.FieldType.int)) ∈ lw_all := lw_g (lw_at lw_m4 228 rfl) rfl
theorem q1609 : (Jvm.Cond.castable "java/util/ArrayList" "java/lang/Object") ∈ lw_tbl := lw_at lw_m7 96 rfl
theorem in_J5 : ∀ w ∈ wsJ50, w ∈ lw_all := lw_in wsJ50 [883, 879, 881] (by decide +kernel) (by decide +kernel)
def RJ6 : String := "java/util/ArrayList$Itr"
def TJ6 : u_T := fun k => match k with
  | 0 => ("java/util/ArrayList$Itr", "cursor", "I", false)
  | 1 => ("java/util/ArrayList$Itr", "lastRet", "I", false)
  | 2 => ("java/util/ArrayList$Itr", "expectedModCount", "I", false)
  | _ => ("java/util/ArrayList$Itr", "this$0", "Ljava/util/ArrayList;", true)
def tyJ6 : Nat → FieldType := fun k => match k with
  | 0 => .int
  | 1 => .int
  | 2 => .int
  | _ => .object "java/util/ArrayList"
abbrev wsJ60 : List Cond := u_ws RJ6 TJ6 4
theorem nmJ6 : ∀ a, a < 4 → ∀ b, b < 4 → a ≠ b → (TJ6 a).2.1 ≠ (TJ6 b).2.1 := by decide +kernel
theorem tyJ6_ok : ∀ k, k < 4 → parseFieldDescriptor (TJ6 k).2.2.1 = some (tyJ6 k) := by decide +kernel
abbrev cJ6_init : ByteArray := prog_26_method_1_code
def yJ6_init : MethodName := ⟨RJ6, "<init>", "(Ljava/util/ArrayList;)V"⟩
abbrev cJ6_hasNext : ByteArray := prog_26_method_2_code
def yJ6_hasNext : MethodName := ⟨RJ6, "hasNext", "()Z"⟩
abbrev cJ6_next : ByteArray := prog_26_method_3_code
def yJ6_next : MethodName := ⟨RJ6, "next", "()Ljava/lang/Object;"⟩
abbrev cJ6_checkForComodification : ByteArray := prog_26_method_6_code
def yJ6_checkForComodification : MethodName := ⟨RJ6, "checkForComodification", "()V"⟩
theorem q95 : (Jvm.Cond.initialized "java/util/ArrayList$Itr") ∈ lw_all := lw_g (lw_at lw_m1 22 rfl) rfl
theorem q872 : (Jvm.Cond.fieldLink "java/util/ArrayList$Itr" (37 : Nat) "java/util/ArrayList" "elementData" "[Ljava/lang/Object;") ∈ lw_all := lw_g (lw_at lw_m4 79 rfl) rfl
theorem q873 : (Jvm.Cond.fieldLinkNest "java/util/ArrayList$Itr" (28 : Nat) "java/util/ArrayList" "size" "I" "java/util/ArrayList") ∈ lw_tbl := lw_at lw_m4 80 rfl
theorem q876 : (Jvm.Cond.fieldLink "java/util/ArrayList$Itr" (17 : Nat) "java/util/ArrayList" "modCount" "I") ∈ lw_all := lw_g (lw_at lw_m4 83 rfl) rfl
theorem q906 : (Jvm.Cond.instantiable "java/util/ArrayList$Itr" (4 : Nat)) ∈ lw_all := lw_g (lw_at lw_m4 113 rfl) rfl
theorem q908 : (Jvm.Cond.instanceMethod ({ cls := "java/util/ArrayList$Itr", name := "<init>", desc := "(Ljava/util/ArrayList;)V" } : Jvm.MethodName)) ∈ lw_all := lw_g (lw_at lw_m4 115 rfl) rfl
theorem q909 : (Jvm.Cond.code ({ cls := "java/util/ArrayList$Itr", name := "<init>", desc := "(Ljava/util/ArrayList;)V" } : Jvm.MethodName) prog_26_method_1_code (2 : Nat) (Option.none : Option Jvm.ClassFile.FieldType)) ∈ lw_all := lw_g (lw_at lw_m4 116 rfl) rfl
theorem q910 : (Jvm.Cond.methodLink "java/util/ArrayList$Itr" (7 : Nat) ({ cls := "java/lang/Object", name := "<init>", desc := "()V" } : Jvm.MethodName)) ∈ lw_all := lw_g (lw_at lw_m4 117 rfl) rfl
theorem q911 : (Jvm.Cond.fieldLink "java/util/ArrayList$Itr" (25 : Nat) "java/util/ArrayList$Itr" "cursor" "I") ∈ lw_all := lw_g (lw_at lw_m4 118 rfl) rfl
theorem q912 : (Jvm.Cond.fieldLink "java/util/ArrayList$Itr" (13 : Nat) "java/util/ArrayList$Itr" "lastRet" "I") ∈ lw_all := lw_g (lw_at lw_m4 119 rfl) rfl
theorem q913 : (Jvm.Cond.fieldLink "java/util/ArrayList$Itr" (22 : Nat) "java/util/ArrayList$Itr" "expectedModCount" "I") ∈ lw_all := lw_g (lw_at lw_m4 120 rfl) rfl
theorem q914 : (Jvm.Cond.fieldLink "java/util/ArrayList$Itr" (1 : Nat) "java/util/ArrayList$Itr" "this$0" "Ljava/util/ArrayList;") ∈ lw_all := lw_g (lw_at lw_m4 121 rfl) rfl
theorem q915 : (Jvm.Cond.lays "java/util/ArrayList$Itr" "java/util/ArrayList$Itr" "cursor" "I") ∈ lw_all := lw_g (lw_at lw_m4 122 rfl) rfl
theorem q916 : (Jvm.Cond.soleField "java/util/ArrayList$Itr" "cursor") ∈ lw_all := lw_g (lw_at lw_m4 123 rfl) rfl
theorem q917 : (Jvm.Cond.lays "java/util/ArrayList$Itr" "java/util/ArrayList$Itr" "lastRet" "I") ∈ lw_all := lw_g (lw_at lw_m4 124 rfl) rfl
theorem q918 : (Jvm.Cond.soleField "java/util/ArrayList$Itr" "lastRet") ∈ lw_all := lw_g (lw_at lw_m4 125 rfl) rfl
theorem q919 : (Jvm.Cond.lays "java/util/ArrayList$Itr" "java/util/ArrayList$Itr" "expectedModCount" "I") ∈ lw_all := lw_g (lw_at lw_m4 126 rfl) rfl
theorem q920 : (Jvm.Cond.soleField "java/util/ArrayList$Itr" "expectedModCount") ∈ lw_all := lw_g (lw_at lw_m4 127 rfl) rfl
theorem q921 : (Jvm.Cond.laysFinal "java/util/ArrayList$Itr" "java/util/ArrayList$Itr" "this$0" "Ljava/util/ArrayList;") ∈ lw_all := lw_g (lw_at lw_m4 128 rfl) rfl
theorem q922 : (Jvm.Cond.soleField "java/util/ArrayList$Itr" "this$0") ∈ lw_all := lw_g (lw_at lw_m4 129 rfl) rfl
theorem q923 : (Jvm.Cond.superclass "java/util/ArrayList$Itr" "java/lang/Object") ∈ lw_all := lw_g (lw_at lw_m4 130 rfl) rfl
theorem q928 : (Jvm.Cond.castable "java/util/ArrayList$Itr" "java/util/Iterator") ∈ lw_tbl := lw_at lw_m4 135 rfl
theorem q929 : (Jvm.Cond.selects "java/util/ArrayList$Itr" ({ cls := "java/util/Iterator", name := "hasNext", desc := "()Z" } : Jvm.MethodName) ({ cls := "java/util/ArrayList$Itr", name := "hasNext", desc := "()Z" } : Jvm.MethodName)) ∈ lw_all := lw_g (lw_at lw_m4 136 rfl) rfl
theorem q930 : (Jvm.Cond.unhidden "java/util/ArrayList$Itr" "hasNext" "()Z") ∈ lw_tbl := lw_at lw_m4 137 rfl
theorem q931 : (Jvm.Cond.instanceMethod ({ cls := "java/util/ArrayList$Itr", name := "hasNext", desc := "()Z" } : Jvm.MethodName)) ∈ lw_all := lw_g (lw_at lw_m4 138 rfl) rfl
theorem q932 : (Jvm.Cond.publicMethod ({ cls := "java/util/ArrayList$Itr", name := "hasNext", desc := "()Z" } : Jvm.MethodName)) ∈ lw_tbl := lw_at lw_m4 139 rfl
theorem q933 : (Jvm.Cond.code ({ cls := "java/util/ArrayList$Itr", name := "hasNext", desc := "()Z" } : Jvm.MethodName) prog_26_method_2_code (1 : Nat) (Option.some Jvm.ClassFile.FieldType.boolean)) ∈ lw_all := lw_g (lw_at lw_m4 140 rfl) rfl
theorem q938 : (Jvm.Cond.selects "java/util/ArrayList$Itr" ({ cls := "java/util/Iterator", name := "next", desc := "()Ljava/lang/Object;" } : Jvm.MethodName) ({ cls := "java/util/ArrayList$Itr", name := "next", desc := "()Ljava/lang/Object;" } : Jvm.MethodName)) ∈ lw_all := lw_g (lw_at lw_m4 145 rfl) rfl
theorem q939 : (Jvm.Cond.unhidden "java/util/ArrayList$Itr" "next" "()Ljava/lang/Object;") ∈ lw_tbl := lw_at lw_m4 146 rfl
theorem q940 : (Jvm.Cond.instanceMethod ({ cls := "java/util/ArrayList$Itr", name := "next", desc := "()Ljava/lang/Object;" } : Jvm.MethodName)) ∈ lw_all := lw_g (lw_at lw_m4 147 rfl) rfl
theorem q941 : (Jvm.Cond.publicMethod ({ cls := "java/util/ArrayList$Itr", name := "next", desc := "()Ljava/lang/Object;" } : Jvm.MethodName)) ∈ lw_tbl := lw_at lw_m4 148 rfl
theorem q942 : (Jvm.Cond.code ({ cls := "java/util/ArrayList$Itr", name := "next", desc := "()Ljava/lang/Object;" } : Jvm.MethodName) prog_26_method_3_code (3 : Nat) (Option.some (Jvm.ClassFile.FieldType.object "java/lang/Object"))) ∈ lw_all := lw_g (lw_at lw_m4 149 rfl) rfl
theorem q943 : (Jvm.Cond.methodLink "java/util/ArrayList$Itr" (31 : Nat) ({ cls := "java/util/ArrayList$Itr", name := "checkForComodification", desc := "()V" } : Jvm.MethodName)) ∈ lw_all := lw_g (lw_at lw_m4 150 rfl) rfl
theorem q944 : (Jvm.Cond.instanceMethod ({ cls := "java/util/ArrayList$Itr", name := "checkForComodification", desc := "()V" } : Jvm.MethodName)) ∈ lw_all := lw_g (lw_at lw_m4 151 rfl) rfl
theorem q945 : (Jvm.Cond.selects "java/util/ArrayList$Itr" ({ cls := "java/util/ArrayList$Itr", name := "checkForComodification", desc := "()V" } : Jvm.MethodName) ({ cls := "java/util/ArrayList$Itr", name := "checkForComodification", desc := "()V" } : Jvm.MethodName)) ∈ lw_all := lw_g (lw_at lw_m4 152 rfl) rfl
theorem q946 : (Jvm.Cond.code ({ cls := "java/util/ArrayList$Itr", name := "checkForComodification", desc := "()V" } : Jvm.MethodName) prog_26_method_6_code (1 : Nat) (Option.none : Option Jvm.ClassFile.FieldType)) ∈ lw_all := lw_g (lw_at lw_m4 153 rfl) rfl
theorem q999 : (Jvm.Cond.selects "java/util/ArrayList$Itr" ({ cls := "java/lang/Object", name := "getClass", desc := "()Ljava/lang/Class;" } : Jvm.MethodName) ({ cls := "java/lang/Object", name := "getClass", desc := "()Ljava/lang/Class;" } : Jvm.MethodName)) ∈ lw_all := lw_g (lw_at lw_m4 206 rfl) rfl
theorem q1610 : (Jvm.Cond.castable "java/util/ArrayList$Itr" "java/lang/Object") ∈ lw_tbl := lw_at lw_m7 97 rfl
theorem in_J6 : ∀ w ∈ wsJ60, w ∈ lw_all := lw_in wsJ60 [915, 917, 919, 921] (by decide +kernel) (by decide +kernel)
def RJ7 : String := "jdk/internal/util/ArraysSupport"
abbrev cJ7_newLength : ByteArray := prog_33_method_27_code
def yJ7_newLength : MethodName := ⟨RJ7, "newLength", "(III)I"⟩
abbrev cJ7_hugeLength : ByteArray := prog_33_method_28_code
def yJ7_hugeLength : MethodName := ⟨RJ7, "hugeLength", "(II)I"⟩
theorem q96 : (Jvm.Cond.initialized "jdk/internal/util/ArraysSupport") ∈ lw_all := lw_g (lw_at lw_m1 23 rfl) rfl
theorem q969 : (Jvm.Cond.static ({ cls := "jdk/internal/util/ArraysSupport", name := "newLength", desc := "(III)I" } : Jvm.MethodName)) ∈ lw_all := lw_g (lw_at lw_m4 176 rfl) rfl
theorem q970 : (Jvm.Cond.code ({ cls := "jdk/internal/util/ArraysSupport", name := "newLength", desc := "(III)I" } : Jvm.MethodName) prog_33_method_27_code (4 : Nat) (Option.some Jvm.ClassFile.FieldType.int)) ∈ lw_all := lw_g (lw_at lw_m4 177 rfl) rfl
theorem q971 : (Jvm.Cond.methodLink "jdk/internal/util/ArraysSupport" (194 : Nat) ({ cls := "java/lang/Math", name := "max", desc := "(II)I" } : Jvm.MethodName)) ∈ lw_all := lw_g (lw_at lw_m4 178 rfl) rfl
theorem q974 : (Jvm.Cond.constant "jdk/internal/util/ArraysSupport" (200 : Nat) (2147483639 : Int32)) ∈ lw_all := lw_g (lw_at lw_m4 181 rfl) rfl
theorem q975 : (Jvm.Cond.methodLink "jdk/internal/util/ArraysSupport" (201 : Nat) ({ cls := "jdk/internal/util/ArraysSupport", name := "hugeLength", desc := "(II)I" } : Jvm.MethodName)) ∈ lw_all := lw_g (lw_at lw_m4 182 rfl) rfl
theorem q976 : (Jvm.Cond.static ({ cls := "jdk/internal/util/ArraysSupport", name := "hugeLength", desc := "(II)I" } : Jvm.MethodName)) ∈ lw_all := lw_g (lw_at lw_m4 183 rfl) rfl
theorem q977 : (Jvm.Cond.code ({ cls := "jdk/internal/util/ArraysSupport", name := "hugeLength", desc := "(II)I" } : Jvm.MethodName) prog_33_method_28_code (3 : Nat) (Option.some Jvm.ClassFile.FieldType.int)) ∈ lw_all := lw_g (lw_at lw_m4 184 rfl) rfl
def RJ8 : String := "java/lang/Object"
abbrev cJ8_init : ByteArray := object_method_1_code
def yJ8_init : MethodName := ⟨RJ8, "<init>", "()V"⟩
theorem q104 : (Jvm.Cond.instanceMethod ({ cls := "java/lang/Object", name := "<init>", desc := "()V" } : Jvm.MethodName)) ∈ lw_all := lw_g (lw_at lw_m1 31 rfl) rfl
theorem q105 : (Jvm.Cond.code ({ cls := "java/lang/Object", name := "<init>", desc := "()V" } : Jvm.MethodName) object_method_1_code (1 : Nat) (Option.none : Option Jvm.ClassFile.FieldType)) ∈ lw_all := lw_g (lw_at lw_m1 32 rfl) rfl
theorem q982 : (Jvm.Cond.instanceMethod ({ cls := "java/lang/Object", name := "getClass", desc := "()Ljava/lang/Class;" } : Jvm.MethodName)) ∈ lw_all := lw_g (lw_at lw_m4 189 rfl) rfl
theorem q983 : (Jvm.Cond.sameMethod "java/lang/Object" "java/lang/Object" "getClass" "()Ljava/lang/Class;") ∈ lw_all := lw_g (lw_at lw_m4 190 rfl) rfl
theorem q1000 : (Jvm.Cond.native ({ cls := "java/lang/Object", name := "getClass", desc := "()Ljava/lang/Class;" } : Jvm.MethodName)) ∈ lw_all := lw_g (lw_at lw_m4 207 rfl) rfl
theorem q1615 : (Jvm.Cond.declares ({ cls := "java/lang/Object", name := "getClass", desc := "()Ljava/lang/Class;" } : Jvm.MethodName)) ∈ lw_tbl := lw_at lw_m7 102 rfl
abbrev cL_law : ByteArray := code
def RX0 : String := "EvenBodies"
def TX0 : u_T := fun k => match k with
  | 0 => ("EvenBodies", "bodies", "[LEvenBodies$Body;", true)
  | 1 => ("EvenBodies", "lastNet", "LEvenBodies$Net;", false)
  | 2 => ("EvenBodies", "lastBody", "LEvenBodies$Body;", false)
  | 3 => ("EvenBodies", "lastRinged", "I", false)
  | 4 => ("EvenBodies", "lastGroup", "LEvenBodies$Group;", false)
  | _ => ("EvenBodies", "unlikes", "[I", true)
def tyX0 : Nat → FieldType := fun k => match k with
  | 0 => .array (.object "EvenBodies$Body")
  | 1 => .object "EvenBodies$Net"
  | 2 => .object "EvenBodies$Body"
  | 3 => .int
  | 4 => .object "EvenBodies$Group"
  | _ => .array .int
abbrev wsX00 : List Cond := u_ws RX0 TX0 6
theorem nmX0 : ∀ a, a < 6 → ∀ b, b < 6 → a ≠ b → (TX0 a).2.1 ≠ (TX0 b).2.1 := by decide +kernel
theorem tyX0_ok : ∀ k, k < 6 → parseFieldDescriptor (TX0 k).2.2.1 = some (tyX0 k) := by decide +kernel
abbrev cX0_init : ByteArray := prog_1_method_4_code
def yX0_init : MethodName := ⟨RX0, "<init>", "()V"⟩
abbrev cX0_body : ByteArray := prog_1_method_7_code
def yX0_body : MethodName := ⟨RX0, "body", "(II)I"⟩
abbrev cX0_isBody : ByteArray := prog_1_method_5_code
def yX0_isBody : MethodName := ⟨RX0, "isBody", "(I)Z"⟩
abbrev cX0_in : ByteArray := prog_1_method_1_code
def yX0_in : MethodName := ⟨RX0, "in", "(III)Z"⟩
abbrev cX0_angle : ByteArray := prog_1_method_8_code
def yX0_angle : MethodName := ⟨RX0, "angle", "(IIII)I"⟩
abbrev cX0_isMirror : ByteArray := prog_1_method_6_code
def yX0_isMirror : MethodName := ⟨RX0, "isMirror", "(II)Z"⟩
abbrev cX0_ring : ByteArray := prog_1_method_9_code
def yX0_ring : MethodName := ⟨RX0, "ring", "(II)I"⟩
abbrev cX0_order : ByteArray := prog_1_method_10_code
def yX0_order : MethodName := ⟨RX0, "order", "(III)I"⟩
abbrev cX0_about : ByteArray := prog_1_method_11_code
def yX0_about : MethodName := ⟨RX0, "about", "(III)I"⟩
abbrev cX0_size : ByteArray := prog_1_method_14_code
def yX0_size : MethodName := ⟨RX0, "size", "(I)I"⟩
abbrev cX0_why : ByteArray := prog_1_method_12_code
def yX0_why : MethodName := ⟨RX0, "why", "(IZ)I"⟩
abbrev cX0_cosine : ByteArray := prog_1_method_2_code
def yX0_cosine : MethodName := ⟨RX0, "cosine", "(I)I"⟩
abbrev cX0_root : ByteArray := prog_1_method_3_code
def yX0_root : MethodName := ⟨RX0, "root", "(I)I"⟩
abbrev cX0_length : ByteArray := prog_1_method_15_code
def yX0_length : MethodName := ⟨RX0, "length", "(II)I"⟩
abbrev cX0_isElement : ByteArray := prog_1_method_13_code
def yX0_isElement : MethodName := ⟨RX0, "isElement", "(II)Z"⟩
abbrev cX0_letter : ByteArray := prog_1_method_16_code
def yX0_letter : MethodName := ⟨RX0, "letter", "(III)I"⟩
abbrev cX0_element : ByteArray := prog_1_method_17_code
def yX0_element : MethodName := ⟨RX0, "element", "(II)I"⟩
abbrev cX0_product : ByteArray := prog_1_method_18_code
def yX0_product : MethodName := ⟨RX0, "product", "(III)I"⟩
abbrev cX0_inverse : ByteArray := prog_1_method_19_code
def yX0_inverse : MethodName := ⟨RX0, "inverse", "(II)I"⟩
abbrev cX0_turns : ByteArray := prog_1_method_20_code
def yX0_turns : MethodName := ⟨RX0, "turns", "(II)I"⟩
abbrev cX0_classSize : ByteArray := prog_1_method_22_code
def yX0_classSize : MethodName := ⟨RX0, "classSize", "(II)I"⟩
abbrev cX0_many : ByteArray := prog_1_method_21_code
def yX0_many : MethodName := ⟨RX0, "many", "([Z)I"⟩
abbrev cX0_ofLength : ByteArray := prog_1_method_23_code
def yX0_ofLength : MethodName := ⟨RX0, "ofLength", "(II)I"⟩
abbrev cX0_mirrors : ByteArray := prog_1_method_24_code
def yX0_mirrors : MethodName := ⟨RX0, "mirrors", "(I)I"⟩
abbrev cX0_kinds : ByteArray := prog_1_method_27_code
def yX0_kinds : MethodName := ⟨RX0, "kinds", "(II)I"⟩
abbrev cX0_isWidth : ByteArray := prog_1_method_26_code
def yX0_isWidth : MethodName := ⟨RX0, "isWidth", "(II)Z"⟩
abbrev cX0_kindOf : ByteArray := prog_1_method_25_code
def yX0_kindOf : MethodName := ⟨RX0, "kindOf", "(LEvenBodies$Body;II)I"⟩
abbrev cX0_kind : ByteArray := prog_1_method_28_code
def yX0_kind : MethodName := ⟨RX0, "kind", "(III)I"⟩
abbrev cX0_parts : ByteArray := prog_1_method_31_code
def yX0_parts : MethodName := ⟨RX0, "parts", "(II)I"⟩
abbrev cX0_isKind : ByteArray := prog_1_method_29_code
def yX0_isKind : MethodName := ⟨RX0, "isKind", "(II)Z"⟩
abbrev cX0_partOf : ByteArray := prog_1_method_32_code
def yX0_partOf : MethodName := ⟨RX0, "partOf", "(III)I"⟩
abbrev cX0_least : ByteArray := prog_1_method_33_code
def yX0_least : MethodName := ⟨RX0, "least", "(III)I"⟩
abbrev cX0_isPart : ByteArray := prog_1_method_30_code
def yX0_isPart : MethodName := ⟨RX0, "isPart", "(III)Z"⟩
abbrev cX0_corners : ByteArray := prog_1_method_34_code
def yX0_corners : MethodName := ⟨RX0, "corners", "(III)I"⟩
abbrev cX0_cornerOf : ByteArray := prog_1_method_35_code
def yX0_cornerOf : MethodName := ⟨RX0, "cornerOf", "(IIII)I"⟩
abbrev cX0_liesIn : ByteArray := prog_1_method_37_code
def yX0_liesIn : MethodName := ⟨RX0, "liesIn", "(IIIII)I"⟩
abbrev cX0_isWithin : ByteArray := prog_1_method_36_code
def yX0_isWithin : MethodName := ⟨RX0, "isWithin", "(II)Z"⟩
abbrev cX0_within : ByteArray := prog_1_method_38_code
def yX0_within : MethodName := ⟨RX0, "within", "(IIII)I"⟩
abbrev cX0_count : ByteArray := prog_1_method_40_code
def yX0_count : MethodName := ⟨RX0, "count", "(II)I"⟩
abbrev cX0_countOf : ByteArray := prog_1_method_39_code
def yX0_countOf : MethodName := ⟨RX0, "countOf", "(LEvenBodies$Body;I)I"⟩
abbrev cX0_law : ByteArray := prog_1_method_41_code
def yX0_law : MethodName := ⟨RX0, "law", "(I)I"⟩
abbrev cX0_moves : ByteArray := prog_1_method_43_code
def yX0_moves : MethodName := ⟨RX0, "moves", "(III)I"⟩
abbrev cX0_isCorner : ByteArray := prog_1_method_42_code
def yX0_isCorner : MethodName := ⟨RX0, "isCorner", "(II)Z"⟩
abbrev cX0_degree : ByteArray := prog_1_method_44_code
def yX0_degree : MethodName := ⟨RX0, "degree", "(II)I"⟩
abbrev cX0_netOf : ByteArray := prog_1_method_46_code
def yX0_netOf : MethodName := ⟨RX0, "netOf", "(I)LEvenBodies$Net;"⟩
abbrev cX0_far : ByteArray := prog_1_method_45_code
def yX0_far : MethodName := ⟨RX0, "far", "(III)I"⟩
abbrev cX0_layer : ByteArray := prog_1_method_47_code
def yX0_layer : MethodName := ⟨RX0, "layer", "(II)I"⟩
abbrev cX0_ways : ByteArray := prog_1_method_48_code
def yX0_ways : MethodName := ⟨RX0, "ways", "(IIII)J"⟩
abbrev cX0_coloured : ByteArray := prog_1_method_49_code
def yX0_coloured : MethodName := ⟨RX0, "coloured", "(I)I"⟩
abbrev cX0_round : ByteArray := prog_1_method_51_code
def yX0_round : MethodName := ⟨RX0, "round", "(II)I"⟩
abbrev cX0_whyHull : ByteArray := prog_1_method_50_code
def yX0_whyHull : MethodName := ⟨RX0, "whyHull", "(IZ)I"⟩
abbrev cX0_alike : ByteArray := prog_1_method_52_code
def yX0_alike : MethodName := ⟨RX0, "alike", "(II)I"⟩
abbrev cX0_unlike : ByteArray := prog_1_method_53_code
def yX0_unlike : MethodName := ⟨RX0, "unlike", "(I)I"⟩
abbrev cX0_snub : ByteArray := prog_1_method_55_code
def yX0_snub : MethodName := ⟨RX0, "snub", "(II)I"⟩
abbrev cX0_snubOf : ByteArray := prog_1_method_54_code
def yX0_snubOf : MethodName := ⟨RX0, "snubOf", "(I)LEvenBodies$Snub;"⟩
abbrev cX0_snubLaw : ByteArray := prog_1_method_56_code
def yX0_snubLaw : MethodName := ⟨RX0, "snubLaw", "(I)I"⟩
abbrev cX0_snubDegree : ByteArray := prog_1_method_58_code
def yX0_snubDegree : MethodName := ⟨RX0, "snubDegree", "(II)I"⟩
abbrev cX0_isHalfCorner : ByteArray := prog_1_method_57_code
def yX0_isHalfCorner : MethodName := ⟨RX0, "isHalfCorner", "(II)Z"⟩
abbrev cX0_snubFar : ByteArray := prog_1_method_59_code
def yX0_snubFar : MethodName := ⟨RX0, "snubFar", "(III)I"⟩
abbrev cX0_snubFaces : ByteArray := prog_1_method_60_code
def yX0_snubFaces : MethodName := ⟨RX0, "snubFaces", "(II)I"⟩
abbrev cX0_dual : ByteArray := prog_1_method_61_code
def yX0_dual : MethodName := ⟨RX0, "dual", "(II)I"⟩
abbrev cX0_dualDegree : ByteArray := prog_1_method_62_code
def yX0_dualDegree : MethodName := ⟨RX0, "dualDegree", "(II)I"⟩
abbrev cX0_dualFar : ByteArray := prog_1_method_63_code
def yX0_dualFar : MethodName := ⟨RX0, "dualFar", "(I)I"⟩
abbrev cX0_digest : ByteArray := prog_1_method_64_code
def yX0_digest : MethodName := ⟨RX0, "digest", "()J"⟩
theorem q74 : (Jvm.Cond.initialized "EvenBodies") ∈ lw_all := lw_g (lw_at lw_m1 1 rfl) rfl
theorem q99 : (Jvm.Cond.instantiable "EvenBodies" (6 : Nat)) ∈ lw_all := lw_g (lw_at lw_m1 26 rfl) rfl
theorem q101 : (Jvm.Cond.instanceMethod ({ cls := "EvenBodies", name := "<init>", desc := "()V" } : Jvm.MethodName)) ∈ lw_all := lw_g (lw_at lw_m1 28 rfl) rfl
theorem q102 : (Jvm.Cond.code ({ cls := "EvenBodies", name := "<init>", desc := "()V" } : Jvm.MethodName) prog_1_method_4_code (2 : Nat) (Option.none : Option Jvm.ClassFile.FieldType)) ∈ lw_all := lw_g (lw_at lw_m1 29 rfl) rfl
theorem q103 : (Jvm.Cond.methodLink "EvenBodies" (7 : Nat) ({ cls := "java/lang/Object", name := "<init>", desc := "()V" } : Jvm.MethodName)) ∈ lw_all := lw_g (lw_at lw_m1 30 rfl) rfl
theorem q106 : (Jvm.Cond.classLink "EvenBodies" (13 : Nat) "EvenBodies$Body") ∈ lw_all := lw_g (lw_at lw_m1 33 rfl) rfl
theorem q109 : (Jvm.Cond.methodLink "EvenBodies" (23 : Nat) ({ cls := "EvenBodies$Body", name := "<init>", desc := "(I)V" } : Jvm.MethodName)) ∈ lw_all := lw_g (lw_at lw_m1 36 rfl) rfl
theorem q122 : (Jvm.Cond.fieldLinkNest "EvenBodies" (34 : Nat) "EvenBodies$Body" "mirrors" "I" "EvenBodies") ∈ lw_tbl := lw_at lw_m1 49 rfl
theorem q124 : (Jvm.Cond.fieldLinkNest "EvenBodies" (56 : Nat) "EvenBodies$Body" "angles" "[I" "EvenBodies") ∈ lw_tbl := lw_at lw_m1 51 rfl
theorem q127 : (Jvm.Cond.fieldLinkNest "EvenBodies" (50 : Nat) "EvenBodies$Body" "ringed" "I" "EvenBodies") ∈ lw_tbl := lw_at lw_m1 54 rfl
theorem q132 : (Jvm.Cond.fieldLinkNest "EvenBodies" (148 : Nat) "EvenBodies$Body" "group" "LEvenBodies$Group;" "EvenBodies") ∈ lw_tbl := lw_at lw_m1 59 rfl
theorem q138 : (Jvm.Cond.fieldLinkNest "EvenBodies" (235 : Nat) "EvenBodies$Body" "snub" "LEvenBodies$Snub;" "EvenBodies") ∈ lw_tbl := lw_at lw_m1 65 rfl
theorem q159 : (Jvm.Cond.fieldLink "EvenBodies" (15 : Nat) "EvenBodies" "bodies" "[LEvenBodies$Body;") ∈ lw_all := lw_g (lw_at lw_m1 86 rfl) rfl
theorem q160 : (Jvm.Cond.fieldLink "EvenBodies" (179 : Nat) "EvenBodies" "lastNet" "LEvenBodies$Net;") ∈ lw_all := lw_g (lw_at lw_m1 87 rfl) rfl
theorem q161 : (Jvm.Cond.fieldLink "EvenBodies" (164 : Nat) "EvenBodies" "lastBody" "LEvenBodies$Body;") ∈ lw_all := lw_g (lw_at lw_m1 88 rfl) rfl
theorem q162 : (Jvm.Cond.fieldLink "EvenBodies" (168 : Nat) "EvenBodies" "lastRinged" "I") ∈ lw_all := lw_g (lw_at lw_m1 89 rfl) rfl
theorem q163 : (Jvm.Cond.fieldLink "EvenBodies" (171 : Nat) "EvenBodies" "lastGroup" "LEvenBodies$Group;") ∈ lw_all := lw_g (lw_at lw_m1 90 rfl) rfl
theorem q164 : (Jvm.Cond.fieldLink "EvenBodies" (19 : Nat) "EvenBodies" "unlikes" "[I") ∈ lw_all := lw_g (lw_at lw_m1 91 rfl) rfl
theorem q165 : (Jvm.Cond.laysFinal "EvenBodies" "EvenBodies" "bodies" "[LEvenBodies$Body;") ∈ lw_all := lw_g (lw_at lw_m1 92 rfl) rfl
theorem q166 : (Jvm.Cond.soleField "EvenBodies" "bodies") ∈ lw_all := lw_g (lw_at lw_m1 93 rfl) rfl
theorem q167 : (Jvm.Cond.lays "EvenBodies" "EvenBodies" "lastNet" "LEvenBodies$Net;") ∈ lw_all := lw_g (lw_at lw_m1 94 rfl) rfl
theorem q168 : (Jvm.Cond.soleField "EvenBodies" "lastNet") ∈ lw_all := lw_g (lw_at lw_m1 95 rfl) rfl
theorem q169 : (Jvm.Cond.lays "EvenBodies" "EvenBodies" "lastBody" "LEvenBodies$Body;") ∈ lw_all := lw_g (lw_at lw_m1 96 rfl) rfl
theorem q170 : (Jvm.Cond.soleField "EvenBodies" "lastBody") ∈ lw_all := lw_g (lw_at lw_m1 97 rfl) rfl
theorem q171 : (Jvm.Cond.lays "EvenBodies" "EvenBodies" "lastRinged" "I") ∈ lw_all := lw_g (lw_at lw_m1 98 rfl) rfl
theorem q172 : (Jvm.Cond.soleField "EvenBodies" "lastRinged") ∈ lw_all := lw_g (lw_at lw_m1 99 rfl) rfl
theorem q173 : (Jvm.Cond.lays "EvenBodies" "EvenBodies" "lastGroup" "LEvenBodies$Group;") ∈ lw_all := lw_g (lw_at lw_m1 100 rfl) rfl
theorem q174 : (Jvm.Cond.soleField "EvenBodies" "lastGroup") ∈ lw_all := lw_g (lw_at lw_m1 101 rfl) rfl
theorem q175 : (Jvm.Cond.laysFinal "EvenBodies" "EvenBodies" "unlikes" "[I") ∈ lw_all := lw_g (lw_at lw_m1 102 rfl) rfl
theorem q176 : (Jvm.Cond.soleField "EvenBodies" "unlikes") ∈ lw_all := lw_g (lw_at lw_m1 103 rfl) rfl
theorem q177 : (Jvm.Cond.superclass "EvenBodies" "java/lang/Object") ∈ lw_all := lw_g (lw_at lw_m1 104 rfl) rfl
theorem q179 : (Jvm.Cond.instanceMethod ({ cls := "EvenBodies", name := "body", desc := "(II)I" } : Jvm.MethodName)) ∈ lw_all := lw_g (lw_at lw_m1 106 rfl) rfl
theorem q180 : (Jvm.Cond.selects "EvenBodies" ({ cls := "EvenBodies", name := "body", desc := "(II)I" } : Jvm.MethodName) ({ cls := "EvenBodies", name := "body", desc := "(II)I" } : Jvm.MethodName)) ∈ lw_all := lw_g (lw_at lw_m1 107 rfl) rfl
theorem q181 : (Jvm.Cond.code ({ cls := "EvenBodies", name := "body", desc := "(II)I" } : Jvm.MethodName) prog_1_method_7_code (3 : Nat) (Option.some Jvm.ClassFile.FieldType.int)) ∈ lw_all := lw_g (lw_at lw_m1 108 rfl) rfl
theorem q182 : (Jvm.Cond.methodLink "EvenBodies" (30 : Nat) ({ cls := "EvenBodies", name := "isBody", desc := "(I)Z" } : Jvm.MethodName)) ∈ lw_all := lw_g (lw_at lw_m1 109 rfl) rfl
theorem q183 : (Jvm.Cond.static ({ cls := "EvenBodies", name := "isBody", desc := "(I)Z" } : Jvm.MethodName)) ∈ lw_all := lw_g (lw_at lw_m1 110 rfl) rfl
theorem q184 : (Jvm.Cond.code ({ cls := "EvenBodies", name := "isBody", desc := "(I)Z" } : Jvm.MethodName) prog_1_method_5_code (1 : Nat) (Option.some Jvm.ClassFile.FieldType.boolean)) ∈ lw_all := lw_g (lw_at lw_m1 111 rfl) rfl
theorem q185 : (Jvm.Cond.methodLink "EvenBodies" (26 : Nat) ({ cls := "EvenBodies", name := "in", desc := "(III)Z" } : Jvm.MethodName)) ∈ lw_all := lw_g (lw_at lw_m1 112 rfl) rfl
theorem q186 : (Jvm.Cond.static ({ cls := "EvenBodies", name := "in", desc := "(III)Z" } : Jvm.MethodName)) ∈ lw_all := lw_g (lw_at lw_m1 113 rfl) rfl
theorem q187 : (Jvm.Cond.code ({ cls := "EvenBodies", name := "in", desc := "(III)Z" } : Jvm.MethodName) prog_1_method_1_code (3 : Nat) (Option.some Jvm.ClassFile.FieldType.boolean)) ∈ lw_all := lw_g (lw_at lw_m1 114 rfl) rfl
theorem q189 : (Jvm.Cond.instanceMethod ({ cls := "EvenBodies", name := "angle", desc := "(IIII)I" } : Jvm.MethodName)) ∈ lw_all := lw_g (lw_at lw_m1 116 rfl) rfl
theorem q190 : (Jvm.Cond.selects "EvenBodies" ({ cls := "EvenBodies", name := "angle", desc := "(IIII)I" } : Jvm.MethodName) ({ cls := "EvenBodies", name := "angle", desc := "(IIII)I" } : Jvm.MethodName)) ∈ lw_all := lw_g (lw_at lw_m1 117 rfl) rfl
theorem q191 : (Jvm.Cond.code ({ cls := "EvenBodies", name := "angle", desc := "(IIII)I" } : Jvm.MethodName) prog_1_method_8_code (5 : Nat) (Option.some Jvm.ClassFile.FieldType.int)) ∈ lw_all := lw_g (lw_at lw_m1 118 rfl) rfl
theorem q192 : (Jvm.Cond.methodLink "EvenBodies" (38 : Nat) ({ cls := "EvenBodies", name := "isMirror", desc := "(II)Z" } : Jvm.MethodName)) ∈ lw_all := lw_g (lw_at lw_m1 119 rfl) rfl
theorem q193 : (Jvm.Cond.privateMethod ({ cls := "EvenBodies", name := "isMirror", desc := "(II)Z" } : Jvm.MethodName)) ∈ lw_tbl := lw_at lw_m1 120 rfl
theorem q194 : (Jvm.Cond.instanceMethod ({ cls := "EvenBodies", name := "isMirror", desc := "(II)Z" } : Jvm.MethodName)) ∈ lw_all := lw_g (lw_at lw_m1 121 rfl) rfl
theorem q195 : (Jvm.Cond.code ({ cls := "EvenBodies", name := "isMirror", desc := "(II)Z" } : Jvm.MethodName) prog_1_method_6_code (3 : Nat) (Option.some Jvm.ClassFile.FieldType.boolean)) ∈ lw_all := lw_g (lw_at lw_m1 122 rfl) rfl
theorem q196 : (Jvm.Cond.methodLink "EvenBodies" (42 : Nat) ({ cls := "EvenBodies$Body", name := "turns", desc := "(III)I" } : Jvm.MethodName)) ∈ lw_all := lw_g (lw_at lw_m1 123 rfl) rfl
theorem q212 : (Jvm.Cond.instanceMethod ({ cls := "EvenBodies", name := "ring", desc := "(II)I" } : Jvm.MethodName)) ∈ lw_all := lw_g (lw_at lw_m1 139 rfl) rfl
theorem q213 : (Jvm.Cond.selects "EvenBodies" ({ cls := "EvenBodies", name := "ring", desc := "(II)I" } : Jvm.MethodName) ({ cls := "EvenBodies", name := "ring", desc := "(II)I" } : Jvm.MethodName)) ∈ lw_all := lw_g (lw_at lw_m1 140 rfl) rfl
theorem q214 : (Jvm.Cond.code ({ cls := "EvenBodies", name := "ring", desc := "(II)I" } : Jvm.MethodName) prog_1_method_9_code (4 : Nat) (Option.some Jvm.ClassFile.FieldType.int)) ∈ lw_all := lw_g (lw_at lw_m1 141 rfl) rfl
theorem q215 : (Jvm.Cond.methodLink "EvenBodies" (46 : Nat) ({ cls := "EvenBodies$Body", name := "all", desc := "()I" } : Jvm.MethodName)) ∈ lw_all := lw_g (lw_at lw_m1 142 rfl) rfl
theorem q219 : (Jvm.Cond.methodLink "EvenBodies" (53 : Nat) ({ cls := "EvenBodies$Body", name := "forgets", desc := "()V" } : Jvm.MethodName)) ∈ lw_all := lw_g (lw_at lw_m1 146 rfl) rfl
theorem q221 : (Jvm.Cond.instanceMethod ({ cls := "EvenBodies", name := "order", desc := "(III)I" } : Jvm.MethodName)) ∈ lw_all := lw_g (lw_at lw_m1 148 rfl) rfl
theorem q222 : (Jvm.Cond.selects "EvenBodies" ({ cls := "EvenBodies", name := "order", desc := "(III)I" } : Jvm.MethodName) ({ cls := "EvenBodies", name := "order", desc := "(III)I" } : Jvm.MethodName)) ∈ lw_all := lw_g (lw_at lw_m1 149 rfl) rfl
theorem q223 : (Jvm.Cond.code ({ cls := "EvenBodies", name := "order", desc := "(III)I" } : Jvm.MethodName) prog_1_method_10_code (12 : Nat) (Option.some Jvm.ClassFile.FieldType.int)) ∈ lw_all := lw_g (lw_at lw_m1 150 rfl) rfl
theorem q224 : (Jvm.Cond.methodLink "EvenBodies" (59 : Nat) ({ cls := "EvenBodies$Body", name := "angle", desc := "(II)I" } : Jvm.MethodName)) ∈ lw_all := lw_g (lw_at lw_m1 151 rfl) rfl
theorem q226 : (Jvm.Cond.instanceMethod ({ cls := "EvenBodies", name := "about", desc := "(III)I" } : Jvm.MethodName)) ∈ lw_all := lw_g (lw_at lw_m1 153 rfl) rfl
theorem q227 : (Jvm.Cond.selects "EvenBodies" ({ cls := "EvenBodies", name := "about", desc := "(III)I" } : Jvm.MethodName) ({ cls := "EvenBodies", name := "about", desc := "(III)I" } : Jvm.MethodName)) ∈ lw_all := lw_g (lw_at lw_m1 154 rfl) rfl
theorem q228 : (Jvm.Cond.code ({ cls := "EvenBodies", name := "about", desc := "(III)I" } : Jvm.MethodName) prog_1_method_11_code (4 : Nat) (Option.some Jvm.ClassFile.FieldType.int)) ∈ lw_all := lw_g (lw_at lw_m1 155 rfl) rfl
theorem q229 : (Jvm.Cond.methodLink "EvenBodies" (63 : Nat) ({ cls := "EvenBodies$Body", name := "joined", desc := "(I)I" } : Jvm.MethodName)) ∈ lw_all := lw_g (lw_at lw_m1 156 rfl) rfl
theorem q234 : (Jvm.Cond.instanceMethod ({ cls := "EvenBodies", name := "size", desc := "(I)I" } : Jvm.MethodName)) ∈ lw_all := lw_g (lw_at lw_m1 161 rfl) rfl
theorem q235 : (Jvm.Cond.selects "EvenBodies" ({ cls := "EvenBodies", name := "size", desc := "(I)I" } : Jvm.MethodName) ({ cls := "EvenBodies", name := "size", desc := "(I)I" } : Jvm.MethodName)) ∈ lw_all := lw_g (lw_at lw_m1 162 rfl) rfl
theorem q236 : (Jvm.Cond.code ({ cls := "EvenBodies", name := "size", desc := "(I)I" } : Jvm.MethodName) prog_1_method_14_code (3 : Nat) (Option.some Jvm.ClassFile.FieldType.int)) ∈ lw_all := lw_g (lw_at lw_m1 163 rfl) rfl
theorem q237 : (Jvm.Cond.methodLink "EvenBodies" (75 : Nat) ({ cls := "EvenBodies", name := "why", desc := "(IZ)I" } : Jvm.MethodName)) ∈ lw_all := lw_g (lw_at lw_m1 164 rfl) rfl
theorem q238 : (Jvm.Cond.privateMethod ({ cls := "EvenBodies", name := "why", desc := "(IZ)I" } : Jvm.MethodName)) ∈ lw_tbl := lw_at lw_m1 165 rfl
theorem q239 : (Jvm.Cond.instanceMethod ({ cls := "EvenBodies", name := "why", desc := "(IZ)I" } : Jvm.MethodName)) ∈ lw_all := lw_g (lw_at lw_m1 166 rfl) rfl
theorem q240 : (Jvm.Cond.code ({ cls := "EvenBodies", name := "why", desc := "(IZ)I" } : Jvm.MethodName) prog_1_method_12_code (3 : Nat) (Option.some Jvm.ClassFile.FieldType.int)) ∈ lw_all := lw_g (lw_at lw_m1 167 rfl) rfl
theorem q241 : (Jvm.Cond.methodLink "EvenBodies" (66 : Nat) ({ cls := "EvenBodies$Body", name := "group", desc := "()LEvenBodies$Group;" } : Jvm.MethodName)) ∈ lw_all := lw_g (lw_at lw_m1 168 rfl) rfl
theorem q346 : (Jvm.Cond.static ({ cls := "EvenBodies", name := "cosine", desc := "(I)I" } : Jvm.MethodName)) ∈ lw_all := lw_g (lw_at lw_m2 33 rfl) rfl
theorem q347 : (Jvm.Cond.code ({ cls := "EvenBodies", name := "cosine", desc := "(I)I" } : Jvm.MethodName) prog_1_method_2_code (1 : Nat) (Option.some Jvm.ClassFile.FieldType.int)) ∈ lw_all := lw_g (lw_at lw_m2 34 rfl) rfl
theorem q348 : (Jvm.Cond.methodLink "EvenBodies" (1 : Nat) ({ cls := "EvenBodies", name := "root", desc := "(I)I" } : Jvm.MethodName)) ∈ lw_all := lw_g (lw_at lw_m2 35 rfl) rfl
theorem q349 : (Jvm.Cond.static ({ cls := "EvenBodies", name := "root", desc := "(I)I" } : Jvm.MethodName)) ∈ lw_all := lw_g (lw_at lw_m2 36 rfl) rfl
theorem q350 : (Jvm.Cond.code ({ cls := "EvenBodies", name := "root", desc := "(I)I" } : Jvm.MethodName) prog_1_method_3_code (2 : Nat) (Option.some Jvm.ClassFile.FieldType.int)) ∈ lw_all := lw_g (lw_at lw_m2 37 rfl) rfl
theorem q390 : (Jvm.Cond.fieldLinkNest "EvenBodies" (104 : Nat) "EvenBodies$Group" "mirrors" "I" "EvenBodies") ∈ lw_tbl := lw_at lw_m2 77 rfl
theorem q396 : (Jvm.Cond.fieldLinkNest "EvenBodies" (70 : Nat) "EvenBodies$Group" "n" "I" "EvenBodies") ∈ lw_tbl := lw_at lw_m2 83 rfl
theorem q401 : (Jvm.Cond.fieldLinkNest "EvenBodies" (82 : Nat) "EvenBodies$Group" "length" "[B" "EvenBodies") ∈ lw_tbl := lw_at lw_m2 88 rfl
theorem q416 : (Jvm.Cond.instanceMethod ({ cls := "EvenBodies", name := "length", desc := "(II)I" } : Jvm.MethodName)) ∈ lw_all := lw_g (lw_at lw_m2 103 rfl) rfl
theorem q417 : (Jvm.Cond.selects "EvenBodies" ({ cls := "EvenBodies", name := "length", desc := "(II)I" } : Jvm.MethodName) ({ cls := "EvenBodies", name := "length", desc := "(II)I" } : Jvm.MethodName)) ∈ lw_all := lw_g (lw_at lw_m2 104 rfl) rfl
theorem q418 : (Jvm.Cond.code ({ cls := "EvenBodies", name := "length", desc := "(II)I" } : Jvm.MethodName) prog_1_method_15_code (4 : Nat) (Option.some Jvm.ClassFile.FieldType.int)) ∈ lw_all := lw_g (lw_at lw_m2 105 rfl) rfl
theorem q419 : (Jvm.Cond.methodLink "EvenBodies" (79 : Nat) ({ cls := "EvenBodies", name := "isElement", desc := "(II)Z" } : Jvm.MethodName)) ∈ lw_all := lw_g (lw_at lw_m2 106 rfl) rfl
theorem q420 : (Jvm.Cond.privateMethod ({ cls := "EvenBodies", name := "isElement", desc := "(II)Z" } : Jvm.MethodName)) ∈ lw_tbl := lw_at lw_m2 107 rfl
theorem q421 : (Jvm.Cond.instanceMethod ({ cls := "EvenBodies", name := "isElement", desc := "(II)Z" } : Jvm.MethodName)) ∈ lw_all := lw_g (lw_at lw_m2 108 rfl) rfl
theorem q422 : (Jvm.Cond.code ({ cls := "EvenBodies", name := "isElement", desc := "(II)Z" } : Jvm.MethodName) prog_1_method_13_code (3 : Nat) (Option.some Jvm.ClassFile.FieldType.boolean)) ∈ lw_all := lw_g (lw_at lw_m2 109 rfl) rfl
theorem q424 : (Jvm.Cond.instanceMethod ({ cls := "EvenBodies", name := "letter", desc := "(III)I" } : Jvm.MethodName)) ∈ lw_all := lw_g (lw_at lw_m2 111 rfl) rfl
theorem q425 : (Jvm.Cond.selects "EvenBodies" ({ cls := "EvenBodies", name := "letter", desc := "(III)I" } : Jvm.MethodName) ({ cls := "EvenBodies", name := "letter", desc := "(III)I" } : Jvm.MethodName)) ∈ lw_all := lw_g (lw_at lw_m2 112 rfl) rfl
theorem q426 : (Jvm.Cond.code ({ cls := "EvenBodies", name := "letter", desc := "(III)I" } : Jvm.MethodName) prog_1_method_16_code (6 : Nat) (Option.some Jvm.ClassFile.FieldType.int)) ∈ lw_all := lw_g (lw_at lw_m2 113 rfl) rfl
theorem q427 : (Jvm.Cond.methodLink "EvenBodies" (86 : Nat) ({ cls := "EvenBodies$Group", name := "letter", desc := "(II)I" } : Jvm.MethodName)) ∈ lw_all := lw_g (lw_at lw_m2 114 rfl) rfl
theorem q432 : (Jvm.Cond.instanceMethod ({ cls := "EvenBodies", name := "element", desc := "(II)I" } : Jvm.MethodName)) ∈ lw_all := lw_g (lw_at lw_m2 119 rfl) rfl
theorem q433 : (Jvm.Cond.selects "EvenBodies" ({ cls := "EvenBodies", name := "element", desc := "(II)I" } : Jvm.MethodName) ({ cls := "EvenBodies", name := "element", desc := "(II)I" } : Jvm.MethodName)) ∈ lw_all := lw_g (lw_at lw_m2 120 rfl) rfl
theorem q434 : (Jvm.Cond.code ({ cls := "EvenBodies", name := "element", desc := "(II)I" } : Jvm.MethodName) prog_1_method_17_code (8 : Nat) (Option.some Jvm.ClassFile.FieldType.int)) ∈ lw_all := lw_g (lw_at lw_m2 121 rfl) rfl
theorem q435 : (Jvm.Cond.methodLink "EvenBodies" (89 : Nat) ({ cls := "EvenBodies$Group", name := "by", desc := "(II)I" } : Jvm.MethodName)) ∈ lw_all := lw_g (lw_at lw_m2 122 rfl) rfl
theorem q440 : (Jvm.Cond.instanceMethod ({ cls := "EvenBodies", name := "product", desc := "(III)I" } : Jvm.MethodName)) ∈ lw_all := lw_g (lw_at lw_m2 127 rfl) rfl
theorem q441 : (Jvm.Cond.selects "EvenBodies" ({ cls := "EvenBodies", name := "product", desc := "(III)I" } : Jvm.MethodName) ({ cls := "EvenBodies", name := "product", desc := "(III)I" } : Jvm.MethodName)) ∈ lw_all := lw_g (lw_at lw_m2 128 rfl) rfl
theorem q442 : (Jvm.Cond.code ({ cls := "EvenBodies", name := "product", desc := "(III)I" } : Jvm.MethodName) prog_1_method_18_code (5 : Nat) (Option.some Jvm.ClassFile.FieldType.int)) ∈ lw_all := lw_g (lw_at lw_m2 129 rfl) rfl
theorem q443 : (Jvm.Cond.methodLink "EvenBodies" (92 : Nat) ({ cls := "EvenBodies$Group", name := "product", desc := "(II)I" } : Jvm.MethodName)) ∈ lw_all := lw_g (lw_at lw_m2 130 rfl) rfl
theorem q450 : (Jvm.Cond.instanceMethod ({ cls := "EvenBodies", name := "inverse", desc := "(II)I" } : Jvm.MethodName)) ∈ lw_all := lw_g (lw_at lw_m2 137 rfl) rfl
theorem q451 : (Jvm.Cond.selects "EvenBodies" ({ cls := "EvenBodies", name := "inverse", desc := "(II)I" } : Jvm.MethodName) ({ cls := "EvenBodies", name := "inverse", desc := "(II)I" } : Jvm.MethodName)) ∈ lw_all := lw_g (lw_at lw_m2 138 rfl) rfl
theorem q452 : (Jvm.Cond.code ({ cls := "EvenBodies", name := "inverse", desc := "(II)I" } : Jvm.MethodName) prog_1_method_19_code (4 : Nat) (Option.some Jvm.ClassFile.FieldType.int)) ∈ lw_all := lw_g (lw_at lw_m2 139 rfl) rfl
theorem q453 : (Jvm.Cond.methodLink "EvenBodies" (95 : Nat) ({ cls := "EvenBodies$Group", name := "inverse", desc := "(I)I" } : Jvm.MethodName)) ∈ lw_all := lw_g (lw_at lw_m2 140 rfl) rfl
theorem q458 : (Jvm.Cond.instanceMethod ({ cls := "EvenBodies", name := "turns", desc := "(II)I" } : Jvm.MethodName)) ∈ lw_all := lw_g (lw_at lw_m2 145 rfl) rfl
theorem q459 : (Jvm.Cond.selects "EvenBodies" ({ cls := "EvenBodies", name := "turns", desc := "(II)I" } : Jvm.MethodName) ({ cls := "EvenBodies", name := "turns", desc := "(II)I" } : Jvm.MethodName)) ∈ lw_all := lw_g (lw_at lw_m2 146 rfl) rfl
theorem q460 : (Jvm.Cond.code ({ cls := "EvenBodies", name := "turns", desc := "(II)I" } : Jvm.MethodName) prog_1_method_20_code (4 : Nat) (Option.some Jvm.ClassFile.FieldType.int)) ∈ lw_all := lw_g (lw_at lw_m2 147 rfl) rfl
theorem q461 : (Jvm.Cond.methodLink "EvenBodies" (98 : Nat) ({ cls := "EvenBodies$Group", name := "turns", desc := "(I)I" } : Jvm.MethodName)) ∈ lw_all := lw_g (lw_at lw_m2 148 rfl) rfl
theorem q466 : (Jvm.Cond.instanceMethod ({ cls := "EvenBodies", name := "classSize", desc := "(II)I" } : Jvm.MethodName)) ∈ lw_all := lw_g (lw_at lw_m2 153 rfl) rfl
theorem q467 : (Jvm.Cond.selects "EvenBodies" ({ cls := "EvenBodies", name := "classSize", desc := "(II)I" } : Jvm.MethodName) ({ cls := "EvenBodies", name := "classSize", desc := "(II)I" } : Jvm.MethodName)) ∈ lw_all := lw_g (lw_at lw_m2 154 rfl) rfl
theorem q468 : (Jvm.Cond.code ({ cls := "EvenBodies", name := "classSize", desc := "(II)I" } : Jvm.MethodName) prog_1_method_22_code (7 : Nat) (Option.some Jvm.ClassFile.FieldType.int)) ∈ lw_all := lw_g (lw_at lw_m2 155 rfl) rfl
theorem q469 : (Jvm.Cond.methodLink "EvenBodies" (100 : Nat) ({ cls := "EvenBodies", name := "many", desc := "([Z)I" } : Jvm.MethodName)) ∈ lw_all := lw_g (lw_at lw_m2 156 rfl) rfl
theorem q470 : (Jvm.Cond.static ({ cls := "EvenBodies", name := "many", desc := "([Z)I" } : Jvm.MethodName)) ∈ lw_all := lw_g (lw_at lw_m2 157 rfl) rfl
theorem q471 : (Jvm.Cond.code ({ cls := "EvenBodies", name := "many", desc := "([Z)I" } : Jvm.MethodName) prog_1_method_21_code (6 : Nat) (Option.some Jvm.ClassFile.FieldType.int)) ∈ lw_all := lw_g (lw_at lw_m2 158 rfl) rfl
theorem q474 : (Jvm.Cond.instanceMethod ({ cls := "EvenBodies", name := "ofLength", desc := "(II)I" } : Jvm.MethodName)) ∈ lw_all := lw_g (lw_at lw_m2 161 rfl) rfl
theorem q475 : (Jvm.Cond.selects "EvenBodies" ({ cls := "EvenBodies", name := "ofLength", desc := "(II)I" } : Jvm.MethodName) ({ cls := "EvenBodies", name := "ofLength", desc := "(II)I" } : Jvm.MethodName)) ∈ lw_all := lw_g (lw_at lw_m2 162 rfl) rfl
theorem q476 : (Jvm.Cond.code ({ cls := "EvenBodies", name := "ofLength", desc := "(II)I" } : Jvm.MethodName) prog_1_method_23_code (7 : Nat) (Option.some Jvm.ClassFile.FieldType.int)) ∈ lw_all := lw_g (lw_at lw_m2 163 rfl) rfl
theorem q478 : (Jvm.Cond.instanceMethod ({ cls := "EvenBodies", name := "mirrors", desc := "(I)I" } : Jvm.MethodName)) ∈ lw_all := lw_g (lw_at lw_m2 165 rfl) rfl
theorem q479 : (Jvm.Cond.selects "EvenBodies" ({ cls := "EvenBodies", name := "mirrors", desc := "(I)I" } : Jvm.MethodName) ({ cls := "EvenBodies", name := "mirrors", desc := "(I)I" } : Jvm.MethodName)) ∈ lw_all := lw_g (lw_at lw_m2 166 rfl) rfl
theorem q480 : (Jvm.Cond.code ({ cls := "EvenBodies", name := "mirrors", desc := "(I)I" } : Jvm.MethodName) prog_1_method_24_code (7 : Nat) (Option.some Jvm.ClassFile.FieldType.int)) ∈ lw_all := lw_g (lw_at lw_m2 167 rfl) rfl
theorem q482 : (Jvm.Cond.instanceMethod ({ cls := "EvenBodies", name := "kinds", desc := "(II)I" } : Jvm.MethodName)) ∈ lw_all := lw_g (lw_at lw_m2 169 rfl) rfl
theorem q483 : (Jvm.Cond.selects "EvenBodies" ({ cls := "EvenBodies", name := "kinds", desc := "(II)I" } : Jvm.MethodName) ({ cls := "EvenBodies", name := "kinds", desc := "(II)I" } : Jvm.MethodName)) ∈ lw_all := lw_g (lw_at lw_m2 170 rfl) rfl
theorem q484 : (Jvm.Cond.code ({ cls := "EvenBodies", name := "kinds", desc := "(II)I" } : Jvm.MethodName) prog_1_method_27_code (4 : Nat) (Option.some Jvm.ClassFile.FieldType.int)) ∈ lw_all := lw_g (lw_at lw_m2 171 rfl) rfl
theorem q485 : (Jvm.Cond.methodLink "EvenBodies" (113 : Nat) ({ cls := "EvenBodies", name := "isWidth", desc := "(II)Z" } : Jvm.MethodName)) ∈ lw_all := lw_g (lw_at lw_m2 172 rfl) rfl
theorem q486 : (Jvm.Cond.privateMethod ({ cls := "EvenBodies", name := "isWidth", desc := "(II)Z" } : Jvm.MethodName)) ∈ lw_tbl := lw_at lw_m2 173 rfl
theorem q487 : (Jvm.Cond.instanceMethod ({ cls := "EvenBodies", name := "isWidth", desc := "(II)Z" } : Jvm.MethodName)) ∈ lw_all := lw_g (lw_at lw_m2 174 rfl) rfl
theorem q488 : (Jvm.Cond.code ({ cls := "EvenBodies", name := "isWidth", desc := "(II)Z" } : Jvm.MethodName) prog_1_method_26_code (3 : Nat) (Option.some Jvm.ClassFile.FieldType.boolean)) ∈ lw_all := lw_g (lw_at lw_m2 175 rfl) rfl
theorem q489 : (Jvm.Cond.methodLink "EvenBodies" (116 : Nat) ({ cls := "EvenBodies", name := "kindOf", desc := "(LEvenBodies$Body;II)I" } : Jvm.MethodName)) ∈ lw_all := lw_g (lw_at lw_m2 176 rfl) rfl
theorem q490 : (Jvm.Cond.privateMethod ({ cls := "EvenBodies", name := "kindOf", desc := "(LEvenBodies$Body;II)I" } : Jvm.MethodName)) ∈ lw_tbl := lw_at lw_m2 177 rfl
theorem q491 : (Jvm.Cond.instanceMethod ({ cls := "EvenBodies", name := "kindOf", desc := "(LEvenBodies$Body;II)I" } : Jvm.MethodName)) ∈ lw_all := lw_g (lw_at lw_m2 178 rfl) rfl
theorem q492 : (Jvm.Cond.code ({ cls := "EvenBodies", name := "kindOf", desc := "(LEvenBodies$Body;II)I" } : Jvm.MethodName) prog_1_method_25_code (6 : Nat) (Option.some Jvm.ClassFile.FieldType.int)) ∈ lw_all := lw_g (lw_at lw_m2 179 rfl) rfl
theorem q493 : (Jvm.Cond.methodLink "EvenBodies" (105 : Nat) ({ cls := "java/lang/Integer", name := "bitCount", desc := "(I)I" } : Jvm.MethodName)) ∈ lw_all := lw_g (lw_at lw_m2 180 rfl) rfl
theorem q494 : (Jvm.Cond.methodLink "EvenBodies" (110 : Nat) ({ cls := "EvenBodies$Body", name := "isKind", desc := "(I)Z" } : Jvm.MethodName)) ∈ lw_all := lw_g (lw_at lw_m2 181 rfl) rfl
theorem q499 : (Jvm.Cond.instanceMethod ({ cls := "EvenBodies", name := "kind", desc := "(III)I" } : Jvm.MethodName)) ∈ lw_all := lw_g (lw_at lw_m2 186 rfl) rfl
theorem q500 : (Jvm.Cond.selects "EvenBodies" ({ cls := "EvenBodies", name := "kind", desc := "(III)I" } : Jvm.MethodName) ({ cls := "EvenBodies", name := "kind", desc := "(III)I" } : Jvm.MethodName)) ∈ lw_all := lw_g (lw_at lw_m2 187 rfl) rfl
theorem q501 : (Jvm.Cond.code ({ cls := "EvenBodies", name := "kind", desc := "(III)I" } : Jvm.MethodName) prog_1_method_28_code (4 : Nat) (Option.some Jvm.ClassFile.FieldType.int)) ∈ lw_all := lw_g (lw_at lw_m2 188 rfl) rfl
theorem q503 : (Jvm.Cond.instanceMethod ({ cls := "EvenBodies", name := "parts", desc := "(II)I" } : Jvm.MethodName)) ∈ lw_all := lw_g (lw_at lw_m2 190 rfl) rfl
theorem q504 : (Jvm.Cond.selects "EvenBodies" ({ cls := "EvenBodies", name := "parts", desc := "(II)I" } : Jvm.MethodName) ({ cls := "EvenBodies", name := "parts", desc := "(II)I" } : Jvm.MethodName)) ∈ lw_all := lw_g (lw_at lw_m2 191 rfl) rfl
theorem q505 : (Jvm.Cond.code ({ cls := "EvenBodies", name := "parts", desc := "(II)I" } : Jvm.MethodName) prog_1_method_31_code (4 : Nat) (Option.some Jvm.ClassFile.FieldType.int)) ∈ lw_all := lw_g (lw_at lw_m2 192 rfl) rfl
theorem q506 : (Jvm.Cond.methodLink "EvenBodies" (120 : Nat) ({ cls := "EvenBodies", name := "isKind", desc := "(II)Z" } : Jvm.MethodName)) ∈ lw_all := lw_g (lw_at lw_m2 193 rfl) rfl
theorem q507 : (Jvm.Cond.privateMethod ({ cls := "EvenBodies", name := "isKind", desc := "(II)Z" } : Jvm.MethodName)) ∈ lw_tbl := lw_at lw_m2 194 rfl
theorem q508 : (Jvm.Cond.instanceMethod ({ cls := "EvenBodies", name := "isKind", desc := "(II)Z" } : Jvm.MethodName)) ∈ lw_all := lw_g (lw_at lw_m2 195 rfl) rfl
theorem q509 : (Jvm.Cond.code ({ cls := "EvenBodies", name := "isKind", desc := "(II)Z" } : Jvm.MethodName) prog_1_method_29_code (3 : Nat) (Option.some Jvm.ClassFile.FieldType.boolean)) ∈ lw_all := lw_g (lw_at lw_m2 196 rfl) rfl
theorem q510 : (Jvm.Cond.methodLink "EvenBodies" (122 : Nat) ({ cls := "EvenBodies$Body", name := "many", desc := "(I)I" } : Jvm.MethodName)) ∈ lw_all := lw_g (lw_at lw_m2 197 rfl) rfl
theorem q527 : (Jvm.Cond.instanceMethod ({ cls := "EvenBodies", name := "partOf", desc := "(III)I" } : Jvm.MethodName)) ∈ lw_all := lw_g (lw_at lw_m2 214 rfl) rfl
theorem q528 : (Jvm.Cond.selects "EvenBodies" ({ cls := "EvenBodies", name := "partOf", desc := "(III)I" } : Jvm.MethodName) ({ cls := "EvenBodies", name := "partOf", desc := "(III)I" } : Jvm.MethodName)) ∈ lw_all := lw_g (lw_at lw_m2 215 rfl) rfl
theorem q529 : (Jvm.Cond.code ({ cls := "EvenBodies", name := "partOf", desc := "(III)I" } : Jvm.MethodName) prog_1_method_32_code (5 : Nat) (Option.some Jvm.ClassFile.FieldType.int)) ∈ lw_all := lw_g (lw_at lw_m2 216 rfl) rfl
theorem q530 : (Jvm.Cond.methodLink "EvenBodies" (124 : Nat) ({ cls := "EvenBodies$Body", name := "parts", desc := "(I)[S" } : Jvm.MethodName)) ∈ lw_all := lw_g (lw_at lw_m2 217 rfl) rfl
theorem q532 : (Jvm.Cond.instanceMethod ({ cls := "EvenBodies", name := "least", desc := "(III)I" } : Jvm.MethodName)) ∈ lw_all := lw_g (lw_at lw_m2 219 rfl) rfl
theorem q533 : (Jvm.Cond.selects "EvenBodies" ({ cls := "EvenBodies", name := "least", desc := "(III)I" } : Jvm.MethodName) ({ cls := "EvenBodies", name := "least", desc := "(III)I" } : Jvm.MethodName)) ∈ lw_all := lw_g (lw_at lw_m2 220 rfl) rfl
theorem q534 : (Jvm.Cond.code ({ cls := "EvenBodies", name := "least", desc := "(III)I" } : Jvm.MethodName) prog_1_method_33_code (5 : Nat) (Option.some Jvm.ClassFile.FieldType.int)) ∈ lw_all := lw_g (lw_at lw_m2 221 rfl) rfl
theorem q535 : (Jvm.Cond.methodLink "EvenBodies" (128 : Nat) ({ cls := "EvenBodies", name := "isPart", desc := "(III)Z" } : Jvm.MethodName)) ∈ lw_all := lw_g (lw_at lw_m2 222 rfl) rfl
theorem q536 : (Jvm.Cond.privateMethod ({ cls := "EvenBodies", name := "isPart", desc := "(III)Z" } : Jvm.MethodName)) ∈ lw_tbl := lw_at lw_m2 223 rfl
theorem q537 : (Jvm.Cond.instanceMethod ({ cls := "EvenBodies", name := "isPart", desc := "(III)Z" } : Jvm.MethodName)) ∈ lw_all := lw_g (lw_at lw_m2 224 rfl) rfl
theorem q538 : (Jvm.Cond.code ({ cls := "EvenBodies", name := "isPart", desc := "(III)Z" } : Jvm.MethodName) prog_1_method_30_code (4 : Nat) (Option.some Jvm.ClassFile.FieldType.boolean)) ∈ lw_all := lw_g (lw_at lw_m2 225 rfl) rfl
theorem q539 : (Jvm.Cond.methodLink "EvenBodies" (131 : Nat) ({ cls := "EvenBodies$Body", name := "least", desc := "(II)I" } : Jvm.MethodName)) ∈ lw_all := lw_g (lw_at lw_m2 226 rfl) rfl
theorem q544 : (Jvm.Cond.instanceMethod ({ cls := "EvenBodies", name := "corners", desc := "(III)I" } : Jvm.MethodName)) ∈ lw_all := lw_g (lw_at lw_m2 231 rfl) rfl
theorem q545 : (Jvm.Cond.selects "EvenBodies" ({ cls := "EvenBodies", name := "corners", desc := "(III)I" } : Jvm.MethodName) ({ cls := "EvenBodies", name := "corners", desc := "(III)I" } : Jvm.MethodName)) ∈ lw_all := lw_g (lw_at lw_m2 232 rfl) rfl
theorem q546 : (Jvm.Cond.code ({ cls := "EvenBodies", name := "corners", desc := "(III)I" } : Jvm.MethodName) prog_1_method_34_code (5 : Nat) (Option.some Jvm.ClassFile.FieldType.int)) ∈ lw_all := lw_g (lw_at lw_m2 233 rfl) rfl
theorem q547 : (Jvm.Cond.methodLink "EvenBodies" (134 : Nat) ({ cls := "EvenBodies$Body", name := "meets", desc := "(III)[Z" } : Jvm.MethodName)) ∈ lw_all := lw_g (lw_at lw_m2 234 rfl) rfl
theorem q553 : (Jvm.Cond.instanceMethod ({ cls := "EvenBodies", name := "cornerOf", desc := "(IIII)I" } : Jvm.MethodName)) ∈ lw_all := lw_g (lw_at lw_m3 0 rfl) rfl
theorem q554 : (Jvm.Cond.selects "EvenBodies" ({ cls := "EvenBodies", name := "cornerOf", desc := "(IIII)I" } : Jvm.MethodName) ({ cls := "EvenBodies", name := "cornerOf", desc := "(IIII)I" } : Jvm.MethodName)) ∈ lw_all := lw_g (lw_at lw_m3 1 rfl) rfl
theorem q555 : (Jvm.Cond.code ({ cls := "EvenBodies", name := "cornerOf", desc := "(IIII)I" } : Jvm.MethodName) prog_1_method_35_code (9 : Nat) (Option.some Jvm.ClassFile.FieldType.int)) ∈ lw_all := lw_g (lw_at lw_m3 2 rfl) rfl
theorem q557 : (Jvm.Cond.instanceMethod ({ cls := "EvenBodies", name := "liesIn", desc := "(IIIII)I" } : Jvm.MethodName)) ∈ lw_all := lw_g (lw_at lw_m3 4 rfl) rfl
theorem q558 : (Jvm.Cond.selects "EvenBodies" ({ cls := "EvenBodies", name := "liesIn", desc := "(IIIII)I" } : Jvm.MethodName) ({ cls := "EvenBodies", name := "liesIn", desc := "(IIIII)I" } : Jvm.MethodName)) ∈ lw_all := lw_g (lw_at lw_m3 5 rfl) rfl
theorem q559 : (Jvm.Cond.code ({ cls := "EvenBodies", name := "liesIn", desc := "(IIIII)I" } : Jvm.MethodName) prog_1_method_37_code (7 : Nat) (Option.some Jvm.ClassFile.FieldType.int)) ∈ lw_all := lw_g (lw_at lw_m3 6 rfl) rfl
theorem q560 : (Jvm.Cond.methodLink "EvenBodies" (138 : Nat) ({ cls := "EvenBodies", name := "isWithin", desc := "(II)Z" } : Jvm.MethodName)) ∈ lw_all := lw_g (lw_at lw_m3 7 rfl) rfl
theorem q561 : (Jvm.Cond.static ({ cls := "EvenBodies", name := "isWithin", desc := "(II)Z" } : Jvm.MethodName)) ∈ lw_all := lw_g (lw_at lw_m3 8 rfl) rfl
theorem q562 : (Jvm.Cond.code ({ cls := "EvenBodies", name := "isWithin", desc := "(II)Z" } : Jvm.MethodName) prog_1_method_36_code (2 : Nat) (Option.some Jvm.ClassFile.FieldType.boolean)) ∈ lw_all := lw_g (lw_at lw_m3 9 rfl) rfl
theorem q564 : (Jvm.Cond.instanceMethod ({ cls := "EvenBodies", name := "within", desc := "(IIII)I" } : Jvm.MethodName)) ∈ lw_all := lw_g (lw_at lw_m3 11 rfl) rfl
theorem q565 : (Jvm.Cond.selects "EvenBodies" ({ cls := "EvenBodies", name := "within", desc := "(IIII)I" } : Jvm.MethodName) ({ cls := "EvenBodies", name := "within", desc := "(IIII)I" } : Jvm.MethodName)) ∈ lw_all := lw_g (lw_at lw_m3 12 rfl) rfl
theorem q566 : (Jvm.Cond.code ({ cls := "EvenBodies", name := "within", desc := "(IIII)I" } : Jvm.MethodName) prog_1_method_38_code (6 : Nat) (Option.some Jvm.ClassFile.FieldType.int)) ∈ lw_all := lw_g (lw_at lw_m3 13 rfl) rfl
theorem q568 : (Jvm.Cond.instanceMethod ({ cls := "EvenBodies", name := "count", desc := "(II)I" } : Jvm.MethodName)) ∈ lw_all := lw_g (lw_at lw_m3 15 rfl) rfl
theorem q569 : (Jvm.Cond.selects "EvenBodies" ({ cls := "EvenBodies", name := "count", desc := "(II)I" } : Jvm.MethodName) ({ cls := "EvenBodies", name := "count", desc := "(II)I" } : Jvm.MethodName)) ∈ lw_all := lw_g (lw_at lw_m3 16 rfl) rfl
theorem q570 : (Jvm.Cond.code ({ cls := "EvenBodies", name := "count", desc := "(II)I" } : Jvm.MethodName) prog_1_method_40_code (4 : Nat) (Option.some Jvm.ClassFile.FieldType.int)) ∈ lw_all := lw_g (lw_at lw_m3 17 rfl) rfl
theorem q571 : (Jvm.Cond.methodLink "EvenBodies" (141 : Nat) ({ cls := "EvenBodies", name := "countOf", desc := "(LEvenBodies$Body;I)I" } : Jvm.MethodName)) ∈ lw_all := lw_g (lw_at lw_m3 18 rfl) rfl
theorem q572 : (Jvm.Cond.privateMethod ({ cls := "EvenBodies", name := "countOf", desc := "(LEvenBodies$Body;I)I" } : Jvm.MethodName)) ∈ lw_tbl := lw_at lw_m3 19 rfl
theorem q573 : (Jvm.Cond.instanceMethod ({ cls := "EvenBodies", name := "countOf", desc := "(LEvenBodies$Body;I)I" } : Jvm.MethodName)) ∈ lw_all := lw_g (lw_at lw_m3 20 rfl) rfl
theorem q574 : (Jvm.Cond.code ({ cls := "EvenBodies", name := "countOf", desc := "(LEvenBodies$Body;I)I" } : Jvm.MethodName) prog_1_method_39_code (5 : Nat) (Option.some Jvm.ClassFile.FieldType.int)) ∈ lw_all := lw_g (lw_at lw_m3 21 rfl) rfl
theorem q576 : (Jvm.Cond.instanceMethod ({ cls := "EvenBodies", name := "law", desc := "(I)I" } : Jvm.MethodName)) ∈ lw_all := lw_g (lw_at lw_m3 23 rfl) rfl
theorem q577 : (Jvm.Cond.selects "EvenBodies" ({ cls := "EvenBodies", name := "law", desc := "(I)I" } : Jvm.MethodName) ({ cls := "EvenBodies", name := "law", desc := "(I)I" } : Jvm.MethodName)) ∈ lw_all := lw_g (lw_at lw_m3 24 rfl) rfl
theorem q578 : (Jvm.Cond.code ({ cls := "EvenBodies", name := "law", desc := "(I)I" } : Jvm.MethodName) prog_1_method_41_code (5 : Nat) (Option.some Jvm.ClassFile.FieldType.int)) ∈ lw_all := lw_g (lw_at lw_m3 25 rfl) rfl
theorem q580 : (Jvm.Cond.instanceMethod ({ cls := "EvenBodies", name := "moves", desc := "(III)I" } : Jvm.MethodName)) ∈ lw_all := lw_g (lw_at lw_m3 27 rfl) rfl
theorem q581 : (Jvm.Cond.selects "EvenBodies" ({ cls := "EvenBodies", name := "moves", desc := "(III)I" } : Jvm.MethodName) ({ cls := "EvenBodies", name := "moves", desc := "(III)I" } : Jvm.MethodName)) ∈ lw_all := lw_g (lw_at lw_m3 28 rfl) rfl
theorem q582 : (Jvm.Cond.code ({ cls := "EvenBodies", name := "moves", desc := "(III)I" } : Jvm.MethodName) prog_1_method_43_code (6 : Nat) (Option.some Jvm.ClassFile.FieldType.int)) ∈ lw_all := lw_g (lw_at lw_m3 29 rfl) rfl
theorem q583 : (Jvm.Cond.methodLink "EvenBodies" (145 : Nat) ({ cls := "EvenBodies", name := "isCorner", desc := "(II)Z" } : Jvm.MethodName)) ∈ lw_all := lw_g (lw_at lw_m3 30 rfl) rfl
theorem q584 : (Jvm.Cond.privateMethod ({ cls := "EvenBodies", name := "isCorner", desc := "(II)Z" } : Jvm.MethodName)) ∈ lw_tbl := lw_at lw_m3 31 rfl
theorem q585 : (Jvm.Cond.instanceMethod ({ cls := "EvenBodies", name := "isCorner", desc := "(II)Z" } : Jvm.MethodName)) ∈ lw_all := lw_g (lw_at lw_m3 32 rfl) rfl
theorem q586 : (Jvm.Cond.code ({ cls := "EvenBodies", name := "isCorner", desc := "(II)Z" } : Jvm.MethodName) prog_1_method_42_code (3 : Nat) (Option.some Jvm.ClassFile.FieldType.boolean)) ∈ lw_all := lw_g (lw_at lw_m3 33 rfl) rfl
theorem q588 : (Jvm.Cond.instanceMethod ({ cls := "EvenBodies", name := "degree", desc := "(II)I" } : Jvm.MethodName)) ∈ lw_all := lw_g (lw_at lw_m3 35 rfl) rfl
theorem q589 : (Jvm.Cond.selects "EvenBodies" ({ cls := "EvenBodies", name := "degree", desc := "(II)I" } : Jvm.MethodName) ({ cls := "EvenBodies", name := "degree", desc := "(II)I" } : Jvm.MethodName)) ∈ lw_all := lw_g (lw_at lw_m3 36 rfl) rfl
theorem q590 : (Jvm.Cond.code ({ cls := "EvenBodies", name := "degree", desc := "(II)I" } : Jvm.MethodName) prog_1_method_44_code (4 : Nat) (Option.some Jvm.ClassFile.FieldType.int)) ∈ lw_all := lw_g (lw_at lw_m3 37 rfl) rfl
theorem q591 : (Jvm.Cond.methodLink "EvenBodies" (151 : Nat) ({ cls := "EvenBodies", name := "netOf", desc := "(I)LEvenBodies$Net;" } : Jvm.MethodName)) ∈ lw_all := lw_g (lw_at lw_m3 38 rfl) rfl
theorem q592 : (Jvm.Cond.privateMethod ({ cls := "EvenBodies", name := "netOf", desc := "(I)LEvenBodies$Net;" } : Jvm.MethodName)) ∈ lw_tbl := lw_at lw_m3 39 rfl
theorem q593 : (Jvm.Cond.instanceMethod ({ cls := "EvenBodies", name := "netOf", desc := "(I)LEvenBodies$Net;" } : Jvm.MethodName)) ∈ lw_all := lw_g (lw_at lw_m3 40 rfl) rfl
theorem q594 : (Jvm.Cond.code ({ cls := "EvenBodies", name := "netOf", desc := "(I)LEvenBodies$Net;" } : Jvm.MethodName) prog_1_method_46_code (3 : Nat) (Option.some (Jvm.ClassFile.FieldType.object "EvenBodies$Net"))) ∈ lw_all := lw_g (lw_at lw_m3 41 rfl) rfl
theorem q595 : (Jvm.Cond.classLink "EvenBodies" (174 : Nat) "EvenBodies$Corners") ∈ lw_all := lw_g (lw_at lw_m3 42 rfl) rfl
theorem q597 : (Jvm.Cond.methodLink "EvenBodies" (176 : Nat) ({ cls := "EvenBodies$Corners", name := "<init>", desc := "(LEvenBodies$Body;)V" } : Jvm.MethodName)) ∈ lw_all := lw_g (lw_at lw_m3 44 rfl) rfl
theorem q634 : (Jvm.Cond.fieldLink "EvenBodies" (183 : Nat) "EvenBodies$Net" "n" "I") ∈ lw_all := lw_g (lw_at lw_m3 81 rfl) rfl
theorem q635 : (Jvm.Cond.fieldLink "EvenBodies" (246 : Nat) "EvenBodies$Snub" "n" "I") ∈ lw_all := lw_g (lw_at lw_m3 82 rfl) rfl
theorem q648 : (Jvm.Cond.methodLink "EvenBodies" (155 : Nat) ({ cls := "EvenBodies$Net", name := "degree", desc := "(I)I" } : Jvm.MethodName)) ∈ lw_all := lw_g (lw_at lw_m3 95 rfl) rfl
theorem q656 : (Jvm.Cond.instanceMethod ({ cls := "EvenBodies", name := "far", desc := "(III)I" } : Jvm.MethodName)) ∈ lw_all := lw_g (lw_at lw_m3 103 rfl) rfl
theorem q657 : (Jvm.Cond.selects "EvenBodies" ({ cls := "EvenBodies", name := "far", desc := "(III)I" } : Jvm.MethodName) ({ cls := "EvenBodies", name := "far", desc := "(III)I" } : Jvm.MethodName)) ∈ lw_all := lw_g (lw_at lw_m3 104 rfl) rfl
theorem q658 : (Jvm.Cond.code ({ cls := "EvenBodies", name := "far", desc := "(III)I" } : Jvm.MethodName) prog_1_method_45_code (5 : Nat) (Option.some Jvm.ClassFile.FieldType.int)) ∈ lw_all := lw_g (lw_at lw_m3 105 rfl) rfl
theorem q659 : (Jvm.Cond.methodLink "EvenBodies" (160 : Nat) ({ cls := "EvenBodies$Net", name := "far", desc := "(I)[I" } : Jvm.MethodName)) ∈ lw_all := lw_g (lw_at lw_m3 106 rfl) rfl
theorem q668 : (Jvm.Cond.instanceMethod ({ cls := "EvenBodies", name := "layer", desc := "(II)I" } : Jvm.MethodName)) ∈ lw_all := lw_g (lw_at lw_m3 115 rfl) rfl
theorem q669 : (Jvm.Cond.selects "EvenBodies" ({ cls := "EvenBodies", name := "layer", desc := "(II)I" } : Jvm.MethodName) ({ cls := "EvenBodies", name := "layer", desc := "(II)I" } : Jvm.MethodName)) ∈ lw_all := lw_g (lw_at lw_m3 116 rfl) rfl
theorem q670 : (Jvm.Cond.code ({ cls := "EvenBodies", name := "layer", desc := "(II)I" } : Jvm.MethodName) prog_1_method_47_code (9 : Nat) (Option.some Jvm.ClassFile.FieldType.int)) ∈ lw_all := lw_g (lw_at lw_m3 117 rfl) rfl
theorem q672 : (Jvm.Cond.instanceMethod ({ cls := "EvenBodies", name := "ways", desc := "(IIII)J" } : Jvm.MethodName)) ∈ lw_all := lw_g (lw_at lw_m3 119 rfl) rfl
theorem q673 : (Jvm.Cond.selects "EvenBodies" ({ cls := "EvenBodies", name := "ways", desc := "(IIII)J" } : Jvm.MethodName) ({ cls := "EvenBodies", name := "ways", desc := "(IIII)J" } : Jvm.MethodName)) ∈ lw_all := lw_g (lw_at lw_m3 120 rfl) rfl
theorem q674 : (Jvm.Cond.code ({ cls := "EvenBodies", name := "ways", desc := "(IIII)J" } : Jvm.MethodName) prog_1_method_48_code (12 : Nat) (Option.some Jvm.ClassFile.FieldType.long)) ∈ lw_all := lw_g (lw_at lw_m3 121 rfl) rfl
theorem q675 : (Jvm.Cond.methodLink "EvenBodies" (184 : Nat) ({ cls := "EvenBodies$Net", name := "at", desc := "(II)I" } : Jvm.MethodName)) ∈ lw_all := lw_g (lw_at lw_m3 122 rfl) rfl
theorem q678 : (Jvm.Cond.instanceMethod ({ cls := "EvenBodies", name := "coloured", desc := "(I)I" } : Jvm.MethodName)) ∈ lw_all := lw_g (lw_at lw_m3 125 rfl) rfl
theorem q679 : (Jvm.Cond.selects "EvenBodies" ({ cls := "EvenBodies", name := "coloured", desc := "(I)I" } : Jvm.MethodName) ({ cls := "EvenBodies", name := "coloured", desc := "(I)I" } : Jvm.MethodName)) ∈ lw_all := lw_g (lw_at lw_m3 126 rfl) rfl
theorem q680 : (Jvm.Cond.code ({ cls := "EvenBodies", name := "coloured", desc := "(I)I" } : Jvm.MethodName) prog_1_method_49_code (7 : Nat) (Option.some Jvm.ClassFile.FieldType.int)) ∈ lw_all := lw_g (lw_at lw_m3 127 rfl) rfl
theorem q682 : (Jvm.Cond.instanceMethod ({ cls := "EvenBodies", name := "round", desc := "(II)I" } : Jvm.MethodName)) ∈ lw_all := lw_g (lw_at lw_m3 129 rfl) rfl
theorem q683 : (Jvm.Cond.selects "EvenBodies" ({ cls := "EvenBodies", name := "round", desc := "(II)I" } : Jvm.MethodName) ({ cls := "EvenBodies", name := "round", desc := "(II)I" } : Jvm.MethodName)) ∈ lw_all := lw_g (lw_at lw_m3 130 rfl) rfl
theorem q684 : (Jvm.Cond.code ({ cls := "EvenBodies", name := "round", desc := "(II)I" } : Jvm.MethodName) prog_1_method_51_code (5 : Nat) (Option.some Jvm.ClassFile.FieldType.int)) ∈ lw_all := lw_g (lw_at lw_m3 131 rfl) rfl
theorem q685 : (Jvm.Cond.methodLink "EvenBodies" (187 : Nat) ({ cls := "EvenBodies", name := "whyHull", desc := "(IZ)I" } : Jvm.MethodName)) ∈ lw_all := lw_g (lw_at lw_m3 132 rfl) rfl
theorem q686 : (Jvm.Cond.privateMethod ({ cls := "EvenBodies", name := "whyHull", desc := "(IZ)I" } : Jvm.MethodName)) ∈ lw_tbl := lw_at lw_m3 133 rfl
theorem q687 : (Jvm.Cond.instanceMethod ({ cls := "EvenBodies", name := "whyHull", desc := "(IZ)I" } : Jvm.MethodName)) ∈ lw_all := lw_g (lw_at lw_m3 134 rfl) rfl
theorem q688 : (Jvm.Cond.code ({ cls := "EvenBodies", name := "whyHull", desc := "(IZ)I" } : Jvm.MethodName) prog_1_method_50_code (4 : Nat) (Option.some Jvm.ClassFile.FieldType.int)) ∈ lw_all := lw_g (lw_at lw_m3 135 rfl) rfl
theorem q689 : (Jvm.Cond.methodLink "EvenBodies" (190 : Nat) ({ cls := "EvenBodies$Body", name := "hull", desc := "()LEvenBodies$Hull;" } : Jvm.MethodName)) ∈ lw_all := lw_g (lw_at lw_m3 136 rfl) rfl
theorem q759 : (Jvm.Cond.fieldLinkNest "EvenBodies" (263 : Nat) "EvenBodies$Hull" "corners" "LEvenBodies$Net;" "EvenBodies") ∈ lw_tbl := lw_at lw_m3 206 rfl
theorem q761 : (Jvm.Cond.fieldLinkNest "EvenBodies" (256 : Nat) "EvenBodies$Hull" "faces" "I" "EvenBodies") ∈ lw_tbl := lw_at lw_m3 208 rfl
theorem q781 : (Jvm.Cond.methodLink "EvenBodies" (194 : Nat) ({ cls := "EvenBodies$Hull", name := "told", desc := "()[I" } : Jvm.MethodName)) ∈ lw_all := lw_g (lw_at lw_m3 228 rfl) rfl
theorem q793 : (Jvm.Cond.instanceMethod ({ cls := "EvenBodies", name := "alike", desc := "(II)I" } : Jvm.MethodName)) ∈ lw_all := lw_g (lw_at lw_m4 0 rfl) rfl
theorem q794 : (Jvm.Cond.selects "EvenBodies" ({ cls := "EvenBodies", name := "alike", desc := "(II)I" } : Jvm.MethodName) ({ cls := "EvenBodies", name := "alike", desc := "(II)I" } : Jvm.MethodName)) ∈ lw_all := lw_g (lw_at lw_m4 1 rfl) rfl
theorem q795 : (Jvm.Cond.code ({ cls := "EvenBodies", name := "alike", desc := "(II)I" } : Jvm.MethodName) prog_1_method_52_code (5 : Nat) (Option.some Jvm.ClassFile.FieldType.int)) ∈ lw_all := lw_g (lw_at lw_m4 2 rfl) rfl
theorem q796 : (Jvm.Cond.methodLink "EvenBodies" (200 : Nat) ({ cls := "EvenBodies$Hull", name := "isLike", desc := "(LEvenBodies$Hull;)Z" } : Jvm.MethodName)) ∈ lw_all := lw_g (lw_at lw_m4 3 rfl) rfl
theorem q854 : (Jvm.Cond.instanceMethod ({ cls := "EvenBodies", name := "unlike", desc := "(I)I" } : Jvm.MethodName)) ∈ lw_all := lw_g (lw_at lw_m4 61 rfl) rfl
theorem q855 : (Jvm.Cond.selects "EvenBodies" ({ cls := "EvenBodies", name := "unlike", desc := "(I)I" } : Jvm.MethodName) ({ cls := "EvenBodies", name := "unlike", desc := "(I)I" } : Jvm.MethodName)) ∈ lw_all := lw_g (lw_at lw_m4 62 rfl) rfl
theorem q856 : (Jvm.Cond.code ({ cls := "EvenBodies", name := "unlike", desc := "(I)I" } : Jvm.MethodName) prog_1_method_53_code (11 : Nat) (Option.some Jvm.ClassFile.FieldType.int)) ∈ lw_all := lw_g (lw_at lw_m4 63 rfl) rfl
theorem q857 : (Jvm.Cond.classLink "EvenBodies" (204 : Nat) "java/util/ArrayList") ∈ lw_all := lw_g (lw_at lw_m4 64 rfl) rfl
theorem q859 : (Jvm.Cond.methodLink "EvenBodies" (206 : Nat) ({ cls := "java/util/ArrayList", name := "<init>", desc := "()V" } : Jvm.MethodName)) ∈ lw_all := lw_g (lw_at lw_m4 66 rfl) rfl
theorem q886 : (Jvm.Cond.classLink "EvenBodies" (195 : Nat) "EvenBodies$Hull") ∈ lw_all := lw_g (lw_at lw_m4 93 rfl) rfl
theorem q887 : (Jvm.Cond.methodLink "EvenBodies" (207 : Nat) ({ cls := "EvenBodies$Body", name := "ringedBy", desc := "(I)LEvenBodies$Body;" } : Jvm.MethodName)) ∈ lw_all := lw_g (lw_at lw_m4 94 rfl) rfl
theorem q894 : (Jvm.Cond.methodLink "EvenBodies" (211 : Nat) ({ cls := "EvenBodies$Hull", name := "<init>", desc := "(LEvenBodies$Body;)V" } : Jvm.MethodName)) ∈ lw_all := lw_g (lw_at lw_m4 101 rfl) rfl
theorem q895 : (Jvm.Cond.interfaceEntry "EvenBodies" (212 : Nat)) ∈ lw_tbl := lw_at lw_m4 102 rfl
theorem q896 : (Jvm.Cond.methodLink "EvenBodies" (212 : Nat) ({ cls := "java/util/List", name := "iterator", desc := "()Ljava/util/Iterator;" } : Jvm.MethodName)) ∈ lw_all := lw_g (lw_at lw_m4 103 rfl) rfl
theorem q924 : (Jvm.Cond.interfaceEntry "EvenBodies" (218 : Nat)) ∈ lw_tbl := lw_at lw_m4 131 rfl
theorem q925 : (Jvm.Cond.methodLink "EvenBodies" (218 : Nat) ({ cls := "java/util/Iterator", name := "hasNext", desc := "()Z" } : Jvm.MethodName)) ∈ lw_all := lw_g (lw_at lw_m4 132 rfl) rfl
theorem q934 : (Jvm.Cond.interfaceEntry "EvenBodies" (224 : Nat)) ∈ lw_tbl := lw_at lw_m4 141 rfl
theorem q935 : (Jvm.Cond.methodLink "EvenBodies" (224 : Nat) ({ cls := "java/util/Iterator", name := "next", desc := "()Ljava/lang/Object;" } : Jvm.MethodName)) ∈ lw_all := lw_g (lw_at lw_m4 142 rfl) rfl
theorem q947 : (Jvm.Cond.interfaceEntry "EvenBodies" (228 : Nat)) ∈ lw_tbl := lw_at lw_m4 154 rfl
theorem q948 : (Jvm.Cond.methodLink "EvenBodies" (228 : Nat) ({ cls := "java/util/List", name := "add", desc := "(Ljava/lang/Object;)Z" } : Jvm.MethodName)) ∈ lw_all := lw_g (lw_at lw_m4 155 rfl) rfl
theorem q984 : (Jvm.Cond.selects "EvenBodies" ({ cls := "java/lang/Object", name := "getClass", desc := "()Ljava/lang/Class;" } : Jvm.MethodName) ({ cls := "java/lang/Object", name := "getClass", desc := "()Ljava/lang/Class;" } : Jvm.MethodName)) ∈ lw_all := lw_g (lw_at lw_m4 191 rfl) rfl
theorem q1013 : (Jvm.Cond.interfaceEntry "EvenBodies" (232 : Nat)) ∈ lw_tbl := lw_at lw_m4 220 rfl
theorem q1014 : (Jvm.Cond.methodLink "EvenBodies" (232 : Nat) ({ cls := "java/util/List", name := "size", desc := "()I" } : Jvm.MethodName)) ∈ lw_all := lw_g (lw_at lw_m4 221 rfl) rfl
theorem q1023 : (Jvm.Cond.instanceMethod ({ cls := "EvenBodies", name := "snub", desc := "(II)I" } : Jvm.MethodName)) ∈ lw_all := lw_g (lw_at lw_m4 230 rfl) rfl
theorem q1024 : (Jvm.Cond.selects "EvenBodies" ({ cls := "EvenBodies", name := "snub", desc := "(II)I" } : Jvm.MethodName) ({ cls := "EvenBodies", name := "snub", desc := "(II)I" } : Jvm.MethodName)) ∈ lw_all := lw_g (lw_at lw_m4 231 rfl) rfl
theorem q1025 : (Jvm.Cond.code ({ cls := "EvenBodies", name := "snub", desc := "(II)I" } : Jvm.MethodName) prog_1_method_55_code (5 : Nat) (Option.some Jvm.ClassFile.FieldType.int)) ∈ lw_all := lw_g (lw_at lw_m4 232 rfl) rfl
theorem q1026 : (Jvm.Cond.methodLink "EvenBodies" (242 : Nat) ({ cls := "EvenBodies", name := "snubOf", desc := "(I)LEvenBodies$Snub;" } : Jvm.MethodName)) ∈ lw_all := lw_g (lw_at lw_m4 233 rfl) rfl
theorem q1027 : (Jvm.Cond.privateMethod ({ cls := "EvenBodies", name := "snubOf", desc := "(I)LEvenBodies$Snub;" } : Jvm.MethodName)) ∈ lw_tbl := lw_at lw_m4 234 rfl
theorem q1028 : (Jvm.Cond.instanceMethod ({ cls := "EvenBodies", name := "snubOf", desc := "(I)LEvenBodies$Snub;" } : Jvm.MethodName)) ∈ lw_all := lw_g (lw_at lw_m4 235 rfl) rfl
theorem q1029 : (Jvm.Cond.code ({ cls := "EvenBodies", name := "snubOf", desc := "(I)LEvenBodies$Snub;" } : Jvm.MethodName) prog_1_method_54_code (2 : Nat) (Option.some (Jvm.ClassFile.FieldType.object "EvenBodies$Snub"))) ∈ lw_all := lw_g (lw_at lw_m4 236 rfl) rfl
theorem q1030 : (Jvm.Cond.classLink "EvenBodies" (239 : Nat) "EvenBodies$Snub") ∈ lw_all := lw_g (lw_at lw_m4 237 rfl) rfl
theorem q1032 : (Jvm.Cond.methodLink "EvenBodies" (241 : Nat) ({ cls := "EvenBodies$Snub", name := "<init>", desc := "(LEvenBodies$Body;)V" } : Jvm.MethodName)) ∈ lw_all := lw_g (lw_at lw_m4 239 rfl) rfl
theorem q1055 : (Jvm.Cond.methodLink "EvenBodies" (247 : Nat) ({ cls := "EvenBodies$Snub", name := "all", desc := "()I" } : Jvm.MethodName)) ∈ lw_all := lw_g (lw_at lw_m5 22 rfl) rfl
theorem q1061 : (Jvm.Cond.methodLink "EvenBodies" (248 : Nat) ({ cls := "EvenBodies$Snub", name := "faces", desc := "(I)I" } : Jvm.MethodName)) ∈ lw_all := lw_g (lw_at lw_m5 28 rfl) rfl
theorem q1067 : (Jvm.Cond.instanceMethod ({ cls := "EvenBodies", name := "snubLaw", desc := "(I)I" } : Jvm.MethodName)) ∈ lw_all := lw_g (lw_at lw_m5 34 rfl) rfl
theorem q1068 : (Jvm.Cond.selects "EvenBodies" ({ cls := "EvenBodies", name := "snubLaw", desc := "(I)I" } : Jvm.MethodName) ({ cls := "EvenBodies", name := "snubLaw", desc := "(I)I" } : Jvm.MethodName)) ∈ lw_all := lw_g (lw_at lw_m5 35 rfl) rfl
theorem q1069 : (Jvm.Cond.code ({ cls := "EvenBodies", name := "snubLaw", desc := "(I)I" } : Jvm.MethodName) prog_1_method_56_code (4 : Nat) (Option.some Jvm.ClassFile.FieldType.int)) ∈ lw_all := lw_g (lw_at lw_m5 36 rfl) rfl
theorem q1071 : (Jvm.Cond.instanceMethod ({ cls := "EvenBodies", name := "snubDegree", desc := "(II)I" } : Jvm.MethodName)) ∈ lw_all := lw_g (lw_at lw_m5 38 rfl) rfl
theorem q1072 : (Jvm.Cond.selects "EvenBodies" ({ cls := "EvenBodies", name := "snubDegree", desc := "(II)I" } : Jvm.MethodName) ({ cls := "EvenBodies", name := "snubDegree", desc := "(II)I" } : Jvm.MethodName)) ∈ lw_all := lw_g (lw_at lw_m5 39 rfl) rfl
theorem q1073 : (Jvm.Cond.code ({ cls := "EvenBodies", name := "snubDegree", desc := "(II)I" } : Jvm.MethodName) prog_1_method_58_code (4 : Nat) (Option.some Jvm.ClassFile.FieldType.int)) ∈ lw_all := lw_g (lw_at lw_m5 40 rfl) rfl
theorem q1074 : (Jvm.Cond.methodLink "EvenBodies" (251 : Nat) ({ cls := "EvenBodies", name := "isHalfCorner", desc := "(II)Z" } : Jvm.MethodName)) ∈ lw_all := lw_g (lw_at lw_m5 41 rfl) rfl
theorem q1075 : (Jvm.Cond.privateMethod ({ cls := "EvenBodies", name := "isHalfCorner", desc := "(II)Z" } : Jvm.MethodName)) ∈ lw_tbl := lw_at lw_m5 42 rfl
theorem q1076 : (Jvm.Cond.instanceMethod ({ cls := "EvenBodies", name := "isHalfCorner", desc := "(II)Z" } : Jvm.MethodName)) ∈ lw_all := lw_g (lw_at lw_m5 43 rfl) rfl
theorem q1077 : (Jvm.Cond.code ({ cls := "EvenBodies", name := "isHalfCorner", desc := "(II)Z" } : Jvm.MethodName) prog_1_method_57_code (3 : Nat) (Option.some Jvm.ClassFile.FieldType.boolean)) ∈ lw_all := lw_g (lw_at lw_m5 44 rfl) rfl
theorem q1078 : (Jvm.Cond.methodLink "EvenBodies" (254 : Nat) ({ cls := "EvenBodies$Snub", name := "degree", desc := "(I)I" } : Jvm.MethodName)) ∈ lw_all := lw_g (lw_at lw_m5 45 rfl) rfl
theorem q1083 : (Jvm.Cond.instanceMethod ({ cls := "EvenBodies", name := "snubFar", desc := "(III)I" } : Jvm.MethodName)) ∈ lw_all := lw_g (lw_at lw_m5 50 rfl) rfl
theorem q1084 : (Jvm.Cond.selects "EvenBodies" ({ cls := "EvenBodies", name := "snubFar", desc := "(III)I" } : Jvm.MethodName) ({ cls := "EvenBodies", name := "snubFar", desc := "(III)I" } : Jvm.MethodName)) ∈ lw_all := lw_g (lw_at lw_m5 51 rfl) rfl
theorem q1085 : (Jvm.Cond.code ({ cls := "EvenBodies", name := "snubFar", desc := "(III)I" } : Jvm.MethodName) prog_1_method_59_code (5 : Nat) (Option.some Jvm.ClassFile.FieldType.int)) ∈ lw_all := lw_g (lw_at lw_m5 52 rfl) rfl
theorem q1086 : (Jvm.Cond.methodLink "EvenBodies" (255 : Nat) ({ cls := "EvenBodies$Snub", name := "far", desc := "(I)[I" } : Jvm.MethodName)) ∈ lw_all := lw_g (lw_at lw_m5 53 rfl) rfl
theorem q1091 : (Jvm.Cond.instanceMethod ({ cls := "EvenBodies", name := "snubFaces", desc := "(II)I" } : Jvm.MethodName)) ∈ lw_all := lw_g (lw_at lw_m5 58 rfl) rfl
theorem q1092 : (Jvm.Cond.selects "EvenBodies" ({ cls := "EvenBodies", name := "snubFaces", desc := "(II)I" } : Jvm.MethodName) ({ cls := "EvenBodies", name := "snubFaces", desc := "(II)I" } : Jvm.MethodName)) ∈ lw_all := lw_g (lw_at lw_m5 59 rfl) rfl
theorem q1093 : (Jvm.Cond.code ({ cls := "EvenBodies", name := "snubFaces", desc := "(II)I" } : Jvm.MethodName) prog_1_method_60_code (4 : Nat) (Option.some Jvm.ClassFile.FieldType.int)) ∈ lw_all := lw_g (lw_at lw_m5 60 rfl) rfl
theorem q1095 : (Jvm.Cond.instanceMethod ({ cls := "EvenBodies", name := "dual", desc := "(II)I" } : Jvm.MethodName)) ∈ lw_all := lw_g (lw_at lw_m5 62 rfl) rfl
theorem q1096 : (Jvm.Cond.selects "EvenBodies" ({ cls := "EvenBodies", name := "dual", desc := "(II)I" } : Jvm.MethodName) ({ cls := "EvenBodies", name := "dual", desc := "(II)I" } : Jvm.MethodName)) ∈ lw_all := lw_g (lw_at lw_m5 63 rfl) rfl
theorem q1097 : (Jvm.Cond.code ({ cls := "EvenBodies", name := "dual", desc := "(II)I" } : Jvm.MethodName) prog_1_method_61_code (5 : Nat) (Option.some Jvm.ClassFile.FieldType.int)) ∈ lw_all := lw_g (lw_at lw_m5 64 rfl) rfl
theorem q1098 : (Jvm.Cond.methodLink "EvenBodies" (258 : Nat) ({ cls := "EvenBodies$Hull", name := "dual", desc := "()LEvenBodies$Net;" } : Jvm.MethodName)) ∈ lw_all := lw_g (lw_at lw_m5 65 rfl) rfl
theorem q1111 : (Jvm.Cond.methodLink "EvenBodies" (262 : Nat) ({ cls := "EvenBodies$Net", name := "all", desc := "()I" } : Jvm.MethodName)) ∈ lw_all := lw_g (lw_at lw_m5 78 rfl) rfl
theorem q1113 : (Jvm.Cond.instanceMethod ({ cls := "EvenBodies", name := "dualDegree", desc := "(II)I" } : Jvm.MethodName)) ∈ lw_all := lw_g (lw_at lw_m5 80 rfl) rfl
theorem q1114 : (Jvm.Cond.selects "EvenBodies" ({ cls := "EvenBodies", name := "dualDegree", desc := "(II)I" } : Jvm.MethodName) ({ cls := "EvenBodies", name := "dualDegree", desc := "(II)I" } : Jvm.MethodName)) ∈ lw_all := lw_g (lw_at lw_m5 81 rfl) rfl
theorem q1115 : (Jvm.Cond.code ({ cls := "EvenBodies", name := "dualDegree", desc := "(II)I" } : Jvm.MethodName) prog_1_method_62_code (8 : Nat) (Option.some Jvm.ClassFile.FieldType.int)) ∈ lw_all := lw_g (lw_at lw_m5 82 rfl) rfl
theorem q1117 : (Jvm.Cond.instanceMethod ({ cls := "EvenBodies", name := "dualFar", desc := "(I)I" } : Jvm.MethodName)) ∈ lw_all := lw_g (lw_at lw_m5 84 rfl) rfl
theorem q1118 : (Jvm.Cond.selects "EvenBodies" ({ cls := "EvenBodies", name := "dualFar", desc := "(I)I" } : Jvm.MethodName) ({ cls := "EvenBodies", name := "dualFar", desc := "(I)I" } : Jvm.MethodName)) ∈ lw_all := lw_g (lw_at lw_m5 85 rfl) rfl
theorem q1119 : (Jvm.Cond.code ({ cls := "EvenBodies", name := "dualFar", desc := "(I)I" } : Jvm.MethodName) prog_1_method_63_code (11 : Nat) (Option.some Jvm.ClassFile.FieldType.int)) ∈ lw_all := lw_g (lw_at lw_m5 86 rfl) rfl
theorem q1120 : (Jvm.Cond.methodLink "EvenBodies" (266 : Nat) ({ cls := "java/lang/Math", name := "max", desc := "(II)I" } : Jvm.MethodName)) ∈ lw_all := lw_g (lw_at lw_m5 87 rfl) rfl
theorem q1122 : (Jvm.Cond.instanceMethod ({ cls := "EvenBodies", name := "digest", desc := "()J" } : Jvm.MethodName)) ∈ lw_all := lw_g (lw_at lw_m5 89 rfl) rfl
theorem q1123 : (Jvm.Cond.selects "EvenBodies" ({ cls := "EvenBodies", name := "digest", desc := "()J" } : Jvm.MethodName) ({ cls := "EvenBodies", name := "digest", desc := "()J" } : Jvm.MethodName)) ∈ lw_all := lw_g (lw_at lw_m5 90 rfl) rfl
theorem q1124 : (Jvm.Cond.code ({ cls := "EvenBodies", name := "digest", desc := "()J" } : Jvm.MethodName) prog_1_method_64_code (7 : Nat) (Option.some Jvm.ClassFile.FieldType.long)) ∈ lw_all := lw_g (lw_at lw_m5 91 rfl) rfl
theorem q1125 : (Jvm.Cond.constantLong "EvenBodies" (271 : Nat) (271 : Int64)) ∈ lw_all := lw_g (lw_at lw_m5 92 rfl) rfl
theorem q1126 : (Jvm.Cond.constantLong "EvenBodies" (273 : Nat) (31 : Int64)) ∈ lw_all := lw_g (lw_at lw_m5 93 rfl) rfl
theorem q1127 : (Jvm.Cond.methodLink "EvenBodies" (275 : Nat) ({ cls := "EvenBodies", name := "size", desc := "(I)I" } : Jvm.MethodName)) ∈ lw_all := lw_g (lw_at lw_m5 94 rfl) rfl
theorem q1598 : (Jvm.Cond.castable "EvenBodies" "java/lang/Object") ∈ lw_tbl := lw_at lw_m7 85 rfl
theorem in_X0 : ∀ w ∈ wsX00, w ∈ lw_all := lw_in wsX00 [165, 167, 169, 171, 173, 175] (by decide +kernel) (by decide +kernel)
def RX1 : String := "EvenBodies$Body"
def TX1 : u_T := fun k => match k with
  | 0 => ("EvenBodies$Body", "mirrors", "I", true)
  | 1 => ("EvenBodies$Body", "angles", "[I", true)
  | 2 => ("EvenBodies$Body", "ringed", "I", false)
  | 3 => ("EvenBodies$Body", "group", "LEvenBodies$Group;", false)
  | 4 => ("EvenBodies$Body", "isKnown", "Z", false)
  | 5 => ("EvenBodies$Body", "parts", "[[S", true)
  | 6 => ("EvenBodies$Body", "manyParts", "[I", true)
  | 7 => ("EvenBodies$Body", "hull", "LEvenBodies$Hull;", false)
  | _ => ("EvenBodies$Body", "snub", "LEvenBodies$Snub;", false)
def tyX1 : Nat → FieldType := fun k => match k with
  | 0 => .int
  | 1 => .array .int
  | 2 => .int
  | 3 => .object "EvenBodies$Group"
  | 4 => .boolean
  | 5 => .array (.array .short)
  | 6 => .array .int
  | 7 => .object "EvenBodies$Hull"
  | _ => .object "EvenBodies$Snub"
abbrev wsX10 : List Cond := u_ws RX1 TX1 9
theorem nmX1 : ∀ a, a < 9 → ∀ b, b < 9 → a ≠ b → (TX1 a).2.1 ≠ (TX1 b).2.1 := by decide +kernel
theorem tyX1_ok : ∀ k, k < 9 → parseFieldDescriptor (TX1 k).2.2.1 = some (tyX1 k) := by decide +kernel
abbrev cX1_init : ByteArray := prog_2_method_1_code
def yX1_init : MethodName := ⟨RX1, "<init>", "(I)V"⟩
abbrev cX1_turns : ByteArray := prog_2_method_3_code
def yX1_turns : MethodName := ⟨RX1, "turns", "(III)I"⟩
abbrev cX1_angle : ByteArray := prog_2_method_2_code
def yX1_angle : MethodName := ⟨RX1, "angle", "(II)I"⟩
abbrev cX1_forgets : ByteArray := prog_2_method_4_code
def yX1_forgets : MethodName := ⟨RX1, "forgets", "()V"⟩
abbrev cX1_all : ByteArray := prog_2_method_6_code
def yX1_all : MethodName := ⟨RX1, "all", "()I"⟩
abbrev cX1_joined : ByteArray := prog_2_method_7_code
def yX1_joined : MethodName := ⟨RX1, "joined", "(I)I"⟩
abbrev cX1_group : ByteArray := prog_2_method_9_code
def yX1_group : MethodName := ⟨RX1, "group", "()LEvenBodies$Group;"⟩
abbrev cX1_reached : ByteArray := prog_2_method_8_code
def yX1_reached : MethodName := ⟨RX1, "reached", "(II)I"⟩
abbrev cX1_isKind : ByteArray := prog_2_method_10_code
def yX1_isKind : MethodName := ⟨RX1, "isKind", "(I)Z"⟩
abbrev cX1_many : ByteArray := prog_2_method_13_code
def yX1_many : MethodName := ⟨RX1, "many", "(I)I"⟩
abbrev cX1_parts : ByteArray := prog_2_method_12_code
def yX1_parts : MethodName := ⟨RX1, "parts", "(I)[S"⟩
abbrev cX1_stay : ByteArray := prog_2_method_11_code
def yX1_stay : MethodName := ⟨RX1, "stay", "(I)I"⟩
abbrev cX1_least : ByteArray := prog_2_method_14_code
def yX1_least : MethodName := ⟨RX1, "least", "(II)I"⟩
abbrev cX1_meets : ByteArray := prog_2_method_15_code
def yX1_meets : MethodName := ⟨RX1, "meets", "(III)[Z"⟩
abbrev cX1_hull : ByteArray := prog_2_method_5_code
def yX1_hull : MethodName := ⟨RX1, "hull", "()LEvenBodies$Hull;"⟩
abbrev cX1_ringedBy : ByteArray := prog_2_method_16_code
def yX1_ringedBy : MethodName := ⟨RX1, "ringedBy", "(I)LEvenBodies$Body;"⟩
theorem q75 : (Jvm.Cond.initialized "EvenBodies$Body") ∈ lw_all := lw_g (lw_at lw_m1 2 rfl) rfl
theorem q108 : (Jvm.Cond.instantiable "EvenBodies$Body" (9 : Nat)) ∈ lw_all := lw_g (lw_at lw_m1 35 rfl) rfl
theorem q110 : (Jvm.Cond.instanceMethod ({ cls := "EvenBodies$Body", name := "<init>", desc := "(I)V" } : Jvm.MethodName)) ∈ lw_all := lw_g (lw_at lw_m1 37 rfl) rfl
theorem q111 : (Jvm.Cond.code ({ cls := "EvenBodies$Body", name := "<init>", desc := "(I)V" } : Jvm.MethodName) prog_2_method_1_code (2 : Nat) (Option.none : Option Jvm.ClassFile.FieldType)) ∈ lw_all := lw_g (lw_at lw_m1 38 rfl) rfl
theorem q112 : (Jvm.Cond.methodLink "EvenBodies$Body" (3 : Nat) ({ cls := "java/lang/Object", name := "<init>", desc := "()V" } : Jvm.MethodName)) ∈ lw_all := lw_g (lw_at lw_m1 39 rfl) rfl
theorem q113 : (Jvm.Cond.classLink "EvenBodies$Body" (19 : Nat) "[S") ∈ lw_all := lw_g (lw_at lw_m1 40 rfl) rfl
theorem q115 : (Jvm.Cond.methodLink "EvenBodies$Body" (31 : Nat) ({ cls := "java/util/Arrays", name := "fill", desc := "([II)V" } : Jvm.MethodName)) ∈ lw_all := lw_g (lw_at lw_m1 42 rfl) rfl
theorem q120 : (Jvm.Cond.fieldLink "EvenBodies$Body" (28 : Nat) "EvenBodies$Body" "mirrors" "I") ∈ lw_all := lw_g (lw_at lw_m1 47 rfl) rfl
theorem q123 : (Jvm.Cond.fieldLink "EvenBodies$Body" (9 : Nat) "EvenBodies$Body" "angles" "[I") ∈ lw_all := lw_g (lw_at lw_m1 50 rfl) rfl
theorem q125 : (Jvm.Cond.fieldLink "EvenBodies$Body" (15 : Nat) "EvenBodies$Body" "ringed" "I") ∈ lw_all := lw_g (lw_at lw_m1 52 rfl) rfl
theorem q131 : (Jvm.Cond.fieldLink "EvenBodies$Body" (45 : Nat) "EvenBodies$Body" "group" "LEvenBodies$Group;") ∈ lw_all := lw_g (lw_at lw_m1 58 rfl) rfl
theorem q133 : (Jvm.Cond.fieldLink "EvenBodies$Body" (41 : Nat) "EvenBodies$Body" "isKnown" "Z") ∈ lw_all := lw_g (lw_at lw_m1 60 rfl) rfl
theorem q134 : (Jvm.Cond.fieldLink "EvenBodies$Body" (21 : Nat) "EvenBodies$Body" "parts" "[[S") ∈ lw_all := lw_g (lw_at lw_m1 61 rfl) rfl
theorem q135 : (Jvm.Cond.fieldLink "EvenBodies$Body" (25 : Nat) "EvenBodies$Body" "manyParts" "[I") ∈ lw_all := lw_g (lw_at lw_m1 62 rfl) rfl
theorem q136 : (Jvm.Cond.fieldLink "EvenBodies$Body" (59 : Nat) "EvenBodies$Body" "hull" "LEvenBodies$Hull;") ∈ lw_all := lw_g (lw_at lw_m1 63 rfl) rfl
theorem q137 : (Jvm.Cond.fieldLink "EvenBodies$Body" (49 : Nat) "EvenBodies$Body" "snub" "LEvenBodies$Snub;") ∈ lw_all := lw_g (lw_at lw_m1 64 rfl) rfl
theorem q139 : (Jvm.Cond.laysFinal "EvenBodies$Body" "EvenBodies$Body" "mirrors" "I") ∈ lw_all := lw_g (lw_at lw_m1 66 rfl) rfl
theorem q140 : (Jvm.Cond.soleField "EvenBodies$Body" "mirrors") ∈ lw_all := lw_g (lw_at lw_m1 67 rfl) rfl
theorem q141 : (Jvm.Cond.laysFinal "EvenBodies$Body" "EvenBodies$Body" "angles" "[I") ∈ lw_all := lw_g (lw_at lw_m1 68 rfl) rfl
theorem q142 : (Jvm.Cond.soleField "EvenBodies$Body" "angles") ∈ lw_all := lw_g (lw_at lw_m1 69 rfl) rfl
theorem q143 : (Jvm.Cond.lays "EvenBodies$Body" "EvenBodies$Body" "ringed" "I") ∈ lw_all := lw_g (lw_at lw_m1 70 rfl) rfl
theorem q144 : (Jvm.Cond.soleField "EvenBodies$Body" "ringed") ∈ lw_all := lw_g (lw_at lw_m1 71 rfl) rfl
theorem q145 : (Jvm.Cond.lays "EvenBodies$Body" "EvenBodies$Body" "group" "LEvenBodies$Group;") ∈ lw_all := lw_g (lw_at lw_m1 72 rfl) rfl
theorem q146 : (Jvm.Cond.soleField "EvenBodies$Body" "group") ∈ lw_all := lw_g (lw_at lw_m1 73 rfl) rfl
theorem q147 : (Jvm.Cond.lays "EvenBodies$Body" "EvenBodies$Body" "isKnown" "Z") ∈ lw_all := lw_g (lw_at lw_m1 74 rfl) rfl
theorem q148 : (Jvm.Cond.soleField "EvenBodies$Body" "isKnown") ∈ lw_all := lw_g (lw_at lw_m1 75 rfl) rfl
theorem q149 : (Jvm.Cond.laysFinal "EvenBodies$Body" "EvenBodies$Body" "parts" "[[S") ∈ lw_all := lw_g (lw_at lw_m1 76 rfl) rfl
theorem q150 : (Jvm.Cond.soleField "EvenBodies$Body" "parts") ∈ lw_all := lw_g (lw_at lw_m1 77 rfl) rfl
theorem q151 : (Jvm.Cond.laysFinal "EvenBodies$Body" "EvenBodies$Body" "manyParts" "[I") ∈ lw_all := lw_g (lw_at lw_m1 78 rfl) rfl
theorem q152 : (Jvm.Cond.soleField "EvenBodies$Body" "manyParts") ∈ lw_all := lw_g (lw_at lw_m1 79 rfl) rfl
theorem q153 : (Jvm.Cond.lays "EvenBodies$Body" "EvenBodies$Body" "hull" "LEvenBodies$Hull;") ∈ lw_all := lw_g (lw_at lw_m1 80 rfl) rfl
theorem q154 : (Jvm.Cond.soleField "EvenBodies$Body" "hull") ∈ lw_all := lw_g (lw_at lw_m1 81 rfl) rfl
theorem q155 : (Jvm.Cond.lays "EvenBodies$Body" "EvenBodies$Body" "snub" "LEvenBodies$Snub;") ∈ lw_all := lw_g (lw_at lw_m1 82 rfl) rfl
theorem q156 : (Jvm.Cond.soleField "EvenBodies$Body" "snub") ∈ lw_all := lw_g (lw_at lw_m1 83 rfl) rfl
theorem q157 : (Jvm.Cond.superclass "EvenBodies$Body" "java/lang/Object") ∈ lw_all := lw_g (lw_at lw_m1 84 rfl) rfl
theorem q197 : (Jvm.Cond.instanceMethod ({ cls := "EvenBodies$Body", name := "turns", desc := "(III)I" } : Jvm.MethodName)) ∈ lw_all := lw_g (lw_at lw_m1 124 rfl) rfl
theorem q198 : (Jvm.Cond.selects "EvenBodies$Body" ({ cls := "EvenBodies$Body", name := "turns", desc := "(III)I" } : Jvm.MethodName) ({ cls := "EvenBodies$Body", name := "turns", desc := "(III)I" } : Jvm.MethodName)) ∈ lw_all := lw_g (lw_at lw_m1 125 rfl) rfl
theorem q199 : (Jvm.Cond.code ({ cls := "EvenBodies$Body", name := "turns", desc := "(III)I" } : Jvm.MethodName) prog_2_method_3_code (5 : Nat) (Option.some Jvm.ClassFile.FieldType.int)) ∈ lw_all := lw_g (lw_at lw_m1 126 rfl) rfl
theorem q200 : (Jvm.Cond.methodLink "EvenBodies$Body" (37 : Nat) ({ cls := "EvenBodies$Body", name := "angle", desc := "(II)I" } : Jvm.MethodName)) ∈ lw_all := lw_g (lw_at lw_m1 127 rfl) rfl
theorem q201 : (Jvm.Cond.instanceMethod ({ cls := "EvenBodies$Body", name := "angle", desc := "(II)I" } : Jvm.MethodName)) ∈ lw_all := lw_g (lw_at lw_m1 128 rfl) rfl
theorem q202 : (Jvm.Cond.selects "EvenBodies$Body" ({ cls := "EvenBodies$Body", name := "angle", desc := "(II)I" } : Jvm.MethodName) ({ cls := "EvenBodies$Body", name := "angle", desc := "(II)I" } : Jvm.MethodName)) ∈ lw_all := lw_g (lw_at lw_m1 129 rfl) rfl
theorem q203 : (Jvm.Cond.code ({ cls := "EvenBodies$Body", name := "angle", desc := "(II)I" } : Jvm.MethodName) prog_2_method_2_code (3 : Nat) (Option.some Jvm.ClassFile.FieldType.int)) ∈ lw_all := lw_g (lw_at lw_m1 130 rfl) rfl
theorem q204 : (Jvm.Cond.methodLink "EvenBodies$Body" (53 : Nat) ({ cls := "EvenBodies$Body", name := "forgets", desc := "()V" } : Jvm.MethodName)) ∈ lw_all := lw_g (lw_at lw_m1 131 rfl) rfl
theorem q205 : (Jvm.Cond.instanceMethod ({ cls := "EvenBodies$Body", name := "forgets", desc := "()V" } : Jvm.MethodName)) ∈ lw_all := lw_g (lw_at lw_m1 132 rfl) rfl
theorem q206 : (Jvm.Cond.selects "EvenBodies$Body" ({ cls := "EvenBodies$Body", name := "forgets", desc := "()V" } : Jvm.MethodName) ({ cls := "EvenBodies$Body", name := "forgets", desc := "()V" } : Jvm.MethodName)) ∈ lw_all := lw_g (lw_at lw_m1 133 rfl) rfl
theorem q207 : (Jvm.Cond.code ({ cls := "EvenBodies$Body", name := "forgets", desc := "()V" } : Jvm.MethodName) prog_2_method_4_code (1 : Nat) (Option.none : Option Jvm.ClassFile.FieldType)) ∈ lw_all := lw_g (lw_at lw_m1 134 rfl) rfl
theorem q208 : (Jvm.Cond.methodLink "EvenBodies$Body" (56 : Nat) ({ cls := "java/util/Arrays", name := "fill", desc := "([Ljava/lang/Object;Ljava/lang/Object;)V" } : Jvm.MethodName)) ∈ lw_all := lw_g (lw_at lw_m1 135 rfl) rfl
theorem q216 : (Jvm.Cond.instanceMethod ({ cls := "EvenBodies$Body", name := "all", desc := "()I" } : Jvm.MethodName)) ∈ lw_all := lw_g (lw_at lw_m1 143 rfl) rfl
theorem q217 : (Jvm.Cond.selects "EvenBodies$Body" ({ cls := "EvenBodies$Body", name := "all", desc := "()I" } : Jvm.MethodName) ({ cls := "EvenBodies$Body", name := "all", desc := "()I" } : Jvm.MethodName)) ∈ lw_all := lw_g (lw_at lw_m1 144 rfl) rfl
theorem q218 : (Jvm.Cond.code ({ cls := "EvenBodies$Body", name := "all", desc := "()I" } : Jvm.MethodName) prog_2_method_6_code (1 : Nat) (Option.some Jvm.ClassFile.FieldType.int)) ∈ lw_all := lw_g (lw_at lw_m1 145 rfl) rfl
theorem q230 : (Jvm.Cond.instanceMethod ({ cls := "EvenBodies$Body", name := "joined", desc := "(I)I" } : Jvm.MethodName)) ∈ lw_all := lw_g (lw_at lw_m1 157 rfl) rfl
theorem q231 : (Jvm.Cond.selects "EvenBodies$Body" ({ cls := "EvenBodies$Body", name := "joined", desc := "(I)I" } : Jvm.MethodName) ({ cls := "EvenBodies$Body", name := "joined", desc := "(I)I" } : Jvm.MethodName)) ∈ lw_all := lw_g (lw_at lw_m1 158 rfl) rfl
theorem q232 : (Jvm.Cond.code ({ cls := "EvenBodies$Body", name := "joined", desc := "(I)I" } : Jvm.MethodName) prog_2_method_7_code (4 : Nat) (Option.some Jvm.ClassFile.FieldType.int)) ∈ lw_all := lw_g (lw_at lw_m1 159 rfl) rfl
theorem q242 : (Jvm.Cond.instanceMethod ({ cls := "EvenBodies$Body", name := "group", desc := "()LEvenBodies$Group;" } : Jvm.MethodName)) ∈ lw_all := lw_g (lw_at lw_m1 169 rfl) rfl
theorem q243 : (Jvm.Cond.selects "EvenBodies$Body" ({ cls := "EvenBodies$Body", name := "group", desc := "()LEvenBodies$Group;" } : Jvm.MethodName) ({ cls := "EvenBodies$Body", name := "group", desc := "()LEvenBodies$Group;" } : Jvm.MethodName)) ∈ lw_all := lw_g (lw_at lw_m1 170 rfl) rfl
theorem q244 : (Jvm.Cond.code ({ cls := "EvenBodies$Body", name := "group", desc := "()LEvenBodies$Group;" } : Jvm.MethodName) prog_2_method_9_code (5 : Nat) (Option.some (Jvm.ClassFile.FieldType.object "EvenBodies$Group"))) ∈ lw_all := lw_g (lw_at lw_m1 171 rfl) rfl
theorem q245 : (Jvm.Cond.methodLink "EvenBodies$Body" (72 : Nat) ({ cls := "EvenBodies$Body", name := "all", desc := "()I" } : Jvm.MethodName)) ∈ lw_all := lw_g (lw_at lw_m1 172 rfl) rfl
theorem q246 : (Jvm.Cond.methodLink "EvenBodies$Body" (76 : Nat) ({ cls := "java/lang/Integer", name := "lowestOneBit", desc := "(I)I" } : Jvm.MethodName)) ∈ lw_all := lw_g (lw_at lw_m1 173 rfl) rfl
theorem q249 : (Jvm.Cond.methodLink "EvenBodies$Body" (81 : Nat) ({ cls := "EvenBodies$Body", name := "reached", desc := "(II)I" } : Jvm.MethodName)) ∈ lw_all := lw_g (lw_at lw_m1 176 rfl) rfl
theorem q250 : (Jvm.Cond.instanceMethod ({ cls := "EvenBodies$Body", name := "reached", desc := "(II)I" } : Jvm.MethodName)) ∈ lw_all := lw_g (lw_at lw_m1 177 rfl) rfl
theorem q251 : (Jvm.Cond.selects "EvenBodies$Body" ({ cls := "EvenBodies$Body", name := "reached", desc := "(II)I" } : Jvm.MethodName) ({ cls := "EvenBodies$Body", name := "reached", desc := "(II)I" } : Jvm.MethodName)) ∈ lw_all := lw_g (lw_at lw_m1 178 rfl) rfl
theorem q252 : (Jvm.Cond.code ({ cls := "EvenBodies$Body", name := "reached", desc := "(II)I" } : Jvm.MethodName) prog_2_method_8_code (6 : Nat) (Option.some Jvm.ClassFile.FieldType.int)) ∈ lw_all := lw_g (lw_at lw_m1 179 rfl) rfl
theorem q253 : (Jvm.Cond.methodLink "EvenBodies$Body" (68 : Nat) ({ cls := "EvenBodies$Body", name := "joined", desc := "(I)I" } : Jvm.MethodName)) ∈ lw_all := lw_g (lw_at lw_m1 180 rfl) rfl
theorem q254 : (Jvm.Cond.methodLink "EvenBodies$Body" (84 : Nat) ({ cls := "EvenBodies$Piece", name := "of", desc := "(LEvenBodies$Body;I)LEvenBodies$Piece;" } : Jvm.MethodName)) ∈ lw_all := lw_g (lw_at lw_m1 181 rfl) rfl
theorem q310 : (Jvm.Cond.methodLink "EvenBodies$Body" (90 : Nat) ({ cls := "EvenBodies$Piece", name := "size", desc := "()I" } : Jvm.MethodName)) ∈ lw_all := lw_g (lw_at lw_m1 237 rfl) rfl
theorem q329 : (Jvm.Cond.constantLong "EvenBodies$Body" (93 : Nat) (500 : Int64)) ∈ lw_all := lw_g (lw_at lw_m2 16 rfl) rfl
theorem q330 : (Jvm.Cond.classLink "EvenBodies$Body" (95 : Nat) "EvenBodies$Group") ∈ lw_all := lw_g (lw_at lw_m2 17 rfl) rfl
theorem q332 : (Jvm.Cond.methodLink "EvenBodies$Body" (97 : Nat) ({ cls := "EvenBodies$Group", name := "<init>", desc := "(LEvenBodies$Body;I)V" } : Jvm.MethodName)) ∈ lw_all := lw_g (lw_at lw_m2 19 rfl) rfl
theorem q395 : (Jvm.Cond.fieldLinkNest "EvenBodies$Body" (103 : Nat) "EvenBodies$Group" "n" "I" "EvenBodies") ∈ lw_tbl := lw_at lw_m2 82 rfl
theorem q495 : (Jvm.Cond.instanceMethod ({ cls := "EvenBodies$Body", name := "isKind", desc := "(I)Z" } : Jvm.MethodName)) ∈ lw_all := lw_g (lw_at lw_m2 182 rfl) rfl
theorem q496 : (Jvm.Cond.selects "EvenBodies$Body" ({ cls := "EvenBodies$Body", name := "isKind", desc := "(I)Z" } : Jvm.MethodName) ({ cls := "EvenBodies$Body", name := "isKind", desc := "(I)Z" } : Jvm.MethodName)) ∈ lw_all := lw_g (lw_at lw_m2 183 rfl) rfl
theorem q497 : (Jvm.Cond.code ({ cls := "EvenBodies$Body", name := "isKind", desc := "(I)Z" } : Jvm.MethodName) prog_2_method_10_code (2 : Nat) (Option.some Jvm.ClassFile.FieldType.boolean)) ∈ lw_all := lw_g (lw_at lw_m2 184 rfl) rfl
theorem q511 : (Jvm.Cond.instanceMethod ({ cls := "EvenBodies$Body", name := "many", desc := "(I)I" } : Jvm.MethodName)) ∈ lw_all := lw_g (lw_at lw_m2 198 rfl) rfl
theorem q512 : (Jvm.Cond.selects "EvenBodies$Body" ({ cls := "EvenBodies$Body", name := "many", desc := "(I)I" } : Jvm.MethodName) ({ cls := "EvenBodies$Body", name := "many", desc := "(I)I" } : Jvm.MethodName)) ∈ lw_all := lw_g (lw_at lw_m2 199 rfl) rfl
theorem q513 : (Jvm.Cond.code ({ cls := "EvenBodies$Body", name := "many", desc := "(I)I" } : Jvm.MethodName) prog_2_method_13_code (2 : Nat) (Option.some Jvm.ClassFile.FieldType.int)) ∈ lw_all := lw_g (lw_at lw_m2 200 rfl) rfl
theorem q514 : (Jvm.Cond.methodLink "EvenBodies$Body" (112 : Nat) ({ cls := "EvenBodies$Body", name := "parts", desc := "(I)[S" } : Jvm.MethodName)) ∈ lw_all := lw_g (lw_at lw_m2 201 rfl) rfl
theorem q515 : (Jvm.Cond.instanceMethod ({ cls := "EvenBodies$Body", name := "parts", desc := "(I)[S" } : Jvm.MethodName)) ∈ lw_all := lw_g (lw_at lw_m2 202 rfl) rfl
theorem q516 : (Jvm.Cond.selects "EvenBodies$Body" ({ cls := "EvenBodies$Body", name := "parts", desc := "(I)[S" } : Jvm.MethodName) ({ cls := "EvenBodies$Body", name := "parts", desc := "(I)[S" } : Jvm.MethodName)) ∈ lw_all := lw_g (lw_at lw_m2 203 rfl) rfl
theorem q517 : (Jvm.Cond.code ({ cls := "EvenBodies$Body", name := "parts", desc := "(I)[S" } : Jvm.MethodName) prog_2_method_12_code (11 : Nat) (Option.some (Jvm.ClassFile.FieldType.array Jvm.ClassFile.FieldType.short))) ∈ lw_all := lw_g (lw_at lw_m2 204 rfl) rfl
theorem q518 : (Jvm.Cond.methodLink "EvenBodies$Body" (100 : Nat) ({ cls := "EvenBodies$Body", name := "stay", desc := "(I)I" } : Jvm.MethodName)) ∈ lw_all := lw_g (lw_at lw_m2 205 rfl) rfl
theorem q519 : (Jvm.Cond.instanceMethod ({ cls := "EvenBodies$Body", name := "stay", desc := "(I)I" } : Jvm.MethodName)) ∈ lw_all := lw_g (lw_at lw_m2 206 rfl) rfl
theorem q520 : (Jvm.Cond.selects "EvenBodies$Body" ({ cls := "EvenBodies$Body", name := "stay", desc := "(I)I" } : Jvm.MethodName) ({ cls := "EvenBodies$Body", name := "stay", desc := "(I)I" } : Jvm.MethodName)) ∈ lw_all := lw_g (lw_at lw_m2 207 rfl) rfl
theorem q521 : (Jvm.Cond.code ({ cls := "EvenBodies$Body", name := "stay", desc := "(I)I" } : Jvm.MethodName) prog_2_method_11_code (4 : Nat) (Option.some Jvm.ClassFile.FieldType.int)) ∈ lw_all := lw_g (lw_at lw_m2 208 rfl) rfl
theorem q522 : (Jvm.Cond.methodLink "EvenBodies$Body" (106 : Nat) ({ cls := "java/util/Arrays", name := "fill", desc := "([SS)V" } : Jvm.MethodName)) ∈ lw_all := lw_g (lw_at lw_m2 209 rfl) rfl
theorem q525 : (Jvm.Cond.methodLink "EvenBodies$Body" (109 : Nat) ({ cls := "EvenBodies$Group", name := "by", desc := "(II)I" } : Jvm.MethodName)) ∈ lw_all := lw_g (lw_at lw_m2 212 rfl) rfl
theorem q540 : (Jvm.Cond.instanceMethod ({ cls := "EvenBodies$Body", name := "least", desc := "(II)I" } : Jvm.MethodName)) ∈ lw_all := lw_g (lw_at lw_m2 227 rfl) rfl
theorem q541 : (Jvm.Cond.selects "EvenBodies$Body" ({ cls := "EvenBodies$Body", name := "least", desc := "(II)I" } : Jvm.MethodName) ({ cls := "EvenBodies$Body", name := "least", desc := "(II)I" } : Jvm.MethodName)) ∈ lw_all := lw_g (lw_at lw_m2 228 rfl) rfl
theorem q542 : (Jvm.Cond.code ({ cls := "EvenBodies$Body", name := "least", desc := "(II)I" } : Jvm.MethodName) prog_2_method_14_code (5 : Nat) (Option.some Jvm.ClassFile.FieldType.int)) ∈ lw_all := lw_g (lw_at lw_m2 229 rfl) rfl
theorem q548 : (Jvm.Cond.instanceMethod ({ cls := "EvenBodies$Body", name := "meets", desc := "(III)[Z" } : Jvm.MethodName)) ∈ lw_all := lw_g (lw_at lw_m2 235 rfl) rfl
theorem q549 : (Jvm.Cond.selects "EvenBodies$Body" ({ cls := "EvenBodies$Body", name := "meets", desc := "(III)[Z" } : Jvm.MethodName) ({ cls := "EvenBodies$Body", name := "meets", desc := "(III)[Z" } : Jvm.MethodName)) ∈ lw_all := lw_g (lw_at lw_m2 236 rfl) rfl
theorem q550 : (Jvm.Cond.code ({ cls := "EvenBodies$Body", name := "meets", desc := "(III)[Z" } : Jvm.MethodName) prog_2_method_15_code (8 : Nat) (Option.some (Jvm.ClassFile.FieldType.array Jvm.ClassFile.FieldType.boolean))) ∈ lw_all := lw_g (lw_at lw_m2 237 rfl) rfl
theorem q551 : (Jvm.Cond.methodLink "EvenBodies$Body" (115 : Nat) ({ cls := "EvenBodies$Body", name := "many", desc := "(I)I" } : Jvm.MethodName)) ∈ lw_all := lw_g (lw_at lw_m2 238 rfl) rfl
theorem q690 : (Jvm.Cond.instanceMethod ({ cls := "EvenBodies$Body", name := "hull", desc := "()LEvenBodies$Hull;" } : Jvm.MethodName)) ∈ lw_all := lw_g (lw_at lw_m3 137 rfl) rfl
theorem q691 : (Jvm.Cond.selects "EvenBodies$Body" ({ cls := "EvenBodies$Body", name := "hull", desc := "()LEvenBodies$Hull;" } : Jvm.MethodName) ({ cls := "EvenBodies$Body", name := "hull", desc := "()LEvenBodies$Hull;" } : Jvm.MethodName)) ∈ lw_all := lw_g (lw_at lw_m3 138 rfl) rfl
theorem q692 : (Jvm.Cond.code ({ cls := "EvenBodies$Body", name := "hull", desc := "()LEvenBodies$Hull;" } : Jvm.MethodName) prog_2_method_5_code (1 : Nat) (Option.some (Jvm.ClassFile.FieldType.object "EvenBodies$Hull"))) ∈ lw_all := lw_g (lw_at lw_m3 139 rfl) rfl
theorem q693 : (Jvm.Cond.classLink "EvenBodies$Body" (63 : Nat) "EvenBodies$Hull") ∈ lw_all := lw_g (lw_at lw_m3 140 rfl) rfl
theorem q695 : (Jvm.Cond.methodLink "EvenBodies$Body" (65 : Nat) ({ cls := "EvenBodies$Hull", name := "<init>", desc := "(LEvenBodies$Body;)V" } : Jvm.MethodName)) ∈ lw_all := lw_g (lw_at lw_m3 142 rfl) rfl
theorem q888 : (Jvm.Cond.instanceMethod ({ cls := "EvenBodies$Body", name := "ringedBy", desc := "(I)LEvenBodies$Body;" } : Jvm.MethodName)) ∈ lw_all := lw_g (lw_at lw_m4 95 rfl) rfl
theorem q889 : (Jvm.Cond.selects "EvenBodies$Body" ({ cls := "EvenBodies$Body", name := "ringedBy", desc := "(I)LEvenBodies$Body;" } : Jvm.MethodName) ({ cls := "EvenBodies$Body", name := "ringedBy", desc := "(I)LEvenBodies$Body;" } : Jvm.MethodName)) ∈ lw_all := lw_g (lw_at lw_m4 96 rfl) rfl
theorem q890 : (Jvm.Cond.code ({ cls := "EvenBodies$Body", name := "ringedBy", desc := "(I)LEvenBodies$Body;" } : Jvm.MethodName) prog_2_method_16_code (3 : Nat) (Option.some (Jvm.ClassFile.FieldType.object "EvenBodies$Body"))) ∈ lw_all := lw_g (lw_at lw_m4 97 rfl) rfl
theorem q891 : (Jvm.Cond.classLink "EvenBodies$Body" (10 : Nat) "EvenBodies$Body") ∈ lw_all := lw_g (lw_at lw_m4 98 rfl) rfl
theorem q892 : (Jvm.Cond.methodLink "EvenBodies$Body" (118 : Nat) ({ cls := "EvenBodies$Body", name := "<init>", desc := "(I)V" } : Jvm.MethodName)) ∈ lw_all := lw_g (lw_at lw_m4 99 rfl) rfl
theorem q893 : (Jvm.Cond.methodLink "EvenBodies$Body" (121 : Nat) ({ cls := "java/lang/System", name := "arraycopy", desc := "(Ljava/lang/Object;ILjava/lang/Object;II)V" } : Jvm.MethodName)) ∈ lw_all := lw_g (lw_at lw_m4 100 rfl) rfl
theorem q985 : (Jvm.Cond.selects "EvenBodies$Body" ({ cls := "java/lang/Object", name := "getClass", desc := "()Ljava/lang/Class;" } : Jvm.MethodName) ({ cls := "java/lang/Object", name := "getClass", desc := "()Ljava/lang/Class;" } : Jvm.MethodName)) ∈ lw_all := lw_g (lw_at lw_m4 192 rfl) rfl
theorem q1597 : (Jvm.Cond.castable "EvenBodies$Body" "java/lang/Object") ∈ lw_tbl := lw_at lw_m7 84 rfl
theorem in_X1 : ∀ w ∈ wsX10, w ∈ lw_all := lw_in wsX10 [139, 141, 143, 145, 147, 149, 151, 153, 155] (by decide +kernel) (by decide +kernel)
def RX10 : String := "EvenBodies$Net"
def TX10 : u_T := fun k => match k with
  | 0 => ("EvenBodies$Net", "n", "I", true)
  | 1 => ("EvenBodies$Net", "wide", "I", true)
  | 2 => ("EvenBodies$Net", "joined", "[I", true)
  | _ => ("EvenBodies$Net", "many", "[I", true)
def tyX10 : Nat → FieldType := fun k => match k with
  | 0 => .int
  | 1 => .int
  | 2 => .array .int
  | _ => .array .int
abbrev wsX100 : List Cond := u_ws RX10 TX10 4
theorem nmX10 : ∀ a, a < 4 → ∀ b, b < 4 → a ≠ b → (TX10 a).2.1 ≠ (TX10 b).2.1 := by decide +kernel
theorem tyX10_ok : ∀ k, k < 4 → parseFieldDescriptor (TX10 k).2.2.1 = some (tyX10 k) := by decide +kernel
abbrev cX10_init : ByteArray := prog_9_method_1_code
def yX10_init : MethodName := ⟨RX10, "<init>", "(II)V"⟩
abbrev cX10_joins : ByteArray := prog_9_method_6_code
def yX10_joins : MethodName := ⟨RX10, "joins", "(II)V"⟩
abbrev cX10_isJoined : ByteArray := prog_9_method_4_code
def yX10_isJoined : MethodName := ⟨RX10, "isJoined", "(II)Z"⟩
abbrev cX10_at : ByteArray := prog_9_method_2_code
def yX10_at : MethodName := ⟨RX10, "at", "(II)I"⟩
abbrev cX10_to : ByteArray := prog_9_method_5_code
def yX10_to : MethodName := ⟨RX10, "to", "(II)V"⟩
abbrev cX10_degree : ByteArray := prog_9_method_3_code
def yX10_degree : MethodName := ⟨RX10, "degree", "(I)I"⟩
abbrev cX10_far : ByteArray := prog_9_method_8_code
def yX10_far : MethodName := ⟨RX10, "far", "(I)[I"⟩
abbrev cX10_all : ByteArray := prog_9_method_7_code
def yX10_all : MethodName := ⟨RX10, "all", "()I"⟩
theorem q87 : (Jvm.Cond.initialized "EvenBodies$Net") ∈ lw_all := lw_g (lw_at lw_m1 14 rfl) rfl
theorem q602 : (Jvm.Cond.instanceMethod ({ cls := "EvenBodies$Net", name := "<init>", desc := "(II)V" } : Jvm.MethodName)) ∈ lw_all := lw_g (lw_at lw_m3 49 rfl) rfl
theorem q603 : (Jvm.Cond.code ({ cls := "EvenBodies$Net", name := "<init>", desc := "(II)V" } : Jvm.MethodName) prog_9_method_1_code (3 : Nat) (Option.none : Option Jvm.ClassFile.FieldType)) ∈ lw_all := lw_g (lw_at lw_m3 50 rfl) rfl
theorem q604 : (Jvm.Cond.methodLink "EvenBodies$Net" (3 : Nat) ({ cls := "java/lang/Object", name := "<init>", desc := "()V" } : Jvm.MethodName)) ∈ lw_all := lw_g (lw_at lw_m3 51 rfl) rfl
theorem q609 : (Jvm.Cond.declares ({ cls := "EvenBodies$Net", name := "joins", desc := "(II)V" } : Jvm.MethodName)) ∈ lw_tbl := lw_at lw_m3 56 rfl
theorem q611 : (Jvm.Cond.instanceMethod ({ cls := "EvenBodies$Net", name := "joins", desc := "(II)V" } : Jvm.MethodName)) ∈ lw_all := lw_g (lw_at lw_m3 58 rfl) rfl
theorem q612 : (Jvm.Cond.code ({ cls := "EvenBodies$Net", name := "joins", desc := "(II)V" } : Jvm.MethodName) prog_9_method_6_code (3 : Nat) (Option.none : Option Jvm.ClassFile.FieldType)) ∈ lw_all := lw_g (lw_at lw_m3 59 rfl) rfl
theorem q613 : (Jvm.Cond.methodLink "EvenBodies$Net" (29 : Nat) ({ cls := "EvenBodies$Net", name := "isJoined", desc := "(II)Z" } : Jvm.MethodName)) ∈ lw_all := lw_g (lw_at lw_m3 60 rfl) rfl
theorem q614 : (Jvm.Cond.privateMethod ({ cls := "EvenBodies$Net", name := "isJoined", desc := "(II)Z" } : Jvm.MethodName)) ∈ lw_tbl := lw_at lw_m3 61 rfl
theorem q615 : (Jvm.Cond.instanceMethod ({ cls := "EvenBodies$Net", name := "isJoined", desc := "(II)Z" } : Jvm.MethodName)) ∈ lw_all := lw_g (lw_at lw_m3 62 rfl) rfl
theorem q616 : (Jvm.Cond.instantiable "EvenBodies$Net" (4 : Nat)) ∈ lw_all := lw_g (lw_at lw_m3 63 rfl) rfl
theorem q617 : (Jvm.Cond.code ({ cls := "EvenBodies$Net", name := "isJoined", desc := "(II)Z" } : Jvm.MethodName) prog_9_method_4_code (4 : Nat) (Option.some Jvm.ClassFile.FieldType.boolean)) ∈ lw_all := lw_g (lw_at lw_m3 64 rfl) rfl
theorem q618 : (Jvm.Cond.methodLink "EvenBodies$Net" (25 : Nat) ({ cls := "EvenBodies$Net", name := "at", desc := "(II)I" } : Jvm.MethodName)) ∈ lw_all := lw_g (lw_at lw_m3 65 rfl) rfl
theorem q619 : (Jvm.Cond.instanceMethod ({ cls := "EvenBodies$Net", name := "at", desc := "(II)I" } : Jvm.MethodName)) ∈ lw_all := lw_g (lw_at lw_m3 66 rfl) rfl
theorem q620 : (Jvm.Cond.selects "EvenBodies$Net" ({ cls := "EvenBodies$Net", name := "at", desc := "(II)I" } : Jvm.MethodName) ({ cls := "EvenBodies$Net", name := "at", desc := "(II)I" } : Jvm.MethodName)) ∈ lw_all := lw_g (lw_at lw_m3 67 rfl) rfl
theorem q621 : (Jvm.Cond.sameMethod "EvenBodies$Net" "EvenBodies$Net" "at" "(II)I") ∈ lw_all := lw_g (lw_at lw_m3 68 rfl) rfl
theorem q624 : (Jvm.Cond.code ({ cls := "EvenBodies$Net", name := "at", desc := "(II)I" } : Jvm.MethodName) prog_9_method_2_code (3 : Nat) (Option.some Jvm.ClassFile.FieldType.int)) ∈ lw_all := lw_g (lw_at lw_m3 71 rfl) rfl
theorem q625 : (Jvm.Cond.methodLink "EvenBodies$Net" (33 : Nat) ({ cls := "EvenBodies$Net", name := "to", desc := "(II)V" } : Jvm.MethodName)) ∈ lw_all := lw_g (lw_at lw_m3 72 rfl) rfl
theorem q626 : (Jvm.Cond.privateMethod ({ cls := "EvenBodies$Net", name := "to", desc := "(II)V" } : Jvm.MethodName)) ∈ lw_tbl := lw_at lw_m3 73 rfl
theorem q627 : (Jvm.Cond.instanceMethod ({ cls := "EvenBodies$Net", name := "to", desc := "(II)V" } : Jvm.MethodName)) ∈ lw_all := lw_g (lw_at lw_m3 74 rfl) rfl
theorem q628 : (Jvm.Cond.code ({ cls := "EvenBodies$Net", name := "to", desc := "(II)V" } : Jvm.MethodName) prog_9_method_5_code (3 : Nat) (Option.none : Option Jvm.ClassFile.FieldType)) ∈ lw_all := lw_g (lw_at lw_m3 75 rfl) rfl
theorem q629 : (Jvm.Cond.fieldLink "EvenBodies$Net" (9 : Nat) "EvenBodies$Net" "n" "I") ∈ lw_all := lw_g (lw_at lw_m3 76 rfl) rfl
theorem q636 : (Jvm.Cond.fieldLink "EvenBodies$Net" (15 : Nat) "EvenBodies$Net" "wide" "I") ∈ lw_all := lw_g (lw_at lw_m3 83 rfl) rfl
theorem q637 : (Jvm.Cond.fieldLink "EvenBodies$Net" (18 : Nat) "EvenBodies$Net" "joined" "[I") ∈ lw_all := lw_g (lw_at lw_m3 84 rfl) rfl
theorem q638 : (Jvm.Cond.fieldLink "EvenBodies$Net" (22 : Nat) "EvenBodies$Net" "many" "[I") ∈ lw_all := lw_g (lw_at lw_m3 85 rfl) rfl
theorem q640 : (Jvm.Cond.soleField "EvenBodies$Net" "n") ∈ lw_all := lw_g (lw_at lw_m3 87 rfl) rfl
theorem q642 : (Jvm.Cond.soleField "EvenBodies$Net" "wide") ∈ lw_all := lw_g (lw_at lw_m3 89 rfl) rfl
theorem q644 : (Jvm.Cond.soleField "EvenBodies$Net" "joined") ∈ lw_all := lw_g (lw_at lw_m3 91 rfl) rfl
theorem q646 : (Jvm.Cond.soleField "EvenBodies$Net" "many") ∈ lw_all := lw_g (lw_at lw_m3 93 rfl) rfl
theorem q649 : (Jvm.Cond.instanceMethod ({ cls := "EvenBodies$Net", name := "degree", desc := "(I)I" } : Jvm.MethodName)) ∈ lw_all := lw_g (lw_at lw_m3 96 rfl) rfl
theorem q650 : (Jvm.Cond.selects "EvenBodies$Net" ({ cls := "EvenBodies$Net", name := "degree", desc := "(I)I" } : Jvm.MethodName) ({ cls := "EvenBodies$Net", name := "degree", desc := "(I)I" } : Jvm.MethodName)) ∈ lw_all := lw_g (lw_at lw_m3 97 rfl) rfl
theorem q651 : (Jvm.Cond.sameMethod "EvenBodies$Net" "EvenBodies$Net" "degree" "(I)I") ∈ lw_all := lw_g (lw_at lw_m3 98 rfl) rfl
theorem q654 : (Jvm.Cond.code ({ cls := "EvenBodies$Net", name := "degree", desc := "(I)I" } : Jvm.MethodName) prog_9_method_3_code (2 : Nat) (Option.some Jvm.ClassFile.FieldType.int)) ∈ lw_all := lw_g (lw_at lw_m3 101 rfl) rfl
theorem q660 : (Jvm.Cond.instanceMethod ({ cls := "EvenBodies$Net", name := "far", desc := "(I)[I" } : Jvm.MethodName)) ∈ lw_all := lw_g (lw_at lw_m3 107 rfl) rfl
theorem q661 : (Jvm.Cond.selects "EvenBodies$Net" ({ cls := "EvenBodies$Net", name := "far", desc := "(I)[I" } : Jvm.MethodName) ({ cls := "EvenBodies$Net", name := "far", desc := "(I)[I" } : Jvm.MethodName)) ∈ lw_all := lw_g (lw_at lw_m3 108 rfl) rfl
theorem q662 : (Jvm.Cond.sameMethod "EvenBodies$Net" "EvenBodies$Net" "far" "(I)[I") ∈ lw_all := lw_g (lw_at lw_m3 109 rfl) rfl
theorem q665 : (Jvm.Cond.code ({ cls := "EvenBodies$Net", name := "far", desc := "(I)[I" } : Jvm.MethodName) prog_9_method_8_code (9 : Nat) (Option.some (Jvm.ClassFile.FieldType.array Jvm.ClassFile.FieldType.int))) ∈ lw_all := lw_g (lw_at lw_m3 112 rfl) rfl
theorem q666 : (Jvm.Cond.methodLink "EvenBodies$Net" (37 : Nat) ({ cls := "java/util/Arrays", name := "fill", desc := "([II)V" } : Jvm.MethodName)) ∈ lw_all := lw_g (lw_at lw_m3 113 rfl) rfl
theorem q992 : (Jvm.Cond.selects "EvenBodies$Net" ({ cls := "java/lang/Object", name := "getClass", desc := "()Ljava/lang/Class;" } : Jvm.MethodName) ({ cls := "java/lang/Object", name := "getClass", desc := "()Ljava/lang/Class;" } : Jvm.MethodName)) ∈ lw_all := lw_g (lw_at lw_m4 199 rfl) rfl
theorem q1057 : (Jvm.Cond.declares ({ cls := "EvenBodies$Net", name := "all", desc := "()I" } : Jvm.MethodName)) ∈ lw_tbl := lw_at lw_m5 24 rfl
theorem q1059 : (Jvm.Cond.instanceMethod ({ cls := "EvenBodies$Net", name := "all", desc := "()I" } : Jvm.MethodName)) ∈ lw_all := lw_g (lw_at lw_m5 26 rfl) rfl
theorem q1060 : (Jvm.Cond.code ({ cls := "EvenBodies$Net", name := "all", desc := "()I" } : Jvm.MethodName) prog_9_method_7_code (6 : Nat) (Option.some Jvm.ClassFile.FieldType.int)) ∈ lw_all := lw_g (lw_at lw_m5 27 rfl) rfl
theorem q1080 : (Jvm.Cond.declares ({ cls := "EvenBodies$Net", name := "degree", desc := "(I)I" } : Jvm.MethodName)) ∈ lw_tbl := lw_at lw_m5 47 rfl
theorem q1088 : (Jvm.Cond.declares ({ cls := "EvenBodies$Net", name := "far", desc := "(I)[I" } : Jvm.MethodName)) ∈ lw_tbl := lw_at lw_m5 55 rfl
theorem q1105 : (Jvm.Cond.laysFinal "EvenBodies$Net" "EvenBodies$Net" "n" "I") ∈ lw_all := lw_g (lw_at lw_m5 72 rfl) rfl
theorem q1106 : (Jvm.Cond.laysFinal "EvenBodies$Net" "EvenBodies$Net" "wide" "I") ∈ lw_all := lw_g (lw_at lw_m5 73 rfl) rfl
theorem q1107 : (Jvm.Cond.laysFinal "EvenBodies$Net" "EvenBodies$Net" "joined" "[I") ∈ lw_all := lw_g (lw_at lw_m5 74 rfl) rfl
theorem q1108 : (Jvm.Cond.laysFinal "EvenBodies$Net" "EvenBodies$Net" "many" "[I") ∈ lw_all := lw_g (lw_at lw_m5 75 rfl) rfl
theorem q1109 : (Jvm.Cond.superclass "EvenBodies$Net" "java/lang/Object") ∈ lw_all := lw_g (lw_at lw_m5 76 rfl) rfl
theorem q1587 : (Jvm.Cond.sameMethod "EvenBodies$Net" "EvenBodies$Net" "isJoined" "(II)Z") ∈ lw_all := lw_g (lw_at lw_m7 74 rfl) rfl
theorem q1588 : (Jvm.Cond.sameMethod "EvenBodies$Net" "EvenBodies$Net" "to" "(II)V") ∈ lw_all := lw_g (lw_at lw_m7 75 rfl) rfl
theorem q1589 : (Jvm.Cond.sameMethod "EvenBodies$Net" "EvenBodies$Net" "joins" "(II)V") ∈ lw_all := lw_g (lw_at lw_m7 76 rfl) rfl
theorem q1591 : (Jvm.Cond.selects "EvenBodies$Net" ({ cls := "EvenBodies$Net", name := "joins", desc := "(II)V" } : Jvm.MethodName) ({ cls := "EvenBodies$Net", name := "joins", desc := "(II)V" } : Jvm.MethodName)) ∈ lw_all := lw_g (lw_at lw_m7 78 rfl) rfl
theorem q1593 : (Jvm.Cond.sameMethod "EvenBodies$Net" "EvenBodies$Net" "all" "()I") ∈ lw_all := lw_g (lw_at lw_m7 80 rfl) rfl
theorem q1595 : (Jvm.Cond.selects "EvenBodies$Net" ({ cls := "EvenBodies$Net", name := "all", desc := "()I" } : Jvm.MethodName) ({ cls := "EvenBodies$Net", name := "all", desc := "()I" } : Jvm.MethodName)) ∈ lw_all := lw_g (lw_at lw_m7 82 rfl) rfl
theorem q1612 : (Jvm.Cond.castable "EvenBodies$Net" "java/lang/Object") ∈ lw_tbl := lw_at lw_m7 99 rfl
theorem in_X10 : ∀ w ∈ wsX100, w ∈ lw_all := lw_in wsX100 [1105, 1106, 1107, 1108] (by decide +kernel) (by decide +kernel)
def RX11 : String := "EvenBodies$Corners"
def TX11 : u_T := fun k => match k with
  | 0 => ("EvenBodies$Net", "n", "I", true)
  | 1 => ("EvenBodies$Net", "wide", "I", true)
  | 2 => ("EvenBodies$Net", "joined", "[I", true)
  | _ => ("EvenBodies$Net", "many", "[I", true)
def tyX11 : Nat → FieldType := fun k => match k with
  | 0 => .int
  | 1 => .int
  | 2 => .array .int
  | _ => .array .int
abbrev wsX110 : List Cond := u_ws RX11 TX11 4
theorem nmX11 : ∀ a, a < 4 → ∀ b, b < 4 → a ≠ b → (TX11 a).2.1 ≠ (TX11 b).2.1 := by decide +kernel
theorem tyX11_ok : ∀ k, k < 4 → parseFieldDescriptor (TX11 k).2.2.1 = some (tyX11 k) := by decide +kernel
abbrev cX11_init : ByteArray := prog_3_method_1_code
def yX11_init : MethodName := ⟨RX11, "<init>", "(LEvenBodies$Body;)V"⟩
theorem q88 : (Jvm.Cond.initialized "EvenBodies$Corners") ∈ lw_all := lw_g (lw_at lw_m1 15 rfl) rfl
theorem q121 : (Jvm.Cond.fieldLinkNest "EvenBodies$Corners" (27 : Nat) "EvenBodies$Body" "mirrors" "I" "EvenBodies") ∈ lw_tbl := lw_at lw_m1 48 rfl
theorem q126 : (Jvm.Cond.fieldLinkNest "EvenBodies$Corners" (30 : Nat) "EvenBodies$Body" "ringed" "I" "EvenBodies") ∈ lw_tbl := lw_at lw_m1 53 rfl
theorem q129 : (Jvm.Cond.fieldLinkNest "EvenBodies$Corners" (17 : Nat) "EvenBodies$Body" "group" "LEvenBodies$Group;" "EvenBodies") ∈ lw_tbl := lw_at lw_m1 56 rfl
theorem q392 : (Jvm.Cond.fieldLinkNest "EvenBodies$Corners" (21 : Nat) "EvenBodies$Group" "n" "I" "EvenBodies") ∈ lw_tbl := lw_at lw_m2 79 rfl
theorem q596 : (Jvm.Cond.instantiable "EvenBodies$Corners" (4 : Nat)) ∈ lw_all := lw_g (lw_at lw_m3 43 rfl) rfl
theorem q598 : (Jvm.Cond.instanceMethod ({ cls := "EvenBodies$Corners", name := "<init>", desc := "(LEvenBodies$Body;)V" } : Jvm.MethodName)) ∈ lw_all := lw_g (lw_at lw_m3 45 rfl) rfl
theorem q599 : (Jvm.Cond.code ({ cls := "EvenBodies$Corners", name := "<init>", desc := "(LEvenBodies$Body;)V" } : Jvm.MethodName) prog_3_method_1_code (5 : Nat) (Option.none : Option Jvm.ClassFile.FieldType)) ∈ lw_all := lw_g (lw_at lw_m3 46 rfl) rfl
theorem q600 : (Jvm.Cond.methodLink "EvenBodies$Corners" (1 : Nat) ({ cls := "EvenBodies$Body", name := "many", desc := "(I)I" } : Jvm.MethodName)) ∈ lw_all := lw_g (lw_at lw_m3 47 rfl) rfl
theorem q601 : (Jvm.Cond.methodLink "EvenBodies$Corners" (7 : Nat) ({ cls := "EvenBodies$Net", name := "<init>", desc := "(II)V" } : Jvm.MethodName)) ∈ lw_all := lw_g (lw_at lw_m3 48 rfl) rfl
theorem q605 : (Jvm.Cond.methodLink "EvenBodies$Corners" (13 : Nat) ({ cls := "EvenBodies$Body", name := "parts", desc := "(I)[S" } : Jvm.MethodName)) ∈ lw_all := lw_g (lw_at lw_m3 52 rfl) rfl
theorem q606 : (Jvm.Cond.methodLink "EvenBodies$Corners" (33 : Nat) ({ cls := "EvenBodies$Group", name := "by", desc := "(II)I" } : Jvm.MethodName)) ∈ lw_all := lw_g (lw_at lw_m3 53 rfl) rfl
theorem q607 : (Jvm.Cond.methodLink "EvenBodies$Corners" (37 : Nat) ({ cls := "EvenBodies$Corners", name := "joins", desc := "(II)V" } : Jvm.MethodName)) ∈ lw_all := lw_g (lw_at lw_m3 54 rfl) rfl
theorem q608 : (Jvm.Cond.sameMethod "EvenBodies$Corners" "EvenBodies$Net" "joins" "(II)V") ∈ lw_all := lw_g (lw_at lw_m3 55 rfl) rfl
theorem q610 : (Jvm.Cond.selects "EvenBodies$Corners" ({ cls := "EvenBodies$Corners", name := "joins", desc := "(II)V" } : Jvm.MethodName) ({ cls := "EvenBodies$Net", name := "joins", desc := "(II)V" } : Jvm.MethodName)) ∈ lw_all := lw_g (lw_at lw_m3 57 rfl) rfl
theorem q622 : (Jvm.Cond.selects "EvenBodies$Corners" ({ cls := "EvenBodies$Net", name := "at", desc := "(II)I" } : Jvm.MethodName) ({ cls := "EvenBodies$Net", name := "at", desc := "(II)I" } : Jvm.MethodName)) ∈ lw_all := lw_g (lw_at lw_m3 69 rfl) rfl
theorem q639 : (Jvm.Cond.laysFinal "EvenBodies$Corners" "EvenBodies$Net" "n" "I") ∈ lw_all := lw_g (lw_at lw_m3 86 rfl) rfl
theorem q641 : (Jvm.Cond.laysFinal "EvenBodies$Corners" "EvenBodies$Net" "wide" "I") ∈ lw_all := lw_g (lw_at lw_m3 88 rfl) rfl
theorem q643 : (Jvm.Cond.laysFinal "EvenBodies$Corners" "EvenBodies$Net" "joined" "[I") ∈ lw_all := lw_g (lw_at lw_m3 90 rfl) rfl
theorem q645 : (Jvm.Cond.laysFinal "EvenBodies$Corners" "EvenBodies$Net" "many" "[I") ∈ lw_all := lw_g (lw_at lw_m3 92 rfl) rfl
theorem q647 : (Jvm.Cond.superclass "EvenBodies$Corners" "EvenBodies$Net") ∈ lw_all := lw_g (lw_at lw_m3 94 rfl) rfl
theorem q652 : (Jvm.Cond.selects "EvenBodies$Corners" ({ cls := "EvenBodies$Net", name := "degree", desc := "(I)I" } : Jvm.MethodName) ({ cls := "EvenBodies$Net", name := "degree", desc := "(I)I" } : Jvm.MethodName)) ∈ lw_all := lw_g (lw_at lw_m3 99 rfl) rfl
theorem q663 : (Jvm.Cond.selects "EvenBodies$Corners" ({ cls := "EvenBodies$Net", name := "far", desc := "(I)[I" } : Jvm.MethodName) ({ cls := "EvenBodies$Net", name := "far", desc := "(I)[I" } : Jvm.MethodName)) ∈ lw_all := lw_g (lw_at lw_m3 110 rfl) rfl
theorem q986 : (Jvm.Cond.selects "EvenBodies$Corners" ({ cls := "java/lang/Object", name := "getClass", desc := "()Ljava/lang/Class;" } : Jvm.MethodName) ({ cls := "java/lang/Object", name := "getClass", desc := "()Ljava/lang/Class;" } : Jvm.MethodName)) ∈ lw_all := lw_g (lw_at lw_m4 193 rfl) rfl
theorem q1590 : (Jvm.Cond.selects "EvenBodies$Corners" ({ cls := "EvenBodies$Net", name := "joins", desc := "(II)V" } : Jvm.MethodName) ({ cls := "EvenBodies$Net", name := "joins", desc := "(II)V" } : Jvm.MethodName)) ∈ lw_all := lw_g (lw_at lw_m7 77 rfl) rfl
theorem q1594 : (Jvm.Cond.selects "EvenBodies$Corners" ({ cls := "EvenBodies$Net", name := "all", desc := "()I" } : Jvm.MethodName) ({ cls := "EvenBodies$Net", name := "all", desc := "()I" } : Jvm.MethodName)) ∈ lw_all := lw_g (lw_at lw_m7 81 rfl) rfl
theorem q1606 : (Jvm.Cond.castable "EvenBodies$Corners" "java/lang/Object") ∈ lw_tbl := lw_at lw_m7 93 rfl
theorem in_X11 : ∀ w ∈ wsX110, w ∈ lw_all := lw_in wsX110 [639, 641, 643, 645] (by decide +kernel) (by decide +kernel)
def RX12 : String := "EvenBodies$Hull"
def TX12 : u_T := fun k => match k with
  | 0 => ("EvenBodies$Hull", "body", "LEvenBodies$Body;", true)
  | 1 => ("EvenBodies$Hull", "corners", "LEvenBodies$Net;", true)
  | 2 => ("EvenBodies$Hull", "faces", "I", false)
  | 3 => ("EvenBodies$Hull", "sizes", "[I", true)
  | 4 => ("EvenBodies$Hull", "cornersOf", "[I", true)
  | 5 => ("EvenBodies$Hull", "round", "[I", true)
  | _ => ("EvenBodies$Hull", "face", "[I", true)
def tyX12 : Nat → FieldType := fun k => match k with
  | 0 => .object "EvenBodies$Body"
  | 1 => .object "EvenBodies$Net"
  | 2 => .int
  | 3 => .array .int
  | 4 => .array .int
  | 5 => .array .int
  | _ => .array .int
abbrev wsX120 : List Cond := u_ws RX12 TX12 7
theorem nmX12 : ∀ a, a < 7 → ∀ b, b < 7 → a ≠ b → (TX12 a).2.1 ≠ (TX12 b).2.1 := by decide +kernel
theorem tyX12_ok : ∀ k, k < 7 → parseFieldDescriptor (TX12 k).2.2.1 = some (tyX12 k) := by decide +kernel
abbrev cX12_init : ByteArray := prog_6_method_1_code
def yX12_init : MethodName := ⟨RX12, "<init>", "(LEvenBodies$Body;)V"⟩
abbrev cX12_comes : ByteArray := prog_6_method_3_code
def yX12_comes : MethodName := ⟨RX12, "comes", "(II)V"⟩
abbrev cX12_has : ByteArray := prog_6_method_2_code
def yX12_has : MethodName := ⟨RX12, "has", "(II)Z"⟩
abbrev cX12_goesRound : ByteArray := prog_6_method_9_code
def yX12_goesRound : MethodName := ⟨RX12, "goesRound", "(I)V"⟩
abbrev cX12_faceOf : ByteArray := prog_6_method_4_code
def yX12_faceOf : MethodName := ⟨RX12, "faceOf", "(III)I"⟩
abbrev cX12_other : ByteArray := prog_6_method_5_code
def yX12_other : MethodName := ⟨RX12, "other", "(III)I"⟩
abbrev cX12_neighbour : ByteArray := prog_6_method_6_code
def yX12_neighbour : MethodName := ⟨RX12, "neighbour", "(II)I"⟩
abbrev cX12_turnsAll : ByteArray := prog_6_method_12_code
def yX12_turnsAll : MethodName := ⟨RX12, "turnsAll", "()V"⟩
abbrev cX12_placeOf : ByteArray := prog_6_method_10_code
def yX12_placeOf : MethodName := ⟨RX12, "placeOf", "(II)I"⟩
abbrev cX12_before : ByteArray := prog_6_method_11_code
def yX12_before : MethodName := ⟨RX12, "before", "(II)I"⟩
abbrev cX12_behind : ByteArray := prog_6_method_7_code
def yX12_behind : MethodName := ⟨RX12, "behind", "(II)I"⟩
abbrev cX12_turns : ByteArray := prog_6_method_13_code
def yX12_turns : MethodName := ⟨RX12, "turns", "(I)V"⟩
abbrev cX12_told : ByteArray := prog_6_method_14_code
def yX12_told : MethodName := ⟨RX12, "told", "()[I"⟩
abbrev cX12_sizeBehind : ByteArray := prog_6_method_8_code
def yX12_sizeBehind : MethodName := ⟨RX12, "sizeBehind", "(II)I"⟩
abbrev cX12_isLess : ByteArray := prog_6_method_15_code
def yX12_isLess : MethodName := ⟨RX12, "isLess", "([I[I)Z"⟩
abbrev cX12_isLike : ByteArray := prog_6_method_16_code
def yX12_isLike : MethodName := ⟨RX12, "isLike", "(LEvenBodies$Hull;)Z"⟩
abbrev cX12_dual : ByteArray := prog_6_method_17_code
def yX12_dual : MethodName := ⟨RX12, "dual", "()LEvenBodies$Net;"⟩
theorem q89 : (Jvm.Cond.initialized "EvenBodies$Hull") ∈ lw_all := lw_g (lw_at lw_m1 16 rfl) rfl
theorem q130 : (Jvm.Cond.fieldLinkNest "EvenBodies$Hull" (63 : Nat) "EvenBodies$Body" "group" "LEvenBodies$Group;" "EvenBodies") ∈ lw_tbl := lw_at lw_m1 57 rfl
theorem q394 : (Jvm.Cond.fieldLinkNest "EvenBodies$Hull" (67 : Nat) "EvenBodies$Group" "n" "I" "EvenBodies") ∈ lw_tbl := lw_at lw_m2 81 rfl
theorem q631 : (Jvm.Cond.fieldLink "EvenBodies$Hull" (31 : Nat) "EvenBodies$Net" "n" "I") ∈ lw_all := lw_g (lw_at lw_m3 78 rfl) rfl
theorem q694 : (Jvm.Cond.instantiable "EvenBodies$Hull" (7 : Nat)) ∈ lw_all := lw_g (lw_at lw_m3 141 rfl) rfl
theorem q696 : (Jvm.Cond.instanceMethod ({ cls := "EvenBodies$Hull", name := "<init>", desc := "(LEvenBodies$Body;)V" } : Jvm.MethodName)) ∈ lw_all := lw_g (lw_at lw_m3 143 rfl) rfl
theorem q697 : (Jvm.Cond.code ({ cls := "EvenBodies$Hull", name := "<init>", desc := "(LEvenBodies$Body;)V" } : Jvm.MethodName) prog_6_method_1_code (6 : Nat) (Option.none : Option Jvm.ClassFile.FieldType)) ∈ lw_all := lw_g (lw_at lw_m3 144 rfl) rfl
theorem q698 : (Jvm.Cond.methodLink "EvenBodies$Hull" (3 : Nat) ({ cls := "java/lang/Object", name := "<init>", desc := "()V" } : Jvm.MethodName)) ∈ lw_all := lw_g (lw_at lw_m3 145 rfl) rfl
theorem q699 : (Jvm.Cond.classLink "EvenBodies$Hull" (22 : Nat) "EvenBodies$Corners") ∈ lw_all := lw_g (lw_at lw_m3 146 rfl) rfl
theorem q700 : (Jvm.Cond.methodLink "EvenBodies$Hull" (24 : Nat) ({ cls := "EvenBodies$Corners", name := "<init>", desc := "(LEvenBodies$Body;)V" } : Jvm.MethodName)) ∈ lw_all := lw_g (lw_at lw_m3 147 rfl) rfl
theorem q701 : (Jvm.Cond.methodLink "EvenBodies$Hull" (43 : Nat) ({ cls := "EvenBodies$Body", name := "parts", desc := "(I)[S" } : Jvm.MethodName)) ∈ lw_all := lw_g (lw_at lw_m3 148 rfl) rfl
theorem q702 : (Jvm.Cond.methodLink "EvenBodies$Hull" (49 : Nat) ({ cls := "EvenBodies$Body", name := "all", desc := "()I" } : Jvm.MethodName)) ∈ lw_all := lw_g (lw_at lw_m3 149 rfl) rfl
theorem q703 : (Jvm.Cond.methodLink "EvenBodies$Hull" (53 : Nat) ({ cls := "java/lang/Integer", name := "bitCount", desc := "(I)I" } : Jvm.MethodName)) ∈ lw_all := lw_g (lw_at lw_m3 150 rfl) rfl
theorem q704 : (Jvm.Cond.methodLink "EvenBodies$Hull" (59 : Nat) ({ cls := "EvenBodies$Body", name := "isKind", desc := "(I)Z" } : Jvm.MethodName)) ∈ lw_all := lw_g (lw_at lw_m3 151 rfl) rfl
theorem q705 : (Jvm.Cond.methodLink "EvenBodies$Hull" (73 : Nat) ({ cls := "EvenBodies$Hull", name := "comes", desc := "(II)V" } : Jvm.MethodName)) ∈ lw_all := lw_g (lw_at lw_m3 152 rfl) rfl
theorem q706 : (Jvm.Cond.privateMethod ({ cls := "EvenBodies$Hull", name := "comes", desc := "(II)V" } : Jvm.MethodName)) ∈ lw_tbl := lw_at lw_m3 153 rfl
theorem q707 : (Jvm.Cond.instanceMethod ({ cls := "EvenBodies$Hull", name := "comes", desc := "(II)V" } : Jvm.MethodName)) ∈ lw_all := lw_g (lw_at lw_m3 154 rfl) rfl
theorem q708 : (Jvm.Cond.code ({ cls := "EvenBodies$Hull", name := "comes", desc := "(II)V" } : Jvm.MethodName) prog_6_method_3_code (3 : Nat) (Option.none : Option Jvm.ClassFile.FieldType)) ∈ lw_all := lw_g (lw_at lw_m3 155 rfl) rfl
theorem q709 : (Jvm.Cond.methodLink "EvenBodies$Hull" (87 : Nat) ({ cls := "EvenBodies$Hull", name := "has", desc := "(II)Z" } : Jvm.MethodName)) ∈ lw_all := lw_g (lw_at lw_m3 156 rfl) rfl
theorem q710 : (Jvm.Cond.privateMethod ({ cls := "EvenBodies$Hull", name := "has", desc := "(II)Z" } : Jvm.MethodName)) ∈ lw_tbl := lw_at lw_m3 157 rfl
theorem q711 : (Jvm.Cond.instanceMethod ({ cls := "EvenBodies$Hull", name := "has", desc := "(II)Z" } : Jvm.MethodName)) ∈ lw_all := lw_g (lw_at lw_m3 158 rfl) rfl
theorem q712 : (Jvm.Cond.code ({ cls := "EvenBodies$Hull", name := "has", desc := "(II)Z" } : Jvm.MethodName) prog_6_method_2_code (4 : Nat) (Option.some Jvm.ClassFile.FieldType.boolean)) ∈ lw_all := lw_g (lw_at lw_m3 159 rfl) rfl
theorem q713 : (Jvm.Cond.methodLink "EvenBodies$Hull" (77 : Nat) ({ cls := "EvenBodies$Body", name := "many", desc := "(I)I" } : Jvm.MethodName)) ∈ lw_all := lw_g (lw_at lw_m3 160 rfl) rfl
theorem q714 : (Jvm.Cond.methodLink "EvenBodies$Hull" (80 : Nat) ({ cls := "EvenBodies$Hull", name := "goesRound", desc := "(I)V" } : Jvm.MethodName)) ∈ lw_all := lw_g (lw_at lw_m3 161 rfl) rfl
theorem q715 : (Jvm.Cond.privateMethod ({ cls := "EvenBodies$Hull", name := "goesRound", desc := "(I)V" } : Jvm.MethodName)) ∈ lw_tbl := lw_at lw_m3 162 rfl
theorem q716 : (Jvm.Cond.instanceMethod ({ cls := "EvenBodies$Hull", name := "goesRound", desc := "(I)V" } : Jvm.MethodName)) ∈ lw_all := lw_g (lw_at lw_m3 163 rfl) rfl
theorem q717 : (Jvm.Cond.code ({ cls := "EvenBodies$Hull", name := "goesRound", desc := "(I)V" } : Jvm.MethodName) prog_6_method_9_code (7 : Nat) (Option.none : Option Jvm.ClassFile.FieldType)) ∈ lw_all := lw_g (lw_at lw_m3 164 rfl) rfl
theorem q718 : (Jvm.Cond.methodLink "EvenBodies$Hull" (94 : Nat) ({ cls := "EvenBodies$Net", name := "at", desc := "(II)I" } : Jvm.MethodName)) ∈ lw_all := lw_g (lw_at lw_m3 165 rfl) rfl
theorem q719 : (Jvm.Cond.methodLink "EvenBodies$Hull" (91 : Nat) ({ cls := "EvenBodies$Net", name := "degree", desc := "(I)I" } : Jvm.MethodName)) ∈ lw_all := lw_g (lw_at lw_m3 166 rfl) rfl
theorem q720 : (Jvm.Cond.methodLink "EvenBodies$Hull" (101 : Nat) ({ cls := "EvenBodies$Hull", name := "faceOf", desc := "(III)I" } : Jvm.MethodName)) ∈ lw_all := lw_g (lw_at lw_m3 167 rfl) rfl
theorem q721 : (Jvm.Cond.privateMethod ({ cls := "EvenBodies$Hull", name := "faceOf", desc := "(III)I" } : Jvm.MethodName)) ∈ lw_tbl := lw_at lw_m3 168 rfl
theorem q722 : (Jvm.Cond.instanceMethod ({ cls := "EvenBodies$Hull", name := "faceOf", desc := "(III)I" } : Jvm.MethodName)) ∈ lw_all := lw_g (lw_at lw_m3 169 rfl) rfl
theorem q723 : (Jvm.Cond.code ({ cls := "EvenBodies$Hull", name := "faceOf", desc := "(III)I" } : Jvm.MethodName) prog_6_method_4_code (5 : Nat) (Option.some Jvm.ClassFile.FieldType.int)) ∈ lw_all := lw_g (lw_at lw_m3 170 rfl) rfl
theorem q724 : (Jvm.Cond.methodLink "EvenBodies$Hull" (105 : Nat) ({ cls := "EvenBodies$Hull", name := "other", desc := "(III)I" } : Jvm.MethodName)) ∈ lw_all := lw_g (lw_at lw_m3 171 rfl) rfl
theorem q725 : (Jvm.Cond.privateMethod ({ cls := "EvenBodies$Hull", name := "other", desc := "(III)I" } : Jvm.MethodName)) ∈ lw_tbl := lw_at lw_m3 172 rfl
theorem q726 : (Jvm.Cond.instanceMethod ({ cls := "EvenBodies$Hull", name := "other", desc := "(III)I" } : Jvm.MethodName)) ∈ lw_all := lw_g (lw_at lw_m3 173 rfl) rfl
theorem q727 : (Jvm.Cond.code ({ cls := "EvenBodies$Hull", name := "other", desc := "(III)I" } : Jvm.MethodName) prog_6_method_5_code (6 : Nat) (Option.some Jvm.ClassFile.FieldType.int)) ∈ lw_all := lw_g (lw_at lw_m3 174 rfl) rfl
theorem q728 : (Jvm.Cond.methodLink "EvenBodies$Hull" (108 : Nat) ({ cls := "EvenBodies$Hull", name := "neighbour", desc := "(II)I" } : Jvm.MethodName)) ∈ lw_all := lw_g (lw_at lw_m3 175 rfl) rfl
theorem q729 : (Jvm.Cond.privateMethod ({ cls := "EvenBodies$Hull", name := "neighbour", desc := "(II)I" } : Jvm.MethodName)) ∈ lw_tbl := lw_at lw_m3 176 rfl
theorem q730 : (Jvm.Cond.instanceMethod ({ cls := "EvenBodies$Hull", name := "neighbour", desc := "(II)I" } : Jvm.MethodName)) ∈ lw_all := lw_g (lw_at lw_m3 177 rfl) rfl
theorem q731 : (Jvm.Cond.code ({ cls := "EvenBodies$Hull", name := "neighbour", desc := "(II)I" } : Jvm.MethodName) prog_6_method_6_code (3 : Nat) (Option.some Jvm.ClassFile.FieldType.int)) ∈ lw_all := lw_g (lw_at lw_m3 178 rfl) rfl
theorem q732 : (Jvm.Cond.methodLink "EvenBodies$Hull" (84 : Nat) ({ cls := "EvenBodies$Hull", name := "turnsAll", desc := "()V" } : Jvm.MethodName)) ∈ lw_all := lw_g (lw_at lw_m3 179 rfl) rfl
theorem q733 : (Jvm.Cond.privateMethod ({ cls := "EvenBodies$Hull", name := "turnsAll", desc := "()V" } : Jvm.MethodName)) ∈ lw_tbl := lw_at lw_m3 180 rfl
theorem q734 : (Jvm.Cond.instanceMethod ({ cls := "EvenBodies$Hull", name := "turnsAll", desc := "()V" } : Jvm.MethodName)) ∈ lw_all := lw_g (lw_at lw_m3 181 rfl) rfl
theorem q735 : (Jvm.Cond.code ({ cls := "EvenBodies$Hull", name := "turnsAll", desc := "()V" } : Jvm.MethodName) prog_6_method_12_code (9 : Nat) (Option.none : Option Jvm.ClassFile.FieldType)) ∈ lw_all := lw_g (lw_at lw_m3 182 rfl) rfl
theorem q736 : (Jvm.Cond.methodLink "EvenBodies$Hull" (116 : Nat) ({ cls := "EvenBodies$Hull", name := "placeOf", desc := "(II)I" } : Jvm.MethodName)) ∈ lw_all := lw_g (lw_at lw_m3 183 rfl) rfl
theorem q737 : (Jvm.Cond.privateMethod ({ cls := "EvenBodies$Hull", name := "placeOf", desc := "(II)I" } : Jvm.MethodName)) ∈ lw_tbl := lw_at lw_m3 184 rfl
theorem q738 : (Jvm.Cond.instanceMethod ({ cls := "EvenBodies$Hull", name := "placeOf", desc := "(II)I" } : Jvm.MethodName)) ∈ lw_all := lw_g (lw_at lw_m3 185 rfl) rfl
theorem q739 : (Jvm.Cond.code ({ cls := "EvenBodies$Hull", name := "placeOf", desc := "(II)I" } : Jvm.MethodName) prog_6_method_10_code (4 : Nat) (Option.some Jvm.ClassFile.FieldType.int)) ∈ lw_all := lw_g (lw_at lw_m3 186 rfl) rfl
theorem q740 : (Jvm.Cond.methodLink "EvenBodies$Hull" (119 : Nat) ({ cls := "EvenBodies$Hull", name := "before", desc := "(II)I" } : Jvm.MethodName)) ∈ lw_all := lw_g (lw_at lw_m3 187 rfl) rfl
theorem q741 : (Jvm.Cond.privateMethod ({ cls := "EvenBodies$Hull", name := "before", desc := "(II)I" } : Jvm.MethodName)) ∈ lw_tbl := lw_at lw_m3 188 rfl
theorem q742 : (Jvm.Cond.instanceMethod ({ cls := "EvenBodies$Hull", name := "before", desc := "(II)I" } : Jvm.MethodName)) ∈ lw_all := lw_g (lw_at lw_m3 189 rfl) rfl
theorem q743 : (Jvm.Cond.code ({ cls := "EvenBodies$Hull", name := "before", desc := "(II)I" } : Jvm.MethodName) prog_6_method_11_code (3 : Nat) (Option.some Jvm.ClassFile.FieldType.int)) ∈ lw_all := lw_g (lw_at lw_m3 190 rfl) rfl
theorem q744 : (Jvm.Cond.methodLink "EvenBodies$Hull" (111 : Nat) ({ cls := "java/lang/Math", name := "floorMod", desc := "(II)I" } : Jvm.MethodName)) ∈ lw_all := lw_g (lw_at lw_m3 191 rfl) rfl
theorem q747 : (Jvm.Cond.methodLink "EvenBodies$Hull" (98 : Nat) ({ cls := "EvenBodies$Hull", name := "behind", desc := "(II)I" } : Jvm.MethodName)) ∈ lw_all := lw_g (lw_at lw_m3 194 rfl) rfl
theorem q748 : (Jvm.Cond.privateMethod ({ cls := "EvenBodies$Hull", name := "behind", desc := "(II)I" } : Jvm.MethodName)) ∈ lw_tbl := lw_at lw_m3 195 rfl
theorem q749 : (Jvm.Cond.instanceMethod ({ cls := "EvenBodies$Hull", name := "behind", desc := "(II)I" } : Jvm.MethodName)) ∈ lw_all := lw_g (lw_at lw_m3 196 rfl) rfl
theorem q750 : (Jvm.Cond.code ({ cls := "EvenBodies$Hull", name := "behind", desc := "(II)I" } : Jvm.MethodName) prog_6_method_7_code (3 : Nat) (Option.some Jvm.ClassFile.FieldType.int)) ∈ lw_all := lw_g (lw_at lw_m3 197 rfl) rfl
theorem q751 : (Jvm.Cond.methodLink "EvenBodies$Hull" (122 : Nat) ({ cls := "EvenBodies$Hull", name := "turns", desc := "(I)V" } : Jvm.MethodName)) ∈ lw_all := lw_g (lw_at lw_m3 198 rfl) rfl
theorem q752 : (Jvm.Cond.privateMethod ({ cls := "EvenBodies$Hull", name := "turns", desc := "(I)V" } : Jvm.MethodName)) ∈ lw_tbl := lw_at lw_m3 199 rfl
theorem q753 : (Jvm.Cond.instanceMethod ({ cls := "EvenBodies$Hull", name := "turns", desc := "(I)V" } : Jvm.MethodName)) ∈ lw_all := lw_g (lw_at lw_m3 200 rfl) rfl
theorem q754 : (Jvm.Cond.code ({ cls := "EvenBodies$Hull", name := "turns", desc := "(I)V" } : Jvm.MethodName) prog_6_method_13_code (6 : Nat) (Option.none : Option Jvm.ClassFile.FieldType)) ∈ lw_all := lw_g (lw_at lw_m3 201 rfl) rfl
theorem q755 : (Jvm.Cond.methodLink "EvenBodies$Hull" (125 : Nat) ({ cls := "java/lang/System", name := "arraycopy", desc := "(Ljava/lang/Object;ILjava/lang/Object;II)V" } : Jvm.MethodName)) ∈ lw_all := lw_g (lw_at lw_m3 202 rfl) rfl
theorem q756 : (Jvm.Cond.fieldLink "EvenBodies$Hull" (18 : Nat) "EvenBodies$Hull" "body" "LEvenBodies$Body;") ∈ lw_all := lw_g (lw_at lw_m3 203 rfl) rfl
theorem q758 : (Jvm.Cond.fieldLink "EvenBodies$Hull" (27 : Nat) "EvenBodies$Hull" "corners" "LEvenBodies$Net;") ∈ lw_all := lw_g (lw_at lw_m3 205 rfl) rfl
theorem q760 : (Jvm.Cond.fieldLink "EvenBodies$Hull" (70 : Nat) "EvenBodies$Hull" "faces" "I") ∈ lw_all := lw_g (lw_at lw_m3 207 rfl) rfl
theorem q762 : (Jvm.Cond.fieldLink "EvenBodies$Hull" (9 : Nat) "EvenBodies$Hull" "sizes" "[I") ∈ lw_all := lw_g (lw_at lw_m3 209 rfl) rfl
theorem q763 : (Jvm.Cond.fieldLink "EvenBodies$Hull" (15 : Nat) "EvenBodies$Hull" "cornersOf" "[I") ∈ lw_all := lw_g (lw_at lw_m3 210 rfl) rfl
theorem q764 : (Jvm.Cond.fieldLink "EvenBodies$Hull" (37 : Nat) "EvenBodies$Hull" "round" "[I") ∈ lw_all := lw_g (lw_at lw_m3 211 rfl) rfl
theorem q765 : (Jvm.Cond.fieldLink "EvenBodies$Hull" (40 : Nat) "EvenBodies$Hull" "face" "[I") ∈ lw_all := lw_g (lw_at lw_m3 212 rfl) rfl
theorem q766 : (Jvm.Cond.laysFinal "EvenBodies$Hull" "EvenBodies$Hull" "body" "LEvenBodies$Body;") ∈ lw_all := lw_g (lw_at lw_m3 213 rfl) rfl
theorem q767 : (Jvm.Cond.soleField "EvenBodies$Hull" "body") ∈ lw_all := lw_g (lw_at lw_m3 214 rfl) rfl
theorem q768 : (Jvm.Cond.laysFinal "EvenBodies$Hull" "EvenBodies$Hull" "corners" "LEvenBodies$Net;") ∈ lw_all := lw_g (lw_at lw_m3 215 rfl) rfl
theorem q769 : (Jvm.Cond.soleField "EvenBodies$Hull" "corners") ∈ lw_all := lw_g (lw_at lw_m3 216 rfl) rfl
theorem q770 : (Jvm.Cond.lays "EvenBodies$Hull" "EvenBodies$Hull" "faces" "I") ∈ lw_all := lw_g (lw_at lw_m3 217 rfl) rfl
theorem q771 : (Jvm.Cond.soleField "EvenBodies$Hull" "faces") ∈ lw_all := lw_g (lw_at lw_m3 218 rfl) rfl
theorem q772 : (Jvm.Cond.laysFinal "EvenBodies$Hull" "EvenBodies$Hull" "sizes" "[I") ∈ lw_all := lw_g (lw_at lw_m3 219 rfl) rfl
theorem q773 : (Jvm.Cond.soleField "EvenBodies$Hull" "sizes") ∈ lw_all := lw_g (lw_at lw_m3 220 rfl) rfl
theorem q774 : (Jvm.Cond.laysFinal "EvenBodies$Hull" "EvenBodies$Hull" "cornersOf" "[I") ∈ lw_all := lw_g (lw_at lw_m3 221 rfl) rfl
theorem q775 : (Jvm.Cond.soleField "EvenBodies$Hull" "cornersOf") ∈ lw_all := lw_g (lw_at lw_m3 222 rfl) rfl
theorem q776 : (Jvm.Cond.laysFinal "EvenBodies$Hull" "EvenBodies$Hull" "round" "[I") ∈ lw_all := lw_g (lw_at lw_m3 223 rfl) rfl
theorem q777 : (Jvm.Cond.soleField "EvenBodies$Hull" "round") ∈ lw_all := lw_g (lw_at lw_m3 224 rfl) rfl
theorem q778 : (Jvm.Cond.laysFinal "EvenBodies$Hull" "EvenBodies$Hull" "face" "[I") ∈ lw_all := lw_g (lw_at lw_m3 225 rfl) rfl
theorem q779 : (Jvm.Cond.soleField "EvenBodies$Hull" "face") ∈ lw_all := lw_g (lw_at lw_m3 226 rfl) rfl
theorem q780 : (Jvm.Cond.superclass "EvenBodies$Hull" "java/lang/Object") ∈ lw_all := lw_g (lw_at lw_m3 227 rfl) rfl
theorem q782 : (Jvm.Cond.instanceMethod ({ cls := "EvenBodies$Hull", name := "told", desc := "()[I" } : Jvm.MethodName)) ∈ lw_all := lw_g (lw_at lw_m3 229 rfl) rfl
theorem q783 : (Jvm.Cond.selects "EvenBodies$Hull" ({ cls := "EvenBodies$Hull", name := "told", desc := "()[I" } : Jvm.MethodName) ({ cls := "EvenBodies$Hull", name := "told", desc := "()[I" } : Jvm.MethodName)) ∈ lw_all := lw_g (lw_at lw_m3 230 rfl) rfl
theorem q784 : (Jvm.Cond.code ({ cls := "EvenBodies$Hull", name := "told", desc := "()[I" } : Jvm.MethodName) prog_6_method_14_code (7 : Nat) (Option.some (Jvm.ClassFile.FieldType.array Jvm.ClassFile.FieldType.int))) ∈ lw_all := lw_g (lw_at lw_m3 231 rfl) rfl
theorem q785 : (Jvm.Cond.methodLink "EvenBodies$Hull" (131 : Nat) ({ cls := "EvenBodies$Hull", name := "sizeBehind", desc := "(II)I" } : Jvm.MethodName)) ∈ lw_all := lw_g (lw_at lw_m3 232 rfl) rfl
theorem q786 : (Jvm.Cond.privateMethod ({ cls := "EvenBodies$Hull", name := "sizeBehind", desc := "(II)I" } : Jvm.MethodName)) ∈ lw_tbl := lw_at lw_m3 233 rfl
theorem q787 : (Jvm.Cond.instanceMethod ({ cls := "EvenBodies$Hull", name := "sizeBehind", desc := "(II)I" } : Jvm.MethodName)) ∈ lw_all := lw_g (lw_at lw_m3 234 rfl) rfl
theorem q788 : (Jvm.Cond.code ({ cls := "EvenBodies$Hull", name := "sizeBehind", desc := "(II)I" } : Jvm.MethodName) prog_6_method_8_code (3 : Nat) (Option.some Jvm.ClassFile.FieldType.int)) ∈ lw_all := lw_g (lw_at lw_m3 235 rfl) rfl
theorem q789 : (Jvm.Cond.methodLink "EvenBodies$Hull" (134 : Nat) ({ cls := "EvenBodies$Hull", name := "isLess", desc := "([I[I)Z" } : Jvm.MethodName)) ∈ lw_all := lw_g (lw_at lw_m3 236 rfl) rfl
theorem q790 : (Jvm.Cond.static ({ cls := "EvenBodies$Hull", name := "isLess", desc := "([I[I)Z" } : Jvm.MethodName)) ∈ lw_all := lw_g (lw_at lw_m3 237 rfl) rfl
theorem q791 : (Jvm.Cond.code ({ cls := "EvenBodies$Hull", name := "isLess", desc := "([I[I)Z" } : Jvm.MethodName) prog_6_method_15_code (3 : Nat) (Option.some Jvm.ClassFile.FieldType.boolean)) ∈ lw_all := lw_g (lw_at lw_m3 238 rfl) rfl
theorem q797 : (Jvm.Cond.instanceMethod ({ cls := "EvenBodies$Hull", name := "isLike", desc := "(LEvenBodies$Hull;)Z" } : Jvm.MethodName)) ∈ lw_all := lw_g (lw_at lw_m4 4 rfl) rfl
theorem q798 : (Jvm.Cond.selects "EvenBodies$Hull" ({ cls := "EvenBodies$Hull", name := "isLike", desc := "(LEvenBodies$Hull;)Z" } : Jvm.MethodName) ({ cls := "EvenBodies$Hull", name := "isLike", desc := "(LEvenBodies$Hull;)Z" } : Jvm.MethodName)) ∈ lw_all := lw_g (lw_at lw_m4 5 rfl) rfl
theorem q799 : (Jvm.Cond.code ({ cls := "EvenBodies$Hull", name := "isLike", desc := "(LEvenBodies$Hull;)Z" } : Jvm.MethodName) prog_6_method_16_code (4 : Nat) (Option.some Jvm.ClassFile.FieldType.boolean)) ∈ lw_all := lw_g (lw_at lw_m4 6 rfl) rfl
theorem q800 : (Jvm.Cond.classLink "EvenBodies$Hull" (138 : Nat) "EvenBodies$Laid") ∈ lw_all := lw_g (lw_at lw_m4 7 rfl) rfl
theorem q802 : (Jvm.Cond.methodLink "EvenBodies$Hull" (140 : Nat) ({ cls := "EvenBodies$Laid", name := "<init>", desc := "(LEvenBodies$Hull;LEvenBodies$Hull;)V" } : Jvm.MethodName)) ∈ lw_all := lw_g (lw_at lw_m4 9 rfl) rfl
theorem q831 : (Jvm.Cond.methodLink "EvenBodies$Hull" (143 : Nat) ({ cls := "EvenBodies$Laid", name := "lies", desc := "(II)Z" } : Jvm.MethodName)) ∈ lw_all := lw_g (lw_at lw_m4 38 rfl) rfl
theorem q989 : (Jvm.Cond.selects "EvenBodies$Hull" ({ cls := "java/lang/Object", name := "getClass", desc := "()Ljava/lang/Class;" } : Jvm.MethodName) ({ cls := "java/lang/Object", name := "getClass", desc := "()Ljava/lang/Class;" } : Jvm.MethodName)) ∈ lw_all := lw_g (lw_at lw_m4 196 rfl) rfl
theorem q1099 : (Jvm.Cond.instanceMethod ({ cls := "EvenBodies$Hull", name := "dual", desc := "()LEvenBodies$Net;" } : Jvm.MethodName)) ∈ lw_all := lw_g (lw_at lw_m5 66 rfl) rfl
theorem q1100 : (Jvm.Cond.selects "EvenBodies$Hull" ({ cls := "EvenBodies$Hull", name := "dual", desc := "()LEvenBodies$Net;" } : Jvm.MethodName) ({ cls := "EvenBodies$Hull", name := "dual", desc := "()LEvenBodies$Net;" } : Jvm.MethodName)) ∈ lw_all := lw_g (lw_at lw_m5 67 rfl) rfl
theorem q1101 : (Jvm.Cond.code ({ cls := "EvenBodies$Hull", name := "dual", desc := "()LEvenBodies$Net;" } : Jvm.MethodName) prog_6_method_17_code (6 : Nat) (Option.some (Jvm.ClassFile.FieldType.object "EvenBodies$Net"))) ∈ lw_all := lw_g (lw_at lw_m5 68 rfl) rfl
theorem q1102 : (Jvm.Cond.classLink "EvenBodies$Hull" (32 : Nat) "EvenBodies$Net") ∈ lw_all := lw_g (lw_at lw_m5 69 rfl) rfl
theorem q1103 : (Jvm.Cond.methodLink "EvenBodies$Hull" (146 : Nat) ({ cls := "java/lang/Math", name := "max", desc := "(II)I" } : Jvm.MethodName)) ∈ lw_all := lw_g (lw_at lw_m5 70 rfl) rfl
theorem q1104 : (Jvm.Cond.methodLink "EvenBodies$Hull" (149 : Nat) ({ cls := "EvenBodies$Net", name := "<init>", desc := "(II)V" } : Jvm.MethodName)) ∈ lw_all := lw_g (lw_at lw_m5 71 rfl) rfl
theorem q1110 : (Jvm.Cond.methodLink "EvenBodies$Hull" (151 : Nat) ({ cls := "EvenBodies$Net", name := "joins", desc := "(II)V" } : Jvm.MethodName)) ∈ lw_all := lw_g (lw_at lw_m5 77 rfl) rfl
theorem q1607 : (Jvm.Cond.castable "EvenBodies$Hull" "java/lang/Object") ∈ lw_tbl := lw_at lw_m7 94 rfl
theorem in_X12 : ∀ w ∈ wsX120, w ∈ lw_all := lw_in wsX120 [766, 768, 770, 772, 774, 776, 778] (by decide +kernel) (by decide +kernel)
def RX13 : String := "EvenBodies$Laid"
def TX13 : u_T := fun k => match k with
  | 0 => ("EvenBodies$Laid", "one", "LEvenBodies$Hull;", true)
  | 1 => ("EvenBodies$Laid", "other", "LEvenBodies$Hull;", true)
  | 2 => ("EvenBodies$Laid", "n", "I", true)
  | 3 => ("EvenBodies$Laid", "on", "[I", true)
  | 4 => ("EvenBodies$Laid", "turn", "[I", true)
  | 5 => ("EvenBodies$Laid", "isUsed", "[Z", true)
  | 6 => ("EvenBodies$Laid", "queue", "[I", true)
  | _ => ("EvenBodies$Laid", "end", "I", false)
def tyX13 : Nat → FieldType := fun k => match k with
  | 0 => .object "EvenBodies$Hull"
  | 1 => .object "EvenBodies$Hull"
  | 2 => .int
  | 3 => .array .int
  | 4 => .array .int
  | 5 => .array .boolean
  | 6 => .array .int
  | _ => .int
abbrev wsX130 : List Cond := u_ws RX13 TX13 8
theorem nmX13 : ∀ a, a < 8 → ∀ b, b < 8 → a ≠ b → (TX13 a).2.1 ≠ (TX13 b).2.1 := by decide +kernel
theorem tyX13_ok : ∀ k, k < 8 → parseFieldDescriptor (TX13 k).2.2.1 = some (tyX13 k) := by decide +kernel
abbrev cX13_init : ByteArray := prog_7_method_1_code
def yX13_init : MethodName := ⟨RX13, "<init>", "(LEvenBodies$Hull;LEvenBodies$Hull;)V"⟩
abbrev cX13_lies : ByteArray := prog_7_method_2_code
def yX13_lies : MethodName := ⟨RX13, "lies", "(II)Z"⟩
abbrev cX13_comes : ByteArray := prog_7_method_3_code
def yX13_comes : MethodName := ⟨RX13, "comes", "(III)V"⟩
abbrev cX13_goesOn : ByteArray := prog_7_method_4_code
def yX13_goesOn : MethodName := ⟨RX13, "goesOn", "(II)Z"⟩
theorem q91 : (Jvm.Cond.initialized "EvenBodies$Laid") ∈ lw_all := lw_g (lw_at lw_m1 18 rfl) rfl
theorem q630 : (Jvm.Cond.fieldLink "EvenBodies$Laid" (24 : Nat) "EvenBodies$Net" "n" "I") ∈ lw_all := lw_g (lw_at lw_m3 77 rfl) rfl
theorem q757 : (Jvm.Cond.fieldLinkNest "EvenBodies$Laid" (18 : Nat) "EvenBodies$Hull" "corners" "LEvenBodies$Net;" "EvenBodies") ∈ lw_tbl := lw_at lw_m3 204 rfl
theorem q801 : (Jvm.Cond.instantiable "EvenBodies$Laid" (8 : Nat)) ∈ lw_all := lw_g (lw_at lw_m4 8 rfl) rfl
theorem q803 : (Jvm.Cond.instanceMethod ({ cls := "EvenBodies$Laid", name := "<init>", desc := "(LEvenBodies$Hull;LEvenBodies$Hull;)V" } : Jvm.MethodName)) ∈ lw_all := lw_g (lw_at lw_m4 10 rfl) rfl
theorem q804 : (Jvm.Cond.code ({ cls := "EvenBodies$Laid", name := "<init>", desc := "(LEvenBodies$Hull;LEvenBodies$Hull;)V" } : Jvm.MethodName) prog_7_method_1_code (3 : Nat) (Option.none : Option Jvm.ClassFile.FieldType)) ∈ lw_all := lw_g (lw_at lw_m4 11 rfl) rfl
theorem q805 : (Jvm.Cond.methodLink "EvenBodies$Laid" (3 : Nat) ({ cls := "java/lang/Object", name := "<init>", desc := "()V" } : Jvm.MethodName)) ∈ lw_all := lw_g (lw_at lw_m4 12 rfl) rfl
theorem q806 : (Jvm.Cond.fieldLink "EvenBodies$Laid" (9 : Nat) "EvenBodies$Laid" "one" "LEvenBodies$Hull;") ∈ lw_all := lw_g (lw_at lw_m4 13 rfl) rfl
theorem q807 : (Jvm.Cond.fieldLink "EvenBodies$Laid" (15 : Nat) "EvenBodies$Laid" "other" "LEvenBodies$Hull;") ∈ lw_all := lw_g (lw_at lw_m4 14 rfl) rfl
theorem q808 : (Jvm.Cond.fieldLink "EvenBodies$Laid" (30 : Nat) "EvenBodies$Laid" "n" "I") ∈ lw_all := lw_g (lw_at lw_m4 15 rfl) rfl
theorem q809 : (Jvm.Cond.fieldLink "EvenBodies$Laid" (31 : Nat) "EvenBodies$Laid" "on" "[I") ∈ lw_all := lw_g (lw_at lw_m4 16 rfl) rfl
theorem q810 : (Jvm.Cond.fieldLink "EvenBodies$Laid" (35 : Nat) "EvenBodies$Laid" "turn" "[I") ∈ lw_all := lw_g (lw_at lw_m4 17 rfl) rfl
theorem q811 : (Jvm.Cond.fieldLink "EvenBodies$Laid" (38 : Nat) "EvenBodies$Laid" "isUsed" "[Z") ∈ lw_all := lw_g (lw_at lw_m4 18 rfl) rfl
theorem q812 : (Jvm.Cond.fieldLink "EvenBodies$Laid" (42 : Nat) "EvenBodies$Laid" "queue" "[I") ∈ lw_all := lw_g (lw_at lw_m4 19 rfl) rfl
theorem q813 : (Jvm.Cond.fieldLink "EvenBodies$Laid" (54 : Nat) "EvenBodies$Laid" "end" "I") ∈ lw_all := lw_g (lw_at lw_m4 20 rfl) rfl
theorem q814 : (Jvm.Cond.laysFinal "EvenBodies$Laid" "EvenBodies$Laid" "one" "LEvenBodies$Hull;") ∈ lw_all := lw_g (lw_at lw_m4 21 rfl) rfl
theorem q815 : (Jvm.Cond.soleField "EvenBodies$Laid" "one") ∈ lw_all := lw_g (lw_at lw_m4 22 rfl) rfl
theorem q816 : (Jvm.Cond.laysFinal "EvenBodies$Laid" "EvenBodies$Laid" "other" "LEvenBodies$Hull;") ∈ lw_all := lw_g (lw_at lw_m4 23 rfl) rfl
theorem q817 : (Jvm.Cond.soleField "EvenBodies$Laid" "other") ∈ lw_all := lw_g (lw_at lw_m4 24 rfl) rfl
theorem q818 : (Jvm.Cond.laysFinal "EvenBodies$Laid" "EvenBodies$Laid" "n" "I") ∈ lw_all := lw_g (lw_at lw_m4 25 rfl) rfl
theorem q819 : (Jvm.Cond.soleField "EvenBodies$Laid" "n") ∈ lw_all := lw_g (lw_at lw_m4 26 rfl) rfl
theorem q820 : (Jvm.Cond.laysFinal "EvenBodies$Laid" "EvenBodies$Laid" "on" "[I") ∈ lw_all := lw_g (lw_at lw_m4 27 rfl) rfl
theorem q821 : (Jvm.Cond.soleField "EvenBodies$Laid" "on") ∈ lw_all := lw_g (lw_at lw_m4 28 rfl) rfl
theorem q822 : (Jvm.Cond.laysFinal "EvenBodies$Laid" "EvenBodies$Laid" "turn" "[I") ∈ lw_all := lw_g (lw_at lw_m4 29 rfl) rfl
theorem q823 : (Jvm.Cond.soleField "EvenBodies$Laid" "turn") ∈ lw_all := lw_g (lw_at lw_m4 30 rfl) rfl
theorem q824 : (Jvm.Cond.laysFinal "EvenBodies$Laid" "EvenBodies$Laid" "isUsed" "[Z") ∈ lw_all := lw_g (lw_at lw_m4 31 rfl) rfl
theorem q825 : (Jvm.Cond.soleField "EvenBodies$Laid" "isUsed") ∈ lw_all := lw_g (lw_at lw_m4 32 rfl) rfl
theorem q826 : (Jvm.Cond.laysFinal "EvenBodies$Laid" "EvenBodies$Laid" "queue" "[I") ∈ lw_all := lw_g (lw_at lw_m4 33 rfl) rfl
theorem q827 : (Jvm.Cond.soleField "EvenBodies$Laid" "queue") ∈ lw_all := lw_g (lw_at lw_m4 34 rfl) rfl
theorem q828 : (Jvm.Cond.lays "EvenBodies$Laid" "EvenBodies$Laid" "end" "I") ∈ lw_all := lw_g (lw_at lw_m4 35 rfl) rfl
theorem q829 : (Jvm.Cond.soleField "EvenBodies$Laid" "end") ∈ lw_all := lw_g (lw_at lw_m4 36 rfl) rfl
theorem q830 : (Jvm.Cond.superclass "EvenBodies$Laid" "java/lang/Object") ∈ lw_all := lw_g (lw_at lw_m4 37 rfl) rfl
theorem q832 : (Jvm.Cond.instanceMethod ({ cls := "EvenBodies$Laid", name := "lies", desc := "(II)Z" } : Jvm.MethodName)) ∈ lw_all := lw_g (lw_at lw_m4 39 rfl) rfl
theorem q833 : (Jvm.Cond.selects "EvenBodies$Laid" ({ cls := "EvenBodies$Laid", name := "lies", desc := "(II)Z" } : Jvm.MethodName) ({ cls := "EvenBodies$Laid", name := "lies", desc := "(II)Z" } : Jvm.MethodName)) ∈ lw_all := lw_g (lw_at lw_m4 40 rfl) rfl
theorem q834 : (Jvm.Cond.code ({ cls := "EvenBodies$Laid", name := "lies", desc := "(II)Z" } : Jvm.MethodName) prog_7_method_2_code (4 : Nat) (Option.some Jvm.ClassFile.FieldType.boolean)) ∈ lw_all := lw_g (lw_at lw_m4 41 rfl) rfl
theorem q835 : (Jvm.Cond.methodLink "EvenBodies$Laid" (45 : Nat) ({ cls := "java/util/Arrays", name := "fill", desc := "([II)V" } : Jvm.MethodName)) ∈ lw_all := lw_g (lw_at lw_m4 42 rfl) rfl
theorem q836 : (Jvm.Cond.methodLink "EvenBodies$Laid" (51 : Nat) ({ cls := "java/util/Arrays", name := "fill", desc := "([ZZ)V" } : Jvm.MethodName)) ∈ lw_all := lw_g (lw_at lw_m4 43 rfl) rfl
theorem q839 : (Jvm.Cond.methodLink "EvenBodies$Laid" (57 : Nat) ({ cls := "EvenBodies$Laid", name := "comes", desc := "(III)V" } : Jvm.MethodName)) ∈ lw_all := lw_g (lw_at lw_m4 46 rfl) rfl
theorem q840 : (Jvm.Cond.privateMethod ({ cls := "EvenBodies$Laid", name := "comes", desc := "(III)V" } : Jvm.MethodName)) ∈ lw_tbl := lw_at lw_m4 47 rfl
theorem q841 : (Jvm.Cond.instanceMethod ({ cls := "EvenBodies$Laid", name := "comes", desc := "(III)V" } : Jvm.MethodName)) ∈ lw_all := lw_g (lw_at lw_m4 48 rfl) rfl
theorem q842 : (Jvm.Cond.code ({ cls := "EvenBodies$Laid", name := "comes", desc := "(III)V" } : Jvm.MethodName) prog_7_method_3_code (4 : Nat) (Option.none : Option Jvm.ClassFile.FieldType)) ∈ lw_all := lw_g (lw_at lw_m4 49 rfl) rfl
theorem q843 : (Jvm.Cond.methodLink "EvenBodies$Laid" (61 : Nat) ({ cls := "EvenBodies$Laid", name := "goesOn", desc := "(II)Z" } : Jvm.MethodName)) ∈ lw_all := lw_g (lw_at lw_m4 50 rfl) rfl
theorem q844 : (Jvm.Cond.privateMethod ({ cls := "EvenBodies$Laid", name := "goesOn", desc := "(II)Z" } : Jvm.MethodName)) ∈ lw_tbl := lw_at lw_m4 51 rfl
theorem q845 : (Jvm.Cond.instanceMethod ({ cls := "EvenBodies$Laid", name := "goesOn", desc := "(II)Z" } : Jvm.MethodName)) ∈ lw_all := lw_g (lw_at lw_m4 52 rfl) rfl
theorem q846 : (Jvm.Cond.code ({ cls := "EvenBodies$Laid", name := "goesOn", desc := "(II)Z" } : Jvm.MethodName) prog_7_method_4_code (11 : Nat) (Option.some Jvm.ClassFile.FieldType.boolean)) ∈ lw_all := lw_g (lw_at lw_m4 53 rfl) rfl
theorem q847 : (Jvm.Cond.methodLink "EvenBodies$Laid" (65 : Nat) ({ cls := "EvenBodies$Net", name := "degree", desc := "(I)I" } : Jvm.MethodName)) ∈ lw_all := lw_g (lw_at lw_m4 54 rfl) rfl
theorem q848 : (Jvm.Cond.methodLink "EvenBodies$Laid" (69 : Nat) ({ cls := "java/lang/Math", name := "floorMod", desc := "(II)I" } : Jvm.MethodName)) ∈ lw_all := lw_g (lw_at lw_m4 55 rfl) rfl
theorem q849 : (Jvm.Cond.methodLinkNest "EvenBodies$Laid" (75 : Nat) ({ cls := "EvenBodies$Hull", name := "before", desc := "(II)I" } : Jvm.MethodName) "EvenBodies") ∈ lw_tbl := lw_at lw_m4 56 rfl
theorem q850 : (Jvm.Cond.methodLinkNest "EvenBodies$Laid" (78 : Nat) ({ cls := "EvenBodies$Hull", name := "sizeBehind", desc := "(II)I" } : Jvm.MethodName) "EvenBodies") ∈ lw_tbl := lw_at lw_m4 57 rfl
theorem q851 : (Jvm.Cond.methodLinkNest "EvenBodies$Laid" (81 : Nat) ({ cls := "EvenBodies$Hull", name := "neighbour", desc := "(II)I" } : Jvm.MethodName) "EvenBodies") ∈ lw_tbl := lw_at lw_m4 58 rfl
theorem q852 : (Jvm.Cond.methodLinkNest "EvenBodies$Laid" (84 : Nat) ({ cls := "EvenBodies$Hull", name := "placeOf", desc := "(II)I" } : Jvm.MethodName) "EvenBodies") ∈ lw_tbl := lw_at lw_m4 59 rfl
theorem q990 : (Jvm.Cond.selects "EvenBodies$Laid" ({ cls := "java/lang/Object", name := "getClass", desc := "()Ljava/lang/Class;" } : Jvm.MethodName) ({ cls := "java/lang/Object", name := "getClass", desc := "()Ljava/lang/Class;" } : Jvm.MethodName)) ∈ lw_all := lw_g (lw_at lw_m4 197 rfl) rfl
theorem q1608 : (Jvm.Cond.castable "EvenBodies$Laid" "java/lang/Object") ∈ lw_tbl := lw_at lw_m7 95 rfl
theorem in_X13 : ∀ w ∈ wsX130, w ∈ lw_all := lw_in wsX130 [814, 816, 818, 820, 822, 824, 826, 828] (by decide +kernel) (by decide +kernel)
def RX14 : String := "EvenBodies$Snub"
def TX14 : u_T := fun k => match k with
  | 0 => ("EvenBodies$Net", "n", "I", true)
  | 1 => ("EvenBodies$Net", "wide", "I", true)
  | 2 => ("EvenBodies$Net", "joined", "[I", true)
  | 3 => ("EvenBodies$Net", "many", "[I", true)
  | 4 => ("EvenBodies$Snub", "body", "LEvenBodies$Body;", true)
  | _ => ("EvenBodies$Snub", "cornerOf", "[I", true)
def tyX14 : Nat → FieldType := fun k => match k with
  | 0 => .int
  | 1 => .int
  | 2 => .array .int
  | 3 => .array .int
  | 4 => .object "EvenBodies$Body"
  | _ => .array .int
abbrev wsX140 : List Cond := u_ws RX14 TX14 6
theorem nmX14 : ∀ a, a < 6 → ∀ b, b < 6 → a ≠ b → (TX14 a).2.1 ≠ (TX14 b).2.1 := by decide +kernel
theorem tyX14_ok : ∀ k, k < 6 → parseFieldDescriptor (TX14 k).2.2.1 = some (tyX14 k) := by decide +kernel
abbrev cX14_init : ByteArray := prog_13_method_1_code
def yX14_init : MethodName := ⟨RX14, "<init>", "(LEvenBodies$Body;)V"⟩
abbrev cX14_faces : ByteArray := prog_13_method_2_code
def yX14_faces : MethodName := ⟨RX14, "faces", "(I)I"⟩
theorem q97 : (Jvm.Cond.initialized "EvenBodies$Snub") ∈ lw_all := lw_g (lw_at lw_m1 24 rfl) rfl
theorem q128 : (Jvm.Cond.fieldLinkNest "EvenBodies$Snub" (3 : Nat) "EvenBodies$Body" "group" "LEvenBodies$Group;" "EvenBodies") ∈ lw_tbl := lw_at lw_m1 55 rfl
theorem q391 : (Jvm.Cond.fieldLinkNest "EvenBodies$Snub" (9 : Nat) "EvenBodies$Group" "n" "I" "EvenBodies") ∈ lw_tbl := lw_at lw_m2 78 rfl
theorem q623 : (Jvm.Cond.selects "EvenBodies$Snub" ({ cls := "EvenBodies$Net", name := "at", desc := "(II)I" } : Jvm.MethodName) ({ cls := "EvenBodies$Net", name := "at", desc := "(II)I" } : Jvm.MethodName)) ∈ lw_all := lw_g (lw_at lw_m3 70 rfl) rfl
theorem q632 : (Jvm.Cond.fieldLink "EvenBodies$Snub" (45 : Nat) "EvenBodies$Snub" "n" "I") ∈ lw_all := lw_g (lw_at lw_m3 79 rfl) rfl
theorem q633 : (Jvm.Cond.sameField "EvenBodies$Snub" "EvenBodies$Net" "n" "I") ∈ lw_all := lw_g (lw_at lw_m3 80 rfl) rfl
theorem q653 : (Jvm.Cond.selects "EvenBodies$Snub" ({ cls := "EvenBodies$Net", name := "degree", desc := "(I)I" } : Jvm.MethodName) ({ cls := "EvenBodies$Net", name := "degree", desc := "(I)I" } : Jvm.MethodName)) ∈ lw_all := lw_g (lw_at lw_m3 100 rfl) rfl
theorem q664 : (Jvm.Cond.selects "EvenBodies$Snub" ({ cls := "EvenBodies$Net", name := "far", desc := "(I)[I" } : Jvm.MethodName) ({ cls := "EvenBodies$Net", name := "far", desc := "(I)[I" } : Jvm.MethodName)) ∈ lw_all := lw_g (lw_at lw_m3 111 rfl) rfl
theorem q995 : (Jvm.Cond.selects "EvenBodies$Snub" ({ cls := "java/lang/Object", name := "getClass", desc := "()Ljava/lang/Class;" } : Jvm.MethodName) ({ cls := "java/lang/Object", name := "getClass", desc := "()Ljava/lang/Class;" } : Jvm.MethodName)) ∈ lw_all := lw_g (lw_at lw_m4 202 rfl) rfl
theorem q1031 : (Jvm.Cond.instantiable "EvenBodies$Snub" (6 : Nat)) ∈ lw_all := lw_g (lw_at lw_m4 238 rfl) rfl
theorem q1033 : (Jvm.Cond.instanceMethod ({ cls := "EvenBodies$Snub", name := "<init>", desc := "(LEvenBodies$Body;)V" } : Jvm.MethodName)) ∈ lw_all := lw_g (lw_at lw_m5 0 rfl) rfl
theorem q1034 : (Jvm.Cond.code ({ cls := "EvenBodies$Snub", name := "<init>", desc := "(LEvenBodies$Body;)V" } : Jvm.MethodName) prog_13_method_1_code (7 : Nat) (Option.none : Option Jvm.ClassFile.FieldType)) ∈ lw_all := lw_g (lw_at lw_m5 1 rfl) rfl
theorem q1035 : (Jvm.Cond.methodLink "EvenBodies$Snub" (15 : Nat) ({ cls := "EvenBodies$Net", name := "<init>", desc := "(II)V" } : Jvm.MethodName)) ∈ lw_all := lw_g (lw_at lw_m5 2 rfl) rfl
theorem q1036 : (Jvm.Cond.methodLink "EvenBodies$Snub" (31 : Nat) ({ cls := "EvenBodies$Group", name := "isHalf", desc := "(I)Z" } : Jvm.MethodName)) ∈ lw_all := lw_g (lw_at lw_m5 3 rfl) rfl
theorem q1040 : (Jvm.Cond.methodLink "EvenBodies$Snub" (35 : Nat) ({ cls := "EvenBodies$Group", name := "by", desc := "(II)I" } : Jvm.MethodName)) ∈ lw_all := lw_g (lw_at lw_m5 7 rfl) rfl
theorem q1041 : (Jvm.Cond.methodLink "EvenBodies$Snub" (39 : Nat) ({ cls := "EvenBodies$Snub", name := "joins", desc := "(II)V" } : Jvm.MethodName)) ∈ lw_all := lw_g (lw_at lw_m5 8 rfl) rfl
theorem q1042 : (Jvm.Cond.sameMethod "EvenBodies$Snub" "EvenBodies$Net" "joins" "(II)V") ∈ lw_all := lw_g (lw_at lw_m5 9 rfl) rfl
theorem q1043 : (Jvm.Cond.selects "EvenBodies$Snub" ({ cls := "EvenBodies$Snub", name := "joins", desc := "(II)V" } : Jvm.MethodName) ({ cls := "EvenBodies$Net", name := "joins", desc := "(II)V" } : Jvm.MethodName)) ∈ lw_all := lw_g (lw_at lw_m5 10 rfl) rfl
theorem q1044 : (Jvm.Cond.fieldLink "EvenBodies$Snub" (21 : Nat) "EvenBodies$Snub" "body" "LEvenBodies$Body;") ∈ lw_all := lw_g (lw_at lw_m5 11 rfl) rfl
theorem q1045 : (Jvm.Cond.fieldLink "EvenBodies$Snub" (27 : Nat) "EvenBodies$Snub" "cornerOf" "[I") ∈ lw_all := lw_g (lw_at lw_m5 12 rfl) rfl
theorem q1046 : (Jvm.Cond.laysFinal "EvenBodies$Snub" "EvenBodies$Snub" "body" "LEvenBodies$Body;") ∈ lw_all := lw_g (lw_at lw_m5 13 rfl) rfl
theorem q1047 : (Jvm.Cond.soleField "EvenBodies$Snub" "body") ∈ lw_all := lw_g (lw_at lw_m5 14 rfl) rfl
theorem q1048 : (Jvm.Cond.laysFinal "EvenBodies$Snub" "EvenBodies$Snub" "cornerOf" "[I") ∈ lw_all := lw_g (lw_at lw_m5 15 rfl) rfl
theorem q1049 : (Jvm.Cond.soleField "EvenBodies$Snub" "cornerOf") ∈ lw_all := lw_g (lw_at lw_m5 16 rfl) rfl
theorem q1050 : (Jvm.Cond.laysFinal "EvenBodies$Snub" "EvenBodies$Net" "n" "I") ∈ lw_all := lw_g (lw_at lw_m5 17 rfl) rfl
theorem q1051 : (Jvm.Cond.laysFinal "EvenBodies$Snub" "EvenBodies$Net" "wide" "I") ∈ lw_all := lw_g (lw_at lw_m5 18 rfl) rfl
theorem q1052 : (Jvm.Cond.laysFinal "EvenBodies$Snub" "EvenBodies$Net" "joined" "[I") ∈ lw_all := lw_g (lw_at lw_m5 19 rfl) rfl
theorem q1053 : (Jvm.Cond.laysFinal "EvenBodies$Snub" "EvenBodies$Net" "many" "[I") ∈ lw_all := lw_g (lw_at lw_m5 20 rfl) rfl
theorem q1054 : (Jvm.Cond.superclass "EvenBodies$Snub" "EvenBodies$Net") ∈ lw_all := lw_g (lw_at lw_m5 21 rfl) rfl
theorem q1056 : (Jvm.Cond.sameMethod "EvenBodies$Snub" "EvenBodies$Net" "all" "()I") ∈ lw_all := lw_g (lw_at lw_m5 23 rfl) rfl
theorem q1058 : (Jvm.Cond.selects "EvenBodies$Snub" ({ cls := "EvenBodies$Snub", name := "all", desc := "()I" } : Jvm.MethodName) ({ cls := "EvenBodies$Net", name := "all", desc := "()I" } : Jvm.MethodName)) ∈ lw_all := lw_g (lw_at lw_m5 25 rfl) rfl
theorem q1062 : (Jvm.Cond.instanceMethod ({ cls := "EvenBodies$Snub", name := "faces", desc := "(I)I" } : Jvm.MethodName)) ∈ lw_all := lw_g (lw_at lw_m5 29 rfl) rfl
theorem q1063 : (Jvm.Cond.selects "EvenBodies$Snub" ({ cls := "EvenBodies$Snub", name := "faces", desc := "(I)I" } : Jvm.MethodName) ({ cls := "EvenBodies$Snub", name := "faces", desc := "(I)I" } : Jvm.MethodName)) ∈ lw_all := lw_g (lw_at lw_m5 30 rfl) rfl
theorem q1064 : (Jvm.Cond.code ({ cls := "EvenBodies$Snub", name := "faces", desc := "(I)I" } : Jvm.MethodName) prog_13_method_2_code (7 : Nat) (Option.some Jvm.ClassFile.FieldType.int)) ∈ lw_all := lw_g (lw_at lw_m5 31 rfl) rfl
theorem q1065 : (Jvm.Cond.methodLink "EvenBodies$Snub" (42 : Nat) ({ cls := "EvenBodies$Body", name := "angle", desc := "(II)I" } : Jvm.MethodName)) ∈ lw_all := lw_g (lw_at lw_m5 32 rfl) rfl
theorem q1079 : (Jvm.Cond.sameMethod "EvenBodies$Snub" "EvenBodies$Net" "degree" "(I)I") ∈ lw_all := lw_g (lw_at lw_m5 46 rfl) rfl
theorem q1081 : (Jvm.Cond.selects "EvenBodies$Snub" ({ cls := "EvenBodies$Snub", name := "degree", desc := "(I)I" } : Jvm.MethodName) ({ cls := "EvenBodies$Net", name := "degree", desc := "(I)I" } : Jvm.MethodName)) ∈ lw_all := lw_g (lw_at lw_m5 48 rfl) rfl
theorem q1087 : (Jvm.Cond.sameMethod "EvenBodies$Snub" "EvenBodies$Net" "far" "(I)[I") ∈ lw_all := lw_g (lw_at lw_m5 54 rfl) rfl
theorem q1089 : (Jvm.Cond.selects "EvenBodies$Snub" ({ cls := "EvenBodies$Snub", name := "far", desc := "(I)[I" } : Jvm.MethodName) ({ cls := "EvenBodies$Net", name := "far", desc := "(I)[I" } : Jvm.MethodName)) ∈ lw_all := lw_g (lw_at lw_m5 56 rfl) rfl
theorem q1592 : (Jvm.Cond.selects "EvenBodies$Snub" ({ cls := "EvenBodies$Net", name := "joins", desc := "(II)V" } : Jvm.MethodName) ({ cls := "EvenBodies$Net", name := "joins", desc := "(II)V" } : Jvm.MethodName)) ∈ lw_all := lw_g (lw_at lw_m7 79 rfl) rfl
theorem q1596 : (Jvm.Cond.selects "EvenBodies$Snub" ({ cls := "EvenBodies$Net", name := "all", desc := "()I" } : Jvm.MethodName) ({ cls := "EvenBodies$Net", name := "all", desc := "()I" } : Jvm.MethodName)) ∈ lw_all := lw_g (lw_at lw_m7 83 rfl) rfl
theorem q1611 : (Jvm.Cond.castable "EvenBodies$Snub" "java/lang/Object") ∈ lw_tbl := lw_at lw_m7 98 rfl
theorem in_X14 : ∀ w ∈ wsX140, w ∈ lw_all := lw_in wsX140 [1050, 1051, 1052, 1053, 1046, 1048] (by decide +kernel) (by decide +kernel)
def RX2 : String := "EvenBodiesModel"
def TX2 : u_T := fun k => match k with
  | 0 => ("EvenBodiesModel", "thrown", "I", false)
  | 1 => ("EvenBodiesModel", "mirrors", "[I", true)
  | 2 => ("EvenBodiesModel", "angle", "[I", true)
  | 3 => ("EvenBodiesModel", "ringed", "[I", true)
  | 4 => ("EvenBodiesModel", "root", "[I", true)
  | 5 => ("EvenBodiesModel", "loaded", "I", false)
  | 6 => ("EvenBodiesModel", "\x72", "I", false)
  | 7 => ("EvenBodiesModel", "ring", "I", false)
  | 8 => ("EvenBodiesModel", "size", "I", false)
  | 9 => ("EvenBodiesModel", "image", "[I", true)
  | 10 => ("EvenBodiesModel", "tried", "[I", true)
  | 11 => ("EvenBodiesModel", "to", "[I", true)
  | 12 => ("EvenBodiesModel", "length", "[I", true)
  | 13 => ("EvenBodiesModel", "parent", "[I", true)
  | 14 => ("EvenBodiesModel", "last", "[I", true)
  | 15 => ("EvenBodiesModel", "corner", "[I", true)
  | 16 => ("EvenBodiesModel", "cornerMany", "I", false)
  | 17 => ("EvenBodiesModel", "part", "[I", true)
  | 18 => ("EvenBodiesModel", "partMany", "I", false)
  | 19 => ("EvenBodiesModel", "partLeast", "[I", true)
  | 20 => ("EvenBodiesModel", "other", "[I", true)
  | 21 => ("EvenBodiesModel", "queue", "[I", true)
  | 22 => ("EvenBodiesModel", "far", "[I", true)
  | 23 => ("EvenBodiesModel", "isMet", "[Z", true)
  | 24 => ("EvenBodiesModel", "now", "[J", true)
  | 25 => ("EvenBodiesModel", "then", "[J", true)
  | 26 => ("EvenBodiesModel", "isJoined", "[Z", true)
  | 27 => ("EvenBodiesModel", "edgePart", "[I", true)
  | 28 => ("EvenBodiesModel", "facePart", "[I", true)
  | 29 => ("EvenBodiesModel", "faceMany", "[I", true)
  | 30 => ("EvenBodiesModel", "row", "[I", true)
  | 31 => ("EvenBodiesModel", "rowMany", "I", false)
  | 32 => ("EvenBodiesModel", "sign", "[I", true)
  | 33 => ("EvenBodiesModel", "half", "[I", true)
  | _ => ("EvenBodiesModel", "order", "[I", true)
def tyX2 : Nat → FieldType := fun k => match k with
  | 0 => .int
  | 1 => .array .int
  | 2 => .array .int
  | 3 => .array .int
  | 4 => .array .int
  | 5 => .int
  | 6 => .int
  | 7 => .int
  | 8 => .int
  | 9 => .array .int
  | 10 => .array .int
  | 11 => .array .int
  | 12 => .array .int
  | 13 => .array .int
  | 14 => .array .int
  | 15 => .array .int
  | 16 => .int
  | 17 => .array .int
  | 18 => .int
  | 19 => .array .int
  | 20 => .array .int
  | 21 => .array .int
  | 22 => .array .int
  | 23 => .array .boolean
  | 24 => .array .long
  | 25 => .array .long
  | 26 => .array .boolean
  | 27 => .array .int
  | 28 => .array .int
  | 29 => .array .int
  | 30 => .array .int
  | 31 => .int
  | 32 => .array .int
  | 33 => .array .int
  | _ => .array .int
abbrev wsX20 : List Cond := u_ws RX2 TX2 35
set_option maxRecDepth 100000 in
theorem nmX2 : ∀ a, a < 35 → ∀ b, b < 35 → a ≠ b → (TX2 a).2.1 ≠ (TX2 b).2.1 := by decide +kernel
set_option maxRecDepth 100000 in
theorem tyX2_ok : ∀ k, k < 35 → parseFieldDescriptor (TX2 k).2.2.1 = some (tyX2 k) := by decide +kernel
abbrev cX2_init : ByteArray := prog_16_method_1_code
def yX2_init : MethodName := ⟨RX2, "<init>", "()V"⟩
abbrev cX2_renews : ByteArray := prog_16_method_5_code
def yX2_renews : MethodName := ⟨RX2, "renews", "(II)V"⟩
abbrev cX2_rootOf : ByteArray := prog_16_method_4_code
def yX2_rootOf : MethodName := ⟨RX2, "rootOf", "(I)I"⟩
abbrev cX2_body : ByteArray := prog_16_method_9_code
def yX2_body : MethodName := ⟨RX2, "body", "(II)I"⟩
abbrev cX2_isBody : ByteArray := prog_16_method_6_code
def yX2_isBody : MethodName := ⟨RX2, "isBody", "(I)Z"⟩
abbrev cX2_in : ByteArray := prog_16_method_3_code
def yX2_in : MethodName := ⟨RX2, "in", "(III)Z"⟩
abbrev cX2_angle : ByteArray := prog_16_method_10_code
def yX2_angle : MethodName := ⟨RX2, "angle", "(IIII)I"⟩
abbrev cX2_isMirror : ByteArray := prog_16_method_7_code
def yX2_isMirror : MethodName := ⟨RX2, "isMirror", "(II)Z"⟩
abbrev cX2_angleOf : ByteArray := prog_16_method_8_code
def yX2_angleOf : MethodName := ⟨RX2, "angleOf", "(III)I"⟩
abbrev cX2_ring : ByteArray := prog_16_method_11_code
def yX2_ring : MethodName := ⟨RX2, "ring", "(II)I"⟩
abbrev cX2_order : ByteArray := prog_16_method_12_code
def yX2_order : MethodName := ⟨RX2, "order", "(III)I"⟩
abbrev cX2_about : ByteArray := prog_16_method_14_code
def yX2_about : MethodName := ⟨RX2, "about", "(III)I"⟩
abbrev cX2_joinedTo : ByteArray := prog_16_method_13_code
def yX2_joinedTo : MethodName := ⟨RX2, "joinedTo", "(II)I"⟩
abbrev cX2_size : ByteArray := prog_16_method_26_code
def yX2_size : MethodName := ⟨RX2, "size", "(I)I"⟩
abbrev cX2_refuses : ByteArray := prog_16_method_21_code
def yX2_refuses : MethodName := ⟨RX2, "refuses", "(I)I"⟩
abbrev cX2_loads : ByteArray := prog_16_method_18_code
def yX2_loads : MethodName := ⟨RX2, "loads", "(I)Z"⟩
abbrev cX2_sizeOf : ByteArray := prog_16_method_17_code
def yX2_sizeOf : MethodName := ⟨RX2, "sizeOf", "(I)I"⟩
abbrev cX2_makes : ByteArray := prog_16_method_16_code
def yX2_makes : MethodName := ⟨RX2, "makes", "(II)I"⟩
abbrev cX2_bits : ByteArray := prog_16_method_15_code
def yX2_bits : MethodName := ⟨RX2, "bits", "(I)I"⟩
abbrev cX2_turned : ByteArray := prog_16_method_19_code
def yX2_turned : MethodName := ⟨RX2, "turned", "(III)V"⟩
abbrev cX2_found : ByteArray := prog_16_method_20_code
def yX2_found : MethodName := ⟨RX2, "found", "(I)I"⟩
abbrev cX2_tellsParts : ByteArray := prog_16_method_39_code
def yX2_tellsParts : MethodName := ⟨RX2, "tellsParts", "(I)V"⟩
abbrev cX2_stillOf : ByteArray := prog_16_method_38_code
def yX2_stillOf : MethodName := ⟨RX2, "stillOf", "(II)I"⟩
abbrev cX2_length : ByteArray := prog_16_method_27_code
def yX2_length : MethodName := ⟨RX2, "length", "(II)I"⟩
abbrev cX2_refusesOf : ByteArray := prog_16_method_22_code
def yX2_refusesOf : MethodName := ⟨RX2, "refusesOf", "(II)I"⟩
abbrev cX2_letter : ByteArray := prog_16_method_28_code
def yX2_letter : MethodName := ⟨RX2, "letter", "(III)I"⟩
abbrev cX2_letterOf : ByteArray := prog_16_method_24_code
def yX2_letterOf : MethodName := ⟨RX2, "letterOf", "(II)I"⟩
abbrev cX2_element : ByteArray := prog_16_method_29_code
def yX2_element : MethodName := ⟨RX2, "element", "(II)I"⟩
abbrev cX2_product : ByteArray := prog_16_method_30_code
def yX2_product : MethodName := ⟨RX2, "product", "(III)I"⟩
abbrev cX2_productOf : ByteArray := prog_16_method_23_code
def yX2_productOf : MethodName := ⟨RX2, "productOf", "(II)I"⟩
abbrev cX2_inverse : ByteArray := prog_16_method_31_code
def yX2_inverse : MethodName := ⟨RX2, "inverse", "(II)I"⟩
abbrev cX2_inverseOf : ByteArray := prog_16_method_25_code
def yX2_inverseOf : MethodName := ⟨RX2, "inverseOf", "(I)I"⟩
abbrev cX2_turns : ByteArray := prog_16_method_32_code
def yX2_turns : MethodName := ⟨RX2, "turns", "(II)I"⟩
abbrev cX2_classSize : ByteArray := prog_16_method_33_code
def yX2_classSize : MethodName := ⟨RX2, "classSize", "(II)I"⟩
abbrev cX2_clears : ByteArray := prog_16_method_34_code
def yX2_clears : MethodName := ⟨RX2, "clears", "()V"⟩
abbrev cX2_ofLength : ByteArray := prog_16_method_35_code
def yX2_ofLength : MethodName := ⟨RX2, "ofLength", "(II)I"⟩
abbrev cX2_mirrors : ByteArray := prog_16_method_36_code
def yX2_mirrors : MethodName := ⟨RX2, "mirrors", "(I)I"⟩
abbrev cX2_kinds : ByteArray := prog_16_method_40_code
def yX2_kinds : MethodName := ⟨RX2, "kinds", "(II)I"⟩
abbrev cX2_isKind : ByteArray := prog_16_method_37_code
def yX2_isKind : MethodName := ⟨RX2, "isKind", "(II)Z"⟩
abbrev cX2_kind : ByteArray := prog_16_method_41_code
def yX2_kind : MethodName := ⟨RX2, "kind", "(III)I"⟩
abbrev cX2_parts : ByteArray := prog_16_method_43_code
def yX2_parts : MethodName := ⟨RX2, "parts", "(II)I"⟩
abbrev cX2_refusesPart : ByteArray := prog_16_method_42_code
def yX2_refusesPart : MethodName := ⟨RX2, "refusesPart", "(III)I"⟩
abbrev cX2_partOf : ByteArray := prog_16_method_44_code
def yX2_partOf : MethodName := ⟨RX2, "partOf", "(III)I"⟩
abbrev cX2_least : ByteArray := prog_16_method_45_code
def yX2_least : MethodName := ⟨RX2, "least", "(III)I"⟩
abbrev cX2_corners : ByteArray := prog_16_method_47_code
def yX2_corners : MethodName := ⟨RX2, "corners", "(III)I"⟩
abbrev cX2_cornersOf : ByteArray := prog_16_method_46_code
def yX2_cornersOf : MethodName := ⟨RX2, "cornersOf", "(I)I"⟩
abbrev cX2_cornerOf : ByteArray := prog_16_method_48_code
def yX2_cornerOf : MethodName := ⟨RX2, "cornerOf", "(IIII)I"⟩
abbrev cX2_liesIn : ByteArray := prog_16_method_50_code
def yX2_liesIn : MethodName := ⟨RX2, "liesIn", "(IIIII)I"⟩
abbrev cX2_isWithin : ByteArray := prog_16_method_49_code
def yX2_isWithin : MethodName := ⟨RX2, "isWithin", "(II)Z"⟩
abbrev cX2_within : ByteArray := prog_16_method_51_code
def yX2_within : MethodName := ⟨RX2, "within", "(IIII)I"⟩
abbrev cX2_count : ByteArray := prog_16_method_53_code
def yX2_count : MethodName := ⟨RX2, "count", "(II)I"⟩
abbrev cX2_countOf : ByteArray := prog_16_method_52_code
def yX2_countOf : MethodName := ⟨RX2, "countOf", "(I)I"⟩
abbrev cX2_law : ByteArray := prog_16_method_54_code
def yX2_law : MethodName := ⟨RX2, "law", "(I)I"⟩
abbrev cX2_moves : ByteArray := prog_16_method_55_code
def yX2_moves : MethodName := ⟨RX2, "moves", "(III)I"⟩
abbrev cX2_degree : ByteArray := prog_16_method_59_code
def yX2_degree : MethodName := ⟨RX2, "degree", "(II)I"⟩
abbrev cX2_joins : ByteArray := prog_16_method_56_code
def yX2_joins : MethodName := ⟨RX2, "joins", "()V"⟩
abbrev cX2_degreeOf : ByteArray := prog_16_method_58_code
def yX2_degreeOf : MethodName := ⟨RX2, "degreeOf", "(II)I"⟩
abbrev cX2_far : ByteArray := prog_16_method_60_code
def yX2_far : MethodName := ⟨RX2, "far", "(III)I"⟩
abbrev cX2_walks : ByteArray := prog_16_method_57_code
def yX2_walks : MethodName := ⟨RX2, "walks", "(II)V"⟩
abbrev cX2_layer : ByteArray := prog_16_method_61_code
def yX2_layer : MethodName := ⟨RX2, "layer", "(II)I"⟩
abbrev cX2_ways : ByteArray := prog_16_method_62_code
def yX2_ways : MethodName := ⟨RX2, "ways", "(IIII)J"⟩
abbrev cX2_coloured : ByteArray := prog_16_method_63_code
def yX2_coloured : MethodName := ⟨RX2, "coloured", "(I)I"⟩
abbrev cX2_round : ByteArray := prog_16_method_72_code
def yX2_round : MethodName := ⟨RX2, "round", "(II)I"⟩
abbrev cX2_refusesThree : ByteArray := prog_16_method_64_code
def yX2_refusesThree : MethodName := ⟨RX2, "refusesThree", "(I)I"⟩
abbrev cX2_rounds : ByteArray := prog_16_method_69_code
def yX2_rounds : MethodName := ⟨RX2, "rounds", "()V"⟩
abbrev cX2_faces : ByteArray := prog_16_method_65_code
def yX2_faces : MethodName := ⟨RX2, "faces", "()V"⟩
abbrev cX2_edgeWith : ByteArray := prog_16_method_68_code
def yX2_edgeWith : MethodName := ⟨RX2, "edgeWith", "(II)I"⟩
abbrev cX2_faceSize : ByteArray := prog_16_method_66_code
def yX2_faceSize : MethodName := ⟨RX2, "faceSize", "(I)I"⟩
abbrev cX2_faceWith : ByteArray := prog_16_method_67_code
def yX2_faceWith : MethodName := ⟨RX2, "faceWith", "(II)I"⟩
abbrev cX2_isLess : ByteArray := prog_16_method_71_code
def yX2_isLess : MethodName := ⟨RX2, "isLess", "(II)Z"⟩
abbrev cX2_told : ByteArray := prog_16_method_70_code
def yX2_told : MethodName := ⟨RX2, "told", "(II)I"⟩
abbrev cX2_alike : ByteArray := prog_16_method_75_code
def yX2_alike : MethodName := ⟨RX2, "alike", "(II)I"⟩
abbrev cX2_signs : ByteArray := prog_16_method_73_code
def yX2_signs : MethodName := ⟨RX2, "signs", "(I)V"⟩
abbrev cX2_isLike : ByteArray := prog_16_method_74_code
def yX2_isLike : MethodName := ⟨RX2, "isLike", "(II)Z"⟩
abbrev cX2_unlike : ByteArray := prog_16_method_76_code
def yX2_unlike : MethodName := ⟨RX2, "unlike", "(I)I"⟩
abbrev cX2_snub : ByteArray := prog_16_method_80_code
def yX2_snub : MethodName := ⟨RX2, "snub", "(II)I"⟩
abbrev cX2_snubs : ByteArray := prog_16_method_77_code
def yX2_snubs : MethodName := ⟨RX2, "snubs", "()I"⟩
abbrev cX2_joinsAll : ByteArray := prog_16_method_78_code
def yX2_joinsAll : MethodName := ⟨RX2, "joinsAll", "(I)I"⟩
abbrev cX2_snubFacesOf : ByteArray := prog_16_method_79_code
def yX2_snubFacesOf : MethodName := ⟨RX2, "snubFacesOf", "(I)I"⟩
abbrev cX2_snubLaw : ByteArray := prog_16_method_81_code
def yX2_snubLaw : MethodName := ⟨RX2, "snubLaw", "(I)I"⟩
abbrev cX2_snubDegree : ByteArray := prog_16_method_82_code
def yX2_snubDegree : MethodName := ⟨RX2, "snubDegree", "(II)I"⟩
abbrev cX2_snubFar : ByteArray := prog_16_method_83_code
def yX2_snubFar : MethodName := ⟨RX2, "snubFar", "(III)I"⟩
abbrev cX2_snubFaces : ByteArray := prog_16_method_84_code
def yX2_snubFaces : MethodName := ⟨RX2, "snubFaces", "(II)I"⟩
abbrev cX2_dual : ByteArray := prog_16_method_86_code
def yX2_dual : MethodName := ⟨RX2, "dual", "(II)I"⟩
abbrev cX2_duals : ByteArray := prog_16_method_85_code
def yX2_duals : MethodName := ⟨RX2, "duals", "()I"⟩
abbrev cX2_dualDegree : ByteArray := prog_16_method_87_code
def yX2_dualDegree : MethodName := ⟨RX2, "dualDegree", "(II)I"⟩
abbrev cX2_dualFar : ByteArray := prog_16_method_88_code
def yX2_dualFar : MethodName := ⟨RX2, "dualFar", "(I)I"⟩
abbrev cX2_digest : ByteArray := prog_16_method_89_code
def yX2_digest : MethodName := ⟨RX2, "digest", "()J"⟩
theorem q77 : (Jvm.Cond.initialized "EvenBodiesModel") ∈ lw_all := lw_g (lw_at lw_m1 4 rfl) rfl
theorem q997 : (Jvm.Cond.selects "EvenBodiesModel" ({ cls := "java/lang/Object", name := "getClass", desc := "()Ljava/lang/Class;" } : Jvm.MethodName) ({ cls := "java/lang/Object", name := "getClass", desc := "()Ljava/lang/Class;" } : Jvm.MethodName)) ∈ lw_all := lw_g (lw_at lw_m4 204 rfl) rfl
theorem q1129 : (Jvm.Cond.instantiable "EvenBodiesModel" (35 : Nat)) ∈ lw_all := lw_g (lw_at lw_m5 96 rfl) rfl
theorem q1131 : (Jvm.Cond.instanceMethod ({ cls := "EvenBodiesModel", name := "<init>", desc := "()V" } : Jvm.MethodName)) ∈ lw_all := lw_g (lw_at lw_m5 98 rfl) rfl
theorem q1132 : (Jvm.Cond.code ({ cls := "EvenBodiesModel", name := "<init>", desc := "()V" } : Jvm.MethodName) prog_16_method_1_code (2 : Nat) (Option.none : Option Jvm.ClassFile.FieldType)) ∈ lw_all := lw_g (lw_at lw_m5 99 rfl) rfl
theorem q1133 : (Jvm.Cond.methodLink "EvenBodiesModel" (1 : Nat) ({ cls := "java/lang/Object", name := "<init>", desc := "()V" } : Jvm.MethodName)) ∈ lw_all := lw_g (lw_at lw_m5 100 rfl) rfl
theorem q1134 : (Jvm.Cond.constant "EvenBodiesModel" (73 : Nat) (250000 : Int32)) ∈ lw_all := lw_g (lw_at lw_m5 101 rfl) rfl
theorem q1135 : (Jvm.Cond.methodLink "EvenBodiesModel" (98 : Nat) ({ cls := "EvenBodiesModel", name := "renews", desc := "(II)V" } : Jvm.MethodName)) ∈ lw_all := lw_g (lw_at lw_m5 102 rfl) rfl
theorem q1136 : (Jvm.Cond.privateMethod ({ cls := "EvenBodiesModel", name := "renews", desc := "(II)V" } : Jvm.MethodName)) ∈ lw_tbl := lw_at lw_m5 103 rfl
theorem q1137 : (Jvm.Cond.instanceMethod ({ cls := "EvenBodiesModel", name := "renews", desc := "(II)V" } : Jvm.MethodName)) ∈ lw_all := lw_g (lw_at lw_m5 104 rfl) rfl
theorem q1138 : (Jvm.Cond.code ({ cls := "EvenBodiesModel", name := "renews", desc := "(II)V" } : Jvm.MethodName) prog_16_method_5_code (4 : Nat) (Option.none : Option Jvm.ClassFile.FieldType)) ∈ lw_all := lw_g (lw_at lw_m5 105 rfl) rfl
theorem q1139 : (Jvm.Cond.methodLink "EvenBodiesModel" (102 : Nat) ({ cls := "EvenBodiesModel", name := "rootOf", desc := "(I)I" } : Jvm.MethodName)) ∈ lw_all := lw_g (lw_at lw_m5 106 rfl) rfl
theorem q1140 : (Jvm.Cond.static ({ cls := "EvenBodiesModel", name := "rootOf", desc := "(I)I" } : Jvm.MethodName)) ∈ lw_all := lw_g (lw_at lw_m5 107 rfl) rfl
theorem q1141 : (Jvm.Cond.code ({ cls := "EvenBodiesModel", name := "rootOf", desc := "(I)I" } : Jvm.MethodName) prog_16_method_4_code (2 : Nat) (Option.some Jvm.ClassFile.FieldType.int)) ∈ lw_all := lw_g (lw_at lw_m5 108 rfl) rfl
theorem q1142 : (Jvm.Cond.fieldLink "EvenBodiesModel" (106 : Nat) "EvenBodiesModel" "thrown" "I") ∈ lw_all := lw_g (lw_at lw_m5 109 rfl) rfl
theorem q1143 : (Jvm.Cond.fieldLink "EvenBodiesModel" (7 : Nat) "EvenBodiesModel" "mirrors" "[I") ∈ lw_all := lw_g (lw_at lw_m5 110 rfl) rfl
theorem q1144 : (Jvm.Cond.fieldLink "EvenBodiesModel" (13 : Nat) "EvenBodiesModel" "angle" "[I") ∈ lw_all := lw_g (lw_at lw_m5 111 rfl) rfl
theorem q1145 : (Jvm.Cond.fieldLink "EvenBodiesModel" (16 : Nat) "EvenBodiesModel" "ringed" "[I") ∈ lw_all := lw_g (lw_at lw_m5 112 rfl) rfl
theorem q1146 : (Jvm.Cond.fieldLink "EvenBodiesModel" (19 : Nat) "EvenBodiesModel" "root" "[I") ∈ lw_all := lw_g (lw_at lw_m5 113 rfl) rfl
theorem q1147 : (Jvm.Cond.fieldLink "EvenBodiesModel" (22 : Nat) "EvenBodiesModel" "loaded" "I") ∈ lw_all := lw_g (lw_at lw_m5 114 rfl) rfl
theorem q1148 : (Jvm.Cond.fieldLink "EvenBodiesModel" (138 : Nat) "EvenBodiesModel" "\x72" "I") ∈ lw_all := lw_g (lw_at lw_m5 115 rfl) rfl
theorem q1149 : (Jvm.Cond.fieldLink "EvenBodiesModel" (141 : Nat) "EvenBodiesModel" "ring" "I") ∈ lw_all := lw_g (lw_at lw_m5 116 rfl) rfl
theorem q1150 : (Jvm.Cond.fieldLink "EvenBodiesModel" (135 : Nat) "EvenBodiesModel" "size" "I") ∈ lw_all := lw_g (lw_at lw_m5 117 rfl) rfl
theorem q1151 : (Jvm.Cond.fieldLink "EvenBodiesModel" (26 : Nat) "EvenBodiesModel" "image" "[I") ∈ lw_all := lw_g (lw_at lw_m5 118 rfl) rfl
theorem q1152 : (Jvm.Cond.fieldLink "EvenBodiesModel" (29 : Nat) "EvenBodiesModel" "tried" "[I") ∈ lw_all := lw_g (lw_at lw_m5 119 rfl) rfl
theorem q1153 : (Jvm.Cond.fieldLink "EvenBodiesModel" (32 : Nat) "EvenBodiesModel" "to" "[I") ∈ lw_all := lw_g (lw_at lw_m5 120 rfl) rfl
theorem q1154 : (Jvm.Cond.fieldLink "EvenBodiesModel" (35 : Nat) "EvenBodiesModel" "length" "[I") ∈ lw_all := lw_g (lw_at lw_m5 121 rfl) rfl
theorem q1155 : (Jvm.Cond.fieldLink "EvenBodiesModel" (38 : Nat) "EvenBodiesModel" "parent" "[I") ∈ lw_all := lw_g (lw_at lw_m5 122 rfl) rfl
theorem q1156 : (Jvm.Cond.fieldLink "EvenBodiesModel" (41 : Nat) "EvenBodiesModel" "last" "[I") ∈ lw_all := lw_g (lw_at lw_m5 123 rfl) rfl
theorem q1157 : (Jvm.Cond.fieldLink "EvenBodiesModel" (44 : Nat) "EvenBodiesModel" "corner" "[I") ∈ lw_all := lw_g (lw_at lw_m5 124 rfl) rfl
theorem q1158 : (Jvm.Cond.fieldLink "EvenBodiesModel" (161 : Nat) "EvenBodiesModel" "cornerMany" "I") ∈ lw_all := lw_g (lw_at lw_m5 125 rfl) rfl
theorem q1159 : (Jvm.Cond.fieldLink "EvenBodiesModel" (47 : Nat) "EvenBodiesModel" "part" "[I") ∈ lw_all := lw_g (lw_at lw_m5 126 rfl) rfl
theorem q1160 : (Jvm.Cond.fieldLink "EvenBodiesModel" (158 : Nat) "EvenBodiesModel" "partMany" "I") ∈ lw_all := lw_g (lw_at lw_m5 127 rfl) rfl
theorem q1161 : (Jvm.Cond.fieldLink "EvenBodiesModel" (50 : Nat) "EvenBodiesModel" "partLeast" "[I") ∈ lw_all := lw_g (lw_at lw_m5 128 rfl) rfl
theorem q1162 : (Jvm.Cond.fieldLink "EvenBodiesModel" (53 : Nat) "EvenBodiesModel" "other" "[I") ∈ lw_all := lw_g (lw_at lw_m5 129 rfl) rfl
theorem q1163 : (Jvm.Cond.fieldLink "EvenBodiesModel" (56 : Nat) "EvenBodiesModel" "queue" "[I") ∈ lw_all := lw_g (lw_at lw_m5 130 rfl) rfl
theorem q1164 : (Jvm.Cond.fieldLink "EvenBodiesModel" (59 : Nat) "EvenBodiesModel" "far" "[I") ∈ lw_all := lw_g (lw_at lw_m5 131 rfl) rfl
theorem q1165 : (Jvm.Cond.fieldLink "EvenBodiesModel" (62 : Nat) "EvenBodiesModel" "isMet" "[Z") ∈ lw_all := lw_g (lw_at lw_m5 132 rfl) rfl
theorem q1166 : (Jvm.Cond.fieldLink "EvenBodiesModel" (66 : Nat) "EvenBodiesModel" "now" "[J") ∈ lw_all := lw_g (lw_at lw_m5 133 rfl) rfl
theorem q1167 : (Jvm.Cond.fieldLink "EvenBodiesModel" (70 : Nat) "EvenBodiesModel" "then" "[J") ∈ lw_all := lw_g (lw_at lw_m5 134 rfl) rfl
theorem q1168 : (Jvm.Cond.fieldLink "EvenBodiesModel" (74 : Nat) "EvenBodiesModel" "isJoined" "[Z") ∈ lw_all := lw_g (lw_at lw_m5 135 rfl) rfl
theorem q1169 : (Jvm.Cond.fieldLink "EvenBodiesModel" (77 : Nat) "EvenBodiesModel" "edgePart" "[I") ∈ lw_all := lw_g (lw_at lw_m5 136 rfl) rfl
theorem q1170 : (Jvm.Cond.fieldLink "EvenBodiesModel" (80 : Nat) "EvenBodiesModel" "facePart" "[I") ∈ lw_all := lw_g (lw_at lw_m5 137 rfl) rfl
theorem q1171 : (Jvm.Cond.fieldLink "EvenBodiesModel" (83 : Nat) "EvenBodiesModel" "faceMany" "[I") ∈ lw_all := lw_g (lw_at lw_m5 138 rfl) rfl
theorem q1172 : (Jvm.Cond.fieldLink "EvenBodiesModel" (86 : Nat) "EvenBodiesModel" "row" "[I") ∈ lw_all := lw_g (lw_at lw_m5 139 rfl) rfl
theorem q1173 : (Jvm.Cond.fieldLink "EvenBodiesModel" (217 : Nat) "EvenBodiesModel" "rowMany" "I") ∈ lw_all := lw_g (lw_at lw_m5 140 rfl) rfl
theorem q1174 : (Jvm.Cond.fieldLink "EvenBodiesModel" (89 : Nat) "EvenBodiesModel" "sign" "[I") ∈ lw_all := lw_g (lw_at lw_m5 141 rfl) rfl
theorem q1175 : (Jvm.Cond.fieldLink "EvenBodiesModel" (92 : Nat) "EvenBodiesModel" "half" "[I") ∈ lw_all := lw_g (lw_at lw_m5 142 rfl) rfl
theorem q1176 : (Jvm.Cond.fieldLink "EvenBodiesModel" (95 : Nat) "EvenBodiesModel" "order" "[I") ∈ lw_all := lw_g (lw_at lw_m5 143 rfl) rfl
theorem q1177 : (Jvm.Cond.lays "EvenBodiesModel" "EvenBodiesModel" "thrown" "I") ∈ lw_all := lw_g (lw_at lw_m5 144 rfl) rfl
theorem q1178 : (Jvm.Cond.soleField "EvenBodiesModel" "thrown") ∈ lw_all := lw_g (lw_at lw_m5 145 rfl) rfl
theorem q1179 : (Jvm.Cond.laysFinal "EvenBodiesModel" "EvenBodiesModel" "mirrors" "[I") ∈ lw_all := lw_g (lw_at lw_m5 146 rfl) rfl
theorem q1180 : (Jvm.Cond.soleField "EvenBodiesModel" "mirrors") ∈ lw_all := lw_g (lw_at lw_m5 147 rfl) rfl
theorem q1181 : (Jvm.Cond.laysFinal "EvenBodiesModel" "EvenBodiesModel" "angle" "[I") ∈ lw_all := lw_g (lw_at lw_m5 148 rfl) rfl
theorem q1182 : (Jvm.Cond.soleField "EvenBodiesModel" "angle") ∈ lw_all := lw_g (lw_at lw_m5 149 rfl) rfl
theorem q1183 : (Jvm.Cond.laysFinal "EvenBodiesModel" "EvenBodiesModel" "ringed" "[I") ∈ lw_all := lw_g (lw_at lw_m5 150 rfl) rfl
theorem q1184 : (Jvm.Cond.soleField "EvenBodiesModel" "ringed") ∈ lw_all := lw_g (lw_at lw_m5 151 rfl) rfl
theorem q1185 : (Jvm.Cond.laysFinal "EvenBodiesModel" "EvenBodiesModel" "root" "[I") ∈ lw_all := lw_g (lw_at lw_m5 152 rfl) rfl
theorem q1186 : (Jvm.Cond.soleField "EvenBodiesModel" "root") ∈ lw_all := lw_g (lw_at lw_m5 153 rfl) rfl
theorem q1187 : (Jvm.Cond.lays "EvenBodiesModel" "EvenBodiesModel" "loaded" "I") ∈ lw_all := lw_g (lw_at lw_m5 154 rfl) rfl
theorem q1188 : (Jvm.Cond.soleField "EvenBodiesModel" "loaded") ∈ lw_all := lw_g (lw_at lw_m5 155 rfl) rfl
theorem q1189 : (Jvm.Cond.lays "EvenBodiesModel" "EvenBodiesModel" "\x72" "I") ∈ lw_all := lw_g (lw_at lw_m5 156 rfl) rfl
theorem q1190 : (Jvm.Cond.soleField "EvenBodiesModel" "\x72") ∈ lw_all := lw_g (lw_at lw_m5 157 rfl) rfl
theorem q1191 : (Jvm.Cond.lays "EvenBodiesModel" "EvenBodiesModel" "ring" "I") ∈ lw_all := lw_g (lw_at lw_m5 158 rfl) rfl
theorem q1192 : (Jvm.Cond.soleField "EvenBodiesModel" "ring") ∈ lw_all := lw_g (lw_at lw_m5 159 rfl) rfl
theorem q1193 : (Jvm.Cond.lays "EvenBodiesModel" "EvenBodiesModel" "size" "I") ∈ lw_all := lw_g (lw_at lw_m5 160 rfl) rfl
theorem q1194 : (Jvm.Cond.soleField "EvenBodiesModel" "size") ∈ lw_all := lw_g (lw_at lw_m5 161 rfl) rfl
theorem q1195 : (Jvm.Cond.laysFinal "EvenBodiesModel" "EvenBodiesModel" "image" "[I") ∈ lw_all := lw_g (lw_at lw_m5 162 rfl) rfl
theorem q1196 : (Jvm.Cond.soleField "EvenBodiesModel" "image") ∈ lw_all := lw_g (lw_at lw_m5 163 rfl) rfl
theorem q1197 : (Jvm.Cond.laysFinal "EvenBodiesModel" "EvenBodiesModel" "tried" "[I") ∈ lw_all := lw_g (lw_at lw_m5 164 rfl) rfl
theorem q1198 : (Jvm.Cond.soleField "EvenBodiesModel" "tried") ∈ lw_all := lw_g (lw_at lw_m5 165 rfl) rfl
theorem q1199 : (Jvm.Cond.laysFinal "EvenBodiesModel" "EvenBodiesModel" "to" "[I") ∈ lw_all := lw_g (lw_at lw_m5 166 rfl) rfl
theorem q1200 : (Jvm.Cond.soleField "EvenBodiesModel" "to") ∈ lw_all := lw_g (lw_at lw_m5 167 rfl) rfl
theorem q1201 : (Jvm.Cond.laysFinal "EvenBodiesModel" "EvenBodiesModel" "length" "[I") ∈ lw_all := lw_g (lw_at lw_m5 168 rfl) rfl
theorem q1202 : (Jvm.Cond.soleField "EvenBodiesModel" "length") ∈ lw_all := lw_g (lw_at lw_m5 169 rfl) rfl
theorem q1203 : (Jvm.Cond.laysFinal "EvenBodiesModel" "EvenBodiesModel" "parent" "[I") ∈ lw_all := lw_g (lw_at lw_m5 170 rfl) rfl
theorem q1204 : (Jvm.Cond.soleField "EvenBodiesModel" "parent") ∈ lw_all := lw_g (lw_at lw_m5 171 rfl) rfl
theorem q1205 : (Jvm.Cond.laysFinal "EvenBodiesModel" "EvenBodiesModel" "last" "[I") ∈ lw_all := lw_g (lw_at lw_m5 172 rfl) rfl
theorem q1206 : (Jvm.Cond.soleField "EvenBodiesModel" "last") ∈ lw_all := lw_g (lw_at lw_m5 173 rfl) rfl
theorem q1207 : (Jvm.Cond.laysFinal "EvenBodiesModel" "EvenBodiesModel" "corner" "[I") ∈ lw_all := lw_g (lw_at lw_m5 174 rfl) rfl
theorem q1208 : (Jvm.Cond.soleField "EvenBodiesModel" "corner") ∈ lw_all := lw_g (lw_at lw_m5 175 rfl) rfl
theorem q1209 : (Jvm.Cond.lays "EvenBodiesModel" "EvenBodiesModel" "cornerMany" "I") ∈ lw_all := lw_g (lw_at lw_m5 176 rfl) rfl
theorem q1210 : (Jvm.Cond.soleField "EvenBodiesModel" "cornerMany") ∈ lw_all := lw_g (lw_at lw_m5 177 rfl) rfl
theorem q1211 : (Jvm.Cond.laysFinal "EvenBodiesModel" "EvenBodiesModel" "part" "[I") ∈ lw_all := lw_g (lw_at lw_m5 178 rfl) rfl
theorem q1212 : (Jvm.Cond.soleField "EvenBodiesModel" "part") ∈ lw_all := lw_g (lw_at lw_m5 179 rfl) rfl
theorem q1213 : (Jvm.Cond.lays "EvenBodiesModel" "EvenBodiesModel" "partMany" "I") ∈ lw_all := lw_g (lw_at lw_m5 180 rfl) rfl
theorem q1214 : (Jvm.Cond.soleField "EvenBodiesModel" "partMany") ∈ lw_all := lw_g (lw_at lw_m5 181 rfl) rfl
theorem q1215 : (Jvm.Cond.laysFinal "EvenBodiesModel" "EvenBodiesModel" "partLeast" "[I") ∈ lw_all := lw_g (lw_at lw_m5 182 rfl) rfl
theorem q1216 : (Jvm.Cond.soleField "EvenBodiesModel" "partLeast") ∈ lw_all := lw_g (lw_at lw_m5 183 rfl) rfl
theorem q1217 : (Jvm.Cond.laysFinal "EvenBodiesModel" "EvenBodiesModel" "other" "[I") ∈ lw_all := lw_g (lw_at lw_m5 184 rfl) rfl
theorem q1218 : (Jvm.Cond.soleField "EvenBodiesModel" "other") ∈ lw_all := lw_g (lw_at lw_m5 185 rfl) rfl
theorem q1219 : (Jvm.Cond.laysFinal "EvenBodiesModel" "EvenBodiesModel" "queue" "[I") ∈ lw_all := lw_g (lw_at lw_m5 186 rfl) rfl
theorem q1220 : (Jvm.Cond.soleField "EvenBodiesModel" "queue") ∈ lw_all := lw_g (lw_at lw_m5 187 rfl) rfl
theorem q1221 : (Jvm.Cond.laysFinal "EvenBodiesModel" "EvenBodiesModel" "far" "[I") ∈ lw_all := lw_g (lw_at lw_m5 188 rfl) rfl
theorem q1222 : (Jvm.Cond.soleField "EvenBodiesModel" "far") ∈ lw_all := lw_g (lw_at lw_m5 189 rfl) rfl
theorem q1223 : (Jvm.Cond.laysFinal "EvenBodiesModel" "EvenBodiesModel" "isMet" "[Z") ∈ lw_all := lw_g (lw_at lw_m5 190 rfl) rfl
theorem q1224 : (Jvm.Cond.soleField "EvenBodiesModel" "isMet") ∈ lw_all := lw_g (lw_at lw_m5 191 rfl) rfl
theorem q1225 : (Jvm.Cond.laysFinal "EvenBodiesModel" "EvenBodiesModel" "now" "[J") ∈ lw_all := lw_g (lw_at lw_m5 192 rfl) rfl
theorem q1226 : (Jvm.Cond.soleField "EvenBodiesModel" "now") ∈ lw_all := lw_g (lw_at lw_m5 193 rfl) rfl
theorem q1227 : (Jvm.Cond.laysFinal "EvenBodiesModel" "EvenBodiesModel" "then" "[J") ∈ lw_all := lw_g (lw_at lw_m5 194 rfl) rfl
theorem q1228 : (Jvm.Cond.soleField "EvenBodiesModel" "then") ∈ lw_all := lw_g (lw_at lw_m5 195 rfl) rfl
theorem q1229 : (Jvm.Cond.laysFinal "EvenBodiesModel" "EvenBodiesModel" "isJoined" "[Z") ∈ lw_all := lw_g (lw_at lw_m5 196 rfl) rfl
theorem q1230 : (Jvm.Cond.soleField "EvenBodiesModel" "isJoined") ∈ lw_all := lw_g (lw_at lw_m5 197 rfl) rfl
theorem q1231 : (Jvm.Cond.laysFinal "EvenBodiesModel" "EvenBodiesModel" "edgePart" "[I") ∈ lw_all := lw_g (lw_at lw_m5 198 rfl) rfl
theorem q1232 : (Jvm.Cond.soleField "EvenBodiesModel" "edgePart") ∈ lw_all := lw_g (lw_at lw_m5 199 rfl) rfl
theorem q1233 : (Jvm.Cond.laysFinal "EvenBodiesModel" "EvenBodiesModel" "facePart" "[I") ∈ lw_all := lw_g (lw_at lw_m5 200 rfl) rfl
theorem q1234 : (Jvm.Cond.soleField "EvenBodiesModel" "facePart") ∈ lw_all := lw_g (lw_at lw_m5 201 rfl) rfl
theorem q1235 : (Jvm.Cond.laysFinal "EvenBodiesModel" "EvenBodiesModel" "faceMany" "[I") ∈ lw_all := lw_g (lw_at lw_m5 202 rfl) rfl
theorem q1236 : (Jvm.Cond.soleField "EvenBodiesModel" "faceMany") ∈ lw_all := lw_g (lw_at lw_m5 203 rfl) rfl
theorem q1237 : (Jvm.Cond.laysFinal "EvenBodiesModel" "EvenBodiesModel" "row" "[I") ∈ lw_all := lw_g (lw_at lw_m5 204 rfl) rfl
theorem q1238 : (Jvm.Cond.soleField "EvenBodiesModel" "row") ∈ lw_all := lw_g (lw_at lw_m5 205 rfl) rfl
theorem q1239 : (Jvm.Cond.lays "EvenBodiesModel" "EvenBodiesModel" "rowMany" "I") ∈ lw_all := lw_g (lw_at lw_m5 206 rfl) rfl
theorem q1240 : (Jvm.Cond.soleField "EvenBodiesModel" "rowMany") ∈ lw_all := lw_g (lw_at lw_m5 207 rfl) rfl
theorem q1241 : (Jvm.Cond.laysFinal "EvenBodiesModel" "EvenBodiesModel" "sign" "[I") ∈ lw_all := lw_g (lw_at lw_m5 208 rfl) rfl
theorem q1242 : (Jvm.Cond.soleField "EvenBodiesModel" "sign") ∈ lw_all := lw_g (lw_at lw_m5 209 rfl) rfl
theorem q1243 : (Jvm.Cond.laysFinal "EvenBodiesModel" "EvenBodiesModel" "half" "[I") ∈ lw_all := lw_g (lw_at lw_m5 210 rfl) rfl
theorem q1244 : (Jvm.Cond.soleField "EvenBodiesModel" "half") ∈ lw_all := lw_g (lw_at lw_m5 211 rfl) rfl
theorem q1245 : (Jvm.Cond.laysFinal "EvenBodiesModel" "EvenBodiesModel" "order" "[I") ∈ lw_all := lw_g (lw_at lw_m5 212 rfl) rfl
theorem q1246 : (Jvm.Cond.soleField "EvenBodiesModel" "order") ∈ lw_all := lw_g (lw_at lw_m5 213 rfl) rfl
theorem q1247 : (Jvm.Cond.superclass "EvenBodiesModel" "java/lang/Object") ∈ lw_all := lw_g (lw_at lw_m5 214 rfl) rfl
theorem q1249 : (Jvm.Cond.instanceMethod ({ cls := "EvenBodiesModel", name := "body", desc := "(II)I" } : Jvm.MethodName)) ∈ lw_all := lw_g (lw_at lw_m5 216 rfl) rfl
theorem q1250 : (Jvm.Cond.selects "EvenBodiesModel" ({ cls := "EvenBodiesModel", name := "body", desc := "(II)I" } : Jvm.MethodName) ({ cls := "EvenBodiesModel", name := "body", desc := "(II)I" } : Jvm.MethodName)) ∈ lw_all := lw_g (lw_at lw_m5 217 rfl) rfl
theorem q1251 : (Jvm.Cond.code ({ cls := "EvenBodiesModel", name := "body", desc := "(II)I" } : Jvm.MethodName) prog_16_method_9_code (3 : Nat) (Option.some Jvm.ClassFile.FieldType.int)) ∈ lw_all := lw_g (lw_at lw_m5 218 rfl) rfl
theorem q1252 : (Jvm.Cond.methodLink "EvenBodiesModel" (113 : Nat) ({ cls := "EvenBodiesModel", name := "isBody", desc := "(I)Z" } : Jvm.MethodName)) ∈ lw_all := lw_g (lw_at lw_m5 219 rfl) rfl
theorem q1253 : (Jvm.Cond.static ({ cls := "EvenBodiesModel", name := "isBody", desc := "(I)Z" } : Jvm.MethodName)) ∈ lw_all := lw_g (lw_at lw_m5 220 rfl) rfl
theorem q1254 : (Jvm.Cond.code ({ cls := "EvenBodiesModel", name := "isBody", desc := "(I)Z" } : Jvm.MethodName) prog_16_method_6_code (1 : Nat) (Option.some Jvm.ClassFile.FieldType.boolean)) ∈ lw_all := lw_g (lw_at lw_m5 221 rfl) rfl
theorem q1255 : (Jvm.Cond.methodLink "EvenBodiesModel" (109 : Nat) ({ cls := "EvenBodiesModel", name := "in", desc := "(III)Z" } : Jvm.MethodName)) ∈ lw_all := lw_g (lw_at lw_m5 222 rfl) rfl
theorem q1256 : (Jvm.Cond.static ({ cls := "EvenBodiesModel", name := "in", desc := "(III)Z" } : Jvm.MethodName)) ∈ lw_all := lw_g (lw_at lw_m5 223 rfl) rfl
theorem q1257 : (Jvm.Cond.code ({ cls := "EvenBodiesModel", name := "in", desc := "(III)Z" } : Jvm.MethodName) prog_16_method_3_code (3 : Nat) (Option.some Jvm.ClassFile.FieldType.boolean)) ∈ lw_all := lw_g (lw_at lw_m5 224 rfl) rfl
theorem q1259 : (Jvm.Cond.instanceMethod ({ cls := "EvenBodiesModel", name := "angle", desc := "(IIII)I" } : Jvm.MethodName)) ∈ lw_all := lw_g (lw_at lw_m5 226 rfl) rfl
theorem q1260 : (Jvm.Cond.selects "EvenBodiesModel" ({ cls := "EvenBodiesModel", name := "angle", desc := "(IIII)I" } : Jvm.MethodName) ({ cls := "EvenBodiesModel", name := "angle", desc := "(IIII)I" } : Jvm.MethodName)) ∈ lw_all := lw_g (lw_at lw_m5 227 rfl) rfl
theorem q1261 : (Jvm.Cond.code ({ cls := "EvenBodiesModel", name := "angle", desc := "(IIII)I" } : Jvm.MethodName) prog_16_method_10_code (6 : Nat) (Option.some Jvm.ClassFile.FieldType.int)) ∈ lw_all := lw_g (lw_at lw_m5 228 rfl) rfl
theorem q1262 : (Jvm.Cond.methodLink "EvenBodiesModel" (117 : Nat) ({ cls := "EvenBodiesModel", name := "isMirror", desc := "(II)Z" } : Jvm.MethodName)) ∈ lw_all := lw_g (lw_at lw_m5 229 rfl) rfl
theorem q1263 : (Jvm.Cond.privateMethod ({ cls := "EvenBodiesModel", name := "isMirror", desc := "(II)Z" } : Jvm.MethodName)) ∈ lw_tbl := lw_at lw_m5 230 rfl
theorem q1264 : (Jvm.Cond.instanceMethod ({ cls := "EvenBodiesModel", name := "isMirror", desc := "(II)Z" } : Jvm.MethodName)) ∈ lw_all := lw_g (lw_at lw_m5 231 rfl) rfl
theorem q1265 : (Jvm.Cond.code ({ cls := "EvenBodiesModel", name := "isMirror", desc := "(II)Z" } : Jvm.MethodName) prog_16_method_7_code (3 : Nat) (Option.some Jvm.ClassFile.FieldType.boolean)) ∈ lw_all := lw_g (lw_at lw_m5 232 rfl) rfl
theorem q1266 : (Jvm.Cond.methodLink "EvenBodiesModel" (121 : Nat) ({ cls := "EvenBodiesModel", name := "angleOf", desc := "(III)I" } : Jvm.MethodName)) ∈ lw_all := lw_g (lw_at lw_m5 233 rfl) rfl
theorem q1267 : (Jvm.Cond.privateMethod ({ cls := "EvenBodiesModel", name := "angleOf", desc := "(III)I" } : Jvm.MethodName)) ∈ lw_tbl := lw_at lw_m5 234 rfl
theorem q1268 : (Jvm.Cond.instanceMethod ({ cls := "EvenBodiesModel", name := "angleOf", desc := "(III)I" } : Jvm.MethodName)) ∈ lw_all := lw_g (lw_at lw_m5 235 rfl) rfl
theorem q1269 : (Jvm.Cond.code ({ cls := "EvenBodiesModel", name := "angleOf", desc := "(III)I" } : Jvm.MethodName) prog_16_method_8_code (4 : Nat) (Option.some Jvm.ClassFile.FieldType.int)) ∈ lw_all := lw_g (lw_at lw_m5 236 rfl) rfl
theorem q1271 : (Jvm.Cond.instanceMethod ({ cls := "EvenBodiesModel", name := "ring", desc := "(II)I" } : Jvm.MethodName)) ∈ lw_all := lw_g (lw_at lw_m5 238 rfl) rfl
theorem q1272 : (Jvm.Cond.selects "EvenBodiesModel" ({ cls := "EvenBodiesModel", name := "ring", desc := "(II)I" } : Jvm.MethodName) ({ cls := "EvenBodiesModel", name := "ring", desc := "(II)I" } : Jvm.MethodName)) ∈ lw_all := lw_g (lw_at lw_m5 239 rfl) rfl
theorem q1273 : (Jvm.Cond.code ({ cls := "EvenBodiesModel", name := "ring", desc := "(II)I" } : Jvm.MethodName) prog_16_method_11_code (4 : Nat) (Option.some Jvm.ClassFile.FieldType.int)) ∈ lw_all := lw_g (lw_at lw_m6 0 rfl) rfl
theorem q1275 : (Jvm.Cond.instanceMethod ({ cls := "EvenBodiesModel", name := "order", desc := "(III)I" } : Jvm.MethodName)) ∈ lw_all := lw_g (lw_at lw_m6 2 rfl) rfl
theorem q1276 : (Jvm.Cond.selects "EvenBodiesModel" ({ cls := "EvenBodiesModel", name := "order", desc := "(III)I" } : Jvm.MethodName) ({ cls := "EvenBodiesModel", name := "order", desc := "(III)I" } : Jvm.MethodName)) ∈ lw_all := lw_g (lw_at lw_m6 3 rfl) rfl
theorem q1277 : (Jvm.Cond.code ({ cls := "EvenBodiesModel", name := "order", desc := "(III)I" } : Jvm.MethodName) prog_16_method_12_code (9 : Nat) (Option.some Jvm.ClassFile.FieldType.int)) ∈ lw_all := lw_g (lw_at lw_m6 4 rfl) rfl
theorem q1279 : (Jvm.Cond.instanceMethod ({ cls := "EvenBodiesModel", name := "about", desc := "(III)I" } : Jvm.MethodName)) ∈ lw_all := lw_g (lw_at lw_m6 6 rfl) rfl
theorem q1280 : (Jvm.Cond.selects "EvenBodiesModel" ({ cls := "EvenBodiesModel", name := "about", desc := "(III)I" } : Jvm.MethodName) ({ cls := "EvenBodiesModel", name := "about", desc := "(III)I" } : Jvm.MethodName)) ∈ lw_all := lw_g (lw_at lw_m6 7 rfl) rfl
theorem q1281 : (Jvm.Cond.code ({ cls := "EvenBodiesModel", name := "about", desc := "(III)I" } : Jvm.MethodName) prog_16_method_14_code (4 : Nat) (Option.some Jvm.ClassFile.FieldType.int)) ∈ lw_all := lw_g (lw_at lw_m6 8 rfl) rfl
theorem q1282 : (Jvm.Cond.methodLink "EvenBodiesModel" (125 : Nat) ({ cls := "EvenBodiesModel", name := "joinedTo", desc := "(II)I" } : Jvm.MethodName)) ∈ lw_all := lw_g (lw_at lw_m6 9 rfl) rfl
theorem q1283 : (Jvm.Cond.privateMethod ({ cls := "EvenBodiesModel", name := "joinedTo", desc := "(II)I" } : Jvm.MethodName)) ∈ lw_tbl := lw_at lw_m6 10 rfl
theorem q1284 : (Jvm.Cond.instanceMethod ({ cls := "EvenBodiesModel", name := "joinedTo", desc := "(II)I" } : Jvm.MethodName)) ∈ lw_all := lw_g (lw_at lw_m6 11 rfl) rfl
theorem q1285 : (Jvm.Cond.code ({ cls := "EvenBodiesModel", name := "joinedTo", desc := "(II)I" } : Jvm.MethodName) prog_16_method_13_code (5 : Nat) (Option.some Jvm.ClassFile.FieldType.int)) ∈ lw_all := lw_g (lw_at lw_m6 12 rfl) rfl
theorem q1287 : (Jvm.Cond.instanceMethod ({ cls := "EvenBodiesModel", name := "size", desc := "(I)I" } : Jvm.MethodName)) ∈ lw_all := lw_g (lw_at lw_m6 14 rfl) rfl
theorem q1288 : (Jvm.Cond.selects "EvenBodiesModel" ({ cls := "EvenBodiesModel", name := "size", desc := "(I)I" } : Jvm.MethodName) ({ cls := "EvenBodiesModel", name := "size", desc := "(I)I" } : Jvm.MethodName)) ∈ lw_all := lw_g (lw_at lw_m6 15 rfl) rfl
theorem q1289 : (Jvm.Cond.code ({ cls := "EvenBodiesModel", name := "size", desc := "(I)I" } : Jvm.MethodName) prog_16_method_26_code (3 : Nat) (Option.some Jvm.ClassFile.FieldType.int)) ∈ lw_all := lw_g (lw_at lw_m6 16 rfl) rfl
theorem q1290 : (Jvm.Cond.methodLink "EvenBodiesModel" (170 : Nat) ({ cls := "EvenBodiesModel", name := "refuses", desc := "(I)I" } : Jvm.MethodName)) ∈ lw_all := lw_g (lw_at lw_m6 17 rfl) rfl
theorem q1291 : (Jvm.Cond.privateMethod ({ cls := "EvenBodiesModel", name := "refuses", desc := "(I)I" } : Jvm.MethodName)) ∈ lw_tbl := lw_at lw_m6 18 rfl
theorem q1292 : (Jvm.Cond.instanceMethod ({ cls := "EvenBodiesModel", name := "refuses", desc := "(I)I" } : Jvm.MethodName)) ∈ lw_all := lw_g (lw_at lw_m6 19 rfl) rfl
theorem q1293 : (Jvm.Cond.code ({ cls := "EvenBodiesModel", name := "refuses", desc := "(I)I" } : Jvm.MethodName) prog_16_method_21_code (2 : Nat) (Option.some Jvm.ClassFile.FieldType.int)) ∈ lw_all := lw_g (lw_at lw_m6 20 rfl) rfl
theorem q1294 : (Jvm.Cond.methodLink "EvenBodiesModel" (164 : Nat) ({ cls := "EvenBodiesModel", name := "loads", desc := "(I)Z" } : Jvm.MethodName)) ∈ lw_all := lw_g (lw_at lw_m6 21 rfl) rfl
theorem q1295 : (Jvm.Cond.privateMethod ({ cls := "EvenBodiesModel", name := "loads", desc := "(I)Z" } : Jvm.MethodName)) ∈ lw_tbl := lw_at lw_m6 22 rfl
theorem q1296 : (Jvm.Cond.instanceMethod ({ cls := "EvenBodiesModel", name := "loads", desc := "(I)Z" } : Jvm.MethodName)) ∈ lw_all := lw_g (lw_at lw_m6 23 rfl) rfl
theorem q1297 : (Jvm.Cond.code ({ cls := "EvenBodiesModel", name := "loads", desc := "(I)Z" } : Jvm.MethodName) prog_16_method_18_code (7 : Nat) (Option.some Jvm.ClassFile.FieldType.boolean)) ∈ lw_all := lw_g (lw_at lw_m6 24 rfl) rfl
theorem q1298 : (Jvm.Cond.methodLink "EvenBodiesModel" (144 : Nat) ({ cls := "EvenBodiesModel", name := "sizeOf", desc := "(I)I" } : Jvm.MethodName)) ∈ lw_all := lw_g (lw_at lw_m6 25 rfl) rfl
theorem q1299 : (Jvm.Cond.privateMethod ({ cls := "EvenBodiesModel", name := "sizeOf", desc := "(I)I" } : Jvm.MethodName)) ∈ lw_tbl := lw_at lw_m6 26 rfl
theorem q1300 : (Jvm.Cond.instanceMethod ({ cls := "EvenBodiesModel", name := "sizeOf", desc := "(I)I" } : Jvm.MethodName)) ∈ lw_all := lw_g (lw_at lw_m6 27 rfl) rfl
theorem q1301 : (Jvm.Cond.code ({ cls := "EvenBodiesModel", name := "sizeOf", desc := "(I)I" } : Jvm.MethodName) prog_16_method_17_code (7 : Nat) (Option.some Jvm.ClassFile.FieldType.int)) ∈ lw_all := lw_g (lw_at lw_m6 28 rfl) rfl
theorem q1302 : (Jvm.Cond.methodLink "EvenBodiesModel" (132 : Nat) ({ cls := "EvenBodiesModel", name := "makes", desc := "(II)I" } : Jvm.MethodName)) ∈ lw_all := lw_g (lw_at lw_m6 29 rfl) rfl
theorem q1303 : (Jvm.Cond.privateMethod ({ cls := "EvenBodiesModel", name := "makes", desc := "(II)I" } : Jvm.MethodName)) ∈ lw_tbl := lw_at lw_m6 30 rfl
theorem q1304 : (Jvm.Cond.instanceMethod ({ cls := "EvenBodiesModel", name := "makes", desc := "(II)I" } : Jvm.MethodName)) ∈ lw_all := lw_g (lw_at lw_m6 31 rfl) rfl
theorem q1305 : (Jvm.Cond.code ({ cls := "EvenBodiesModel", name := "makes", desc := "(II)I" } : Jvm.MethodName) prog_16_method_16_code (14 : Nat) (Option.some Jvm.ClassFile.FieldType.int)) ∈ lw_all := lw_g (lw_at lw_m6 32 rfl) rfl
theorem q1306 : (Jvm.Cond.methodLink "EvenBodiesModel" (129 : Nat) ({ cls := "EvenBodiesModel", name := "bits", desc := "(I)I" } : Jvm.MethodName)) ∈ lw_all := lw_g (lw_at lw_m6 33 rfl) rfl
theorem q1307 : (Jvm.Cond.static ({ cls := "EvenBodiesModel", name := "bits", desc := "(I)I" } : Jvm.MethodName)) ∈ lw_all := lw_g (lw_at lw_m6 34 rfl) rfl
theorem q1308 : (Jvm.Cond.code ({ cls := "EvenBodiesModel", name := "bits", desc := "(I)I" } : Jvm.MethodName) prog_16_method_15_code (3 : Nat) (Option.some Jvm.ClassFile.FieldType.int)) ∈ lw_all := lw_g (lw_at lw_m6 35 rfl) rfl
theorem q1309 : (Jvm.Cond.methodLink "EvenBodiesModel" (147 : Nat) ({ cls := "EvenBodiesModel", name := "turned", desc := "(III)V" } : Jvm.MethodName)) ∈ lw_all := lw_g (lw_at lw_m6 36 rfl) rfl
theorem q1310 : (Jvm.Cond.privateMethod ({ cls := "EvenBodiesModel", name := "turned", desc := "(III)V" } : Jvm.MethodName)) ∈ lw_tbl := lw_at lw_m6 37 rfl
theorem q1311 : (Jvm.Cond.instanceMethod ({ cls := "EvenBodiesModel", name := "turned", desc := "(III)V" } : Jvm.MethodName)) ∈ lw_all := lw_g (lw_at lw_m6 38 rfl) rfl
theorem q1312 : (Jvm.Cond.code ({ cls := "EvenBodiesModel", name := "turned", desc := "(III)V" } : Jvm.MethodName) prog_16_method_19_code (9 : Nat) (Option.none : Option Jvm.ClassFile.FieldType)) ∈ lw_all := lw_g (lw_at lw_m6 39 rfl) rfl
theorem q1313 : (Jvm.Cond.methodLink "EvenBodiesModel" (151 : Nat) ({ cls := "EvenBodiesModel", name := "found", desc := "(I)I" } : Jvm.MethodName)) ∈ lw_all := lw_g (lw_at lw_m6 40 rfl) rfl
theorem q1314 : (Jvm.Cond.privateMethod ({ cls := "EvenBodiesModel", name := "found", desc := "(I)I" } : Jvm.MethodName)) ∈ lw_tbl := lw_at lw_m6 41 rfl
theorem q1315 : (Jvm.Cond.instanceMethod ({ cls := "EvenBodiesModel", name := "found", desc := "(I)I" } : Jvm.MethodName)) ∈ lw_all := lw_g (lw_at lw_m6 42 rfl) rfl
theorem q1316 : (Jvm.Cond.code ({ cls := "EvenBodiesModel", name := "found", desc := "(I)I" } : Jvm.MethodName) prog_16_method_20_code (5 : Nat) (Option.some Jvm.ClassFile.FieldType.int)) ∈ lw_all := lw_g (lw_at lw_m6 43 rfl) rfl
theorem q1317 : (Jvm.Cond.methodLink "EvenBodiesModel" (154 : Nat) ({ cls := "EvenBodiesModel", name := "tellsParts", desc := "(I)V" } : Jvm.MethodName)) ∈ lw_all := lw_g (lw_at lw_m6 44 rfl) rfl
theorem q1318 : (Jvm.Cond.privateMethod ({ cls := "EvenBodiesModel", name := "tellsParts", desc := "(I)V" } : Jvm.MethodName)) ∈ lw_tbl := lw_at lw_m6 45 rfl
theorem q1319 : (Jvm.Cond.instanceMethod ({ cls := "EvenBodiesModel", name := "tellsParts", desc := "(I)V" } : Jvm.MethodName)) ∈ lw_all := lw_g (lw_at lw_m6 46 rfl) rfl
theorem q1320 : (Jvm.Cond.code ({ cls := "EvenBodiesModel", name := "tellsParts", desc := "(I)V" } : Jvm.MethodName) prog_16_method_39_code (8 : Nat) (Option.none : Option Jvm.ClassFile.FieldType)) ∈ lw_all := lw_g (lw_at lw_m6 47 rfl) rfl
theorem q1321 : (Jvm.Cond.methodLink "EvenBodiesModel" (185 : Nat) ({ cls := "EvenBodiesModel", name := "stillOf", desc := "(II)I" } : Jvm.MethodName)) ∈ lw_all := lw_g (lw_at lw_m6 48 rfl) rfl
theorem q1322 : (Jvm.Cond.privateMethod ({ cls := "EvenBodiesModel", name := "stillOf", desc := "(II)I" } : Jvm.MethodName)) ∈ lw_tbl := lw_at lw_m6 49 rfl
theorem q1323 : (Jvm.Cond.instanceMethod ({ cls := "EvenBodiesModel", name := "stillOf", desc := "(II)I" } : Jvm.MethodName)) ∈ lw_all := lw_g (lw_at lw_m6 50 rfl) rfl
theorem q1324 : (Jvm.Cond.code ({ cls := "EvenBodiesModel", name := "stillOf", desc := "(II)I" } : Jvm.MethodName) prog_16_method_38_code (6 : Nat) (Option.some Jvm.ClassFile.FieldType.int)) ∈ lw_all := lw_g (lw_at lw_m6 51 rfl) rfl
theorem q1326 : (Jvm.Cond.instanceMethod ({ cls := "EvenBodiesModel", name := "length", desc := "(II)I" } : Jvm.MethodName)) ∈ lw_all := lw_g (lw_at lw_m6 53 rfl) rfl
theorem q1327 : (Jvm.Cond.selects "EvenBodiesModel" ({ cls := "EvenBodiesModel", name := "length", desc := "(II)I" } : Jvm.MethodName) ({ cls := "EvenBodiesModel", name := "length", desc := "(II)I" } : Jvm.MethodName)) ∈ lw_all := lw_g (lw_at lw_m6 54 rfl) rfl
theorem q1328 : (Jvm.Cond.code ({ cls := "EvenBodiesModel", name := "length", desc := "(II)I" } : Jvm.MethodName) prog_16_method_27_code (4 : Nat) (Option.some Jvm.ClassFile.FieldType.int)) ∈ lw_all := lw_g (lw_at lw_m6 55 rfl) rfl
theorem q1329 : (Jvm.Cond.methodLink "EvenBodiesModel" (173 : Nat) ({ cls := "EvenBodiesModel", name := "refusesOf", desc := "(II)I" } : Jvm.MethodName)) ∈ lw_all := lw_g (lw_at lw_m6 56 rfl) rfl
theorem q1330 : (Jvm.Cond.privateMethod ({ cls := "EvenBodiesModel", name := "refusesOf", desc := "(II)I" } : Jvm.MethodName)) ∈ lw_tbl := lw_at lw_m6 57 rfl
theorem q1331 : (Jvm.Cond.instanceMethod ({ cls := "EvenBodiesModel", name := "refusesOf", desc := "(II)I" } : Jvm.MethodName)) ∈ lw_all := lw_g (lw_at lw_m6 58 rfl) rfl
theorem q1332 : (Jvm.Cond.code ({ cls := "EvenBodiesModel", name := "refusesOf", desc := "(II)I" } : Jvm.MethodName) prog_16_method_22_code (3 : Nat) (Option.some Jvm.ClassFile.FieldType.int)) ∈ lw_all := lw_g (lw_at lw_m6 59 rfl) rfl
theorem q1334 : (Jvm.Cond.instanceMethod ({ cls := "EvenBodiesModel", name := "letter", desc := "(III)I" } : Jvm.MethodName)) ∈ lw_all := lw_g (lw_at lw_m6 61 rfl) rfl
theorem q1335 : (Jvm.Cond.selects "EvenBodiesModel" ({ cls := "EvenBodiesModel", name := "letter", desc := "(III)I" } : Jvm.MethodName) ({ cls := "EvenBodiesModel", name := "letter", desc := "(III)I" } : Jvm.MethodName)) ∈ lw_all := lw_g (lw_at lw_m6 62 rfl) rfl
theorem q1336 : (Jvm.Cond.code ({ cls := "EvenBodiesModel", name := "letter", desc := "(III)I" } : Jvm.MethodName) prog_16_method_28_code (5 : Nat) (Option.some Jvm.ClassFile.FieldType.int)) ∈ lw_all := lw_g (lw_at lw_m6 63 rfl) rfl
theorem q1337 : (Jvm.Cond.methodLink "EvenBodiesModel" (167 : Nat) ({ cls := "EvenBodiesModel", name := "letterOf", desc := "(II)I" } : Jvm.MethodName)) ∈ lw_all := lw_g (lw_at lw_m6 64 rfl) rfl
theorem q1338 : (Jvm.Cond.privateMethod ({ cls := "EvenBodiesModel", name := "letterOf", desc := "(II)I" } : Jvm.MethodName)) ∈ lw_tbl := lw_at lw_m6 65 rfl
theorem q1339 : (Jvm.Cond.instanceMethod ({ cls := "EvenBodiesModel", name := "letterOf", desc := "(II)I" } : Jvm.MethodName)) ∈ lw_all := lw_g (lw_at lw_m6 66 rfl) rfl
theorem q1340 : (Jvm.Cond.code ({ cls := "EvenBodiesModel", name := "letterOf", desc := "(II)I" } : Jvm.MethodName) prog_16_method_24_code (4 : Nat) (Option.some Jvm.ClassFile.FieldType.int)) ∈ lw_all := lw_g (lw_at lw_m6 67 rfl) rfl
theorem q1342 : (Jvm.Cond.instanceMethod ({ cls := "EvenBodiesModel", name := "element", desc := "(II)I" } : Jvm.MethodName)) ∈ lw_all := lw_g (lw_at lw_m6 69 rfl) rfl
theorem q1343 : (Jvm.Cond.selects "EvenBodiesModel" ({ cls := "EvenBodiesModel", name := "element", desc := "(II)I" } : Jvm.MethodName) ({ cls := "EvenBodiesModel", name := "element", desc := "(II)I" } : Jvm.MethodName)) ∈ lw_all := lw_g (lw_at lw_m6 70 rfl) rfl
theorem q1344 : (Jvm.Cond.code ({ cls := "EvenBodiesModel", name := "element", desc := "(II)I" } : Jvm.MethodName) prog_16_method_29_code (8 : Nat) (Option.some Jvm.ClassFile.FieldType.int)) ∈ lw_all := lw_g (lw_at lw_m6 71 rfl) rfl
theorem q1346 : (Jvm.Cond.instanceMethod ({ cls := "EvenBodiesModel", name := "product", desc := "(III)I" } : Jvm.MethodName)) ∈ lw_all := lw_g (lw_at lw_m6 73 rfl) rfl
theorem q1347 : (Jvm.Cond.selects "EvenBodiesModel" ({ cls := "EvenBodiesModel", name := "product", desc := "(III)I" } : Jvm.MethodName) ({ cls := "EvenBodiesModel", name := "product", desc := "(III)I" } : Jvm.MethodName)) ∈ lw_all := lw_g (lw_at lw_m6 74 rfl) rfl
theorem q1348 : (Jvm.Cond.code ({ cls := "EvenBodiesModel", name := "product", desc := "(III)I" } : Jvm.MethodName) prog_16_method_30_code (5 : Nat) (Option.some Jvm.ClassFile.FieldType.int)) ∈ lw_all := lw_g (lw_at lw_m6 75 rfl) rfl
theorem q1349 : (Jvm.Cond.methodLink "EvenBodiesModel" (176 : Nat) ({ cls := "EvenBodiesModel", name := "productOf", desc := "(II)I" } : Jvm.MethodName)) ∈ lw_all := lw_g (lw_at lw_m6 76 rfl) rfl
theorem q1350 : (Jvm.Cond.privateMethod ({ cls := "EvenBodiesModel", name := "productOf", desc := "(II)I" } : Jvm.MethodName)) ∈ lw_tbl := lw_at lw_m6 77 rfl
theorem q1351 : (Jvm.Cond.instanceMethod ({ cls := "EvenBodiesModel", name := "productOf", desc := "(II)I" } : Jvm.MethodName)) ∈ lw_all := lw_g (lw_at lw_m6 78 rfl) rfl
theorem q1352 : (Jvm.Cond.code ({ cls := "EvenBodiesModel", name := "productOf", desc := "(II)I" } : Jvm.MethodName) prog_16_method_23_code (6 : Nat) (Option.some Jvm.ClassFile.FieldType.int)) ∈ lw_all := lw_g (lw_at lw_m6 79 rfl) rfl
theorem q1354 : (Jvm.Cond.instanceMethod ({ cls := "EvenBodiesModel", name := "inverse", desc := "(II)I" } : Jvm.MethodName)) ∈ lw_all := lw_g (lw_at lw_m6 81 rfl) rfl
theorem q1355 : (Jvm.Cond.selects "EvenBodiesModel" ({ cls := "EvenBodiesModel", name := "inverse", desc := "(II)I" } : Jvm.MethodName) ({ cls := "EvenBodiesModel", name := "inverse", desc := "(II)I" } : Jvm.MethodName)) ∈ lw_all := lw_g (lw_at lw_m6 82 rfl) rfl
theorem q1356 : (Jvm.Cond.code ({ cls := "EvenBodiesModel", name := "inverse", desc := "(II)I" } : Jvm.MethodName) prog_16_method_31_code (4 : Nat) (Option.some Jvm.ClassFile.FieldType.int)) ∈ lw_all := lw_g (lw_at lw_m6 83 rfl) rfl
theorem q1357 : (Jvm.Cond.methodLink "EvenBodiesModel" (179 : Nat) ({ cls := "EvenBodiesModel", name := "inverseOf", desc := "(I)I" } : Jvm.MethodName)) ∈ lw_all := lw_g (lw_at lw_m6 84 rfl) rfl
theorem q1358 : (Jvm.Cond.privateMethod ({ cls := "EvenBodiesModel", name := "inverseOf", desc := "(I)I" } : Jvm.MethodName)) ∈ lw_tbl := lw_at lw_m6 85 rfl
theorem q1359 : (Jvm.Cond.instanceMethod ({ cls := "EvenBodiesModel", name := "inverseOf", desc := "(I)I" } : Jvm.MethodName)) ∈ lw_all := lw_g (lw_at lw_m6 86 rfl) rfl
theorem q1360 : (Jvm.Cond.code ({ cls := "EvenBodiesModel", name := "inverseOf", desc := "(I)I" } : Jvm.MethodName) prog_16_method_25_code (4 : Nat) (Option.some Jvm.ClassFile.FieldType.int)) ∈ lw_all := lw_g (lw_at lw_m6 87 rfl) rfl
theorem q1362 : (Jvm.Cond.instanceMethod ({ cls := "EvenBodiesModel", name := "turns", desc := "(II)I" } : Jvm.MethodName)) ∈ lw_all := lw_g (lw_at lw_m6 89 rfl) rfl
theorem q1363 : (Jvm.Cond.selects "EvenBodiesModel" ({ cls := "EvenBodiesModel", name := "turns", desc := "(II)I" } : Jvm.MethodName) ({ cls := "EvenBodiesModel", name := "turns", desc := "(II)I" } : Jvm.MethodName)) ∈ lw_all := lw_g (lw_at lw_m6 90 rfl) rfl
theorem q1364 : (Jvm.Cond.code ({ cls := "EvenBodiesModel", name := "turns", desc := "(II)I" } : Jvm.MethodName) prog_16_method_32_code (6 : Nat) (Option.some Jvm.ClassFile.FieldType.int)) ∈ lw_all := lw_g (lw_at lw_m6 91 rfl) rfl
theorem q1366 : (Jvm.Cond.instanceMethod ({ cls := "EvenBodiesModel", name := "classSize", desc := "(II)I" } : Jvm.MethodName)) ∈ lw_all := lw_g (lw_at lw_m6 93 rfl) rfl
theorem q1367 : (Jvm.Cond.selects "EvenBodiesModel" ({ cls := "EvenBodiesModel", name := "classSize", desc := "(II)I" } : Jvm.MethodName) ({ cls := "EvenBodiesModel", name := "classSize", desc := "(II)I" } : Jvm.MethodName)) ∈ lw_all := lw_g (lw_at lw_m6 94 rfl) rfl
theorem q1368 : (Jvm.Cond.code ({ cls := "EvenBodiesModel", name := "classSize", desc := "(II)I" } : Jvm.MethodName) prog_16_method_33_code (7 : Nat) (Option.some Jvm.ClassFile.FieldType.int)) ∈ lw_all := lw_g (lw_at lw_m6 95 rfl) rfl
theorem q1369 : (Jvm.Cond.methodLink "EvenBodiesModel" (182 : Nat) ({ cls := "EvenBodiesModel", name := "clears", desc := "()V" } : Jvm.MethodName)) ∈ lw_all := lw_g (lw_at lw_m6 96 rfl) rfl
theorem q1370 : (Jvm.Cond.privateMethod ({ cls := "EvenBodiesModel", name := "clears", desc := "()V" } : Jvm.MethodName)) ∈ lw_tbl := lw_at lw_m6 97 rfl
theorem q1371 : (Jvm.Cond.instanceMethod ({ cls := "EvenBodiesModel", name := "clears", desc := "()V" } : Jvm.MethodName)) ∈ lw_all := lw_g (lw_at lw_m6 98 rfl) rfl
theorem q1372 : (Jvm.Cond.code ({ cls := "EvenBodiesModel", name := "clears", desc := "()V" } : Jvm.MethodName) prog_16_method_34_code (2 : Nat) (Option.none : Option Jvm.ClassFile.FieldType)) ∈ lw_all := lw_g (lw_at lw_m6 99 rfl) rfl
theorem q1374 : (Jvm.Cond.instanceMethod ({ cls := "EvenBodiesModel", name := "ofLength", desc := "(II)I" } : Jvm.MethodName)) ∈ lw_all := lw_g (lw_at lw_m6 101 rfl) rfl
theorem q1375 : (Jvm.Cond.selects "EvenBodiesModel" ({ cls := "EvenBodiesModel", name := "ofLength", desc := "(II)I" } : Jvm.MethodName) ({ cls := "EvenBodiesModel", name := "ofLength", desc := "(II)I" } : Jvm.MethodName)) ∈ lw_all := lw_g (lw_at lw_m6 102 rfl) rfl
theorem q1376 : (Jvm.Cond.code ({ cls := "EvenBodiesModel", name := "ofLength", desc := "(II)I" } : Jvm.MethodName) prog_16_method_35_code (6 : Nat) (Option.some Jvm.ClassFile.FieldType.int)) ∈ lw_all := lw_g (lw_at lw_m6 103 rfl) rfl
theorem q1378 : (Jvm.Cond.instanceMethod ({ cls := "EvenBodiesModel", name := "mirrors", desc := "(I)I" } : Jvm.MethodName)) ∈ lw_all := lw_g (lw_at lw_m6 105 rfl) rfl
theorem q1379 : (Jvm.Cond.selects "EvenBodiesModel" ({ cls := "EvenBodiesModel", name := "mirrors", desc := "(I)I" } : Jvm.MethodName) ({ cls := "EvenBodiesModel", name := "mirrors", desc := "(I)I" } : Jvm.MethodName)) ∈ lw_all := lw_g (lw_at lw_m6 106 rfl) rfl
theorem q1380 : (Jvm.Cond.code ({ cls := "EvenBodiesModel", name := "mirrors", desc := "(I)I" } : Jvm.MethodName) prog_16_method_36_code (7 : Nat) (Option.some Jvm.ClassFile.FieldType.int)) ∈ lw_all := lw_g (lw_at lw_m6 107 rfl) rfl
theorem q1382 : (Jvm.Cond.instanceMethod ({ cls := "EvenBodiesModel", name := "kinds", desc := "(II)I" } : Jvm.MethodName)) ∈ lw_all := lw_g (lw_at lw_m6 109 rfl) rfl
theorem q1383 : (Jvm.Cond.selects "EvenBodiesModel" ({ cls := "EvenBodiesModel", name := "kinds", desc := "(II)I" } : Jvm.MethodName) ({ cls := "EvenBodiesModel", name := "kinds", desc := "(II)I" } : Jvm.MethodName)) ∈ lw_all := lw_g (lw_at lw_m6 110 rfl) rfl
theorem q1384 : (Jvm.Cond.code ({ cls := "EvenBodiesModel", name := "kinds", desc := "(II)I" } : Jvm.MethodName) prog_16_method_40_code (5 : Nat) (Option.some Jvm.ClassFile.FieldType.int)) ∈ lw_all := lw_g (lw_at lw_m6 111 rfl) rfl
theorem q1385 : (Jvm.Cond.methodLink "EvenBodiesModel" (188 : Nat) ({ cls := "EvenBodiesModel", name := "isKind", desc := "(II)Z" } : Jvm.MethodName)) ∈ lw_all := lw_g (lw_at lw_m6 112 rfl) rfl
theorem q1386 : (Jvm.Cond.privateMethod ({ cls := "EvenBodiesModel", name := "isKind", desc := "(II)Z" } : Jvm.MethodName)) ∈ lw_tbl := lw_at lw_m6 113 rfl
theorem q1387 : (Jvm.Cond.instanceMethod ({ cls := "EvenBodiesModel", name := "isKind", desc := "(II)Z" } : Jvm.MethodName)) ∈ lw_all := lw_g (lw_at lw_m6 114 rfl) rfl
theorem q1388 : (Jvm.Cond.code ({ cls := "EvenBodiesModel", name := "isKind", desc := "(II)Z" } : Jvm.MethodName) prog_16_method_37_code (6 : Nat) (Option.some Jvm.ClassFile.FieldType.boolean)) ∈ lw_all := lw_g (lw_at lw_m6 115 rfl) rfl
theorem q1390 : (Jvm.Cond.instanceMethod ({ cls := "EvenBodiesModel", name := "kind", desc := "(III)I" } : Jvm.MethodName)) ∈ lw_all := lw_g (lw_at lw_m6 117 rfl) rfl
theorem q1391 : (Jvm.Cond.selects "EvenBodiesModel" ({ cls := "EvenBodiesModel", name := "kind", desc := "(III)I" } : Jvm.MethodName) ({ cls := "EvenBodiesModel", name := "kind", desc := "(III)I" } : Jvm.MethodName)) ∈ lw_all := lw_g (lw_at lw_m6 118 rfl) rfl
theorem q1392 : (Jvm.Cond.code ({ cls := "EvenBodiesModel", name := "kind", desc := "(III)I" } : Jvm.MethodName) prog_16_method_41_code (6 : Nat) (Option.some Jvm.ClassFile.FieldType.int)) ∈ lw_all := lw_g (lw_at lw_m6 119 rfl) rfl
theorem q1394 : (Jvm.Cond.instanceMethod ({ cls := "EvenBodiesModel", name := "parts", desc := "(II)I" } : Jvm.MethodName)) ∈ lw_all := lw_g (lw_at lw_m6 121 rfl) rfl
theorem q1395 : (Jvm.Cond.selects "EvenBodiesModel" ({ cls := "EvenBodiesModel", name := "parts", desc := "(II)I" } : Jvm.MethodName) ({ cls := "EvenBodiesModel", name := "parts", desc := "(II)I" } : Jvm.MethodName)) ∈ lw_all := lw_g (lw_at lw_m6 122 rfl) rfl
theorem q1396 : (Jvm.Cond.code ({ cls := "EvenBodiesModel", name := "parts", desc := "(II)I" } : Jvm.MethodName) prog_16_method_43_code (4 : Nat) (Option.some Jvm.ClassFile.FieldType.int)) ∈ lw_all := lw_g (lw_at lw_m6 123 rfl) rfl
theorem q1397 : (Jvm.Cond.methodLink "EvenBodiesModel" (191 : Nat) ({ cls := "EvenBodiesModel", name := "refusesPart", desc := "(III)I" } : Jvm.MethodName)) ∈ lw_all := lw_g (lw_at lw_m6 124 rfl) rfl
theorem q1398 : (Jvm.Cond.privateMethod ({ cls := "EvenBodiesModel", name := "refusesPart", desc := "(III)I" } : Jvm.MethodName)) ∈ lw_tbl := lw_at lw_m6 125 rfl
theorem q1399 : (Jvm.Cond.instanceMethod ({ cls := "EvenBodiesModel", name := "refusesPart", desc := "(III)I" } : Jvm.MethodName)) ∈ lw_all := lw_g (lw_at lw_m6 126 rfl) rfl
theorem q1400 : (Jvm.Cond.code ({ cls := "EvenBodiesModel", name := "refusesPart", desc := "(III)I" } : Jvm.MethodName) prog_16_method_42_code (4 : Nat) (Option.some Jvm.ClassFile.FieldType.int)) ∈ lw_all := lw_g (lw_at lw_m6 127 rfl) rfl
theorem q1402 : (Jvm.Cond.instanceMethod ({ cls := "EvenBodiesModel", name := "partOf", desc := "(III)I" } : Jvm.MethodName)) ∈ lw_all := lw_g (lw_at lw_m6 129 rfl) rfl
theorem q1403 : (Jvm.Cond.selects "EvenBodiesModel" ({ cls := "EvenBodiesModel", name := "partOf", desc := "(III)I" } : Jvm.MethodName) ({ cls := "EvenBodiesModel", name := "partOf", desc := "(III)I" } : Jvm.MethodName)) ∈ lw_all := lw_g (lw_at lw_m6 130 rfl) rfl
theorem q1404 : (Jvm.Cond.code ({ cls := "EvenBodiesModel", name := "partOf", desc := "(III)I" } : Jvm.MethodName) prog_16_method_44_code (5 : Nat) (Option.some Jvm.ClassFile.FieldType.int)) ∈ lw_all := lw_g (lw_at lw_m6 131 rfl) rfl
theorem q1406 : (Jvm.Cond.instanceMethod ({ cls := "EvenBodiesModel", name := "least", desc := "(III)I" } : Jvm.MethodName)) ∈ lw_all := lw_g (lw_at lw_m6 133 rfl) rfl
theorem q1407 : (Jvm.Cond.selects "EvenBodiesModel" ({ cls := "EvenBodiesModel", name := "least", desc := "(III)I" } : Jvm.MethodName) ({ cls := "EvenBodiesModel", name := "least", desc := "(III)I" } : Jvm.MethodName)) ∈ lw_all := lw_g (lw_at lw_m6 134 rfl) rfl
theorem q1408 : (Jvm.Cond.code ({ cls := "EvenBodiesModel", name := "least", desc := "(III)I" } : Jvm.MethodName) prog_16_method_45_code (5 : Nat) (Option.some Jvm.ClassFile.FieldType.int)) ∈ lw_all := lw_g (lw_at lw_m6 135 rfl) rfl
theorem q1410 : (Jvm.Cond.instanceMethod ({ cls := "EvenBodiesModel", name := "corners", desc := "(III)I" } : Jvm.MethodName)) ∈ lw_all := lw_g (lw_at lw_m6 137 rfl) rfl
theorem q1411 : (Jvm.Cond.selects "EvenBodiesModel" ({ cls := "EvenBodiesModel", name := "corners", desc := "(III)I" } : Jvm.MethodName) ({ cls := "EvenBodiesModel", name := "corners", desc := "(III)I" } : Jvm.MethodName)) ∈ lw_all := lw_g (lw_at lw_m6 138 rfl) rfl
theorem q1412 : (Jvm.Cond.code ({ cls := "EvenBodiesModel", name := "corners", desc := "(III)I" } : Jvm.MethodName) prog_16_method_47_code (5 : Nat) (Option.some Jvm.ClassFile.FieldType.int)) ∈ lw_all := lw_g (lw_at lw_m6 139 rfl) rfl
theorem q1413 : (Jvm.Cond.methodLink "EvenBodiesModel" (194 : Nat) ({ cls := "EvenBodiesModel", name := "cornersOf", desc := "(I)I" } : Jvm.MethodName)) ∈ lw_all := lw_g (lw_at lw_m6 140 rfl) rfl
theorem q1414 : (Jvm.Cond.privateMethod ({ cls := "EvenBodiesModel", name := "cornersOf", desc := "(I)I" } : Jvm.MethodName)) ∈ lw_tbl := lw_at lw_m6 141 rfl
theorem q1415 : (Jvm.Cond.instanceMethod ({ cls := "EvenBodiesModel", name := "cornersOf", desc := "(I)I" } : Jvm.MethodName)) ∈ lw_all := lw_g (lw_at lw_m6 142 rfl) rfl
theorem q1416 : (Jvm.Cond.code ({ cls := "EvenBodiesModel", name := "cornersOf", desc := "(I)I" } : Jvm.MethodName) prog_16_method_46_code (4 : Nat) (Option.some Jvm.ClassFile.FieldType.int)) ∈ lw_all := lw_g (lw_at lw_m6 143 rfl) rfl
theorem q1418 : (Jvm.Cond.instanceMethod ({ cls := "EvenBodiesModel", name := "cornerOf", desc := "(IIII)I" } : Jvm.MethodName)) ∈ lw_all := lw_g (lw_at lw_m6 145 rfl) rfl
theorem q1419 : (Jvm.Cond.selects "EvenBodiesModel" ({ cls := "EvenBodiesModel", name := "cornerOf", desc := "(IIII)I" } : Jvm.MethodName) ({ cls := "EvenBodiesModel", name := "cornerOf", desc := "(IIII)I" } : Jvm.MethodName)) ∈ lw_all := lw_g (lw_at lw_m6 146 rfl) rfl
theorem q1420 : (Jvm.Cond.code ({ cls := "EvenBodiesModel", name := "cornerOf", desc := "(IIII)I" } : Jvm.MethodName) prog_16_method_48_code (8 : Nat) (Option.some Jvm.ClassFile.FieldType.int)) ∈ lw_all := lw_g (lw_at lw_m6 147 rfl) rfl
theorem q1422 : (Jvm.Cond.instanceMethod ({ cls := "EvenBodiesModel", name := "liesIn", desc := "(IIIII)I" } : Jvm.MethodName)) ∈ lw_all := lw_g (lw_at lw_m6 149 rfl) rfl
theorem q1423 : (Jvm.Cond.selects "EvenBodiesModel" ({ cls := "EvenBodiesModel", name := "liesIn", desc := "(IIIII)I" } : Jvm.MethodName) ({ cls := "EvenBodiesModel", name := "liesIn", desc := "(IIIII)I" } : Jvm.MethodName)) ∈ lw_all := lw_g (lw_at lw_m6 150 rfl) rfl
theorem q1424 : (Jvm.Cond.code ({ cls := "EvenBodiesModel", name := "liesIn", desc := "(IIIII)I" } : Jvm.MethodName) prog_16_method_50_code (9 : Nat) (Option.some Jvm.ClassFile.FieldType.int)) ∈ lw_all := lw_g (lw_at lw_m6 151 rfl) rfl
theorem q1425 : (Jvm.Cond.methodLink "EvenBodiesModel" (197 : Nat) ({ cls := "EvenBodiesModel", name := "isWithin", desc := "(II)Z" } : Jvm.MethodName)) ∈ lw_all := lw_g (lw_at lw_m6 152 rfl) rfl
theorem q1426 : (Jvm.Cond.static ({ cls := "EvenBodiesModel", name := "isWithin", desc := "(II)Z" } : Jvm.MethodName)) ∈ lw_all := lw_g (lw_at lw_m6 153 rfl) rfl
theorem q1427 : (Jvm.Cond.code ({ cls := "EvenBodiesModel", name := "isWithin", desc := "(II)Z" } : Jvm.MethodName) prog_16_method_49_code (2 : Nat) (Option.some Jvm.ClassFile.FieldType.boolean)) ∈ lw_all := lw_g (lw_at lw_m6 154 rfl) rfl
theorem q1429 : (Jvm.Cond.instanceMethod ({ cls := "EvenBodiesModel", name := "within", desc := "(IIII)I" } : Jvm.MethodName)) ∈ lw_all := lw_g (lw_at lw_m6 156 rfl) rfl
theorem q1430 : (Jvm.Cond.selects "EvenBodiesModel" ({ cls := "EvenBodiesModel", name := "within", desc := "(IIII)I" } : Jvm.MethodName) ({ cls := "EvenBodiesModel", name := "within", desc := "(IIII)I" } : Jvm.MethodName)) ∈ lw_all := lw_g (lw_at lw_m6 157 rfl) rfl
theorem q1431 : (Jvm.Cond.code ({ cls := "EvenBodiesModel", name := "within", desc := "(IIII)I" } : Jvm.MethodName) prog_16_method_51_code (8 : Nat) (Option.some Jvm.ClassFile.FieldType.int)) ∈ lw_all := lw_g (lw_at lw_m6 158 rfl) rfl
theorem q1433 : (Jvm.Cond.instanceMethod ({ cls := "EvenBodiesModel", name := "count", desc := "(II)I" } : Jvm.MethodName)) ∈ lw_all := lw_g (lw_at lw_m6 160 rfl) rfl
theorem q1434 : (Jvm.Cond.selects "EvenBodiesModel" ({ cls := "EvenBodiesModel", name := "count", desc := "(II)I" } : Jvm.MethodName) ({ cls := "EvenBodiesModel", name := "count", desc := "(II)I" } : Jvm.MethodName)) ∈ lw_all := lw_g (lw_at lw_m6 161 rfl) rfl
theorem q1435 : (Jvm.Cond.code ({ cls := "EvenBodiesModel", name := "count", desc := "(II)I" } : Jvm.MethodName) prog_16_method_53_code (3 : Nat) (Option.some Jvm.ClassFile.FieldType.int)) ∈ lw_all := lw_g (lw_at lw_m6 162 rfl) rfl
theorem q1436 : (Jvm.Cond.methodLink "EvenBodiesModel" (200 : Nat) ({ cls := "EvenBodiesModel", name := "countOf", desc := "(I)I" } : Jvm.MethodName)) ∈ lw_all := lw_g (lw_at lw_m6 163 rfl) rfl
theorem q1437 : (Jvm.Cond.privateMethod ({ cls := "EvenBodiesModel", name := "countOf", desc := "(I)I" } : Jvm.MethodName)) ∈ lw_tbl := lw_at lw_m6 164 rfl
theorem q1438 : (Jvm.Cond.instanceMethod ({ cls := "EvenBodiesModel", name := "countOf", desc := "(I)I" } : Jvm.MethodName)) ∈ lw_all := lw_g (lw_at lw_m6 165 rfl) rfl
theorem q1439 : (Jvm.Cond.code ({ cls := "EvenBodiesModel", name := "countOf", desc := "(I)I" } : Jvm.MethodName) prog_16_method_52_code (4 : Nat) (Option.some Jvm.ClassFile.FieldType.int)) ∈ lw_all := lw_g (lw_at lw_m6 166 rfl) rfl
theorem q1441 : (Jvm.Cond.instanceMethod ({ cls := "EvenBodiesModel", name := "law", desc := "(I)I" } : Jvm.MethodName)) ∈ lw_all := lw_g (lw_at lw_m6 168 rfl) rfl
theorem q1442 : (Jvm.Cond.selects "EvenBodiesModel" ({ cls := "EvenBodiesModel", name := "law", desc := "(I)I" } : Jvm.MethodName) ({ cls := "EvenBodiesModel", name := "law", desc := "(I)I" } : Jvm.MethodName)) ∈ lw_all := lw_g (lw_at lw_m6 169 rfl) rfl
theorem q1443 : (Jvm.Cond.code ({ cls := "EvenBodiesModel", name := "law", desc := "(I)I" } : Jvm.MethodName) prog_16_method_54_code (5 : Nat) (Option.some Jvm.ClassFile.FieldType.int)) ∈ lw_all := lw_g (lw_at lw_m6 170 rfl) rfl
theorem q1445 : (Jvm.Cond.instanceMethod ({ cls := "EvenBodiesModel", name := "moves", desc := "(III)I" } : Jvm.MethodName)) ∈ lw_all := lw_g (lw_at lw_m6 172 rfl) rfl
theorem q1446 : (Jvm.Cond.selects "EvenBodiesModel" ({ cls := "EvenBodiesModel", name := "moves", desc := "(III)I" } : Jvm.MethodName) ({ cls := "EvenBodiesModel", name := "moves", desc := "(III)I" } : Jvm.MethodName)) ∈ lw_all := lw_g (lw_at lw_m6 173 rfl) rfl
theorem q1447 : (Jvm.Cond.code ({ cls := "EvenBodiesModel", name := "moves", desc := "(III)I" } : Jvm.MethodName) prog_16_method_55_code (6 : Nat) (Option.some Jvm.ClassFile.FieldType.int)) ∈ lw_all := lw_g (lw_at lw_m6 174 rfl) rfl
theorem q1449 : (Jvm.Cond.instanceMethod ({ cls := "EvenBodiesModel", name := "degree", desc := "(II)I" } : Jvm.MethodName)) ∈ lw_all := lw_g (lw_at lw_m6 176 rfl) rfl
theorem q1450 : (Jvm.Cond.selects "EvenBodiesModel" ({ cls := "EvenBodiesModel", name := "degree", desc := "(II)I" } : Jvm.MethodName) ({ cls := "EvenBodiesModel", name := "degree", desc := "(II)I" } : Jvm.MethodName)) ∈ lw_all := lw_g (lw_at lw_m6 177 rfl) rfl
theorem q1451 : (Jvm.Cond.code ({ cls := "EvenBodiesModel", name := "degree", desc := "(II)I" } : Jvm.MethodName) prog_16_method_59_code (4 : Nat) (Option.some Jvm.ClassFile.FieldType.int)) ∈ lw_all := lw_g (lw_at lw_m6 178 rfl) rfl
theorem q1452 : (Jvm.Cond.methodLink "EvenBodiesModel" (203 : Nat) ({ cls := "EvenBodiesModel", name := "joins", desc := "()V" } : Jvm.MethodName)) ∈ lw_all := lw_g (lw_at lw_m6 179 rfl) rfl
theorem q1453 : (Jvm.Cond.privateMethod ({ cls := "EvenBodiesModel", name := "joins", desc := "()V" } : Jvm.MethodName)) ∈ lw_tbl := lw_at lw_m6 180 rfl
theorem q1454 : (Jvm.Cond.instanceMethod ({ cls := "EvenBodiesModel", name := "joins", desc := "()V" } : Jvm.MethodName)) ∈ lw_all := lw_g (lw_at lw_m6 181 rfl) rfl
theorem q1455 : (Jvm.Cond.code ({ cls := "EvenBodiesModel", name := "joins", desc := "()V" } : Jvm.MethodName) prog_16_method_56_code (3 : Nat) (Option.none : Option Jvm.ClassFile.FieldType)) ∈ lw_all := lw_g (lw_at lw_m6 182 rfl) rfl
theorem q1456 : (Jvm.Cond.methodLink "EvenBodiesModel" (206 : Nat) ({ cls := "EvenBodiesModel", name := "degreeOf", desc := "(II)I" } : Jvm.MethodName)) ∈ lw_all := lw_g (lw_at lw_m6 183 rfl) rfl
theorem q1457 : (Jvm.Cond.privateMethod ({ cls := "EvenBodiesModel", name := "degreeOf", desc := "(II)I" } : Jvm.MethodName)) ∈ lw_tbl := lw_at lw_m6 184 rfl
theorem q1458 : (Jvm.Cond.instanceMethod ({ cls := "EvenBodiesModel", name := "degreeOf", desc := "(II)I" } : Jvm.MethodName)) ∈ lw_all := lw_g (lw_at lw_m6 185 rfl) rfl
theorem q1459 : (Jvm.Cond.code ({ cls := "EvenBodiesModel", name := "degreeOf", desc := "(II)I" } : Jvm.MethodName) prog_16_method_58_code (5 : Nat) (Option.some Jvm.ClassFile.FieldType.int)) ∈ lw_all := lw_g (lw_at lw_m6 186 rfl) rfl
theorem q1461 : (Jvm.Cond.instanceMethod ({ cls := "EvenBodiesModel", name := "far", desc := "(III)I" } : Jvm.MethodName)) ∈ lw_all := lw_g (lw_at lw_m6 188 rfl) rfl
theorem q1462 : (Jvm.Cond.selects "EvenBodiesModel" ({ cls := "EvenBodiesModel", name := "far", desc := "(III)I" } : Jvm.MethodName) ({ cls := "EvenBodiesModel", name := "far", desc := "(III)I" } : Jvm.MethodName)) ∈ lw_all := lw_g (lw_at lw_m6 189 rfl) rfl
theorem q1463 : (Jvm.Cond.code ({ cls := "EvenBodiesModel", name := "far", desc := "(III)I" } : Jvm.MethodName) prog_16_method_60_code (5 : Nat) (Option.some Jvm.ClassFile.FieldType.int)) ∈ lw_all := lw_g (lw_at lw_m6 190 rfl) rfl
theorem q1464 : (Jvm.Cond.methodLink "EvenBodiesModel" (209 : Nat) ({ cls := "EvenBodiesModel", name := "walks", desc := "(II)V" } : Jvm.MethodName)) ∈ lw_all := lw_g (lw_at lw_m6 191 rfl) rfl
theorem q1465 : (Jvm.Cond.privateMethod ({ cls := "EvenBodiesModel", name := "walks", desc := "(II)V" } : Jvm.MethodName)) ∈ lw_tbl := lw_at lw_m6 192 rfl
theorem q1466 : (Jvm.Cond.instanceMethod ({ cls := "EvenBodiesModel", name := "walks", desc := "(II)V" } : Jvm.MethodName)) ∈ lw_all := lw_g (lw_at lw_m6 193 rfl) rfl
theorem q1467 : (Jvm.Cond.code ({ cls := "EvenBodiesModel", name := "walks", desc := "(II)V" } : Jvm.MethodName) prog_16_method_57_code (6 : Nat) (Option.none : Option Jvm.ClassFile.FieldType)) ∈ lw_all := lw_g (lw_at lw_m6 194 rfl) rfl
theorem q1469 : (Jvm.Cond.instanceMethod ({ cls := "EvenBodiesModel", name := "layer", desc := "(II)I" } : Jvm.MethodName)) ∈ lw_all := lw_g (lw_at lw_m6 196 rfl) rfl
theorem q1470 : (Jvm.Cond.selects "EvenBodiesModel" ({ cls := "EvenBodiesModel", name := "layer", desc := "(II)I" } : Jvm.MethodName) ({ cls := "EvenBodiesModel", name := "layer", desc := "(II)I" } : Jvm.MethodName)) ∈ lw_all := lw_g (lw_at lw_m6 197 rfl) rfl
theorem q1471 : (Jvm.Cond.code ({ cls := "EvenBodiesModel", name := "layer", desc := "(II)I" } : Jvm.MethodName) prog_16_method_61_code (6 : Nat) (Option.some Jvm.ClassFile.FieldType.int)) ∈ lw_all := lw_g (lw_at lw_m6 198 rfl) rfl
theorem q1473 : (Jvm.Cond.instanceMethod ({ cls := "EvenBodiesModel", name := "ways", desc := "(IIII)J" } : Jvm.MethodName)) ∈ lw_all := lw_g (lw_at lw_m6 200 rfl) rfl
theorem q1474 : (Jvm.Cond.selects "EvenBodiesModel" ({ cls := "EvenBodiesModel", name := "ways", desc := "(IIII)J" } : Jvm.MethodName) ({ cls := "EvenBodiesModel", name := "ways", desc := "(IIII)J" } : Jvm.MethodName)) ∈ lw_all := lw_g (lw_at lw_m6 201 rfl) rfl
theorem q1475 : (Jvm.Cond.code ({ cls := "EvenBodiesModel", name := "ways", desc := "(IIII)J" } : Jvm.MethodName) prog_16_method_62_code (9 : Nat) (Option.some Jvm.ClassFile.FieldType.long)) ∈ lw_all := lw_g (lw_at lw_m6 202 rfl) rfl
theorem q1476 : (Jvm.Cond.constantLong "EvenBodiesModel" (212 : Nat) (-2 : Int64)) ∈ lw_all := lw_g (lw_at lw_m6 203 rfl) rfl
theorem q1478 : (Jvm.Cond.instanceMethod ({ cls := "EvenBodiesModel", name := "coloured", desc := "(I)I" } : Jvm.MethodName)) ∈ lw_all := lw_g (lw_at lw_m6 205 rfl) rfl
theorem q1479 : (Jvm.Cond.selects "EvenBodiesModel" ({ cls := "EvenBodiesModel", name := "coloured", desc := "(I)I" } : Jvm.MethodName) ({ cls := "EvenBodiesModel", name := "coloured", desc := "(I)I" } : Jvm.MethodName)) ∈ lw_all := lw_g (lw_at lw_m6 206 rfl) rfl
theorem q1480 : (Jvm.Cond.code ({ cls := "EvenBodiesModel", name := "coloured", desc := "(I)I" } : Jvm.MethodName) prog_16_method_63_code (6 : Nat) (Option.some Jvm.ClassFile.FieldType.int)) ∈ lw_all := lw_g (lw_at lw_m6 207 rfl) rfl
theorem q1482 : (Jvm.Cond.instanceMethod ({ cls := "EvenBodiesModel", name := "round", desc := "(II)I" } : Jvm.MethodName)) ∈ lw_all := lw_g (lw_at lw_m6 209 rfl) rfl
theorem q1483 : (Jvm.Cond.selects "EvenBodiesModel" ({ cls := "EvenBodiesModel", name := "round", desc := "(II)I" } : Jvm.MethodName) ({ cls := "EvenBodiesModel", name := "round", desc := "(II)I" } : Jvm.MethodName)) ∈ lw_all := lw_g (lw_at lw_m6 210 rfl) rfl
theorem q1484 : (Jvm.Cond.code ({ cls := "EvenBodiesModel", name := "round", desc := "(II)I" } : Jvm.MethodName) prog_16_method_72_code (4 : Nat) (Option.some Jvm.ClassFile.FieldType.int)) ∈ lw_all := lw_g (lw_at lw_m6 211 rfl) rfl
theorem q1485 : (Jvm.Cond.methodLink "EvenBodiesModel" (235 : Nat) ({ cls := "EvenBodiesModel", name := "refusesThree", desc := "(I)I" } : Jvm.MethodName)) ∈ lw_all := lw_g (lw_at lw_m6 212 rfl) rfl
theorem q1486 : (Jvm.Cond.privateMethod ({ cls := "EvenBodiesModel", name := "refusesThree", desc := "(I)I" } : Jvm.MethodName)) ∈ lw_tbl := lw_at lw_m6 213 rfl
theorem q1487 : (Jvm.Cond.instanceMethod ({ cls := "EvenBodiesModel", name := "refusesThree", desc := "(I)I" } : Jvm.MethodName)) ∈ lw_all := lw_g (lw_at lw_m6 214 rfl) rfl
theorem q1488 : (Jvm.Cond.code ({ cls := "EvenBodiesModel", name := "refusesThree", desc := "(I)I" } : Jvm.MethodName) prog_16_method_64_code (2 : Nat) (Option.some Jvm.ClassFile.FieldType.int)) ∈ lw_all := lw_g (lw_at lw_m6 215 rfl) rfl
theorem q1489 : (Jvm.Cond.methodLink "EvenBodiesModel" (238 : Nat) ({ cls := "EvenBodiesModel", name := "rounds", desc := "()V" } : Jvm.MethodName)) ∈ lw_all := lw_g (lw_at lw_m6 216 rfl) rfl
theorem q1490 : (Jvm.Cond.privateMethod ({ cls := "EvenBodiesModel", name := "rounds", desc := "()V" } : Jvm.MethodName)) ∈ lw_tbl := lw_at lw_m6 217 rfl
theorem q1491 : (Jvm.Cond.instanceMethod ({ cls := "EvenBodiesModel", name := "rounds", desc := "()V" } : Jvm.MethodName)) ∈ lw_all := lw_g (lw_at lw_m6 218 rfl) rfl
theorem q1492 : (Jvm.Cond.code ({ cls := "EvenBodiesModel", name := "rounds", desc := "()V" } : Jvm.MethodName) prog_16_method_69_code (6 : Nat) (Option.none : Option Jvm.ClassFile.FieldType)) ∈ lw_all := lw_g (lw_at lw_m6 219 rfl) rfl
theorem q1493 : (Jvm.Cond.methodLink "EvenBodiesModel" (214 : Nat) ({ cls := "EvenBodiesModel", name := "faces", desc := "()V" } : Jvm.MethodName)) ∈ lw_all := lw_g (lw_at lw_m6 220 rfl) rfl
theorem q1494 : (Jvm.Cond.privateMethod ({ cls := "EvenBodiesModel", name := "faces", desc := "()V" } : Jvm.MethodName)) ∈ lw_tbl := lw_at lw_m6 221 rfl
theorem q1495 : (Jvm.Cond.instanceMethod ({ cls := "EvenBodiesModel", name := "faces", desc := "()V" } : Jvm.MethodName)) ∈ lw_all := lw_g (lw_at lw_m6 222 rfl) rfl
theorem q1496 : (Jvm.Cond.code ({ cls := "EvenBodiesModel", name := "faces", desc := "()V" } : Jvm.MethodName) prog_16_method_65_code (4 : Nat) (Option.none : Option Jvm.ClassFile.FieldType)) ∈ lw_all := lw_g (lw_at lw_m6 223 rfl) rfl
theorem q1497 : (Jvm.Cond.methodLink "EvenBodiesModel" (220 : Nat) ({ cls := "EvenBodiesModel", name := "edgeWith", desc := "(II)I" } : Jvm.MethodName)) ∈ lw_all := lw_g (lw_at lw_m6 224 rfl) rfl
theorem q1498 : (Jvm.Cond.privateMethod ({ cls := "EvenBodiesModel", name := "edgeWith", desc := "(II)I" } : Jvm.MethodName)) ∈ lw_tbl := lw_at lw_m6 225 rfl
theorem q1499 : (Jvm.Cond.instanceMethod ({ cls := "EvenBodiesModel", name := "edgeWith", desc := "(II)I" } : Jvm.MethodName)) ∈ lw_all := lw_g (lw_at lw_m6 226 rfl) rfl
theorem q1500 : (Jvm.Cond.code ({ cls := "EvenBodiesModel", name := "edgeWith", desc := "(II)I" } : Jvm.MethodName) prog_16_method_68_code (6 : Nat) (Option.some Jvm.ClassFile.FieldType.int)) ∈ lw_all := lw_g (lw_at lw_m6 227 rfl) rfl
theorem q1501 : (Jvm.Cond.methodLink "EvenBodiesModel" (223 : Nat) ({ cls := "EvenBodiesModel", name := "faceSize", desc := "(I)I" } : Jvm.MethodName)) ∈ lw_all := lw_g (lw_at lw_m6 228 rfl) rfl
theorem q1502 : (Jvm.Cond.privateMethod ({ cls := "EvenBodiesModel", name := "faceSize", desc := "(I)I" } : Jvm.MethodName)) ∈ lw_tbl := lw_at lw_m6 229 rfl
theorem q1503 : (Jvm.Cond.instanceMethod ({ cls := "EvenBodiesModel", name := "faceSize", desc := "(I)I" } : Jvm.MethodName)) ∈ lw_all := lw_g (lw_at lw_m6 230 rfl) rfl
theorem q1504 : (Jvm.Cond.code ({ cls := "EvenBodiesModel", name := "faceSize", desc := "(I)I" } : Jvm.MethodName) prog_16_method_66_code (4 : Nat) (Option.some Jvm.ClassFile.FieldType.int)) ∈ lw_all := lw_g (lw_at lw_m6 231 rfl) rfl
theorem q1505 : (Jvm.Cond.methodLink "EvenBodiesModel" (226 : Nat) ({ cls := "EvenBodiesModel", name := "faceWith", desc := "(II)I" } : Jvm.MethodName)) ∈ lw_all := lw_g (lw_at lw_m6 232 rfl) rfl
theorem q1506 : (Jvm.Cond.privateMethod ({ cls := "EvenBodiesModel", name := "faceWith", desc := "(II)I" } : Jvm.MethodName)) ∈ lw_tbl := lw_at lw_m6 233 rfl
theorem q1507 : (Jvm.Cond.instanceMethod ({ cls := "EvenBodiesModel", name := "faceWith", desc := "(II)I" } : Jvm.MethodName)) ∈ lw_all := lw_g (lw_at lw_m6 234 rfl) rfl
theorem q1508 : (Jvm.Cond.code ({ cls := "EvenBodiesModel", name := "faceWith", desc := "(II)I" } : Jvm.MethodName) prog_16_method_67_code (6 : Nat) (Option.some Jvm.ClassFile.FieldType.int)) ∈ lw_all := lw_g (lw_at lw_m6 235 rfl) rfl
theorem q1509 : (Jvm.Cond.methodLink "EvenBodiesModel" (229 : Nat) ({ cls := "EvenBodiesModel", name := "isLess", desc := "(II)Z" } : Jvm.MethodName)) ∈ lw_all := lw_g (lw_at lw_m6 236 rfl) rfl
theorem q1510 : (Jvm.Cond.privateMethod ({ cls := "EvenBodiesModel", name := "isLess", desc := "(II)Z" } : Jvm.MethodName)) ∈ lw_tbl := lw_at lw_m6 237 rfl
theorem q1511 : (Jvm.Cond.instanceMethod ({ cls := "EvenBodiesModel", name := "isLess", desc := "(II)Z" } : Jvm.MethodName)) ∈ lw_all := lw_g (lw_at lw_m6 238 rfl) rfl
theorem q1512 : (Jvm.Cond.code ({ cls := "EvenBodiesModel", name := "isLess", desc := "(II)Z" } : Jvm.MethodName) prog_16_method_71_code (4 : Nat) (Option.some Jvm.ClassFile.FieldType.boolean)) ∈ lw_all := lw_g (lw_at lw_m6 239 rfl) rfl
theorem q1513 : (Jvm.Cond.methodLink "EvenBodiesModel" (232 : Nat) ({ cls := "EvenBodiesModel", name := "told", desc := "(II)I" } : Jvm.MethodName)) ∈ lw_all := lw_g (lw_at lw_m7 0 rfl) rfl
theorem q1514 : (Jvm.Cond.privateMethod ({ cls := "EvenBodiesModel", name := "told", desc := "(II)I" } : Jvm.MethodName)) ∈ lw_tbl := lw_at lw_m7 1 rfl
theorem q1515 : (Jvm.Cond.instanceMethod ({ cls := "EvenBodiesModel", name := "told", desc := "(II)I" } : Jvm.MethodName)) ∈ lw_all := lw_g (lw_at lw_m7 2 rfl) rfl
theorem q1516 : (Jvm.Cond.code ({ cls := "EvenBodiesModel", name := "told", desc := "(II)I" } : Jvm.MethodName) prog_16_method_70_code (3 : Nat) (Option.some Jvm.ClassFile.FieldType.int)) ∈ lw_all := lw_g (lw_at lw_m7 3 rfl) rfl
theorem q1518 : (Jvm.Cond.instanceMethod ({ cls := "EvenBodiesModel", name := "alike", desc := "(II)I" } : Jvm.MethodName)) ∈ lw_all := lw_g (lw_at lw_m7 5 rfl) rfl
theorem q1519 : (Jvm.Cond.selects "EvenBodiesModel" ({ cls := "EvenBodiesModel", name := "alike", desc := "(II)I" } : Jvm.MethodName) ({ cls := "EvenBodiesModel", name := "alike", desc := "(II)I" } : Jvm.MethodName)) ∈ lw_all := lw_g (lw_at lw_m7 6 rfl) rfl
theorem q1520 : (Jvm.Cond.code ({ cls := "EvenBodiesModel", name := "alike", desc := "(II)I" } : Jvm.MethodName) prog_16_method_75_code (3 : Nat) (Option.some Jvm.ClassFile.FieldType.int)) ∈ lw_all := lw_g (lw_at lw_m7 7 rfl) rfl
theorem q1521 : (Jvm.Cond.methodLink "EvenBodiesModel" (241 : Nat) ({ cls := "EvenBodiesModel", name := "signs", desc := "(I)V" } : Jvm.MethodName)) ∈ lw_all := lw_g (lw_at lw_m7 8 rfl) rfl
theorem q1522 : (Jvm.Cond.privateMethod ({ cls := "EvenBodiesModel", name := "signs", desc := "(I)V" } : Jvm.MethodName)) ∈ lw_tbl := lw_at lw_m7 9 rfl
theorem q1523 : (Jvm.Cond.instanceMethod ({ cls := "EvenBodiesModel", name := "signs", desc := "(I)V" } : Jvm.MethodName)) ∈ lw_all := lw_g (lw_at lw_m7 10 rfl) rfl
theorem q1524 : (Jvm.Cond.code ({ cls := "EvenBodiesModel", name := "signs", desc := "(I)V" } : Jvm.MethodName) prog_16_method_73_code (3 : Nat) (Option.none : Option Jvm.ClassFile.FieldType)) ∈ lw_all := lw_g (lw_at lw_m7 11 rfl) rfl
theorem q1525 : (Jvm.Cond.methodLink "EvenBodiesModel" (244 : Nat) ({ cls := "EvenBodiesModel", name := "isLike", desc := "(II)Z" } : Jvm.MethodName)) ∈ lw_all := lw_g (lw_at lw_m7 12 rfl) rfl
theorem q1526 : (Jvm.Cond.privateMethod ({ cls := "EvenBodiesModel", name := "isLike", desc := "(II)Z" } : Jvm.MethodName)) ∈ lw_tbl := lw_at lw_m7 13 rfl
theorem q1527 : (Jvm.Cond.instanceMethod ({ cls := "EvenBodiesModel", name := "isLike", desc := "(II)Z" } : Jvm.MethodName)) ∈ lw_all := lw_g (lw_at lw_m7 14 rfl) rfl
theorem q1528 : (Jvm.Cond.code ({ cls := "EvenBodiesModel", name := "isLike", desc := "(II)Z" } : Jvm.MethodName) prog_16_method_74_code (5 : Nat) (Option.some Jvm.ClassFile.FieldType.boolean)) ∈ lw_all := lw_g (lw_at lw_m7 15 rfl) rfl
theorem q1530 : (Jvm.Cond.instanceMethod ({ cls := "EvenBodiesModel", name := "unlike", desc := "(I)I" } : Jvm.MethodName)) ∈ lw_all := lw_g (lw_at lw_m7 17 rfl) rfl
theorem q1531 : (Jvm.Cond.selects "EvenBodiesModel" ({ cls := "EvenBodiesModel", name := "unlike", desc := "(I)I" } : Jvm.MethodName) ({ cls := "EvenBodiesModel", name := "unlike", desc := "(I)I" } : Jvm.MethodName)) ∈ lw_all := lw_g (lw_at lw_m7 18 rfl) rfl
theorem q1532 : (Jvm.Cond.code ({ cls := "EvenBodiesModel", name := "unlike", desc := "(I)I" } : Jvm.MethodName) prog_16_method_76_code (8 : Nat) (Option.some Jvm.ClassFile.FieldType.int)) ∈ lw_all := lw_g (lw_at lw_m7 19 rfl) rfl
theorem q1534 : (Jvm.Cond.instanceMethod ({ cls := "EvenBodiesModel", name := "snub", desc := "(II)I" } : Jvm.MethodName)) ∈ lw_all := lw_g (lw_at lw_m7 21 rfl) rfl
theorem q1535 : (Jvm.Cond.selects "EvenBodiesModel" ({ cls := "EvenBodiesModel", name := "snub", desc := "(II)I" } : Jvm.MethodName) ({ cls := "EvenBodiesModel", name := "snub", desc := "(II)I" } : Jvm.MethodName)) ∈ lw_all := lw_g (lw_at lw_m7 22 rfl) rfl
theorem q1536 : (Jvm.Cond.code ({ cls := "EvenBodiesModel", name := "snub", desc := "(II)I" } : Jvm.MethodName) prog_16_method_80_code (5 : Nat) (Option.some Jvm.ClassFile.FieldType.int)) ∈ lw_all := lw_g (lw_at lw_m7 23 rfl) rfl
theorem q1537 : (Jvm.Cond.methodLink "EvenBodiesModel" (247 : Nat) ({ cls := "EvenBodiesModel", name := "snubs", desc := "()I" } : Jvm.MethodName)) ∈ lw_all := lw_g (lw_at lw_m7 24 rfl) rfl
theorem q1538 : (Jvm.Cond.privateMethod ({ cls := "EvenBodiesModel", name := "snubs", desc := "()I" } : Jvm.MethodName)) ∈ lw_tbl := lw_at lw_m7 25 rfl
theorem q1539 : (Jvm.Cond.instanceMethod ({ cls := "EvenBodiesModel", name := "snubs", desc := "()I" } : Jvm.MethodName)) ∈ lw_all := lw_g (lw_at lw_m7 26 rfl) rfl
theorem q1540 : (Jvm.Cond.code ({ cls := "EvenBodiesModel", name := "snubs", desc := "()I" } : Jvm.MethodName) prog_16_method_77_code (6 : Nat) (Option.some Jvm.ClassFile.FieldType.int)) ∈ lw_all := lw_g (lw_at lw_m7 27 rfl) rfl
theorem q1541 : (Jvm.Cond.methodLink "EvenBodiesModel" (251 : Nat) ({ cls := "EvenBodiesModel", name := "joinsAll", desc := "(I)I" } : Jvm.MethodName)) ∈ lw_all := lw_g (lw_at lw_m7 28 rfl) rfl
theorem q1542 : (Jvm.Cond.privateMethod ({ cls := "EvenBodiesModel", name := "joinsAll", desc := "(I)I" } : Jvm.MethodName)) ∈ lw_tbl := lw_at lw_m7 29 rfl
theorem q1543 : (Jvm.Cond.instanceMethod ({ cls := "EvenBodiesModel", name := "joinsAll", desc := "(I)I" } : Jvm.MethodName)) ∈ lw_all := lw_g (lw_at lw_m7 30 rfl) rfl
theorem q1544 : (Jvm.Cond.code ({ cls := "EvenBodiesModel", name := "joinsAll", desc := "(I)I" } : Jvm.MethodName) prog_16_method_78_code (5 : Nat) (Option.some Jvm.ClassFile.FieldType.int)) ∈ lw_all := lw_g (lw_at lw_m7 31 rfl) rfl
theorem q1545 : (Jvm.Cond.methodLink "EvenBodiesModel" (254 : Nat) ({ cls := "EvenBodiesModel", name := "snubFacesOf", desc := "(I)I" } : Jvm.MethodName)) ∈ lw_all := lw_g (lw_at lw_m7 32 rfl) rfl
theorem q1546 : (Jvm.Cond.privateMethod ({ cls := "EvenBodiesModel", name := "snubFacesOf", desc := "(I)I" } : Jvm.MethodName)) ∈ lw_tbl := lw_at lw_m7 33 rfl
theorem q1547 : (Jvm.Cond.instanceMethod ({ cls := "EvenBodiesModel", name := "snubFacesOf", desc := "(I)I" } : Jvm.MethodName)) ∈ lw_all := lw_g (lw_at lw_m7 34 rfl) rfl
theorem q1548 : (Jvm.Cond.code ({ cls := "EvenBodiesModel", name := "snubFacesOf", desc := "(I)I" } : Jvm.MethodName) prog_16_method_79_code (6 : Nat) (Option.some Jvm.ClassFile.FieldType.int)) ∈ lw_all := lw_g (lw_at lw_m7 35 rfl) rfl
theorem q1550 : (Jvm.Cond.instanceMethod ({ cls := "EvenBodiesModel", name := "snubLaw", desc := "(I)I" } : Jvm.MethodName)) ∈ lw_all := lw_g (lw_at lw_m7 37 rfl) rfl
theorem q1551 : (Jvm.Cond.selects "EvenBodiesModel" ({ cls := "EvenBodiesModel", name := "snubLaw", desc := "(I)I" } : Jvm.MethodName) ({ cls := "EvenBodiesModel", name := "snubLaw", desc := "(I)I" } : Jvm.MethodName)) ∈ lw_all := lw_g (lw_at lw_m7 38 rfl) rfl
theorem q1552 : (Jvm.Cond.code ({ cls := "EvenBodiesModel", name := "snubLaw", desc := "(I)I" } : Jvm.MethodName) prog_16_method_81_code (4 : Nat) (Option.some Jvm.ClassFile.FieldType.int)) ∈ lw_all := lw_g (lw_at lw_m7 39 rfl) rfl
theorem q1554 : (Jvm.Cond.instanceMethod ({ cls := "EvenBodiesModel", name := "snubDegree", desc := "(II)I" } : Jvm.MethodName)) ∈ lw_all := lw_g (lw_at lw_m7 41 rfl) rfl
theorem q1555 : (Jvm.Cond.selects "EvenBodiesModel" ({ cls := "EvenBodiesModel", name := "snubDegree", desc := "(II)I" } : Jvm.MethodName) ({ cls := "EvenBodiesModel", name := "snubDegree", desc := "(II)I" } : Jvm.MethodName)) ∈ lw_all := lw_g (lw_at lw_m7 42 rfl) rfl
theorem q1556 : (Jvm.Cond.code ({ cls := "EvenBodiesModel", name := "snubDegree", desc := "(II)I" } : Jvm.MethodName) prog_16_method_82_code (5 : Nat) (Option.some Jvm.ClassFile.FieldType.int)) ∈ lw_all := lw_g (lw_at lw_m7 43 rfl) rfl
theorem q1558 : (Jvm.Cond.instanceMethod ({ cls := "EvenBodiesModel", name := "snubFar", desc := "(III)I" } : Jvm.MethodName)) ∈ lw_all := lw_g (lw_at lw_m7 45 rfl) rfl
theorem q1559 : (Jvm.Cond.selects "EvenBodiesModel" ({ cls := "EvenBodiesModel", name := "snubFar", desc := "(III)I" } : Jvm.MethodName) ({ cls := "EvenBodiesModel", name := "snubFar", desc := "(III)I" } : Jvm.MethodName)) ∈ lw_all := lw_g (lw_at lw_m7 46 rfl) rfl
theorem q1560 : (Jvm.Cond.code ({ cls := "EvenBodiesModel", name := "snubFar", desc := "(III)I" } : Jvm.MethodName) prog_16_method_83_code (6 : Nat) (Option.some Jvm.ClassFile.FieldType.int)) ∈ lw_all := lw_g (lw_at lw_m7 47 rfl) rfl
theorem q1562 : (Jvm.Cond.instanceMethod ({ cls := "EvenBodiesModel", name := "snubFaces", desc := "(II)I" } : Jvm.MethodName)) ∈ lw_all := lw_g (lw_at lw_m7 49 rfl) rfl
theorem q1563 : (Jvm.Cond.selects "EvenBodiesModel" ({ cls := "EvenBodiesModel", name := "snubFaces", desc := "(II)I" } : Jvm.MethodName) ({ cls := "EvenBodiesModel", name := "snubFaces", desc := "(II)I" } : Jvm.MethodName)) ∈ lw_all := lw_g (lw_at lw_m7 50 rfl) rfl
theorem q1564 : (Jvm.Cond.code ({ cls := "EvenBodiesModel", name := "snubFaces", desc := "(II)I" } : Jvm.MethodName) prog_16_method_84_code (4 : Nat) (Option.some Jvm.ClassFile.FieldType.int)) ∈ lw_all := lw_g (lw_at lw_m7 51 rfl) rfl
theorem q1566 : (Jvm.Cond.instanceMethod ({ cls := "EvenBodiesModel", name := "dual", desc := "(II)I" } : Jvm.MethodName)) ∈ lw_all := lw_g (lw_at lw_m7 53 rfl) rfl
theorem q1567 : (Jvm.Cond.selects "EvenBodiesModel" ({ cls := "EvenBodiesModel", name := "dual", desc := "(II)I" } : Jvm.MethodName) ({ cls := "EvenBodiesModel", name := "dual", desc := "(II)I" } : Jvm.MethodName)) ∈ lw_all := lw_g (lw_at lw_m7 54 rfl) rfl
theorem q1568 : (Jvm.Cond.code ({ cls := "EvenBodiesModel", name := "dual", desc := "(II)I" } : Jvm.MethodName) prog_16_method_86_code (5 : Nat) (Option.some Jvm.ClassFile.FieldType.int)) ∈ lw_all := lw_g (lw_at lw_m7 55 rfl) rfl
theorem q1569 : (Jvm.Cond.methodLink "EvenBodiesModel" (257 : Nat) ({ cls := "EvenBodiesModel", name := "duals", desc := "()I" } : Jvm.MethodName)) ∈ lw_all := lw_g (lw_at lw_m7 56 rfl) rfl
theorem q1570 : (Jvm.Cond.privateMethod ({ cls := "EvenBodiesModel", name := "duals", desc := "()I" } : Jvm.MethodName)) ∈ lw_tbl := lw_at lw_m7 57 rfl
theorem q1571 : (Jvm.Cond.instanceMethod ({ cls := "EvenBodiesModel", name := "duals", desc := "()I" } : Jvm.MethodName)) ∈ lw_all := lw_g (lw_at lw_m7 58 rfl) rfl
theorem q1572 : (Jvm.Cond.code ({ cls := "EvenBodiesModel", name := "duals", desc := "()I" } : Jvm.MethodName) prog_16_method_85_code (10 : Nat) (Option.some Jvm.ClassFile.FieldType.int)) ∈ lw_all := lw_g (lw_at lw_m7 59 rfl) rfl
theorem q1574 : (Jvm.Cond.instanceMethod ({ cls := "EvenBodiesModel", name := "dualDegree", desc := "(II)I" } : Jvm.MethodName)) ∈ lw_all := lw_g (lw_at lw_m7 61 rfl) rfl
theorem q1575 : (Jvm.Cond.selects "EvenBodiesModel" ({ cls := "EvenBodiesModel", name := "dualDegree", desc := "(II)I" } : Jvm.MethodName) ({ cls := "EvenBodiesModel", name := "dualDegree", desc := "(II)I" } : Jvm.MethodName)) ∈ lw_all := lw_g (lw_at lw_m7 62 rfl) rfl
theorem q1576 : (Jvm.Cond.code ({ cls := "EvenBodiesModel", name := "dualDegree", desc := "(II)I" } : Jvm.MethodName) prog_16_method_87_code (7 : Nat) (Option.some Jvm.ClassFile.FieldType.int)) ∈ lw_all := lw_g (lw_at lw_m7 63 rfl) rfl
theorem q1578 : (Jvm.Cond.instanceMethod ({ cls := "EvenBodiesModel", name := "dualFar", desc := "(I)I" } : Jvm.MethodName)) ∈ lw_all := lw_g (lw_at lw_m7 65 rfl) rfl
theorem q1579 : (Jvm.Cond.selects "EvenBodiesModel" ({ cls := "EvenBodiesModel", name := "dualFar", desc := "(I)I" } : Jvm.MethodName) ({ cls := "EvenBodiesModel", name := "dualFar", desc := "(I)I" } : Jvm.MethodName)) ∈ lw_all := lw_g (lw_at lw_m7 66 rfl) rfl
theorem q1580 : (Jvm.Cond.code ({ cls := "EvenBodiesModel", name := "dualFar", desc := "(I)I" } : Jvm.MethodName) prog_16_method_88_code (7 : Nat) (Option.some Jvm.ClassFile.FieldType.int)) ∈ lw_all := lw_g (lw_at lw_m7 67 rfl) rfl
theorem q1582 : (Jvm.Cond.instanceMethod ({ cls := "EvenBodiesModel", name := "digest", desc := "()J" } : Jvm.MethodName)) ∈ lw_all := lw_g (lw_at lw_m7 69 rfl) rfl
theorem q1583 : (Jvm.Cond.selects "EvenBodiesModel" ({ cls := "EvenBodiesModel", name := "digest", desc := "()J" } : Jvm.MethodName) ({ cls := "EvenBodiesModel", name := "digest", desc := "()J" } : Jvm.MethodName)) ∈ lw_all := lw_g (lw_at lw_m7 70 rfl) rfl
theorem q1584 : (Jvm.Cond.code ({ cls := "EvenBodiesModel", name := "digest", desc := "()J" } : Jvm.MethodName) prog_16_method_89_code (6 : Nat) (Option.some Jvm.ClassFile.FieldType.long)) ∈ lw_all := lw_g (lw_at lw_m7 71 rfl) rfl
theorem q1585 : (Jvm.Cond.constantLong "EvenBodiesModel" (260 : Nat) (271 : Int64)) ∈ lw_all := lw_g (lw_at lw_m7 72 rfl) rfl
theorem q1586 : (Jvm.Cond.constantLong "EvenBodiesModel" (262 : Nat) (31 : Int64)) ∈ lw_all := lw_g (lw_at lw_m7 73 rfl) rfl
theorem q1599 : (Jvm.Cond.castable "EvenBodiesModel" "java/lang/Object") ∈ lw_tbl := lw_at lw_m7 86 rfl
theorem in_X2 : ∀ w ∈ wsX20, w ∈ lw_all := lw_in wsX20 [1177, 1179, 1181, 1183, 1185, 1187, 1189, 1191, 1193, 1195, 1197, 1199, 1201, 1203, 1205, 1207, 1209, 1211, 1213, 1215, 1217, 1219, 1221, 1223, 1225, 1227, 1229, 1231, 1233, 1235, 1237, 1239, 1241, 1243, 1245] (by decide +kernel) (by decide +kernel)
def RX3 : String := "EvenBodies$Piece"
abbrev cX3_of : ByteArray := prog_11_method_3_code
def yX3_of : MethodName := ⟨RX3, "of", "(LEvenBodies$Body;I)LEvenBodies$Piece;"⟩
abbrev cX3_init : ByteArray := prog_11_method_1_code
def yX3_init : MethodName := ⟨RX3, "<init>", "()V"⟩
theorem q79 : (Jvm.Cond.initialized "EvenBodies$Piece") ∈ lw_all := lw_g (lw_at lw_m1 6 rfl) rfl
theorem q255 : (Jvm.Cond.static ({ cls := "EvenBodies$Piece", name := "of", desc := "(LEvenBodies$Body;I)LEvenBodies$Piece;" } : Jvm.MethodName)) ∈ lw_all := lw_g (lw_at lw_m1 182 rfl) rfl
theorem q256 : (Jvm.Cond.code ({ cls := "EvenBodies$Piece", name := "of", desc := "(LEvenBodies$Body;I)LEvenBodies$Piece;" } : Jvm.MethodName) prog_11_method_3_code (12 : Nat) (Option.some (Jvm.ClassFile.FieldType.object "EvenBodies$Piece"))) ∈ lw_all := lw_g (lw_at lw_m1 183 rfl) rfl
theorem q257 : (Jvm.Cond.methodLink "EvenBodies$Piece" (9 : Nat) ({ cls := "java/lang/Integer", name := "bitCount", desc := "(I)I" } : Jvm.MethodName)) ∈ lw_all := lw_g (lw_at lw_m1 184 rfl) rfl
theorem q263 : (Jvm.Cond.classLink "EvenBodies$Piece" (15 : Nat) "EvenBodies$Ring") ∈ lw_all := lw_g (lw_at lw_m1 190 rfl) rfl
theorem q265 : (Jvm.Cond.methodLink "EvenBodies$Piece" (17 : Nat) ({ cls := "EvenBodies$Ring", name := "<init>", desc := "(I)V" } : Jvm.MethodName)) ∈ lw_all := lw_g (lw_at lw_m1 192 rfl) rfl
theorem q269 : (Jvm.Cond.instanceMethod ({ cls := "EvenBodies$Piece", name := "<init>", desc := "()V" } : Jvm.MethodName)) ∈ lw_all := lw_g (lw_at lw_m1 196 rfl) rfl
theorem q270 : (Jvm.Cond.code ({ cls := "EvenBodies$Piece", name := "<init>", desc := "()V" } : Jvm.MethodName) prog_11_method_1_code (1 : Nat) (Option.none : Option Jvm.ClassFile.FieldType)) ∈ lw_all := lw_g (lw_at lw_m1 197 rfl) rfl
theorem q271 : (Jvm.Cond.methodLink "EvenBodies$Piece" (3 : Nat) ({ cls := "java/lang/Object", name := "<init>", desc := "()V" } : Jvm.MethodName)) ∈ lw_all := lw_g (lw_at lw_m1 198 rfl) rfl
theorem q276 : (Jvm.Cond.methodLink "EvenBodies$Piece" (20 : Nat) ({ cls := "EvenBodies$Body", name := "joined", desc := "(I)I" } : Jvm.MethodName)) ∈ lw_all := lw_g (lw_at lw_m1 203 rfl) rfl
theorem q277 : (Jvm.Cond.classLink "EvenBodies$Piece" (25 : Nat) "EvenBodies$Endless") ∈ lw_all := lw_g (lw_at lw_m1 204 rfl) rfl
theorem q279 : (Jvm.Cond.methodLinkNest "EvenBodies$Piece" (27 : Nat) ({ cls := "EvenBodies$Endless", name := "<init>", desc := "()V" } : Jvm.MethodName) "EvenBodies") ∈ lw_tbl := lw_at lw_m1 206 rfl
theorem q284 : (Jvm.Cond.classLink "EvenBodies$Piece" (28 : Nat) "EvenBodies$Star") ∈ lw_all := lw_g (lw_at lw_m1 211 rfl) rfl
theorem q286 : (Jvm.Cond.methodLink "EvenBodies$Piece" (30 : Nat) ({ cls := "EvenBodies$Star", name := "<init>", desc := "(LEvenBodies$Body;I)V" } : Jvm.MethodName)) ∈ lw_all := lw_g (lw_at lw_m1 213 rfl) rfl
theorem q295 : (Jvm.Cond.methodLink "EvenBodies$Piece" (33 : Nat) ({ cls := "java/lang/Integer", name := "numberOfTrailingZeros", desc := "(I)I" } : Jvm.MethodName)) ∈ lw_all := lw_g (lw_at lw_m1 222 rfl) rfl
theorem q299 : (Jvm.Cond.methodLink "EvenBodies$Piece" (36 : Nat) ({ cls := "EvenBodies$Body", name := "angle", desc := "(II)I" } : Jvm.MethodName)) ∈ lw_all := lw_g (lw_at lw_m1 226 rfl) rfl
theorem q300 : (Jvm.Cond.classLink "EvenBodies$Piece" (40 : Nat) "EvenBodies$Path") ∈ lw_all := lw_g (lw_at lw_m1 227 rfl) rfl
theorem q302 : (Jvm.Cond.methodLink "EvenBodies$Piece" (42 : Nat) ({ cls := "EvenBodies$Path", name := "<init>", desc := "([I)V" } : Jvm.MethodName)) ∈ lw_all := lw_g (lw_at lw_m1 229 rfl) rfl
theorem q311 : (Jvm.Cond.declares ({ cls := "EvenBodies$Piece", name := "size", desc := "()I" } : Jvm.MethodName)) ∈ lw_tbl := lw_at lw_m1 238 rfl
theorem q312 : (Jvm.Cond.sameMethod "EvenBodies$Piece" "EvenBodies$Piece" "size" "()I") ∈ lw_all := lw_g (lw_at lw_m1 239 rfl) rfl
def RX4 : String := "EvenBodies$Ring"
def TX4 : u_T := fun k => match k with
  | _ => ("EvenBodies$Ring", "m", "I", true)
def tyX4 : Nat → FieldType := fun k => match k with
  | _ => .int
abbrev wsX40 : List Cond := u_ws RX4 TX4 1
theorem nmX4 : ∀ a, a < 1 → ∀ b, b < 1 → a ≠ b → (TX4 a).2.1 ≠ (TX4 b).2.1 := by decide +kernel
theorem tyX4_ok : ∀ k, k < 1 → parseFieldDescriptor (TX4 k).2.2.1 = some (tyX4 k) := by decide +kernel
abbrev cX4_init : ByteArray := prog_12_method_1_code
def yX4_init : MethodName := ⟨RX4, "<init>", "(I)V"⟩
abbrev cX4_size : ByteArray := prog_12_method_2_code
def yX4_size : MethodName := ⟨RX4, "size", "()I"⟩
theorem q80 : (Jvm.Cond.initialized "EvenBodies$Ring") ∈ lw_all := lw_g (lw_at lw_m1 7 rfl) rfl
theorem q264 : (Jvm.Cond.instantiable "EvenBodies$Ring" (1 : Nat)) ∈ lw_all := lw_g (lw_at lw_m1 191 rfl) rfl
theorem q266 : (Jvm.Cond.instanceMethod ({ cls := "EvenBodies$Ring", name := "<init>", desc := "(I)V" } : Jvm.MethodName)) ∈ lw_all := lw_g (lw_at lw_m1 193 rfl) rfl
theorem q267 : (Jvm.Cond.code ({ cls := "EvenBodies$Ring", name := "<init>", desc := "(I)V" } : Jvm.MethodName) prog_12_method_1_code (2 : Nat) (Option.none : Option Jvm.ClassFile.FieldType)) ∈ lw_all := lw_g (lw_at lw_m1 194 rfl) rfl
theorem q268 : (Jvm.Cond.methodLinkNest "EvenBodies$Ring" (1 : Nat) ({ cls := "EvenBodies$Piece", name := "<init>", desc := "()V" } : Jvm.MethodName) "EvenBodies") ∈ lw_tbl := lw_at lw_m1 195 rfl
theorem q272 : (Jvm.Cond.fieldLink "EvenBodies$Ring" (7 : Nat) "EvenBodies$Ring" "m" "I") ∈ lw_all := lw_g (lw_at lw_m1 199 rfl) rfl
theorem q273 : (Jvm.Cond.laysFinal "EvenBodies$Ring" "EvenBodies$Ring" "m" "I") ∈ lw_all := lw_g (lw_at lw_m1 200 rfl) rfl
theorem q274 : (Jvm.Cond.soleField "EvenBodies$Ring" "m") ∈ lw_all := lw_g (lw_at lw_m1 201 rfl) rfl
theorem q275 : (Jvm.Cond.superclass "EvenBodies$Ring" "EvenBodies$Piece") ∈ lw_all := lw_g (lw_at lw_m1 202 rfl) rfl
theorem q323 : (Jvm.Cond.selects "EvenBodies$Ring" ({ cls := "EvenBodies$Piece", name := "size", desc := "()I" } : Jvm.MethodName) ({ cls := "EvenBodies$Ring", name := "size", desc := "()I" } : Jvm.MethodName)) ∈ lw_all := lw_g (lw_at lw_m2 10 rfl) rfl
theorem q324 : (Jvm.Cond.instanceMethod ({ cls := "EvenBodies$Ring", name := "size", desc := "()I" } : Jvm.MethodName)) ∈ lw_all := lw_g (lw_at lw_m2 11 rfl) rfl
theorem q325 : (Jvm.Cond.code ({ cls := "EvenBodies$Ring", name := "size", desc := "()I" } : Jvm.MethodName) prog_12_method_2_code (1 : Nat) (Option.some Jvm.ClassFile.FieldType.int)) ∈ lw_all := lw_g (lw_at lw_m2 12 rfl) rfl
theorem q994 : (Jvm.Cond.selects "EvenBodies$Ring" ({ cls := "java/lang/Object", name := "getClass", desc := "()Ljava/lang/Class;" } : Jvm.MethodName) ({ cls := "java/lang/Object", name := "getClass", desc := "()Ljava/lang/Class;" } : Jvm.MethodName)) ∈ lw_all := lw_g (lw_at lw_m4 201 rfl) rfl
theorem q1600 : (Jvm.Cond.castable "EvenBodies$Ring" "java/lang/Object") ∈ lw_tbl := lw_at lw_m7 87 rfl
theorem in_X4 : ∀ w ∈ wsX40, w ∈ lw_all := lw_in wsX40 [273] (by decide +kernel) (by decide +kernel)
def RX5 : String := "EvenBodies$Endless"
abbrev cX5_init : ByteArray := prog_4_method_1_code
def yX5_init : MethodName := ⟨RX5, "<init>", "()V"⟩
abbrev cX5_size : ByteArray := prog_4_method_2_code
def yX5_size : MethodName := ⟨RX5, "size", "()I"⟩
theorem q81 : (Jvm.Cond.initialized "EvenBodies$Endless") ∈ lw_all := lw_g (lw_at lw_m1 8 rfl) rfl
theorem q278 : (Jvm.Cond.instantiable "EvenBodies$Endless" (0 : Nat)) ∈ lw_all := lw_g (lw_at lw_m1 205 rfl) rfl
theorem q280 : (Jvm.Cond.instanceMethod ({ cls := "EvenBodies$Endless", name := "<init>", desc := "()V" } : Jvm.MethodName)) ∈ lw_all := lw_g (lw_at lw_m1 207 rfl) rfl
theorem q281 : (Jvm.Cond.code ({ cls := "EvenBodies$Endless", name := "<init>", desc := "()V" } : Jvm.MethodName) prog_4_method_1_code (1 : Nat) (Option.none : Option Jvm.ClassFile.FieldType)) ∈ lw_all := lw_g (lw_at lw_m1 208 rfl) rfl
theorem q282 : (Jvm.Cond.methodLinkNest "EvenBodies$Endless" (1 : Nat) ({ cls := "EvenBodies$Piece", name := "<init>", desc := "()V" } : Jvm.MethodName) "EvenBodies") ∈ lw_tbl := lw_at lw_m1 209 rfl
theorem q283 : (Jvm.Cond.superclass "EvenBodies$Endless" "EvenBodies$Piece") ∈ lw_all := lw_g (lw_at lw_m1 210 rfl) rfl
theorem q313 : (Jvm.Cond.selects "EvenBodies$Endless" ({ cls := "EvenBodies$Piece", name := "size", desc := "()I" } : Jvm.MethodName) ({ cls := "EvenBodies$Endless", name := "size", desc := "()I" } : Jvm.MethodName)) ∈ lw_all := lw_g (lw_at lw_m2 0 rfl) rfl
theorem q314 : (Jvm.Cond.instanceMethod ({ cls := "EvenBodies$Endless", name := "size", desc := "()I" } : Jvm.MethodName)) ∈ lw_all := lw_g (lw_at lw_m2 1 rfl) rfl
theorem q315 : (Jvm.Cond.code ({ cls := "EvenBodies$Endless", name := "size", desc := "()I" } : Jvm.MethodName) prog_4_method_2_code (1 : Nat) (Option.some Jvm.ClassFile.FieldType.int)) ∈ lw_all := lw_g (lw_at lw_m2 2 rfl) rfl
theorem q987 : (Jvm.Cond.selects "EvenBodies$Endless" ({ cls := "java/lang/Object", name := "getClass", desc := "()Ljava/lang/Class;" } : Jvm.MethodName) ({ cls := "java/lang/Object", name := "getClass", desc := "()Ljava/lang/Class;" } : Jvm.MethodName)) ∈ lw_all := lw_g (lw_at lw_m4 194 rfl) rfl
theorem q1601 : (Jvm.Cond.castable "EvenBodies$Endless" "java/lang/Object") ∈ lw_tbl := lw_at lw_m7 88 rfl
def RX6 : String := "EvenBodies$Star"
def TX6 : u_T := fun k => match k with
  | _ => ("EvenBodies$Star", "isEven", "Z", true)
def tyX6 : Nat → FieldType := fun k => match k with
  | _ => .boolean
abbrev wsX60 : List Cond := u_ws RX6 TX6 1
theorem nmX6 : ∀ a, a < 1 → ∀ b, b < 1 → a ≠ b → (TX6 a).2.1 ≠ (TX6 b).2.1 := by decide +kernel
theorem tyX6_ok : ∀ k, k < 1 → parseFieldDescriptor (TX6 k).2.2.1 = some (tyX6 k) := by decide +kernel
abbrev cX6_init : ByteArray := prog_14_method_1_code
def yX6_init : MethodName := ⟨RX6, "<init>", "(LEvenBodies$Body;I)V"⟩
abbrev cX6_size : ByteArray := prog_14_method_2_code
def yX6_size : MethodName := ⟨RX6, "size", "()I"⟩
theorem q82 : (Jvm.Cond.initialized "EvenBodies$Star") ∈ lw_all := lw_g (lw_at lw_m1 9 rfl) rfl
theorem q285 : (Jvm.Cond.instantiable "EvenBodies$Star" (1 : Nat)) ∈ lw_all := lw_g (lw_at lw_m1 212 rfl) rfl
theorem q287 : (Jvm.Cond.instanceMethod ({ cls := "EvenBodies$Star", name := "<init>", desc := "(LEvenBodies$Body;I)V" } : Jvm.MethodName)) ∈ lw_all := lw_g (lw_at lw_m1 214 rfl) rfl
theorem q288 : (Jvm.Cond.code ({ cls := "EvenBodies$Star", name := "<init>", desc := "(LEvenBodies$Body;I)V" } : Jvm.MethodName) prog_14_method_1_code (5 : Nat) (Option.none : Option Jvm.ClassFile.FieldType)) ∈ lw_all := lw_g (lw_at lw_m1 215 rfl) rfl
theorem q289 : (Jvm.Cond.methodLinkNest "EvenBodies$Star" (3 : Nat) ({ cls := "EvenBodies$Piece", name := "<init>", desc := "()V" } : Jvm.MethodName) "EvenBodies") ∈ lw_tbl := lw_at lw_m1 216 rfl
theorem q290 : (Jvm.Cond.methodLink "EvenBodies$Star" (9 : Nat) ({ cls := "EvenBodies$Body", name := "angle", desc := "(II)I" } : Jvm.MethodName)) ∈ lw_all := lw_g (lw_at lw_m1 217 rfl) rfl
theorem q291 : (Jvm.Cond.fieldLink "EvenBodies$Star" (15 : Nat) "EvenBodies$Star" "isEven" "Z") ∈ lw_all := lw_g (lw_at lw_m1 218 rfl) rfl
theorem q292 : (Jvm.Cond.laysFinal "EvenBodies$Star" "EvenBodies$Star" "isEven" "Z") ∈ lw_all := lw_g (lw_at lw_m1 219 rfl) rfl
theorem q293 : (Jvm.Cond.soleField "EvenBodies$Star" "isEven") ∈ lw_all := lw_g (lw_at lw_m1 220 rfl) rfl
theorem q294 : (Jvm.Cond.superclass "EvenBodies$Star" "EvenBodies$Piece") ∈ lw_all := lw_g (lw_at lw_m1 221 rfl) rfl
theorem q326 : (Jvm.Cond.selects "EvenBodies$Star" ({ cls := "EvenBodies$Piece", name := "size", desc := "()I" } : Jvm.MethodName) ({ cls := "EvenBodies$Star", name := "size", desc := "()I" } : Jvm.MethodName)) ∈ lw_all := lw_g (lw_at lw_m2 13 rfl) rfl
theorem q327 : (Jvm.Cond.instanceMethod ({ cls := "EvenBodies$Star", name := "size", desc := "()I" } : Jvm.MethodName)) ∈ lw_all := lw_g (lw_at lw_m2 14 rfl) rfl
theorem q328 : (Jvm.Cond.code ({ cls := "EvenBodies$Star", name := "size", desc := "()I" } : Jvm.MethodName) prog_14_method_2_code (1 : Nat) (Option.some Jvm.ClassFile.FieldType.int)) ∈ lw_all := lw_g (lw_at lw_m2 15 rfl) rfl
theorem q996 : (Jvm.Cond.selects "EvenBodies$Star" ({ cls := "java/lang/Object", name := "getClass", desc := "()Ljava/lang/Class;" } : Jvm.MethodName) ({ cls := "java/lang/Object", name := "getClass", desc := "()Ljava/lang/Class;" } : Jvm.MethodName)) ∈ lw_all := lw_g (lw_at lw_m4 203 rfl) rfl
theorem q1602 : (Jvm.Cond.castable "EvenBodies$Star" "java/lang/Object") ∈ lw_tbl := lw_at lw_m7 89 rfl
theorem in_X6 : ∀ w ∈ wsX60, w ∈ lw_all := lw_in wsX60 [292] (by decide +kernel) (by decide +kernel)
def RX7 : String := "EvenBodies$Path"
def TX7 : u_T := fun k => match k with
  | _ => ("EvenBodies$Path", "row", "[I", true)
def tyX7 : Nat → FieldType := fun k => match k with
  | _ => .array .int
abbrev wsX70 : List Cond := u_ws RX7 TX7 1
theorem nmX7 : ∀ a, a < 1 → ∀ b, b < 1 → a ≠ b → (TX7 a).2.1 ≠ (TX7 b).2.1 := by decide +kernel
theorem tyX7_ok : ∀ k, k < 1 → parseFieldDescriptor (TX7 k).2.2.1 = some (tyX7 k) := by decide +kernel
abbrev cX7_init : ByteArray := prog_10_method_1_code
def yX7_init : MethodName := ⟨RX7, "<init>", "([I)V"⟩
abbrev cX7_size : ByteArray := prog_10_method_3_code
def yX7_size : MethodName := ⟨RX7, "size", "()I"⟩
abbrev cX7_is : ByteArray := prog_10_method_2_code
def yX7_is : MethodName := ⟨RX7, "is", "(III)Z"⟩
theorem q83 : (Jvm.Cond.initialized "EvenBodies$Path") ∈ lw_all := lw_g (lw_at lw_m1 10 rfl) rfl
theorem q301 : (Jvm.Cond.instantiable "EvenBodies$Path" (1 : Nat)) ∈ lw_all := lw_g (lw_at lw_m1 228 rfl) rfl
theorem q303 : (Jvm.Cond.instanceMethod ({ cls := "EvenBodies$Path", name := "<init>", desc := "([I)V" } : Jvm.MethodName)) ∈ lw_all := lw_g (lw_at lw_m1 230 rfl) rfl
theorem q304 : (Jvm.Cond.code ({ cls := "EvenBodies$Path", name := "<init>", desc := "([I)V" } : Jvm.MethodName) prog_10_method_1_code (2 : Nat) (Option.none : Option Jvm.ClassFile.FieldType)) ∈ lw_all := lw_g (lw_at lw_m1 231 rfl) rfl
theorem q305 : (Jvm.Cond.methodLinkNest "EvenBodies$Path" (1 : Nat) ({ cls := "EvenBodies$Piece", name := "<init>", desc := "()V" } : Jvm.MethodName) "EvenBodies") ∈ lw_tbl := lw_at lw_m1 232 rfl
theorem q306 : (Jvm.Cond.fieldLink "EvenBodies$Path" (7 : Nat) "EvenBodies$Path" "row" "[I") ∈ lw_all := lw_g (lw_at lw_m1 233 rfl) rfl
theorem q307 : (Jvm.Cond.laysFinal "EvenBodies$Path" "EvenBodies$Path" "row" "[I") ∈ lw_all := lw_g (lw_at lw_m1 234 rfl) rfl
theorem q308 : (Jvm.Cond.soleField "EvenBodies$Path" "row") ∈ lw_all := lw_g (lw_at lw_m1 235 rfl) rfl
theorem q309 : (Jvm.Cond.superclass "EvenBodies$Path" "EvenBodies$Piece") ∈ lw_all := lw_g (lw_at lw_m1 236 rfl) rfl
theorem q316 : (Jvm.Cond.selects "EvenBodies$Path" ({ cls := "EvenBodies$Piece", name := "size", desc := "()I" } : Jvm.MethodName) ({ cls := "EvenBodies$Path", name := "size", desc := "()I" } : Jvm.MethodName)) ∈ lw_all := lw_g (lw_at lw_m2 3 rfl) rfl
theorem q317 : (Jvm.Cond.instanceMethod ({ cls := "EvenBodies$Path", name := "size", desc := "()I" } : Jvm.MethodName)) ∈ lw_all := lw_g (lw_at lw_m2 4 rfl) rfl
theorem q318 : (Jvm.Cond.code ({ cls := "EvenBodies$Path", name := "size", desc := "()I" } : Jvm.MethodName) prog_10_method_3_code (1 : Nat) (Option.some Jvm.ClassFile.FieldType.int)) ∈ lw_all := lw_g (lw_at lw_m2 5 rfl) rfl
theorem q319 : (Jvm.Cond.methodLink "EvenBodies$Path" (13 : Nat) ({ cls := "EvenBodies$Path", name := "is", desc := "(III)Z" } : Jvm.MethodName)) ∈ lw_all := lw_g (lw_at lw_m2 6 rfl) rfl
theorem q320 : (Jvm.Cond.privateMethod ({ cls := "EvenBodies$Path", name := "is", desc := "(III)Z" } : Jvm.MethodName)) ∈ lw_tbl := lw_at lw_m2 7 rfl
theorem q321 : (Jvm.Cond.instanceMethod ({ cls := "EvenBodies$Path", name := "is", desc := "(III)Z" } : Jvm.MethodName)) ∈ lw_all := lw_g (lw_at lw_m2 8 rfl) rfl
theorem q322 : (Jvm.Cond.code ({ cls := "EvenBodies$Path", name := "is", desc := "(III)Z" } : Jvm.MethodName) prog_10_method_2_code (7 : Nat) (Option.some Jvm.ClassFile.FieldType.boolean)) ∈ lw_all := lw_g (lw_at lw_m2 9 rfl) rfl
theorem q993 : (Jvm.Cond.selects "EvenBodies$Path" ({ cls := "java/lang/Object", name := "getClass", desc := "()Ljava/lang/Class;" } : Jvm.MethodName) ({ cls := "java/lang/Object", name := "getClass", desc := "()Ljava/lang/Class;" } : Jvm.MethodName)) ∈ lw_all := lw_g (lw_at lw_m4 200 rfl) rfl
theorem q1603 : (Jvm.Cond.castable "EvenBodies$Path" "java/lang/Object") ∈ lw_tbl := lw_at lw_m7 90 rfl
theorem in_X7 : ∀ w ∈ wsX70, w ∈ lw_all := lw_in wsX70 [307] (by decide +kernel) (by decide +kernel)
def RX8 : String := "EvenBodies$Group"
def TX8 : u_T := fun k => match k with
  | 0 => ("EvenBodies$Group", "mirrors", "I", true)
  | 1 => ("EvenBodies$Group", "n", "I", false)
  | 2 => ("EvenBodies$Group", "next", "[S", true)
  | 3 => ("EvenBodies$Group", "from", "[S", true)
  | 4 => ("EvenBodies$Group", "last", "[B", true)
  | _ => ("EvenBodies$Group", "length", "[B", true)
def tyX8 : Nat → FieldType := fun k => match k with
  | 0 => .int
  | 1 => .int
  | 2 => .array .short
  | 3 => .array .short
  | 4 => .array .byte
  | _ => .array .byte
abbrev wsX80 : List Cond := u_ws RX8 TX8 6
theorem nmX8 : ∀ a, a < 6 → ∀ b, b < 6 → a ≠ b → (TX8 a).2.1 ≠ (TX8 b).2.1 := by decide +kernel
theorem tyX8_ok : ∀ k, k < 6 → parseFieldDescriptor (TX8 k).2.2.1 = some (tyX8 k) := by decide +kernel
abbrev cX8_init : ByteArray := prog_5_method_1_code
def yX8_init : MethodName := ⟨RX8, "<init>", "(LEvenBodies$Body;I)V"⟩
abbrev cX8_letter : ByteArray := prog_5_method_3_code
def yX8_letter : MethodName := ⟨RX8, "letter", "(II)I"⟩
abbrev cX8_by : ByteArray := prog_5_method_2_code
def yX8_by : MethodName := ⟨RX8, "by", "(II)I"⟩
abbrev cX8_product : ByteArray := prog_5_method_4_code
def yX8_product : MethodName := ⟨RX8, "product", "(II)I"⟩
abbrev cX8_inverse : ByteArray := prog_5_method_5_code
def yX8_inverse : MethodName := ⟨RX8, "inverse", "(I)I"⟩
abbrev cX8_turns : ByteArray := prog_5_method_6_code
def yX8_turns : MethodName := ⟨RX8, "turns", "(I)I"⟩
abbrev cX8_isHalf : ByteArray := prog_5_method_7_code
def yX8_isHalf : MethodName := ⟨RX8, "isHalf", "(I)Z"⟩
theorem q84 : (Jvm.Cond.initialized "EvenBodies$Group") ∈ lw_all := lw_g (lw_at lw_m1 11 rfl) rfl
theorem q119 : (Jvm.Cond.fieldLinkNest "EvenBodies$Group" (22 : Nat) "EvenBodies$Body" "mirrors" "I" "EvenBodies") ∈ lw_tbl := lw_at lw_m1 46 rfl
theorem q331 : (Jvm.Cond.instantiable "EvenBodies$Group" (6 : Nat)) ∈ lw_all := lw_g (lw_at lw_m2 18 rfl) rfl
theorem q333 : (Jvm.Cond.instanceMethod ({ cls := "EvenBodies$Group", name := "<init>", desc := "(LEvenBodies$Body;I)V" } : Jvm.MethodName)) ∈ lw_all := lw_g (lw_at lw_m2 20 rfl) rfl
theorem q334 : (Jvm.Cond.code ({ cls := "EvenBodies$Group", name := "<init>", desc := "(LEvenBodies$Body;I)V" } : Jvm.MethodName) prog_5_method_1_code (7 : Nat) (Option.none : Option Jvm.ClassFile.FieldType)) ∈ lw_all := lw_g (lw_at lw_m2 21 rfl) rfl
theorem q335 : (Jvm.Cond.methodLink "EvenBodies$Group" (3 : Nat) ({ cls := "java/lang/Object", name := "<init>", desc := "()V" } : Jvm.MethodName)) ∈ lw_all := lw_g (lw_at lw_m2 22 rfl) rfl
theorem q336 : (Jvm.Cond.classLink "EvenBodies$Group" (32 : Nat) "EvenBodies$Maker") ∈ lw_all := lw_g (lw_at lw_m2 23 rfl) rfl
theorem q338 : (Jvm.Cond.methodLink "EvenBodies$Group" (34 : Nat) ({ cls := "EvenBodies$Maker", name := "<init>", desc := "(LEvenBodies$Body;I)V" } : Jvm.MethodName)) ∈ lw_all := lw_g (lw_at lw_m2 25 rfl) rfl
theorem q385 : (Jvm.Cond.methodLink "EvenBodies$Group" (40 : Nat) ({ cls := "EvenBodies$Maker", name := "finds", desc := "(II)I" } : Jvm.MethodName)) ∈ lw_all := lw_g (lw_at lw_m2 72 rfl) rfl
theorem q389 : (Jvm.Cond.fieldLink "EvenBodies$Group" (28 : Nat) "EvenBodies$Group" "mirrors" "I") ∈ lw_all := lw_g (lw_at lw_m2 76 rfl) rfl
theorem q393 : (Jvm.Cond.fieldLink "EvenBodies$Group" (37 : Nat) "EvenBodies$Group" "n" "I") ∈ lw_all := lw_g (lw_at lw_m2 80 rfl) rfl
theorem q397 : (Jvm.Cond.fieldLink "EvenBodies$Group" (29 : Nat) "EvenBodies$Group" "next" "[S") ∈ lw_all := lw_g (lw_at lw_m2 84 rfl) rfl
theorem q398 : (Jvm.Cond.fieldLink "EvenBodies$Group" (9 : Nat) "EvenBodies$Group" "from" "[S") ∈ lw_all := lw_g (lw_at lw_m2 85 rfl) rfl
theorem q399 : (Jvm.Cond.fieldLink "EvenBodies$Group" (15 : Nat) "EvenBodies$Group" "last" "[B") ∈ lw_all := lw_g (lw_at lw_m2 86 rfl) rfl
theorem q400 : (Jvm.Cond.fieldLink "EvenBodies$Group" (19 : Nat) "EvenBodies$Group" "length" "[B") ∈ lw_all := lw_g (lw_at lw_m2 87 rfl) rfl
theorem q402 : (Jvm.Cond.laysFinal "EvenBodies$Group" "EvenBodies$Group" "mirrors" "I") ∈ lw_all := lw_g (lw_at lw_m2 89 rfl) rfl
theorem q403 : (Jvm.Cond.soleField "EvenBodies$Group" "mirrors") ∈ lw_all := lw_g (lw_at lw_m2 90 rfl) rfl
theorem q404 : (Jvm.Cond.lays "EvenBodies$Group" "EvenBodies$Group" "n" "I") ∈ lw_all := lw_g (lw_at lw_m2 91 rfl) rfl
theorem q405 : (Jvm.Cond.soleField "EvenBodies$Group" "n") ∈ lw_all := lw_g (lw_at lw_m2 92 rfl) rfl
theorem q406 : (Jvm.Cond.laysFinal "EvenBodies$Group" "EvenBodies$Group" "next" "[S") ∈ lw_all := lw_g (lw_at lw_m2 93 rfl) rfl
theorem q407 : (Jvm.Cond.soleField "EvenBodies$Group" "next") ∈ lw_all := lw_g (lw_at lw_m2 94 rfl) rfl
theorem q408 : (Jvm.Cond.laysFinal "EvenBodies$Group" "EvenBodies$Group" "from" "[S") ∈ lw_all := lw_g (lw_at lw_m2 95 rfl) rfl
theorem q409 : (Jvm.Cond.soleField "EvenBodies$Group" "from") ∈ lw_all := lw_g (lw_at lw_m2 96 rfl) rfl
theorem q410 : (Jvm.Cond.laysFinal "EvenBodies$Group" "EvenBodies$Group" "last" "[B") ∈ lw_all := lw_g (lw_at lw_m2 97 rfl) rfl
theorem q411 : (Jvm.Cond.soleField "EvenBodies$Group" "last") ∈ lw_all := lw_g (lw_at lw_m2 98 rfl) rfl
theorem q412 : (Jvm.Cond.laysFinal "EvenBodies$Group" "EvenBodies$Group" "length" "[B") ∈ lw_all := lw_g (lw_at lw_m2 99 rfl) rfl
theorem q413 : (Jvm.Cond.soleField "EvenBodies$Group" "length") ∈ lw_all := lw_g (lw_at lw_m2 100 rfl) rfl
theorem q414 : (Jvm.Cond.superclass "EvenBodies$Group" "java/lang/Object") ∈ lw_all := lw_g (lw_at lw_m2 101 rfl) rfl
theorem q428 : (Jvm.Cond.instanceMethod ({ cls := "EvenBodies$Group", name := "letter", desc := "(II)I" } : Jvm.MethodName)) ∈ lw_all := lw_g (lw_at lw_m2 115 rfl) rfl
theorem q429 : (Jvm.Cond.selects "EvenBodies$Group" ({ cls := "EvenBodies$Group", name := "letter", desc := "(II)I" } : Jvm.MethodName) ({ cls := "EvenBodies$Group", name := "letter", desc := "(II)I" } : Jvm.MethodName)) ∈ lw_all := lw_g (lw_at lw_m2 116 rfl) rfl
theorem q430 : (Jvm.Cond.code ({ cls := "EvenBodies$Group", name := "letter", desc := "(II)I" } : Jvm.MethodName) prog_5_method_3_code (5 : Nat) (Option.some Jvm.ClassFile.FieldType.int)) ∈ lw_all := lw_g (lw_at lw_m2 117 rfl) rfl
theorem q436 : (Jvm.Cond.instanceMethod ({ cls := "EvenBodies$Group", name := "by", desc := "(II)I" } : Jvm.MethodName)) ∈ lw_all := lw_g (lw_at lw_m2 123 rfl) rfl
theorem q437 : (Jvm.Cond.selects "EvenBodies$Group" ({ cls := "EvenBodies$Group", name := "by", desc := "(II)I" } : Jvm.MethodName) ({ cls := "EvenBodies$Group", name := "by", desc := "(II)I" } : Jvm.MethodName)) ∈ lw_all := lw_g (lw_at lw_m2 124 rfl) rfl
theorem q438 : (Jvm.Cond.code ({ cls := "EvenBodies$Group", name := "by", desc := "(II)I" } : Jvm.MethodName) prog_5_method_2_code (3 : Nat) (Option.some Jvm.ClassFile.FieldType.int)) ∈ lw_all := lw_g (lw_at lw_m2 125 rfl) rfl
theorem q444 : (Jvm.Cond.instanceMethod ({ cls := "EvenBodies$Group", name := "product", desc := "(II)I" } : Jvm.MethodName)) ∈ lw_all := lw_g (lw_at lw_m2 131 rfl) rfl
theorem q445 : (Jvm.Cond.selects "EvenBodies$Group" ({ cls := "EvenBodies$Group", name := "product", desc := "(II)I" } : Jvm.MethodName) ({ cls := "EvenBodies$Group", name := "product", desc := "(II)I" } : Jvm.MethodName)) ∈ lw_all := lw_g (lw_at lw_m2 132 rfl) rfl
theorem q446 : (Jvm.Cond.code ({ cls := "EvenBodies$Group", name := "product", desc := "(II)I" } : Jvm.MethodName) prog_5_method_4_code (3 : Nat) (Option.some Jvm.ClassFile.FieldType.int)) ∈ lw_all := lw_g (lw_at lw_m2 133 rfl) rfl
theorem q447 : (Jvm.Cond.methodLink "EvenBodies$Group" (44 : Nat) ({ cls := "EvenBodies$Group", name := "product", desc := "(II)I" } : Jvm.MethodName)) ∈ lw_all := lw_g (lw_at lw_m2 134 rfl) rfl
theorem q448 : (Jvm.Cond.methodLink "EvenBodies$Group" (47 : Nat) ({ cls := "EvenBodies$Group", name := "by", desc := "(II)I" } : Jvm.MethodName)) ∈ lw_all := lw_g (lw_at lw_m2 135 rfl) rfl
theorem q454 : (Jvm.Cond.instanceMethod ({ cls := "EvenBodies$Group", name := "inverse", desc := "(I)I" } : Jvm.MethodName)) ∈ lw_all := lw_g (lw_at lw_m2 141 rfl) rfl
theorem q455 : (Jvm.Cond.selects "EvenBodies$Group" ({ cls := "EvenBodies$Group", name := "inverse", desc := "(I)I" } : Jvm.MethodName) ({ cls := "EvenBodies$Group", name := "inverse", desc := "(I)I" } : Jvm.MethodName)) ∈ lw_all := lw_g (lw_at lw_m2 142 rfl) rfl
theorem q456 : (Jvm.Cond.code ({ cls := "EvenBodies$Group", name := "inverse", desc := "(I)I" } : Jvm.MethodName) prog_5_method_5_code (4 : Nat) (Option.some Jvm.ClassFile.FieldType.int)) ∈ lw_all := lw_g (lw_at lw_m2 143 rfl) rfl
theorem q462 : (Jvm.Cond.instanceMethod ({ cls := "EvenBodies$Group", name := "turns", desc := "(I)I" } : Jvm.MethodName)) ∈ lw_all := lw_g (lw_at lw_m2 149 rfl) rfl
theorem q463 : (Jvm.Cond.selects "EvenBodies$Group" ({ cls := "EvenBodies$Group", name := "turns", desc := "(I)I" } : Jvm.MethodName) ({ cls := "EvenBodies$Group", name := "turns", desc := "(I)I" } : Jvm.MethodName)) ∈ lw_all := lw_g (lw_at lw_m2 150 rfl) rfl
theorem q464 : (Jvm.Cond.code ({ cls := "EvenBodies$Group", name := "turns", desc := "(I)I" } : Jvm.MethodName) prog_5_method_6_code (4 : Nat) (Option.some Jvm.ClassFile.FieldType.int)) ∈ lw_all := lw_g (lw_at lw_m2 151 rfl) rfl
theorem q988 : (Jvm.Cond.selects "EvenBodies$Group" ({ cls := "java/lang/Object", name := "getClass", desc := "()Ljava/lang/Class;" } : Jvm.MethodName) ({ cls := "java/lang/Object", name := "getClass", desc := "()Ljava/lang/Class;" } : Jvm.MethodName)) ∈ lw_all := lw_g (lw_at lw_m4 195 rfl) rfl
theorem q1037 : (Jvm.Cond.instanceMethod ({ cls := "EvenBodies$Group", name := "isHalf", desc := "(I)Z" } : Jvm.MethodName)) ∈ lw_all := lw_g (lw_at lw_m5 4 rfl) rfl
theorem q1038 : (Jvm.Cond.selects "EvenBodies$Group" ({ cls := "EvenBodies$Group", name := "isHalf", desc := "(I)Z" } : Jvm.MethodName) ({ cls := "EvenBodies$Group", name := "isHalf", desc := "(I)Z" } : Jvm.MethodName)) ∈ lw_all := lw_g (lw_at lw_m5 5 rfl) rfl
theorem q1039 : (Jvm.Cond.code ({ cls := "EvenBodies$Group", name := "isHalf", desc := "(I)Z" } : Jvm.MethodName) prog_5_method_7_code (2 : Nat) (Option.some Jvm.ClassFile.FieldType.boolean)) ∈ lw_all := lw_g (lw_at lw_m5 6 rfl) rfl
theorem q1604 : (Jvm.Cond.castable "EvenBodies$Group" "java/lang/Object") ∈ lw_tbl := lw_at lw_m7 91 rfl
theorem in_X8 : ∀ w ∈ wsX80, w ∈ lw_all := lw_in wsX80 [402, 404, 406, 408, 410, 412] (by decide +kernel) (by decide +kernel)
def RX9 : String := "EvenBodies$Maker"
def TX9 : u_T := fun k => match k with
  | 0 => ("EvenBodies$Maker", "\x72", "I", true)
  | 1 => ("EvenBodies$Maker", "mirror", "[[I", true)
  | 2 => ("EvenBodies$Maker", "cells", "[I", true)
  | 3 => ("EvenBodies$Maker", "places", "[I", true)
  | 4 => ("EvenBodies$Maker", "made", "[I", true)
  | _ => ("EvenBodies$Maker", "many", "I", false)
def tyX9 : Nat → FieldType := fun k => match k with
  | 0 => .int
  | 1 => .array (.array .int)
  | 2 => .array .int
  | 3 => .array .int
  | 4 => .array .int
  | _ => .int
abbrev wsX90 : List Cond := u_ws RX9 TX9 6
theorem nmX9 : ∀ a, a < 6 → ∀ b, b < 6 → a ≠ b → (TX9 a).2.1 ≠ (TX9 b).2.1 := by decide +kernel
theorem tyX9_ok : ∀ k, k < 6 → parseFieldDescriptor (TX9 k).2.2.1 = some (tyX9 k) := by decide +kernel
abbrev cX9_init : ByteArray := prog_8_method_1_code
def yX9_init : MethodName := ⟨RX9, "<init>", "(LEvenBodies$Body;I)V"⟩
abbrev cX9_place : ByteArray := prog_8_method_2_code
def yX9_place : MethodName := ⟨RX9, "place", "()I"⟩
abbrev cX9_isMade : ByteArray := prog_8_method_3_code
def yX9_isMade : MethodName := ⟨RX9, "isMade", "(I)Z"⟩
abbrev cX9_finds : ByteArray := prog_8_method_4_code
def yX9_finds : MethodName := ⟨RX9, "finds", "(II)I"⟩
theorem q85 : (Jvm.Cond.initialized "EvenBodies$Maker") ∈ lw_all := lw_g (lw_at lw_m1 12 rfl) rfl
theorem q118 : (Jvm.Cond.fieldLinkNest "EvenBodies$Maker" (18 : Nat) "EvenBodies$Body" "mirrors" "I" "EvenBodies") ∈ lw_tbl := lw_at lw_m1 45 rfl
theorem q337 : (Jvm.Cond.instantiable "EvenBodies$Maker" (6 : Nat)) ∈ lw_all := lw_g (lw_at lw_m2 24 rfl) rfl
theorem q339 : (Jvm.Cond.instanceMethod ({ cls := "EvenBodies$Maker", name := "<init>", desc := "(LEvenBodies$Body;I)V" } : Jvm.MethodName)) ∈ lw_all := lw_g (lw_at lw_m2 26 rfl) rfl
theorem q340 : (Jvm.Cond.code ({ cls := "EvenBodies$Maker", name := "<init>", desc := "(LEvenBodies$Body;I)V" } : Jvm.MethodName) prog_8_method_1_code (5 : Nat) (Option.none : Option Jvm.ClassFile.FieldType)) ∈ lw_all := lw_g (lw_at lw_m2 27 rfl) rfl
theorem q341 : (Jvm.Cond.methodLink "EvenBodies$Maker" (3 : Nat) ({ cls := "java/lang/Object", name := "<init>", desc := "()V" } : Jvm.MethodName)) ∈ lw_all := lw_g (lw_at lw_m2 28 rfl) rfl
theorem q342 : (Jvm.Cond.classLink "EvenBodies$Maker" (27 : Nat) "[[I") ∈ lw_all := lw_g (lw_at lw_m2 29 rfl) rfl
theorem q344 : (Jvm.Cond.methodLink "EvenBodies$Maker" (35 : Nat) ({ cls := "EvenBodies$Body", name := "angle", desc := "(II)I" } : Jvm.MethodName)) ∈ lw_all := lw_g (lw_at lw_m2 31 rfl) rfl
theorem q345 : (Jvm.Cond.methodLinkNest "EvenBodies$Maker" (39 : Nat) ({ cls := "EvenBodies", name := "cosine", desc := "(I)I" } : Jvm.MethodName) "EvenBodies") ∈ lw_tbl := lw_at lw_m2 32 rfl
theorem q351 : (Jvm.Cond.methodLink "EvenBodies$Maker" (43 : Nat) ({ cls := "java/util/Arrays", name := "fill", desc := "([II)V" } : Jvm.MethodName)) ∈ lw_all := lw_g (lw_at lw_m2 38 rfl) rfl
theorem q352 : (Jvm.Cond.methodLink "EvenBodies$Maker" (49 : Nat) ({ cls := "EvenBodies$Maker", name := "place", desc := "()I" } : Jvm.MethodName)) ∈ lw_all := lw_g (lw_at lw_m2 39 rfl) rfl
theorem q353 : (Jvm.Cond.privateMethod ({ cls := "EvenBodies$Maker", name := "place", desc := "()I" } : Jvm.MethodName)) ∈ lw_tbl := lw_at lw_m2 40 rfl
theorem q354 : (Jvm.Cond.instanceMethod ({ cls := "EvenBodies$Maker", name := "place", desc := "()I" } : Jvm.MethodName)) ∈ lw_all := lw_g (lw_at lw_m2 41 rfl) rfl
theorem q355 : (Jvm.Cond.code ({ cls := "EvenBodies$Maker", name := "place", desc := "()I" } : Jvm.MethodName) prog_8_method_2_code (3 : Nat) (Option.some Jvm.ClassFile.FieldType.int)) ∈ lw_all := lw_g (lw_at lw_m2 42 rfl) rfl
theorem q356 : (Jvm.Cond.constant "EvenBodies$Maker" (53 : Nat) (2147483647 : Int32)) ∈ lw_all := lw_g (lw_at lw_m2 43 rfl) rfl
theorem q357 : (Jvm.Cond.methodLink "EvenBodies$Maker" (54 : Nat) ({ cls := "EvenBodies$Maker", name := "isMade", desc := "(I)Z" } : Jvm.MethodName)) ∈ lw_all := lw_g (lw_at lw_m2 44 rfl) rfl
theorem q358 : (Jvm.Cond.privateMethod ({ cls := "EvenBodies$Maker", name := "isMade", desc := "(I)Z" } : Jvm.MethodName)) ∈ lw_tbl := lw_at lw_m2 45 rfl
theorem q359 : (Jvm.Cond.instanceMethod ({ cls := "EvenBodies$Maker", name := "isMade", desc := "(I)Z" } : Jvm.MethodName)) ∈ lw_all := lw_g (lw_at lw_m2 46 rfl) rfl
theorem q360 : (Jvm.Cond.code ({ cls := "EvenBodies$Maker", name := "isMade", desc := "(I)Z" } : Jvm.MethodName) prog_8_method_3_code (3 : Nat) (Option.some Jvm.ClassFile.FieldType.boolean)) ∈ lw_all := lw_g (lw_at lw_m2 47 rfl) rfl
theorem q361 : (Jvm.Cond.methodLink "EvenBodies$Maker" (61 : Nat) ({ cls := "java/lang/System", name := "arraycopy", desc := "(Ljava/lang/Object;ILjava/lang/Object;II)V" } : Jvm.MethodName)) ∈ lw_all := lw_g (lw_at lw_m2 48 rfl) rfl
theorem q364 : (Jvm.Cond.fieldLink "EvenBodies$Maker" (24 : Nat) "EvenBodies$Maker" "\x72" "I") ∈ lw_all := lw_g (lw_at lw_m2 51 rfl) rfl
theorem q365 : (Jvm.Cond.fieldLink "EvenBodies$Maker" (29 : Nat) "EvenBodies$Maker" "mirror" "[[I") ∈ lw_all := lw_g (lw_at lw_m2 52 rfl) rfl
theorem q366 : (Jvm.Cond.fieldLink "EvenBodies$Maker" (32 : Nat) "EvenBodies$Maker" "cells" "[I") ∈ lw_all := lw_g (lw_at lw_m2 53 rfl) rfl
theorem q367 : (Jvm.Cond.fieldLink "EvenBodies$Maker" (9 : Nat) "EvenBodies$Maker" "places" "[I") ∈ lw_all := lw_g (lw_at lw_m2 54 rfl) rfl
theorem q368 : (Jvm.Cond.fieldLink "EvenBodies$Maker" (15 : Nat) "EvenBodies$Maker" "made" "[I") ∈ lw_all := lw_g (lw_at lw_m2 55 rfl) rfl
theorem q369 : (Jvm.Cond.fieldLink "EvenBodies$Maker" (58 : Nat) "EvenBodies$Maker" "many" "I") ∈ lw_all := lw_g (lw_at lw_m2 56 rfl) rfl
theorem q370 : (Jvm.Cond.laysFinal "EvenBodies$Maker" "EvenBodies$Maker" "\x72" "I") ∈ lw_all := lw_g (lw_at lw_m2 57 rfl) rfl
theorem q371 : (Jvm.Cond.soleField "EvenBodies$Maker" "\x72") ∈ lw_all := lw_g (lw_at lw_m2 58 rfl) rfl
theorem q372 : (Jvm.Cond.laysFinal "EvenBodies$Maker" "EvenBodies$Maker" "mirror" "[[I") ∈ lw_all := lw_g (lw_at lw_m2 59 rfl) rfl
theorem q373 : (Jvm.Cond.soleField "EvenBodies$Maker" "mirror") ∈ lw_all := lw_g (lw_at lw_m2 60 rfl) rfl
theorem q374 : (Jvm.Cond.laysFinal "EvenBodies$Maker" "EvenBodies$Maker" "cells" "[I") ∈ lw_all := lw_g (lw_at lw_m2 61 rfl) rfl
theorem q375 : (Jvm.Cond.soleField "EvenBodies$Maker" "cells") ∈ lw_all := lw_g (lw_at lw_m2 62 rfl) rfl
theorem q376 : (Jvm.Cond.laysFinal "EvenBodies$Maker" "EvenBodies$Maker" "places" "[I") ∈ lw_all := lw_g (lw_at lw_m2 63 rfl) rfl
theorem q377 : (Jvm.Cond.soleField "EvenBodies$Maker" "places") ∈ lw_all := lw_g (lw_at lw_m2 64 rfl) rfl
theorem q378 : (Jvm.Cond.laysFinal "EvenBodies$Maker" "EvenBodies$Maker" "made" "[I") ∈ lw_all := lw_g (lw_at lw_m2 65 rfl) rfl
theorem q379 : (Jvm.Cond.soleField "EvenBodies$Maker" "made") ∈ lw_all := lw_g (lw_at lw_m2 66 rfl) rfl
theorem q380 : (Jvm.Cond.lays "EvenBodies$Maker" "EvenBodies$Maker" "many" "I") ∈ lw_all := lw_g (lw_at lw_m2 67 rfl) rfl
theorem q381 : (Jvm.Cond.soleField "EvenBodies$Maker" "many") ∈ lw_all := lw_g (lw_at lw_m2 68 rfl) rfl
theorem q382 : (Jvm.Cond.superclass "EvenBodies$Maker" "java/lang/Object") ∈ lw_all := lw_g (lw_at lw_m2 69 rfl) rfl
theorem q386 : (Jvm.Cond.instanceMethod ({ cls := "EvenBodies$Maker", name := "finds", desc := "(II)I" } : Jvm.MethodName)) ∈ lw_all := lw_g (lw_at lw_m2 73 rfl) rfl
theorem q387 : (Jvm.Cond.selects "EvenBodies$Maker" ({ cls := "EvenBodies$Maker", name := "finds", desc := "(II)I" } : Jvm.MethodName) ({ cls := "EvenBodies$Maker", name := "finds", desc := "(II)I" } : Jvm.MethodName)) ∈ lw_all := lw_g (lw_at lw_m2 74 rfl) rfl
theorem q388 : (Jvm.Cond.code ({ cls := "EvenBodies$Maker", name := "finds", desc := "(II)I" } : Jvm.MethodName) prog_8_method_4_code (7 : Nat) (Option.some Jvm.ClassFile.FieldType.int)) ∈ lw_all := lw_g (lw_at lw_m2 75 rfl) rfl
theorem q991 : (Jvm.Cond.selects "EvenBodies$Maker" ({ cls := "java/lang/Object", name := "getClass", desc := "()Ljava/lang/Class;" } : Jvm.MethodName) ({ cls := "java/lang/Object", name := "getClass", desc := "()Ljava/lang/Class;" } : Jvm.MethodName)) ∈ lw_all := lw_g (lw_at lw_m4 198 rfl) rfl
theorem q1605 : (Jvm.Cond.castable "EvenBodies$Maker" "java/lang/Object") ∈ lw_tbl := lw_at lw_m7 92 rfl
theorem in_X9 : ∀ w ∈ wsX90, w ∈ lw_all := lw_in wsX90 [370, 372, 374, 376, 378, 380] (by decide +kernel) (by decide +kernel)
theorem q73 : (Jvm.Cond.initialized "EvenBodiesLaw") ∈ lw_all := lw_g (lw_at lw_m1 0 rfl) rfl
theorem q98 : (Jvm.Cond.classLink "EvenBodiesLaw" (7 : Nat) "EvenBodies") ∈ lw_all := lw_g (lw_at lw_m1 25 rfl) rfl
theorem q100 : (Jvm.Cond.methodLink "EvenBodiesLaw" (9 : Nat) ({ cls := "EvenBodies", name := "<init>", desc := "()V" } : Jvm.MethodName)) ∈ lw_all := lw_g (lw_at lw_m1 27 rfl) rfl
theorem q178 : (Jvm.Cond.methodLink "EvenBodiesLaw" (13 : Nat) ({ cls := "EvenBodies", name := "body", desc := "(II)I" } : Jvm.MethodName)) ∈ lw_all := lw_g (lw_at lw_m1 105 rfl) rfl
theorem q188 : (Jvm.Cond.methodLink "EvenBodiesLaw" (18 : Nat) ({ cls := "EvenBodies", name := "angle", desc := "(IIII)I" } : Jvm.MethodName)) ∈ lw_all := lw_g (lw_at lw_m1 115 rfl) rfl
theorem q211 : (Jvm.Cond.methodLink "EvenBodiesLaw" (23 : Nat) ({ cls := "EvenBodies", name := "ring", desc := "(II)I" } : Jvm.MethodName)) ∈ lw_all := lw_g (lw_at lw_m1 138 rfl) rfl
theorem q220 : (Jvm.Cond.methodLink "EvenBodiesLaw" (27 : Nat) ({ cls := "EvenBodies", name := "order", desc := "(III)I" } : Jvm.MethodName)) ∈ lw_all := lw_g (lw_at lw_m1 147 rfl) rfl
theorem q225 : (Jvm.Cond.methodLink "EvenBodiesLaw" (32 : Nat) ({ cls := "EvenBodies", name := "about", desc := "(III)I" } : Jvm.MethodName)) ∈ lw_all := lw_g (lw_at lw_m1 152 rfl) rfl
theorem q233 : (Jvm.Cond.methodLink "EvenBodiesLaw" (36 : Nat) ({ cls := "EvenBodies", name := "size", desc := "(I)I" } : Jvm.MethodName)) ∈ lw_all := lw_g (lw_at lw_m1 160 rfl) rfl
theorem q415 : (Jvm.Cond.methodLink "EvenBodiesLaw" (41 : Nat) ({ cls := "EvenBodies", name := "length", desc := "(II)I" } : Jvm.MethodName)) ∈ lw_all := lw_g (lw_at lw_m2 102 rfl) rfl
theorem q423 : (Jvm.Cond.methodLink "EvenBodiesLaw" (45 : Nat) ({ cls := "EvenBodies", name := "letter", desc := "(III)I" } : Jvm.MethodName)) ∈ lw_all := lw_g (lw_at lw_m2 110 rfl) rfl
theorem q431 : (Jvm.Cond.methodLink "EvenBodiesLaw" (49 : Nat) ({ cls := "EvenBodies", name := "element", desc := "(II)I" } : Jvm.MethodName)) ∈ lw_all := lw_g (lw_at lw_m2 118 rfl) rfl
theorem q439 : (Jvm.Cond.methodLink "EvenBodiesLaw" (53 : Nat) ({ cls := "EvenBodies", name := "product", desc := "(III)I" } : Jvm.MethodName)) ∈ lw_all := lw_g (lw_at lw_m2 126 rfl) rfl
theorem q449 : (Jvm.Cond.methodLink "EvenBodiesLaw" (57 : Nat) ({ cls := "EvenBodies", name := "inverse", desc := "(II)I" } : Jvm.MethodName)) ∈ lw_all := lw_g (lw_at lw_m2 136 rfl) rfl
theorem q457 : (Jvm.Cond.methodLink "EvenBodiesLaw" (61 : Nat) ({ cls := "EvenBodies", name := "turns", desc := "(II)I" } : Jvm.MethodName)) ∈ lw_all := lw_g (lw_at lw_m2 144 rfl) rfl
theorem q465 : (Jvm.Cond.methodLink "EvenBodiesLaw" (65 : Nat) ({ cls := "EvenBodies", name := "classSize", desc := "(II)I" } : Jvm.MethodName)) ∈ lw_all := lw_g (lw_at lw_m2 152 rfl) rfl
theorem q473 : (Jvm.Cond.methodLink "EvenBodiesLaw" (69 : Nat) ({ cls := "EvenBodies", name := "ofLength", desc := "(II)I" } : Jvm.MethodName)) ∈ lw_all := lw_g (lw_at lw_m2 160 rfl) rfl
theorem q477 : (Jvm.Cond.methodLink "EvenBodiesLaw" (73 : Nat) ({ cls := "EvenBodies", name := "mirrors", desc := "(I)I" } : Jvm.MethodName)) ∈ lw_all := lw_g (lw_at lw_m2 164 rfl) rfl
theorem q481 : (Jvm.Cond.methodLink "EvenBodiesLaw" (77 : Nat) ({ cls := "EvenBodies", name := "kinds", desc := "(II)I" } : Jvm.MethodName)) ∈ lw_all := lw_g (lw_at lw_m2 168 rfl) rfl
theorem q498 : (Jvm.Cond.methodLink "EvenBodiesLaw" (81 : Nat) ({ cls := "EvenBodies", name := "kind", desc := "(III)I" } : Jvm.MethodName)) ∈ lw_all := lw_g (lw_at lw_m2 185 rfl) rfl
theorem q502 : (Jvm.Cond.methodLink "EvenBodiesLaw" (85 : Nat) ({ cls := "EvenBodies", name := "parts", desc := "(II)I" } : Jvm.MethodName)) ∈ lw_all := lw_g (lw_at lw_m2 189 rfl) rfl
theorem q526 : (Jvm.Cond.methodLink "EvenBodiesLaw" (89 : Nat) ({ cls := "EvenBodies", name := "partOf", desc := "(III)I" } : Jvm.MethodName)) ∈ lw_all := lw_g (lw_at lw_m2 213 rfl) rfl
theorem q531 : (Jvm.Cond.methodLink "EvenBodiesLaw" (93 : Nat) ({ cls := "EvenBodies", name := "least", desc := "(III)I" } : Jvm.MethodName)) ∈ lw_all := lw_g (lw_at lw_m2 218 rfl) rfl
theorem q543 : (Jvm.Cond.methodLink "EvenBodiesLaw" (97 : Nat) ({ cls := "EvenBodies", name := "corners", desc := "(III)I" } : Jvm.MethodName)) ∈ lw_all := lw_g (lw_at lw_m2 230 rfl) rfl
theorem q552 : (Jvm.Cond.methodLink "EvenBodiesLaw" (101 : Nat) ({ cls := "EvenBodies", name := "cornerOf", desc := "(IIII)I" } : Jvm.MethodName)) ∈ lw_all := lw_g (lw_at lw_m2 239 rfl) rfl
theorem q556 : (Jvm.Cond.methodLink "EvenBodiesLaw" (105 : Nat) ({ cls := "EvenBodies", name := "liesIn", desc := "(IIIII)I" } : Jvm.MethodName)) ∈ lw_all := lw_g (lw_at lw_m3 3 rfl) rfl
theorem q563 : (Jvm.Cond.methodLink "EvenBodiesLaw" (110 : Nat) ({ cls := "EvenBodies", name := "within", desc := "(IIII)I" } : Jvm.MethodName)) ∈ lw_all := lw_g (lw_at lw_m3 10 rfl) rfl
theorem q567 : (Jvm.Cond.methodLink "EvenBodiesLaw" (114 : Nat) ({ cls := "EvenBodies", name := "count", desc := "(II)I" } : Jvm.MethodName)) ∈ lw_all := lw_g (lw_at lw_m3 14 rfl) rfl
theorem q575 : (Jvm.Cond.methodLink "EvenBodiesLaw" (118 : Nat) ({ cls := "EvenBodies", name := "law", desc := "(I)I" } : Jvm.MethodName)) ∈ lw_all := lw_g (lw_at lw_m3 22 rfl) rfl
theorem q579 : (Jvm.Cond.methodLink "EvenBodiesLaw" (122 : Nat) ({ cls := "EvenBodies", name := "moves", desc := "(III)I" } : Jvm.MethodName)) ∈ lw_all := lw_g (lw_at lw_m3 26 rfl) rfl
theorem q587 : (Jvm.Cond.methodLink "EvenBodiesLaw" (126 : Nat) ({ cls := "EvenBodies", name := "degree", desc := "(II)I" } : Jvm.MethodName)) ∈ lw_all := lw_g (lw_at lw_m3 34 rfl) rfl
theorem q655 : (Jvm.Cond.methodLink "EvenBodiesLaw" (130 : Nat) ({ cls := "EvenBodies", name := "far", desc := "(III)I" } : Jvm.MethodName)) ∈ lw_all := lw_g (lw_at lw_m3 102 rfl) rfl
theorem q667 : (Jvm.Cond.methodLink "EvenBodiesLaw" (134 : Nat) ({ cls := "EvenBodies", name := "layer", desc := "(II)I" } : Jvm.MethodName)) ∈ lw_all := lw_g (lw_at lw_m3 114 rfl) rfl
theorem q671 : (Jvm.Cond.methodLink "EvenBodiesLaw" (138 : Nat) ({ cls := "EvenBodies", name := "ways", desc := "(IIII)J" } : Jvm.MethodName)) ∈ lw_all := lw_g (lw_at lw_m3 118 rfl) rfl
theorem q677 : (Jvm.Cond.methodLink "EvenBodiesLaw" (143 : Nat) ({ cls := "EvenBodies", name := "coloured", desc := "(I)I" } : Jvm.MethodName)) ∈ lw_all := lw_g (lw_at lw_m3 124 rfl) rfl
theorem q681 : (Jvm.Cond.methodLink "EvenBodiesLaw" (147 : Nat) ({ cls := "EvenBodies", name := "round", desc := "(II)I" } : Jvm.MethodName)) ∈ lw_all := lw_g (lw_at lw_m3 128 rfl) rfl
theorem q792 : (Jvm.Cond.methodLink "EvenBodiesLaw" (151 : Nat) ({ cls := "EvenBodies", name := "alike", desc := "(II)I" } : Jvm.MethodName)) ∈ lw_all := lw_g (lw_at lw_m3 239 rfl) rfl
theorem q853 : (Jvm.Cond.methodLink "EvenBodiesLaw" (155 : Nat) ({ cls := "EvenBodies", name := "unlike", desc := "(I)I" } : Jvm.MethodName)) ∈ lw_all := lw_g (lw_at lw_m4 60 rfl) rfl
theorem q1022 : (Jvm.Cond.methodLink "EvenBodiesLaw" (159 : Nat) ({ cls := "EvenBodies", name := "snub", desc := "(II)I" } : Jvm.MethodName)) ∈ lw_all := lw_g (lw_at lw_m4 229 rfl) rfl
theorem q1066 : (Jvm.Cond.methodLink "EvenBodiesLaw" (163 : Nat) ({ cls := "EvenBodies", name := "snubLaw", desc := "(I)I" } : Jvm.MethodName)) ∈ lw_all := lw_g (lw_at lw_m5 33 rfl) rfl
theorem q1070 : (Jvm.Cond.methodLink "EvenBodiesLaw" (167 : Nat) ({ cls := "EvenBodies", name := "snubDegree", desc := "(II)I" } : Jvm.MethodName)) ∈ lw_all := lw_g (lw_at lw_m5 37 rfl) rfl
theorem q1082 : (Jvm.Cond.methodLink "EvenBodiesLaw" (171 : Nat) ({ cls := "EvenBodies", name := "snubFar", desc := "(III)I" } : Jvm.MethodName)) ∈ lw_all := lw_g (lw_at lw_m5 49 rfl) rfl
theorem q1090 : (Jvm.Cond.methodLink "EvenBodiesLaw" (175 : Nat) ({ cls := "EvenBodies", name := "snubFaces", desc := "(II)I" } : Jvm.MethodName)) ∈ lw_all := lw_g (lw_at lw_m5 57 rfl) rfl
theorem q1094 : (Jvm.Cond.methodLink "EvenBodiesLaw" (179 : Nat) ({ cls := "EvenBodies", name := "dual", desc := "(II)I" } : Jvm.MethodName)) ∈ lw_all := lw_g (lw_at lw_m5 61 rfl) rfl
theorem q1112 : (Jvm.Cond.methodLink "EvenBodiesLaw" (183 : Nat) ({ cls := "EvenBodies", name := "dualDegree", desc := "(II)I" } : Jvm.MethodName)) ∈ lw_all := lw_g (lw_at lw_m5 79 rfl) rfl
theorem q1116 : (Jvm.Cond.methodLink "EvenBodiesLaw" (187 : Nat) ({ cls := "EvenBodies", name := "dualFar", desc := "(I)I" } : Jvm.MethodName)) ∈ lw_all := lw_g (lw_at lw_m5 83 rfl) rfl
theorem q1121 : (Jvm.Cond.methodLink "EvenBodiesLaw" (191 : Nat) ({ cls := "EvenBodies", name := "digest", desc := "()J" } : Jvm.MethodName)) ∈ lw_all := lw_g (lw_at lw_m5 88 rfl) rfl
theorem q1128 : (Jvm.Cond.classLink "EvenBodiesLaw" (10 : Nat) "EvenBodiesModel") ∈ lw_all := lw_g (lw_at lw_m5 95 rfl) rfl
theorem q1130 : (Jvm.Cond.methodLink "EvenBodiesLaw" (12 : Nat) ({ cls := "EvenBodiesModel", name := "<init>", desc := "()V" } : Jvm.MethodName)) ∈ lw_all := lw_g (lw_at lw_m5 97 rfl) rfl
theorem q1248 : (Jvm.Cond.methodLink "EvenBodiesLaw" (17 : Nat) ({ cls := "EvenBodiesModel", name := "body", desc := "(II)I" } : Jvm.MethodName)) ∈ lw_all := lw_g (lw_at lw_m5 215 rfl) rfl
theorem q1258 : (Jvm.Cond.methodLink "EvenBodiesLaw" (22 : Nat) ({ cls := "EvenBodiesModel", name := "angle", desc := "(IIII)I" } : Jvm.MethodName)) ∈ lw_all := lw_g (lw_at lw_m5 225 rfl) rfl
theorem q1270 : (Jvm.Cond.methodLink "EvenBodiesLaw" (26 : Nat) ({ cls := "EvenBodiesModel", name := "ring", desc := "(II)I" } : Jvm.MethodName)) ∈ lw_all := lw_g (lw_at lw_m5 237 rfl) rfl
theorem q1274 : (Jvm.Cond.methodLink "EvenBodiesLaw" (31 : Nat) ({ cls := "EvenBodiesModel", name := "order", desc := "(III)I" } : Jvm.MethodName)) ∈ lw_all := lw_g (lw_at lw_m6 1 rfl) rfl
theorem q1278 : (Jvm.Cond.methodLink "EvenBodiesLaw" (35 : Nat) ({ cls := "EvenBodiesModel", name := "about", desc := "(III)I" } : Jvm.MethodName)) ∈ lw_all := lw_g (lw_at lw_m6 5 rfl) rfl
theorem q1286 : (Jvm.Cond.methodLink "EvenBodiesLaw" (40 : Nat) ({ cls := "EvenBodiesModel", name := "size", desc := "(I)I" } : Jvm.MethodName)) ∈ lw_all := lw_g (lw_at lw_m6 13 rfl) rfl
theorem q1325 : (Jvm.Cond.methodLink "EvenBodiesLaw" (44 : Nat) ({ cls := "EvenBodiesModel", name := "length", desc := "(II)I" } : Jvm.MethodName)) ∈ lw_all := lw_g (lw_at lw_m6 52 rfl) rfl
theorem q1333 : (Jvm.Cond.methodLink "EvenBodiesLaw" (48 : Nat) ({ cls := "EvenBodiesModel", name := "letter", desc := "(III)I" } : Jvm.MethodName)) ∈ lw_all := lw_g (lw_at lw_m6 60 rfl) rfl
theorem q1341 : (Jvm.Cond.methodLink "EvenBodiesLaw" (52 : Nat) ({ cls := "EvenBodiesModel", name := "element", desc := "(II)I" } : Jvm.MethodName)) ∈ lw_all := lw_g (lw_at lw_m6 68 rfl) rfl
theorem q1345 : (Jvm.Cond.methodLink "EvenBodiesLaw" (56 : Nat) ({ cls := "EvenBodiesModel", name := "product", desc := "(III)I" } : Jvm.MethodName)) ∈ lw_all := lw_g (lw_at lw_m6 72 rfl) rfl
theorem q1353 : (Jvm.Cond.methodLink "EvenBodiesLaw" (60 : Nat) ({ cls := "EvenBodiesModel", name := "inverse", desc := "(II)I" } : Jvm.MethodName)) ∈ lw_all := lw_g (lw_at lw_m6 80 rfl) rfl
theorem q1361 : (Jvm.Cond.methodLink "EvenBodiesLaw" (64 : Nat) ({ cls := "EvenBodiesModel", name := "turns", desc := "(II)I" } : Jvm.MethodName)) ∈ lw_all := lw_g (lw_at lw_m6 88 rfl) rfl
theorem q1365 : (Jvm.Cond.methodLink "EvenBodiesLaw" (68 : Nat) ({ cls := "EvenBodiesModel", name := "classSize", desc := "(II)I" } : Jvm.MethodName)) ∈ lw_all := lw_g (lw_at lw_m6 92 rfl) rfl
theorem q1373 : (Jvm.Cond.methodLink "EvenBodiesLaw" (72 : Nat) ({ cls := "EvenBodiesModel", name := "ofLength", desc := "(II)I" } : Jvm.MethodName)) ∈ lw_all := lw_g (lw_at lw_m6 100 rfl) rfl
theorem q1377 : (Jvm.Cond.methodLink "EvenBodiesLaw" (76 : Nat) ({ cls := "EvenBodiesModel", name := "mirrors", desc := "(I)I" } : Jvm.MethodName)) ∈ lw_all := lw_g (lw_at lw_m6 104 rfl) rfl
theorem q1381 : (Jvm.Cond.methodLink "EvenBodiesLaw" (80 : Nat) ({ cls := "EvenBodiesModel", name := "kinds", desc := "(II)I" } : Jvm.MethodName)) ∈ lw_all := lw_g (lw_at lw_m6 108 rfl) rfl
theorem q1389 : (Jvm.Cond.methodLink "EvenBodiesLaw" (84 : Nat) ({ cls := "EvenBodiesModel", name := "kind", desc := "(III)I" } : Jvm.MethodName)) ∈ lw_all := lw_g (lw_at lw_m6 116 rfl) rfl
theorem q1393 : (Jvm.Cond.methodLink "EvenBodiesLaw" (88 : Nat) ({ cls := "EvenBodiesModel", name := "parts", desc := "(II)I" } : Jvm.MethodName)) ∈ lw_all := lw_g (lw_at lw_m6 120 rfl) rfl
theorem q1401 : (Jvm.Cond.methodLink "EvenBodiesLaw" (92 : Nat) ({ cls := "EvenBodiesModel", name := "partOf", desc := "(III)I" } : Jvm.MethodName)) ∈ lw_all := lw_g (lw_at lw_m6 128 rfl) rfl
theorem q1405 : (Jvm.Cond.methodLink "EvenBodiesLaw" (96 : Nat) ({ cls := "EvenBodiesModel", name := "least", desc := "(III)I" } : Jvm.MethodName)) ∈ lw_all := lw_g (lw_at lw_m6 132 rfl) rfl
theorem q1409 : (Jvm.Cond.methodLink "EvenBodiesLaw" (100 : Nat) ({ cls := "EvenBodiesModel", name := "corners", desc := "(III)I" } : Jvm.MethodName)) ∈ lw_all := lw_g (lw_at lw_m6 136 rfl) rfl
theorem q1417 : (Jvm.Cond.methodLink "EvenBodiesLaw" (104 : Nat) ({ cls := "EvenBodiesModel", name := "cornerOf", desc := "(IIII)I" } : Jvm.MethodName)) ∈ lw_all := lw_g (lw_at lw_m6 144 rfl) rfl
theorem q1421 : (Jvm.Cond.methodLink "EvenBodiesLaw" (109 : Nat) ({ cls := "EvenBodiesModel", name := "liesIn", desc := "(IIIII)I" } : Jvm.MethodName)) ∈ lw_all := lw_g (lw_at lw_m6 148 rfl) rfl
theorem q1428 : (Jvm.Cond.methodLink "EvenBodiesLaw" (113 : Nat) ({ cls := "EvenBodiesModel", name := "within", desc := "(IIII)I" } : Jvm.MethodName)) ∈ lw_all := lw_g (lw_at lw_m6 155 rfl) rfl
theorem q1432 : (Jvm.Cond.methodLink "EvenBodiesLaw" (117 : Nat) ({ cls := "EvenBodiesModel", name := "count", desc := "(II)I" } : Jvm.MethodName)) ∈ lw_all := lw_g (lw_at lw_m6 159 rfl) rfl
theorem q1440 : (Jvm.Cond.methodLink "EvenBodiesLaw" (121 : Nat) ({ cls := "EvenBodiesModel", name := "law", desc := "(I)I" } : Jvm.MethodName)) ∈ lw_all := lw_g (lw_at lw_m6 167 rfl) rfl
theorem q1444 : (Jvm.Cond.methodLink "EvenBodiesLaw" (125 : Nat) ({ cls := "EvenBodiesModel", name := "moves", desc := "(III)I" } : Jvm.MethodName)) ∈ lw_all := lw_g (lw_at lw_m6 171 rfl) rfl
theorem q1448 : (Jvm.Cond.methodLink "EvenBodiesLaw" (129 : Nat) ({ cls := "EvenBodiesModel", name := "degree", desc := "(II)I" } : Jvm.MethodName)) ∈ lw_all := lw_g (lw_at lw_m6 175 rfl) rfl
theorem q1460 : (Jvm.Cond.methodLink "EvenBodiesLaw" (133 : Nat) ({ cls := "EvenBodiesModel", name := "far", desc := "(III)I" } : Jvm.MethodName)) ∈ lw_all := lw_g (lw_at lw_m6 187 rfl) rfl
theorem q1468 : (Jvm.Cond.methodLink "EvenBodiesLaw" (137 : Nat) ({ cls := "EvenBodiesModel", name := "layer", desc := "(II)I" } : Jvm.MethodName)) ∈ lw_all := lw_g (lw_at lw_m6 195 rfl) rfl
theorem q1472 : (Jvm.Cond.methodLink "EvenBodiesLaw" (142 : Nat) ({ cls := "EvenBodiesModel", name := "ways", desc := "(IIII)J" } : Jvm.MethodName)) ∈ lw_all := lw_g (lw_at lw_m6 199 rfl) rfl
theorem q1477 : (Jvm.Cond.methodLink "EvenBodiesLaw" (146 : Nat) ({ cls := "EvenBodiesModel", name := "coloured", desc := "(I)I" } : Jvm.MethodName)) ∈ lw_all := lw_g (lw_at lw_m6 204 rfl) rfl
theorem q1481 : (Jvm.Cond.methodLink "EvenBodiesLaw" (150 : Nat) ({ cls := "EvenBodiesModel", name := "round", desc := "(II)I" } : Jvm.MethodName)) ∈ lw_all := lw_g (lw_at lw_m6 208 rfl) rfl
theorem q1517 : (Jvm.Cond.methodLink "EvenBodiesLaw" (154 : Nat) ({ cls := "EvenBodiesModel", name := "alike", desc := "(II)I" } : Jvm.MethodName)) ∈ lw_all := lw_g (lw_at lw_m7 4 rfl) rfl
theorem q1529 : (Jvm.Cond.methodLink "EvenBodiesLaw" (158 : Nat) ({ cls := "EvenBodiesModel", name := "unlike", desc := "(I)I" } : Jvm.MethodName)) ∈ lw_all := lw_g (lw_at lw_m7 16 rfl) rfl
theorem q1533 : (Jvm.Cond.methodLink "EvenBodiesLaw" (162 : Nat) ({ cls := "EvenBodiesModel", name := "snub", desc := "(II)I" } : Jvm.MethodName)) ∈ lw_all := lw_g (lw_at lw_m7 20 rfl) rfl
theorem q1549 : (Jvm.Cond.methodLink "EvenBodiesLaw" (166 : Nat) ({ cls := "EvenBodiesModel", name := "snubLaw", desc := "(I)I" } : Jvm.MethodName)) ∈ lw_all := lw_g (lw_at lw_m7 36 rfl) rfl
theorem q1553 : (Jvm.Cond.methodLink "EvenBodiesLaw" (170 : Nat) ({ cls := "EvenBodiesModel", name := "snubDegree", desc := "(II)I" } : Jvm.MethodName)) ∈ lw_all := lw_g (lw_at lw_m7 40 rfl) rfl
theorem q1557 : (Jvm.Cond.methodLink "EvenBodiesLaw" (174 : Nat) ({ cls := "EvenBodiesModel", name := "snubFar", desc := "(III)I" } : Jvm.MethodName)) ∈ lw_all := lw_g (lw_at lw_m7 44 rfl) rfl
theorem q1561 : (Jvm.Cond.methodLink "EvenBodiesLaw" (178 : Nat) ({ cls := "EvenBodiesModel", name := "snubFaces", desc := "(II)I" } : Jvm.MethodName)) ∈ lw_all := lw_g (lw_at lw_m7 48 rfl) rfl
theorem q1565 : (Jvm.Cond.methodLink "EvenBodiesLaw" (182 : Nat) ({ cls := "EvenBodiesModel", name := "dual", desc := "(II)I" } : Jvm.MethodName)) ∈ lw_all := lw_g (lw_at lw_m7 52 rfl) rfl
theorem q1573 : (Jvm.Cond.methodLink "EvenBodiesLaw" (186 : Nat) ({ cls := "EvenBodiesModel", name := "dualDegree", desc := "(II)I" } : Jvm.MethodName)) ∈ lw_all := lw_g (lw_at lw_m7 60 rfl) rfl
theorem q1577 : (Jvm.Cond.methodLink "EvenBodiesLaw" (190 : Nat) ({ cls := "EvenBodiesModel", name := "dualFar", desc := "(I)I" } : Jvm.MethodName)) ∈ lw_all := lw_g (lw_at lw_m7 64 rfl) rfl
theorem q1581 : (Jvm.Cond.methodLink "EvenBodiesLaw" (195 : Nat) ({ cls := "EvenBodiesModel", name := "digest", desc := "()J" } : Jvm.MethodName)) ∈ lw_all := lw_g (lw_at lw_m7 68 rfl) rfl
theorem q1621 : (Jvm.Cond.castable "[B" "java/lang/Object") ∈ lw_tbl := lw_at lw_m7 108 rfl
theorem q1618 : (Jvm.Cond.castable "[I" "java/lang/Object") ∈ lw_tbl := lw_at lw_m7 105 rfl
theorem q1623 : (Jvm.Cond.castable "[J" "java/lang/Object") ∈ lw_tbl := lw_at lw_m7 110 rfl
theorem q1616 : (Jvm.Cond.castable "[LEvenBodies$Body;" "java/lang/Object") ∈ lw_tbl := lw_at lw_m7 103 rfl
theorem q1613 : (Jvm.Cond.sameMethod "[Ljava/lang/Object;" "java/lang/Object" "getClass" "()Ljava/lang/Class;") ∈ lw_all := lw_g (lw_at lw_m7 100 rfl) rfl
theorem q1614 : (Jvm.Cond.selects "[Ljava/lang/Object;" ({ cls := "java/lang/Object", name := "getClass", desc := "()Ljava/lang/Class;" } : Jvm.MethodName) ({ cls := "java/lang/Object", name := "getClass", desc := "()Ljava/lang/Class;" } : Jvm.MethodName)) ∈ lw_all := lw_g (lw_at lw_m7 101 rfl) rfl
theorem q1624 : (Jvm.Cond.castable "[Ljava/lang/Object;" "java/lang/Object") ∈ lw_tbl := lw_at lw_m7 111 rfl
theorem q1620 : (Jvm.Cond.castable "[S" "java/lang/Object") ∈ lw_tbl := lw_at lw_m7 107 rfl
theorem q1622 : (Jvm.Cond.castable "[Z" "java/lang/Object") ∈ lw_tbl := lw_at lw_m7 109 rfl
theorem q1619 : (Jvm.Cond.castable "[[I" "java/lang/Object") ∈ lw_tbl := lw_at lw_m7 106 rfl
theorem q1617 : (Jvm.Cond.castable "[[S" "java/lang/Object") ∈ lw_tbl := lw_at lw_m7 104 rfl
theorem q86 : (Jvm.Cond.initialized "java/lang/System") ∈ lw_all := lw_g (lw_at lw_m1 13 rfl) rfl
theorem q362 : (Jvm.Cond.static ({ cls := "java/lang/System", name := "arraycopy", desc := "(Ljava/lang/Object;ILjava/lang/Object;II)V" } : Jvm.MethodName)) ∈ lw_all := lw_g (lw_at lw_m2 49 rfl) rfl
theorem q363 : (Jvm.Cond.native ({ cls := "java/lang/System", name := "arraycopy", desc := "(Ljava/lang/Object;ILjava/lang/Object;II)V" } : Jvm.MethodName)) ∈ lw_all := lw_g (lw_at lw_m2 50 rfl) rfl
theorem q926 : (Jvm.Cond.interfaceMethod "java/util/Iterator" "java/util/Iterator" "hasNext" "()Z") ∈ lw_tbl := lw_at lw_m4 133 rfl
theorem q927 : (Jvm.Cond.declares ({ cls := "java/util/Iterator", name := "hasNext", desc := "()Z" } : Jvm.MethodName)) ∈ lw_tbl := lw_at lw_m4 134 rfl
theorem q936 : (Jvm.Cond.interfaceMethod "java/util/Iterator" "java/util/Iterator" "next" "()Ljava/lang/Object;") ∈ lw_tbl := lw_at lw_m4 143 rfl
theorem q937 : (Jvm.Cond.declares ({ cls := "java/util/Iterator", name := "next", desc := "()Ljava/lang/Object;" } : Jvm.MethodName)) ∈ lw_tbl := lw_at lw_m4 144 rfl
theorem q897 : (Jvm.Cond.interfaceMethod "java/util/List" "java/util/List" "iterator" "()Ljava/util/Iterator;") ∈ lw_tbl := lw_at lw_m4 104 rfl
theorem q898 : (Jvm.Cond.declares ({ cls := "java/util/List", name := "iterator", desc := "()Ljava/util/Iterator;" } : Jvm.MethodName)) ∈ lw_tbl := lw_at lw_m4 105 rfl
theorem q949 : (Jvm.Cond.interfaceMethod "java/util/List" "java/util/List" "add" "(Ljava/lang/Object;)Z") ∈ lw_tbl := lw_at lw_m4 156 rfl
theorem q950 : (Jvm.Cond.declares ({ cls := "java/util/List", name := "add", desc := "(Ljava/lang/Object;)Z" } : Jvm.MethodName)) ∈ lw_tbl := lw_at lw_m4 157 rfl
theorem q1015 : (Jvm.Cond.interfaceMethod "java/util/List" "java/util/List" "size" "()I") ∈ lw_tbl := lw_at lw_m4 222 rfl
theorem q1016 : (Jvm.Cond.declares ({ cls := "java/util/List", name := "size", desc := "()I" } : Jvm.MethodName)) ∈ lw_tbl := lw_at lw_m4 223 rfl
theorem q107 : (Jvm.Cond.arrayOver (Jvm.ClassFile.FieldType.object "EvenBodies$Body")) ∈ lw_tbl := lw_at lw_m1 34 rfl
theorem q114 : (Jvm.Cond.arrayOver (Jvm.ClassFile.FieldType.array Jvm.ClassFile.FieldType.short)) ∈ lw_tbl := lw_at lw_m1 41 rfl
theorem q158 : (Jvm.Cond.arrayClass Jvm.ClassFile.FieldType.int) ∈ lw_all := lw_g (lw_at lw_m1 85 rfl) rfl
theorem q343 : (Jvm.Cond.arrayOver (Jvm.ClassFile.FieldType.array Jvm.ClassFile.FieldType.int)) ∈ lw_tbl := lw_at lw_m2 30 rfl
theorem q383 : (Jvm.Cond.arrayClass Jvm.ClassFile.FieldType.short) ∈ lw_all := lw_g (lw_at lw_m2 70 rfl) rfl
theorem q384 : (Jvm.Cond.arrayClass Jvm.ClassFile.FieldType.byte) ∈ lw_all := lw_g (lw_at lw_m2 71 rfl) rfl
theorem q472 : (Jvm.Cond.arrayClass Jvm.ClassFile.FieldType.boolean) ∈ lw_all := lw_g (lw_at lw_m2 159 rfl) rfl
theorem q676 : (Jvm.Cond.arrayClass Jvm.ClassFile.FieldType.long) ∈ lw_all := lw_g (lw_at lw_m3 123 rfl) rfl
theorem q1005 : (Jvm.Cond.arrayOver (Jvm.ClassFile.FieldType.object "java/lang/Object")) ∈ lw_tbl := lw_at lw_m4 212 rfl
