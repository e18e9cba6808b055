set_option maxRecDepth 100000
def RJ0 : String := "java/util/AbstractCollection"
abbrev cJ0_init : ByteArray := prog_29_method_1_code
def yJ0_init : MethodName := ⟨RJ0, "<init>", "()V"⟩
theorem q51 : (Jvm.Cond.initialized "java/util/AbstractCollection") ∈ lw_all := lw_g (lw_at lw_m1 4 rfl) rfl
theorem q106 : (Jvm.Cond.instanceMethod ({ cls := "java/util/AbstractCollection", name := "<init>", desc := "()V" } : Jvm.MethodName)) ∈ lw_all := lw_g (lw_at lw_m1 59 rfl) rfl
theorem q107 : (Jvm.Cond.code ({ cls := "java/util/AbstractCollection", name := "<init>", desc := "()V" } : Jvm.MethodName) prog_29_method_1_code (1 : Nat) (Option.none : Option Jvm.ClassFile.FieldType)) ∈ lw_all := lw_g (lw_at lw_m1 60 rfl) rfl
theorem q108 : (Jvm.Cond.methodLink "java/util/AbstractCollection" (1 : Nat) ({ cls := "java/lang/Object", name := "<init>", desc := "()V" } : Jvm.MethodName)) ∈ lw_all := lw_g (lw_at lw_m1 61 rfl) rfl
def RJ1 : String := "java/util/AbstractList"
abbrev cJ1_init : ByteArray := prog_30_method_1_code
def yJ1_init : MethodName := ⟨RJ1, "<init>", "()V"⟩
theorem q52 : (Jvm.Cond.initialized "java/util/AbstractList") ∈ lw_all := lw_g (lw_at lw_m1 5 rfl) rfl
theorem q103 : (Jvm.Cond.instanceMethod ({ cls := "java/util/AbstractList", name := "<init>", desc := "()V" } : Jvm.MethodName)) ∈ lw_all := lw_g (lw_at lw_m1 56 rfl) rfl
theorem q104 : (Jvm.Cond.code ({ cls := "java/util/AbstractList", name := "<init>", desc := "()V" } : Jvm.MethodName) prog_30_method_1_code (1 : Nat) (Option.none : Option Jvm.ClassFile.FieldType)) ∈ lw_all := lw_g (lw_at lw_m1 57 rfl) rfl
theorem q105 : (Jvm.Cond.methodLink "java/util/AbstractList" (1 : Nat) ({ cls := "java/util/AbstractCollection", name := "<init>", desc := "()V" } : Jvm.MethodName)) ∈ lw_all := lw_g (lw_at lw_m1 58 rfl) rfl
theorem q115 : (Jvm.Cond.fieldLink "java/util/AbstractList" (7 : Nat) "java/util/AbstractList" "modCount" "I") ∈ lw_all := lw_g (lw_at lw_m1 68 rfl) rfl
theorem q124 : (Jvm.Cond.soleField "java/util/AbstractList" "modCount") ∈ lw_all := lw_g (lw_at lw_m1 77 rfl) rfl
def RJ10 : String := "jdk/internal/util/ArraysSupport"
abbrev cJ10_newLength : ByteArray := prog_43_method_27_code
def yJ10_newLength : MethodName := ⟨RJ10, "newLength", "(III)I"⟩
abbrev cJ10_hugeLength : ByteArray := prog_43_method_28_code
def yJ10_hugeLength : MethodName := ⟨RJ10, "hugeLength", "(II)I"⟩
theorem q63 : (Jvm.Cond.initialized "jdk/internal/util/ArraysSupport") ∈ lw_all := lw_g (lw_at lw_m1 16 rfl) rfl
theorem q367 : (Jvm.Cond.static ({ cls := "jdk/internal/util/ArraysSupport", name := "newLength", desc := "(III)I" } : Jvm.MethodName)) ∈ lw_all := lw_g (lw_at lw_m2 80 rfl) rfl
theorem q368 : (Jvm.Cond.code ({ cls := "jdk/internal/util/ArraysSupport", name := "newLength", desc := "(III)I" } : Jvm.MethodName) prog_43_method_27_code (4 : Nat) (Option.some Jvm.ClassFile.FieldType.int)) ∈ lw_all := lw_g (lw_at lw_m2 81 rfl) rfl
theorem q369 : (Jvm.Cond.methodLink "jdk/internal/util/ArraysSupport" (194 : Nat) ({ cls := "java/lang/Math", name := "max", desc := "(II)I" } : Jvm.MethodName)) ∈ lw_all := lw_g (lw_at lw_m2 82 rfl) rfl
theorem q372 : (Jvm.Cond.constant "jdk/internal/util/ArraysSupport" (200 : Nat) (2147483639 : Int32)) ∈ lw_all := lw_g (lw_at lw_m2 85 rfl) rfl
theorem q373 : (Jvm.Cond.methodLink "jdk/internal/util/ArraysSupport" (201 : Nat) ({ cls := "jdk/internal/util/ArraysSupport", name := "hugeLength", desc := "(II)I" } : Jvm.MethodName)) ∈ lw_all := lw_g (lw_at lw_m2 86 rfl) rfl
theorem q374 : (Jvm.Cond.static ({ cls := "jdk/internal/util/ArraysSupport", name := "hugeLength", desc := "(II)I" } : Jvm.MethodName)) ∈ lw_all := lw_g (lw_at lw_m2 87 rfl) rfl
theorem q375 : (Jvm.Cond.code ({ cls := "jdk/internal/util/ArraysSupport", name := "hugeLength", desc := "(II)I" } : Jvm.MethodName) prog_43_method_28_code (3 : Nat) (Option.some Jvm.ClassFile.FieldType.int)) ∈ lw_all := lw_g (lw_at lw_m2 88 rfl) rfl
def RJ11 : String := "java/lang/Math"
abbrev cJ11_max : ByteArray := prog_22_method_65_code
def yJ11_max : MethodName := ⟨RJ11, "max", "(II)I"⟩
abbrev cJ11_min : ByteArray := prog_22_method_69_code
def yJ11_min : MethodName := ⟨RJ11, "min", "(II)I"⟩
theorem q64 : (Jvm.Cond.initialized "java/lang/Math") ∈ lw_all := lw_g (lw_at lw_m1 17 rfl) rfl
theorem q370 : (Jvm.Cond.static ({ cls := "java/lang/Math", name := "max", desc := "(II)I" } : Jvm.MethodName)) ∈ lw_all := lw_g (lw_at lw_m2 83 rfl) rfl
theorem q371 : (Jvm.Cond.code ({ cls := "java/lang/Math", name := "max", desc := "(II)I" } : Jvm.MethodName) prog_22_method_65_code (2 : Nat) (Option.some Jvm.ClassFile.FieldType.int)) ∈ lw_all := lw_g (lw_at lw_m2 84 rfl) rfl
theorem q404 : (Jvm.Cond.static ({ cls := "java/lang/Math", name := "min", desc := "(II)I" } : Jvm.MethodName)) ∈ lw_all := lw_g (lw_at lw_m2 117 rfl) rfl
theorem q405 : (Jvm.Cond.code ({ cls := "java/lang/Math", name := "min", desc := "(II)I" } : Jvm.MethodName) prog_22_method_69_code (2 : Nat) (Option.some Jvm.ClassFile.FieldType.int)) ∈ lw_all := lw_g (lw_at lw_m2 118 rfl) rfl
def RJ12 : String := "java/util/Arrays"
abbrev cJ12_copyOf : ByteArray := prog_34_method_119_code
def yJ12_copyOf : MethodName := ⟨RJ12, "copyOf", "([Ljava/lang/Object;I)[Ljava/lang/Object;"⟩
abbrev cJ12_copyOf_2 : ByteArray := prog_34_method_120_code
def yJ12_copyOf_2 : MethodName := ⟨RJ12, "copyOf", "([Ljava/lang/Object;ILjava/lang/Class;)[Ljava/lang/Object;"⟩
abbrev cJ12_copyOf_3 : ByteArray := prog_34_method_121_code
def yJ12_copyOf_3 : MethodName := ⟨RJ12, "copyOf", "([BI)[B"⟩
abbrev cJ12_fill : ByteArray := prog_34_method_110_code
def yJ12_fill : MethodName := ⟨RJ12, "fill", "([BIIB)V"⟩
abbrev cJ12_rangeCheck : ByteArray := prog_34_method_30_code
def yJ12_rangeCheck : MethodName := ⟨RJ12, "rangeCheck", "(III)V"⟩
theorem q65 : (Jvm.Cond.initialized "java/util/Arrays") ∈ lw_all := lw_g (lw_at lw_m1 18 rfl) rfl
theorem q377 : (Jvm.Cond.static ({ cls := "java/util/Arrays", name := "copyOf", desc := "([Ljava/lang/Object;I)[Ljava/lang/Object;" } : Jvm.MethodName)) ∈ lw_all := lw_g (lw_at lw_m2 90 rfl) rfl
theorem q378 : (Jvm.Cond.code ({ cls := "java/util/Arrays", name := "copyOf", desc := "([Ljava/lang/Object;I)[Ljava/lang/Object;" } : Jvm.MethodName) prog_34_method_119_code (2 : Nat) (Option.some (Jvm.ClassFile.FieldType.array (Jvm.ClassFile.FieldType.object "java/lang/Object")))) ∈ lw_all := lw_g (lw_at lw_m2 91 rfl) rfl
theorem q379 : (Jvm.Cond.methodLink "java/util/Arrays" (86 : Nat) ({ cls := "java/lang/Object", name := "getClass", desc := "()Ljava/lang/Class;" } : Jvm.MethodName)) ∈ lw_all := lw_g (lw_at lw_m2 92 rfl) rfl
theorem q398 : (Jvm.Cond.methodLink "java/util/Arrays" (300 : Nat) ({ cls := "java/util/Arrays", name := "copyOf", desc := "([Ljava/lang/Object;ILjava/lang/Class;)[Ljava/lang/Object;" } : Jvm.MethodName)) ∈ lw_all := lw_g (lw_at lw_m2 111 rfl) rfl
theorem q399 : (Jvm.Cond.static ({ cls := "java/util/Arrays", name := "copyOf", desc := "([Ljava/lang/Object;ILjava/lang/Class;)[Ljava/lang/Object;" } : Jvm.MethodName)) ∈ lw_all := lw_g (lw_at lw_m2 112 rfl) rfl
theorem q400 : (Jvm.Cond.code ({ cls := "java/util/Arrays", name := "copyOf", desc := "([Ljava/lang/Object;ILjava/lang/Class;)[Ljava/lang/Object;" } : Jvm.MethodName) prog_34_method_120_code (4 : Nat) (Option.some (Jvm.ClassFile.FieldType.array (Jvm.ClassFile.FieldType.object "java/lang/Object")))) ∈ lw_all := lw_g (lw_at lw_m2 113 rfl) rfl
theorem q401 : (Jvm.Cond.classLink "java/util/Arrays" (110 : Nat) "[Ljava/lang/Object;") ∈ lw_all := lw_g (lw_at lw_m2 114 rfl) rfl
theorem q402 : (Jvm.Cond.classLink "java/util/Arrays" (2 : Nat) "java/lang/Object") ∈ lw_all := lw_g (lw_at lw_m2 115 rfl) rfl
theorem q403 : (Jvm.Cond.methodLink "java/util/Arrays" (304 : Nat) ({ cls := "java/lang/Math", name := "min", desc := "(II)I" } : Jvm.MethodName)) ∈ lw_all := lw_g (lw_at lw_m2 116 rfl) rfl
theorem q406 : (Jvm.Cond.methodLink "java/util/Arrays" (150 : Nat) ({ cls := "java/lang/System", name := "arraycopy", desc := "(Ljava/lang/Object;ILjava/lang/Object;II)V" } : Jvm.MethodName)) ∈ lw_all := lw_g (lw_at lw_m2 119 rfl) rfl
theorem q1013 : (Jvm.Cond.static ({ cls := "java/util/Arrays", name := "copyOf", desc := "([BI)[B" } : Jvm.MethodName)) ∈ lw_all := lw_g (lw_at lw_m5 6 rfl) rfl
theorem q1014 : (Jvm.Cond.code ({ cls := "java/util/Arrays", name := "copyOf", desc := "([BI)[B" } : Jvm.MethodName) prog_34_method_121_code (3 : Nat) (Option.some (Jvm.ClassFile.FieldType.array Jvm.ClassFile.FieldType.byte))) ∈ lw_all := lw_g (lw_at lw_m5 7 rfl) rfl
theorem q1015 : (Jvm.Cond.methodLink "java/util/Arrays" (310 : Nat) ({ cls := "[B", name := "clone", desc := "()Ljava/lang/Object;" } : Jvm.MethodName)) ∈ lw_all := lw_g (lw_at lw_m5 8 rfl) rfl
theorem q1021 : (Jvm.Cond.classLink "java/util/Arrays" (311 : Nat) "[B") ∈ lw_all := lw_g (lw_at lw_m5 14 rfl) rfl
theorem q1074 : (Jvm.Cond.static ({ cls := "java/util/Arrays", name := "fill", desc := "([BIIB)V" } : Jvm.MethodName)) ∈ lw_all := lw_g (lw_at lw_m5 67 rfl) rfl
theorem q1075 : (Jvm.Cond.code ({ cls := "java/util/Arrays", name := "fill", desc := "([BIIB)V" } : Jvm.MethodName) prog_34_method_110_code (5 : Nat) (Option.none : Option Jvm.ClassFile.FieldType)) ∈ lw_all := lw_g (lw_at lw_m5 68 rfl) rfl
theorem q1076 : (Jvm.Cond.methodLink "java/util/Arrays" (13 : Nat) ({ cls := "java/util/Arrays", name := "rangeCheck", desc := "(III)V" } : Jvm.MethodName)) ∈ lw_all := lw_g (lw_at lw_m5 69 rfl) rfl
theorem q1077 : (Jvm.Cond.static ({ cls := "java/util/Arrays", name := "rangeCheck", desc := "(III)V" } : Jvm.MethodName)) ∈ lw_all := lw_g (lw_at lw_m5 70 rfl) rfl
theorem q1078 : (Jvm.Cond.code ({ cls := "java/util/Arrays", name := "rangeCheck", desc := "(III)V" } : Jvm.MethodName) prog_34_method_30_code (3 : Nat) (Option.none : Option Jvm.ClassFile.FieldType)) ∈ lw_all := lw_g (lw_at lw_m5 71 rfl) rfl
def RJ13 : String := "java/util/ArrayList$Itr"
def TJ13 : u_T := fun k => match k with
  | 0 => ("java/util/ArrayList$Itr", "cursor", "I", false)
  | 1 => ("java/util/ArrayList$Itr", "lastRet", "I", false)
  | 2 => ("java/util/ArrayList$Itr", "expectedModCount", "I", false)
  | _ => ("java/util/ArrayList$Itr", "this$0", "Ljava/util/ArrayList;", true)
def tyJ13 : Nat → FieldType := fun k => match k with
  | 0 => .int
  | 1 => .int
  | 2 => .int
  | _ => .object "java/util/ArrayList"
abbrev wsJ130 : List Cond := u_ws RJ13 TJ13 4
theorem nmJ13 : ∀ a, a < 4 → ∀ b, b < 4 → a ≠ b → (TJ13 a).2.1 ≠ (TJ13 b).2.1 := by decide +kernel
theorem tyJ13_ok : ∀ k, k < 4 → parseFieldDescriptor (TJ13 k).2.2.1 = some (tyJ13 k) := by decide +kernel
abbrev cJ13_hasNext : ByteArray := prog_33_method_2_code
def yJ13_hasNext : MethodName := ⟨RJ13, "hasNext", "()Z"⟩
abbrev cJ13_next : ByteArray := prog_33_method_3_code
def yJ13_next : MethodName := ⟨RJ13, "next", "()Ljava/lang/Object;"⟩
abbrev cJ13_checkForComodification : ByteArray := prog_33_method_6_code
def yJ13_checkForComodification : MethodName := ⟨RJ13, "checkForComodification", "()V"⟩
abbrev cJ13_init : ByteArray := prog_33_method_1_code
def yJ13_init : MethodName := ⟨RJ13, "<init>", "(Ljava/util/ArrayList;)V"⟩
theorem q67 : (Jvm.Cond.initialized "java/util/ArrayList$Itr") ∈ lw_all := lw_g (lw_at lw_m1 20 rfl) rfl
theorem q112 : (Jvm.Cond.fieldLink "java/util/ArrayList$Itr" (37 : Nat) "java/util/ArrayList" "elementData" "[Ljava/lang/Object;") ∈ lw_all := lw_g (lw_at lw_m1 65 rfl) rfl
theorem q113 : (Jvm.Cond.fieldLinkNest "java/util/ArrayList$Itr" (28 : Nat) "java/util/ArrayList" "size" "I" "java/util/ArrayList") ∈ lw_tbl := lw_at lw_m1 66 rfl
theorem q116 : (Jvm.Cond.fieldLink "java/util/ArrayList$Itr" (17 : Nat) "java/util/ArrayList" "modCount" "I") ∈ lw_all := lw_g (lw_at lw_m1 69 rfl) rfl
theorem q296 : (Jvm.Cond.castable "java/util/ArrayList$Itr" "java/util/Iterator") ∈ lw_tbl := lw_at lw_m2 9 rfl
theorem q297 : (Jvm.Cond.selects "java/util/ArrayList$Itr" ({ cls := "java/util/Iterator", name := "hasNext", desc := "()Z" } : Jvm.MethodName) ({ cls := "java/util/ArrayList$Itr", name := "hasNext", desc := "()Z" } : Jvm.MethodName)) ∈ lw_all := lw_g (lw_at lw_m2 10 rfl) rfl
theorem q298 : (Jvm.Cond.unhidden "java/util/ArrayList$Itr" "hasNext" "()Z") ∈ lw_tbl := lw_at lw_m2 11 rfl
theorem q299 : (Jvm.Cond.instanceMethod ({ cls := "java/util/ArrayList$Itr", name := "hasNext", desc := "()Z" } : Jvm.MethodName)) ∈ lw_all := lw_g (lw_at lw_m2 12 rfl) rfl
theorem q300 : (Jvm.Cond.publicMethod ({ cls := "java/util/ArrayList$Itr", name := "hasNext", desc := "()Z" } : Jvm.MethodName)) ∈ lw_tbl := lw_at lw_m2 13 rfl
theorem q301 : (Jvm.Cond.code ({ cls := "java/util/ArrayList$Itr", name := "hasNext", desc := "()Z" } : Jvm.MethodName) prog_33_method_2_code (1 : Nat) (Option.some Jvm.ClassFile.FieldType.boolean)) ∈ lw_all := lw_g (lw_at lw_m2 14 rfl) rfl
theorem q335 : (Jvm.Cond.selects "java/util/ArrayList$Itr" ({ cls := "java/util/Iterator", name := "next", desc := "()Ljava/lang/Object;" } : Jvm.MethodName) ({ cls := "java/util/ArrayList$Itr", name := "next", desc := "()Ljava/lang/Object;" } : Jvm.MethodName)) ∈ lw_all := lw_g (lw_at lw_m2 48 rfl) rfl
theorem q336 : (Jvm.Cond.unhidden "java/util/ArrayList$Itr" "next" "()Ljava/lang/Object;") ∈ lw_tbl := lw_at lw_m2 49 rfl
theorem q337 : (Jvm.Cond.instanceMethod ({ cls := "java/util/ArrayList$Itr", name := "next", desc := "()Ljava/lang/Object;" } : Jvm.MethodName)) ∈ lw_all := lw_g (lw_at lw_m2 50 rfl) rfl
theorem q338 : (Jvm.Cond.publicMethod ({ cls := "java/util/ArrayList$Itr", name := "next", desc := "()Ljava/lang/Object;" } : Jvm.MethodName)) ∈ lw_tbl := lw_at lw_m2 51 rfl
theorem q339 : (Jvm.Cond.code ({ cls := "java/util/ArrayList$Itr", name := "next", desc := "()Ljava/lang/Object;" } : Jvm.MethodName) prog_33_method_3_code (3 : Nat) (Option.some (Jvm.ClassFile.FieldType.object "java/lang/Object"))) ∈ lw_all := lw_g (lw_at lw_m2 52 rfl) rfl
theorem q340 : (Jvm.Cond.methodLink "java/util/ArrayList$Itr" (31 : Nat) ({ cls := "java/util/ArrayList$Itr", name := "checkForComodification", desc := "()V" } : Jvm.MethodName)) ∈ lw_all := lw_g (lw_at lw_m2 53 rfl) rfl
theorem q341 : (Jvm.Cond.instanceMethod ({ cls := "java/util/ArrayList$Itr", name := "checkForComodification", desc := "()V" } : Jvm.MethodName)) ∈ lw_all := lw_g (lw_at lw_m2 54 rfl) rfl
theorem q342 : (Jvm.Cond.selects "java/util/ArrayList$Itr" ({ cls := "java/util/ArrayList$Itr", name := "checkForComodification", desc := "()V" } : Jvm.MethodName) ({ cls := "java/util/ArrayList$Itr", name := "checkForComodification", desc := "()V" } : Jvm.MethodName)) ∈ lw_all := lw_g (lw_at lw_m2 55 rfl) rfl
theorem q343 : (Jvm.Cond.code ({ cls := "java/util/ArrayList$Itr", name := "checkForComodification", desc := "()V" } : Jvm.MethodName) prog_33_method_6_code (1 : Nat) (Option.none : Option Jvm.ClassFile.FieldType)) ∈ lw_all := lw_g (lw_at lw_m2 56 rfl) rfl
theorem q396 : (Jvm.Cond.selects "java/util/ArrayList$Itr" ({ cls := "java/lang/Object", name := "getClass", desc := "()Ljava/lang/Class;" } : Jvm.MethodName) ({ cls := "java/lang/Object", name := "getClass", desc := "()Ljava/lang/Class;" } : Jvm.MethodName)) ∈ lw_all := lw_g (lw_at lw_m2 109 rfl) rfl
theorem q421 : (Jvm.Cond.instantiable "java/util/ArrayList$Itr" (4 : Nat)) ∈ lw_all := lw_g (lw_at lw_m2 134 rfl) rfl
theorem q423 : (Jvm.Cond.instanceMethod ({ cls := "java/util/ArrayList$Itr", name := "<init>", desc := "(Ljava/util/ArrayList;)V" } : Jvm.MethodName)) ∈ lw_all := lw_g (lw_at lw_m2 136 rfl) rfl
theorem q424 : (Jvm.Cond.code ({ cls := "java/util/ArrayList$Itr", name := "<init>", desc := "(Ljava/util/ArrayList;)V" } : Jvm.MethodName) prog_33_method_1_code (2 : Nat) (Option.none : Option Jvm.ClassFile.FieldType)) ∈ lw_all := lw_g (lw_at lw_m2 137 rfl) rfl
theorem q425 : (Jvm.Cond.methodLink "java/util/ArrayList$Itr" (7 : Nat) ({ cls := "java/lang/Object", name := "<init>", desc := "()V" } : Jvm.MethodName)) ∈ lw_all := lw_g (lw_at lw_m2 138 rfl) rfl
theorem q426 : (Jvm.Cond.fieldLink "java/util/ArrayList$Itr" (25 : Nat) "java/util/ArrayList$Itr" "cursor" "I") ∈ lw_all := lw_g (lw_at lw_m2 139 rfl) rfl
theorem q427 : (Jvm.Cond.fieldLink "java/util/ArrayList$Itr" (13 : Nat) "java/util/ArrayList$Itr" "lastRet" "I") ∈ lw_all := lw_g (lw_at lw_m2 140 rfl) rfl
theorem q428 : (Jvm.Cond.fieldLink "java/util/ArrayList$Itr" (22 : Nat) "java/util/ArrayList$Itr" "expectedModCount" "I") ∈ lw_all := lw_g (lw_at lw_m2 141 rfl) rfl
theorem q429 : (Jvm.Cond.fieldLink "java/util/ArrayList$Itr" (1 : Nat) "java/util/ArrayList$Itr" "this$0" "Ljava/util/ArrayList;") ∈ lw_all := lw_g (lw_at lw_m2 142 rfl) rfl
theorem q430 : (Jvm.Cond.lays "java/util/ArrayList$Itr" "java/util/ArrayList$Itr" "cursor" "I") ∈ lw_all := lw_g (lw_at lw_m2 143 rfl) rfl
theorem q431 : (Jvm.Cond.soleField "java/util/ArrayList$Itr" "cursor") ∈ lw_all := lw_g (lw_at lw_m2 144 rfl) rfl
theorem q432 : (Jvm.Cond.lays "java/util/ArrayList$Itr" "java/util/ArrayList$Itr" "lastRet" "I") ∈ lw_all := lw_g (lw_at lw_m2 145 rfl) rfl
theorem q433 : (Jvm.Cond.soleField "java/util/ArrayList$Itr" "lastRet") ∈ lw_all := lw_g (lw_at lw_m2 146 rfl) rfl
theorem q434 : (Jvm.Cond.lays "java/util/ArrayList$Itr" "java/util/ArrayList$Itr" "expectedModCount" "I") ∈ lw_all := lw_g (lw_at lw_m2 147 rfl) rfl
theorem q435 : (Jvm.Cond.soleField "java/util/ArrayList$Itr" "expectedModCount") ∈ lw_all := lw_g (lw_at lw_m2 148 rfl) rfl
theorem q436 : (Jvm.Cond.laysFinal "java/util/ArrayList$Itr" "java/util/ArrayList$Itr" "this$0" "Ljava/util/ArrayList;") ∈ lw_all := lw_g (lw_at lw_m2 149 rfl) rfl
theorem q437 : (Jvm.Cond.soleField "java/util/ArrayList$Itr" "this$0") ∈ lw_all := lw_g (lw_at lw_m2 150 rfl) rfl
theorem q438 : (Jvm.Cond.superclass "java/util/ArrayList$Itr" "java/lang/Object") ∈ lw_all := lw_g (lw_at lw_m2 151 rfl) rfl
theorem q1479 : (Jvm.Cond.castable "java/util/ArrayList$Itr" "java/lang/Object") ∈ lw_tbl := lw_at lw_m6 232 rfl
def RJ14 : String := "java/lang/Throwable"
def TJ14 : u_T := fun k => match k with
  | 0 => ("java/lang/Throwable", "cause", "Ljava/lang/Throwable;", false)
  | 1 => ("java/lang/Throwable", "stackTrace", "[Ljava/lang/StackTraceElement;", false)
  | 2 => ("java/lang/Throwable", "suppressedExceptions", "Ljava/util/List;", false)
  | 3 => ("java/lang/Throwable", "detailMessage", "Ljava/lang/String;", false)
  | _ => ("java/lang/Throwable", "backtrace", "Ljava/lang/Object;", false)
def tyJ14 : Nat → FieldType := fun k => match k with
  | 0 => .object "java/lang/Throwable"
  | 1 => .array (.object "java/lang/StackTraceElement")
  | 2 => .object "java/util/List"
  | 3 => .object "java/lang/String"
  | _ => .object "java/lang/Object"
abbrev wsJ140 : List Cond := u_ws RJ14 TJ14 5
theorem nmJ14 : ∀ a, a < 5 → ∀ b, b < 5 → a ≠ b → (TJ14 a).2.1 ≠ (TJ14 b).2.1 := by decide +kernel
theorem tyJ14_ok : ∀ k, k < 5 → parseFieldDescriptor (TJ14 k).2.2.1 = some (tyJ14 k) := by decide +kernel
abbrev cJ14_init : ByteArray := prog_28_method_1_code
def yJ14_init : MethodName := ⟨RJ14, "<init>", "()V"⟩
theorem q72 : (Jvm.Cond.initialized "java/lang/Throwable") ∈ lw_all := lw_g (lw_at lw_m1 25 rfl) rfl
theorem q866 : (Jvm.Cond.declares ({ cls := "java/lang/Throwable", name := "<init>", desc := "()V" } : Jvm.MethodName)) ∈ lw_tbl := lw_at lw_m4 99 rfl
theorem q867 : (Jvm.Cond.declares ({ cls := "java/lang/Throwable", name := "<init>", desc := "(Ljava/lang/String;)V" } : Jvm.MethodName)) ∈ lw_tbl := lw_at lw_m4 100 rfl
theorem q871 : (Jvm.Cond.lays "java/lang/Throwable" "java/lang/Throwable" "cause" "Ljava/lang/Throwable;") ∈ lw_all := lw_g (lw_at lw_m4 104 rfl) rfl
theorem q873 : (Jvm.Cond.lays "java/lang/Throwable" "java/lang/Throwable" "stackTrace" "[Ljava/lang/StackTraceElement;") ∈ lw_all := lw_g (lw_at lw_m4 106 rfl) rfl
theorem q875 : (Jvm.Cond.lays "java/lang/Throwable" "java/lang/Throwable" "suppressedExceptions" "Ljava/util/List;") ∈ lw_all := lw_g (lw_at lw_m4 108 rfl) rfl
theorem q877 : (Jvm.Cond.lays "java/lang/Throwable" "java/lang/Throwable" "detailMessage" "Ljava/lang/String;") ∈ lw_all := lw_g (lw_at lw_m4 110 rfl) rfl
theorem q879 : (Jvm.Cond.lays "java/lang/Throwable" "java/lang/Throwable" "backtrace" "Ljava/lang/Object;") ∈ lw_all := lw_g (lw_at lw_m4 112 rfl) rfl
theorem q880 : (Jvm.Cond.fieldLink "java/lang/Throwable" (198 : Nat) "java/lang/Throwable" "backtrace" "Ljava/lang/Object;") ∈ lw_all := lw_g (lw_at lw_m4 113 rfl) rfl
theorem q881 : (Jvm.Cond.superclass "java/lang/Throwable" "java/lang/Object") ∈ lw_all := lw_g (lw_at lw_m4 114 rfl) rfl
theorem q882 : (Jvm.Cond.instanceMethod ({ cls := "java/lang/Throwable", name := "<init>", desc := "()V" } : Jvm.MethodName)) ∈ lw_all := lw_g (lw_at lw_m4 115 rfl) rfl
theorem q883 : (Jvm.Cond.code ({ cls := "java/lang/Throwable", name := "<init>", desc := "()V" } : Jvm.MethodName) prog_28_method_1_code (1 : Nat) (Option.none : Option Jvm.ClassFile.FieldType)) ∈ lw_all := lw_g (lw_at lw_m4 116 rfl) rfl
theorem q884 : (Jvm.Cond.methodLink "java/lang/Throwable" (1 : Nat) ({ cls := "java/lang/Object", name := "<init>", desc := "()V" } : Jvm.MethodName)) ∈ lw_all := lw_g (lw_at lw_m4 117 rfl) rfl
theorem q885 : (Jvm.Cond.fieldLink "java/lang/Throwable" (13 : Nat) "java/lang/Throwable" "UNASSIGNED_STACK" "[Ljava/lang/StackTraceElement;") ∈ lw_all := lw_g (lw_at lw_m4 118 rfl) rfl
theorem q886 : (Jvm.Cond.laysStatic "java/lang/Throwable" "UNASSIGNED_STACK" "[Ljava/lang/StackTraceElement;") ∈ lw_tbl := lw_at lw_m4 119 rfl
theorem q887 : (Jvm.Cond.fieldLink "java/lang/Throwable" (20 : Nat) "java/lang/Throwable" "SUPPRESSED_SENTINEL" "Ljava/util/List;") ∈ lw_all := lw_g (lw_at lw_m4 120 rfl) rfl
theorem q888 : (Jvm.Cond.laysStatic "java/lang/Throwable" "SUPPRESSED_SENTINEL" "Ljava/util/List;") ∈ lw_tbl := lw_at lw_m4 121 rfl
theorem q889 : (Jvm.Cond.methodLink "java/lang/Throwable" (27 : Nat) ({ cls := "java/lang/Throwable", name := "fillInStackTrace", desc := "()Ljava/lang/Throwable;" } : Jvm.MethodName)) ∈ lw_all := lw_g (lw_at lw_m4 122 rfl) rfl
theorem q890 : (Jvm.Cond.instanceMethod ({ cls := "java/lang/Throwable", name := "fillInStackTrace", desc := "()Ljava/lang/Throwable;" } : Jvm.MethodName)) ∈ lw_all := lw_g (lw_at lw_m4 123 rfl) rfl
theorem q891 : (Jvm.Cond.sameMethod "java/lang/Throwable" "java/lang/Throwable" "fillInStackTrace" "()Ljava/lang/Throwable;") ∈ lw_all := lw_g (lw_at lw_m4 124 rfl) rfl
theorem q892 : (Jvm.Cond.codeSync ({ cls := "java/lang/Throwable", name := "fillInStackTrace", desc := "()Ljava/lang/Throwable;" } : Jvm.MethodName) prog_28_method_18_code (1 : Nat) (Option.some (Jvm.ClassFile.FieldType.object "java/lang/Throwable"))) ∈ lw_all := lw_g (lw_at lw_m4 125 rfl) rfl
theorem q893 : (Jvm.Cond.methodLink "java/lang/Throwable" (202 : Nat) ({ cls := "java/lang/Throwable", name := "fillInStackTrace", desc := "(I)Ljava/lang/Throwable;" } : Jvm.MethodName)) ∈ lw_all := lw_g (lw_at lw_m4 126 rfl) rfl
theorem q894 : (Jvm.Cond.privateMethod ({ cls := "java/lang/Throwable", name := "fillInStackTrace", desc := "(I)Ljava/lang/Throwable;" } : Jvm.MethodName)) ∈ lw_tbl := lw_at lw_m4 127 rfl
theorem q895 : (Jvm.Cond.instanceMethod ({ cls := "java/lang/Throwable", name := "fillInStackTrace", desc := "(I)Ljava/lang/Throwable;" } : Jvm.MethodName)) ∈ lw_all := lw_g (lw_at lw_m4 128 rfl) rfl
theorem q896 : (Jvm.Cond.instantiable "java/lang/Throwable" (6 : Nat)) ∈ lw_all := lw_g (lw_at lw_m4 129 rfl) rfl
theorem q897 : (Jvm.Cond.native ({ cls := "java/lang/Throwable", name := "fillInStackTrace", desc := "(I)Ljava/lang/Throwable;" } : Jvm.MethodName)) ∈ lw_all := lw_g (lw_at lw_m4 130 rfl) rfl
theorem q907 : (Jvm.Cond.fieldLink "java/lang/Throwable" (198 : Nat) "java/lang/Throwable" "backtrace" "Ljava/lang/Object;") ∈ lw_all := lw_g (lw_at lw_m4 140 rfl) rfl
theorem q908 : (Jvm.Cond.fieldLink "java/lang/Throwable" (7 : Nat) "java/lang/Throwable" "cause" "Ljava/lang/Throwable;") ∈ lw_all := lw_g (lw_at lw_m4 141 rfl) rfl
theorem q909 : (Jvm.Cond.fieldLink "java/lang/Throwable" (17 : Nat) "java/lang/Throwable" "stackTrace" "[Ljava/lang/StackTraceElement;") ∈ lw_all := lw_g (lw_at lw_m4 142 rfl) rfl
theorem q910 : (Jvm.Cond.fieldLink "java/lang/Throwable" (24 : Nat) "java/lang/Throwable" "suppressedExceptions" "Ljava/util/List;") ∈ lw_all := lw_g (lw_at lw_m4 143 rfl) rfl
theorem q913 : (Jvm.Cond.soleField "java/lang/Throwable" "backtrace") ∈ lw_all := lw_g (lw_at lw_m4 146 rfl) rfl
theorem q914 : (Jvm.Cond.soleField "java/lang/Throwable" "detailMessage") ∈ lw_all := lw_g (lw_at lw_m4 147 rfl) rfl
theorem q915 : (Jvm.Cond.soleField "java/lang/Throwable" "cause") ∈ lw_all := lw_g (lw_at lw_m4 148 rfl) rfl
theorem q916 : (Jvm.Cond.soleField "java/lang/Throwable" "stackTrace") ∈ lw_all := lw_g (lw_at lw_m4 149 rfl) rfl
theorem q918 : (Jvm.Cond.soleField "java/lang/Throwable" "depth") ∈ lw_all := lw_g (lw_at lw_m4 151 rfl) rfl
theorem q919 : (Jvm.Cond.soleField "java/lang/Throwable" "suppressedExceptions") ∈ lw_all := lw_g (lw_at lw_m4 152 rfl) rfl
theorem q1461 : (Jvm.Cond.sameMethod "java/lang/Throwable" "java/lang/Throwable" "fillInStackTrace" "(I)Ljava/lang/Throwable;") ∈ lw_all := lw_g (lw_at lw_m6 214 rfl) rfl
theorem q1486 : (Jvm.Cond.castable "java/lang/Throwable" "java/lang/Object") ∈ lw_tbl := lw_at lw_m6 239 rfl
def RJ15 : String := "java/lang/Exception"
abbrev cJ15_init : ByteArray := prog_20_method_1_code
def yJ15_init : MethodName := ⟨RJ15, "<init>", "()V"⟩
theorem q73 : (Jvm.Cond.initialized "java/lang/Exception") ∈ lw_all := lw_g (lw_at lw_m1 26 rfl) rfl
theorem q864 : (Jvm.Cond.declares ({ cls := "java/lang/Exception", name := "<init>", desc := "()V" } : Jvm.MethodName)) ∈ lw_tbl := lw_at lw_m4 97 rfl
theorem q865 : (Jvm.Cond.declares ({ cls := "java/lang/Exception", name := "<init>", desc := "(Ljava/lang/String;)V" } : Jvm.MethodName)) ∈ lw_tbl := lw_at lw_m4 98 rfl
theorem q902 : (Jvm.Cond.instanceMethod ({ cls := "java/lang/Exception", name := "<init>", desc := "()V" } : Jvm.MethodName)) ∈ lw_all := lw_g (lw_at lw_m4 135 rfl) rfl
theorem q903 : (Jvm.Cond.code ({ cls := "java/lang/Exception", name := "<init>", desc := "()V" } : Jvm.MethodName) prog_20_method_1_code (1 : Nat) (Option.none : Option Jvm.ClassFile.FieldType)) ∈ lw_all := lw_g (lw_at lw_m4 136 rfl) rfl
theorem q904 : (Jvm.Cond.methodLink "java/lang/Exception" (1 : Nat) ({ cls := "java/lang/Throwable", name := "<init>", desc := "()V" } : Jvm.MethodName)) ∈ lw_all := lw_g (lw_at lw_m4 137 rfl) rfl
def RJ16 : String := "java/lang/StringLatin1"
abbrev cJ16_canEncode : ByteArray := prog_25_method_3_code
def yJ16_canEncode : MethodName := ⟨RJ16, "canEncode", "(C)Z"⟩
abbrev cJ16_inflate : ByteArray := prog_25_method_50_code
def yJ16_inflate : MethodName := ⟨RJ16, "inflate", "([BI[BII)V"⟩
abbrev cJ16_fillNull : ByteArray := prog_25_method_48_code
def yJ16_fillNull : MethodName := ⟨RJ16, "fillNull", "([BII)V"⟩
theorem q75 : (Jvm.Cond.initialized "java/lang/StringLatin1") ∈ lw_all := lw_g (lw_at lw_m1 28 rfl) rfl
theorem q1028 : (Jvm.Cond.static ({ cls := "java/lang/StringLatin1", name := "canEncode", desc := "(C)Z" } : Jvm.MethodName)) ∈ lw_all := lw_g (lw_at lw_m5 21 rfl) rfl
theorem q1029 : (Jvm.Cond.code ({ cls := "java/lang/StringLatin1", name := "canEncode", desc := "(C)Z" } : Jvm.MethodName) prog_25_method_3_code (1 : Nat) (Option.some Jvm.ClassFile.FieldType.boolean)) ∈ lw_all := lw_g (lw_at lw_m5 22 rfl) rfl
theorem q1035 : (Jvm.Cond.static ({ cls := "java/lang/StringLatin1", name := "inflate", desc := "([BI[BII)V" } : Jvm.MethodName)) ∈ lw_all := lw_g (lw_at lw_m5 28 rfl) rfl
theorem q1036 : (Jvm.Cond.code ({ cls := "java/lang/StringLatin1", name := "inflate", desc := "([BI[BII)V" } : Jvm.MethodName) prog_25_method_50_code (5 : Nat) (Option.none : Option Jvm.ClassFile.FieldType)) ∈ lw_all := lw_g (lw_at lw_m5 29 rfl) rfl
theorem q1037 : (Jvm.Cond.methodLink "java/lang/StringLatin1" (240 : Nat) ({ cls := "java/lang/StringUTF16", name := "inflate", desc := "([BI[BII)V" } : Jvm.MethodName)) ∈ lw_all := lw_g (lw_at lw_m5 30 rfl) rfl
theorem q1071 : (Jvm.Cond.static ({ cls := "java/lang/StringLatin1", name := "fillNull", desc := "([BII)V" } : Jvm.MethodName)) ∈ lw_all := lw_g (lw_at lw_m5 64 rfl) rfl
theorem q1072 : (Jvm.Cond.code ({ cls := "java/lang/StringLatin1", name := "fillNull", desc := "([BII)V" } : Jvm.MethodName) prog_25_method_48_code (3 : Nat) (Option.none : Option Jvm.ClassFile.FieldType)) ∈ lw_all := lw_g (lw_at lw_m5 65 rfl) rfl
theorem q1073 : (Jvm.Cond.methodLink "java/lang/StringLatin1" (236 : Nat) ({ cls := "java/util/Arrays", name := "fill", desc := "([BIIB)V" } : Jvm.MethodName)) ∈ lw_all := lw_g (lw_at lw_m5 66 rfl) rfl
def RJ17 : String := "java/lang/Object"
abbrev cJ17_init : ByteArray := object_method_1_code
def yJ17_init : MethodName := ⟨RJ17, "<init>", "()V"⟩
abbrev cJ17_equals : ByteArray := object_method_4_code
def yJ17_equals : MethodName := ⟨RJ17, "equals", "(Ljava/lang/Object;)Z"⟩
theorem q83 : (Jvm.Cond.instanceMethod ({ cls := "java/lang/Object", name := "<init>", desc := "()V" } : Jvm.MethodName)) ∈ lw_all := lw_g (lw_at lw_m1 36 rfl) rfl
theorem q84 : (Jvm.Cond.code ({ cls := "java/lang/Object", name := "<init>", desc := "()V" } : Jvm.MethodName) object_method_1_code (1 : Nat) (Option.none : Option Jvm.ClassFile.FieldType)) ∈ lw_all := lw_g (lw_at lw_m1 37 rfl) rfl
theorem q380 : (Jvm.Cond.instanceMethod ({ cls := "java/lang/Object", name := "getClass", desc := "()Ljava/lang/Class;" } : Jvm.MethodName)) ∈ lw_all := lw_g (lw_at lw_m2 93 rfl) rfl
theorem q381 : (Jvm.Cond.sameMethod "java/lang/Object" "java/lang/Object" "getClass" "()Ljava/lang/Class;") ∈ lw_all := lw_g (lw_at lw_m2 94 rfl) rfl
theorem q397 : (Jvm.Cond.native ({ cls := "java/lang/Object", name := "getClass", desc := "()Ljava/lang/Class;" } : Jvm.MethodName)) ∈ lw_all := lw_g (lw_at lw_m2 110 rfl) rfl
theorem q670 : (Jvm.Cond.declares ({ cls := "java/lang/Object", name := "equals", desc := "(Ljava/lang/Object;)Z" } : Jvm.MethodName)) ∈ lw_tbl := lw_at lw_m3 143 rfl
theorem q672 : (Jvm.Cond.instanceMethod ({ cls := "java/lang/Object", name := "equals", desc := "(Ljava/lang/Object;)Z" } : Jvm.MethodName)) ∈ lw_all := lw_g (lw_at lw_m3 145 rfl) rfl
theorem q673 : (Jvm.Cond.sameMethod "java/lang/Object" "java/lang/Object" "equals" "(Ljava/lang/Object;)Z") ∈ lw_all := lw_g (lw_at lw_m3 146 rfl) rfl
theorem q686 : (Jvm.Cond.code ({ cls := "java/lang/Object", name := "equals", desc := "(Ljava/lang/Object;)Z" } : Jvm.MethodName) object_method_4_code (2 : Nat) (Option.some Jvm.ClassFile.FieldType.boolean)) ∈ lw_all := lw_g (lw_at lw_m3 159 rfl) rfl
theorem q1017 : (Jvm.Cond.native ({ cls := "java/lang/Object", name := "clone", desc := "()Ljava/lang/Object;" } : Jvm.MethodName)) ∈ lw_all := lw_g (lw_at lw_m5 10 rfl) rfl
theorem q1018 : (Jvm.Cond.instanceMethod ({ cls := "java/lang/Object", name := "clone", desc := "()Ljava/lang/Object;" } : Jvm.MethodName)) ∈ lw_all := lw_g (lw_at lw_m5 11 rfl) rfl
theorem q1468 : (Jvm.Cond.initialized "java/lang/Object") ∈ lw_all := lw_g (lw_at lw_m6 221 rfl) rfl
theorem q1489 : (Jvm.Cond.declares ({ cls := "java/lang/Object", name := "getClass", desc := "()Ljava/lang/Class;" } : Jvm.MethodName)) ∈ lw_tbl := lw_at lw_m7 2 rfl
def RJ2 : String := "java/util/ArrayList"
def TJ2 : u_T := fun k => match k with
  | 0 => ("java/util/AbstractList", "modCount", "I", false)
  | 1 => ("java/util/ArrayList", "elementData", "[Ljava/lang/Object;", false)
  | _ => ("java/util/ArrayList", "size", "I", false)
def tyJ2 : Nat → FieldType := fun k => match k with
  | 0 => .int
  | 1 => .array (.object "java/lang/Object")
  | _ => .int
abbrev wsJ20 : List Cond := u_ws RJ2 TJ2 3
theorem nmJ2 : ∀ a, a < 3 → ∀ b, b < 3 → a ≠ b → (TJ2 a).2.1 ≠ (TJ2 b).2.1 := by decide +kernel
theorem tyJ2_ok : ∀ k, k < 3 → parseFieldDescriptor (TJ2 k).2.2.1 = some (tyJ2 k) := by decide +kernel
abbrev cJ2_init : ByteArray := prog_32_method_2_code
def yJ2_init : MethodName := ⟨RJ2, "<init>", "()V"⟩
abbrev cJ2_size : ByteArray := prog_32_method_8_code
def yJ2_size : MethodName := ⟨RJ2, "size", "()I"⟩
abbrev cJ2_get : ByteArray := prog_32_method_20_code
def yJ2_get : MethodName := ⟨RJ2, "get", "(I)Ljava/lang/Object;"⟩
abbrev cJ2_elementData : ByteArray := prog_32_method_18_code
def yJ2_elementData : MethodName := ⟨RJ2, "elementData", "(I)Ljava/lang/Object;"⟩
abbrev cJ2_add : ByteArray := prog_32_method_25_code
def yJ2_add : MethodName := ⟨RJ2, "add", "(Ljava/lang/Object;)Z"⟩
abbrev cJ2_add_2 : ByteArray := prog_32_method_24_code
def yJ2_add_2 : MethodName := ⟨RJ2, "add", "(Ljava/lang/Object;[Ljava/lang/Object;I)V"⟩
abbrev cJ2_grow : ByteArray := prog_32_method_7_code
def yJ2_grow : MethodName := ⟨RJ2, "grow", "()[Ljava/lang/Object;"⟩
abbrev cJ2_grow_2 : ByteArray := prog_32_method_6_code
def yJ2_grow_2 : MethodName := ⟨RJ2, "grow", "(I)[Ljava/lang/Object;"⟩
abbrev cJ2_iterator : ByteArray := prog_32_method_55_code
def yJ2_iterator : MethodName := ⟨RJ2, "iterator", "()Ljava/util/Iterator;"⟩
abbrev cJ2_remove : ByteArray := prog_32_method_29_code
def yJ2_remove : MethodName := ⟨RJ2, "remove", "(I)Ljava/lang/Object;"⟩
abbrev cJ2_fastRemove : ByteArray := prog_32_method_39_code
def yJ2_fastRemove : MethodName := ⟨RJ2, "fastRemove", "([Ljava/lang/Object;I)V"⟩
abbrev cJ2_add_3 : ByteArray := prog_32_method_26_code
def yJ2_add_3 : MethodName := ⟨RJ2, "add", "(ILjava/lang/Object;)V"⟩
abbrev cJ2_rangeCheckForAdd : ByteArray := prog_32_method_45_code
def yJ2_rangeCheckForAdd : MethodName := ⟨RJ2, "rangeCheckForAdd", "(I)V"⟩
abbrev cJ2_isEmpty : ByteArray := prog_32_method_9_code
def yJ2_isEmpty : MethodName := ⟨RJ2, "isEmpty", "()Z"⟩
abbrev cJ2_remove_2 : ByteArray := prog_32_method_38_code
def yJ2_remove_2 : MethodName := ⟨RJ2, "remove", "(Ljava/lang/Object;)Z"⟩
abbrev cJ2_indexOf : ByteArray := prog_32_method_11_code
def yJ2_indexOf : MethodName := ⟨RJ2, "indexOf", "(Ljava/lang/Object;)I"⟩
abbrev cJ2_indexOfRange : ByteArray := prog_32_method_12_code
def yJ2_indexOfRange : MethodName := ⟨RJ2, "indexOfRange", "(Ljava/lang/Object;II)I"⟩
abbrev cJ2_clear : ByteArray := prog_32_method_40_code
def yJ2_clear : MethodName := ⟨RJ2, "clear", "()V"⟩
theorem q53 : (Jvm.Cond.initialized "java/util/ArrayList") ∈ lw_all := lw_g (lw_at lw_m1 6 rfl) rfl
theorem q98 : (Jvm.Cond.instantiable "java/util/ArrayList" (3 : Nat)) ∈ lw_all := lw_g (lw_at lw_m1 51 rfl) rfl
theorem q100 : (Jvm.Cond.instanceMethod ({ cls := "java/util/ArrayList", name := "<init>", desc := "()V" } : Jvm.MethodName)) ∈ lw_all := lw_g (lw_at lw_m1 53 rfl) rfl
theorem q101 : (Jvm.Cond.code ({ cls := "java/util/ArrayList", name := "<init>", desc := "()V" } : Jvm.MethodName) prog_32_method_2_code (1 : Nat) (Option.none : Option Jvm.ClassFile.FieldType)) ∈ lw_all := lw_g (lw_at lw_m1 54 rfl) rfl
theorem q102 : (Jvm.Cond.methodLink "java/util/ArrayList" (1 : Nat) ({ cls := "java/util/AbstractList", name := "<init>", desc := "()V" } : Jvm.MethodName)) ∈ lw_all := lw_g (lw_at lw_m1 55 rfl) rfl
theorem q109 : (Jvm.Cond.fieldLink "java/util/ArrayList" (39 : Nat) "java/util/ArrayList" "DEFAULTCAPACITY_EMPTY_ELEMENTDATA" "[Ljava/lang/Object;") ∈ lw_all := lw_g (lw_at lw_m1 62 rfl) rfl
theorem q110 : (Jvm.Cond.laysStatic "java/util/ArrayList" "DEFAULTCAPACITY_EMPTY_ELEMENTDATA" "[Ljava/lang/Object;") ∈ lw_tbl := lw_at lw_m1 63 rfl
theorem q111 : (Jvm.Cond.fieldLink "java/util/ArrayList" (9 : Nat) "java/util/ArrayList" "elementData" "[Ljava/lang/Object;") ∈ lw_all := lw_g (lw_at lw_m1 64 rfl) rfl
theorem q114 : (Jvm.Cond.fieldLink "java/util/ArrayList" (48 : Nat) "java/util/ArrayList" "size" "I") ∈ lw_all := lw_g (lw_at lw_m1 67 rfl) rfl
theorem q117 : (Jvm.Cond.sameField "java/util/ArrayList" "java/util/AbstractList" "modCount" "I") ∈ lw_all := lw_g (lw_at lw_m1 70 rfl) rfl
theorem q118 : (Jvm.Cond.fieldLink "java/util/ArrayList" (63 : Nat) "java/util/ArrayList" "modCount" "I") ∈ lw_all := lw_g (lw_at lw_m1 71 rfl) rfl
theorem q119 : (Jvm.Cond.lays "java/util/ArrayList" "java/util/ArrayList" "elementData" "[Ljava/lang/Object;") ∈ lw_all := lw_g (lw_at lw_m1 72 rfl) rfl
theorem q120 : (Jvm.Cond.soleField "java/util/ArrayList" "elementData") ∈ lw_all := lw_g (lw_at lw_m1 73 rfl) rfl
theorem q121 : (Jvm.Cond.lays "java/util/ArrayList" "java/util/ArrayList" "size" "I") ∈ lw_all := lw_g (lw_at lw_m1 74 rfl) rfl
theorem q122 : (Jvm.Cond.soleField "java/util/ArrayList" "size") ∈ lw_all := lw_g (lw_at lw_m1 75 rfl) rfl
theorem q123 : (Jvm.Cond.lays "java/util/ArrayList" "java/util/AbstractList" "modCount" "I") ∈ lw_all := lw_g (lw_at lw_m1 76 rfl) rfl
theorem q125 : (Jvm.Cond.superclass "java/util/ArrayList" "java/util/AbstractList") ∈ lw_all := lw_g (lw_at lw_m1 78 rfl) rfl
theorem q257 : (Jvm.Cond.castable "java/util/ArrayList" "java/util/List") ∈ lw_tbl := lw_at lw_m1 210 rfl
theorem q258 : (Jvm.Cond.selects "java/util/ArrayList" ({ cls := "java/util/List", name := "size", desc := "()I" } : Jvm.MethodName) ({ cls := "java/util/ArrayList", name := "size", desc := "()I" } : Jvm.MethodName)) ∈ lw_all := lw_g (lw_at lw_m1 211 rfl) rfl
theorem q259 : (Jvm.Cond.unhidden "java/util/ArrayList" "size" "()I") ∈ lw_tbl := lw_at lw_m1 212 rfl
theorem q260 : (Jvm.Cond.instanceMethod ({ cls := "java/util/ArrayList", name := "size", desc := "()I" } : Jvm.MethodName)) ∈ lw_all := lw_g (lw_at lw_m1 213 rfl) rfl
theorem q261 : (Jvm.Cond.publicMethod ({ cls := "java/util/ArrayList", name := "size", desc := "()I" } : Jvm.MethodName)) ∈ lw_tbl := lw_at lw_m1 214 rfl
theorem q262 : (Jvm.Cond.code ({ cls := "java/util/ArrayList", name := "size", desc := "()I" } : Jvm.MethodName) prog_32_method_8_code (1 : Nat) (Option.some Jvm.ClassFile.FieldType.int)) ∈ lw_all := lw_g (lw_at lw_m1 215 rfl) rfl
theorem q319 : (Jvm.Cond.selects "java/util/ArrayList" ({ cls := "java/util/List", name := "get", desc := "(I)Ljava/lang/Object;" } : Jvm.MethodName) ({ cls := "java/util/ArrayList", name := "get", desc := "(I)Ljava/lang/Object;" } : Jvm.MethodName)) ∈ lw_all := lw_g (lw_at lw_m2 32 rfl) rfl
theorem q320 : (Jvm.Cond.unhidden "java/util/ArrayList" "get" "(I)Ljava/lang/Object;") ∈ lw_tbl := lw_at lw_m2 33 rfl
theorem q321 : (Jvm.Cond.instanceMethod ({ cls := "java/util/ArrayList", name := "get", desc := "(I)Ljava/lang/Object;" } : Jvm.MethodName)) ∈ lw_all := lw_g (lw_at lw_m2 34 rfl) rfl
theorem q322 : (Jvm.Cond.publicMethod ({ cls := "java/util/ArrayList", name := "get", desc := "(I)Ljava/lang/Object;" } : Jvm.MethodName)) ∈ lw_tbl := lw_at lw_m2 35 rfl
theorem q323 : (Jvm.Cond.code ({ cls := "java/util/ArrayList", name := "get", desc := "(I)Ljava/lang/Object;" } : Jvm.MethodName) prog_32_method_20_code (2 : Nat) (Option.some (Jvm.ClassFile.FieldType.object "java/lang/Object"))) ∈ lw_all := lw_g (lw_at lw_m2 36 rfl) rfl
theorem q324 : (Jvm.Cond.methodLink "java/util/ArrayList" (118 : Nat) ({ cls := "java/util/Objects", name := "checkIndex", desc := "(II)I" } : Jvm.MethodName)) ∈ lw_all := lw_g (lw_at lw_m2 37 rfl) rfl
theorem q330 : (Jvm.Cond.methodLink "java/util/ArrayList" (123 : Nat) ({ cls := "java/util/ArrayList", name := "elementData", desc := "(I)Ljava/lang/Object;" } : Jvm.MethodName)) ∈ lw_all := lw_g (lw_at lw_m2 43 rfl) rfl
theorem q331 : (Jvm.Cond.instanceMethod ({ cls := "java/util/ArrayList", name := "elementData", desc := "(I)Ljava/lang/Object;" } : Jvm.MethodName)) ∈ lw_all := lw_g (lw_at lw_m2 44 rfl) rfl
theorem q332 : (Jvm.Cond.selects "java/util/ArrayList" ({ cls := "java/util/ArrayList", name := "elementData", desc := "(I)Ljava/lang/Object;" } : Jvm.MethodName) ({ cls := "java/util/ArrayList", name := "elementData", desc := "(I)Ljava/lang/Object;" } : Jvm.MethodName)) ∈ lw_all := lw_g (lw_at lw_m2 45 rfl) rfl
theorem q333 : (Jvm.Cond.code ({ cls := "java/util/ArrayList", name := "elementData", desc := "(I)Ljava/lang/Object;" } : Jvm.MethodName) prog_32_method_18_code (2 : Nat) (Option.some (Jvm.ClassFile.FieldType.object "java/lang/Object"))) ∈ lw_all := lw_g (lw_at lw_m2 46 rfl) rfl
theorem q349 : (Jvm.Cond.selects "java/util/ArrayList" ({ cls := "java/util/List", name := "add", desc := "(Ljava/lang/Object;)Z" } : Jvm.MethodName) ({ cls := "java/util/ArrayList", name := "add", desc := "(Ljava/lang/Object;)Z" } : Jvm.MethodName)) ∈ lw_all := lw_g (lw_at lw_m2 62 rfl) rfl
theorem q350 : (Jvm.Cond.unhidden "java/util/ArrayList" "add" "(Ljava/lang/Object;)Z") ∈ lw_tbl := lw_at lw_m2 63 rfl
theorem q351 : (Jvm.Cond.instanceMethod ({ cls := "java/util/ArrayList", name := "add", desc := "(Ljava/lang/Object;)Z" } : Jvm.MethodName)) ∈ lw_all := lw_g (lw_at lw_m2 64 rfl) rfl
theorem q352 : (Jvm.Cond.publicMethod ({ cls := "java/util/ArrayList", name := "add", desc := "(Ljava/lang/Object;)Z" } : Jvm.MethodName)) ∈ lw_tbl := lw_at lw_m2 65 rfl
theorem q353 : (Jvm.Cond.code ({ cls := "java/util/ArrayList", name := "add", desc := "(Ljava/lang/Object;)Z" } : Jvm.MethodName) prog_32_method_25_code (2 : Nat) (Option.some Jvm.ClassFile.FieldType.boolean)) ∈ lw_all := lw_g (lw_at lw_m2 66 rfl) rfl
theorem q354 : (Jvm.Cond.methodLink "java/util/ArrayList" (131 : Nat) ({ cls := "java/util/ArrayList", name := "add", desc := "(Ljava/lang/Object;[Ljava/lang/Object;I)V" } : Jvm.MethodName)) ∈ lw_all := lw_g (lw_at lw_m2 67 rfl) rfl
theorem q355 : (Jvm.Cond.privateMethod ({ cls := "java/util/ArrayList", name := "add", desc := "(Ljava/lang/Object;[Ljava/lang/Object;I)V" } : Jvm.MethodName)) ∈ lw_tbl := lw_at lw_m2 68 rfl
theorem q356 : (Jvm.Cond.instanceMethod ({ cls := "java/util/ArrayList", name := "add", desc := "(Ljava/lang/Object;[Ljava/lang/Object;I)V" } : Jvm.MethodName)) ∈ lw_all := lw_g (lw_at lw_m2 69 rfl) rfl
theorem q357 : (Jvm.Cond.code ({ cls := "java/util/ArrayList", name := "add", desc := "(Ljava/lang/Object;[Ljava/lang/Object;I)V" } : Jvm.MethodName) prog_32_method_24_code (4 : Nat) (Option.none : Option Jvm.ClassFile.FieldType)) ∈ lw_all := lw_g (lw_at lw_m2 70 rfl) rfl
theorem q358 : (Jvm.Cond.methodLink "java/util/ArrayList" (129 : Nat) ({ cls := "java/util/ArrayList", name := "grow", desc := "()[Ljava/lang/Object;" } : Jvm.MethodName)) ∈ lw_all := lw_g (lw_at lw_m2 71 rfl) rfl
theorem q359 : (Jvm.Cond.privateMethod ({ cls := "java/util/ArrayList", name := "grow", desc := "()[Ljava/lang/Object;" } : Jvm.MethodName)) ∈ lw_tbl := lw_at lw_m2 72 rfl
theorem q360 : (Jvm.Cond.instanceMethod ({ cls := "java/util/ArrayList", name := "grow", desc := "()[Ljava/lang/Object;" } : Jvm.MethodName)) ∈ lw_all := lw_g (lw_at lw_m2 73 rfl) rfl
theorem q361 : (Jvm.Cond.code ({ cls := "java/util/ArrayList", name := "grow", desc := "()[Ljava/lang/Object;" } : Jvm.MethodName) prog_32_method_7_code (1 : Nat) (Option.some (Jvm.ClassFile.FieldType.array (Jvm.ClassFile.FieldType.object "java/lang/Object")))) ∈ lw_all := lw_g (lw_at lw_m2 74 rfl) rfl
theorem q362 : (Jvm.Cond.methodLink "java/util/ArrayList" (69 : Nat) ({ cls := "java/util/ArrayList", name := "grow", desc := "(I)[Ljava/lang/Object;" } : Jvm.MethodName)) ∈ lw_all := lw_g (lw_at lw_m2 75 rfl) rfl
theorem q363 : (Jvm.Cond.privateMethod ({ cls := "java/util/ArrayList", name := "grow", desc := "(I)[Ljava/lang/Object;" } : Jvm.MethodName)) ∈ lw_tbl := lw_at lw_m2 76 rfl
theorem q364 : (Jvm.Cond.instanceMethod ({ cls := "java/util/ArrayList", name := "grow", desc := "(I)[Ljava/lang/Object;" } : Jvm.MethodName)) ∈ lw_all := lw_g (lw_at lw_m2 77 rfl) rfl
theorem q365 : (Jvm.Cond.code ({ cls := "java/util/ArrayList", name := "grow", desc := "(I)[Ljava/lang/Object;" } : Jvm.MethodName) prog_32_method_6_code (4 : Nat) (Option.some (Jvm.ClassFile.FieldType.array (Jvm.ClassFile.FieldType.object "java/lang/Object")))) ∈ lw_all := lw_g (lw_at lw_m2 78 rfl) rfl
theorem q366 : (Jvm.Cond.methodLink "java/util/ArrayList" (73 : Nat) ({ cls := "jdk/internal/util/ArraysSupport", name := "newLength", desc := "(III)I" } : Jvm.MethodName)) ∈ lw_all := lw_g (lw_at lw_m2 79 rfl) rfl
theorem q376 : (Jvm.Cond.methodLink "java/util/ArrayList" (66 : Nat) ({ cls := "java/util/Arrays", name := "copyOf", desc := "([Ljava/lang/Object;I)[Ljava/lang/Object;" } : Jvm.MethodName)) ∈ lw_all := lw_g (lw_at lw_m2 89 rfl) rfl
theorem q395 : (Jvm.Cond.selects "java/util/ArrayList" ({ cls := "java/lang/Object", name := "getClass", desc := "()Ljava/lang/Class;" } : Jvm.MethodName) ({ cls := "java/lang/Object", name := "getClass", desc := "()Ljava/lang/Class;" } : Jvm.MethodName)) ∈ lw_all := lw_g (lw_at lw_m2 108 rfl) rfl
theorem q409 : (Jvm.Cond.methodLink "java/util/ArrayList" (79 : Nat) ({ cls := "java/lang/Math", name := "max", desc := "(II)I" } : Jvm.MethodName)) ∈ lw_all := lw_g (lw_at lw_m2 122 rfl) rfl
theorem q410 : (Jvm.Cond.classLink "java/util/ArrayList" (7 : Nat) "java/lang/Object") ∈ lw_all := lw_g (lw_at lw_m2 123 rfl) rfl
theorem q415 : (Jvm.Cond.selects "java/util/ArrayList" ({ cls := "java/util/List", name := "iterator", desc := "()Ljava/util/Iterator;" } : Jvm.MethodName) ({ cls := "java/util/ArrayList", name := "iterator", desc := "()Ljava/util/Iterator;" } : Jvm.MethodName)) ∈ lw_all := lw_g (lw_at lw_m2 128 rfl) rfl
theorem q416 : (Jvm.Cond.unhidden "java/util/ArrayList" "iterator" "()Ljava/util/Iterator;") ∈ lw_tbl := lw_at lw_m2 129 rfl
theorem q417 : (Jvm.Cond.instanceMethod ({ cls := "java/util/ArrayList", name := "iterator", desc := "()Ljava/util/Iterator;" } : Jvm.MethodName)) ∈ lw_all := lw_g (lw_at lw_m2 130 rfl) rfl
theorem q418 : (Jvm.Cond.publicMethod ({ cls := "java/util/ArrayList", name := "iterator", desc := "()Ljava/util/Iterator;" } : Jvm.MethodName)) ∈ lw_tbl := lw_at lw_m2 131 rfl
theorem q419 : (Jvm.Cond.code ({ cls := "java/util/ArrayList", name := "iterator", desc := "()Ljava/util/Iterator;" } : Jvm.MethodName) prog_32_method_55_code (1 : Nat) (Option.some (Jvm.ClassFile.FieldType.object "java/util/Iterator"))) ∈ lw_all := lw_g (lw_at lw_m2 132 rfl) rfl
theorem q420 : (Jvm.Cond.classLink "java/util/ArrayList" (267 : Nat) "java/util/ArrayList$Itr") ∈ lw_all := lw_g (lw_at lw_m2 133 rfl) rfl
theorem q422 : (Jvm.Cond.methodLink "java/util/ArrayList" (269 : Nat) ({ cls := "java/util/ArrayList$Itr", name := "<init>", desc := "(Ljava/util/ArrayList;)V" } : Jvm.MethodName)) ∈ lw_all := lw_g (lw_at lw_m2 135 rfl) rfl
theorem q459 : (Jvm.Cond.selects "java/util/ArrayList" ({ cls := "java/util/List", name := "remove", desc := "(I)Ljava/lang/Object;" } : Jvm.MethodName) ({ cls := "java/util/ArrayList", name := "remove", desc := "(I)Ljava/lang/Object;" } : Jvm.MethodName)) ∈ lw_all := lw_g (lw_at lw_m2 172 rfl) rfl
theorem q460 : (Jvm.Cond.unhidden "java/util/ArrayList" "remove" "(I)Ljava/lang/Object;") ∈ lw_tbl := lw_at lw_m2 173 rfl
theorem q461 : (Jvm.Cond.instanceMethod ({ cls := "java/util/ArrayList", name := "remove", desc := "(I)Ljava/lang/Object;" } : Jvm.MethodName)) ∈ lw_all := lw_g (lw_at lw_m2 174 rfl) rfl
theorem q462 : (Jvm.Cond.publicMethod ({ cls := "java/util/ArrayList", name := "remove", desc := "(I)Ljava/lang/Object;" } : Jvm.MethodName)) ∈ lw_tbl := lw_at lw_m2 175 rfl
theorem q463 : (Jvm.Cond.code ({ cls := "java/util/ArrayList", name := "remove", desc := "(I)Ljava/lang/Object;" } : Jvm.MethodName) prog_32_method_29_code (4 : Nat) (Option.some (Jvm.ClassFile.FieldType.object "java/lang/Object"))) ∈ lw_all := lw_g (lw_at lw_m2 176 rfl) rfl
theorem q464 : (Jvm.Cond.methodLink "java/util/ArrayList" (144 : Nat) ({ cls := "java/util/ArrayList", name := "fastRemove", desc := "([Ljava/lang/Object;I)V" } : Jvm.MethodName)) ∈ lw_all := lw_g (lw_at lw_m2 177 rfl) rfl
theorem q465 : (Jvm.Cond.privateMethod ({ cls := "java/util/ArrayList", name := "fastRemove", desc := "([Ljava/lang/Object;I)V" } : Jvm.MethodName)) ∈ lw_tbl := lw_at lw_m2 178 rfl
theorem q466 : (Jvm.Cond.instanceMethod ({ cls := "java/util/ArrayList", name := "fastRemove", desc := "([Ljava/lang/Object;I)V" } : Jvm.MethodName)) ∈ lw_all := lw_g (lw_at lw_m2 179 rfl) rfl
theorem q467 : (Jvm.Cond.code ({ cls := "java/util/ArrayList", name := "fastRemove", desc := "([Ljava/lang/Object;I)V" } : Jvm.MethodName) prog_32_method_39_code (4 : Nat) (Option.none : Option Jvm.ClassFile.FieldType)) ∈ lw_all := lw_g (lw_at lw_m2 180 rfl) rfl
theorem q468 : (Jvm.Cond.methodLink "java/util/ArrayList" (112 : Nat) ({ cls := "java/lang/System", name := "arraycopy", desc := "(Ljava/lang/Object;ILjava/lang/Object;II)V" } : Jvm.MethodName)) ∈ lw_all := lw_g (lw_at lw_m2 181 rfl) rfl
theorem q515 : (Jvm.Cond.selects "java/util/ArrayList" ({ cls := "java/util/List", name := "add", desc := "(ILjava/lang/Object;)V" } : Jvm.MethodName) ({ cls := "java/util/ArrayList", name := "add", desc := "(ILjava/lang/Object;)V" } : Jvm.MethodName)) ∈ lw_all := lw_g (lw_at lw_m2 228 rfl) rfl
theorem q516 : (Jvm.Cond.unhidden "java/util/ArrayList" "add" "(ILjava/lang/Object;)V") ∈ lw_tbl := lw_at lw_m2 229 rfl
theorem q517 : (Jvm.Cond.instanceMethod ({ cls := "java/util/ArrayList", name := "add", desc := "(ILjava/lang/Object;)V" } : Jvm.MethodName)) ∈ lw_all := lw_g (lw_at lw_m2 230 rfl) rfl
theorem q518 : (Jvm.Cond.publicMethod ({ cls := "java/util/ArrayList", name := "add", desc := "(ILjava/lang/Object;)V" } : Jvm.MethodName)) ∈ lw_tbl := lw_at lw_m2 231 rfl
theorem q519 : (Jvm.Cond.code ({ cls := "java/util/ArrayList", name := "add", desc := "(ILjava/lang/Object;)V" } : Jvm.MethodName) prog_32_method_26_code (5 : Nat) (Option.none : Option Jvm.ClassFile.FieldType)) ∈ lw_all := lw_g (lw_at lw_m2 232 rfl) rfl
theorem q520 : (Jvm.Cond.methodLink "java/util/ArrayList" (135 : Nat) ({ cls := "java/util/ArrayList", name := "rangeCheckForAdd", desc := "(I)V" } : Jvm.MethodName)) ∈ lw_all := lw_g (lw_at lw_m2 233 rfl) rfl
theorem q521 : (Jvm.Cond.privateMethod ({ cls := "java/util/ArrayList", name := "rangeCheckForAdd", desc := "(I)V" } : Jvm.MethodName)) ∈ lw_tbl := lw_at lw_m2 234 rfl
theorem q522 : (Jvm.Cond.instanceMethod ({ cls := "java/util/ArrayList", name := "rangeCheckForAdd", desc := "(I)V" } : Jvm.MethodName)) ∈ lw_all := lw_g (lw_at lw_m2 235 rfl) rfl
theorem q523 : (Jvm.Cond.code ({ cls := "java/util/ArrayList", name := "rangeCheckForAdd", desc := "(I)V" } : Jvm.MethodName) prog_32_method_45_code (2 : Nat) (Option.none : Option Jvm.ClassFile.FieldType)) ∈ lw_all := lw_g (lw_at lw_m2 236 rfl) rfl
theorem q548 : (Jvm.Cond.selects "java/util/ArrayList" ({ cls := "java/util/List", name := "isEmpty", desc := "()Z" } : Jvm.MethodName) ({ cls := "java/util/ArrayList", name := "isEmpty", desc := "()Z" } : Jvm.MethodName)) ∈ lw_all := lw_g (lw_at lw_m3 21 rfl) rfl
theorem q549 : (Jvm.Cond.unhidden "java/util/ArrayList" "isEmpty" "()Z") ∈ lw_tbl := lw_at lw_m3 22 rfl
theorem q550 : (Jvm.Cond.instanceMethod ({ cls := "java/util/ArrayList", name := "isEmpty", desc := "()Z" } : Jvm.MethodName)) ∈ lw_all := lw_g (lw_at lw_m3 23 rfl) rfl
theorem q551 : (Jvm.Cond.publicMethod ({ cls := "java/util/ArrayList", name := "isEmpty", desc := "()Z" } : Jvm.MethodName)) ∈ lw_tbl := lw_at lw_m3 24 rfl
theorem q552 : (Jvm.Cond.code ({ cls := "java/util/ArrayList", name := "isEmpty", desc := "()Z" } : Jvm.MethodName) prog_32_method_9_code (1 : Nat) (Option.some Jvm.ClassFile.FieldType.boolean)) ∈ lw_all := lw_g (lw_at lw_m3 25 rfl) rfl
theorem q665 : (Jvm.Cond.selects "java/util/ArrayList" ({ cls := "java/util/List", name := "remove", desc := "(Ljava/lang/Object;)Z" } : Jvm.MethodName) ({ cls := "java/util/ArrayList", name := "remove", desc := "(Ljava/lang/Object;)Z" } : Jvm.MethodName)) ∈ lw_all := lw_g (lw_at lw_m3 138 rfl) rfl
theorem q666 : (Jvm.Cond.unhidden "java/util/ArrayList" "remove" "(Ljava/lang/Object;)Z") ∈ lw_tbl := lw_at lw_m3 139 rfl
theorem q667 : (Jvm.Cond.instanceMethod ({ cls := "java/util/ArrayList", name := "remove", desc := "(Ljava/lang/Object;)Z" } : Jvm.MethodName)) ∈ lw_all := lw_g (lw_at lw_m3 140 rfl) rfl
theorem q668 : (Jvm.Cond.publicMethod ({ cls := "java/util/ArrayList", name := "remove", desc := "(Ljava/lang/Object;)Z" } : Jvm.MethodName)) ∈ lw_tbl := lw_at lw_m3 141 rfl
theorem q669 : (Jvm.Cond.code ({ cls := "java/util/ArrayList", name := "remove", desc := "(Ljava/lang/Object;)Z" } : Jvm.MethodName) prog_32_method_38_code (5 : Nat) (Option.some Jvm.ClassFile.FieldType.boolean)) ∈ lw_all := lw_g (lw_at lw_m3 142 rfl) rfl
theorem q671 : (Jvm.Cond.methodLink "java/util/ArrayList" (93 : Nat) ({ cls := "java/lang/Object", name := "equals", desc := "(Ljava/lang/Object;)Z" } : Jvm.MethodName)) ∈ lw_all := lw_g (lw_at lw_m3 144 rfl) rfl
theorem q747 : (Jvm.Cond.selects "java/util/ArrayList" ({ cls := "java/util/List", name := "indexOf", desc := "(Ljava/lang/Object;)I" } : Jvm.MethodName) ({ cls := "java/util/ArrayList", name := "indexOf", desc := "(Ljava/lang/Object;)I" } : Jvm.MethodName)) ∈ lw_all := lw_g (lw_at lw_m3 220 rfl) rfl
theorem q748 : (Jvm.Cond.unhidden "java/util/ArrayList" "indexOf" "(Ljava/lang/Object;)I") ∈ lw_tbl := lw_at lw_m3 221 rfl
theorem q749 : (Jvm.Cond.instanceMethod ({ cls := "java/util/ArrayList", name := "indexOf", desc := "(Ljava/lang/Object;)I" } : Jvm.MethodName)) ∈ lw_all := lw_g (lw_at lw_m3 222 rfl) rfl
theorem q750 : (Jvm.Cond.publicMethod ({ cls := "java/util/ArrayList", name := "indexOf", desc := "(Ljava/lang/Object;)I" } : Jvm.MethodName)) ∈ lw_tbl := lw_at lw_m3 223 rfl
theorem q751 : (Jvm.Cond.code ({ cls := "java/util/ArrayList", name := "indexOf", desc := "(Ljava/lang/Object;)I" } : Jvm.MethodName) prog_32_method_11_code (2 : Nat) (Option.some Jvm.ClassFile.FieldType.int)) ∈ lw_all := lw_g (lw_at lw_m3 224 rfl) rfl
theorem q752 : (Jvm.Cond.methodLink "java/util/ArrayList" (89 : Nat) ({ cls := "java/util/ArrayList", name := "indexOfRange", desc := "(Ljava/lang/Object;II)I" } : Jvm.MethodName)) ∈ lw_all := lw_g (lw_at lw_m3 225 rfl) rfl
theorem q753 : (Jvm.Cond.instanceMethod ({ cls := "java/util/ArrayList", name := "indexOfRange", desc := "(Ljava/lang/Object;II)I" } : Jvm.MethodName)) ∈ lw_all := lw_g (lw_at lw_m3 226 rfl) rfl
theorem q754 : (Jvm.Cond.selects "java/util/ArrayList" ({ cls := "java/util/ArrayList", name := "indexOfRange", desc := "(Ljava/lang/Object;II)I" } : Jvm.MethodName) ({ cls := "java/util/ArrayList", name := "indexOfRange", desc := "(Ljava/lang/Object;II)I" } : Jvm.MethodName)) ∈ lw_all := lw_g (lw_at lw_m3 227 rfl) rfl
theorem q755 : (Jvm.Cond.code ({ cls := "java/util/ArrayList", name := "indexOfRange", desc := "(Ljava/lang/Object;II)I" } : Jvm.MethodName) prog_32_method_12_code (6 : Nat) (Option.some Jvm.ClassFile.FieldType.int)) ∈ lw_all := lw_g (lw_at lw_m3 228 rfl) rfl
theorem q975 : (Jvm.Cond.selects "java/util/ArrayList" ({ cls := "java/util/List", name := "clear", desc := "()V" } : Jvm.MethodName) ({ cls := "java/util/ArrayList", name := "clear", desc := "()V" } : Jvm.MethodName)) ∈ lw_all := lw_g (lw_at lw_m4 208 rfl) rfl
theorem q976 : (Jvm.Cond.unhidden "java/util/ArrayList" "clear" "()V") ∈ lw_tbl := lw_at lw_m4 209 rfl
theorem q977 : (Jvm.Cond.instanceMethod ({ cls := "java/util/ArrayList", name := "clear", desc := "()V" } : Jvm.MethodName)) ∈ lw_all := lw_g (lw_at lw_m4 210 rfl) rfl
theorem q978 : (Jvm.Cond.publicMethod ({ cls := "java/util/ArrayList", name := "clear", desc := "()V" } : Jvm.MethodName)) ∈ lw_tbl := lw_at lw_m4 211 rfl
theorem q979 : (Jvm.Cond.code ({ cls := "java/util/ArrayList", name := "clear", desc := "()V" } : Jvm.MethodName) prog_32_method_40_code (4 : Nat) (Option.none : Option Jvm.ClassFile.FieldType)) ∈ lw_all := lw_g (lw_at lw_m4 212 rfl) rfl
theorem q1474 : (Jvm.Cond.castable "java/util/ArrayList" "java/lang/Object") ∈ lw_tbl := lw_at lw_m6 227 rfl
def RJ3 : String := "java/util/ArrayDeque"
def TJ3 : u_T := fun k => match k with
  | 0 => ("java/util/ArrayDeque", "elements", "[Ljava/lang/Object;", false)
  | 1 => ("java/util/ArrayDeque", "head", "I", false)
  | _ => ("java/util/ArrayDeque", "tail", "I", false)
def tyJ3 : Nat → FieldType := fun k => match k with
  | 0 => .array (.object "java/lang/Object")
  | 1 => .int
  | _ => .int
abbrev wsJ30 : List Cond := u_ws RJ3 TJ3 3
theorem nmJ3 : ∀ a, a < 3 → ∀ b, b < 3 → a ≠ b → (TJ3 a).2.1 ≠ (TJ3 b).2.1 := by decide +kernel
theorem tyJ3_ok : ∀ k, k < 3 → parseFieldDescriptor (TJ3 k).2.2.1 = some (tyJ3 k) := by decide +kernel
abbrev cJ3_init : ByteArray := prog_31_method_3_code
def yJ3_init : MethodName := ⟨RJ3, "<init>", "()V"⟩
abbrev cJ3_addLast : ByteArray := prog_31_method_13_code
def yJ3_addLast : MethodName := ⟨RJ3, "addLast", "(Ljava/lang/Object;)V"⟩
abbrev cJ3_inc : ByteArray := prog_31_method_6_code
def yJ3_inc : MethodName := ⟨RJ3, "inc", "(II)I"⟩
abbrev cJ3_grow : ByteArray := prog_31_method_1_code
def yJ3_grow : MethodName := ⟨RJ3, "grow", "(I)V"⟩
abbrev cJ3_newCapacity : ByteArray := prog_31_method_2_code
def yJ3_newCapacity : MethodName := ⟨RJ3, "newCapacity", "(II)I"⟩
abbrev cJ3_size : ByteArray := prog_31_method_37_code
def yJ3_size : MethodName := ⟨RJ3, "size", "()I"⟩
abbrev cJ3_sub : ByteArray := prog_31_method_9_code
def yJ3_sub : MethodName := ⟨RJ3, "sub", "(III)I"⟩
abbrev cJ3_removeFirst : ByteArray := prog_31_method_18_code
def yJ3_removeFirst : MethodName := ⟨RJ3, "removeFirst", "()Ljava/lang/Object;"⟩
abbrev cJ3_pollFirst : ByteArray := prog_31_method_20_code
def yJ3_pollFirst : MethodName := ⟨RJ3, "pollFirst", "()Ljava/lang/Object;"⟩
abbrev cJ3_elementAt : ByteArray := prog_31_method_10_code
def yJ3_elementAt : MethodName := ⟨RJ3, "elementAt", "([Ljava/lang/Object;I)Ljava/lang/Object;"⟩
abbrev cJ3_isEmpty : ByteArray := prog_31_method_38_code
def yJ3_isEmpty : MethodName := ⟨RJ3, "isEmpty", "()Z"⟩
abbrev cJ3_removeLast : ByteArray := prog_31_method_19_code
def yJ3_removeLast : MethodName := ⟨RJ3, "removeLast", "()Ljava/lang/Object;"⟩
abbrev cJ3_pollLast : ByteArray := prog_31_method_21_code
def yJ3_pollLast : MethodName := ⟨RJ3, "pollLast", "()Ljava/lang/Object;"⟩
abbrev cJ3_dec : ByteArray := prog_31_method_7_code
def yJ3_dec : MethodName := ⟨RJ3, "dec", "(II)I"⟩
theorem q54 : (Jvm.Cond.initialized "java/util/ArrayDeque") ∈ lw_all := lw_g (lw_at lw_m1 7 rfl) rfl
theorem q159 : (Jvm.Cond.instantiable "java/util/ArrayDeque" (3 : Nat)) ∈ lw_all := lw_g (lw_at lw_m1 112 rfl) rfl
theorem q161 : (Jvm.Cond.instanceMethod ({ cls := "java/util/ArrayDeque", name := "<init>", desc := "()V" } : Jvm.MethodName)) ∈ lw_all := lw_g (lw_at lw_m1 114 rfl) rfl
theorem q162 : (Jvm.Cond.code ({ cls := "java/util/ArrayDeque", name := "<init>", desc := "()V" } : Jvm.MethodName) prog_31_method_3_code (1 : Nat) (Option.none : Option Jvm.ClassFile.FieldType)) ∈ lw_all := lw_g (lw_at lw_m1 115 rfl) rfl
theorem q163 : (Jvm.Cond.methodLink "java/util/ArrayDeque" (42 : Nat) ({ cls := "java/util/AbstractCollection", name := "<init>", desc := "()V" } : Jvm.MethodName)) ∈ lw_all := lw_g (lw_at lw_m1 116 rfl) rfl
theorem q164 : (Jvm.Cond.classLink "java/util/ArrayDeque" (47 : Nat) "java/lang/Object") ∈ lw_all := lw_g (lw_at lw_m1 117 rfl) rfl
theorem q166 : (Jvm.Cond.fieldLink "java/util/ArrayDeque" (3 : Nat) "java/util/ArrayDeque" "elements" "[Ljava/lang/Object;") ∈ lw_all := lw_g (lw_at lw_m1 119 rfl) rfl
theorem q167 : (Jvm.Cond.fieldLink "java/util/ArrayDeque" (24 : Nat) "java/util/ArrayDeque" "head" "I") ∈ lw_all := lw_g (lw_at lw_m1 120 rfl) rfl
theorem q168 : (Jvm.Cond.fieldLink "java/util/ArrayDeque" (20 : Nat) "java/util/ArrayDeque" "tail" "I") ∈ lw_all := lw_g (lw_at lw_m1 121 rfl) rfl
theorem q169 : (Jvm.Cond.lays "java/util/ArrayDeque" "java/util/ArrayDeque" "elements" "[Ljava/lang/Object;") ∈ lw_all := lw_g (lw_at lw_m1 122 rfl) rfl
theorem q170 : (Jvm.Cond.soleField "java/util/ArrayDeque" "elements") ∈ lw_all := lw_g (lw_at lw_m1 123 rfl) rfl
theorem q171 : (Jvm.Cond.lays "java/util/ArrayDeque" "java/util/ArrayDeque" "head" "I") ∈ lw_all := lw_g (lw_at lw_m1 124 rfl) rfl
theorem q172 : (Jvm.Cond.soleField "java/util/ArrayDeque" "head") ∈ lw_all := lw_g (lw_at lw_m1 125 rfl) rfl
theorem q173 : (Jvm.Cond.lays "java/util/ArrayDeque" "java/util/ArrayDeque" "tail" "I") ∈ lw_all := lw_g (lw_at lw_m1 126 rfl) rfl
theorem q174 : (Jvm.Cond.soleField "java/util/ArrayDeque" "tail") ∈ lw_all := lw_g (lw_at lw_m1 127 rfl) rfl
theorem q175 : (Jvm.Cond.superclass "java/util/ArrayDeque" "java/util/AbstractCollection") ∈ lw_all := lw_g (lw_at lw_m1 128 rfl) rfl
theorem q394 : (Jvm.Cond.selects "java/util/ArrayDeque" ({ cls := "java/lang/Object", name := "getClass", desc := "()Ljava/lang/Class;" } : Jvm.MethodName) ({ cls := "java/lang/Object", name := "getClass", desc := "()Ljava/lang/Class;" } : Jvm.MethodName)) ∈ lw_all := lw_g (lw_at lw_m2 107 rfl) rfl
theorem q595 : (Jvm.Cond.instanceMethod ({ cls := "java/util/ArrayDeque", name := "addLast", desc := "(Ljava/lang/Object;)V" } : Jvm.MethodName)) ∈ lw_all := lw_g (lw_at lw_m3 68 rfl) rfl
theorem q596 : (Jvm.Cond.selects "java/util/ArrayDeque" ({ cls := "java/util/ArrayDeque", name := "addLast", desc := "(Ljava/lang/Object;)V" } : Jvm.MethodName) ({ cls := "java/util/ArrayDeque", name := "addLast", desc := "(Ljava/lang/Object;)V" } : Jvm.MethodName)) ∈ lw_all := lw_g (lw_at lw_m3 69 rfl) rfl
theorem q597 : (Jvm.Cond.code ({ cls := "java/util/ArrayDeque", name := "addLast", desc := "(Ljava/lang/Object;)V" } : Jvm.MethodName) prog_31_method_13_code (3 : Nat) (Option.none : Option Jvm.ClassFile.FieldType)) ∈ lw_all := lw_g (lw_at lw_m3 70 rfl) rfl
theorem q598 : (Jvm.Cond.methodLink "java/util/ArrayDeque" (74 : Nat) ({ cls := "java/util/ArrayDeque", name := "inc", desc := "(II)I" } : Jvm.MethodName)) ∈ lw_all := lw_g (lw_at lw_m3 71 rfl) rfl
theorem q599 : (Jvm.Cond.static ({ cls := "java/util/ArrayDeque", name := "inc", desc := "(II)I" } : Jvm.MethodName)) ∈ lw_all := lw_g (lw_at lw_m3 72 rfl) rfl
theorem q600 : (Jvm.Cond.code ({ cls := "java/util/ArrayDeque", name := "inc", desc := "(II)I" } : Jvm.MethodName) prog_31_method_6_code (2 : Nat) (Option.some Jvm.ClassFile.FieldType.int)) ∈ lw_all := lw_g (lw_at lw_m3 73 rfl) rfl
theorem q601 : (Jvm.Cond.methodLink "java/util/ArrayDeque" (71 : Nat) ({ cls := "java/util/ArrayDeque", name := "grow", desc := "(I)V" } : Jvm.MethodName)) ∈ lw_all := lw_g (lw_at lw_m3 74 rfl) rfl
theorem q602 : (Jvm.Cond.privateMethod ({ cls := "java/util/ArrayDeque", name := "grow", desc := "(I)V" } : Jvm.MethodName)) ∈ lw_tbl := lw_at lw_m3 75 rfl
theorem q603 : (Jvm.Cond.instanceMethod ({ cls := "java/util/ArrayDeque", name := "grow", desc := "(I)V" } : Jvm.MethodName)) ∈ lw_all := lw_g (lw_at lw_m3 76 rfl) rfl
theorem q604 : (Jvm.Cond.code ({ cls := "java/util/ArrayDeque", name := "grow", desc := "(I)V" } : Jvm.MethodName) prog_31_method_1_code (9 : Nat) (Option.none : Option Jvm.ClassFile.FieldType)) ∈ lw_all := lw_g (lw_at lw_m3 77 rfl) rfl
theorem q605 : (Jvm.Cond.constant "java/util/ArrayDeque" (9 : Nat) (2147483639 : Int32)) ∈ lw_all := lw_g (lw_at lw_m3 78 rfl) rfl
theorem q606 : (Jvm.Cond.methodLink "java/util/ArrayDeque" (10 : Nat) ({ cls := "java/util/ArrayDeque", name := "newCapacity", desc := "(II)I" } : Jvm.MethodName)) ∈ lw_all := lw_g (lw_at lw_m3 79 rfl) rfl
theorem q607 : (Jvm.Cond.privateMethod ({ cls := "java/util/ArrayDeque", name := "newCapacity", desc := "(II)I" } : Jvm.MethodName)) ∈ lw_tbl := lw_at lw_m3 80 rfl
theorem q608 : (Jvm.Cond.instanceMethod ({ cls := "java/util/ArrayDeque", name := "newCapacity", desc := "(II)I" } : Jvm.MethodName)) ∈ lw_all := lw_g (lw_at lw_m3 81 rfl) rfl
theorem q609 : (Jvm.Cond.code ({ cls := "java/util/ArrayDeque", name := "newCapacity", desc := "(II)I" } : Jvm.MethodName) prog_31_method_2_code (5 : Nat) (Option.some Jvm.ClassFile.FieldType.int)) ∈ lw_all := lw_g (lw_at lw_m3 82 rfl) rfl
theorem q610 : (Jvm.Cond.constant "java/util/ArrayDeque" (41 : Nat) (2147483647 : Int32)) ∈ lw_all := lw_g (lw_at lw_m3 83 rfl) rfl
theorem q611 : (Jvm.Cond.methodLink "java/util/ArrayDeque" (14 : Nat) ({ cls := "java/util/Arrays", name := "copyOf", desc := "([Ljava/lang/Object;I)[Ljava/lang/Object;" } : Jvm.MethodName)) ∈ lw_all := lw_g (lw_at lw_m3 84 rfl) rfl
theorem q612 : (Jvm.Cond.methodLink "java/util/ArrayDeque" (27 : Nat) ({ cls := "java/lang/System", name := "arraycopy", desc := "(Ljava/lang/Object;ILjava/lang/Object;II)V" } : Jvm.MethodName)) ∈ lw_all := lw_g (lw_at lw_m3 85 rfl) rfl
theorem q614 : (Jvm.Cond.instanceMethod ({ cls := "java/util/ArrayDeque", name := "size", desc := "()I" } : Jvm.MethodName)) ∈ lw_all := lw_g (lw_at lw_m3 87 rfl) rfl
theorem q615 : (Jvm.Cond.selects "java/util/ArrayDeque" ({ cls := "java/util/ArrayDeque", name := "size", desc := "()I" } : Jvm.MethodName) ({ cls := "java/util/ArrayDeque", name := "size", desc := "()I" } : Jvm.MethodName)) ∈ lw_all := lw_g (lw_at lw_m3 88 rfl) rfl
theorem q616 : (Jvm.Cond.code ({ cls := "java/util/ArrayDeque", name := "size", desc := "()I" } : Jvm.MethodName) prog_31_method_37_code (1 : Nat) (Option.some Jvm.ClassFile.FieldType.int)) ∈ lw_all := lw_g (lw_at lw_m3 89 rfl) rfl
theorem q617 : (Jvm.Cond.methodLink "java/util/ArrayDeque" (127 : Nat) ({ cls := "java/util/ArrayDeque", name := "sub", desc := "(III)I" } : Jvm.MethodName)) ∈ lw_all := lw_g (lw_at lw_m3 90 rfl) rfl
theorem q618 : (Jvm.Cond.static ({ cls := "java/util/ArrayDeque", name := "sub", desc := "(III)I" } : Jvm.MethodName)) ∈ lw_all := lw_g (lw_at lw_m3 91 rfl) rfl
theorem q619 : (Jvm.Cond.code ({ cls := "java/util/ArrayDeque", name := "sub", desc := "(III)I" } : Jvm.MethodName) prog_31_method_9_code (3 : Nat) (Option.some Jvm.ClassFile.FieldType.int)) ∈ lw_all := lw_g (lw_at lw_m3 92 rfl) rfl
theorem q621 : (Jvm.Cond.instanceMethod ({ cls := "java/util/ArrayDeque", name := "removeFirst", desc := "()Ljava/lang/Object;" } : Jvm.MethodName)) ∈ lw_all := lw_g (lw_at lw_m3 94 rfl) rfl
theorem q622 : (Jvm.Cond.selects "java/util/ArrayDeque" ({ cls := "java/util/ArrayDeque", name := "removeFirst", desc := "()Ljava/lang/Object;" } : Jvm.MethodName) ({ cls := "java/util/ArrayDeque", name := "removeFirst", desc := "()Ljava/lang/Object;" } : Jvm.MethodName)) ∈ lw_all := lw_g (lw_at lw_m3 95 rfl) rfl
theorem q623 : (Jvm.Cond.code ({ cls := "java/util/ArrayDeque", name := "removeFirst", desc := "()Ljava/lang/Object;" } : Jvm.MethodName) prog_31_method_18_code (2 : Nat) (Option.some (Jvm.ClassFile.FieldType.object "java/lang/Object"))) ∈ lw_all := lw_g (lw_at lw_m3 96 rfl) rfl
theorem q624 : (Jvm.Cond.methodLink "java/util/ArrayDeque" (93 : Nat) ({ cls := "java/util/ArrayDeque", name := "pollFirst", desc := "()Ljava/lang/Object;" } : Jvm.MethodName)) ∈ lw_all := lw_g (lw_at lw_m3 97 rfl) rfl
theorem q625 : (Jvm.Cond.instanceMethod ({ cls := "java/util/ArrayDeque", name := "pollFirst", desc := "()Ljava/lang/Object;" } : Jvm.MethodName)) ∈ lw_all := lw_g (lw_at lw_m3 98 rfl) rfl
theorem q626 : (Jvm.Cond.selects "java/util/ArrayDeque" ({ cls := "java/util/ArrayDeque", name := "pollFirst", desc := "()Ljava/lang/Object;" } : Jvm.MethodName) ({ cls := "java/util/ArrayDeque", name := "pollFirst", desc := "()Ljava/lang/Object;" } : Jvm.MethodName)) ∈ lw_all := lw_g (lw_at lw_m3 99 rfl) rfl
theorem q627 : (Jvm.Cond.code ({ cls := "java/util/ArrayDeque", name := "pollFirst", desc := "()Ljava/lang/Object;" } : Jvm.MethodName) prog_31_method_20_code (4 : Nat) (Option.some (Jvm.ClassFile.FieldType.object "java/lang/Object"))) ∈ lw_all := lw_g (lw_at lw_m3 100 rfl) rfl
theorem q628 : (Jvm.Cond.methodLink "java/util/ArrayDeque" (103 : Nat) ({ cls := "java/util/ArrayDeque", name := "elementAt", desc := "([Ljava/lang/Object;I)Ljava/lang/Object;" } : Jvm.MethodName)) ∈ lw_all := lw_g (lw_at lw_m3 101 rfl) rfl
theorem q629 : (Jvm.Cond.static ({ cls := "java/util/ArrayDeque", name := "elementAt", desc := "([Ljava/lang/Object;I)Ljava/lang/Object;" } : Jvm.MethodName)) ∈ lw_all := lw_g (lw_at lw_m3 102 rfl) rfl
theorem q630 : (Jvm.Cond.code ({ cls := "java/util/ArrayDeque", name := "elementAt", desc := "([Ljava/lang/Object;I)Ljava/lang/Object;" } : Jvm.MethodName) prog_31_method_10_code (2 : Nat) (Option.some (Jvm.ClassFile.FieldType.object "java/lang/Object"))) ∈ lw_all := lw_g (lw_at lw_m3 103 rfl) rfl
theorem q1088 : (Jvm.Cond.instanceMethod ({ cls := "java/util/ArrayDeque", name := "isEmpty", desc := "()Z" } : Jvm.MethodName)) ∈ lw_all := lw_g (lw_at lw_m5 81 rfl) rfl
theorem q1089 : (Jvm.Cond.selects "java/util/ArrayDeque" ({ cls := "java/util/ArrayDeque", name := "isEmpty", desc := "()Z" } : Jvm.MethodName) ({ cls := "java/util/ArrayDeque", name := "isEmpty", desc := "()Z" } : Jvm.MethodName)) ∈ lw_all := lw_g (lw_at lw_m5 82 rfl) rfl
theorem q1090 : (Jvm.Cond.code ({ cls := "java/util/ArrayDeque", name := "isEmpty", desc := "()Z" } : Jvm.MethodName) prog_31_method_38_code (1 : Nat) (Option.some Jvm.ClassFile.FieldType.boolean)) ∈ lw_all := lw_g (lw_at lw_m5 83 rfl) rfl
theorem q1092 : (Jvm.Cond.instanceMethod ({ cls := "java/util/ArrayDeque", name := "removeLast", desc := "()Ljava/lang/Object;" } : Jvm.MethodName)) ∈ lw_all := lw_g (lw_at lw_m5 85 rfl) rfl
theorem q1093 : (Jvm.Cond.selects "java/util/ArrayDeque" ({ cls := "java/util/ArrayDeque", name := "removeLast", desc := "()Ljava/lang/Object;" } : Jvm.MethodName) ({ cls := "java/util/ArrayDeque", name := "removeLast", desc := "()Ljava/lang/Object;" } : Jvm.MethodName)) ∈ lw_all := lw_g (lw_at lw_m5 86 rfl) rfl
theorem q1094 : (Jvm.Cond.code ({ cls := "java/util/ArrayDeque", name := "removeLast", desc := "()Ljava/lang/Object;" } : Jvm.MethodName) prog_31_method_19_code (2 : Nat) (Option.some (Jvm.ClassFile.FieldType.object "java/lang/Object"))) ∈ lw_all := lw_g (lw_at lw_m5 87 rfl) rfl
theorem q1095 : (Jvm.Cond.methodLink "java/util/ArrayDeque" (100 : Nat) ({ cls := "java/util/ArrayDeque", name := "pollLast", desc := "()Ljava/lang/Object;" } : Jvm.MethodName)) ∈ lw_all := lw_g (lw_at lw_m5 88 rfl) rfl
theorem q1096 : (Jvm.Cond.instanceMethod ({ cls := "java/util/ArrayDeque", name := "pollLast", desc := "()Ljava/lang/Object;" } : Jvm.MethodName)) ∈ lw_all := lw_g (lw_at lw_m5 89 rfl) rfl
theorem q1097 : (Jvm.Cond.selects "java/util/ArrayDeque" ({ cls := "java/util/ArrayDeque", name := "pollLast", desc := "()Ljava/lang/Object;" } : Jvm.MethodName) ({ cls := "java/util/ArrayDeque", name := "pollLast", desc := "()Ljava/lang/Object;" } : Jvm.MethodName)) ∈ lw_all := lw_g (lw_at lw_m5 90 rfl) rfl
theorem q1098 : (Jvm.Cond.code ({ cls := "java/util/ArrayDeque", name := "pollLast", desc := "()Ljava/lang/Object;" } : Jvm.MethodName) prog_31_method_21_code (4 : Nat) (Option.some (Jvm.ClassFile.FieldType.object "java/lang/Object"))) ∈ lw_all := lw_g (lw_at lw_m5 91 rfl) rfl
theorem q1099 : (Jvm.Cond.methodLink "java/util/ArrayDeque" (68 : Nat) ({ cls := "java/util/ArrayDeque", name := "dec", desc := "(II)I" } : Jvm.MethodName)) ∈ lw_all := lw_g (lw_at lw_m5 92 rfl) rfl
theorem q1100 : (Jvm.Cond.static ({ cls := "java/util/ArrayDeque", name := "dec", desc := "(II)I" } : Jvm.MethodName)) ∈ lw_all := lw_g (lw_at lw_m5 93 rfl) rfl
theorem q1101 : (Jvm.Cond.code ({ cls := "java/util/ArrayDeque", name := "dec", desc := "(II)I" } : Jvm.MethodName) prog_31_method_7_code (2 : Nat) (Option.some Jvm.ClassFile.FieldType.int)) ∈ lw_all := lw_g (lw_at lw_m5 94 rfl) rfl
theorem q1475 : (Jvm.Cond.castable "java/util/ArrayDeque" "java/lang/Object") ∈ lw_tbl := lw_at lw_m6 228 rfl
def RJ4 : String := "java/lang/AbstractStringBuilder"
abbrev cJ4_init : ByteArray := prog_15_method_2_code
def yJ4_init : MethodName := ⟨RJ4, "<init>", "(I)V"⟩
abbrev cJ4_length : ByteArray := prog_15_method_6_code
def yJ4_length : MethodName := ⟨RJ4, "length", "()I"⟩
abbrev cJ4_charAt : ByteArray := prog_15_method_14_code
def yJ4_charAt : MethodName := ⟨RJ4, "charAt", "(I)C"⟩
abbrev cJ4_append : ByteArray := prog_15_method_31_code
def yJ4_append : MethodName := ⟨RJ4, "append", "(C)Ljava/lang/AbstractStringBuilder;"⟩
abbrev cJ4_ensureCapacityInternal : ByteArray := prog_15_method_9_code
def yJ4_ensureCapacityInternal : MethodName := ⟨RJ4, "ensureCapacityInternal", "(I)V"⟩
abbrev cJ4_newCapacity : ByteArray := prog_15_method_10_code
def yJ4_newCapacity : MethodName := ⟨RJ4, "newCapacity", "(I)I"⟩
abbrev cJ4_isLatin1 : ByteArray := prog_15_method_68_code
def yJ4_isLatin1 : MethodName := ⟨RJ4, "isLatin1", "()Z"⟩
abbrev cJ4_inflate : ByteArray := prog_15_method_11_code
def yJ4_inflate : MethodName := ⟨RJ4, "inflate", "()V"⟩
abbrev cJ4_setLength : ByteArray := prog_15_method_13_code
def yJ4_setLength : MethodName := ⟨RJ4, "setLength", "(I)V"⟩
theorem q55 : (Jvm.Cond.initialized "java/lang/AbstractStringBuilder") ∈ lw_all := lw_g (lw_at lw_m1 8 rfl) rfl
theorem q182 : (Jvm.Cond.instanceMethod ({ cls := "java/lang/AbstractStringBuilder", name := "<init>", desc := "(I)V" } : Jvm.MethodName)) ∈ lw_all := lw_g (lw_at lw_m1 135 rfl) rfl
theorem q183 : (Jvm.Cond.code ({ cls := "java/lang/AbstractStringBuilder", name := "<init>", desc := "(I)V" } : Jvm.MethodName) prog_15_method_2_code (2 : Nat) (Option.none : Option Jvm.ClassFile.FieldType)) ∈ lw_all := lw_g (lw_at lw_m1 136 rfl) rfl
theorem q184 : (Jvm.Cond.methodLink "java/lang/AbstractStringBuilder" (3 : Nat) ({ cls := "java/lang/Object", name := "<init>", desc := "()V" } : Jvm.MethodName)) ∈ lw_all := lw_g (lw_at lw_m1 137 rfl) rfl
theorem q185 : (Jvm.Cond.fieldLink "java/lang/AbstractStringBuilder" (18 : Nat) "java/lang/String" "COMPACT_STRINGS" "Z") ∈ lw_all := lw_g (lw_at lw_m1 138 rfl) rfl
theorem q187 : (Jvm.Cond.methodLink "java/lang/AbstractStringBuilder" (26 : Nat) ({ cls := "java/lang/StringUTF16", name := "newBytesFor", desc := "(I)[B" } : Jvm.MethodName)) ∈ lw_all := lw_g (lw_at lw_m1 140 rfl) rfl
theorem q194 : (Jvm.Cond.fieldLink "java/lang/AbstractStringBuilder" (15 : Nat) "java/lang/AbstractStringBuilder" "value" "[B") ∈ lw_all := lw_g (lw_at lw_m1 147 rfl) rfl
theorem q195 : (Jvm.Cond.fieldLink "java/lang/AbstractStringBuilder" (22 : Nat) "java/lang/AbstractStringBuilder" "coder" "B") ∈ lw_all := lw_g (lw_at lw_m1 148 rfl) rfl
theorem q196 : (Jvm.Cond.fieldLink "java/lang/AbstractStringBuilder" (73 : Nat) "java/lang/AbstractStringBuilder" "maybeLatin1" "Z") ∈ lw_all := lw_g (lw_at lw_m1 149 rfl) rfl
theorem q197 : (Jvm.Cond.fieldLink "java/lang/AbstractStringBuilder" (79 : Nat) "java/lang/AbstractStringBuilder" "count" "I") ∈ lw_all := lw_g (lw_at lw_m1 150 rfl) rfl
theorem q199 : (Jvm.Cond.soleField "java/lang/AbstractStringBuilder" "value") ∈ lw_all := lw_g (lw_at lw_m1 152 rfl) rfl
theorem q201 : (Jvm.Cond.soleField "java/lang/AbstractStringBuilder" "coder") ∈ lw_all := lw_g (lw_at lw_m1 154 rfl) rfl
theorem q203 : (Jvm.Cond.soleField "java/lang/AbstractStringBuilder" "maybeLatin1") ∈ lw_all := lw_g (lw_at lw_m1 156 rfl) rfl
theorem q205 : (Jvm.Cond.soleField "java/lang/AbstractStringBuilder" "count") ∈ lw_all := lw_g (lw_at lw_m1 158 rfl) rfl
theorem q827 : (Jvm.Cond.instanceMethod ({ cls := "java/lang/AbstractStringBuilder", name := "length", desc := "()I" } : Jvm.MethodName)) ∈ lw_all := lw_g (lw_at lw_m4 60 rfl) rfl
theorem q828 : (Jvm.Cond.code ({ cls := "java/lang/AbstractStringBuilder", name := "length", desc := "()I" } : Jvm.MethodName) prog_15_method_6_code (1 : Nat) (Option.some Jvm.ClassFile.FieldType.int)) ∈ lw_all := lw_g (lw_at lw_m4 61 rfl) rfl
theorem q839 : (Jvm.Cond.instanceMethod ({ cls := "java/lang/AbstractStringBuilder", name := "charAt", desc := "(I)C" } : Jvm.MethodName)) ∈ lw_all := lw_g (lw_at lw_m4 72 rfl) rfl
theorem q840 : (Jvm.Cond.code ({ cls := "java/lang/AbstractStringBuilder", name := "charAt", desc := "(I)C" } : Jvm.MethodName) prog_15_method_14_code (5 : Nat) (Option.some Jvm.ClassFile.FieldType.char)) ∈ lw_all := lw_g (lw_at lw_m4 73 rfl) rfl
theorem q841 : (Jvm.Cond.methodLink "java/lang/AbstractStringBuilder" (138 : Nat) ({ cls := "java/lang/Math", name := "min", desc := "(II)I" } : Jvm.MethodName)) ∈ lw_all := lw_g (lw_at lw_m4 74 rfl) rfl
theorem q842 : (Jvm.Cond.methodLink "java/lang/AbstractStringBuilder" (144 : Nat) ({ cls := "java/lang/String", name := "checkIndex", desc := "(II)V" } : Jvm.MethodName)) ∈ lw_all := lw_g (lw_at lw_m4 75 rfl) rfl
theorem q848 : (Jvm.Cond.methodLink "java/lang/AbstractStringBuilder" (148 : Nat) ({ cls := "java/lang/StringUTF16", name := "getChar", desc := "([BI)C" } : Jvm.MethodName)) ∈ lw_all := lw_g (lw_at lw_m4 81 rfl) rfl
theorem q1000 : (Jvm.Cond.instanceMethod ({ cls := "java/lang/AbstractStringBuilder", name := "append", desc := "(C)Ljava/lang/AbstractStringBuilder;" } : Jvm.MethodName)) ∈ lw_all := lw_g (lw_at lw_m4 233 rfl) rfl
theorem q1001 : (Jvm.Cond.code ({ cls := "java/lang/AbstractStringBuilder", name := "append", desc := "(C)Ljava/lang/AbstractStringBuilder;" } : Jvm.MethodName) prog_15_method_31_code (2 : Nat) (Option.some (Jvm.ClassFile.FieldType.object "java/lang/AbstractStringBuilder"))) ∈ lw_all := lw_g (lw_at lw_m4 234 rfl) rfl
theorem q1002 : (Jvm.Cond.methodLink "java/lang/AbstractStringBuilder" (100 : Nat) ({ cls := "java/lang/AbstractStringBuilder", name := "ensureCapacityInternal", desc := "(I)V" } : Jvm.MethodName)) ∈ lw_all := lw_g (lw_at lw_m4 235 rfl) rfl
theorem q1003 : (Jvm.Cond.privateMethod ({ cls := "java/lang/AbstractStringBuilder", name := "ensureCapacityInternal", desc := "(I)V" } : Jvm.MethodName)) ∈ lw_tbl := lw_at lw_m4 236 rfl
theorem q1004 : (Jvm.Cond.instanceMethod ({ cls := "java/lang/AbstractStringBuilder", name := "ensureCapacityInternal", desc := "(I)V" } : Jvm.MethodName)) ∈ lw_all := lw_g (lw_at lw_m4 237 rfl) rfl
theorem q1005 : (Jvm.Cond.code ({ cls := "java/lang/AbstractStringBuilder", name := "ensureCapacityInternal", desc := "(I)V" } : Jvm.MethodName) prog_15_method_9_code (3 : Nat) (Option.none : Option Jvm.ClassFile.FieldType)) ∈ lw_all := lw_g (lw_at lw_m4 238 rfl) rfl
theorem q1006 : (Jvm.Cond.methodLink "java/lang/AbstractStringBuilder" (104 : Nat) ({ cls := "java/lang/AbstractStringBuilder", name := "newCapacity", desc := "(I)I" } : Jvm.MethodName)) ∈ lw_all := lw_g (lw_at lw_m4 239 rfl) rfl
theorem q1007 : (Jvm.Cond.privateMethod ({ cls := "java/lang/AbstractStringBuilder", name := "newCapacity", desc := "(I)I" } : Jvm.MethodName)) ∈ lw_tbl := lw_at lw_m5 0 rfl
theorem q1008 : (Jvm.Cond.instanceMethod ({ cls := "java/lang/AbstractStringBuilder", name := "newCapacity", desc := "(I)I" } : Jvm.MethodName)) ∈ lw_all := lw_g (lw_at lw_m5 1 rfl) rfl
theorem q1009 : (Jvm.Cond.code ({ cls := "java/lang/AbstractStringBuilder", name := "newCapacity", desc := "(I)I" } : Jvm.MethodName) prog_15_method_10_code (6 : Nat) (Option.some Jvm.ClassFile.FieldType.int)) ∈ lw_all := lw_g (lw_at lw_m5 2 rfl) rfl
theorem q1010 : (Jvm.Cond.methodLink "java/lang/AbstractStringBuilder" (114 : Nat) ({ cls := "jdk/internal/util/ArraysSupport", name := "newLength", desc := "(III)I" } : Jvm.MethodName)) ∈ lw_all := lw_g (lw_at lw_m5 3 rfl) rfl
theorem q1011 : (Jvm.Cond.constant "java/lang/AbstractStringBuilder" (39 : Nat) (2147483647 : Int32)) ∈ lw_all := lw_g (lw_at lw_m5 4 rfl) rfl
theorem q1012 : (Jvm.Cond.methodLink "java/lang/AbstractStringBuilder" (108 : Nat) ({ cls := "java/util/Arrays", name := "copyOf", desc := "([BI)[B" } : Jvm.MethodName)) ∈ lw_all := lw_g (lw_at lw_m5 5 rfl) rfl
theorem q1022 : (Jvm.Cond.methodLink "java/lang/AbstractStringBuilder" (83 : Nat) ({ cls := "java/lang/AbstractStringBuilder", name := "isLatin1", desc := "()Z" } : Jvm.MethodName)) ∈ lw_all := lw_g (lw_at lw_m5 15 rfl) rfl
theorem q1023 : (Jvm.Cond.instanceMethod ({ cls := "java/lang/AbstractStringBuilder", name := "isLatin1", desc := "()Z" } : Jvm.MethodName)) ∈ lw_all := lw_g (lw_at lw_m5 16 rfl) rfl
theorem q1024 : (Jvm.Cond.sameMethod "java/lang/AbstractStringBuilder" "java/lang/AbstractStringBuilder" "isLatin1" "()Z") ∈ lw_all := lw_g (lw_at lw_m5 17 rfl) rfl
theorem q1026 : (Jvm.Cond.code ({ cls := "java/lang/AbstractStringBuilder", name := "isLatin1", desc := "()Z" } : Jvm.MethodName) prog_15_method_68_code (1 : Nat) (Option.some Jvm.ClassFile.FieldType.boolean)) ∈ lw_all := lw_g (lw_at lw_m5 19 rfl) rfl
theorem q1027 : (Jvm.Cond.methodLink "java/lang/AbstractStringBuilder" (191 : Nat) ({ cls := "java/lang/StringLatin1", name := "canEncode", desc := "(C)Z" } : Jvm.MethodName)) ∈ lw_all := lw_g (lw_at lw_m5 20 rfl) rfl
theorem q1030 : (Jvm.Cond.methodLink "java/lang/AbstractStringBuilder" (195 : Nat) ({ cls := "java/lang/AbstractStringBuilder", name := "inflate", desc := "()V" } : Jvm.MethodName)) ∈ lw_all := lw_g (lw_at lw_m5 23 rfl) rfl
theorem q1031 : (Jvm.Cond.privateMethod ({ cls := "java/lang/AbstractStringBuilder", name := "inflate", desc := "()V" } : Jvm.MethodName)) ∈ lw_tbl := lw_at lw_m5 24 rfl
theorem q1032 : (Jvm.Cond.instanceMethod ({ cls := "java/lang/AbstractStringBuilder", name := "inflate", desc := "()V" } : Jvm.MethodName)) ∈ lw_all := lw_g (lw_at lw_m5 25 rfl) rfl
theorem q1033 : (Jvm.Cond.code ({ cls := "java/lang/AbstractStringBuilder", name := "inflate", desc := "()V" } : Jvm.MethodName) prog_15_method_11_code (2 : Nat) (Option.none : Option Jvm.ClassFile.FieldType)) ∈ lw_all := lw_g (lw_at lw_m5 26 rfl) rfl
theorem q1034 : (Jvm.Cond.methodLink "java/lang/AbstractStringBuilder" (125 : Nat) ({ cls := "java/lang/StringLatin1", name := "inflate", desc := "([BI[BII)V" } : Jvm.MethodName)) ∈ lw_all := lw_g (lw_at lw_m5 27 rfl) rfl
theorem q1052 : (Jvm.Cond.methodLink "java/lang/AbstractStringBuilder" (197 : Nat) ({ cls := "java/lang/StringUTF16", name := "putCharSB", desc := "([BII)V" } : Jvm.MethodName)) ∈ lw_all := lw_g (lw_at lw_m5 45 rfl) rfl
theorem q1068 : (Jvm.Cond.instanceMethod ({ cls := "java/lang/AbstractStringBuilder", name := "setLength", desc := "(I)V" } : Jvm.MethodName)) ∈ lw_all := lw_g (lw_at lw_m5 61 rfl) rfl
theorem q1069 : (Jvm.Cond.code ({ cls := "java/lang/AbstractStringBuilder", name := "setLength", desc := "(I)V" } : Jvm.MethodName) prog_15_method_13_code (2 : Nat) (Option.none : Option Jvm.ClassFile.FieldType)) ∈ lw_all := lw_g (lw_at lw_m5 62 rfl) rfl
theorem q1070 : (Jvm.Cond.methodLink "java/lang/AbstractStringBuilder" (133 : Nat) ({ cls := "java/lang/StringLatin1", name := "fillNull", desc := "([BII)V" } : Jvm.MethodName)) ∈ lw_all := lw_g (lw_at lw_m5 63 rfl) rfl
theorem q1079 : (Jvm.Cond.methodLink "java/lang/AbstractStringBuilder" (137 : Nat) ({ cls := "java/lang/StringUTF16", name := "fillNull", desc := "([BII)V" } : Jvm.MethodName)) ∈ lw_all := lw_g (lw_at lw_m5 72 rfl) rfl
theorem q1459 : (Jvm.Cond.sameMethod "java/lang/AbstractStringBuilder" "java/lang/AbstractStringBuilder" "length" "()I") ∈ lw_all := lw_g (lw_at lw_m6 212 rfl) rfl
theorem q1460 : (Jvm.Cond.sameMethod "java/lang/AbstractStringBuilder" "java/lang/AbstractStringBuilder" "charAt" "(I)C") ∈ lw_all := lw_g (lw_at lw_m6 213 rfl) rfl
theorem q1463 : (Jvm.Cond.sameMethod "java/lang/AbstractStringBuilder" "java/lang/AbstractStringBuilder" "append" "(C)Ljava/lang/AbstractStringBuilder;") ∈ lw_all := lw_g (lw_at lw_m6 216 rfl) rfl
theorem q1464 : (Jvm.Cond.sameMethod "java/lang/AbstractStringBuilder" "java/lang/AbstractStringBuilder" "ensureCapacityInternal" "(I)V") ∈ lw_all := lw_g (lw_at lw_m6 217 rfl) rfl
theorem q1465 : (Jvm.Cond.sameMethod "java/lang/AbstractStringBuilder" "java/lang/AbstractStringBuilder" "newCapacity" "(I)I") ∈ lw_all := lw_g (lw_at lw_m6 218 rfl) rfl
theorem q1466 : (Jvm.Cond.sameMethod "java/lang/AbstractStringBuilder" "java/lang/AbstractStringBuilder" "inflate" "()V") ∈ lw_all := lw_g (lw_at lw_m6 219 rfl) rfl
theorem q1467 : (Jvm.Cond.sameMethod "java/lang/AbstractStringBuilder" "java/lang/AbstractStringBuilder" "setLength" "(I)V") ∈ lw_all := lw_g (lw_at lw_m6 220 rfl) rfl
def RJ5 : String := "java/lang/StringBuilder"
def TJ5 : u_T := fun k => match k with
  | 0 => ("java/lang/AbstractStringBuilder", "value", "[B", false)
  | 1 => ("java/lang/AbstractStringBuilder", "coder", "B", false)
  | 2 => ("java/lang/AbstractStringBuilder", "maybeLatin1", "Z", false)
  | _ => ("java/lang/AbstractStringBuilder", "count", "I", false)
def tyJ5 : Nat → FieldType := fun k => match k with
  | 0 => .array .byte
  | 1 => .byte
  | 2 => .boolean
  | _ => .int
abbrev wsJ50 : List Cond := u_ws RJ5 TJ5 4
theorem nmJ5 : ∀ a, a < 4 → ∀ b, b < 4 → a ≠ b → (TJ5 a).2.1 ≠ (TJ5 b).2.1 := by decide +kernel
theorem tyJ5_ok : ∀ k, k < 4 → parseFieldDescriptor (TJ5 k).2.2.1 = some (tyJ5 k) := by decide +kernel
abbrev cJ5_init : ByteArray := prog_24_method_2_code
def yJ5_init : MethodName := ⟨RJ5, "<init>", "(I)V"⟩
abbrev cJ5_length : ByteArray := prog_24_method_93_code
def yJ5_length : MethodName := ⟨RJ5, "length", "()I"⟩
abbrev cJ5_charAt : ByteArray := prog_24_method_88_code
def yJ5_charAt : MethodName := ⟨RJ5, "charAt", "(I)C"⟩
abbrev cJ5_append : ByteArray := prog_24_method_14_code
def yJ5_append : MethodName := ⟨RJ5, "append", "(C)Ljava/lang/StringBuilder;"⟩
abbrev cJ5_setLength : ByteArray := prog_24_method_89_code
def yJ5_setLength : MethodName := ⟨RJ5, "setLength", "(I)V"⟩
theorem q56 : (Jvm.Cond.initialized "java/lang/StringBuilder") ∈ lw_all := lw_g (lw_at lw_m1 9 rfl) rfl
theorem q177 : (Jvm.Cond.instantiable "java/lang/StringBuilder" (4 : Nat)) ∈ lw_all := lw_g (lw_at lw_m1 130 rfl) rfl
theorem q179 : (Jvm.Cond.instanceMethod ({ cls := "java/lang/StringBuilder", name := "<init>", desc := "(I)V" } : Jvm.MethodName)) ∈ lw_all := lw_g (lw_at lw_m1 132 rfl) rfl
theorem q180 : (Jvm.Cond.code ({ cls := "java/lang/StringBuilder", name := "<init>", desc := "(I)V" } : Jvm.MethodName) prog_24_method_2_code (2 : Nat) (Option.none : Option Jvm.ClassFile.FieldType)) ∈ lw_all := lw_g (lw_at lw_m1 133 rfl) rfl
theorem q181 : (Jvm.Cond.methodLink "java/lang/StringBuilder" (1 : Nat) ({ cls := "java/lang/AbstractStringBuilder", name := "<init>", desc := "(I)V" } : Jvm.MethodName)) ∈ lw_all := lw_g (lw_at lw_m1 134 rfl) rfl
theorem q198 : (Jvm.Cond.lays "java/lang/StringBuilder" "java/lang/AbstractStringBuilder" "value" "[B") ∈ lw_all := lw_g (lw_at lw_m1 151 rfl) rfl
theorem q200 : (Jvm.Cond.lays "java/lang/StringBuilder" "java/lang/AbstractStringBuilder" "coder" "B") ∈ lw_all := lw_g (lw_at lw_m1 153 rfl) rfl
theorem q202 : (Jvm.Cond.lays "java/lang/StringBuilder" "java/lang/AbstractStringBuilder" "maybeLatin1" "Z") ∈ lw_all := lw_g (lw_at lw_m1 155 rfl) rfl
theorem q204 : (Jvm.Cond.lays "java/lang/StringBuilder" "java/lang/AbstractStringBuilder" "count" "I") ∈ lw_all := lw_g (lw_at lw_m1 157 rfl) rfl
theorem q206 : (Jvm.Cond.superclass "java/lang/StringBuilder" "java/lang/AbstractStringBuilder") ∈ lw_all := lw_g (lw_at lw_m1 159 rfl) rfl
theorem q393 : (Jvm.Cond.selects "java/lang/StringBuilder" ({ cls := "java/lang/Object", name := "getClass", desc := "()Ljava/lang/Class;" } : Jvm.MethodName) ({ cls := "java/lang/Object", name := "getClass", desc := "()Ljava/lang/Class;" } : Jvm.MethodName)) ∈ lw_all := lw_g (lw_at lw_m2 106 rfl) rfl
theorem q685 : (Jvm.Cond.selects "java/lang/StringBuilder" ({ cls := "java/lang/Object", name := "equals", desc := "(Ljava/lang/Object;)Z" } : Jvm.MethodName) ({ cls := "java/lang/Object", name := "equals", desc := "(Ljava/lang/Object;)Z" } : Jvm.MethodName)) ∈ lw_all := lw_g (lw_at lw_m3 158 rfl) rfl
theorem q820 : (Jvm.Cond.castable "java/lang/StringBuilder" "java/lang/CharSequence") ∈ lw_tbl := lw_at lw_m4 53 rfl
theorem q821 : (Jvm.Cond.selects "java/lang/StringBuilder" ({ cls := "java/lang/CharSequence", name := "length", desc := "()I" } : Jvm.MethodName) ({ cls := "java/lang/StringBuilder", name := "length", desc := "()I" } : Jvm.MethodName)) ∈ lw_all := lw_g (lw_at lw_m4 54 rfl) rfl
theorem q822 : (Jvm.Cond.unhidden "java/lang/StringBuilder" "length" "()I") ∈ lw_tbl := lw_at lw_m4 55 rfl
theorem q823 : (Jvm.Cond.instanceMethod ({ cls := "java/lang/StringBuilder", name := "length", desc := "()I" } : Jvm.MethodName)) ∈ lw_all := lw_g (lw_at lw_m4 56 rfl) rfl
theorem q824 : (Jvm.Cond.publicMethod ({ cls := "java/lang/StringBuilder", name := "length", desc := "()I" } : Jvm.MethodName)) ∈ lw_tbl := lw_at lw_m4 57 rfl
theorem q825 : (Jvm.Cond.code ({ cls := "java/lang/StringBuilder", name := "length", desc := "()I" } : Jvm.MethodName) prog_24_method_93_code (1 : Nat) (Option.some Jvm.ClassFile.FieldType.int)) ∈ lw_all := lw_g (lw_at lw_m4 58 rfl) rfl
theorem q826 : (Jvm.Cond.methodLink "java/lang/StringBuilder" (343 : Nat) ({ cls := "java/lang/AbstractStringBuilder", name := "length", desc := "()I" } : Jvm.MethodName)) ∈ lw_all := lw_g (lw_at lw_m4 59 rfl) rfl
theorem q833 : (Jvm.Cond.selects "java/lang/StringBuilder" ({ cls := "java/lang/CharSequence", name := "charAt", desc := "(I)C" } : Jvm.MethodName) ({ cls := "java/lang/StringBuilder", name := "charAt", desc := "(I)C" } : Jvm.MethodName)) ∈ lw_all := lw_g (lw_at lw_m4 66 rfl) rfl
theorem q834 : (Jvm.Cond.unhidden "java/lang/StringBuilder" "charAt" "(I)C") ∈ lw_tbl := lw_at lw_m4 67 rfl
theorem q835 : (Jvm.Cond.instanceMethod ({ cls := "java/lang/StringBuilder", name := "charAt", desc := "(I)C" } : Jvm.MethodName)) ∈ lw_all := lw_g (lw_at lw_m4 68 rfl) rfl
theorem q836 : (Jvm.Cond.publicMethod ({ cls := "java/lang/StringBuilder", name := "charAt", desc := "(I)C" } : Jvm.MethodName)) ∈ lw_tbl := lw_at lw_m4 69 rfl
theorem q837 : (Jvm.Cond.code ({ cls := "java/lang/StringBuilder", name := "charAt", desc := "(I)C" } : Jvm.MethodName) prog_24_method_88_code (2 : Nat) (Option.some Jvm.ClassFile.FieldType.char)) ∈ lw_all := lw_g (lw_at lw_m4 70 rfl) rfl
theorem q838 : (Jvm.Cond.methodLink "java/lang/StringBuilder" (329 : Nat) ({ cls := "java/lang/AbstractStringBuilder", name := "charAt", desc := "(I)C" } : Jvm.MethodName)) ∈ lw_all := lw_g (lw_at lw_m4 71 rfl) rfl
theorem q996 : (Jvm.Cond.instanceMethod ({ cls := "java/lang/StringBuilder", name := "append", desc := "(C)Ljava/lang/StringBuilder;" } : Jvm.MethodName)) ∈ lw_all := lw_g (lw_at lw_m4 229 rfl) rfl
theorem q997 : (Jvm.Cond.selects "java/lang/StringBuilder" ({ cls := "java/lang/StringBuilder", name := "append", desc := "(C)Ljava/lang/StringBuilder;" } : Jvm.MethodName) ({ cls := "java/lang/StringBuilder", name := "append", desc := "(C)Ljava/lang/StringBuilder;" } : Jvm.MethodName)) ∈ lw_all := lw_g (lw_at lw_m4 230 rfl) rfl
theorem q998 : (Jvm.Cond.code ({ cls := "java/lang/StringBuilder", name := "append", desc := "(C)Ljava/lang/StringBuilder;" } : Jvm.MethodName) prog_24_method_14_code (2 : Nat) (Option.some (Jvm.ClassFile.FieldType.object "java/lang/StringBuilder"))) ∈ lw_all := lw_g (lw_at lw_m4 231 rfl) rfl
theorem q999 : (Jvm.Cond.methodLink "java/lang/StringBuilder" (50 : Nat) ({ cls := "java/lang/AbstractStringBuilder", name := "append", desc := "(C)Ljava/lang/AbstractStringBuilder;" } : Jvm.MethodName)) ∈ lw_all := lw_g (lw_at lw_m4 232 rfl) rfl
theorem q1025 : (Jvm.Cond.selects "java/lang/StringBuilder" ({ cls := "java/lang/AbstractStringBuilder", name := "isLatin1", desc := "()Z" } : Jvm.MethodName) ({ cls := "java/lang/AbstractStringBuilder", name := "isLatin1", desc := "()Z" } : Jvm.MethodName)) ∈ lw_all := lw_g (lw_at lw_m5 18 rfl) rfl
theorem q1064 : (Jvm.Cond.instanceMethod ({ cls := "java/lang/StringBuilder", name := "setLength", desc := "(I)V" } : Jvm.MethodName)) ∈ lw_all := lw_g (lw_at lw_m5 57 rfl) rfl
theorem q1065 : (Jvm.Cond.selects "java/lang/StringBuilder" ({ cls := "java/lang/StringBuilder", name := "setLength", desc := "(I)V" } : Jvm.MethodName) ({ cls := "java/lang/StringBuilder", name := "setLength", desc := "(I)V" } : Jvm.MethodName)) ∈ lw_all := lw_g (lw_at lw_m5 58 rfl) rfl
theorem q1066 : (Jvm.Cond.code ({ cls := "java/lang/StringBuilder", name := "setLength", desc := "(I)V" } : Jvm.MethodName) prog_24_method_89_code (2 : Nat) (Option.none : Option Jvm.ClassFile.FieldType)) ∈ lw_all := lw_g (lw_at lw_m5 59 rfl) rfl
theorem q1067 : (Jvm.Cond.methodLink "java/lang/StringBuilder" (333 : Nat) ({ cls := "java/lang/AbstractStringBuilder", name := "setLength", desc := "(I)V" } : Jvm.MethodName)) ∈ lw_all := lw_g (lw_at lw_m5 60 rfl) rfl
theorem q1462 : (Jvm.Cond.selects "java/lang/StringBuilder" ({ cls := "java/lang/StringBuilder", name := "length", desc := "()I" } : Jvm.MethodName) ({ cls := "java/lang/StringBuilder", name := "length", desc := "()I" } : Jvm.MethodName)) ∈ lw_all := lw_g (lw_at lw_m6 215 rfl) rfl
theorem q1476 : (Jvm.Cond.castable "java/lang/StringBuilder" "java/lang/Object") ∈ lw_tbl := lw_at lw_m6 229 rfl
def RJ6 : String := "java/lang/String"
abbrev cJ6_checkIndex : ByteArray := prog_23_method_155_code
def yJ6_checkIndex : MethodName := ⟨RJ6, "checkIndex", "(II)V"⟩
abbrev cJ6_checkBoundsOffCount : ByteArray := prog_23_method_157_code
def yJ6_checkBoundsOffCount : MethodName := ⟨RJ6, "checkBoundsOffCount", "(III)I"⟩
theorem q57 : (Jvm.Cond.initialized "java/lang/String") ∈ lw_all := lw_g (lw_at lw_m1 10 rfl) rfl
theorem q186 : (Jvm.Cond.laysStatic "java/lang/String" "COMPACT_STRINGS" "Z") ∈ lw_tbl := lw_at lw_m1 139 rfl
theorem q843 : (Jvm.Cond.static ({ cls := "java/lang/String", name := "checkIndex", desc := "(II)V" } : Jvm.MethodName)) ∈ lw_all := lw_g (lw_at lw_m4 76 rfl) rfl
theorem q844 : (Jvm.Cond.code ({ cls := "java/lang/String", name := "checkIndex", desc := "(II)V" } : Jvm.MethodName) prog_23_method_155_code (2 : Nat) (Option.none : Option Jvm.ClassFile.FieldType)) ∈ lw_all := lw_g (lw_at lw_m4 77 rfl) rfl
theorem q845 : (Jvm.Cond.fieldLink "java/lang/String" (1053 : Nat) "jdk/internal/util/Preconditions" "SIOOBE_FORMATTER" "Ljava/util/function/BiFunction;") ∈ lw_all := lw_g (lw_at lw_m4 78 rfl) rfl
theorem q847 : (Jvm.Cond.methodLink "java/lang/String" (1059 : Nat) ({ cls := "jdk/internal/util/Preconditions", name := "checkIndex", desc := "(IILjava/util/function/BiFunction;)I" } : Jvm.MethodName)) ∈ lw_all := lw_g (lw_at lw_m4 80 rfl) rfl
theorem q1044 : (Jvm.Cond.static ({ cls := "java/lang/String", name := "checkBoundsOffCount", desc := "(III)I" } : Jvm.MethodName)) ∈ lw_all := lw_g (lw_at lw_m5 37 rfl) rfl
theorem q1045 : (Jvm.Cond.code ({ cls := "java/lang/String", name := "checkBoundsOffCount", desc := "(III)I" } : Jvm.MethodName) prog_23_method_157_code (3 : Nat) (Option.some Jvm.ClassFile.FieldType.int)) ∈ lw_all := lw_g (lw_at lw_m5 38 rfl) rfl
theorem q1046 : (Jvm.Cond.methodLink "java/lang/String" (1065 : Nat) ({ cls := "jdk/internal/util/Preconditions", name := "checkFromIndexSize", desc := "(IIILjava/util/function/BiFunction;)I" } : Jvm.MethodName)) ∈ lw_all := lw_g (lw_at lw_m5 39 rfl) rfl
def RJ7 : String := "java/lang/StringUTF16"
abbrev cJ7_newBytesFor : ByteArray := prog_26_method_2_code
def yJ7_newBytesFor : MethodName := ⟨RJ7, "newBytesFor", "(I)[B"⟩
abbrev cJ7_newBytesLength : ByteArray := prog_26_method_3_code
def yJ7_newBytesLength : MethodName := ⟨RJ7, "newBytesLength", "(I)I"⟩
abbrev cJ7_getChar : ByteArray := prog_26_method_5_code
def yJ7_getChar : MethodName := ⟨RJ7, "getChar", "([BI)C"⟩
abbrev cJ7_length : ByteArray := prog_26_method_6_code
def yJ7_length : MethodName := ⟨RJ7, "length", "([B)I"⟩
abbrev cJ7_inflate : ByteArray := prog_26_method_86_code
def yJ7_inflate : MethodName := ⟨RJ7, "inflate", "([BI[BII)V"⟩
abbrev cJ7_checkBoundsOffCount : ByteArray := prog_26_method_94_code
def yJ7_checkBoundsOffCount : MethodName := ⟨RJ7, "checkBoundsOffCount", "(II[B)V"⟩
abbrev cJ7_putChar : ByteArray := prog_26_method_4_code
def yJ7_putChar : MethodName := ⟨RJ7, "putChar", "([BII)V"⟩
abbrev cJ7_putCharSB : ByteArray := prog_26_method_71_code
def yJ7_putCharSB : MethodName := ⟨RJ7, "putCharSB", "([BII)V"⟩
abbrev cJ7_checkIndex : ByteArray := prog_26_method_91_code
def yJ7_checkIndex : MethodName := ⟨RJ7, "checkIndex", "(I[B)V"⟩
abbrev cJ7_fillNull : ByteArray := prog_26_method_70_code
def yJ7_fillNull : MethodName := ⟨RJ7, "fillNull", "([BII)V"⟩
theorem q58 : (Jvm.Cond.initialized "java/lang/StringUTF16") ∈ lw_all := lw_g (lw_at lw_m1 11 rfl) rfl
theorem q188 : (Jvm.Cond.static ({ cls := "java/lang/StringUTF16", name := "newBytesFor", desc := "(I)[B" } : Jvm.MethodName)) ∈ lw_all := lw_g (lw_at lw_m1 141 rfl) rfl
theorem q189 : (Jvm.Cond.code ({ cls := "java/lang/StringUTF16", name := "newBytesFor", desc := "(I)[B" } : Jvm.MethodName) prog_26_method_2_code (1 : Nat) (Option.some (Jvm.ClassFile.FieldType.array Jvm.ClassFile.FieldType.byte))) ∈ lw_all := lw_g (lw_at lw_m1 142 rfl) rfl
theorem q190 : (Jvm.Cond.methodLink "java/lang/StringUTF16" (11 : Nat) ({ cls := "java/lang/StringUTF16", name := "newBytesLength", desc := "(I)I" } : Jvm.MethodName)) ∈ lw_all := lw_g (lw_at lw_m1 143 rfl) rfl
theorem q191 : (Jvm.Cond.static ({ cls := "java/lang/StringUTF16", name := "newBytesLength", desc := "(I)I" } : Jvm.MethodName)) ∈ lw_all := lw_g (lw_at lw_m1 144 rfl) rfl
theorem q192 : (Jvm.Cond.code ({ cls := "java/lang/StringUTF16", name := "newBytesLength", desc := "(I)I" } : Jvm.MethodName) prog_26_method_3_code (1 : Nat) (Option.some Jvm.ClassFile.FieldType.int)) ∈ lw_all := lw_g (lw_at lw_m1 145 rfl) rfl
theorem q193 : (Jvm.Cond.constant "java/lang/StringUTF16" (20 : Nat) (1073741823 : Int32)) ∈ lw_all := lw_g (lw_at lw_m1 146 rfl) rfl
theorem q849 : (Jvm.Cond.static ({ cls := "java/lang/StringUTF16", name := "getChar", desc := "([BI)C" } : Jvm.MethodName)) ∈ lw_all := lw_g (lw_at lw_m4 82 rfl) rfl
theorem q850 : (Jvm.Cond.code ({ cls := "java/lang/StringUTF16", name := "getChar", desc := "([BI)C" } : Jvm.MethodName) prog_26_method_5_code (2 : Nat) (Option.some Jvm.ClassFile.FieldType.char)) ∈ lw_all := lw_g (lw_at lw_m4 83 rfl) rfl
theorem q851 : (Jvm.Cond.fieldLink "java/lang/StringUTF16" (44 : Nat) "java/lang/StringUTF16" "$assertionsDisabled" "Z") ∈ lw_all := lw_g (lw_at lw_m4 84 rfl) rfl
theorem q852 : (Jvm.Cond.laysStatic "java/lang/StringUTF16" "$assertionsDisabled" "Z") ∈ lw_tbl := lw_at lw_m4 85 rfl
theorem q853 : (Jvm.Cond.methodLink "java/lang/StringUTF16" (48 : Nat) ({ cls := "java/lang/StringUTF16", name := "length", desc := "([B)I" } : Jvm.MethodName)) ∈ lw_all := lw_g (lw_at lw_m4 86 rfl) rfl
theorem q854 : (Jvm.Cond.static ({ cls := "java/lang/StringUTF16", name := "length", desc := "([B)I" } : Jvm.MethodName)) ∈ lw_all := lw_g (lw_at lw_m4 87 rfl) rfl
theorem q855 : (Jvm.Cond.code ({ cls := "java/lang/StringUTF16", name := "length", desc := "([B)I" } : Jvm.MethodName) prog_26_method_6_code (1 : Nat) (Option.some Jvm.ClassFile.FieldType.int)) ∈ lw_all := lw_g (lw_at lw_m4 88 rfl) rfl
theorem q856 : (Jvm.Cond.fieldLink "java/lang/StringUTF16" (59 : Nat) "java/lang/StringUTF16" "HI_BYTE_SHIFT" "I") ∈ lw_all := lw_g (lw_at lw_m4 89 rfl) rfl
theorem q857 : (Jvm.Cond.laysStatic "java/lang/StringUTF16" "HI_BYTE_SHIFT" "I") ∈ lw_tbl := lw_at lw_m4 90 rfl
theorem q858 : (Jvm.Cond.fieldLink "java/lang/StringUTF16" (63 : Nat) "java/lang/StringUTF16" "LO_BYTE_SHIFT" "I") ∈ lw_all := lw_g (lw_at lw_m4 91 rfl) rfl
theorem q859 : (Jvm.Cond.laysStatic "java/lang/StringUTF16" "LO_BYTE_SHIFT" "I") ∈ lw_tbl := lw_at lw_m4 92 rfl
theorem q1038 : (Jvm.Cond.static ({ cls := "java/lang/StringUTF16", name := "inflate", desc := "([BI[BII)V" } : Jvm.MethodName)) ∈ lw_all := lw_g (lw_at lw_m5 31 rfl) rfl
theorem q1039 : (Jvm.Cond.code ({ cls := "java/lang/StringUTF16", name := "inflate", desc := "([BI[BII)V" } : Jvm.MethodName) prog_26_method_86_code (6 : Nat) (Option.none : Option Jvm.ClassFile.FieldType)) ∈ lw_all := lw_g (lw_at lw_m5 32 rfl) rfl
theorem q1040 : (Jvm.Cond.methodLink "java/lang/StringUTF16" (173 : Nat) ({ cls := "java/lang/StringUTF16", name := "checkBoundsOffCount", desc := "(II[B)V" } : Jvm.MethodName)) ∈ lw_all := lw_g (lw_at lw_m5 33 rfl) rfl
theorem q1041 : (Jvm.Cond.static ({ cls := "java/lang/StringUTF16", name := "checkBoundsOffCount", desc := "(II[B)V" } : Jvm.MethodName)) ∈ lw_all := lw_g (lw_at lw_m5 34 rfl) rfl
theorem q1042 : (Jvm.Cond.code ({ cls := "java/lang/StringUTF16", name := "checkBoundsOffCount", desc := "(II[B)V" } : Jvm.MethodName) prog_26_method_94_code (3 : Nat) (Option.none : Option Jvm.ClassFile.FieldType)) ∈ lw_all := lw_g (lw_at lw_m5 35 rfl) rfl
theorem q1043 : (Jvm.Cond.methodLink "java/lang/StringUTF16" (419 : Nat) ({ cls := "java/lang/String", name := "checkBoundsOffCount", desc := "(III)I" } : Jvm.MethodName)) ∈ lw_all := lw_g (lw_at lw_m5 36 rfl) rfl
theorem q1049 : (Jvm.Cond.methodLink "java/lang/StringUTF16" (111 : Nat) ({ cls := "java/lang/StringUTF16", name := "putChar", desc := "([BII)V" } : Jvm.MethodName)) ∈ lw_all := lw_g (lw_at lw_m5 42 rfl) rfl
theorem q1050 : (Jvm.Cond.static ({ cls := "java/lang/StringUTF16", name := "putChar", desc := "([BII)V" } : Jvm.MethodName)) ∈ lw_all := lw_g (lw_at lw_m5 43 rfl) rfl
theorem q1051 : (Jvm.Cond.code ({ cls := "java/lang/StringUTF16", name := "putChar", desc := "([BII)V" } : Jvm.MethodName) prog_26_method_4_code (3 : Nat) (Option.none : Option Jvm.ClassFile.FieldType)) ∈ lw_all := lw_g (lw_at lw_m5 44 rfl) rfl
theorem q1053 : (Jvm.Cond.static ({ cls := "java/lang/StringUTF16", name := "putCharSB", desc := "([BII)V" } : Jvm.MethodName)) ∈ lw_all := lw_g (lw_at lw_m5 46 rfl) rfl
theorem q1054 : (Jvm.Cond.code ({ cls := "java/lang/StringUTF16", name := "putCharSB", desc := "([BII)V" } : Jvm.MethodName) prog_26_method_71_code (3 : Nat) (Option.none : Option Jvm.ClassFile.FieldType)) ∈ lw_all := lw_g (lw_at lw_m5 47 rfl) rfl
theorem q1055 : (Jvm.Cond.methodLink "java/lang/StringUTF16" (67 : Nat) ({ cls := "java/lang/StringUTF16", name := "checkIndex", desc := "(I[B)V" } : Jvm.MethodName)) ∈ lw_all := lw_g (lw_at lw_m5 48 rfl) rfl
theorem q1056 : (Jvm.Cond.static ({ cls := "java/lang/StringUTF16", name := "checkIndex", desc := "(I[B)V" } : Jvm.MethodName)) ∈ lw_all := lw_g (lw_at lw_m5 49 rfl) rfl
theorem q1057 : (Jvm.Cond.code ({ cls := "java/lang/StringUTF16", name := "checkIndex", desc := "(I[B)V" } : Jvm.MethodName) prog_26_method_91_code (2 : Nat) (Option.none : Option Jvm.ClassFile.FieldType)) ∈ lw_all := lw_g (lw_at lw_m5 50 rfl) rfl
theorem q1058 : (Jvm.Cond.methodLink "java/lang/StringUTF16" (414 : Nat) ({ cls := "java/lang/String", name := "checkIndex", desc := "(II)V" } : Jvm.MethodName)) ∈ lw_all := lw_g (lw_at lw_m5 51 rfl) rfl
theorem q1080 : (Jvm.Cond.static ({ cls := "java/lang/StringUTF16", name := "fillNull", desc := "([BII)V" } : Jvm.MethodName)) ∈ lw_all := lw_g (lw_at lw_m5 73 rfl) rfl
theorem q1081 : (Jvm.Cond.code ({ cls := "java/lang/StringUTF16", name := "fillNull", desc := "([BII)V" } : Jvm.MethodName) prog_26_method_70_code (3 : Nat) (Option.none : Option Jvm.ClassFile.FieldType)) ∈ lw_all := lw_g (lw_at lw_m5 74 rfl) rfl
theorem q1082 : (Jvm.Cond.methodLink "java/lang/StringUTF16" (380 : Nat) ({ cls := "java/util/Arrays", name := "fill", desc := "([BIIB)V" } : Jvm.MethodName)) ∈ lw_all := lw_g (lw_at lw_m5 75 rfl) rfl
def RJ8 : String := "java/util/Objects"
abbrev cJ8_checkIndex : ByteArray := prog_39_method_17_code
def yJ8_checkIndex : MethodName := ⟨RJ8, "checkIndex", "(II)I"⟩
theorem q61 : (Jvm.Cond.initialized "java/util/Objects") ∈ lw_all := lw_g (lw_at lw_m1 14 rfl) rfl
theorem q325 : (Jvm.Cond.static ({ cls := "java/util/Objects", name := "checkIndex", desc := "(II)I" } : Jvm.MethodName)) ∈ lw_all := lw_g (lw_at lw_m2 38 rfl) rfl
theorem q326 : (Jvm.Cond.code ({ cls := "java/util/Objects", name := "checkIndex", desc := "(II)I" } : Jvm.MethodName) prog_39_method_17_code (2 : Nat) (Option.some Jvm.ClassFile.FieldType.int)) ∈ lw_all := lw_g (lw_at lw_m2 39 rfl) rfl
theorem q327 : (Jvm.Cond.methodLink "java/util/Objects" (105 : Nat) ({ cls := "jdk/internal/util/Preconditions", name := "checkIndex", desc := "(IILjava/util/function/BiFunction;)I" } : Jvm.MethodName)) ∈ lw_all := lw_g (lw_at lw_m2 40 rfl) rfl
def RJ9 : String := "jdk/internal/util/Preconditions"
abbrev cJ9_checkIndex : ByteArray := prog_44_method_11_code
def yJ9_checkIndex : MethodName := ⟨RJ9, "checkIndex", "(IILjava/util/function/BiFunction;)I"⟩
abbrev cJ9_checkFromIndexSize : ByteArray := prog_44_method_13_code
def yJ9_checkFromIndexSize : MethodName := ⟨RJ9, "checkFromIndexSize", "(IIILjava/util/function/BiFunction;)I"⟩
theorem q62 : (Jvm.Cond.initialized "jdk/internal/util/Preconditions") ∈ lw_all := lw_g (lw_at lw_m1 15 rfl) rfl
theorem q328 : (Jvm.Cond.static ({ cls := "jdk/internal/util/Preconditions", name := "checkIndex", desc := "(IILjava/util/function/BiFunction;)I" } : Jvm.MethodName)) ∈ lw_all := lw_g (lw_at lw_m2 41 rfl) rfl
theorem q329 : (Jvm.Cond.code ({ cls := "jdk/internal/util/Preconditions", name := "checkIndex", desc := "(IILjava/util/function/BiFunction;)I" } : Jvm.MethodName) prog_44_method_11_code (3 : Nat) (Option.some Jvm.ClassFile.FieldType.int)) ∈ lw_all := lw_g (lw_at lw_m2 42 rfl) rfl
theorem q846 : (Jvm.Cond.laysStatic "jdk/internal/util/Preconditions" "SIOOBE_FORMATTER" "Ljava/util/function/BiFunction;") ∈ lw_tbl := lw_at lw_m4 79 rfl
theorem q1047 : (Jvm.Cond.static ({ cls := "jdk/internal/util/Preconditions", name := "checkFromIndexSize", desc := "(IIILjava/util/function/BiFunction;)I" } : Jvm.MethodName)) ∈ lw_all := lw_g (lw_at lw_m5 40 rfl) rfl
theorem q1048 : (Jvm.Cond.code ({ cls := "jdk/internal/util/Preconditions", name := "checkFromIndexSize", desc := "(IIILjava/util/function/BiFunction;)I" } : Jvm.MethodName) prog_44_method_13_code (4 : Nat) (Option.some Jvm.ClassFile.FieldType.int)) ∈ lw_all := lw_g (lw_at lw_m5 41 rfl) rfl
abbrev cL_law : ByteArray := code
def RX0 : String := "MemberShelf"
def TX0 : u_T := fun k => match k with
  | 0 => ("MemberShelf", "now", "LMemberShelf$Shelf;", false)
  | 1 => ("MemberShelf", "snapshot", "LMemberShelf$Shelf;", false)
  | 2 => ("MemberShelf", "history", "Ljava/util/ArrayDeque;", true)
  | _ => ("MemberShelf", "pad", "Ljava/lang/StringBuilder;", true)
def tyX0 : Nat → FieldType := fun k => match k with
  | 0 => .object "MemberShelf$Shelf"
  | 1 => .object "MemberShelf$Shelf"
  | 2 => .object "java/util/ArrayDeque"
  | _ => .object "java/lang/StringBuilder"
abbrev wsX00 : List Cond := u_ws RX0 TX0 4
theorem nmX0 : ∀ a, a < 4 → ∀ b, b < 4 → a ≠ b → (TX0 a).2.1 ≠ (TX0 b).2.1 := by decide +kernel
theorem tyX0_ok : ∀ k, k < 4 → parseFieldDescriptor (TX0 k).2.2.1 = some (tyX0 k) := by decide +kernel
abbrev cX0_init : ByteArray := prog_1_method_6_code
def yX0_init : MethodName := ⟨RX0, "<init>", "()V"⟩
abbrev cX0_add : ByteArray := prog_1_method_8_code
def yX0_add : MethodName := ⟨RX0, "add", "(III)I"⟩
abbrev cX0_isName : ByteArray := prog_1_method_2_code
def yX0_isName : MethodName := ⟨RX0, "isName", "(I)Z"⟩
abbrev cX0_inRange : ByteArray := prog_1_method_1_code
def yX0_inRange : MethodName := ⟨RX0, "inRange", "(III)Z"⟩
abbrev cX0_isLength : ByteArray := prog_1_method_3_code
def yX0_isLength : MethodName := ⟨RX0, "isLength", "(I)Z"⟩
abbrev cX0_isMark : ByteArray := prog_1_method_4_code
def yX0_isMark : MethodName := ⟨RX0, "isMark", "(I)Z"⟩
abbrev cX0_become : ByteArray := prog_1_method_7_code
def yX0_become : MethodName := ⟨RX0, "become", "(LMemberShelf$Shelf;I)I"⟩
abbrev cX0_replace : ByteArray := prog_1_method_9_code
def yX0_replace : MethodName := ⟨RX0, "replace", "(III)I"⟩
abbrev cX0_remove : ByteArray := prog_1_method_10_code
def yX0_remove : MethodName := ⟨RX0, "remove", "(I)I"⟩
abbrev cX0_rename : ByteArray := prog_1_method_11_code
def yX0_rename : MethodName := ⟨RX0, "rename", "(II)I"⟩
abbrev cX0_alias : ByteArray := prog_1_method_12_code
def yX0_alias : MethodName := ⟨RX0, "alias", "(II)I"⟩
abbrev cX0_addAll : ByteArray := prog_1_method_13_code
def yX0_addAll : MethodName := ⟨RX0, "addAll", "()I"⟩
abbrev cX0_additionsOf : ByteArray := prog_1_method_5_code
def yX0_additionsOf : MethodName := ⟨RX0, "additionsOf", "(Ljava/lang/CharSequence;)Ljava/util/List;"⟩
abbrev cX0_squeeze : ByteArray := prog_1_method_14_code
def yX0_squeeze : MethodName := ⟨RX0, "squeeze", "()I"⟩
abbrev cX0_makeAnew : ByteArray := prog_1_method_15_code
def yX0_makeAnew : MethodName := ⟨RX0, "makeAnew", "(I)I"⟩
abbrev cX0_type : ByteArray := prog_1_method_16_code
def yX0_type : MethodName := ⟨RX0, "type", "(C)I"⟩
abbrev cX0_clearPad : ByteArray := prog_1_method_17_code
def yX0_clearPad : MethodName := ⟨RX0, "clearPad", "()I"⟩
abbrev cX0_undo : ByteArray := prog_1_method_18_code
def yX0_undo : MethodName := ⟨RX0, "undo", "()I"⟩
abbrev cX0_keep : ByteArray := prog_1_method_19_code
def yX0_keep : MethodName := ⟨RX0, "keep", "()I"⟩
abbrev cX0_restore : ByteArray := prog_1_method_20_code
def yX0_restore : MethodName := ⟨RX0, "restore", "()I"⟩
abbrev cX0_entry : ByteArray := prog_1_method_21_code
def yX0_entry : MethodName := ⟨RX0, "entry", "(II)I"⟩
abbrev cX0_named : ByteArray := prog_1_method_22_code
def yX0_named : MethodName := ⟨RX0, "named", "(I)I"⟩
abbrev cX0_block : ByteArray := prog_1_method_23_code
def yX0_block : MethodName := ⟨RX0, "block", "(II)I"⟩
abbrev cX0_at : ByteArray := prog_1_method_25_code
def yX0_at : MethodName := ⟨RX0, "at", "(I)I"⟩
abbrev cX0_lowest : ByteArray := prog_1_method_24_code
def yX0_lowest : MethodName := ⟨RX0, "lowest", "(LMemberShelf$Text;)I"⟩
abbrev cX0_fits : ByteArray := prog_1_method_26_code
def yX0_fits : MethodName := ⟨RX0, "fits", "(I)I"⟩
abbrev cX0_beginning : ByteArray := prog_1_method_27_code
def yX0_beginning : MethodName := ⟨RX0, "beginning", "(II)I"⟩
abbrev cX0_count : ByteArray := prog_1_method_30_code
def yX0_count : MethodName := ⟨RX0, "count", "(I)I"⟩
abbrev cX0_aliases : ByteArray := prog_1_method_28_code
def yX0_aliases : MethodName := ⟨RX0, "aliases", "(Z)I"⟩
abbrev cX0_living : ByteArray := prog_1_method_29_code
def yX0_living : MethodName := ⟨RX0, "living", "()I"⟩
theorem q48 : (Jvm.Cond.initialized "MemberShelf") ∈ lw_all := lw_g (lw_at lw_m1 1 rfl) rfl
theorem q78 : (Jvm.Cond.instantiable "MemberShelf" (4 : Nat)) ∈ lw_all := lw_g (lw_at lw_m1 31 rfl) rfl
theorem q80 : (Jvm.Cond.instanceMethod ({ cls := "MemberShelf", name := "<init>", desc := "()V" } : Jvm.MethodName)) ∈ lw_all := lw_g (lw_at lw_m1 33 rfl) rfl
theorem q81 : (Jvm.Cond.code ({ cls := "MemberShelf", name := "<init>", desc := "()V" } : Jvm.MethodName) prog_1_method_6_code (1 : Nat) (Option.none : Option Jvm.ClassFile.FieldType)) ∈ lw_all := lw_g (lw_at lw_m1 34 rfl) rfl
theorem q82 : (Jvm.Cond.methodLink "MemberShelf" (47 : Nat) ({ cls := "java/lang/Object", name := "<init>", desc := "()V" } : Jvm.MethodName)) ∈ lw_all := lw_g (lw_at lw_m1 35 rfl) rfl
theorem q85 : (Jvm.Cond.classLink "MemberShelf" (50 : Nat) "MemberShelf$Shelf") ∈ lw_all := lw_g (lw_at lw_m1 38 rfl) rfl
theorem q87 : (Jvm.Cond.methodLinkNest "MemberShelf" (52 : Nat) ({ cls := "MemberShelf$Shelf", name := "<init>", desc := "()V" } : Jvm.MethodName) "MemberShelf") ∈ lw_tbl := lw_at lw_m1 40 rfl
theorem q130 : (Jvm.Cond.fieldLinkNest "MemberShelf" (219 : Nat) "MemberShelf$Directory" "entries" "Ljava/util/List;" "MemberShelf") ∈ lw_tbl := lw_at lw_m1 83 rfl
theorem q133 : (Jvm.Cond.fieldLinkNest "MemberShelf" (169 : Nat) "MemberShelf$Directory" "blocks" "I" "MemberShelf") ∈ lw_tbl := lw_at lw_m1 86 rfl
theorem q142 : (Jvm.Cond.fieldLinkNest "MemberShelf" (103 : Nat) "MemberShelf$Shelf" "directory" "LMemberShelf$Directory;" "MemberShelf") ∈ lw_tbl := lw_at lw_m1 95 rfl
theorem q144 : (Jvm.Cond.fieldLinkNest "MemberShelf" (244 : Nat) "MemberShelf$Shelf" "texts" "Ljava/util/List;" "MemberShelf") ∈ lw_tbl := lw_at lw_m1 97 rfl
theorem q146 : (Jvm.Cond.fieldLinkNest "MemberShelf" (270 : Nat) "MemberShelf$Shelf" "squeezings" "I" "MemberShelf") ∈ lw_tbl := lw_at lw_m1 99 rfl
theorem q148 : (Jvm.Cond.fieldLinkNest "MemberShelf" (273 : Nat) "MemberShelf$Shelf" "givenBack" "I" "MemberShelf") ∈ lw_tbl := lw_at lw_m1 101 rfl
theorem q158 : (Jvm.Cond.classLink "MemberShelf" (57 : Nat) "java/util/ArrayDeque") ∈ lw_all := lw_g (lw_at lw_m1 111 rfl) rfl
theorem q160 : (Jvm.Cond.methodLink "MemberShelf" (59 : Nat) ({ cls := "java/util/ArrayDeque", name := "<init>", desc := "()V" } : Jvm.MethodName)) ∈ lw_all := lw_g (lw_at lw_m1 113 rfl) rfl
theorem q176 : (Jvm.Cond.classLink "MemberShelf" (64 : Nat) "java/lang/StringBuilder") ∈ lw_all := lw_g (lw_at lw_m1 129 rfl) rfl
theorem q178 : (Jvm.Cond.methodLink "MemberShelf" (66 : Nat) ({ cls := "java/lang/StringBuilder", name := "<init>", desc := "(I)V" } : Jvm.MethodName)) ∈ lw_all := lw_g (lw_at lw_m1 131 rfl) rfl
theorem q208 : (Jvm.Cond.fieldLink "MemberShelf" (53 : Nat) "MemberShelf" "now" "LMemberShelf$Shelf;") ∈ lw_all := lw_g (lw_at lw_m1 161 rfl) rfl
theorem q209 : (Jvm.Cond.fieldLink "MemberShelf" (186 : Nat) "MemberShelf" "snapshot" "LMemberShelf$Shelf;") ∈ lw_all := lw_g (lw_at lw_m1 162 rfl) rfl
theorem q210 : (Jvm.Cond.fieldLink "MemberShelf" (60 : Nat) "MemberShelf" "history" "Ljava/util/ArrayDeque;") ∈ lw_all := lw_g (lw_at lw_m1 163 rfl) rfl
theorem q211 : (Jvm.Cond.fieldLink "MemberShelf" (67 : Nat) "MemberShelf" "pad" "Ljava/lang/StringBuilder;") ∈ lw_all := lw_g (lw_at lw_m1 164 rfl) rfl
theorem q212 : (Jvm.Cond.lays "MemberShelf" "MemberShelf" "now" "LMemberShelf$Shelf;") ∈ lw_all := lw_g (lw_at lw_m1 165 rfl) rfl
theorem q213 : (Jvm.Cond.soleField "MemberShelf" "now") ∈ lw_all := lw_g (lw_at lw_m1 166 rfl) rfl
theorem q214 : (Jvm.Cond.lays "MemberShelf" "MemberShelf" "snapshot" "LMemberShelf$Shelf;") ∈ lw_all := lw_g (lw_at lw_m1 167 rfl) rfl
theorem q215 : (Jvm.Cond.soleField "MemberShelf" "snapshot") ∈ lw_all := lw_g (lw_at lw_m1 168 rfl) rfl
theorem q216 : (Jvm.Cond.laysFinal "MemberShelf" "MemberShelf" "history" "Ljava/util/ArrayDeque;") ∈ lw_all := lw_g (lw_at lw_m1 169 rfl) rfl
theorem q217 : (Jvm.Cond.soleField "MemberShelf" "history") ∈ lw_all := lw_g (lw_at lw_m1 170 rfl) rfl
theorem q218 : (Jvm.Cond.laysFinal "MemberShelf" "MemberShelf" "pad" "Ljava/lang/StringBuilder;") ∈ lw_all := lw_g (lw_at lw_m1 171 rfl) rfl
theorem q219 : (Jvm.Cond.soleField "MemberShelf" "pad") ∈ lw_all := lw_g (lw_at lw_m1 172 rfl) rfl
theorem q220 : (Jvm.Cond.superclass "MemberShelf" "java/lang/Object") ∈ lw_all := lw_g (lw_at lw_m1 173 rfl) rfl
theorem q222 : (Jvm.Cond.instanceMethod ({ cls := "MemberShelf", name := "add", desc := "(III)I" } : Jvm.MethodName)) ∈ lw_all := lw_g (lw_at lw_m1 175 rfl) rfl
theorem q223 : (Jvm.Cond.selects "MemberShelf" ({ cls := "MemberShelf", name := "add", desc := "(III)I" } : Jvm.MethodName) ({ cls := "MemberShelf", name := "add", desc := "(III)I" } : Jvm.MethodName)) ∈ lw_all := lw_g (lw_at lw_m1 176 rfl) rfl
theorem q224 : (Jvm.Cond.code ({ cls := "MemberShelf", name := "add", desc := "(III)I" } : Jvm.MethodName) prog_1_method_8_code (6 : Nat) (Option.some Jvm.ClassFile.FieldType.int)) ∈ lw_all := lw_g (lw_at lw_m1 177 rfl) rfl
theorem q225 : (Jvm.Cond.methodLink "MemberShelf" (82 : Nat) ({ cls := "MemberShelf", name := "isName", desc := "(I)Z" } : Jvm.MethodName)) ∈ lw_all := lw_g (lw_at lw_m1 178 rfl) rfl
theorem q226 : (Jvm.Cond.static ({ cls := "MemberShelf", name := "isName", desc := "(I)Z" } : Jvm.MethodName)) ∈ lw_all := lw_g (lw_at lw_m1 179 rfl) rfl
theorem q227 : (Jvm.Cond.code ({ cls := "MemberShelf", name := "isName", desc := "(I)Z" } : Jvm.MethodName) prog_1_method_2_code (1 : Nat) (Option.some Jvm.ClassFile.FieldType.boolean)) ∈ lw_all := lw_g (lw_at lw_m1 180 rfl) rfl
theorem q228 : (Jvm.Cond.methodLink "MemberShelf" (3 : Nat) ({ cls := "MemberShelf", name := "inRange", desc := "(III)Z" } : Jvm.MethodName)) ∈ lw_all := lw_g (lw_at lw_m1 181 rfl) rfl
theorem q229 : (Jvm.Cond.static ({ cls := "MemberShelf", name := "inRange", desc := "(III)Z" } : Jvm.MethodName)) ∈ lw_all := lw_g (lw_at lw_m1 182 rfl) rfl
theorem q230 : (Jvm.Cond.code ({ cls := "MemberShelf", name := "inRange", desc := "(III)Z" } : Jvm.MethodName) prog_1_method_1_code (3 : Nat) (Option.some Jvm.ClassFile.FieldType.boolean)) ∈ lw_all := lw_g (lw_at lw_m1 183 rfl) rfl
theorem q231 : (Jvm.Cond.methodLink "MemberShelf" (86 : Nat) ({ cls := "MemberShelf", name := "isLength", desc := "(I)Z" } : Jvm.MethodName)) ∈ lw_all := lw_g (lw_at lw_m1 184 rfl) rfl
theorem q232 : (Jvm.Cond.static ({ cls := "MemberShelf", name := "isLength", desc := "(I)Z" } : Jvm.MethodName)) ∈ lw_all := lw_g (lw_at lw_m1 185 rfl) rfl
theorem q233 : (Jvm.Cond.code ({ cls := "MemberShelf", name := "isLength", desc := "(I)Z" } : Jvm.MethodName) prog_1_method_3_code (1 : Nat) (Option.some Jvm.ClassFile.FieldType.boolean)) ∈ lw_all := lw_g (lw_at lw_m1 186 rfl) rfl
theorem q234 : (Jvm.Cond.methodLink "MemberShelf" (89 : Nat) ({ cls := "MemberShelf", name := "isMark", desc := "(I)Z" } : Jvm.MethodName)) ∈ lw_all := lw_g (lw_at lw_m1 187 rfl) rfl
theorem q235 : (Jvm.Cond.static ({ cls := "MemberShelf", name := "isMark", desc := "(I)Z" } : Jvm.MethodName)) ∈ lw_all := lw_g (lw_at lw_m1 188 rfl) rfl
theorem q236 : (Jvm.Cond.code ({ cls := "MemberShelf", name := "isMark", desc := "(I)Z" } : Jvm.MethodName) prog_1_method_4_code (1 : Nat) (Option.some Jvm.ClassFile.FieldType.boolean)) ∈ lw_all := lw_g (lw_at lw_m1 189 rfl) rfl
theorem q237 : (Jvm.Cond.methodLink "MemberShelf" (92 : Nat) ({ cls := "MemberShelf$Shelf", name := "copy", desc := "()LMemberShelf$Shelf;" } : Jvm.MethodName)) ∈ lw_all := lw_g (lw_at lw_m1 190 rfl) rfl
theorem q382 : (Jvm.Cond.selects "MemberShelf" ({ cls := "java/lang/Object", name := "getClass", desc := "()Ljava/lang/Class;" } : Jvm.MethodName) ({ cls := "java/lang/Object", name := "getClass", desc := "()Ljava/lang/Class;" } : Jvm.MethodName)) ∈ lw_all := lw_g (lw_at lw_m2 95 rfl) rfl
theorem q491 : (Jvm.Cond.fieldLinkNest "MemberShelf" (227 : Nat) "MemberShelf$Entry" "name" "I" "MemberShelf") ∈ lw_tbl := lw_at lw_m2 204 rfl
theorem q496 : (Jvm.Cond.fieldLinkNest "MemberShelf" (194 : Nat) "MemberShelf$Entry" "text" "LMemberShelf$Text;" "MemberShelf") ∈ lw_tbl := lw_at lw_m2 209 rfl
theorem q524 : (Jvm.Cond.methodLink "MemberShelf" (96 : Nat) ({ cls := "MemberShelf$Shelf", name := "add", desc := "(III)I" } : Jvm.MethodName)) ∈ lw_all := lw_g (lw_at lw_m2 237 rfl) rfl
theorem q568 : (Jvm.Cond.fieldLinkNest "MemberShelf" (198 : Nat) "MemberShelf$Text" "start" "I" "MemberShelf") ∈ lw_tbl := lw_at lw_m3 41 rfl
theorem q571 : (Jvm.Cond.fieldLinkNest "MemberShelf" (203 : Nat) "MemberShelf$Text" "length" "I" "MemberShelf") ∈ lw_tbl := lw_at lw_m3 44 rfl
theorem q573 : (Jvm.Cond.fieldLinkNest "MemberShelf" (205 : Nat) "MemberShelf$Text" "mark" "I" "MemberShelf") ∈ lw_tbl := lw_at lw_m3 46 rfl
theorem q590 : (Jvm.Cond.methodLink "MemberShelf" (99 : Nat) ({ cls := "MemberShelf", name := "become", desc := "(LMemberShelf$Shelf;I)I" } : Jvm.MethodName)) ∈ lw_all := lw_g (lw_at lw_m3 63 rfl) rfl
theorem q591 : (Jvm.Cond.privateMethod ({ cls := "MemberShelf", name := "become", desc := "(LMemberShelf$Shelf;I)I" } : Jvm.MethodName)) ∈ lw_tbl := lw_at lw_m3 64 rfl
theorem q592 : (Jvm.Cond.instanceMethod ({ cls := "MemberShelf", name := "become", desc := "(LMemberShelf$Shelf;I)I" } : Jvm.MethodName)) ∈ lw_all := lw_g (lw_at lw_m3 65 rfl) rfl
theorem q593 : (Jvm.Cond.code ({ cls := "MemberShelf", name := "become", desc := "(LMemberShelf$Shelf;I)I" } : Jvm.MethodName) prog_1_method_7_code (3 : Nat) (Option.some Jvm.ClassFile.FieldType.int)) ∈ lw_all := lw_g (lw_at lw_m3 66 rfl) rfl
theorem q594 : (Jvm.Cond.methodLink "MemberShelf" (71 : Nat) ({ cls := "java/util/ArrayDeque", name := "addLast", desc := "(Ljava/lang/Object;)V" } : Jvm.MethodName)) ∈ lw_all := lw_g (lw_at lw_m3 67 rfl) rfl
theorem q613 : (Jvm.Cond.methodLink "MemberShelf" (75 : Nat) ({ cls := "java/util/ArrayDeque", name := "size", desc := "()I" } : Jvm.MethodName)) ∈ lw_all := lw_g (lw_at lw_m3 86 rfl) rfl
theorem q620 : (Jvm.Cond.methodLink "MemberShelf" (78 : Nat) ({ cls := "java/util/ArrayDeque", name := "removeFirst", desc := "()Ljava/lang/Object;" } : Jvm.MethodName)) ∈ lw_all := lw_g (lw_at lw_m3 93 rfl) rfl
theorem q632 : (Jvm.Cond.instanceMethod ({ cls := "MemberShelf", name := "replace", desc := "(III)I" } : Jvm.MethodName)) ∈ lw_all := lw_g (lw_at lw_m3 105 rfl) rfl
theorem q633 : (Jvm.Cond.selects "MemberShelf" ({ cls := "MemberShelf", name := "replace", desc := "(III)I" } : Jvm.MethodName) ({ cls := "MemberShelf", name := "replace", desc := "(III)I" } : Jvm.MethodName)) ∈ lw_all := lw_g (lw_at lw_m3 106 rfl) rfl
theorem q634 : (Jvm.Cond.code ({ cls := "MemberShelf", name := "replace", desc := "(III)I" } : Jvm.MethodName) prog_1_method_9_code (6 : Nat) (Option.some Jvm.ClassFile.FieldType.int)) ∈ lw_all := lw_g (lw_at lw_m3 107 rfl) rfl
theorem q635 : (Jvm.Cond.methodLink "MemberShelf" (107 : Nat) ({ cls := "MemberShelf$Directory", name := "member", desc := "(I)LMemberShelf$Entry;" } : Jvm.MethodName)) ∈ lw_all := lw_g (lw_at lw_m3 108 rfl) rfl
theorem q648 : (Jvm.Cond.methodLink "MemberShelf" (113 : Nat) ({ cls := "MemberShelf$Shelf", name := "replace", desc := "(III)I" } : Jvm.MethodName)) ∈ lw_all := lw_g (lw_at lw_m3 121 rfl) rfl
theorem q653 : (Jvm.Cond.instanceMethod ({ cls := "MemberShelf", name := "remove", desc := "(I)I" } : Jvm.MethodName)) ∈ lw_all := lw_g (lw_at lw_m3 126 rfl) rfl
theorem q654 : (Jvm.Cond.selects "MemberShelf" ({ cls := "MemberShelf", name := "remove", desc := "(I)I" } : Jvm.MethodName) ({ cls := "MemberShelf", name := "remove", desc := "(I)I" } : Jvm.MethodName)) ∈ lw_all := lw_g (lw_at lw_m3 127 rfl) rfl
theorem q655 : (Jvm.Cond.code ({ cls := "MemberShelf", name := "remove", desc := "(I)I" } : Jvm.MethodName) prog_1_method_10_code (3 : Nat) (Option.some Jvm.ClassFile.FieldType.int)) ∈ lw_all := lw_g (lw_at lw_m3 128 rfl) rfl
theorem q656 : (Jvm.Cond.methodLink "MemberShelf" (116 : Nat) ({ cls := "MemberShelf$Directory", name := "find", desc := "(I)LMemberShelf$Entry;" } : Jvm.MethodName)) ∈ lw_all := lw_g (lw_at lw_m3 129 rfl) rfl
theorem q657 : (Jvm.Cond.methodLink "MemberShelf" (119 : Nat) ({ cls := "MemberShelf$Directory", name := "take", desc := "(I)V" } : Jvm.MethodName)) ∈ lw_all := lw_g (lw_at lw_m3 130 rfl) rfl
theorem q674 : (Jvm.Cond.selects "MemberShelf" ({ cls := "java/lang/Object", name := "equals", desc := "(Ljava/lang/Object;)Z" } : Jvm.MethodName) ({ cls := "java/lang/Object", name := "equals", desc := "(Ljava/lang/Object;)Z" } : Jvm.MethodName)) ∈ lw_all := lw_g (lw_at lw_m3 147 rfl) rfl
theorem q687 : (Jvm.Cond.methodLink "MemberShelf" (122 : Nat) ({ cls := "MemberShelf$Directory", name := "count", desc := "()I" } : Jvm.MethodName)) ∈ lw_all := lw_g (lw_at lw_m3 160 rfl) rfl
theorem q720 : (Jvm.Cond.instanceMethod ({ cls := "MemberShelf", name := "rename", desc := "(II)I" } : Jvm.MethodName)) ∈ lw_all := lw_g (lw_at lw_m3 193 rfl) rfl
theorem q721 : (Jvm.Cond.selects "MemberShelf" ({ cls := "MemberShelf", name := "rename", desc := "(II)I" } : Jvm.MethodName) ({ cls := "MemberShelf", name := "rename", desc := "(II)I" } : Jvm.MethodName)) ∈ lw_all := lw_g (lw_at lw_m3 194 rfl) rfl
theorem q722 : (Jvm.Cond.code ({ cls := "MemberShelf", name := "rename", desc := "(II)I" } : Jvm.MethodName) prog_1_method_11_code (4 : Nat) (Option.some Jvm.ClassFile.FieldType.int)) ∈ lw_all := lw_g (lw_at lw_m3 195 rfl) rfl
theorem q723 : (Jvm.Cond.methodLink "MemberShelf" (125 : Nat) ({ cls := "MemberShelf$Shelf", name := "rename", desc := "(II)V" } : Jvm.MethodName)) ∈ lw_all := lw_g (lw_at lw_m3 196 rfl) rfl
theorem q739 : (Jvm.Cond.methodLink "MemberShelf" (129 : Nat) ({ cls := "MemberShelf$Directory", name := "rankOf", desc := "(I)I" } : Jvm.MethodName)) ∈ lw_all := lw_g (lw_at lw_m3 212 rfl) rfl
theorem q757 : (Jvm.Cond.instanceMethod ({ cls := "MemberShelf", name := "alias", desc := "(II)I" } : Jvm.MethodName)) ∈ lw_all := lw_g (lw_at lw_m3 230 rfl) rfl
theorem q758 : (Jvm.Cond.selects "MemberShelf" ({ cls := "MemberShelf", name := "alias", desc := "(II)I" } : Jvm.MethodName) ({ cls := "MemberShelf", name := "alias", desc := "(II)I" } : Jvm.MethodName)) ∈ lw_all := lw_g (lw_at lw_m3 231 rfl) rfl
theorem q759 : (Jvm.Cond.code ({ cls := "MemberShelf", name := "alias", desc := "(II)I" } : Jvm.MethodName) prog_1_method_12_code (5 : Nat) (Option.some Jvm.ClassFile.FieldType.int)) ∈ lw_all := lw_g (lw_at lw_m3 232 rfl) rfl
theorem q760 : (Jvm.Cond.methodLink "MemberShelf" (133 : Nat) ({ cls := "MemberShelf$Shelf", name := "alias", desc := "(II)I" } : Jvm.MethodName)) ∈ lw_all := lw_g (lw_at lw_m3 233 rfl) rfl
theorem q777 : (Jvm.Cond.instanceMethod ({ cls := "MemberShelf", name := "addAll", desc := "()I" } : Jvm.MethodName)) ∈ lw_all := lw_g (lw_at lw_m4 10 rfl) rfl
theorem q778 : (Jvm.Cond.selects "MemberShelf" ({ cls := "MemberShelf", name := "addAll", desc := "()I" } : Jvm.MethodName) ({ cls := "MemberShelf", name := "addAll", desc := "()I" } : Jvm.MethodName)) ∈ lw_all := lw_g (lw_at lw_m4 11 rfl) rfl
theorem q779 : (Jvm.Cond.codeWith ({ cls := "MemberShelf", name := "addAll", desc := "()I" } : Jvm.MethodName) prog_1_method_13_code (6 : Nat) (Option.some Jvm.ClassFile.FieldType.int) [((0 : Nat), (65 : Nat), (81 : Nat), (42 : Nat)), ((66 : Nat), (80 : Nat), (81 : Nat), (42 : Nat))]) ∈ lw_all := lw_g (lw_at lw_m4 12 rfl) rfl
theorem q780 : (Jvm.Cond.classLink "MemberShelf" (42 : Nat) "MemberShelf$Fault") ∈ lw_all := lw_g (lw_at lw_m4 13 rfl) rfl
theorem q781 : (Jvm.Cond.methodLink "MemberShelf" (137 : Nat) ({ cls := "MemberShelf", name := "additionsOf", desc := "(Ljava/lang/CharSequence;)Ljava/util/List;" } : Jvm.MethodName)) ∈ lw_all := lw_g (lw_at lw_m4 14 rfl) rfl
theorem q782 : (Jvm.Cond.static ({ cls := "MemberShelf", name := "additionsOf", desc := "(Ljava/lang/CharSequence;)Ljava/util/List;" } : Jvm.MethodName)) ∈ lw_all := lw_g (lw_at lw_m4 15 rfl) rfl
theorem q783 : (Jvm.Cond.code ({ cls := "MemberShelf", name := "additionsOf", desc := "(Ljava/lang/CharSequence;)Ljava/util/List;" } : Jvm.MethodName) prog_1_method_5_code (3 : Nat) (Option.some (Jvm.ClassFile.FieldType.object "java/util/List"))) ∈ lw_all := lw_g (lw_at lw_m4 16 rfl) rfl
theorem q784 : (Jvm.Cond.classLink "MemberShelf" (7 : Nat) "MemberShelf$1Reader") ∈ lw_all := lw_g (lw_at lw_m4 17 rfl) rfl
theorem q786 : (Jvm.Cond.methodLink "MemberShelf" (9 : Nat) ({ cls := "MemberShelf$1Reader", name := "<init>", desc := "(Ljava/lang/CharSequence;)V" } : Jvm.MethodName)) ∈ lw_all := lw_g (lw_at lw_m4 19 rfl) rfl
theorem q791 : (Jvm.Cond.fieldLinkNest "MemberShelf" (32 : Nat) "MemberShelf$1Reader" "place" "I" "MemberShelf") ∈ lw_tbl := lw_at lw_m4 24 rfl
theorem q798 : (Jvm.Cond.classLink "MemberShelf" (13 : Nat) "java/util/ArrayList") ∈ lw_all := lw_g (lw_at lw_m4 31 rfl) rfl
theorem q799 : (Jvm.Cond.methodLink "MemberShelf" (15 : Nat) ({ cls := "java/util/ArrayList", name := "<init>", desc := "()V" } : Jvm.MethodName)) ∈ lw_all := lw_g (lw_at lw_m4 32 rfl) rfl
theorem q800 : (Jvm.Cond.methodLinkNest "MemberShelf" (18 : Nat) ({ cls := "MemberShelf$1Reader", name := "addition", desc := "()[I" } : Jvm.MethodName) "MemberShelf") ∈ lw_tbl := lw_at lw_m4 33 rfl
theorem q906 : (Jvm.Cond.fieldLinkNest "MemberShelf" (161 : Nat) "MemberShelf$Fault" "place" "I" "MemberShelf") ∈ lw_tbl := lw_at lw_m4 139 rfl
theorem q930 : (Jvm.Cond.interfaceEntry "MemberShelf" (22 : Nat)) ∈ lw_tbl := lw_at lw_m4 163 rfl
theorem q931 : (Jvm.Cond.methodLink "MemberShelf" (22 : Nat) ({ cls := "java/util/List", name := "add", desc := "(Ljava/lang/Object;)Z" } : Jvm.MethodName)) ∈ lw_all := lw_g (lw_at lw_m4 164 rfl) rfl
theorem q932 : (Jvm.Cond.methodLinkNest "MemberShelf" (28 : Nat) ({ cls := "MemberShelf$1Reader", name := "takes", desc := "(C)Z" } : Jvm.MethodName) "MemberShelf") ∈ lw_tbl := lw_at lw_m4 165 rfl
theorem q933 : (Jvm.Cond.interfaceEntry "MemberShelf" (36 : Nat)) ∈ lw_tbl := lw_at lw_m4 166 rfl
theorem q934 : (Jvm.Cond.methodLink "MemberShelf" (36 : Nat) ({ cls := "java/lang/CharSequence", name := "length", desc := "()I" } : Jvm.MethodName)) ∈ lw_all := lw_g (lw_at lw_m4 167 rfl) rfl
theorem q935 : (Jvm.Cond.methodLink "MemberShelf" (44 : Nat) ({ cls := "MemberShelf$Fault", name := "<init>", desc := "(I)V" } : Jvm.MethodName)) ∈ lw_all := lw_g (lw_at lw_m4 168 rfl) rfl
theorem q936 : (Jvm.Cond.interfaceEntry "MemberShelf" (141 : Nat)) ∈ lw_tbl := lw_at lw_m4 169 rfl
theorem q937 : (Jvm.Cond.methodLink "MemberShelf" (141 : Nat) ({ cls := "java/util/List", name := "iterator", desc := "()Ljava/util/Iterator;" } : Jvm.MethodName)) ∈ lw_all := lw_g (lw_at lw_m4 170 rfl) rfl
theorem q938 : (Jvm.Cond.interfaceEntry "MemberShelf" (145 : Nat)) ∈ lw_tbl := lw_at lw_m4 171 rfl
theorem q939 : (Jvm.Cond.methodLink "MemberShelf" (145 : Nat) ({ cls := "java/util/Iterator", name := "hasNext", desc := "()Z" } : Jvm.MethodName)) ∈ lw_all := lw_g (lw_at lw_m4 172 rfl) rfl
theorem q940 : (Jvm.Cond.interfaceEntry "MemberShelf" (151 : Nat)) ∈ lw_tbl := lw_at lw_m4 173 rfl
theorem q941 : (Jvm.Cond.methodLink "MemberShelf" (151 : Nat) ({ cls := "java/util/Iterator", name := "next", desc := "()Ljava/lang/Object;" } : Jvm.MethodName)) ∈ lw_all := lw_g (lw_at lw_m4 174 rfl) rfl
theorem q942 : (Jvm.Cond.classLink "MemberShelf" (154 : Nat) "[I") ∈ lw_all := lw_g (lw_at lw_m4 175 rfl) rfl
theorem q943 : (Jvm.Cond.methodLink "MemberShelf" (156 : Nat) ({ cls := "MemberShelf$Shelf", name := "make", desc := "([I)I" } : Jvm.MethodName)) ∈ lw_all := lw_g (lw_at lw_m4 176 rfl) rfl
theorem q949 : (Jvm.Cond.interfaceEntry "MemberShelf" (160 : Nat)) ∈ lw_tbl := lw_at lw_m4 182 rfl
theorem q950 : (Jvm.Cond.methodLink "MemberShelf" (160 : Nat) ({ cls := "java/util/List", name := "size", desc := "()I" } : Jvm.MethodName)) ∈ lw_all := lw_g (lw_at lw_m4 183 rfl) rfl
theorem q952 : (Jvm.Cond.instanceMethod ({ cls := "MemberShelf", name := "squeeze", desc := "()I" } : Jvm.MethodName)) ∈ lw_all := lw_g (lw_at lw_m4 185 rfl) rfl
theorem q953 : (Jvm.Cond.selects "MemberShelf" ({ cls := "MemberShelf", name := "squeeze", desc := "()I" } : Jvm.MethodName) ({ cls := "MemberShelf", name := "squeeze", desc := "()I" } : Jvm.MethodName)) ∈ lw_all := lw_g (lw_at lw_m4 186 rfl) rfl
theorem q954 : (Jvm.Cond.code ({ cls := "MemberShelf", name := "squeeze", desc := "()I" } : Jvm.MethodName) prog_1_method_14_code (3 : Nat) (Option.some Jvm.ClassFile.FieldType.int)) ∈ lw_all := lw_g (lw_at lw_m4 187 rfl) rfl
theorem q955 : (Jvm.Cond.methodLink "MemberShelf" (162 : Nat) ({ cls := "MemberShelf$Shelf", name := "units", desc := "(Z)I" } : Jvm.MethodName)) ∈ lw_all := lw_g (lw_at lw_m4 188 rfl) rfl
theorem q967 : (Jvm.Cond.methodLink "MemberShelf" (166 : Nat) ({ cls := "MemberShelf$Shelf", name := "squeeze", desc := "()I" } : Jvm.MethodName)) ∈ lw_all := lw_g (lw_at lw_m4 200 rfl) rfl
theorem q987 : (Jvm.Cond.instanceMethod ({ cls := "MemberShelf", name := "makeAnew", desc := "(I)I" } : Jvm.MethodName)) ∈ lw_all := lw_g (lw_at lw_m4 220 rfl) rfl
theorem q988 : (Jvm.Cond.selects "MemberShelf" ({ cls := "MemberShelf", name := "makeAnew", desc := "(I)I" } : Jvm.MethodName) ({ cls := "MemberShelf", name := "makeAnew", desc := "(I)I" } : Jvm.MethodName)) ∈ lw_all := lw_g (lw_at lw_m4 221 rfl) rfl
theorem q989 : (Jvm.Cond.code ({ cls := "MemberShelf", name := "makeAnew", desc := "(I)I" } : Jvm.MethodName) prog_1_method_15_code (4 : Nat) (Option.some Jvm.ClassFile.FieldType.int)) ∈ lw_all := lw_g (lw_at lw_m4 222 rfl) rfl
theorem q991 : (Jvm.Cond.instanceMethod ({ cls := "MemberShelf", name := "type", desc := "(C)I" } : Jvm.MethodName)) ∈ lw_all := lw_g (lw_at lw_m4 224 rfl) rfl
theorem q992 : (Jvm.Cond.selects "MemberShelf" ({ cls := "MemberShelf", name := "type", desc := "(C)I" } : Jvm.MethodName) ({ cls := "MemberShelf", name := "type", desc := "(C)I" } : Jvm.MethodName)) ∈ lw_all := lw_g (lw_at lw_m4 225 rfl) rfl
theorem q993 : (Jvm.Cond.code ({ cls := "MemberShelf", name := "type", desc := "(C)I" } : Jvm.MethodName) prog_1_method_16_code (2 : Nat) (Option.some Jvm.ClassFile.FieldType.int)) ∈ lw_all := lw_g (lw_at lw_m4 226 rfl) rfl
theorem q994 : (Jvm.Cond.methodLink "MemberShelf" (172 : Nat) ({ cls := "java/lang/StringBuilder", name := "length", desc := "()I" } : Jvm.MethodName)) ∈ lw_all := lw_g (lw_at lw_m4 227 rfl) rfl
theorem q995 : (Jvm.Cond.methodLink "MemberShelf" (173 : Nat) ({ cls := "java/lang/StringBuilder", name := "append", desc := "(C)Ljava/lang/StringBuilder;" } : Jvm.MethodName)) ∈ lw_all := lw_g (lw_at lw_m4 228 rfl) rfl
theorem q1060 : (Jvm.Cond.instanceMethod ({ cls := "MemberShelf", name := "clearPad", desc := "()I" } : Jvm.MethodName)) ∈ lw_all := lw_g (lw_at lw_m5 53 rfl) rfl
theorem q1061 : (Jvm.Cond.selects "MemberShelf" ({ cls := "MemberShelf", name := "clearPad", desc := "()I" } : Jvm.MethodName) ({ cls := "MemberShelf", name := "clearPad", desc := "()I" } : Jvm.MethodName)) ∈ lw_all := lw_g (lw_at lw_m5 54 rfl) rfl
theorem q1062 : (Jvm.Cond.code ({ cls := "MemberShelf", name := "clearPad", desc := "()I" } : Jvm.MethodName) prog_1_method_17_code (2 : Nat) (Option.some Jvm.ClassFile.FieldType.int)) ∈ lw_all := lw_g (lw_at lw_m5 55 rfl) rfl
theorem q1063 : (Jvm.Cond.methodLink "MemberShelf" (177 : Nat) ({ cls := "java/lang/StringBuilder", name := "setLength", desc := "(I)V" } : Jvm.MethodName)) ∈ lw_all := lw_g (lw_at lw_m5 56 rfl) rfl
theorem q1084 : (Jvm.Cond.instanceMethod ({ cls := "MemberShelf", name := "undo", desc := "()I" } : Jvm.MethodName)) ∈ lw_all := lw_g (lw_at lw_m5 77 rfl) rfl
theorem q1085 : (Jvm.Cond.selects "MemberShelf" ({ cls := "MemberShelf", name := "undo", desc := "()I" } : Jvm.MethodName) ({ cls := "MemberShelf", name := "undo", desc := "()I" } : Jvm.MethodName)) ∈ lw_all := lw_g (lw_at lw_m5 78 rfl) rfl
theorem q1086 : (Jvm.Cond.code ({ cls := "MemberShelf", name := "undo", desc := "()I" } : Jvm.MethodName) prog_1_method_18_code (1 : Nat) (Option.some Jvm.ClassFile.FieldType.int)) ∈ lw_all := lw_g (lw_at lw_m5 79 rfl) rfl
theorem q1087 : (Jvm.Cond.methodLink "MemberShelf" (180 : Nat) ({ cls := "java/util/ArrayDeque", name := "isEmpty", desc := "()Z" } : Jvm.MethodName)) ∈ lw_all := lw_g (lw_at lw_m5 80 rfl) rfl
theorem q1091 : (Jvm.Cond.methodLink "MemberShelf" (183 : Nat) ({ cls := "java/util/ArrayDeque", name := "removeLast", desc := "()Ljava/lang/Object;" } : Jvm.MethodName)) ∈ lw_all := lw_g (lw_at lw_m5 84 rfl) rfl
theorem q1103 : (Jvm.Cond.instanceMethod ({ cls := "MemberShelf", name := "keep", desc := "()I" } : Jvm.MethodName)) ∈ lw_all := lw_g (lw_at lw_m5 96 rfl) rfl
theorem q1104 : (Jvm.Cond.selects "MemberShelf" ({ cls := "MemberShelf", name := "keep", desc := "()I" } : Jvm.MethodName) ({ cls := "MemberShelf", name := "keep", desc := "()I" } : Jvm.MethodName)) ∈ lw_all := lw_g (lw_at lw_m5 97 rfl) rfl
theorem q1105 : (Jvm.Cond.code ({ cls := "MemberShelf", name := "keep", desc := "()I" } : Jvm.MethodName) prog_1_method_19_code (1 : Nat) (Option.some Jvm.ClassFile.FieldType.int)) ∈ lw_all := lw_g (lw_at lw_m5 98 rfl) rfl
theorem q1107 : (Jvm.Cond.instanceMethod ({ cls := "MemberShelf", name := "restore", desc := "()I" } : Jvm.MethodName)) ∈ lw_all := lw_g (lw_at lw_m5 100 rfl) rfl
theorem q1108 : (Jvm.Cond.selects "MemberShelf" ({ cls := "MemberShelf", name := "restore", desc := "()I" } : Jvm.MethodName) ({ cls := "MemberShelf", name := "restore", desc := "()I" } : Jvm.MethodName)) ∈ lw_all := lw_g (lw_at lw_m5 101 rfl) rfl
theorem q1109 : (Jvm.Cond.code ({ cls := "MemberShelf", name := "restore", desc := "()I" } : Jvm.MethodName) prog_1_method_20_code (1 : Nat) (Option.some Jvm.ClassFile.FieldType.int)) ∈ lw_all := lw_g (lw_at lw_m5 102 rfl) rfl
theorem q1111 : (Jvm.Cond.instanceMethod ({ cls := "MemberShelf", name := "entry", desc := "(II)I" } : Jvm.MethodName)) ∈ lw_all := lw_g (lw_at lw_m5 104 rfl) rfl
theorem q1112 : (Jvm.Cond.selects "MemberShelf" ({ cls := "MemberShelf", name := "entry", desc := "(II)I" } : Jvm.MethodName) ({ cls := "MemberShelf", name := "entry", desc := "(II)I" } : Jvm.MethodName)) ∈ lw_all := lw_g (lw_at lw_m5 105 rfl) rfl
theorem q1113 : (Jvm.Cond.code ({ cls := "MemberShelf", name := "entry", desc := "(II)I" } : Jvm.MethodName) prog_1_method_21_code (4 : Nat) (Option.some Jvm.ClassFile.FieldType.int)) ∈ lw_all := lw_g (lw_at lw_m5 106 rfl) rfl
theorem q1114 : (Jvm.Cond.methodLink "MemberShelf" (189 : Nat) ({ cls := "MemberShelf$Entry", name := "isAlias", desc := "()Z" } : Jvm.MethodName)) ∈ lw_all := lw_g (lw_at lw_m5 107 rfl) rfl
theorem q1115 : (Jvm.Cond.methodLink "MemberShelf" (208 : Nat) ({ cls := "MemberShelf$Directory", name := "aliasesOf", desc := "(LMemberShelf$Text;)I" } : Jvm.MethodName)) ∈ lw_all := lw_g (lw_at lw_m5 108 rfl) rfl
theorem q1119 : (Jvm.Cond.methodLink "MemberShelf" (212 : Nat) ({ cls := "MemberShelf$Entry", name := "given", desc := "()I" } : Jvm.MethodName)) ∈ lw_all := lw_g (lw_at lw_m5 112 rfl) rfl
theorem q1120 : (Jvm.Cond.methodLink "MemberShelf" (215 : Nat) ({ cls := "MemberShelf$Entry", name := "isLost", desc := "(LMemberShelf$Directory;)Z" } : Jvm.MethodName)) ∈ lw_all := lw_g (lw_at lw_m5 113 rfl) rfl
theorem q1131 : (Jvm.Cond.instanceMethod ({ cls := "MemberShelf", name := "named", desc := "(I)I" } : Jvm.MethodName)) ∈ lw_all := lw_g (lw_at lw_m5 124 rfl) rfl
theorem q1132 : (Jvm.Cond.selects "MemberShelf" ({ cls := "MemberShelf", name := "named", desc := "(I)I" } : Jvm.MethodName) ({ cls := "MemberShelf", name := "named", desc := "(I)I" } : Jvm.MethodName)) ∈ lw_all := lw_g (lw_at lw_m5 125 rfl) rfl
theorem q1133 : (Jvm.Cond.code ({ cls := "MemberShelf", name := "named", desc := "(I)I" } : Jvm.MethodName) prog_1_method_22_code (2 : Nat) (Option.some Jvm.ClassFile.FieldType.int)) ∈ lw_all := lw_g (lw_at lw_m5 126 rfl) rfl
theorem q1134 : (Jvm.Cond.interfaceEntry "MemberShelf" (223 : Nat)) ∈ lw_tbl := lw_at lw_m5 127 rfl
theorem q1135 : (Jvm.Cond.methodLink "MemberShelf" (223 : Nat) ({ cls := "java/util/List", name := "get", desc := "(I)Ljava/lang/Object;" } : Jvm.MethodName)) ∈ lw_all := lw_g (lw_at lw_m5 128 rfl) rfl
theorem q1136 : (Jvm.Cond.classLink "MemberShelf" (190 : Nat) "MemberShelf$Entry") ∈ lw_all := lw_g (lw_at lw_m5 129 rfl) rfl
theorem q1138 : (Jvm.Cond.instanceMethod ({ cls := "MemberShelf", name := "block", desc := "(II)I" } : Jvm.MethodName)) ∈ lw_all := lw_g (lw_at lw_m5 131 rfl) rfl
theorem q1139 : (Jvm.Cond.selects "MemberShelf" ({ cls := "MemberShelf", name := "block", desc := "(II)I" } : Jvm.MethodName) ({ cls := "MemberShelf", name := "block", desc := "(II)I" } : Jvm.MethodName)) ∈ lw_all := lw_g (lw_at lw_m5 132 rfl) rfl
theorem q1140 : (Jvm.Cond.code ({ cls := "MemberShelf", name := "block", desc := "(II)I" } : Jvm.MethodName) prog_1_method_23_code (4 : Nat) (Option.some Jvm.ClassFile.FieldType.int)) ∈ lw_all := lw_g (lw_at lw_m5 133 rfl) rfl
theorem q1141 : (Jvm.Cond.methodLink "MemberShelf" (230 : Nat) ({ cls := "MemberShelf$Directory", name := "block", desc := "(I)LMemberShelf$Directory$Block;" } : Jvm.MethodName)) ∈ lw_all := lw_g (lw_at lw_m5 134 rfl) rfl
theorem q1158 : (Jvm.Cond.interfaceEntry "MemberShelf" (234 : Nat)) ∈ lw_tbl := lw_at lw_m5 151 rfl
theorem q1159 : (Jvm.Cond.methodLink "MemberShelf" (234 : Nat) ({ cls := "MemberShelf$Walked", name := "count", desc := "()I" } : Jvm.MethodName)) ∈ lw_all := lw_g (lw_at lw_m5 152 rfl) rfl
theorem q1165 : (Jvm.Cond.interfaceEntry "MemberShelf" (237 : Nat)) ∈ lw_tbl := lw_at lw_m5 158 rfl
theorem q1166 : (Jvm.Cond.methodLink "MemberShelf" (237 : Nat) ({ cls := "MemberShelf$Walked", name := "first", desc := "()I" } : Jvm.MethodName)) ∈ lw_all := lw_g (lw_at lw_m5 159 rfl) rfl
theorem q1175 : (Jvm.Cond.interfaceEntry "MemberShelf" (240 : Nat)) ∈ lw_tbl := lw_at lw_m5 168 rfl
theorem q1176 : (Jvm.Cond.methodLink "MemberShelf" (240 : Nat) ({ cls := "MemberShelf$Walked", name := "last", desc := "()I" } : Jvm.MethodName)) ∈ lw_all := lw_g (lw_at lw_m5 169 rfl) rfl
theorem q1185 : (Jvm.Cond.instanceMethod ({ cls := "MemberShelf", name := "at", desc := "(I)I" } : Jvm.MethodName)) ∈ lw_all := lw_g (lw_at lw_m5 178 rfl) rfl
theorem q1186 : (Jvm.Cond.selects "MemberShelf" ({ cls := "MemberShelf", name := "at", desc := "(I)I" } : Jvm.MethodName) ({ cls := "MemberShelf", name := "at", desc := "(I)I" } : Jvm.MethodName)) ∈ lw_all := lw_g (lw_at lw_m5 179 rfl) rfl
theorem q1187 : (Jvm.Cond.code ({ cls := "MemberShelf", name := "at", desc := "(I)I" } : Jvm.MethodName) prog_1_method_25_code (4 : Nat) (Option.some Jvm.ClassFile.FieldType.int)) ∈ lw_all := lw_g (lw_at lw_m5 180 rfl) rfl
theorem q1188 : (Jvm.Cond.classLink "MemberShelf" (199 : Nat) "MemberShelf$Text") ∈ lw_all := lw_g (lw_at lw_m5 181 rfl) rfl
theorem q1189 : (Jvm.Cond.methodLink "MemberShelf" (247 : Nat) ({ cls := "MemberShelf$Text", name := "end", desc := "()I" } : Jvm.MethodName)) ∈ lw_all := lw_g (lw_at lw_m5 182 rfl) rfl
theorem q1190 : (Jvm.Cond.methodLink "MemberShelf" (250 : Nat) ({ cls := "MemberShelf", name := "lowest", desc := "(LMemberShelf$Text;)I" } : Jvm.MethodName)) ∈ lw_all := lw_g (lw_at lw_m5 183 rfl) rfl
theorem q1191 : (Jvm.Cond.privateMethod ({ cls := "MemberShelf", name := "lowest", desc := "(LMemberShelf$Text;)I" } : Jvm.MethodName)) ∈ lw_tbl := lw_at lw_m5 184 rfl
theorem q1192 : (Jvm.Cond.instanceMethod ({ cls := "MemberShelf", name := "lowest", desc := "(LMemberShelf$Text;)I" } : Jvm.MethodName)) ∈ lw_all := lw_g (lw_at lw_m5 185 rfl) rfl
theorem q1193 : (Jvm.Cond.code ({ cls := "MemberShelf", name := "lowest", desc := "(LMemberShelf$Text;)I" } : Jvm.MethodName) prog_1_method_24_code (4 : Nat) (Option.some Jvm.ClassFile.FieldType.int)) ∈ lw_all := lw_g (lw_at lw_m5 186 rfl) rfl
theorem q1194 : (Jvm.Cond.methodLink "MemberShelf" (243 : Nat) ({ cls := "MemberShelf$Directory", name := "iterator", desc := "()Ljava/util/Iterator;" } : Jvm.MethodName)) ∈ lw_all := lw_g (lw_at lw_m5 187 rfl) rfl
theorem q1196 : (Jvm.Cond.instanceMethod ({ cls := "MemberShelf", name := "fits", desc := "(I)I" } : Jvm.MethodName)) ∈ lw_all := lw_g (lw_at lw_m5 189 rfl) rfl
theorem q1197 : (Jvm.Cond.selects "MemberShelf" ({ cls := "MemberShelf", name := "fits", desc := "(I)I" } : Jvm.MethodName) ({ cls := "MemberShelf", name := "fits", desc := "(I)I" } : Jvm.MethodName)) ∈ lw_all := lw_g (lw_at lw_m5 190 rfl) rfl
theorem q1198 : (Jvm.Cond.code ({ cls := "MemberShelf", name := "fits", desc := "(I)I" } : Jvm.MethodName) prog_1_method_26_code (2 : Nat) (Option.some Jvm.ClassFile.FieldType.int)) ∈ lw_all := lw_g (lw_at lw_m5 191 rfl) rfl
theorem q1199 : (Jvm.Cond.methodLink "MemberShelf" (253 : Nat) ({ cls := "MemberShelf$Shelf", name := "fits", desc := "(I)Z" } : Jvm.MethodName)) ∈ lw_all := lw_g (lw_at lw_m5 192 rfl) rfl
theorem q1201 : (Jvm.Cond.instanceMethod ({ cls := "MemberShelf", name := "beginning", desc := "(II)I" } : Jvm.MethodName)) ∈ lw_all := lw_g (lw_at lw_m5 194 rfl) rfl
theorem q1202 : (Jvm.Cond.selects "MemberShelf" ({ cls := "MemberShelf", name := "beginning", desc := "(II)I" } : Jvm.MethodName) ({ cls := "MemberShelf", name := "beginning", desc := "(II)I" } : Jvm.MethodName)) ∈ lw_all := lw_g (lw_at lw_m5 195 rfl) rfl
theorem q1203 : (Jvm.Cond.code ({ cls := "MemberShelf", name := "beginning", desc := "(II)I" } : Jvm.MethodName) prog_1_method_27_code (6 : Nat) (Option.some Jvm.ClassFile.FieldType.int)) ∈ lw_all := lw_g (lw_at lw_m5 196 rfl) rfl
theorem q1205 : (Jvm.Cond.instanceMethod ({ cls := "MemberShelf", name := "count", desc := "(I)I" } : Jvm.MethodName)) ∈ lw_all := lw_g (lw_at lw_m5 198 rfl) rfl
theorem q1206 : (Jvm.Cond.selects "MemberShelf" ({ cls := "MemberShelf", name := "count", desc := "(I)I" } : Jvm.MethodName) ({ cls := "MemberShelf", name := "count", desc := "(I)I" } : Jvm.MethodName)) ∈ lw_all := lw_g (lw_at lw_m5 199 rfl) rfl
theorem q1207 : (Jvm.Cond.code ({ cls := "MemberShelf", name := "count", desc := "(I)I" } : Jvm.MethodName) prog_1_method_30_code (2 : Nat) (Option.some Jvm.ClassFile.FieldType.int)) ∈ lw_all := lw_g (lw_at lw_m5 200 rfl) rfl
theorem q1208 : (Jvm.Cond.methodLink "MemberShelf" (260 : Nat) ({ cls := "MemberShelf", name := "aliases", desc := "(Z)I" } : Jvm.MethodName)) ∈ lw_all := lw_g (lw_at lw_m5 201 rfl) rfl
theorem q1209 : (Jvm.Cond.privateMethod ({ cls := "MemberShelf", name := "aliases", desc := "(Z)I" } : Jvm.MethodName)) ∈ lw_tbl := lw_at lw_m5 202 rfl
theorem q1210 : (Jvm.Cond.instanceMethod ({ cls := "MemberShelf", name := "aliases", desc := "(Z)I" } : Jvm.MethodName)) ∈ lw_all := lw_g (lw_at lw_m5 203 rfl) rfl
theorem q1211 : (Jvm.Cond.code ({ cls := "MemberShelf", name := "aliases", desc := "(Z)I" } : Jvm.MethodName) prog_1_method_28_code (5 : Nat) (Option.some Jvm.ClassFile.FieldType.int)) ∈ lw_all := lw_g (lw_at lw_m5 204 rfl) rfl
theorem q1212 : (Jvm.Cond.methodLink "MemberShelf" (263 : Nat) ({ cls := "MemberShelf$Directory", name := "free", desc := "()I" } : Jvm.MethodName)) ∈ lw_all := lw_g (lw_at lw_m5 205 rfl) rfl
theorem q1213 : (Jvm.Cond.methodLink "MemberShelf" (266 : Nat) ({ cls := "MemberShelf$Shelf", name := "end", desc := "()I" } : Jvm.MethodName)) ∈ lw_all := lw_g (lw_at lw_m5 206 rfl) rfl
theorem q1214 : (Jvm.Cond.methodLink "MemberShelf" (267 : Nat) ({ cls := "MemberShelf", name := "living", desc := "()I" } : Jvm.MethodName)) ∈ lw_all := lw_g (lw_at lw_m5 207 rfl) rfl
theorem q1215 : (Jvm.Cond.privateMethod ({ cls := "MemberShelf", name := "living", desc := "()I" } : Jvm.MethodName)) ∈ lw_tbl := lw_at lw_m5 208 rfl
theorem q1216 : (Jvm.Cond.instanceMethod ({ cls := "MemberShelf", name := "living", desc := "()I" } : Jvm.MethodName)) ∈ lw_all := lw_g (lw_at lw_m5 209 rfl) rfl
theorem q1217 : (Jvm.Cond.code ({ cls := "MemberShelf", name := "living", desc := "()I" } : Jvm.MethodName) prog_1_method_29_code (4 : Nat) (Option.some Jvm.ClassFile.FieldType.int)) ∈ lw_all := lw_g (lw_at lw_m5 210 rfl) rfl
theorem q1218 : (Jvm.Cond.methodLink "MemberShelf" (256 : Nat) ({ cls := "MemberShelf$Shelf", name := "isDead", desc := "(LMemberShelf$Text;)Z" } : Jvm.MethodName)) ∈ lw_all := lw_g (lw_at lw_m5 211 rfl) rfl
theorem q1471 : (Jvm.Cond.castable "MemberShelf" "java/lang/Object") ∈ lw_tbl := lw_at lw_m6 224 rfl
def RX1 : String := "MemberShelf$Shelf"
def TX1 : u_T := fun k => match k with
  | 0 => ("MemberShelf$Shelf", "directory", "LMemberShelf$Directory;", false)
  | 1 => ("MemberShelf$Shelf", "texts", "Ljava/util/List;", true)
  | 2 => ("MemberShelf$Shelf", "squeezings", "I", false)
  | _ => ("MemberShelf$Shelf", "givenBack", "I", false)
def tyX1 : Nat → FieldType := fun k => match k with
  | 0 => .object "MemberShelf$Directory"
  | 1 => .object "java/util/List"
  | 2 => .int
  | _ => .int
abbrev wsX10 : List Cond := u_ws RX1 TX1 4
theorem nmX1 : ∀ a, a < 4 → ∀ b, b < 4 → a ≠ b → (TX1 a).2.1 ≠ (TX1 b).2.1 := by decide +kernel
theorem tyX1_ok : ∀ k, k < 4 → parseFieldDescriptor (TX1 k).2.2.1 = some (tyX1 k) := by decide +kernel
abbrev cX1_init : ByteArray := prog_9_method_1_code
def yX1_init : MethodName := ⟨RX1, "<init>", "()V"⟩
abbrev cX1_copy : ByteArray := prog_9_method_2_code
def yX1_copy : MethodName := ⟨RX1, "copy", "()LMemberShelf$Shelf;"⟩
abbrev cX1_detach : ByteArray := prog_9_method_3_code
def yX1_detach : MethodName := ⟨RX1, "detach", "()V"⟩
abbrev cX1_add : ByteArray := prog_9_method_9_code
def yX1_add : MethodName := ⟨RX1, "add", "(III)I"⟩
abbrev cX1_fits : ByteArray := prog_9_method_7_code
def yX1_fits : MethodName := ⟨RX1, "fits", "(I)Z"⟩
abbrev cX1_end : ByteArray := prog_9_method_4_code
def yX1_end : MethodName := ⟨RX1, "end", "()I"⟩
abbrev cX1_lay : ByteArray := prog_9_method_8_code
def yX1_lay : MethodName := ⟨RX1, "lay", "(II)LMemberShelf$Text;"⟩
abbrev cX1_replace : ByteArray := prog_9_method_10_code
def yX1_replace : MethodName := ⟨RX1, "replace", "(III)I"⟩
abbrev cX1_rename : ByteArray := prog_9_method_12_code
def yX1_rename : MethodName := ⟨RX1, "rename", "(II)V"⟩
abbrev cX1_alias : ByteArray := prog_9_method_11_code
def yX1_alias : MethodName := ⟨RX1, "alias", "(II)I"⟩
abbrev cX1_make : ByteArray := prog_9_method_13_code
def yX1_make : MethodName := ⟨RX1, "make", "([I)I"⟩
abbrev cX1_units : ByteArray := prog_9_method_6_code
def yX1_units : MethodName := ⟨RX1, "units", "(Z)I"⟩
abbrev cX1_isDead : ByteArray := prog_9_method_5_code
def yX1_isDead : MethodName := ⟨RX1, "isDead", "(LMemberShelf$Text;)Z"⟩
abbrev cX1_squeeze : ByteArray := prog_9_method_14_code
def yX1_squeeze : MethodName := ⟨RX1, "squeeze", "()I"⟩
theorem q49 : (Jvm.Cond.initialized "MemberShelf$Shelf") ∈ lw_all := lw_g (lw_at lw_m1 2 rfl) rfl
theorem q86 : (Jvm.Cond.instantiable "MemberShelf$Shelf" (4 : Nat)) ∈ lw_all := lw_g (lw_at lw_m1 39 rfl) rfl
theorem q88 : (Jvm.Cond.instanceMethod ({ cls := "MemberShelf$Shelf", name := "<init>", desc := "()V" } : Jvm.MethodName)) ∈ lw_all := lw_g (lw_at lw_m1 41 rfl) rfl
theorem q89 : (Jvm.Cond.code ({ cls := "MemberShelf$Shelf", name := "<init>", desc := "()V" } : Jvm.MethodName) prog_9_method_1_code (1 : Nat) (Option.none : Option Jvm.ClassFile.FieldType)) ∈ lw_all := lw_g (lw_at lw_m1 42 rfl) rfl
theorem q90 : (Jvm.Cond.methodLink "MemberShelf$Shelf" (3 : Nat) ({ cls := "java/lang/Object", name := "<init>", desc := "()V" } : Jvm.MethodName)) ∈ lw_all := lw_g (lw_at lw_m1 43 rfl) rfl
theorem q91 : (Jvm.Cond.classLink "MemberShelf$Shelf" (9 : Nat) "MemberShelf$Directory") ∈ lw_all := lw_g (lw_at lw_m1 44 rfl) rfl
theorem q93 : (Jvm.Cond.methodLinkNest "MemberShelf$Shelf" (11 : Nat) ({ cls := "MemberShelf$Directory", name := "<init>", desc := "()V" } : Jvm.MethodName) "MemberShelf") ∈ lw_tbl := lw_at lw_m1 46 rfl
theorem q128 : (Jvm.Cond.fieldLinkNest "MemberShelf$Shelf" (62 : Nat) "MemberShelf$Directory" "entries" "Ljava/util/List;" "MemberShelf") ∈ lw_tbl := lw_at lw_m1 81 rfl
theorem q132 : (Jvm.Cond.fieldLinkNest "MemberShelf$Shelf" (154 : Nat) "MemberShelf$Directory" "blocks" "I" "MemberShelf") ∈ lw_tbl := lw_at lw_m1 85 rfl
theorem q139 : (Jvm.Cond.classLink "MemberShelf$Shelf" (18 : Nat) "java/util/ArrayList") ∈ lw_all := lw_g (lw_at lw_m1 92 rfl) rfl
theorem q140 : (Jvm.Cond.methodLink "MemberShelf$Shelf" (20 : Nat) ({ cls := "java/util/ArrayList", name := "<init>", desc := "()V" } : Jvm.MethodName)) ∈ lw_all := lw_g (lw_at lw_m1 93 rfl) rfl
theorem q141 : (Jvm.Cond.fieldLink "MemberShelf$Shelf" (12 : Nat) "MemberShelf$Shelf" "directory" "LMemberShelf$Directory;") ∈ lw_all := lw_g (lw_at lw_m1 94 rfl) rfl
theorem q143 : (Jvm.Cond.fieldLink "MemberShelf$Shelf" (21 : Nat) "MemberShelf$Shelf" "texts" "Ljava/util/List;") ∈ lw_all := lw_g (lw_at lw_m1 96 rfl) rfl
theorem q145 : (Jvm.Cond.fieldLink "MemberShelf$Shelf" (55 : Nat) "MemberShelf$Shelf" "squeezings" "I") ∈ lw_all := lw_g (lw_at lw_m1 98 rfl) rfl
theorem q147 : (Jvm.Cond.fieldLink "MemberShelf$Shelf" (59 : Nat) "MemberShelf$Shelf" "givenBack" "I") ∈ lw_all := lw_g (lw_at lw_m1 100 rfl) rfl
theorem q149 : (Jvm.Cond.lays "MemberShelf$Shelf" "MemberShelf$Shelf" "directory" "LMemberShelf$Directory;") ∈ lw_all := lw_g (lw_at lw_m1 102 rfl) rfl
theorem q150 : (Jvm.Cond.soleField "MemberShelf$Shelf" "directory") ∈ lw_all := lw_g (lw_at lw_m1 103 rfl) rfl
theorem q151 : (Jvm.Cond.laysFinal "MemberShelf$Shelf" "MemberShelf$Shelf" "texts" "Ljava/util/List;") ∈ lw_all := lw_g (lw_at lw_m1 104 rfl) rfl
theorem q152 : (Jvm.Cond.soleField "MemberShelf$Shelf" "texts") ∈ lw_all := lw_g (lw_at lw_m1 105 rfl) rfl
theorem q153 : (Jvm.Cond.lays "MemberShelf$Shelf" "MemberShelf$Shelf" "squeezings" "I") ∈ lw_all := lw_g (lw_at lw_m1 106 rfl) rfl
theorem q154 : (Jvm.Cond.soleField "MemberShelf$Shelf" "squeezings") ∈ lw_all := lw_g (lw_at lw_m1 107 rfl) rfl
theorem q155 : (Jvm.Cond.lays "MemberShelf$Shelf" "MemberShelf$Shelf" "givenBack" "I") ∈ lw_all := lw_g (lw_at lw_m1 108 rfl) rfl
theorem q156 : (Jvm.Cond.soleField "MemberShelf$Shelf" "givenBack") ∈ lw_all := lw_g (lw_at lw_m1 109 rfl) rfl
theorem q157 : (Jvm.Cond.superclass "MemberShelf$Shelf" "java/lang/Object") ∈ lw_all := lw_g (lw_at lw_m1 110 rfl) rfl
theorem q238 : (Jvm.Cond.instanceMethod ({ cls := "MemberShelf$Shelf", name := "copy", desc := "()LMemberShelf$Shelf;" } : Jvm.MethodName)) ∈ lw_all := lw_g (lw_at lw_m1 191 rfl) rfl
theorem q239 : (Jvm.Cond.selects "MemberShelf$Shelf" ({ cls := "MemberShelf$Shelf", name := "copy", desc := "()LMemberShelf$Shelf;" } : Jvm.MethodName) ({ cls := "MemberShelf$Shelf", name := "copy", desc := "()LMemberShelf$Shelf;" } : Jvm.MethodName)) ∈ lw_all := lw_g (lw_at lw_m1 192 rfl) rfl
theorem q240 : (Jvm.Cond.code ({ cls := "MemberShelf$Shelf", name := "copy", desc := "()LMemberShelf$Shelf;" } : Jvm.MethodName) prog_9_method_2_code (4 : Nat) (Option.some (Jvm.ClassFile.FieldType.object "MemberShelf$Shelf"))) ∈ lw_all := lw_g (lw_at lw_m1 193 rfl) rfl
theorem q241 : (Jvm.Cond.classLink "MemberShelf$Shelf" (13 : Nat) "MemberShelf$Shelf") ∈ lw_all := lw_g (lw_at lw_m1 194 rfl) rfl
theorem q242 : (Jvm.Cond.methodLink "MemberShelf$Shelf" (25 : Nat) ({ cls := "MemberShelf$Shelf", name := "<init>", desc := "()V" } : Jvm.MethodName)) ∈ lw_all := lw_g (lw_at lw_m1 195 rfl) rfl
theorem q243 : (Jvm.Cond.methodLink "MemberShelf$Shelf" (26 : Nat) ({ cls := "MemberShelf$Directory", name := "copy", desc := "()LMemberShelf$Directory;" } : Jvm.MethodName)) ∈ lw_all := lw_g (lw_at lw_m1 196 rfl) rfl
theorem q390 : (Jvm.Cond.selects "MemberShelf$Shelf" ({ cls := "java/lang/Object", name := "getClass", desc := "()Ljava/lang/Class;" } : Jvm.MethodName) ({ cls := "java/lang/Object", name := "getClass", desc := "()Ljava/lang/Class;" } : Jvm.MethodName)) ∈ lw_all := lw_g (lw_at lw_m2 103 rfl) rfl
theorem q411 : (Jvm.Cond.interfaceEntry "MemberShelf$Shelf" (30 : Nat)) ∈ lw_tbl := lw_at lw_m2 124 rfl
theorem q412 : (Jvm.Cond.methodLink "MemberShelf$Shelf" (30 : Nat) ({ cls := "java/util/List", name := "iterator", desc := "()Ljava/util/Iterator;" } : Jvm.MethodName)) ∈ lw_all := lw_g (lw_at lw_m2 125 rfl) rfl
theorem q439 : (Jvm.Cond.interfaceEntry "MemberShelf$Shelf" (36 : Nat)) ∈ lw_tbl := lw_at lw_m2 152 rfl
theorem q440 : (Jvm.Cond.methodLink "MemberShelf$Shelf" (36 : Nat) ({ cls := "java/util/Iterator", name := "hasNext", desc := "()Z" } : Jvm.MethodName)) ∈ lw_all := lw_g (lw_at lw_m2 153 rfl) rfl
theorem q441 : (Jvm.Cond.interfaceEntry "MemberShelf$Shelf" (42 : Nat)) ∈ lw_tbl := lw_at lw_m2 154 rfl
theorem q442 : (Jvm.Cond.methodLink "MemberShelf$Shelf" (42 : Nat) ({ cls := "java/util/Iterator", name := "next", desc := "()Ljava/lang/Object;" } : Jvm.MethodName)) ∈ lw_all := lw_g (lw_at lw_m2 155 rfl) rfl
theorem q443 : (Jvm.Cond.classLink "MemberShelf$Shelf" (46 : Nat) "MemberShelf$Text") ∈ lw_all := lw_g (lw_at lw_m2 156 rfl) rfl
theorem q444 : (Jvm.Cond.interfaceEntry "MemberShelf$Shelf" (48 : Nat)) ∈ lw_tbl := lw_at lw_m2 157 rfl
theorem q445 : (Jvm.Cond.methodLink "MemberShelf$Shelf" (48 : Nat) ({ cls := "java/util/List", name := "add", desc := "(Ljava/lang/Object;)Z" } : Jvm.MethodName)) ∈ lw_all := lw_g (lw_at lw_m2 158 rfl) rfl
theorem q446 : (Jvm.Cond.methodLink "MemberShelf$Shelf" (52 : Nat) ({ cls := "MemberShelf$Shelf", name := "detach", desc := "()V" } : Jvm.MethodName)) ∈ lw_all := lw_g (lw_at lw_m2 159 rfl) rfl
theorem q447 : (Jvm.Cond.privateMethod ({ cls := "MemberShelf$Shelf", name := "detach", desc := "()V" } : Jvm.MethodName)) ∈ lw_tbl := lw_at lw_m2 160 rfl
theorem q448 : (Jvm.Cond.instanceMethod ({ cls := "MemberShelf$Shelf", name := "detach", desc := "()V" } : Jvm.MethodName)) ∈ lw_all := lw_g (lw_at lw_m2 161 rfl) rfl
theorem q449 : (Jvm.Cond.code ({ cls := "MemberShelf$Shelf", name := "detach", desc := "()V" } : Jvm.MethodName) prog_9_method_3_code (3 : Nat) (Option.none : Option Jvm.ClassFile.FieldType)) ∈ lw_all := lw_g (lw_at lw_m2 162 rfl) rfl
theorem q450 : (Jvm.Cond.interfaceEntry "MemberShelf$Shelf" (65 : Nat)) ∈ lw_tbl := lw_at lw_m2 163 rfl
theorem q451 : (Jvm.Cond.methodLink "MemberShelf$Shelf" (65 : Nat) ({ cls := "java/util/List", name := "size", desc := "()I" } : Jvm.MethodName)) ∈ lw_all := lw_g (lw_at lw_m2 164 rfl) rfl
theorem q452 : (Jvm.Cond.interfaceEntry "MemberShelf$Shelf" (69 : Nat)) ∈ lw_tbl := lw_at lw_m2 165 rfl
theorem q453 : (Jvm.Cond.methodLink "MemberShelf$Shelf" (69 : Nat) ({ cls := "java/util/List", name := "get", desc := "(I)Ljava/lang/Object;" } : Jvm.MethodName)) ∈ lw_all := lw_g (lw_at lw_m2 166 rfl) rfl
theorem q454 : (Jvm.Cond.classLink "MemberShelf$Shelf" (73 : Nat) "MemberShelf$Entry") ∈ lw_all := lw_g (lw_at lw_m2 167 rfl) rfl
theorem q455 : (Jvm.Cond.interfaceEntry "MemberShelf$Shelf" (75 : Nat)) ∈ lw_tbl := lw_at lw_m2 168 rfl
theorem q456 : (Jvm.Cond.methodLink "MemberShelf$Shelf" (75 : Nat) ({ cls := "java/util/List", name := "remove", desc := "(I)Ljava/lang/Object;" } : Jvm.MethodName)) ∈ lw_all := lw_g (lw_at lw_m2 169 rfl) rfl
theorem q469 : (Jvm.Cond.methodLink "MemberShelf$Shelf" (81 : Nat) ({ cls := "MemberShelf$Entry", name := "named", desc := "(I)LMemberShelf$Entry;" } : Jvm.MethodName)) ∈ lw_all := lw_g (lw_at lw_m2 182 rfl) rfl
theorem q488 : (Jvm.Cond.fieldLinkNest "MemberShelf$Shelf" (78 : Nat) "MemberShelf$Entry" "name" "I" "MemberShelf") ∈ lw_tbl := lw_at lw_m2 201 rfl
theorem q494 : (Jvm.Cond.fieldLinkNest "MemberShelf$Shelf" (129 : Nat) "MemberShelf$Entry" "text" "LMemberShelf$Text;" "MemberShelf") ∈ lw_tbl := lw_at lw_m2 207 rfl
theorem q511 : (Jvm.Cond.interfaceEntry "MemberShelf$Shelf" (85 : Nat)) ∈ lw_tbl := lw_at lw_m2 224 rfl
theorem q512 : (Jvm.Cond.methodLink "MemberShelf$Shelf" (85 : Nat) ({ cls := "java/util/List", name := "add", desc := "(ILjava/lang/Object;)V" } : Jvm.MethodName)) ∈ lw_all := lw_g (lw_at lw_m2 225 rfl) rfl
theorem q525 : (Jvm.Cond.instanceMethod ({ cls := "MemberShelf$Shelf", name := "add", desc := "(III)I" } : Jvm.MethodName)) ∈ lw_all := lw_g (lw_at lw_m2 238 rfl) rfl
theorem q526 : (Jvm.Cond.selects "MemberShelf$Shelf" ({ cls := "MemberShelf$Shelf", name := "add", desc := "(III)I" } : Jvm.MethodName) ({ cls := "MemberShelf$Shelf", name := "add", desc := "(III)I" } : Jvm.MethodName)) ∈ lw_all := lw_g (lw_at lw_m2 239 rfl) rfl
theorem q527 : (Jvm.Cond.code ({ cls := "MemberShelf$Shelf", name := "add", desc := "(III)I" } : Jvm.MethodName) prog_9_method_9_code (4 : Nat) (Option.some Jvm.ClassFile.FieldType.int)) ∈ lw_all := lw_g (lw_at lw_m3 0 rfl) rfl
theorem q528 : (Jvm.Cond.methodLink "MemberShelf$Shelf" (108 : Nat) ({ cls := "MemberShelf$Directory", name := "find", desc := "(I)LMemberShelf$Entry;" } : Jvm.MethodName)) ∈ lw_all := lw_g (lw_at lw_m3 1 rfl) rfl
theorem q532 : (Jvm.Cond.methodLink "MemberShelf$Shelf" (111 : Nat) ({ cls := "MemberShelf$Directory", name := "free", desc := "()I" } : Jvm.MethodName)) ∈ lw_all := lw_g (lw_at lw_m3 5 rfl) rfl
theorem q536 : (Jvm.Cond.methodLink "MemberShelf$Shelf" (114 : Nat) ({ cls := "MemberShelf$Shelf", name := "fits", desc := "(I)Z" } : Jvm.MethodName)) ∈ lw_all := lw_g (lw_at lw_m3 9 rfl) rfl
theorem q537 : (Jvm.Cond.instanceMethod ({ cls := "MemberShelf$Shelf", name := "fits", desc := "(I)Z" } : Jvm.MethodName)) ∈ lw_all := lw_g (lw_at lw_m3 10 rfl) rfl
theorem q538 : (Jvm.Cond.selects "MemberShelf$Shelf" ({ cls := "MemberShelf$Shelf", name := "fits", desc := "(I)Z" } : Jvm.MethodName) ({ cls := "MemberShelf$Shelf", name := "fits", desc := "(I)Z" } : Jvm.MethodName)) ∈ lw_all := lw_g (lw_at lw_m3 11 rfl) rfl
theorem q539 : (Jvm.Cond.code ({ cls := "MemberShelf$Shelf", name := "fits", desc := "(I)Z" } : Jvm.MethodName) prog_9_method_7_code (2 : Nat) (Option.some Jvm.ClassFile.FieldType.boolean)) ∈ lw_all := lw_g (lw_at lw_m3 12 rfl) rfl
theorem q540 : (Jvm.Cond.methodLink "MemberShelf$Shelf" (104 : Nat) ({ cls := "MemberShelf$Shelf", name := "end", desc := "()I" } : Jvm.MethodName)) ∈ lw_all := lw_g (lw_at lw_m3 13 rfl) rfl
theorem q541 : (Jvm.Cond.instanceMethod ({ cls := "MemberShelf$Shelf", name := "end", desc := "()I" } : Jvm.MethodName)) ∈ lw_all := lw_g (lw_at lw_m3 14 rfl) rfl
theorem q542 : (Jvm.Cond.selects "MemberShelf$Shelf" ({ cls := "MemberShelf$Shelf", name := "end", desc := "()I" } : Jvm.MethodName) ({ cls := "MemberShelf$Shelf", name := "end", desc := "()I" } : Jvm.MethodName)) ∈ lw_all := lw_g (lw_at lw_m3 15 rfl) rfl
theorem q543 : (Jvm.Cond.code ({ cls := "MemberShelf$Shelf", name := "end", desc := "()I" } : Jvm.MethodName) prog_9_method_4_code (1 : Nat) (Option.some Jvm.ClassFile.FieldType.int)) ∈ lw_all := lw_g (lw_at lw_m3 16 rfl) rfl
theorem q544 : (Jvm.Cond.interfaceEntry "MemberShelf$Shelf" (88 : Nat)) ∈ lw_tbl := lw_at lw_m3 17 rfl
theorem q545 : (Jvm.Cond.methodLink "MemberShelf$Shelf" (88 : Nat) ({ cls := "java/util/List", name := "isEmpty", desc := "()Z" } : Jvm.MethodName)) ∈ lw_all := lw_g (lw_at lw_m3 18 rfl) rfl
theorem q553 : (Jvm.Cond.methodLink "MemberShelf$Shelf" (91 : Nat) ({ cls := "MemberShelf$Text", name := "end", desc := "()I" } : Jvm.MethodName)) ∈ lw_all := lw_g (lw_at lw_m3 26 rfl) rfl
theorem q557 : (Jvm.Cond.methodLink "MemberShelf$Shelf" (118 : Nat) ({ cls := "MemberShelf$Shelf", name := "lay", desc := "(II)LMemberShelf$Text;" } : Jvm.MethodName)) ∈ lw_all := lw_g (lw_at lw_m3 30 rfl) rfl
theorem q558 : (Jvm.Cond.privateMethod ({ cls := "MemberShelf$Shelf", name := "lay", desc := "(II)LMemberShelf$Text;" } : Jvm.MethodName)) ∈ lw_tbl := lw_at lw_m3 31 rfl
theorem q559 : (Jvm.Cond.instanceMethod ({ cls := "MemberShelf$Shelf", name := "lay", desc := "(II)LMemberShelf$Text;" } : Jvm.MethodName)) ∈ lw_all := lw_g (lw_at lw_m3 32 rfl) rfl
theorem q560 : (Jvm.Cond.code ({ cls := "MemberShelf$Shelf", name := "lay", desc := "(II)LMemberShelf$Text;" } : Jvm.MethodName) prog_9_method_8_code (4 : Nat) (Option.some (Jvm.ClassFile.FieldType.object "MemberShelf$Text"))) ∈ lw_all := lw_g (lw_at lw_m3 33 rfl) rfl
theorem q562 : (Jvm.Cond.methodLink "MemberShelf$Shelf" (105 : Nat) ({ cls := "MemberShelf$Text", name := "<init>", desc := "(III)V" } : Jvm.MethodName)) ∈ lw_all := lw_g (lw_at lw_m3 35 rfl) rfl
theorem q567 : (Jvm.Cond.fieldLinkNest "MemberShelf$Shelf" (133 : Nat) "MemberShelf$Text" "start" "I" "MemberShelf") ∈ lw_tbl := lw_at lw_m3 40 rfl
theorem q570 : (Jvm.Cond.fieldLinkNest "MemberShelf$Shelf" (101 : Nat) "MemberShelf$Text" "length" "I" "MemberShelf") ∈ lw_tbl := lw_at lw_m3 43 rfl
theorem q581 : (Jvm.Cond.methodLink "MemberShelf$Shelf" (122 : Nat) ({ cls := "MemberShelf$Entry", name := "<init>", desc := "(ILMemberShelf$Text;)V" } : Jvm.MethodName)) ∈ lw_all := lw_g (lw_at lw_m3 54 rfl) rfl
theorem q582 : (Jvm.Cond.methodLink "MemberShelf$Shelf" (125 : Nat) ({ cls := "MemberShelf$Directory", name := "put", desc := "(LMemberShelf$Entry;)V" } : Jvm.MethodName)) ∈ lw_all := lw_g (lw_at lw_m3 55 rfl) rfl
theorem q649 : (Jvm.Cond.instanceMethod ({ cls := "MemberShelf$Shelf", name := "replace", desc := "(III)I" } : Jvm.MethodName)) ∈ lw_all := lw_g (lw_at lw_m3 122 rfl) rfl
theorem q650 : (Jvm.Cond.selects "MemberShelf$Shelf" ({ cls := "MemberShelf$Shelf", name := "replace", desc := "(III)I" } : Jvm.MethodName) ({ cls := "MemberShelf$Shelf", name := "replace", desc := "(III)I" } : Jvm.MethodName)) ∈ lw_all := lw_g (lw_at lw_m3 123 rfl) rfl
theorem q651 : (Jvm.Cond.code ({ cls := "MemberShelf$Shelf", name := "replace", desc := "(III)I" } : Jvm.MethodName) prog_9_method_10_code (5 : Nat) (Option.some Jvm.ClassFile.FieldType.int)) ∈ lw_all := lw_g (lw_at lw_m3 124 rfl) rfl
theorem q682 : (Jvm.Cond.selects "MemberShelf$Shelf" ({ cls := "java/lang/Object", name := "equals", desc := "(Ljava/lang/Object;)Z" } : Jvm.MethodName) ({ cls := "java/lang/Object", name := "equals", desc := "(Ljava/lang/Object;)Z" } : Jvm.MethodName)) ∈ lw_all := lw_g (lw_at lw_m3 155 rfl) rfl
theorem q724 : (Jvm.Cond.instanceMethod ({ cls := "MemberShelf$Shelf", name := "rename", desc := "(II)V" } : Jvm.MethodName)) ∈ lw_all := lw_g (lw_at lw_m3 197 rfl) rfl
theorem q725 : (Jvm.Cond.selects "MemberShelf$Shelf" ({ cls := "MemberShelf$Shelf", name := "rename", desc := "(II)V" } : Jvm.MethodName) ({ cls := "MemberShelf$Shelf", name := "rename", desc := "(II)V" } : Jvm.MethodName)) ∈ lw_all := lw_g (lw_at lw_m3 198 rfl) rfl
theorem q726 : (Jvm.Cond.code ({ cls := "MemberShelf$Shelf", name := "rename", desc := "(II)V" } : Jvm.MethodName) prog_9_method_12_code (7 : Nat) (Option.none : Option Jvm.ClassFile.FieldType)) ∈ lw_all := lw_g (lw_at lw_m3 199 rfl) rfl
theorem q727 : (Jvm.Cond.methodLink "MemberShelf$Shelf" (136 : Nat) ({ cls := "MemberShelf$Directory", name := "member", desc := "(I)LMemberShelf$Entry;" } : Jvm.MethodName)) ∈ lw_all := lw_g (lw_at lw_m3 200 rfl) rfl
theorem q728 : (Jvm.Cond.methodLink "MemberShelf$Shelf" (157 : Nat) ({ cls := "MemberShelf$Directory", name := "iterator", desc := "()Ljava/util/Iterator;" } : Jvm.MethodName)) ∈ lw_all := lw_g (lw_at lw_m3 201 rfl) rfl
theorem q729 : (Jvm.Cond.methodLink "MemberShelf$Shelf" (158 : Nat) ({ cls := "MemberShelf$Entry", name := "behind", desc := "(II)LMemberShelf$Entry;" } : Jvm.MethodName)) ∈ lw_all := lw_g (lw_at lw_m3 202 rfl) rfl
theorem q761 : (Jvm.Cond.instanceMethod ({ cls := "MemberShelf$Shelf", name := "alias", desc := "(II)I" } : Jvm.MethodName)) ∈ lw_all := lw_g (lw_at lw_m3 234 rfl) rfl
theorem q762 : (Jvm.Cond.selects "MemberShelf$Shelf" ({ cls := "MemberShelf$Shelf", name := "alias", desc := "(II)I" } : Jvm.MethodName) ({ cls := "MemberShelf$Shelf", name := "alias", desc := "(II)I" } : Jvm.MethodName)) ∈ lw_all := lw_g (lw_at lw_m3 235 rfl) rfl
theorem q763 : (Jvm.Cond.code ({ cls := "MemberShelf$Shelf", name := "alias", desc := "(II)I" } : Jvm.MethodName) prog_9_method_11_code (5 : Nat) (Option.some Jvm.ClassFile.FieldType.int)) ∈ lw_all := lw_g (lw_at lw_m3 236 rfl) rfl
theorem q764 : (Jvm.Cond.methodLink "MemberShelf$Shelf" (139 : Nat) ({ cls := "MemberShelf$Entry", name := "isAlias", desc := "()Z" } : Jvm.MethodName)) ∈ lw_all := lw_g (lw_at lw_m3 237 rfl) rfl
theorem q765 : (Jvm.Cond.methodLink "MemberShelf$Shelf" (142 : Nat) ({ cls := "MemberShelf$Entry", name := "given", desc := "()I" } : Jvm.MethodName)) ∈ lw_all := lw_g (lw_at lw_m3 238 rfl) rfl
theorem q773 : (Jvm.Cond.methodLink "MemberShelf$Shelf" (145 : Nat) ({ cls := "MemberShelf$Directory", name := "take", desc := "(I)V" } : Jvm.MethodName)) ∈ lw_all := lw_g (lw_at lw_m4 6 rfl) rfl
theorem q774 : (Jvm.Cond.classLink "MemberShelf$Shelf" (149 : Nat) "MemberShelf$Alias") ∈ lw_all := lw_g (lw_at lw_m4 7 rfl) rfl
theorem q775 : (Jvm.Cond.methodLink "MemberShelf$Shelf" (151 : Nat) ({ cls := "MemberShelf$Alias", name := "<init>", desc := "(ILMemberShelf$Text;I)V" } : Jvm.MethodName)) ∈ lw_all := lw_g (lw_at lw_m4 8 rfl) rfl
theorem q944 : (Jvm.Cond.instanceMethod ({ cls := "MemberShelf$Shelf", name := "make", desc := "([I)I" } : Jvm.MethodName)) ∈ lw_all := lw_g (lw_at lw_m4 177 rfl) rfl
theorem q945 : (Jvm.Cond.selects "MemberShelf$Shelf" ({ cls := "MemberShelf$Shelf", name := "make", desc := "([I)I" } : Jvm.MethodName) ({ cls := "MemberShelf$Shelf", name := "make", desc := "([I)I" } : Jvm.MethodName)) ∈ lw_all := lw_g (lw_at lw_m4 178 rfl) rfl
theorem q946 : (Jvm.Cond.code ({ cls := "MemberShelf$Shelf", name := "make", desc := "([I)I" } : Jvm.MethodName) prog_9_method_13_code (2 : Nat) (Option.some Jvm.ClassFile.FieldType.int)) ∈ lw_all := lw_g (lw_at lw_m4 179 rfl) rfl
theorem q947 : (Jvm.Cond.methodLink "MemberShelf$Shelf" (162 : Nat) ({ cls := "MemberShelf$Shelf", name := "alias", desc := "(II)I" } : Jvm.MethodName)) ∈ lw_all := lw_g (lw_at lw_m4 180 rfl) rfl
theorem q948 : (Jvm.Cond.methodLink "MemberShelf$Shelf" (166 : Nat) ({ cls := "MemberShelf$Shelf", name := "add", desc := "(III)I" } : Jvm.MethodName)) ∈ lw_all := lw_g (lw_at lw_m4 181 rfl) rfl
theorem q956 : (Jvm.Cond.instanceMethod ({ cls := "MemberShelf$Shelf", name := "units", desc := "(Z)I" } : Jvm.MethodName)) ∈ lw_all := lw_g (lw_at lw_m4 189 rfl) rfl
theorem q957 : (Jvm.Cond.selects "MemberShelf$Shelf" ({ cls := "MemberShelf$Shelf", name := "units", desc := "(Z)I" } : Jvm.MethodName) ({ cls := "MemberShelf$Shelf", name := "units", desc := "(Z)I" } : Jvm.MethodName)) ∈ lw_all := lw_g (lw_at lw_m4 190 rfl) rfl
theorem q958 : (Jvm.Cond.code ({ cls := "MemberShelf$Shelf", name := "units", desc := "(Z)I" } : Jvm.MethodName) prog_9_method_6_code (5 : Nat) (Option.some Jvm.ClassFile.FieldType.int)) ∈ lw_all := lw_g (lw_at lw_m4 191 rfl) rfl
theorem q959 : (Jvm.Cond.methodLink "MemberShelf$Shelf" (98 : Nat) ({ cls := "MemberShelf$Shelf", name := "isDead", desc := "(LMemberShelf$Text;)Z" } : Jvm.MethodName)) ∈ lw_all := lw_g (lw_at lw_m4 192 rfl) rfl
theorem q960 : (Jvm.Cond.instanceMethod ({ cls := "MemberShelf$Shelf", name := "isDead", desc := "(LMemberShelf$Text;)Z" } : Jvm.MethodName)) ∈ lw_all := lw_g (lw_at lw_m4 193 rfl) rfl
theorem q961 : (Jvm.Cond.selects "MemberShelf$Shelf" ({ cls := "MemberShelf$Shelf", name := "isDead", desc := "(LMemberShelf$Text;)Z" } : Jvm.MethodName) ({ cls := "MemberShelf$Shelf", name := "isDead", desc := "(LMemberShelf$Text;)Z" } : Jvm.MethodName)) ∈ lw_all := lw_g (lw_at lw_m4 194 rfl) rfl
theorem q962 : (Jvm.Cond.code ({ cls := "MemberShelf$Shelf", name := "isDead", desc := "(LMemberShelf$Text;)Z" } : Jvm.MethodName) prog_9_method_5_code (2 : Nat) (Option.some Jvm.ClassFile.FieldType.boolean)) ∈ lw_all := lw_g (lw_at lw_m4 195 rfl) rfl
theorem q963 : (Jvm.Cond.methodLink "MemberShelf$Shelf" (94 : Nat) ({ cls := "MemberShelf$Directory", name := "pointsTo", desc := "(LMemberShelf$Text;)Z" } : Jvm.MethodName)) ∈ lw_all := lw_g (lw_at lw_m4 196 rfl) rfl
theorem q968 : (Jvm.Cond.instanceMethod ({ cls := "MemberShelf$Shelf", name := "squeeze", desc := "()I" } : Jvm.MethodName)) ∈ lw_all := lw_g (lw_at lw_m4 201 rfl) rfl
theorem q969 : (Jvm.Cond.selects "MemberShelf$Shelf" ({ cls := "MemberShelf$Shelf", name := "squeeze", desc := "()I" } : Jvm.MethodName) ({ cls := "MemberShelf$Shelf", name := "squeeze", desc := "()I" } : Jvm.MethodName)) ∈ lw_all := lw_g (lw_at lw_m4 202 rfl) rfl
theorem q970 : (Jvm.Cond.code ({ cls := "MemberShelf$Shelf", name := "squeeze", desc := "()I" } : Jvm.MethodName) prog_9_method_14_code (8 : Nat) (Option.some Jvm.ClassFile.FieldType.int)) ∈ lw_all := lw_g (lw_at lw_m4 203 rfl) rfl
theorem q971 : (Jvm.Cond.interfaceEntry "MemberShelf$Shelf" (169 : Nat)) ∈ lw_tbl := lw_at lw_m4 204 rfl
theorem q972 : (Jvm.Cond.methodLink "MemberShelf$Shelf" (169 : Nat) ({ cls := "java/util/List", name := "clear", desc := "()V" } : Jvm.MethodName)) ∈ lw_all := lw_g (lw_at lw_m4 205 rfl) rfl
theorem q980 : (Jvm.Cond.methodLink "MemberShelf$Shelf" (172 : Nat) ({ cls := "MemberShelf$Text", name := "at", desc := "(I)LMemberShelf$Text;" } : Jvm.MethodName)) ∈ lw_all := lw_g (lw_at lw_m4 213 rfl) rfl
theorem q1472 : (Jvm.Cond.castable "MemberShelf$Shelf" "java/lang/Object") ∈ lw_tbl := lw_at lw_m6 225 rfl
def RX10 : String := "MemberShelf$Directory$Block"
def TX10 : u_T := fun k => match k with
  | 0 => ("MemberShelf$Directory$Block", "number", "I", true)
  | _ => ("MemberShelf$Directory$Block", "this$0", "LMemberShelf$Directory;", true)
def tyX10 : Nat → FieldType := fun k => match k with
  | 0 => .int
  | _ => .object "MemberShelf$Directory"
abbrev wsX100 : List Cond := u_ws RX10 TX10 2
theorem nmX10 : ∀ a, a < 2 → ∀ b, b < 2 → a ≠ b → (TX10 a).2.1 ≠ (TX10 b).2.1 := by decide +kernel
theorem tyX10_ok : ∀ k, k < 2 → parseFieldDescriptor (TX10 k).2.2.1 = some (tyX10 k) := by decide +kernel
abbrev cX10_iterator : ByteArray := prog_6_method_2_code
def yX10_iterator : MethodName := ⟨RX10, "iterator", "()Ljava/util/Iterator;"⟩
abbrev cX10_init : ByteArray := prog_6_method_1_code
def yX10_init : MethodName := ⟨RX10, "<init>", "(LMemberShelf$Directory;I)V"⟩
theorem q76 : (Jvm.Cond.initialized "MemberShelf$Directory$Block") ∈ lw_all := lw_g (lw_at lw_m1 29 rfl) rfl
theorem q127 : (Jvm.Cond.fieldLinkNest "MemberShelf$Directory$Block" (19 : Nat) "MemberShelf$Directory" "entries" "Ljava/util/List;" "MemberShelf") ∈ lw_tbl := lw_at lw_m1 80 rfl
theorem q387 : (Jvm.Cond.selects "MemberShelf$Directory$Block" ({ cls := "java/lang/Object", name := "getClass", desc := "()Ljava/lang/Class;" } : Jvm.MethodName) ({ cls := "java/lang/Object", name := "getClass", desc := "()Ljava/lang/Class;" } : Jvm.MethodName)) ∈ lw_all := lw_g (lw_at lw_m2 100 rfl) rfl
theorem q679 : (Jvm.Cond.selects "MemberShelf$Directory$Block" ({ cls := "java/lang/Object", name := "equals", desc := "(Ljava/lang/Object;)Z" } : Jvm.MethodName) ({ cls := "java/lang/Object", name := "equals", desc := "(Ljava/lang/Object;)Z" } : Jvm.MethodName)) ∈ lw_all := lw_g (lw_at lw_m3 152 rfl) rfl
theorem q705 : (Jvm.Cond.castable "MemberShelf$Directory$Block" "MemberShelf$Walked") ∈ lw_tbl := lw_at lw_m3 178 rfl
theorem q706 : (Jvm.Cond.selects "MemberShelf$Directory$Block" ({ cls := "java/lang/Iterable", name := "iterator", desc := "()Ljava/util/Iterator;" } : Jvm.MethodName) ({ cls := "MemberShelf$Directory$Block", name := "iterator", desc := "()Ljava/util/Iterator;" } : Jvm.MethodName)) ∈ lw_all := lw_g (lw_at lw_m3 179 rfl) rfl
theorem q707 : (Jvm.Cond.unhidden "MemberShelf$Directory$Block" "iterator" "()Ljava/util/Iterator;") ∈ lw_tbl := lw_at lw_m3 180 rfl
theorem q708 : (Jvm.Cond.instanceMethod ({ cls := "MemberShelf$Directory$Block", name := "iterator", desc := "()Ljava/util/Iterator;" } : Jvm.MethodName)) ∈ lw_all := lw_g (lw_at lw_m3 181 rfl) rfl
theorem q709 : (Jvm.Cond.publicMethod ({ cls := "MemberShelf$Directory$Block", name := "iterator", desc := "()Ljava/util/Iterator;" } : Jvm.MethodName)) ∈ lw_tbl := lw_at lw_m3 182 rfl
theorem q710 : (Jvm.Cond.code ({ cls := "MemberShelf$Directory$Block", name := "iterator", desc := "()Ljava/util/Iterator;" } : Jvm.MethodName) prog_6_method_2_code (1 : Nat) (Option.some (Jvm.ClassFile.FieldType.object "java/util/Iterator"))) ∈ lw_all := lw_g (lw_at lw_m3 183 rfl) rfl
theorem q711 : (Jvm.Cond.interfaceEntry "MemberShelf$Directory$Block" (25 : Nat)) ∈ lw_tbl := lw_at lw_m3 184 rfl
theorem q712 : (Jvm.Cond.methodLink "MemberShelf$Directory$Block" (25 : Nat) ({ cls := "java/util/List", name := "size", desc := "()I" } : Jvm.MethodName)) ∈ lw_all := lw_g (lw_at lw_m3 185 rfl) rfl
theorem q713 : (Jvm.Cond.methodLink "MemberShelf$Directory$Block" (31 : Nat) ({ cls := "java/lang/Math", name := "min", desc := "(II)I" } : Jvm.MethodName)) ∈ lw_all := lw_g (lw_at lw_m3 186 rfl) rfl
theorem q714 : (Jvm.Cond.methodLinkNest "MemberShelf$Directory$Block" (37 : Nat) ({ cls := "MemberShelf$Directory", name := "walk", desc := "(II)Ljava/util/Iterator;" } : Jvm.MethodName) "MemberShelf") ∈ lw_tbl := lw_at lw_m3 187 rfl
theorem q1146 : (Jvm.Cond.instantiable "MemberShelf$Directory$Block" (2 : Nat)) ∈ lw_all := lw_g (lw_at lw_m5 139 rfl) rfl
theorem q1148 : (Jvm.Cond.instanceMethod ({ cls := "MemberShelf$Directory$Block", name := "<init>", desc := "(LMemberShelf$Directory;I)V" } : Jvm.MethodName)) ∈ lw_all := lw_g (lw_at lw_m5 141 rfl) rfl
theorem q1149 : (Jvm.Cond.code ({ cls := "MemberShelf$Directory$Block", name := "<init>", desc := "(LMemberShelf$Directory;I)V" } : Jvm.MethodName) prog_6_method_1_code (3 : Nat) (Option.none : Option Jvm.ClassFile.FieldType)) ∈ lw_all := lw_g (lw_at lw_m5 142 rfl) rfl
theorem q1150 : (Jvm.Cond.methodLink "MemberShelf$Directory$Block" (9 : Nat) ({ cls := "java/lang/Object", name := "<init>", desc := "()V" } : Jvm.MethodName)) ∈ lw_all := lw_g (lw_at lw_m5 143 rfl) rfl
theorem q1151 : (Jvm.Cond.fieldLink "MemberShelf$Directory$Block" (15 : Nat) "MemberShelf$Directory$Block" "number" "I") ∈ lw_all := lw_g (lw_at lw_m5 144 rfl) rfl
theorem q1152 : (Jvm.Cond.fieldLink "MemberShelf$Directory$Block" (3 : Nat) "MemberShelf$Directory$Block" "this$0" "LMemberShelf$Directory;") ∈ lw_all := lw_g (lw_at lw_m5 145 rfl) rfl
theorem q1153 : (Jvm.Cond.laysFinal "MemberShelf$Directory$Block" "MemberShelf$Directory$Block" "number" "I") ∈ lw_all := lw_g (lw_at lw_m5 146 rfl) rfl
theorem q1154 : (Jvm.Cond.soleField "MemberShelf$Directory$Block" "number") ∈ lw_all := lw_g (lw_at lw_m5 147 rfl) rfl
theorem q1155 : (Jvm.Cond.laysFinal "MemberShelf$Directory$Block" "MemberShelf$Directory$Block" "this$0" "LMemberShelf$Directory;") ∈ lw_all := lw_g (lw_at lw_m5 148 rfl) rfl
theorem q1156 : (Jvm.Cond.soleField "MemberShelf$Directory$Block" "this$0") ∈ lw_all := lw_g (lw_at lw_m5 149 rfl) rfl
theorem q1157 : (Jvm.Cond.superclass "MemberShelf$Directory$Block" "java/lang/Object") ∈ lw_all := lw_g (lw_at lw_m5 150 rfl) rfl
theorem q1163 : (Jvm.Cond.unhidden "MemberShelf$Directory$Block" "count" "()I") ∈ lw_tbl := lw_at lw_m5 156 rfl
theorem q1174 : (Jvm.Cond.unhidden "MemberShelf$Directory$Block" "first" "()I") ∈ lw_tbl := lw_at lw_m5 167 rfl
theorem q1183 : (Jvm.Cond.unhidden "MemberShelf$Directory$Block" "last" "()I") ∈ lw_tbl := lw_at lw_m5 176 rfl
theorem q1485 : (Jvm.Cond.castable "MemberShelf$Directory$Block" "java/lang/Object") ∈ lw_tbl := lw_at lw_m6 238 rfl
def RX11 : String := "MemberShelf$Walked"
abbrev cX11_count : ByteArray := prog_11_method_1_code
def yX11_count : MethodName := ⟨RX11, "count", "()I"⟩
abbrev cX11_first : ByteArray := prog_11_method_3_code
def yX11_first : MethodName := ⟨RX11, "first", "()I"⟩
abbrev cX11_last : ByteArray := prog_11_method_2_code
def yX11_last : MethodName := ⟨RX11, "last", "()I"⟩
theorem q487 : (Jvm.Cond.fieldLinkNest "MemberShelf$Walked" (21 : Nat) "MemberShelf$Entry" "name" "I" "MemberShelf") ∈ lw_tbl := lw_at lw_m2 200 rfl
theorem q694 : (Jvm.Cond.interfaceMethod "MemberShelf$Walked" "MemberShelf$Walked" "count" "()I") ∈ lw_tbl := lw_at lw_m3 167 rfl
theorem q695 : (Jvm.Cond.declares ({ cls := "MemberShelf$Walked", name := "count", desc := "()I" } : Jvm.MethodName)) ∈ lw_tbl := lw_at lw_m3 168 rfl
theorem q696 : (Jvm.Cond.instanceMethod ({ cls := "MemberShelf$Walked", name := "count", desc := "()I" } : Jvm.MethodName)) ∈ lw_all := lw_g (lw_at lw_m3 169 rfl) rfl
theorem q697 : (Jvm.Cond.code ({ cls := "MemberShelf$Walked", name := "count", desc := "()I" } : Jvm.MethodName) prog_11_method_1_code (3 : Nat) (Option.some Jvm.ClassFile.FieldType.int)) ∈ lw_all := lw_g (lw_at lw_m3 170 rfl) rfl
theorem q698 : (Jvm.Cond.interfaceEntry "MemberShelf$Walked" (3 : Nat)) ∈ lw_tbl := lw_at lw_m3 171 rfl
theorem q715 : (Jvm.Cond.interfaceEntry "MemberShelf$Walked" (9 : Nat)) ∈ lw_tbl := lw_at lw_m3 188 rfl
theorem q716 : (Jvm.Cond.methodLink "MemberShelf$Walked" (9 : Nat) ({ cls := "java/util/Iterator", name := "hasNext", desc := "()Z" } : Jvm.MethodName)) ∈ lw_all := lw_g (lw_at lw_m3 189 rfl) rfl
theorem q717 : (Jvm.Cond.interfaceEntry "MemberShelf$Walked" (15 : Nat)) ∈ lw_tbl := lw_at lw_m3 190 rfl
theorem q718 : (Jvm.Cond.methodLink "MemberShelf$Walked" (15 : Nat) ({ cls := "java/util/Iterator", name := "next", desc := "()Ljava/lang/Object;" } : Jvm.MethodName)) ∈ lw_all := lw_g (lw_at lw_m3 191 rfl) rfl
theorem q1164 : (Jvm.Cond.publicMethod ({ cls := "MemberShelf$Walked", name := "count", desc := "()I" } : Jvm.MethodName)) ∈ lw_tbl := lw_at lw_m5 157 rfl
theorem q1167 : (Jvm.Cond.interfaceMethod "MemberShelf$Walked" "MemberShelf$Walked" "first" "()I") ∈ lw_tbl := lw_at lw_m5 160 rfl
theorem q1168 : (Jvm.Cond.declares ({ cls := "MemberShelf$Walked", name := "first", desc := "()I" } : Jvm.MethodName)) ∈ lw_tbl := lw_at lw_m5 161 rfl
theorem q1170 : (Jvm.Cond.instanceMethod ({ cls := "MemberShelf$Walked", name := "first", desc := "()I" } : Jvm.MethodName)) ∈ lw_all := lw_g (lw_at lw_m5 163 rfl) rfl
theorem q1171 : (Jvm.Cond.publicMethod ({ cls := "MemberShelf$Walked", name := "first", desc := "()I" } : Jvm.MethodName)) ∈ lw_tbl := lw_at lw_m5 164 rfl
theorem q1172 : (Jvm.Cond.code ({ cls := "MemberShelf$Walked", name := "first", desc := "()I" } : Jvm.MethodName) prog_11_method_3_code (2 : Nat) (Option.some Jvm.ClassFile.FieldType.int)) ∈ lw_all := lw_g (lw_at lw_m5 165 rfl) rfl
theorem q1173 : (Jvm.Cond.classLink "MemberShelf$Walked" (19 : Nat) "MemberShelf$Entry") ∈ lw_all := lw_g (lw_at lw_m5 166 rfl) rfl
theorem q1177 : (Jvm.Cond.interfaceMethod "MemberShelf$Walked" "MemberShelf$Walked" "last" "()I") ∈ lw_tbl := lw_at lw_m5 170 rfl
theorem q1178 : (Jvm.Cond.declares ({ cls := "MemberShelf$Walked", name := "last", desc := "()I" } : Jvm.MethodName)) ∈ lw_tbl := lw_at lw_m5 171 rfl
theorem q1180 : (Jvm.Cond.instanceMethod ({ cls := "MemberShelf$Walked", name := "last", desc := "()I" } : Jvm.MethodName)) ∈ lw_all := lw_g (lw_at lw_m5 173 rfl) rfl
theorem q1181 : (Jvm.Cond.publicMethod ({ cls := "MemberShelf$Walked", name := "last", desc := "()I" } : Jvm.MethodName)) ∈ lw_tbl := lw_at lw_m5 174 rfl
theorem q1182 : (Jvm.Cond.code ({ cls := "MemberShelf$Walked", name := "last", desc := "()I" } : Jvm.MethodName) prog_11_method_2_code (4 : Nat) (Option.some Jvm.ClassFile.FieldType.int)) ∈ lw_all := lw_g (lw_at lw_m5 175 rfl) rfl
theorem q1469 : (Jvm.Cond.initialized "MemberShelf$Walked") ∈ lw_all := lw_g (lw_at lw_m6 222 rfl) rfl
def RX2 : String := "MemberShelf$Directory"
def TX2 : u_T := fun k => match k with
  | 0 => ("MemberShelf$Directory", "entries", "Ljava/util/List;", true)
  | _ => ("MemberShelf$Directory", "blocks", "I", false)
def tyX2 : Nat → FieldType := fun k => match k with
  | 0 => .object "java/util/List"
  | _ => .int
abbrev wsX20 : List Cond := u_ws RX2 TX2 2
theorem nmX2 : ∀ a, a < 2 → ∀ b, b < 2 → a ≠ b → (TX2 a).2.1 ≠ (TX2 b).2.1 := by decide +kernel
theorem tyX2_ok : ∀ k, k < 2 → parseFieldDescriptor (TX2 k).2.2.1 = some (tyX2 k) := by decide +kernel
abbrev cX2_init : ByteArray := prog_4_method_1_code
def yX2_init : MethodName := ⟨RX2, "<init>", "()V"⟩
abbrev cX2_copy : ByteArray := prog_4_method_2_code
def yX2_copy : MethodName := ⟨RX2, "copy", "()LMemberShelf$Directory;"⟩
abbrev cX2_iterator : ByteArray := prog_4_method_4_code
def yX2_iterator : MethodName := ⟨RX2, "iterator", "()Ljava/util/Iterator;"⟩
abbrev cX2_walk : ByteArray := prog_4_method_6_code
def yX2_walk : MethodName := ⟨RX2, "walk", "(II)Ljava/util/Iterator;"⟩
abbrev cX2_find : ByteArray := prog_4_method_7_code
def yX2_find : MethodName := ⟨RX2, "find", "(I)LMemberShelf$Entry;"⟩
abbrev cX2_free : ByteArray := prog_4_method_9_code
def yX2_free : MethodName := ⟨RX2, "free", "()I"⟩
abbrev cX2_put : ByteArray := prog_4_method_10_code
def yX2_put : MethodName := ⟨RX2, "put", "(LMemberShelf$Entry;)V"⟩
abbrev cX2_member : ByteArray := prog_4_method_8_code
def yX2_member : MethodName := ⟨RX2, "member", "(I)LMemberShelf$Entry;"⟩
abbrev cX2_take : ByteArray := prog_4_method_11_code
def yX2_take : MethodName := ⟨RX2, "take", "(I)V"⟩
abbrev cX2_count : ByteArray := prog_4_method_5_code
def yX2_count : MethodName := ⟨RX2, "count", "()I"⟩
abbrev cX2_rankOf : ByteArray := prog_4_method_12_code
def yX2_rankOf : MethodName := ⟨RX2, "rankOf", "(I)I"⟩
abbrev cX2_pointsTo : ByteArray := prog_4_method_13_code
def yX2_pointsTo : MethodName := ⟨RX2, "pointsTo", "(LMemberShelf$Text;)Z"⟩
abbrev cX2_aliasesOf : ByteArray := prog_4_method_14_code
def yX2_aliasesOf : MethodName := ⟨RX2, "aliasesOf", "(LMemberShelf$Text;)I"⟩
abbrev cX2_block : ByteArray := prog_4_method_3_code
def yX2_block : MethodName := ⟨RX2, "block", "(I)LMemberShelf$Directory$Block;"⟩
theorem q50 : (Jvm.Cond.initialized "MemberShelf$Directory") ∈ lw_all := lw_g (lw_at lw_m1 3 rfl) rfl
theorem q92 : (Jvm.Cond.instantiable "MemberShelf$Directory" (2 : Nat)) ∈ lw_all := lw_g (lw_at lw_m1 45 rfl) rfl
theorem q94 : (Jvm.Cond.instanceMethod ({ cls := "MemberShelf$Directory", name := "<init>", desc := "()V" } : Jvm.MethodName)) ∈ lw_all := lw_g (lw_at lw_m1 47 rfl) rfl
theorem q95 : (Jvm.Cond.code ({ cls := "MemberShelf$Directory", name := "<init>", desc := "()V" } : Jvm.MethodName) prog_4_method_1_code (1 : Nat) (Option.none : Option Jvm.ClassFile.FieldType)) ∈ lw_all := lw_g (lw_at lw_m1 48 rfl) rfl
theorem q96 : (Jvm.Cond.methodLink "MemberShelf$Directory" (3 : Nat) ({ cls := "java/lang/Object", name := "<init>", desc := "()V" } : Jvm.MethodName)) ∈ lw_all := lw_g (lw_at lw_m1 49 rfl) rfl
theorem q97 : (Jvm.Cond.classLink "MemberShelf$Directory" (9 : Nat) "java/util/ArrayList") ∈ lw_all := lw_g (lw_at lw_m1 50 rfl) rfl
theorem q99 : (Jvm.Cond.methodLink "MemberShelf$Directory" (11 : Nat) ({ cls := "java/util/ArrayList", name := "<init>", desc := "()V" } : Jvm.MethodName)) ∈ lw_all := lw_g (lw_at lw_m1 52 rfl) rfl
theorem q126 : (Jvm.Cond.fieldLink "MemberShelf$Directory" (12 : Nat) "MemberShelf$Directory" "entries" "Ljava/util/List;") ∈ lw_all := lw_g (lw_at lw_m1 79 rfl) rfl
theorem q131 : (Jvm.Cond.fieldLink "MemberShelf$Directory" (18 : Nat) "MemberShelf$Directory" "blocks" "I") ∈ lw_all := lw_g (lw_at lw_m1 84 rfl) rfl
theorem q134 : (Jvm.Cond.laysFinal "MemberShelf$Directory" "MemberShelf$Directory" "entries" "Ljava/util/List;") ∈ lw_all := lw_g (lw_at lw_m1 87 rfl) rfl
theorem q135 : (Jvm.Cond.soleField "MemberShelf$Directory" "entries") ∈ lw_all := lw_g (lw_at lw_m1 88 rfl) rfl
theorem q136 : (Jvm.Cond.lays "MemberShelf$Directory" "MemberShelf$Directory" "blocks" "I") ∈ lw_all := lw_g (lw_at lw_m1 89 rfl) rfl
theorem q137 : (Jvm.Cond.soleField "MemberShelf$Directory" "blocks") ∈ lw_all := lw_g (lw_at lw_m1 90 rfl) rfl
theorem q138 : (Jvm.Cond.superclass "MemberShelf$Directory" "java/lang/Object") ∈ lw_all := lw_g (lw_at lw_m1 91 rfl) rfl
theorem q244 : (Jvm.Cond.instanceMethod ({ cls := "MemberShelf$Directory", name := "copy", desc := "()LMemberShelf$Directory;" } : Jvm.MethodName)) ∈ lw_all := lw_g (lw_at lw_m1 197 rfl) rfl
theorem q245 : (Jvm.Cond.selects "MemberShelf$Directory" ({ cls := "MemberShelf$Directory", name := "copy", desc := "()LMemberShelf$Directory;" } : Jvm.MethodName) ({ cls := "MemberShelf$Directory", name := "copy", desc := "()LMemberShelf$Directory;" } : Jvm.MethodName)) ∈ lw_all := lw_g (lw_at lw_m1 198 rfl) rfl
theorem q246 : (Jvm.Cond.code ({ cls := "MemberShelf$Directory", name := "copy", desc := "()LMemberShelf$Directory;" } : Jvm.MethodName) prog_4_method_2_code (4 : Nat) (Option.some (Jvm.ClassFile.FieldType.object "MemberShelf$Directory"))) ∈ lw_all := lw_g (lw_at lw_m1 199 rfl) rfl
theorem q247 : (Jvm.Cond.classLink "MemberShelf$Directory" (13 : Nat) "MemberShelf$Directory") ∈ lw_all := lw_g (lw_at lw_m1 200 rfl) rfl
theorem q248 : (Jvm.Cond.methodLink "MemberShelf$Directory" (22 : Nat) ({ cls := "MemberShelf$Directory", name := "<init>", desc := "()V" } : Jvm.MethodName)) ∈ lw_all := lw_g (lw_at lw_m1 201 rfl) rfl
theorem q249 : (Jvm.Cond.methodLink "MemberShelf$Directory" (23 : Nat) ({ cls := "MemberShelf$Directory", name := "iterator", desc := "()Ljava/util/Iterator;" } : Jvm.MethodName)) ∈ lw_all := lw_g (lw_at lw_m1 202 rfl) rfl
theorem q250 : (Jvm.Cond.instanceMethod ({ cls := "MemberShelf$Directory", name := "iterator", desc := "()Ljava/util/Iterator;" } : Jvm.MethodName)) ∈ lw_all := lw_g (lw_at lw_m1 203 rfl) rfl
theorem q251 : (Jvm.Cond.selects "MemberShelf$Directory" ({ cls := "MemberShelf$Directory", name := "iterator", desc := "()Ljava/util/Iterator;" } : Jvm.MethodName) ({ cls := "MemberShelf$Directory", name := "iterator", desc := "()Ljava/util/Iterator;" } : Jvm.MethodName)) ∈ lw_all := lw_g (lw_at lw_m1 204 rfl) rfl
theorem q252 : (Jvm.Cond.code ({ cls := "MemberShelf$Directory", name := "iterator", desc := "()Ljava/util/Iterator;" } : Jvm.MethodName) prog_4_method_4_code (1 : Nat) (Option.some (Jvm.ClassFile.FieldType.object "java/util/Iterator"))) ∈ lw_all := lw_g (lw_at lw_m1 205 rfl) rfl
theorem q253 : (Jvm.Cond.interfaceEntry "MemberShelf$Directory" (50 : Nat)) ∈ lw_tbl := lw_at lw_m1 206 rfl
theorem q254 : (Jvm.Cond.methodLink "MemberShelf$Directory" (50 : Nat) ({ cls := "java/util/List", name := "size", desc := "()I" } : Jvm.MethodName)) ∈ lw_all := lw_g (lw_at lw_m1 207 rfl) rfl
theorem q263 : (Jvm.Cond.methodLink "MemberShelf$Directory" (54 : Nat) ({ cls := "MemberShelf$Directory", name := "walk", desc := "(II)Ljava/util/Iterator;" } : Jvm.MethodName)) ∈ lw_all := lw_g (lw_at lw_m1 216 rfl) rfl
theorem q264 : (Jvm.Cond.privateMethod ({ cls := "MemberShelf$Directory", name := "walk", desc := "(II)Ljava/util/Iterator;" } : Jvm.MethodName)) ∈ lw_tbl := lw_at lw_m1 217 rfl
theorem q265 : (Jvm.Cond.instanceMethod ({ cls := "MemberShelf$Directory", name := "walk", desc := "(II)Ljava/util/Iterator;" } : Jvm.MethodName)) ∈ lw_all := lw_g (lw_at lw_m1 218 rfl) rfl
theorem q266 : (Jvm.Cond.code ({ cls := "MemberShelf$Directory", name := "walk", desc := "(II)Ljava/util/Iterator;" } : Jvm.MethodName) prog_4_method_6_code (3 : Nat) (Option.some (Jvm.ClassFile.FieldType.object "java/util/Iterator"))) ∈ lw_all := lw_g (lw_at lw_m1 219 rfl) rfl
theorem q267 : (Jvm.Cond.classLink "MemberShelf$Directory" (66 : Nat) "MemberShelf$Directory$1") ∈ lw_all := lw_g (lw_at lw_m1 220 rfl) rfl
theorem q269 : (Jvm.Cond.methodLink "MemberShelf$Directory" (68 : Nat) ({ cls := "MemberShelf$Directory$1", name := "<init>", desc := "(LMemberShelf$Directory;II)V" } : Jvm.MethodName)) ∈ lw_all := lw_g (lw_at lw_m1 222 rfl) rfl
theorem q286 : (Jvm.Cond.interfaceEntry "MemberShelf$Directory" (27 : Nat)) ∈ lw_tbl := lw_at lw_m1 239 rfl
theorem q287 : (Jvm.Cond.methodLink "MemberShelf$Directory" (27 : Nat) ({ cls := "java/util/Iterator", name := "hasNext", desc := "()Z" } : Jvm.MethodName)) ∈ lw_all := lw_g (lw_at lw_m2 0 rfl) rfl
theorem q302 : (Jvm.Cond.interfaceEntry "MemberShelf$Directory" (33 : Nat)) ∈ lw_tbl := lw_at lw_m2 15 rfl
theorem q303 : (Jvm.Cond.methodLink "MemberShelf$Directory" (33 : Nat) ({ cls := "java/util/Iterator", name := "next", desc := "()Ljava/lang/Object;" } : Jvm.MethodName)) ∈ lw_all := lw_g (lw_at lw_m2 16 rfl) rfl
theorem q344 : (Jvm.Cond.classLink "MemberShelf$Directory" (37 : Nat) "MemberShelf$Entry") ∈ lw_all := lw_g (lw_at lw_m2 57 rfl) rfl
theorem q345 : (Jvm.Cond.interfaceEntry "MemberShelf$Directory" (39 : Nat)) ∈ lw_tbl := lw_at lw_m2 58 rfl
theorem q346 : (Jvm.Cond.methodLink "MemberShelf$Directory" (39 : Nat) ({ cls := "java/util/List", name := "add", desc := "(Ljava/lang/Object;)Z" } : Jvm.MethodName)) ∈ lw_all := lw_g (lw_at lw_m2 59 rfl) rfl
theorem q385 : (Jvm.Cond.selects "MemberShelf$Directory" ({ cls := "java/lang/Object", name := "getClass", desc := "()Ljava/lang/Class;" } : Jvm.MethodName) ({ cls := "java/lang/Object", name := "getClass", desc := "()Ljava/lang/Class;" } : Jvm.MethodName)) ∈ lw_all := lw_g (lw_at lw_m2 98 rfl) rfl
theorem q490 : (Jvm.Cond.fieldLinkNest "MemberShelf$Directory" (71 : Nat) "MemberShelf$Entry" "name" "I" "MemberShelf") ∈ lw_tbl := lw_at lw_m2 203 rfl
theorem q495 : (Jvm.Cond.fieldLinkNest "MemberShelf$Directory" (95 : Nat) "MemberShelf$Entry" "text" "LMemberShelf$Text;" "MemberShelf") ∈ lw_tbl := lw_at lw_m2 208 rfl
theorem q529 : (Jvm.Cond.instanceMethod ({ cls := "MemberShelf$Directory", name := "find", desc := "(I)LMemberShelf$Entry;" } : Jvm.MethodName)) ∈ lw_all := lw_g (lw_at lw_m3 2 rfl) rfl
theorem q530 : (Jvm.Cond.selects "MemberShelf$Directory" ({ cls := "MemberShelf$Directory", name := "find", desc := "(I)LMemberShelf$Entry;" } : Jvm.MethodName) ({ cls := "MemberShelf$Directory", name := "find", desc := "(I)LMemberShelf$Entry;" } : Jvm.MethodName)) ∈ lw_all := lw_g (lw_at lw_m3 3 rfl) rfl
theorem q531 : (Jvm.Cond.code ({ cls := "MemberShelf$Directory", name := "find", desc := "(I)LMemberShelf$Entry;" } : Jvm.MethodName) prog_4_method_7_code (4 : Nat) (Option.some (Jvm.ClassFile.FieldType.object "MemberShelf$Entry"))) ∈ lw_all := lw_g (lw_at lw_m3 4 rfl) rfl
theorem q533 : (Jvm.Cond.instanceMethod ({ cls := "MemberShelf$Directory", name := "free", desc := "()I" } : Jvm.MethodName)) ∈ lw_all := lw_g (lw_at lw_m3 6 rfl) rfl
theorem q534 : (Jvm.Cond.selects "MemberShelf$Directory" ({ cls := "MemberShelf$Directory", name := "free", desc := "()I" } : Jvm.MethodName) ({ cls := "MemberShelf$Directory", name := "free", desc := "()I" } : Jvm.MethodName)) ∈ lw_all := lw_g (lw_at lw_m3 7 rfl) rfl
theorem q535 : (Jvm.Cond.code ({ cls := "MemberShelf$Directory", name := "free", desc := "()I" } : Jvm.MethodName) prog_4_method_9_code (1 : Nat) (Option.some Jvm.ClassFile.FieldType.int)) ∈ lw_all := lw_g (lw_at lw_m3 8 rfl) rfl
theorem q583 : (Jvm.Cond.instanceMethod ({ cls := "MemberShelf$Directory", name := "put", desc := "(LMemberShelf$Entry;)V" } : Jvm.MethodName)) ∈ lw_all := lw_g (lw_at lw_m3 56 rfl) rfl
theorem q584 : (Jvm.Cond.selects "MemberShelf$Directory" ({ cls := "MemberShelf$Directory", name := "put", desc := "(LMemberShelf$Entry;)V" } : Jvm.MethodName) ({ cls := "MemberShelf$Directory", name := "put", desc := "(LMemberShelf$Entry;)V" } : Jvm.MethodName)) ∈ lw_all := lw_g (lw_at lw_m3 57 rfl) rfl
theorem q585 : (Jvm.Cond.code ({ cls := "MemberShelf$Directory", name := "put", desc := "(LMemberShelf$Entry;)V" } : Jvm.MethodName) prog_4_method_10_code (3 : Nat) (Option.none : Option Jvm.ClassFile.FieldType)) ∈ lw_all := lw_g (lw_at lw_m3 58 rfl) rfl
theorem q586 : (Jvm.Cond.interfaceEntry "MemberShelf$Directory" (81 : Nat)) ∈ lw_tbl := lw_at lw_m3 59 rfl
theorem q587 : (Jvm.Cond.methodLink "MemberShelf$Directory" (81 : Nat) ({ cls := "java/util/List", name := "get", desc := "(I)Ljava/lang/Object;" } : Jvm.MethodName)) ∈ lw_all := lw_g (lw_at lw_m3 60 rfl) rfl
theorem q588 : (Jvm.Cond.interfaceEntry "MemberShelf$Directory" (85 : Nat)) ∈ lw_tbl := lw_at lw_m3 61 rfl
theorem q589 : (Jvm.Cond.methodLink "MemberShelf$Directory" (85 : Nat) ({ cls := "java/util/List", name := "add", desc := "(ILjava/lang/Object;)V" } : Jvm.MethodName)) ∈ lw_all := lw_g (lw_at lw_m3 62 rfl) rfl
theorem q636 : (Jvm.Cond.instanceMethod ({ cls := "MemberShelf$Directory", name := "member", desc := "(I)LMemberShelf$Entry;" } : Jvm.MethodName)) ∈ lw_all := lw_g (lw_at lw_m3 109 rfl) rfl
theorem q637 : (Jvm.Cond.selects "MemberShelf$Directory" ({ cls := "MemberShelf$Directory", name := "member", desc := "(I)LMemberShelf$Entry;" } : Jvm.MethodName) ({ cls := "MemberShelf$Directory", name := "member", desc := "(I)LMemberShelf$Entry;" } : Jvm.MethodName)) ∈ lw_all := lw_g (lw_at lw_m3 110 rfl) rfl
theorem q638 : (Jvm.Cond.code ({ cls := "MemberShelf$Directory", name := "member", desc := "(I)LMemberShelf$Entry;" } : Jvm.MethodName) prog_4_method_8_code (3 : Nat) (Option.some (Jvm.ClassFile.FieldType.object "MemberShelf$Entry"))) ∈ lw_all := lw_g (lw_at lw_m3 111 rfl) rfl
theorem q639 : (Jvm.Cond.methodLink "MemberShelf$Directory" (74 : Nat) ({ cls := "MemberShelf$Directory", name := "find", desc := "(I)LMemberShelf$Entry;" } : Jvm.MethodName)) ∈ lw_all := lw_g (lw_at lw_m3 112 rfl) rfl
theorem q640 : (Jvm.Cond.methodLink "MemberShelf$Directory" (78 : Nat) ({ cls := "MemberShelf$Entry", name := "isAlias", desc := "()Z" } : Jvm.MethodName)) ∈ lw_all := lw_g (lw_at lw_m3 113 rfl) rfl
theorem q658 : (Jvm.Cond.instanceMethod ({ cls := "MemberShelf$Directory", name := "take", desc := "(I)V" } : Jvm.MethodName)) ∈ lw_all := lw_g (lw_at lw_m3 131 rfl) rfl
theorem q659 : (Jvm.Cond.selects "MemberShelf$Directory" ({ cls := "MemberShelf$Directory", name := "take", desc := "(I)V" } : Jvm.MethodName) ({ cls := "MemberShelf$Directory", name := "take", desc := "(I)V" } : Jvm.MethodName)) ∈ lw_all := lw_g (lw_at lw_m3 132 rfl) rfl
theorem q660 : (Jvm.Cond.code ({ cls := "MemberShelf$Directory", name := "take", desc := "(I)V" } : Jvm.MethodName) prog_4_method_11_code (2 : Nat) (Option.none : Option Jvm.ClassFile.FieldType)) ∈ lw_all := lw_g (lw_at lw_m3 133 rfl) rfl
theorem q661 : (Jvm.Cond.interfaceEntry "MemberShelf$Directory" (88 : Nat)) ∈ lw_tbl := lw_at lw_m3 134 rfl
theorem q662 : (Jvm.Cond.methodLink "MemberShelf$Directory" (88 : Nat) ({ cls := "java/util/List", name := "remove", desc := "(Ljava/lang/Object;)Z" } : Jvm.MethodName)) ∈ lw_all := lw_g (lw_at lw_m3 135 rfl) rfl
theorem q677 : (Jvm.Cond.selects "MemberShelf$Directory" ({ cls := "java/lang/Object", name := "equals", desc := "(Ljava/lang/Object;)Z" } : Jvm.MethodName) ({ cls := "java/lang/Object", name := "equals", desc := "(Ljava/lang/Object;)Z" } : Jvm.MethodName)) ∈ lw_all := lw_g (lw_at lw_m3 150 rfl) rfl
theorem q688 : (Jvm.Cond.instanceMethod ({ cls := "MemberShelf$Directory", name := "count", desc := "()I" } : Jvm.MethodName)) ∈ lw_all := lw_g (lw_at lw_m3 161 rfl) rfl
theorem q689 : (Jvm.Cond.selects "MemberShelf$Directory" ({ cls := "MemberShelf$Directory", name := "count", desc := "()I" } : Jvm.MethodName) ({ cls := "MemberShelf$Directory", name := "count", desc := "()I" } : Jvm.MethodName)) ∈ lw_all := lw_g (lw_at lw_m3 162 rfl) rfl
theorem q690 : (Jvm.Cond.code ({ cls := "MemberShelf$Directory", name := "count", desc := "()I" } : Jvm.MethodName) prog_4_method_5_code (1 : Nat) (Option.some Jvm.ClassFile.FieldType.int)) ∈ lw_all := lw_g (lw_at lw_m3 163 rfl) rfl
theorem q691 : (Jvm.Cond.interfaceEntry "MemberShelf$Directory" (58 : Nat)) ∈ lw_tbl := lw_at lw_m3 164 rfl
theorem q692 : (Jvm.Cond.methodLink "MemberShelf$Directory" (58 : Nat) ({ cls := "java/util/List", name := "isEmpty", desc := "()Z" } : Jvm.MethodName)) ∈ lw_all := lw_g (lw_at lw_m3 165 rfl) rfl
theorem q693 : (Jvm.Cond.methodLink "MemberShelf$Directory" (61 : Nat) ({ cls := "MemberShelf$Walked", name := "count", desc := "()I" } : Jvm.MethodName)) ∈ lw_all := lw_g (lw_at lw_m3 166 rfl) rfl
theorem q701 : (Jvm.Cond.castable "MemberShelf$Directory" "MemberShelf$Walked") ∈ lw_tbl := lw_at lw_m3 174 rfl
theorem q702 : (Jvm.Cond.selects "MemberShelf$Directory" ({ cls := "java/lang/Iterable", name := "iterator", desc := "()Ljava/util/Iterator;" } : Jvm.MethodName) ({ cls := "MemberShelf$Directory", name := "iterator", desc := "()Ljava/util/Iterator;" } : Jvm.MethodName)) ∈ lw_all := lw_g (lw_at lw_m3 175 rfl) rfl
theorem q703 : (Jvm.Cond.unhidden "MemberShelf$Directory" "iterator" "()Ljava/util/Iterator;") ∈ lw_tbl := lw_at lw_m3 176 rfl
theorem q704 : (Jvm.Cond.publicMethod ({ cls := "MemberShelf$Directory", name := "iterator", desc := "()Ljava/util/Iterator;" } : Jvm.MethodName)) ∈ lw_tbl := lw_at lw_m3 177 rfl
theorem q740 : (Jvm.Cond.instanceMethod ({ cls := "MemberShelf$Directory", name := "rankOf", desc := "(I)I" } : Jvm.MethodName)) ∈ lw_all := lw_g (lw_at lw_m3 213 rfl) rfl
theorem q741 : (Jvm.Cond.selects "MemberShelf$Directory" ({ cls := "MemberShelf$Directory", name := "rankOf", desc := "(I)I" } : Jvm.MethodName) ({ cls := "MemberShelf$Directory", name := "rankOf", desc := "(I)I" } : Jvm.MethodName)) ∈ lw_all := lw_g (lw_at lw_m3 214 rfl) rfl
theorem q742 : (Jvm.Cond.code ({ cls := "MemberShelf$Directory", name := "rankOf", desc := "(I)I" } : Jvm.MethodName) prog_4_method_12_code (2 : Nat) (Option.some Jvm.ClassFile.FieldType.int)) ∈ lw_all := lw_g (lw_at lw_m3 215 rfl) rfl
theorem q743 : (Jvm.Cond.interfaceEntry "MemberShelf$Directory" (91 : Nat)) ∈ lw_tbl := lw_at lw_m3 216 rfl
theorem q744 : (Jvm.Cond.methodLink "MemberShelf$Directory" (91 : Nat) ({ cls := "java/util/List", name := "indexOf", desc := "(Ljava/lang/Object;)I" } : Jvm.MethodName)) ∈ lw_all := lw_g (lw_at lw_m3 217 rfl) rfl
theorem q964 : (Jvm.Cond.instanceMethod ({ cls := "MemberShelf$Directory", name := "pointsTo", desc := "(LMemberShelf$Text;)Z" } : Jvm.MethodName)) ∈ lw_all := lw_g (lw_at lw_m4 197 rfl) rfl
theorem q965 : (Jvm.Cond.selects "MemberShelf$Directory" ({ cls := "MemberShelf$Directory", name := "pointsTo", desc := "(LMemberShelf$Text;)Z" } : Jvm.MethodName) ({ cls := "MemberShelf$Directory", name := "pointsTo", desc := "(LMemberShelf$Text;)Z" } : Jvm.MethodName)) ∈ lw_all := lw_g (lw_at lw_m4 198 rfl) rfl
theorem q966 : (Jvm.Cond.code ({ cls := "MemberShelf$Directory", name := "pointsTo", desc := "(LMemberShelf$Text;)Z" } : Jvm.MethodName) prog_4_method_13_code (5 : Nat) (Option.some Jvm.ClassFile.FieldType.boolean)) ∈ lw_all := lw_g (lw_at lw_m4 199 rfl) rfl
theorem q1116 : (Jvm.Cond.instanceMethod ({ cls := "MemberShelf$Directory", name := "aliasesOf", desc := "(LMemberShelf$Text;)I" } : Jvm.MethodName)) ∈ lw_all := lw_g (lw_at lw_m5 109 rfl) rfl
theorem q1117 : (Jvm.Cond.selects "MemberShelf$Directory" ({ cls := "MemberShelf$Directory", name := "aliasesOf", desc := "(LMemberShelf$Text;)I" } : Jvm.MethodName) ({ cls := "MemberShelf$Directory", name := "aliasesOf", desc := "(LMemberShelf$Text;)I" } : Jvm.MethodName)) ∈ lw_all := lw_g (lw_at lw_m5 110 rfl) rfl
theorem q1118 : (Jvm.Cond.code ({ cls := "MemberShelf$Directory", name := "aliasesOf", desc := "(LMemberShelf$Text;)I" } : Jvm.MethodName) prog_4_method_14_code (5 : Nat) (Option.some Jvm.ClassFile.FieldType.int)) ∈ lw_all := lw_g (lw_at lw_m5 111 rfl) rfl
theorem q1142 : (Jvm.Cond.instanceMethod ({ cls := "MemberShelf$Directory", name := "block", desc := "(I)LMemberShelf$Directory$Block;" } : Jvm.MethodName)) ∈ lw_all := lw_g (lw_at lw_m5 135 rfl) rfl
theorem q1143 : (Jvm.Cond.selects "MemberShelf$Directory" ({ cls := "MemberShelf$Directory", name := "block", desc := "(I)LMemberShelf$Directory$Block;" } : Jvm.MethodName) ({ cls := "MemberShelf$Directory", name := "block", desc := "(I)LMemberShelf$Directory$Block;" } : Jvm.MethodName)) ∈ lw_all := lw_g (lw_at lw_m5 136 rfl) rfl
theorem q1144 : (Jvm.Cond.code ({ cls := "MemberShelf$Directory", name := "block", desc := "(I)LMemberShelf$Directory$Block;" } : Jvm.MethodName) prog_4_method_3_code (2 : Nat) (Option.some (Jvm.ClassFile.FieldType.object "MemberShelf$Directory$Block"))) ∈ lw_all := lw_g (lw_at lw_m5 137 rfl) rfl
theorem q1145 : (Jvm.Cond.classLink "MemberShelf$Directory" (45 : Nat) "MemberShelf$Directory$Block") ∈ lw_all := lw_g (lw_at lw_m5 138 rfl) rfl
theorem q1147 : (Jvm.Cond.methodLink "MemberShelf$Directory" (47 : Nat) ({ cls := "MemberShelf$Directory$Block", name := "<init>", desc := "(LMemberShelf$Directory;I)V" } : Jvm.MethodName)) ∈ lw_all := lw_g (lw_at lw_m5 140 rfl) rfl
theorem q1160 : (Jvm.Cond.selects "MemberShelf$Directory" ({ cls := "MemberShelf$Walked", name := "count", desc := "()I" } : Jvm.MethodName) ({ cls := "MemberShelf$Directory", name := "count", desc := "()I" } : Jvm.MethodName)) ∈ lw_all := lw_g (lw_at lw_m5 153 rfl) rfl
theorem q1161 : (Jvm.Cond.unhidden "MemberShelf$Directory" "count" "()I") ∈ lw_tbl := lw_at lw_m5 154 rfl
theorem q1162 : (Jvm.Cond.publicMethod ({ cls := "MemberShelf$Directory", name := "count", desc := "()I" } : Jvm.MethodName)) ∈ lw_tbl := lw_at lw_m5 155 rfl
theorem q1169 : (Jvm.Cond.unhidden "MemberShelf$Directory" "first" "()I") ∈ lw_tbl := lw_at lw_m5 162 rfl
theorem q1179 : (Jvm.Cond.unhidden "MemberShelf$Directory" "last" "()I") ∈ lw_tbl := lw_at lw_m5 172 rfl
theorem q1473 : (Jvm.Cond.castable "MemberShelf$Directory" "java/lang/Object") ∈ lw_tbl := lw_at lw_m6 226 rfl
def RX3 : String := "MemberShelfModel"
def TX3 : u_T := fun k => match k with
  | 0 => ("MemberShelfModel", "all", "[I", true)
  | 1 => ("MemberShelfModel", "kept", "[I", true)
  | 2 => ("MemberShelfModel", "history", "[I", true)
  | 3 => ("MemberShelfModel", "historyLong", "I", false)
  | 4 => ("MemberShelfModel", "snapshot", "[I", true)
  | 5 => ("MemberShelfModel", "isTaken", "I", false)
  | 6 => ("MemberShelfModel", "out", "[I", true)
  | 7 => ("MemberShelfModel", "pad", "[I", true)
  | 8 => ("MemberShelfModel", "padLong", "I", false)
  | 9 => ("MemberShelfModel", "spot", "I", false)
  | 10 => ("MemberShelfModel", "number", "I", false)
  | _ => ("MemberShelfModel", "told", "I", false)
def tyX3 : Nat → FieldType := fun k => match k with
  | 0 => .array .int
  | 1 => .array .int
  | 2 => .array .int
  | 3 => .int
  | 4 => .array .int
  | 5 => .int
  | 6 => .array .int
  | 7 => .array .int
  | 8 => .int
  | 9 => .int
  | 10 => .int
  | _ => .int
abbrev wsX30 : List Cond := u_ws RX3 TX3 12
theorem nmX3 : ∀ a, a < 12 → ∀ b, b < 12 → a ≠ b → (TX3 a).2.1 ≠ (TX3 b).2.1 := by decide +kernel
theorem tyX3_ok : ∀ k, k < 12 → parseFieldDescriptor (TX3 k).2.2.1 = some (tyX3 k) := by decide +kernel
abbrev cX3_init : ByteArray := prog_13_method_1_code
def yX3_init : MethodName := ⟨RX3, "<init>", "()V"⟩
abbrev cX3_add : ByteArray := prog_13_method_23_code
def yX3_add : MethodName := ⟨RX3, "add", "(III)I"⟩
abbrev cX3_remember : ByteArray := prog_13_method_4_code
def yX3_remember : MethodName := ⟨RX3, "remember", "()V"⟩
abbrev cX3_doAdd : ByteArray := prog_13_method_21_code
def yX3_doAdd : MethodName := ⟨RX3, "doAdd", "(III)I"⟩
abbrev cX3_isName : ByteArray := prog_13_method_8_code
def yX3_isName : MethodName := ⟨RX3, "isName", "(I)Z"⟩
abbrev cX3_in : ByteArray := prog_13_method_3_code
def yX3_in : MethodName := ⟨RX3, "in", "(JJJ)Z"⟩
abbrev cX3_rankOf : ByteArray := prog_13_method_9_code
def yX3_rankOf : MethodName := ⟨RX3, "rankOf", "(I)I"⟩
abbrev cX3_of : ByteArray := prog_13_method_6_code
def yX3_of : MethodName := ⟨RX3, "of", "(II)I"⟩
abbrev cX3_isDirectoryFull : ByteArray := prog_13_method_11_code
def yX3_isDirectoryFull : MethodName := ⟨RX3, "isDirectoryFull", "()Z"⟩
abbrev cX3_isRoomFor : ByteArray := prog_13_method_14_code
def yX3_isRoomFor : MethodName := ⟨RX3, "isRoomFor", "(I)Z"⟩
abbrev cX3_putsIn : ByteArray := prog_13_method_13_code
def yX3_putsIn : MethodName := ⟨RX3, "putsIn", "()I"⟩
abbrev cX3_sets : ByteArray := prog_13_method_7_code
def yX3_sets : MethodName := ⟨RX3, "sets", "(III)V"⟩
abbrev cX3_laysText : ByteArray := prog_13_method_15_code
def yX3_laysText : MethodName := ⟨RX3, "laysText", "(III)V"⟩
abbrev cX3_acted : ByteArray := prog_13_method_5_code
def yX3_acted : MethodName := ⟨RX3, "acted", "(I)I"⟩
abbrev cX3_replace : ByteArray := prog_13_method_24_code
def yX3_replace : MethodName := ⟨RX3, "replace", "(III)I"⟩
abbrev cX3_isMember : ByteArray := prog_13_method_10_code
def yX3_isMember : MethodName := ⟨RX3, "isMember", "(I)Z"⟩
abbrev cX3_remove : ByteArray := prog_13_method_25_code
def yX3_remove : MethodName := ⟨RX3, "remove", "(I)I"⟩
abbrev cX3_takesOut : ByteArray := prog_13_method_12_code
def yX3_takesOut : MethodName := ⟨RX3, "takesOut", "(I)V"⟩
abbrev cX3_rename : ByteArray := prog_13_method_26_code
def yX3_rename : MethodName := ⟨RX3, "rename", "(II)I"⟩
abbrev cX3_alias : ByteArray := prog_13_method_27_code
def yX3_alias : MethodName := ⟨RX3, "alias", "(II)I"⟩
abbrev cX3_doAlias : ByteArray := prog_13_method_22_code
def yX3_doAlias : MethodName := ⟨RX3, "doAlias", "(II)I"⟩
abbrev cX3_type : ByteArray := prog_13_method_28_code
def yX3_type : MethodName := ⟨RX3, "type", "(C)I"⟩
abbrev cX3_clearPad : ByteArray := prog_13_method_29_code
def yX3_clearPad : MethodName := ⟨RX3, "clearPad", "()I"⟩
abbrev cX3_addAll : ByteArray := prog_13_method_36_code
def yX3_addAll : MethodName := ⟨RX3, "addAll", "()I"⟩
abbrev cX3_fault : ByteArray := prog_13_method_35_code
def yX3_fault : MethodName := ⟨RX3, "fault", "()I"⟩
abbrev cX3_readsAddition : ByteArray := prog_13_method_34_code
def yX3_readsAddition : MethodName := ⟨RX3, "readsAddition", "(Z)Z"⟩
abbrev cX3_readsName : ByteArray := prog_13_method_33_code
def yX3_readsName : MethodName := ⟨RX3, "readsName", "()Z"⟩
abbrev cX3_isHere : ByteArray := prog_13_method_30_code
def yX3_isHere : MethodName := ⟨RX3, "isHere", "(II)Z"⟩
abbrev cX3_takes : ByteArray := prog_13_method_31_code
def yX3_takes : MethodName := ⟨RX3, "takes", "(I)Z"⟩
abbrev cX3_readsNumber : ByteArray := prog_13_method_32_code
def yX3_readsNumber : MethodName := ⟨RX3, "readsNumber", "(II)Z"⟩
abbrev cX3_squeeze : ByteArray := prog_13_method_37_code
def yX3_squeeze : MethodName := ⟨RX3, "squeeze", "()I"⟩
abbrev cX3_living : ByteArray := prog_13_method_17_code
def yX3_living : MethodName := ⟨RX3, "living", "(Z)I"⟩
abbrev cX3_nextText : ByteArray := prog_13_method_16_code
def yX3_nextText : MethodName := ⟨RX3, "nextText", "(I)I"⟩
abbrev cX3_squeezes : ByteArray := prog_13_method_18_code
def yX3_squeezes : MethodName := ⟨RX3, "squeezes", "()I"⟩
abbrev cX3_makeAnew : ByteArray := prog_13_method_38_code
def yX3_makeAnew : MethodName := ⟨RX3, "makeAnew", "(I)I"⟩
abbrev cX3_undo : ByteArray := prog_13_method_39_code
def yX3_undo : MethodName := ⟨RX3, "undo", "()I"⟩
abbrev cX3_keep : ByteArray := prog_13_method_40_code
def yX3_keep : MethodName := ⟨RX3, "keep", "()I"⟩
abbrev cX3_restore : ByteArray := prog_13_method_41_code
def yX3_restore : MethodName := ⟨RX3, "restore", "()I"⟩
abbrev cX3_entry : ByteArray := prog_13_method_42_code
def yX3_entry : MethodName := ⟨RX3, "entry", "(II)I"⟩
abbrev cX3_aliasesOf : ByteArray := prog_13_method_20_code
def yX3_aliasesOf : MethodName := ⟨RX3, "aliasesOf", "(I)I"⟩
abbrev cX3_isLost : ByteArray := prog_13_method_19_code
def yX3_isLost : MethodName := ⟨RX3, "isLost", "(I)Z"⟩
abbrev cX3_named : ByteArray := prog_13_method_43_code
def yX3_named : MethodName := ⟨RX3, "named", "(I)I"⟩
abbrev cX3_block : ByteArray := prog_13_method_44_code
def yX3_block : MethodName := ⟨RX3, "block", "(II)I"⟩
abbrev cX3_at : ByteArray := prog_13_method_45_code
def yX3_at : MethodName := ⟨RX3, "at", "(I)I"⟩
abbrev cX3_fits : ByteArray := prog_13_method_46_code
def yX3_fits : MethodName := ⟨RX3, "fits", "(I)I"⟩
abbrev cX3_beginning : ByteArray := prog_13_method_47_code
def yX3_beginning : MethodName := ⟨RX3, "beginning", "(II)I"⟩
abbrev cX3_count : ByteArray := prog_13_method_50_code
def yX3_count : MethodName := ⟨RX3, "count", "(I)I"⟩
abbrev cX3_members : ByteArray := prog_13_method_48_code
def yX3_members : MethodName := ⟨RX3, "members", "()I"⟩
abbrev cX3_lostOnes : ByteArray := prog_13_method_49_code
def yX3_lostOnes : MethodName := ⟨RX3, "lostOnes", "()I"⟩
theorem q59 : (Jvm.Cond.initialized "MemberShelfModel") ∈ lw_all := lw_g (lw_at lw_m1 12 rfl) rfl
theorem q392 : (Jvm.Cond.selects "MemberShelfModel" ({ cls := "java/lang/Object", name := "getClass", desc := "()Ljava/lang/Class;" } : Jvm.MethodName) ({ cls := "java/lang/Object", name := "getClass", desc := "()Ljava/lang/Class;" } : Jvm.MethodName)) ∈ lw_all := lw_g (lw_at lw_m2 105 rfl) rfl
theorem q684 : (Jvm.Cond.selects "MemberShelfModel" ({ cls := "java/lang/Object", name := "equals", desc := "(Ljava/lang/Object;)Z" } : Jvm.MethodName) ({ cls := "java/lang/Object", name := "equals", desc := "(Ljava/lang/Object;)Z" } : Jvm.MethodName)) ∈ lw_all := lw_g (lw_at lw_m3 157 rfl) rfl
theorem q1220 : (Jvm.Cond.instantiable "MemberShelfModel" (12 : Nat)) ∈ lw_all := lw_g (lw_at lw_m5 213 rfl) rfl
theorem q1222 : (Jvm.Cond.instanceMethod ({ cls := "MemberShelfModel", name := "<init>", desc := "()V" } : Jvm.MethodName)) ∈ lw_all := lw_g (lw_at lw_m5 215 rfl) rfl
theorem q1223 : (Jvm.Cond.code ({ cls := "MemberShelfModel", name := "<init>", desc := "()V" } : Jvm.MethodName) prog_13_method_1_code (1 : Nat) (Option.none : Option Jvm.ClassFile.FieldType)) ∈ lw_all := lw_g (lw_at lw_m5 216 rfl) rfl
theorem q1224 : (Jvm.Cond.methodLink "MemberShelfModel" (1 : Nat) ({ cls := "java/lang/Object", name := "<init>", desc := "()V" } : Jvm.MethodName)) ∈ lw_all := lw_g (lw_at lw_m5 217 rfl) rfl
theorem q1225 : (Jvm.Cond.fieldLink "MemberShelfModel" (7 : Nat) "MemberShelfModel" "all" "[I") ∈ lw_all := lw_g (lw_at lw_m5 218 rfl) rfl
theorem q1226 : (Jvm.Cond.fieldLink "MemberShelfModel" (13 : Nat) "MemberShelfModel" "kept" "[I") ∈ lw_all := lw_g (lw_at lw_m5 219 rfl) rfl
theorem q1227 : (Jvm.Cond.fieldLink "MemberShelfModel" (16 : Nat) "MemberShelfModel" "history" "[I") ∈ lw_all := lw_g (lw_at lw_m5 220 rfl) rfl
theorem q1228 : (Jvm.Cond.fieldLink "MemberShelfModel" (28 : Nat) "MemberShelfModel" "historyLong" "I") ∈ lw_all := lw_g (lw_at lw_m5 221 rfl) rfl
theorem q1229 : (Jvm.Cond.fieldLink "MemberShelfModel" (19 : Nat) "MemberShelfModel" "snapshot" "[I") ∈ lw_all := lw_g (lw_at lw_m5 222 rfl) rfl
theorem q1230 : (Jvm.Cond.fieldLink "MemberShelfModel" (136 : Nat) "MemberShelfModel" "isTaken" "I") ∈ lw_all := lw_g (lw_at lw_m5 223 rfl) rfl
theorem q1231 : (Jvm.Cond.fieldLink "MemberShelfModel" (22 : Nat) "MemberShelfModel" "out" "[I") ∈ lw_all := lw_g (lw_at lw_m5 224 rfl) rfl
theorem q1232 : (Jvm.Cond.fieldLink "MemberShelfModel" (25 : Nat) "MemberShelfModel" "pad" "[I") ∈ lw_all := lw_g (lw_at lw_m5 225 rfl) rfl
theorem q1233 : (Jvm.Cond.fieldLink "MemberShelfModel" (95 : Nat) "MemberShelfModel" "padLong" "I") ∈ lw_all := lw_g (lw_at lw_m5 226 rfl) rfl
theorem q1234 : (Jvm.Cond.fieldLink "MemberShelfModel" (98 : Nat) "MemberShelfModel" "spot" "I") ∈ lw_all := lw_g (lw_at lw_m5 227 rfl) rfl
theorem q1235 : (Jvm.Cond.fieldLink "MemberShelfModel" (105 : Nat) "MemberShelfModel" "number" "I") ∈ lw_all := lw_g (lw_at lw_m5 228 rfl) rfl
theorem q1236 : (Jvm.Cond.fieldLink "MemberShelfModel" (114 : Nat) "MemberShelfModel" "told" "I") ∈ lw_all := lw_g (lw_at lw_m5 229 rfl) rfl
theorem q1237 : (Jvm.Cond.laysFinal "MemberShelfModel" "MemberShelfModel" "all" "[I") ∈ lw_all := lw_g (lw_at lw_m5 230 rfl) rfl
theorem q1238 : (Jvm.Cond.soleField "MemberShelfModel" "all") ∈ lw_all := lw_g (lw_at lw_m5 231 rfl) rfl
theorem q1239 : (Jvm.Cond.laysFinal "MemberShelfModel" "MemberShelfModel" "kept" "[I") ∈ lw_all := lw_g (lw_at lw_m5 232 rfl) rfl
theorem q1240 : (Jvm.Cond.soleField "MemberShelfModel" "kept") ∈ lw_all := lw_g (lw_at lw_m5 233 rfl) rfl
theorem q1241 : (Jvm.Cond.laysFinal "MemberShelfModel" "MemberShelfModel" "history" "[I") ∈ lw_all := lw_g (lw_at lw_m5 234 rfl) rfl
theorem q1242 : (Jvm.Cond.soleField "MemberShelfModel" "history") ∈ lw_all := lw_g (lw_at lw_m5 235 rfl) rfl
theorem q1243 : (Jvm.Cond.lays "MemberShelfModel" "MemberShelfModel" "historyLong" "I") ∈ lw_all := lw_g (lw_at lw_m5 236 rfl) rfl
theorem q1244 : (Jvm.Cond.soleField "MemberShelfModel" "historyLong") ∈ lw_all := lw_g (lw_at lw_m5 237 rfl) rfl
theorem q1245 : (Jvm.Cond.laysFinal "MemberShelfModel" "MemberShelfModel" "snapshot" "[I") ∈ lw_all := lw_g (lw_at lw_m5 238 rfl) rfl
theorem q1246 : (Jvm.Cond.soleField "MemberShelfModel" "snapshot") ∈ lw_all := lw_g (lw_at lw_m5 239 rfl) rfl
theorem q1247 : (Jvm.Cond.lays "MemberShelfModel" "MemberShelfModel" "isTaken" "I") ∈ lw_all := lw_g (lw_at lw_m6 0 rfl) rfl
theorem q1248 : (Jvm.Cond.soleField "MemberShelfModel" "isTaken") ∈ lw_all := lw_g (lw_at lw_m6 1 rfl) rfl
theorem q1249 : (Jvm.Cond.laysFinal "MemberShelfModel" "MemberShelfModel" "out" "[I") ∈ lw_all := lw_g (lw_at lw_m6 2 rfl) rfl
theorem q1250 : (Jvm.Cond.soleField "MemberShelfModel" "out") ∈ lw_all := lw_g (lw_at lw_m6 3 rfl) rfl
theorem q1251 : (Jvm.Cond.laysFinal "MemberShelfModel" "MemberShelfModel" "pad" "[I") ∈ lw_all := lw_g (lw_at lw_m6 4 rfl) rfl
theorem q1252 : (Jvm.Cond.soleField "MemberShelfModel" "pad") ∈ lw_all := lw_g (lw_at lw_m6 5 rfl) rfl
theorem q1253 : (Jvm.Cond.lays "MemberShelfModel" "MemberShelfModel" "padLong" "I") ∈ lw_all := lw_g (lw_at lw_m6 6 rfl) rfl
theorem q1254 : (Jvm.Cond.soleField "MemberShelfModel" "padLong") ∈ lw_all := lw_g (lw_at lw_m6 7 rfl) rfl
theorem q1255 : (Jvm.Cond.lays "MemberShelfModel" "MemberShelfModel" "spot" "I") ∈ lw_all := lw_g (lw_at lw_m6 8 rfl) rfl
theorem q1256 : (Jvm.Cond.soleField "MemberShelfModel" "spot") ∈ lw_all := lw_g (lw_at lw_m6 9 rfl) rfl
theorem q1257 : (Jvm.Cond.lays "MemberShelfModel" "MemberShelfModel" "number" "I") ∈ lw_all := lw_g (lw_at lw_m6 10 rfl) rfl
theorem q1258 : (Jvm.Cond.soleField "MemberShelfModel" "number") ∈ lw_all := lw_g (lw_at lw_m6 11 rfl) rfl
theorem q1259 : (Jvm.Cond.lays "MemberShelfModel" "MemberShelfModel" "told" "I") ∈ lw_all := lw_g (lw_at lw_m6 12 rfl) rfl
theorem q1260 : (Jvm.Cond.soleField "MemberShelfModel" "told") ∈ lw_all := lw_g (lw_at lw_m6 13 rfl) rfl
theorem q1261 : (Jvm.Cond.superclass "MemberShelfModel" "java/lang/Object") ∈ lw_all := lw_g (lw_at lw_m6 14 rfl) rfl
theorem q1263 : (Jvm.Cond.instanceMethod ({ cls := "MemberShelfModel", name := "add", desc := "(III)I" } : Jvm.MethodName)) ∈ lw_all := lw_g (lw_at lw_m6 16 rfl) rfl
theorem q1264 : (Jvm.Cond.selects "MemberShelfModel" ({ cls := "MemberShelfModel", name := "add", desc := "(III)I" } : Jvm.MethodName) ({ cls := "MemberShelfModel", name := "add", desc := "(III)I" } : Jvm.MethodName)) ∈ lw_all := lw_g (lw_at lw_m6 17 rfl) rfl
theorem q1265 : (Jvm.Cond.code ({ cls := "MemberShelfModel", name := "add", desc := "(III)I" } : Jvm.MethodName) prog_13_method_23_code (5 : Nat) (Option.some Jvm.ClassFile.FieldType.int)) ∈ lw_all := lw_g (lw_at lw_m6 18 rfl) rfl
theorem q1266 : (Jvm.Cond.methodLink "MemberShelfModel" (82 : Nat) ({ cls := "MemberShelfModel", name := "remember", desc := "()V" } : Jvm.MethodName)) ∈ lw_all := lw_g (lw_at lw_m6 19 rfl) rfl
theorem q1267 : (Jvm.Cond.privateMethod ({ cls := "MemberShelfModel", name := "remember", desc := "()V" } : Jvm.MethodName)) ∈ lw_tbl := lw_at lw_m6 20 rfl
theorem q1268 : (Jvm.Cond.instanceMethod ({ cls := "MemberShelfModel", name := "remember", desc := "()V" } : Jvm.MethodName)) ∈ lw_all := lw_g (lw_at lw_m6 21 rfl) rfl
theorem q1269 : (Jvm.Cond.code ({ cls := "MemberShelfModel", name := "remember", desc := "()V" } : Jvm.MethodName) prog_13_method_4_code (2 : Nat) (Option.none : Option Jvm.ClassFile.FieldType)) ∈ lw_all := lw_g (lw_at lw_m6 22 rfl) rfl
theorem q1270 : (Jvm.Cond.methodLink "MemberShelfModel" (85 : Nat) ({ cls := "MemberShelfModel", name := "doAdd", desc := "(III)I" } : Jvm.MethodName)) ∈ lw_all := lw_g (lw_at lw_m6 23 rfl) rfl
theorem q1271 : (Jvm.Cond.privateMethod ({ cls := "MemberShelfModel", name := "doAdd", desc := "(III)I" } : Jvm.MethodName)) ∈ lw_tbl := lw_at lw_m6 24 rfl
theorem q1272 : (Jvm.Cond.instanceMethod ({ cls := "MemberShelfModel", name := "doAdd", desc := "(III)I" } : Jvm.MethodName)) ∈ lw_all := lw_g (lw_at lw_m6 25 rfl) rfl
theorem q1273 : (Jvm.Cond.code ({ cls := "MemberShelfModel", name := "doAdd", desc := "(III)I" } : Jvm.MethodName) prog_13_method_21_code (5 : Nat) (Option.some Jvm.ClassFile.FieldType.int)) ∈ lw_all := lw_g (lw_at lw_m6 26 rfl) rfl
theorem q1274 : (Jvm.Cond.methodLink "MemberShelfModel" (57 : Nat) ({ cls := "MemberShelfModel", name := "isName", desc := "(I)Z" } : Jvm.MethodName)) ∈ lw_all := lw_g (lw_at lw_m6 27 rfl) rfl
theorem q1275 : (Jvm.Cond.static ({ cls := "MemberShelfModel", name := "isName", desc := "(I)Z" } : Jvm.MethodName)) ∈ lw_all := lw_g (lw_at lw_m6 28 rfl) rfl
theorem q1276 : (Jvm.Cond.code ({ cls := "MemberShelfModel", name := "isName", desc := "(I)Z" } : Jvm.MethodName) prog_13_method_8_code (1 : Nat) (Option.some Jvm.ClassFile.FieldType.boolean)) ∈ lw_all := lw_g (lw_at lw_m6 29 rfl) rfl
theorem q1277 : (Jvm.Cond.constantLong "MemberShelfModel" (32 : Nat) (675 : Int64)) ∈ lw_all := lw_g (lw_at lw_m6 30 rfl) rfl
theorem q1278 : (Jvm.Cond.methodLink "MemberShelfModel" (34 : Nat) ({ cls := "MemberShelfModel", name := "in", desc := "(JJJ)Z" } : Jvm.MethodName)) ∈ lw_all := lw_g (lw_at lw_m6 31 rfl) rfl
theorem q1279 : (Jvm.Cond.static ({ cls := "MemberShelfModel", name := "in", desc := "(JJJ)Z" } : Jvm.MethodName)) ∈ lw_all := lw_g (lw_at lw_m6 32 rfl) rfl
theorem q1280 : (Jvm.Cond.code ({ cls := "MemberShelfModel", name := "in", desc := "(JJJ)Z" } : Jvm.MethodName) prog_13_method_3_code (6 : Nat) (Option.some Jvm.ClassFile.FieldType.boolean)) ∈ lw_all := lw_g (lw_at lw_m6 33 rfl) rfl
theorem q1281 : (Jvm.Cond.constantLong "MemberShelfModel" (60 : Nat) (40 : Int64)) ∈ lw_all := lw_g (lw_at lw_m6 34 rfl) rfl
theorem q1282 : (Jvm.Cond.constantLong "MemberShelfModel" (62 : Nat) (9999 : Int64)) ∈ lw_all := lw_g (lw_at lw_m6 35 rfl) rfl
theorem q1283 : (Jvm.Cond.methodLink "MemberShelfModel" (50 : Nat) ({ cls := "MemberShelfModel", name := "rankOf", desc := "(I)I" } : Jvm.MethodName)) ∈ lw_all := lw_g (lw_at lw_m6 36 rfl) rfl
theorem q1284 : (Jvm.Cond.privateMethod ({ cls := "MemberShelfModel", name := "rankOf", desc := "(I)I" } : Jvm.MethodName)) ∈ lw_tbl := lw_at lw_m6 37 rfl
theorem q1285 : (Jvm.Cond.instanceMethod ({ cls := "MemberShelfModel", name := "rankOf", desc := "(I)I" } : Jvm.MethodName)) ∈ lw_all := lw_g (lw_at lw_m6 38 rfl) rfl
theorem q1286 : (Jvm.Cond.code ({ cls := "MemberShelfModel", name := "rankOf", desc := "(I)I" } : Jvm.MethodName) prog_13_method_9_code (3 : Nat) (Option.some Jvm.ClassFile.FieldType.int)) ∈ lw_all := lw_g (lw_at lw_m6 39 rfl) rfl
theorem q1287 : (Jvm.Cond.methodLink "MemberShelfModel" (38 : Nat) ({ cls := "MemberShelfModel", name := "of", desc := "(II)I" } : Jvm.MethodName)) ∈ lw_all := lw_g (lw_at lw_m6 40 rfl) rfl
theorem q1288 : (Jvm.Cond.privateMethod ({ cls := "MemberShelfModel", name := "of", desc := "(II)I" } : Jvm.MethodName)) ∈ lw_tbl := lw_at lw_m6 41 rfl
theorem q1289 : (Jvm.Cond.instanceMethod ({ cls := "MemberShelfModel", name := "of", desc := "(II)I" } : Jvm.MethodName)) ∈ lw_all := lw_g (lw_at lw_m6 42 rfl) rfl
theorem q1290 : (Jvm.Cond.code ({ cls := "MemberShelfModel", name := "of", desc := "(II)I" } : Jvm.MethodName) prog_13_method_6_code (3 : Nat) (Option.some Jvm.ClassFile.FieldType.int)) ∈ lw_all := lw_g (lw_at lw_m6 43 rfl) rfl
theorem q1291 : (Jvm.Cond.methodLink "MemberShelfModel" (64 : Nat) ({ cls := "MemberShelfModel", name := "isDirectoryFull", desc := "()Z" } : Jvm.MethodName)) ∈ lw_all := lw_g (lw_at lw_m6 44 rfl) rfl
theorem q1292 : (Jvm.Cond.privateMethod ({ cls := "MemberShelfModel", name := "isDirectoryFull", desc := "()Z" } : Jvm.MethodName)) ∈ lw_tbl := lw_at lw_m6 45 rfl
theorem q1293 : (Jvm.Cond.instanceMethod ({ cls := "MemberShelfModel", name := "isDirectoryFull", desc := "()Z" } : Jvm.MethodName)) ∈ lw_all := lw_g (lw_at lw_m6 46 rfl) rfl
theorem q1294 : (Jvm.Cond.code ({ cls := "MemberShelfModel", name := "isDirectoryFull", desc := "()Z" } : Jvm.MethodName) prog_13_method_11_code (1 : Nat) (Option.some Jvm.ClassFile.FieldType.boolean)) ∈ lw_all := lw_g (lw_at lw_m6 47 rfl) rfl
theorem q1295 : (Jvm.Cond.methodLink "MemberShelfModel" (68 : Nat) ({ cls := "MemberShelfModel", name := "isRoomFor", desc := "(I)Z" } : Jvm.MethodName)) ∈ lw_all := lw_g (lw_at lw_m6 48 rfl) rfl
theorem q1296 : (Jvm.Cond.privateMethod ({ cls := "MemberShelfModel", name := "isRoomFor", desc := "(I)Z" } : Jvm.MethodName)) ∈ lw_tbl := lw_at lw_m6 49 rfl
theorem q1297 : (Jvm.Cond.instanceMethod ({ cls := "MemberShelfModel", name := "isRoomFor", desc := "(I)Z" } : Jvm.MethodName)) ∈ lw_all := lw_g (lw_at lw_m6 50 rfl) rfl
theorem q1298 : (Jvm.Cond.code ({ cls := "MemberShelfModel", name := "isRoomFor", desc := "(I)Z" } : Jvm.MethodName) prog_13_method_14_code (2 : Nat) (Option.some Jvm.ClassFile.FieldType.boolean)) ∈ lw_all := lw_g (lw_at lw_m6 51 rfl) rfl
theorem q1299 : (Jvm.Cond.methodLink "MemberShelfModel" (71 : Nat) ({ cls := "MemberShelfModel", name := "putsIn", desc := "()I" } : Jvm.MethodName)) ∈ lw_all := lw_g (lw_at lw_m6 52 rfl) rfl
theorem q1300 : (Jvm.Cond.privateMethod ({ cls := "MemberShelfModel", name := "putsIn", desc := "()I" } : Jvm.MethodName)) ∈ lw_tbl := lw_at lw_m6 53 rfl
theorem q1301 : (Jvm.Cond.instanceMethod ({ cls := "MemberShelfModel", name := "putsIn", desc := "()I" } : Jvm.MethodName)) ∈ lw_all := lw_g (lw_at lw_m6 54 rfl) rfl
theorem q1302 : (Jvm.Cond.code ({ cls := "MemberShelfModel", name := "putsIn", desc := "()I" } : Jvm.MethodName) prog_13_method_13_code (3 : Nat) (Option.some Jvm.ClassFile.FieldType.int)) ∈ lw_all := lw_g (lw_at lw_m6 55 rfl) rfl
theorem q1303 : (Jvm.Cond.methodLink "MemberShelfModel" (42 : Nat) ({ cls := "MemberShelfModel", name := "sets", desc := "(III)V" } : Jvm.MethodName)) ∈ lw_all := lw_g (lw_at lw_m6 56 rfl) rfl
theorem q1304 : (Jvm.Cond.privateMethod ({ cls := "MemberShelfModel", name := "sets", desc := "(III)V" } : Jvm.MethodName)) ∈ lw_tbl := lw_at lw_m6 57 rfl
theorem q1305 : (Jvm.Cond.instanceMethod ({ cls := "MemberShelfModel", name := "sets", desc := "(III)V" } : Jvm.MethodName)) ∈ lw_all := lw_g (lw_at lw_m6 58 rfl) rfl
theorem q1306 : (Jvm.Cond.code ({ cls := "MemberShelfModel", name := "sets", desc := "(III)V" } : Jvm.MethodName) prog_13_method_7_code (4 : Nat) (Option.none : Option Jvm.ClassFile.FieldType)) ∈ lw_all := lw_g (lw_at lw_m6 59 rfl) rfl
theorem q1307 : (Jvm.Cond.methodLink "MemberShelfModel" (75 : Nat) ({ cls := "MemberShelfModel", name := "laysText", desc := "(III)V" } : Jvm.MethodName)) ∈ lw_all := lw_g (lw_at lw_m6 60 rfl) rfl
theorem q1308 : (Jvm.Cond.privateMethod ({ cls := "MemberShelfModel", name := "laysText", desc := "(III)V" } : Jvm.MethodName)) ∈ lw_tbl := lw_at lw_m6 61 rfl
theorem q1309 : (Jvm.Cond.instanceMethod ({ cls := "MemberShelfModel", name := "laysText", desc := "(III)V" } : Jvm.MethodName)) ∈ lw_all := lw_g (lw_at lw_m6 62 rfl) rfl
theorem q1310 : (Jvm.Cond.code ({ cls := "MemberShelfModel", name := "laysText", desc := "(III)V" } : Jvm.MethodName) prog_13_method_15_code (4 : Nat) (Option.none : Option Jvm.ClassFile.FieldType)) ∈ lw_all := lw_g (lw_at lw_m6 63 rfl) rfl
theorem q1311 : (Jvm.Cond.methodLink "MemberShelfModel" (89 : Nat) ({ cls := "MemberShelfModel", name := "acted", desc := "(I)I" } : Jvm.MethodName)) ∈ lw_all := lw_g (lw_at lw_m6 64 rfl) rfl
theorem q1312 : (Jvm.Cond.privateMethod ({ cls := "MemberShelfModel", name := "acted", desc := "(I)I" } : Jvm.MethodName)) ∈ lw_tbl := lw_at lw_m6 65 rfl
theorem q1313 : (Jvm.Cond.instanceMethod ({ cls := "MemberShelfModel", name := "acted", desc := "(I)I" } : Jvm.MethodName)) ∈ lw_all := lw_g (lw_at lw_m6 66 rfl) rfl
theorem q1314 : (Jvm.Cond.code ({ cls := "MemberShelfModel", name := "acted", desc := "(I)I" } : Jvm.MethodName) prog_13_method_5_code (3 : Nat) (Option.some Jvm.ClassFile.FieldType.int)) ∈ lw_all := lw_g (lw_at lw_m6 67 rfl) rfl
theorem q1316 : (Jvm.Cond.instanceMethod ({ cls := "MemberShelfModel", name := "replace", desc := "(III)I" } : Jvm.MethodName)) ∈ lw_all := lw_g (lw_at lw_m6 69 rfl) rfl
theorem q1317 : (Jvm.Cond.selects "MemberShelfModel" ({ cls := "MemberShelfModel", name := "replace", desc := "(III)I" } : Jvm.MethodName) ({ cls := "MemberShelfModel", name := "replace", desc := "(III)I" } : Jvm.MethodName)) ∈ lw_all := lw_g (lw_at lw_m6 70 rfl) rfl
theorem q1318 : (Jvm.Cond.code ({ cls := "MemberShelfModel", name := "replace", desc := "(III)I" } : Jvm.MethodName) prog_13_method_24_code (5 : Nat) (Option.some Jvm.ClassFile.FieldType.int)) ∈ lw_all := lw_g (lw_at lw_m6 71 rfl) rfl
theorem q1319 : (Jvm.Cond.methodLink "MemberShelfModel" (53 : Nat) ({ cls := "MemberShelfModel", name := "isMember", desc := "(I)Z" } : Jvm.MethodName)) ∈ lw_all := lw_g (lw_at lw_m6 72 rfl) rfl
theorem q1320 : (Jvm.Cond.privateMethod ({ cls := "MemberShelfModel", name := "isMember", desc := "(I)Z" } : Jvm.MethodName)) ∈ lw_tbl := lw_at lw_m6 73 rfl
theorem q1321 : (Jvm.Cond.instanceMethod ({ cls := "MemberShelfModel", name := "isMember", desc := "(I)Z" } : Jvm.MethodName)) ∈ lw_all := lw_g (lw_at lw_m6 74 rfl) rfl
theorem q1322 : (Jvm.Cond.code ({ cls := "MemberShelfModel", name := "isMember", desc := "(I)Z" } : Jvm.MethodName) prog_13_method_10_code (2 : Nat) (Option.some Jvm.ClassFile.FieldType.boolean)) ∈ lw_all := lw_g (lw_at lw_m6 75 rfl) rfl
theorem q1324 : (Jvm.Cond.instanceMethod ({ cls := "MemberShelfModel", name := "remove", desc := "(I)I" } : Jvm.MethodName)) ∈ lw_all := lw_g (lw_at lw_m6 77 rfl) rfl
theorem q1325 : (Jvm.Cond.selects "MemberShelfModel" ({ cls := "MemberShelfModel", name := "remove", desc := "(I)I" } : Jvm.MethodName) ({ cls := "MemberShelfModel", name := "remove", desc := "(I)I" } : Jvm.MethodName)) ∈ lw_all := lw_g (lw_at lw_m6 78 rfl) rfl
theorem q1326 : (Jvm.Cond.code ({ cls := "MemberShelfModel", name := "remove", desc := "(I)I" } : Jvm.MethodName) prog_13_method_25_code (3 : Nat) (Option.some Jvm.ClassFile.FieldType.int)) ∈ lw_all := lw_g (lw_at lw_m6 79 rfl) rfl
theorem q1327 : (Jvm.Cond.methodLink "MemberShelfModel" (78 : Nat) ({ cls := "MemberShelfModel", name := "takesOut", desc := "(I)V" } : Jvm.MethodName)) ∈ lw_all := lw_g (lw_at lw_m6 80 rfl) rfl
theorem q1328 : (Jvm.Cond.privateMethod ({ cls := "MemberShelfModel", name := "takesOut", desc := "(I)V" } : Jvm.MethodName)) ∈ lw_tbl := lw_at lw_m6 81 rfl
theorem q1329 : (Jvm.Cond.instanceMethod ({ cls := "MemberShelfModel", name := "takesOut", desc := "(I)V" } : Jvm.MethodName)) ∈ lw_all := lw_g (lw_at lw_m6 82 rfl) rfl
theorem q1330 : (Jvm.Cond.code ({ cls := "MemberShelfModel", name := "takesOut", desc := "(I)V" } : Jvm.MethodName) prog_13_method_12_code (3 : Nat) (Option.none : Option Jvm.ClassFile.FieldType)) ∈ lw_all := lw_g (lw_at lw_m6 83 rfl) rfl
theorem q1332 : (Jvm.Cond.instanceMethod ({ cls := "MemberShelfModel", name := "rename", desc := "(II)I" } : Jvm.MethodName)) ∈ lw_all := lw_g (lw_at lw_m6 85 rfl) rfl
theorem q1333 : (Jvm.Cond.selects "MemberShelfModel" ({ cls := "MemberShelfModel", name := "rename", desc := "(II)I" } : Jvm.MethodName) ({ cls := "MemberShelfModel", name := "rename", desc := "(II)I" } : Jvm.MethodName)) ∈ lw_all := lw_g (lw_at lw_m6 86 rfl) rfl
theorem q1334 : (Jvm.Cond.code ({ cls := "MemberShelfModel", name := "rename", desc := "(II)I" } : Jvm.MethodName) prog_13_method_26_code (7 : Nat) (Option.some Jvm.ClassFile.FieldType.int)) ∈ lw_all := lw_g (lw_at lw_m6 87 rfl) rfl
theorem q1336 : (Jvm.Cond.instanceMethod ({ cls := "MemberShelfModel", name := "alias", desc := "(II)I" } : Jvm.MethodName)) ∈ lw_all := lw_g (lw_at lw_m6 89 rfl) rfl
theorem q1337 : (Jvm.Cond.selects "MemberShelfModel" ({ cls := "MemberShelfModel", name := "alias", desc := "(II)I" } : Jvm.MethodName) ({ cls := "MemberShelfModel", name := "alias", desc := "(II)I" } : Jvm.MethodName)) ∈ lw_all := lw_g (lw_at lw_m6 90 rfl) rfl
theorem q1338 : (Jvm.Cond.code ({ cls := "MemberShelfModel", name := "alias", desc := "(II)I" } : Jvm.MethodName) prog_13_method_27_code (4 : Nat) (Option.some Jvm.ClassFile.FieldType.int)) ∈ lw_all := lw_g (lw_at lw_m6 91 rfl) rfl
theorem q1339 : (Jvm.Cond.methodLink "MemberShelfModel" (92 : Nat) ({ cls := "MemberShelfModel", name := "doAlias", desc := "(II)I" } : Jvm.MethodName)) ∈ lw_all := lw_g (lw_at lw_m6 92 rfl) rfl
theorem q1340 : (Jvm.Cond.privateMethod ({ cls := "MemberShelfModel", name := "doAlias", desc := "(II)I" } : Jvm.MethodName)) ∈ lw_tbl := lw_at lw_m6 93 rfl
theorem q1341 : (Jvm.Cond.instanceMethod ({ cls := "MemberShelfModel", name := "doAlias", desc := "(II)I" } : Jvm.MethodName)) ∈ lw_all := lw_g (lw_at lw_m6 94 rfl) rfl
theorem q1342 : (Jvm.Cond.code ({ cls := "MemberShelfModel", name := "doAlias", desc := "(II)I" } : Jvm.MethodName) prog_13_method_22_code (9 : Nat) (Option.some Jvm.ClassFile.FieldType.int)) ∈ lw_all := lw_g (lw_at lw_m6 95 rfl) rfl
theorem q1344 : (Jvm.Cond.instanceMethod ({ cls := "MemberShelfModel", name := "type", desc := "(C)I" } : Jvm.MethodName)) ∈ lw_all := lw_g (lw_at lw_m6 97 rfl) rfl
theorem q1345 : (Jvm.Cond.selects "MemberShelfModel" ({ cls := "MemberShelfModel", name := "type", desc := "(C)I" } : Jvm.MethodName) ({ cls := "MemberShelfModel", name := "type", desc := "(C)I" } : Jvm.MethodName)) ∈ lw_all := lw_g (lw_at lw_m6 98 rfl) rfl
theorem q1346 : (Jvm.Cond.code ({ cls := "MemberShelfModel", name := "type", desc := "(C)I" } : Jvm.MethodName) prog_13_method_28_code (2 : Nat) (Option.some Jvm.ClassFile.FieldType.int)) ∈ lw_all := lw_g (lw_at lw_m6 99 rfl) rfl
theorem q1348 : (Jvm.Cond.instanceMethod ({ cls := "MemberShelfModel", name := "clearPad", desc := "()I" } : Jvm.MethodName)) ∈ lw_all := lw_g (lw_at lw_m6 101 rfl) rfl
theorem q1349 : (Jvm.Cond.selects "MemberShelfModel" ({ cls := "MemberShelfModel", name := "clearPad", desc := "()I" } : Jvm.MethodName) ({ cls := "MemberShelfModel", name := "clearPad", desc := "()I" } : Jvm.MethodName)) ∈ lw_all := lw_g (lw_at lw_m6 102 rfl) rfl
theorem q1350 : (Jvm.Cond.code ({ cls := "MemberShelfModel", name := "clearPad", desc := "()I" } : Jvm.MethodName) prog_13_method_29_code (2 : Nat) (Option.some Jvm.ClassFile.FieldType.int)) ∈ lw_all := lw_g (lw_at lw_m6 103 rfl) rfl
theorem q1352 : (Jvm.Cond.instanceMethod ({ cls := "MemberShelfModel", name := "addAll", desc := "()I" } : Jvm.MethodName)) ∈ lw_all := lw_g (lw_at lw_m6 105 rfl) rfl
theorem q1353 : (Jvm.Cond.selects "MemberShelfModel" ({ cls := "MemberShelfModel", name := "addAll", desc := "()I" } : Jvm.MethodName) ({ cls := "MemberShelfModel", name := "addAll", desc := "()I" } : Jvm.MethodName)) ∈ lw_all := lw_g (lw_at lw_m6 106 rfl) rfl
theorem q1354 : (Jvm.Cond.code ({ cls := "MemberShelfModel", name := "addAll", desc := "()I" } : Jvm.MethodName) prog_13_method_36_code (6 : Nat) (Option.some Jvm.ClassFile.FieldType.int)) ∈ lw_all := lw_g (lw_at lw_m6 107 rfl) rfl
theorem q1355 : (Jvm.Cond.methodLink "MemberShelfModel" (124 : Nat) ({ cls := "MemberShelfModel", name := "fault", desc := "()I" } : Jvm.MethodName)) ∈ lw_all := lw_g (lw_at lw_m6 108 rfl) rfl
theorem q1356 : (Jvm.Cond.privateMethod ({ cls := "MemberShelfModel", name := "fault", desc := "()I" } : Jvm.MethodName)) ∈ lw_tbl := lw_at lw_m6 109 rfl
theorem q1357 : (Jvm.Cond.instanceMethod ({ cls := "MemberShelfModel", name := "fault", desc := "()I" } : Jvm.MethodName)) ∈ lw_all := lw_g (lw_at lw_m6 110 rfl) rfl
theorem q1358 : (Jvm.Cond.code ({ cls := "MemberShelfModel", name := "fault", desc := "()I" } : Jvm.MethodName) prog_13_method_35_code (2 : Nat) (Option.some Jvm.ClassFile.FieldType.int)) ∈ lw_all := lw_g (lw_at lw_m6 111 rfl) rfl
theorem q1359 : (Jvm.Cond.methodLink "MemberShelfModel" (120 : Nat) ({ cls := "MemberShelfModel", name := "readsAddition", desc := "(Z)Z" } : Jvm.MethodName)) ∈ lw_all := lw_g (lw_at lw_m6 112 rfl) rfl
theorem q1360 : (Jvm.Cond.privateMethod ({ cls := "MemberShelfModel", name := "readsAddition", desc := "(Z)Z" } : Jvm.MethodName)) ∈ lw_tbl := lw_at lw_m6 113 rfl
theorem q1361 : (Jvm.Cond.instanceMethod ({ cls := "MemberShelfModel", name := "readsAddition", desc := "(Z)Z" } : Jvm.MethodName)) ∈ lw_all := lw_g (lw_at lw_m6 114 rfl) rfl
theorem q1362 : (Jvm.Cond.code ({ cls := "MemberShelfModel", name := "readsAddition", desc := "(Z)Z" } : Jvm.MethodName) prog_13_method_34_code (5 : Nat) (Option.some Jvm.ClassFile.FieldType.boolean)) ∈ lw_all := lw_g (lw_at lw_m6 115 rfl) rfl
theorem q1363 : (Jvm.Cond.methodLink "MemberShelfModel" (108 : Nat) ({ cls := "MemberShelfModel", name := "readsName", desc := "()Z" } : Jvm.MethodName)) ∈ lw_all := lw_g (lw_at lw_m6 116 rfl) rfl
theorem q1364 : (Jvm.Cond.privateMethod ({ cls := "MemberShelfModel", name := "readsName", desc := "()Z" } : Jvm.MethodName)) ∈ lw_tbl := lw_at lw_m6 117 rfl
theorem q1365 : (Jvm.Cond.instanceMethod ({ cls := "MemberShelfModel", name := "readsName", desc := "()Z" } : Jvm.MethodName)) ∈ lw_all := lw_g (lw_at lw_m6 118 rfl) rfl
theorem q1366 : (Jvm.Cond.code ({ cls := "MemberShelfModel", name := "readsName", desc := "()Z" } : Jvm.MethodName) prog_13_method_33_code (2 : Nat) (Option.some Jvm.ClassFile.FieldType.boolean)) ∈ lw_all := lw_g (lw_at lw_m6 119 rfl) rfl
theorem q1367 : (Jvm.Cond.methodLink "MemberShelfModel" (101 : Nat) ({ cls := "MemberShelfModel", name := "isHere", desc := "(II)Z" } : Jvm.MethodName)) ∈ lw_all := lw_g (lw_at lw_m6 120 rfl) rfl
theorem q1368 : (Jvm.Cond.privateMethod ({ cls := "MemberShelfModel", name := "isHere", desc := "(II)Z" } : Jvm.MethodName)) ∈ lw_tbl := lw_at lw_m6 121 rfl
theorem q1369 : (Jvm.Cond.instanceMethod ({ cls := "MemberShelfModel", name := "isHere", desc := "(II)Z" } : Jvm.MethodName)) ∈ lw_all := lw_g (lw_at lw_m6 122 rfl) rfl
theorem q1370 : (Jvm.Cond.code ({ cls := "MemberShelfModel", name := "isHere", desc := "(II)Z" } : Jvm.MethodName) prog_13_method_30_code (3 : Nat) (Option.some Jvm.ClassFile.FieldType.boolean)) ∈ lw_all := lw_g (lw_at lw_m6 123 rfl) rfl
theorem q1371 : (Jvm.Cond.methodLink "MemberShelfModel" (111 : Nat) ({ cls := "MemberShelfModel", name := "takes", desc := "(I)Z" } : Jvm.MethodName)) ∈ lw_all := lw_g (lw_at lw_m6 124 rfl) rfl
theorem q1372 : (Jvm.Cond.privateMethod ({ cls := "MemberShelfModel", name := "takes", desc := "(I)Z" } : Jvm.MethodName)) ∈ lw_tbl := lw_at lw_m6 125 rfl
theorem q1373 : (Jvm.Cond.instanceMethod ({ cls := "MemberShelfModel", name := "takes", desc := "(I)Z" } : Jvm.MethodName)) ∈ lw_all := lw_g (lw_at lw_m6 126 rfl) rfl
theorem q1374 : (Jvm.Cond.code ({ cls := "MemberShelfModel", name := "takes", desc := "(I)Z" } : Jvm.MethodName) prog_13_method_31_code (3 : Nat) (Option.some Jvm.ClassFile.FieldType.boolean)) ∈ lw_all := lw_g (lw_at lw_m6 127 rfl) rfl
theorem q1375 : (Jvm.Cond.methodLink "MemberShelfModel" (117 : Nat) ({ cls := "MemberShelfModel", name := "readsNumber", desc := "(II)Z" } : Jvm.MethodName)) ∈ lw_all := lw_g (lw_at lw_m6 128 rfl) rfl
theorem q1376 : (Jvm.Cond.privateMethod ({ cls := "MemberShelfModel", name := "readsNumber", desc := "(II)Z" } : Jvm.MethodName)) ∈ lw_tbl := lw_at lw_m6 129 rfl
theorem q1377 : (Jvm.Cond.instanceMethod ({ cls := "MemberShelfModel", name := "readsNumber", desc := "(II)Z" } : Jvm.MethodName)) ∈ lw_all := lw_g (lw_at lw_m6 130 rfl) rfl
theorem q1378 : (Jvm.Cond.code ({ cls := "MemberShelfModel", name := "readsNumber", desc := "(II)Z" } : Jvm.MethodName) prog_13_method_32_code (3 : Nat) (Option.some Jvm.ClassFile.FieldType.boolean)) ∈ lw_all := lw_g (lw_at lw_m6 131 rfl) rfl
theorem q1380 : (Jvm.Cond.instanceMethod ({ cls := "MemberShelfModel", name := "squeeze", desc := "()I" } : Jvm.MethodName)) ∈ lw_all := lw_g (lw_at lw_m6 133 rfl) rfl
theorem q1381 : (Jvm.Cond.selects "MemberShelfModel" ({ cls := "MemberShelfModel", name := "squeeze", desc := "()I" } : Jvm.MethodName) ({ cls := "MemberShelfModel", name := "squeeze", desc := "()I" } : Jvm.MethodName)) ∈ lw_all := lw_g (lw_at lw_m6 134 rfl) rfl
theorem q1382 : (Jvm.Cond.code ({ cls := "MemberShelfModel", name := "squeeze", desc := "()I" } : Jvm.MethodName) prog_13_method_37_code (1 : Nat) (Option.some Jvm.ClassFile.FieldType.int)) ∈ lw_all := lw_g (lw_at lw_m6 135 rfl) rfl
theorem q1383 : (Jvm.Cond.methodLink "MemberShelfModel" (127 : Nat) ({ cls := "MemberShelfModel", name := "living", desc := "(Z)I" } : Jvm.MethodName)) ∈ lw_all := lw_g (lw_at lw_m6 136 rfl) rfl
theorem q1384 : (Jvm.Cond.privateMethod ({ cls := "MemberShelfModel", name := "living", desc := "(Z)I" } : Jvm.MethodName)) ∈ lw_tbl := lw_at lw_m6 137 rfl
theorem q1385 : (Jvm.Cond.instanceMethod ({ cls := "MemberShelfModel", name := "living", desc := "(Z)I" } : Jvm.MethodName)) ∈ lw_all := lw_g (lw_at lw_m6 138 rfl) rfl
theorem q1386 : (Jvm.Cond.code ({ cls := "MemberShelfModel", name := "living", desc := "(Z)I" } : Jvm.MethodName) prog_13_method_17_code (4 : Nat) (Option.some Jvm.ClassFile.FieldType.int)) ∈ lw_all := lw_g (lw_at lw_m6 139 rfl) rfl
theorem q1387 : (Jvm.Cond.methodLink "MemberShelfModel" (46 : Nat) ({ cls := "MemberShelfModel", name := "nextText", desc := "(I)I" } : Jvm.MethodName)) ∈ lw_all := lw_g (lw_at lw_m6 140 rfl) rfl
theorem q1388 : (Jvm.Cond.privateMethod ({ cls := "MemberShelfModel", name := "nextText", desc := "(I)I" } : Jvm.MethodName)) ∈ lw_tbl := lw_at lw_m6 141 rfl
theorem q1389 : (Jvm.Cond.instanceMethod ({ cls := "MemberShelfModel", name := "nextText", desc := "(I)I" } : Jvm.MethodName)) ∈ lw_all := lw_g (lw_at lw_m6 142 rfl) rfl
theorem q1390 : (Jvm.Cond.code ({ cls := "MemberShelfModel", name := "nextText", desc := "(I)I" } : Jvm.MethodName) prog_13_method_16_code (5 : Nat) (Option.some Jvm.ClassFile.FieldType.int)) ∈ lw_all := lw_g (lw_at lw_m6 143 rfl) rfl
theorem q1391 : (Jvm.Cond.methodLink "MemberShelfModel" (131 : Nat) ({ cls := "MemberShelfModel", name := "squeezes", desc := "()I" } : Jvm.MethodName)) ∈ lw_all := lw_g (lw_at lw_m6 144 rfl) rfl
theorem q1392 : (Jvm.Cond.privateMethod ({ cls := "MemberShelfModel", name := "squeezes", desc := "()I" } : Jvm.MethodName)) ∈ lw_tbl := lw_at lw_m6 145 rfl
theorem q1393 : (Jvm.Cond.instanceMethod ({ cls := "MemberShelfModel", name := "squeezes", desc := "()I" } : Jvm.MethodName)) ∈ lw_all := lw_g (lw_at lw_m6 146 rfl) rfl
theorem q1394 : (Jvm.Cond.code ({ cls := "MemberShelfModel", name := "squeezes", desc := "()I" } : Jvm.MethodName) prog_13_method_18_code (7 : Nat) (Option.some Jvm.ClassFile.FieldType.int)) ∈ lw_all := lw_g (lw_at lw_m6 147 rfl) rfl
theorem q1396 : (Jvm.Cond.instanceMethod ({ cls := "MemberShelfModel", name := "makeAnew", desc := "(I)I" } : Jvm.MethodName)) ∈ lw_all := lw_g (lw_at lw_m6 149 rfl) rfl
theorem q1397 : (Jvm.Cond.selects "MemberShelfModel" ({ cls := "MemberShelfModel", name := "makeAnew", desc := "(I)I" } : Jvm.MethodName) ({ cls := "MemberShelfModel", name := "makeAnew", desc := "(I)I" } : Jvm.MethodName)) ∈ lw_all := lw_g (lw_at lw_m6 150 rfl) rfl
theorem q1398 : (Jvm.Cond.code ({ cls := "MemberShelfModel", name := "makeAnew", desc := "(I)I" } : Jvm.MethodName) prog_13_method_38_code (4 : Nat) (Option.some Jvm.ClassFile.FieldType.int)) ∈ lw_all := lw_g (lw_at lw_m6 151 rfl) rfl
theorem q1399 : (Jvm.Cond.constantLong "MemberShelfModel" (134 : Nat) (6 : Int64)) ∈ lw_all := lw_g (lw_at lw_m6 152 rfl) rfl
theorem q1401 : (Jvm.Cond.instanceMethod ({ cls := "MemberShelfModel", name := "undo", desc := "()I" } : Jvm.MethodName)) ∈ lw_all := lw_g (lw_at lw_m6 154 rfl) rfl
theorem q1402 : (Jvm.Cond.selects "MemberShelfModel" ({ cls := "MemberShelfModel", name := "undo", desc := "()I" } : Jvm.MethodName) ({ cls := "MemberShelfModel", name := "undo", desc := "()I" } : Jvm.MethodName)) ∈ lw_all := lw_g (lw_at lw_m6 155 rfl) rfl
theorem q1403 : (Jvm.Cond.code ({ cls := "MemberShelfModel", name := "undo", desc := "()I" } : Jvm.MethodName) prog_13_method_39_code (2 : Nat) (Option.some Jvm.ClassFile.FieldType.int)) ∈ lw_all := lw_g (lw_at lw_m6 156 rfl) rfl
theorem q1405 : (Jvm.Cond.instanceMethod ({ cls := "MemberShelfModel", name := "keep", desc := "()I" } : Jvm.MethodName)) ∈ lw_all := lw_g (lw_at lw_m6 158 rfl) rfl
theorem q1406 : (Jvm.Cond.selects "MemberShelfModel" ({ cls := "MemberShelfModel", name := "keep", desc := "()I" } : Jvm.MethodName) ({ cls := "MemberShelfModel", name := "keep", desc := "()I" } : Jvm.MethodName)) ∈ lw_all := lw_g (lw_at lw_m6 159 rfl) rfl
theorem q1407 : (Jvm.Cond.code ({ cls := "MemberShelfModel", name := "keep", desc := "()I" } : Jvm.MethodName) prog_13_method_40_code (2 : Nat) (Option.some Jvm.ClassFile.FieldType.int)) ∈ lw_all := lw_g (lw_at lw_m6 160 rfl) rfl
theorem q1409 : (Jvm.Cond.instanceMethod ({ cls := "MemberShelfModel", name := "restore", desc := "()I" } : Jvm.MethodName)) ∈ lw_all := lw_g (lw_at lw_m6 162 rfl) rfl
theorem q1410 : (Jvm.Cond.selects "MemberShelfModel" ({ cls := "MemberShelfModel", name := "restore", desc := "()I" } : Jvm.MethodName) ({ cls := "MemberShelfModel", name := "restore", desc := "()I" } : Jvm.MethodName)) ∈ lw_all := lw_g (lw_at lw_m6 163 rfl) rfl
theorem q1411 : (Jvm.Cond.code ({ cls := "MemberShelfModel", name := "restore", desc := "()I" } : Jvm.MethodName) prog_13_method_41_code (2 : Nat) (Option.some Jvm.ClassFile.FieldType.int)) ∈ lw_all := lw_g (lw_at lw_m6 164 rfl) rfl
theorem q1413 : (Jvm.Cond.instanceMethod ({ cls := "MemberShelfModel", name := "entry", desc := "(II)I" } : Jvm.MethodName)) ∈ lw_all := lw_g (lw_at lw_m6 166 rfl) rfl
theorem q1414 : (Jvm.Cond.selects "MemberShelfModel" ({ cls := "MemberShelfModel", name := "entry", desc := "(II)I" } : Jvm.MethodName) ({ cls := "MemberShelfModel", name := "entry", desc := "(II)I" } : Jvm.MethodName)) ∈ lw_all := lw_g (lw_at lw_m6 167 rfl) rfl
theorem q1415 : (Jvm.Cond.code ({ cls := "MemberShelfModel", name := "entry", desc := "(II)I" } : Jvm.MethodName) prog_13_method_42_code (4 : Nat) (Option.some Jvm.ClassFile.FieldType.int)) ∈ lw_all := lw_g (lw_at lw_m6 168 rfl) rfl
theorem q1416 : (Jvm.Cond.methodLink "MemberShelfModel" (139 : Nat) ({ cls := "MemberShelfModel", name := "aliasesOf", desc := "(I)I" } : Jvm.MethodName)) ∈ lw_all := lw_g (lw_at lw_m6 169 rfl) rfl
theorem q1417 : (Jvm.Cond.privateMethod ({ cls := "MemberShelfModel", name := "aliasesOf", desc := "(I)I" } : Jvm.MethodName)) ∈ lw_tbl := lw_at lw_m6 170 rfl
theorem q1418 : (Jvm.Cond.instanceMethod ({ cls := "MemberShelfModel", name := "aliasesOf", desc := "(I)I" } : Jvm.MethodName)) ∈ lw_all := lw_g (lw_at lw_m6 171 rfl) rfl
theorem q1419 : (Jvm.Cond.code ({ cls := "MemberShelfModel", name := "aliasesOf", desc := "(I)I" } : Jvm.MethodName) prog_13_method_20_code (4 : Nat) (Option.some Jvm.ClassFile.FieldType.int)) ∈ lw_all := lw_g (lw_at lw_m6 172 rfl) rfl
theorem q1420 : (Jvm.Cond.methodLink "MemberShelfModel" (142 : Nat) ({ cls := "MemberShelfModel", name := "isLost", desc := "(I)Z" } : Jvm.MethodName)) ∈ lw_all := lw_g (lw_at lw_m6 173 rfl) rfl
theorem q1421 : (Jvm.Cond.privateMethod ({ cls := "MemberShelfModel", name := "isLost", desc := "(I)Z" } : Jvm.MethodName)) ∈ lw_tbl := lw_at lw_m6 174 rfl
theorem q1422 : (Jvm.Cond.instanceMethod ({ cls := "MemberShelfModel", name := "isLost", desc := "(I)Z" } : Jvm.MethodName)) ∈ lw_all := lw_g (lw_at lw_m6 175 rfl) rfl
theorem q1423 : (Jvm.Cond.code ({ cls := "MemberShelfModel", name := "isLost", desc := "(I)Z" } : Jvm.MethodName) prog_13_method_19_code (3 : Nat) (Option.some Jvm.ClassFile.FieldType.boolean)) ∈ lw_all := lw_g (lw_at lw_m6 176 rfl) rfl
theorem q1425 : (Jvm.Cond.instanceMethod ({ cls := "MemberShelfModel", name := "named", desc := "(I)I" } : Jvm.MethodName)) ∈ lw_all := lw_g (lw_at lw_m6 178 rfl) rfl
theorem q1426 : (Jvm.Cond.selects "MemberShelfModel" ({ cls := "MemberShelfModel", name := "named", desc := "(I)I" } : Jvm.MethodName) ({ cls := "MemberShelfModel", name := "named", desc := "(I)I" } : Jvm.MethodName)) ∈ lw_all := lw_g (lw_at lw_m6 179 rfl) rfl
theorem q1427 : (Jvm.Cond.code ({ cls := "MemberShelfModel", name := "named", desc := "(I)I" } : Jvm.MethodName) prog_13_method_43_code (2 : Nat) (Option.some Jvm.ClassFile.FieldType.int)) ∈ lw_all := lw_g (lw_at lw_m6 180 rfl) rfl
theorem q1429 : (Jvm.Cond.instanceMethod ({ cls := "MemberShelfModel", name := "block", desc := "(II)I" } : Jvm.MethodName)) ∈ lw_all := lw_g (lw_at lw_m6 182 rfl) rfl
theorem q1430 : (Jvm.Cond.selects "MemberShelfModel" ({ cls := "MemberShelfModel", name := "block", desc := "(II)I" } : Jvm.MethodName) ({ cls := "MemberShelfModel", name := "block", desc := "(II)I" } : Jvm.MethodName)) ∈ lw_all := lw_g (lw_at lw_m6 183 rfl) rfl
theorem q1431 : (Jvm.Cond.code ({ cls := "MemberShelfModel", name := "block", desc := "(II)I" } : Jvm.MethodName) prog_13_method_44_code (6 : Nat) (Option.some Jvm.ClassFile.FieldType.int)) ∈ lw_all := lw_g (lw_at lw_m6 184 rfl) rfl
theorem q1432 : (Jvm.Cond.constantLong "MemberShelfModel" (145 : Nat) (2 : Int64)) ∈ lw_all := lw_g (lw_at lw_m6 185 rfl) rfl
theorem q1434 : (Jvm.Cond.instanceMethod ({ cls := "MemberShelfModel", name := "at", desc := "(I)I" } : Jvm.MethodName)) ∈ lw_all := lw_g (lw_at lw_m6 187 rfl) rfl
theorem q1435 : (Jvm.Cond.selects "MemberShelfModel" ({ cls := "MemberShelfModel", name := "at", desc := "(I)I" } : Jvm.MethodName) ({ cls := "MemberShelfModel", name := "at", desc := "(I)I" } : Jvm.MethodName)) ∈ lw_all := lw_g (lw_at lw_m6 188 rfl) rfl
theorem q1436 : (Jvm.Cond.code ({ cls := "MemberShelfModel", name := "at", desc := "(I)I" } : Jvm.MethodName) prog_13_method_45_code (3 : Nat) (Option.some Jvm.ClassFile.FieldType.int)) ∈ lw_all := lw_g (lw_at lw_m6 189 rfl) rfl
theorem q1437 : (Jvm.Cond.constantLong "MemberShelfModel" (147 : Nat) (99 : Int64)) ∈ lw_all := lw_g (lw_at lw_m6 190 rfl) rfl
theorem q1439 : (Jvm.Cond.instanceMethod ({ cls := "MemberShelfModel", name := "fits", desc := "(I)I" } : Jvm.MethodName)) ∈ lw_all := lw_g (lw_at lw_m6 192 rfl) rfl
theorem q1440 : (Jvm.Cond.selects "MemberShelfModel" ({ cls := "MemberShelfModel", name := "fits", desc := "(I)I" } : Jvm.MethodName) ({ cls := "MemberShelfModel", name := "fits", desc := "(I)I" } : Jvm.MethodName)) ∈ lw_all := lw_g (lw_at lw_m6 193 rfl) rfl
theorem q1441 : (Jvm.Cond.code ({ cls := "MemberShelfModel", name := "fits", desc := "(I)I" } : Jvm.MethodName) prog_13_method_46_code (2 : Nat) (Option.some Jvm.ClassFile.FieldType.int)) ∈ lw_all := lw_g (lw_at lw_m6 194 rfl) rfl
theorem q1443 : (Jvm.Cond.instanceMethod ({ cls := "MemberShelfModel", name := "beginning", desc := "(II)I" } : Jvm.MethodName)) ∈ lw_all := lw_g (lw_at lw_m6 196 rfl) rfl
theorem q1444 : (Jvm.Cond.selects "MemberShelfModel" ({ cls := "MemberShelfModel", name := "beginning", desc := "(II)I" } : Jvm.MethodName) ({ cls := "MemberShelfModel", name := "beginning", desc := "(II)I" } : Jvm.MethodName)) ∈ lw_all := lw_g (lw_at lw_m6 197 rfl) rfl
theorem q1445 : (Jvm.Cond.code ({ cls := "MemberShelfModel", name := "beginning", desc := "(II)I" } : Jvm.MethodName) prog_13_method_47_code (5 : Nat) (Option.some Jvm.ClassFile.FieldType.int)) ∈ lw_all := lw_g (lw_at lw_m6 198 rfl) rfl
theorem q1446 : (Jvm.Cond.constantLong "MemberShelfModel" (149 : Nat) (25 : Int64)) ∈ lw_all := lw_g (lw_at lw_m6 199 rfl) rfl
theorem q1448 : (Jvm.Cond.instanceMethod ({ cls := "MemberShelfModel", name := "count", desc := "(I)I" } : Jvm.MethodName)) ∈ lw_all := lw_g (lw_at lw_m6 201 rfl) rfl
theorem q1449 : (Jvm.Cond.selects "MemberShelfModel" ({ cls := "MemberShelfModel", name := "count", desc := "(I)I" } : Jvm.MethodName) ({ cls := "MemberShelfModel", name := "count", desc := "(I)I" } : Jvm.MethodName)) ∈ lw_all := lw_g (lw_at lw_m6 202 rfl) rfl
theorem q1450 : (Jvm.Cond.code ({ cls := "MemberShelfModel", name := "count", desc := "(I)I" } : Jvm.MethodName) prog_13_method_50_code (2 : Nat) (Option.some Jvm.ClassFile.FieldType.int)) ∈ lw_all := lw_g (lw_at lw_m6 203 rfl) rfl
theorem q1451 : (Jvm.Cond.methodLink "MemberShelfModel" (151 : Nat) ({ cls := "MemberShelfModel", name := "members", desc := "()I" } : Jvm.MethodName)) ∈ lw_all := lw_g (lw_at lw_m6 204 rfl) rfl
theorem q1452 : (Jvm.Cond.privateMethod ({ cls := "MemberShelfModel", name := "members", desc := "()I" } : Jvm.MethodName)) ∈ lw_tbl := lw_at lw_m6 205 rfl
theorem q1453 : (Jvm.Cond.instanceMethod ({ cls := "MemberShelfModel", name := "members", desc := "()I" } : Jvm.MethodName)) ∈ lw_all := lw_g (lw_at lw_m6 206 rfl) rfl
theorem q1454 : (Jvm.Cond.code ({ cls := "MemberShelfModel", name := "members", desc := "()I" } : Jvm.MethodName) prog_13_method_48_code (3 : Nat) (Option.some Jvm.ClassFile.FieldType.int)) ∈ lw_all := lw_g (lw_at lw_m6 207 rfl) rfl
theorem q1455 : (Jvm.Cond.methodLink "MemberShelfModel" (154 : Nat) ({ cls := "MemberShelfModel", name := "lostOnes", desc := "()I" } : Jvm.MethodName)) ∈ lw_all := lw_g (lw_at lw_m6 208 rfl) rfl
theorem q1456 : (Jvm.Cond.privateMethod ({ cls := "MemberShelfModel", name := "lostOnes", desc := "()I" } : Jvm.MethodName)) ∈ lw_tbl := lw_at lw_m6 209 rfl
theorem q1457 : (Jvm.Cond.instanceMethod ({ cls := "MemberShelfModel", name := "lostOnes", desc := "()I" } : Jvm.MethodName)) ∈ lw_all := lw_g (lw_at lw_m6 210 rfl) rfl
theorem q1458 : (Jvm.Cond.code ({ cls := "MemberShelfModel", name := "lostOnes", desc := "()I" } : Jvm.MethodName) prog_13_method_49_code (3 : Nat) (Option.some Jvm.ClassFile.FieldType.int)) ∈ lw_all := lw_g (lw_at lw_m6 211 rfl) rfl
theorem q1477 : (Jvm.Cond.castable "MemberShelfModel" "java/lang/Object") ∈ lw_tbl := lw_at lw_m6 230 rfl
def RX4 : String := "MemberShelf$Directory$1"
def TX4 : u_T := fun k => match k with
  | 0 => ("MemberShelf$Directory$1", "next", "I", false)
  | 1 => ("MemberShelf$Directory$1", "val$from", "I", true)
  | 2 => ("MemberShelf$Directory$1", "val$to", "I", true)
  | _ => ("MemberShelf$Directory$1", "this$0", "LMemberShelf$Directory;", true)
def tyX4 : Nat → FieldType := fun k => match k with
  | 0 => .int
  | 1 => .int
  | 2 => .int
  | _ => .object "MemberShelf$Directory"
abbrev wsX40 : List Cond := u_ws RX4 TX4 4
theorem nmX4 : ∀ a, a < 4 → ∀ b, b < 4 → a ≠ b → (TX4 a).2.1 ≠ (TX4 b).2.1 := by decide +kernel
theorem tyX4_ok : ∀ k, k < 4 → parseFieldDescriptor (TX4 k).2.2.1 = some (tyX4 k) := by decide +kernel
abbrev cX4_init : ByteArray := prog_5_method_1_code
def yX4_init : MethodName := ⟨RX4, "<init>", "(LMemberShelf$Directory;II)V"⟩
abbrev cX4_hasNext : ByteArray := prog_5_method_2_code
def yX4_hasNext : MethodName := ⟨RX4, "hasNext", "()Z"⟩
abbrev cX4_next : ByteArray := prog_5_method_4_code
def yX4_next : MethodName := ⟨RX4, "next", "()Ljava/lang/Object;"⟩
abbrev cX4_next_2 : ByteArray := prog_5_method_3_code
def yX4_next_2 : MethodName := ⟨RX4, "next", "()LMemberShelf$Entry;"⟩
theorem q60 : (Jvm.Cond.initialized "MemberShelf$Directory$1") ∈ lw_all := lw_g (lw_at lw_m1 13 rfl) rfl
theorem q129 : (Jvm.Cond.fieldLinkNest "MemberShelf$Directory$1" (23 : Nat) "MemberShelf$Directory" "entries" "Ljava/util/List;" "MemberShelf") ∈ lw_tbl := lw_at lw_m1 82 rfl
theorem q268 : (Jvm.Cond.instantiable "MemberShelf$Directory$1" (4 : Nat)) ∈ lw_all := lw_g (lw_at lw_m1 221 rfl) rfl
theorem q270 : (Jvm.Cond.instanceMethod ({ cls := "MemberShelf$Directory$1", name := "<init>", desc := "(LMemberShelf$Directory;II)V" } : Jvm.MethodName)) ∈ lw_all := lw_g (lw_at lw_m1 223 rfl) rfl
theorem q271 : (Jvm.Cond.code ({ cls := "MemberShelf$Directory$1", name := "<init>", desc := "(LMemberShelf$Directory;II)V" } : Jvm.MethodName) prog_5_method_1_code (4 : Nat) (Option.none : Option Jvm.ClassFile.FieldType)) ∈ lw_all := lw_g (lw_at lw_m1 224 rfl) rfl
theorem q272 : (Jvm.Cond.methodLink "MemberShelf$Directory$1" (14 : Nat) ({ cls := "java/lang/Object", name := "<init>", desc := "()V" } : Jvm.MethodName)) ∈ lw_all := lw_g (lw_at lw_m1 225 rfl) rfl
theorem q273 : (Jvm.Cond.fieldLink "MemberShelf$Directory$1" (20 : Nat) "MemberShelf$Directory$1" "next" "I") ∈ lw_all := lw_g (lw_at lw_m1 226 rfl) rfl
theorem q274 : (Jvm.Cond.fieldLink "MemberShelf$Directory$1" (7 : Nat) "MemberShelf$Directory$1" "val$from" "I") ∈ lw_all := lw_g (lw_at lw_m1 227 rfl) rfl
theorem q275 : (Jvm.Cond.fieldLink "MemberShelf$Directory$1" (11 : Nat) "MemberShelf$Directory$1" "val$to" "I") ∈ lw_all := lw_g (lw_at lw_m1 228 rfl) rfl
theorem q276 : (Jvm.Cond.fieldLink "MemberShelf$Directory$1" (1 : Nat) "MemberShelf$Directory$1" "this$0" "LMemberShelf$Directory;") ∈ lw_all := lw_g (lw_at lw_m1 229 rfl) rfl
theorem q277 : (Jvm.Cond.lays "MemberShelf$Directory$1" "MemberShelf$Directory$1" "next" "I") ∈ lw_all := lw_g (lw_at lw_m1 230 rfl) rfl
theorem q278 : (Jvm.Cond.soleField "MemberShelf$Directory$1" "next") ∈ lw_all := lw_g (lw_at lw_m1 231 rfl) rfl
theorem q279 : (Jvm.Cond.laysFinal "MemberShelf$Directory$1" "MemberShelf$Directory$1" "val$from" "I") ∈ lw_all := lw_g (lw_at lw_m1 232 rfl) rfl
theorem q280 : (Jvm.Cond.soleField "MemberShelf$Directory$1" "val$from") ∈ lw_all := lw_g (lw_at lw_m1 233 rfl) rfl
theorem q281 : (Jvm.Cond.laysFinal "MemberShelf$Directory$1" "MemberShelf$Directory$1" "val$to" "I") ∈ lw_all := lw_g (lw_at lw_m1 234 rfl) rfl
theorem q282 : (Jvm.Cond.soleField "MemberShelf$Directory$1" "val$to") ∈ lw_all := lw_g (lw_at lw_m1 235 rfl) rfl
theorem q283 : (Jvm.Cond.laysFinal "MemberShelf$Directory$1" "MemberShelf$Directory$1" "this$0" "LMemberShelf$Directory;") ∈ lw_all := lw_g (lw_at lw_m1 236 rfl) rfl
theorem q284 : (Jvm.Cond.soleField "MemberShelf$Directory$1" "this$0") ∈ lw_all := lw_g (lw_at lw_m1 237 rfl) rfl
theorem q285 : (Jvm.Cond.superclass "MemberShelf$Directory$1" "java/lang/Object") ∈ lw_all := lw_g (lw_at lw_m1 238 rfl) rfl
theorem q290 : (Jvm.Cond.castable "MemberShelf$Directory$1" "java/util/Iterator") ∈ lw_tbl := lw_at lw_m2 3 rfl
theorem q291 : (Jvm.Cond.selects "MemberShelf$Directory$1" ({ cls := "java/util/Iterator", name := "hasNext", desc := "()Z" } : Jvm.MethodName) ({ cls := "MemberShelf$Directory$1", name := "hasNext", desc := "()Z" } : Jvm.MethodName)) ∈ lw_all := lw_g (lw_at lw_m2 4 rfl) rfl
theorem q292 : (Jvm.Cond.unhidden "MemberShelf$Directory$1" "hasNext" "()Z") ∈ lw_tbl := lw_at lw_m2 5 rfl
theorem q293 : (Jvm.Cond.instanceMethod ({ cls := "MemberShelf$Directory$1", name := "hasNext", desc := "()Z" } : Jvm.MethodName)) ∈ lw_all := lw_g (lw_at lw_m2 6 rfl) rfl
theorem q294 : (Jvm.Cond.publicMethod ({ cls := "MemberShelf$Directory$1", name := "hasNext", desc := "()Z" } : Jvm.MethodName)) ∈ lw_tbl := lw_at lw_m2 7 rfl
theorem q295 : (Jvm.Cond.code ({ cls := "MemberShelf$Directory$1", name := "hasNext", desc := "()Z" } : Jvm.MethodName) prog_5_method_2_code (1 : Nat) (Option.some Jvm.ClassFile.FieldType.boolean)) ∈ lw_all := lw_g (lw_at lw_m2 8 rfl) rfl
theorem q306 : (Jvm.Cond.selects "MemberShelf$Directory$1" ({ cls := "java/util/Iterator", name := "next", desc := "()Ljava/lang/Object;" } : Jvm.MethodName) ({ cls := "MemberShelf$Directory$1", name := "next", desc := "()Ljava/lang/Object;" } : Jvm.MethodName)) ∈ lw_all := lw_g (lw_at lw_m2 19 rfl) rfl
theorem q307 : (Jvm.Cond.unhidden "MemberShelf$Directory$1" "next" "()Ljava/lang/Object;") ∈ lw_tbl := lw_at lw_m2 20 rfl
theorem q308 : (Jvm.Cond.instanceMethod ({ cls := "MemberShelf$Directory$1", name := "next", desc := "()Ljava/lang/Object;" } : Jvm.MethodName)) ∈ lw_all := lw_g (lw_at lw_m2 21 rfl) rfl
theorem q309 : (Jvm.Cond.publicMethod ({ cls := "MemberShelf$Directory$1", name := "next", desc := "()Ljava/lang/Object;" } : Jvm.MethodName)) ∈ lw_tbl := lw_at lw_m2 22 rfl
theorem q310 : (Jvm.Cond.code ({ cls := "MemberShelf$Directory$1", name := "next", desc := "()Ljava/lang/Object;" } : Jvm.MethodName) prog_5_method_4_code (1 : Nat) (Option.some (Jvm.ClassFile.FieldType.object "java/lang/Object"))) ∈ lw_all := lw_g (lw_at lw_m2 23 rfl) rfl
theorem q311 : (Jvm.Cond.methodLink "MemberShelf$Directory$1" (37 : Nat) ({ cls := "MemberShelf$Directory$1", name := "next", desc := "()LMemberShelf$Entry;" } : Jvm.MethodName)) ∈ lw_all := lw_g (lw_at lw_m2 24 rfl) rfl
theorem q312 : (Jvm.Cond.instanceMethod ({ cls := "MemberShelf$Directory$1", name := "next", desc := "()LMemberShelf$Entry;" } : Jvm.MethodName)) ∈ lw_all := lw_g (lw_at lw_m2 25 rfl) rfl
theorem q313 : (Jvm.Cond.selects "MemberShelf$Directory$1" ({ cls := "MemberShelf$Directory$1", name := "next", desc := "()LMemberShelf$Entry;" } : Jvm.MethodName) ({ cls := "MemberShelf$Directory$1", name := "next", desc := "()LMemberShelf$Entry;" } : Jvm.MethodName)) ∈ lw_all := lw_g (lw_at lw_m2 26 rfl) rfl
theorem q314 : (Jvm.Cond.code ({ cls := "MemberShelf$Directory$1", name := "next", desc := "()LMemberShelf$Entry;" } : Jvm.MethodName) prog_5_method_3_code (1 : Nat) (Option.some (Jvm.ClassFile.FieldType.object "MemberShelf$Entry"))) ∈ lw_all := lw_g (lw_at lw_m2 27 rfl) rfl
theorem q315 : (Jvm.Cond.interfaceEntry "MemberShelf$Directory$1" (29 : Nat)) ∈ lw_tbl := lw_at lw_m2 28 rfl
theorem q316 : (Jvm.Cond.methodLink "MemberShelf$Directory$1" (29 : Nat) ({ cls := "java/util/List", name := "get", desc := "(I)Ljava/lang/Object;" } : Jvm.MethodName)) ∈ lw_all := lw_g (lw_at lw_m2 29 rfl) rfl
theorem q334 : (Jvm.Cond.classLink "MemberShelf$Directory$1" (35 : Nat) "MemberShelf$Entry") ∈ lw_all := lw_g (lw_at lw_m2 47 rfl) rfl
theorem q386 : (Jvm.Cond.selects "MemberShelf$Directory$1" ({ cls := "java/lang/Object", name := "getClass", desc := "()Ljava/lang/Class;" } : Jvm.MethodName) ({ cls := "java/lang/Object", name := "getClass", desc := "()Ljava/lang/Class;" } : Jvm.MethodName)) ∈ lw_all := lw_g (lw_at lw_m2 99 rfl) rfl
theorem q678 : (Jvm.Cond.selects "MemberShelf$Directory$1" ({ cls := "java/lang/Object", name := "equals", desc := "(Ljava/lang/Object;)Z" } : Jvm.MethodName) ({ cls := "java/lang/Object", name := "equals", desc := "(Ljava/lang/Object;)Z" } : Jvm.MethodName)) ∈ lw_all := lw_g (lw_at lw_m3 151 rfl) rfl
theorem q1478 : (Jvm.Cond.castable "MemberShelf$Directory$1" "java/lang/Object") ∈ lw_tbl := lw_at lw_m6 231 rfl
def RX5 : String := "MemberShelf$Entry"
def TX5 : u_T := fun k => match k with
  | 0 => ("MemberShelf$Entry", "name", "I", true)
  | _ => ("MemberShelf$Entry", "text", "LMemberShelf$Text;", false)
def tyX5 : Nat → FieldType := fun k => match k with
  | 0 => .int
  | _ => .object "MemberShelf$Text"
abbrev wsX50 : List Cond := u_ws RX5 TX5 2
theorem nmX5 : ∀ a, a < 2 → ∀ b, b < 2 → a ≠ b → (TX5 a).2.1 ≠ (TX5 b).2.1 := by decide +kernel
theorem tyX5_ok : ∀ k, k < 2 → parseFieldDescriptor (TX5 k).2.2.1 = some (tyX5 k) := by decide +kernel
abbrev cX5_init : ByteArray := prog_7_method_1_code
def yX5_init : MethodName := ⟨RX5, "<init>", "(ILMemberShelf$Text;)V"⟩
abbrev cX5_named : ByteArray := prog_7_method_4_code
def yX5_named : MethodName := ⟨RX5, "named", "(I)LMemberShelf$Entry;"⟩
abbrev cX5_isAlias : ByteArray := prog_7_method_2_code
def yX5_isAlias : MethodName := ⟨RX5, "isAlias", "()Z"⟩
abbrev cX5_behind : ByteArray := prog_7_method_5_code
def yX5_behind : MethodName := ⟨RX5, "behind", "(II)LMemberShelf$Entry;"⟩
abbrev cX5_given : ByteArray := prog_7_method_3_code
def yX5_given : MethodName := ⟨RX5, "given", "()I"⟩
abbrev cX5_isLost : ByteArray := prog_7_method_6_code
def yX5_isLost : MethodName := ⟨RX5, "isLost", "(LMemberShelf$Directory;)Z"⟩
theorem q68 : (Jvm.Cond.initialized "MemberShelf$Entry") ∈ lw_all := lw_g (lw_at lw_m1 21 rfl) rfl
theorem q388 : (Jvm.Cond.selects "MemberShelf$Entry" ({ cls := "java/lang/Object", name := "getClass", desc := "()Ljava/lang/Class;" } : Jvm.MethodName) ({ cls := "java/lang/Object", name := "getClass", desc := "()Ljava/lang/Class;" } : Jvm.MethodName)) ∈ lw_all := lw_g (lw_at lw_m2 101 rfl) rfl
theorem q470 : (Jvm.Cond.instanceMethod ({ cls := "MemberShelf$Entry", name := "named", desc := "(I)LMemberShelf$Entry;" } : Jvm.MethodName)) ∈ lw_all := lw_g (lw_at lw_m2 183 rfl) rfl
theorem q471 : (Jvm.Cond.selects "MemberShelf$Entry" ({ cls := "MemberShelf$Entry", name := "named", desc := "(I)LMemberShelf$Entry;" } : Jvm.MethodName) ({ cls := "MemberShelf$Entry", name := "named", desc := "(I)LMemberShelf$Entry;" } : Jvm.MethodName)) ∈ lw_all := lw_g (lw_at lw_m2 184 rfl) rfl
theorem q472 : (Jvm.Cond.sameMethod "MemberShelf$Entry" "MemberShelf$Entry" "named" "(I)LMemberShelf$Entry;") ∈ lw_all := lw_g (lw_at lw_m2 185 rfl) rfl
theorem q482 : (Jvm.Cond.instanceMethod ({ cls := "MemberShelf$Entry", name := "<init>", desc := "(ILMemberShelf$Text;)V" } : Jvm.MethodName)) ∈ lw_all := lw_g (lw_at lw_m2 195 rfl) rfl
theorem q483 : (Jvm.Cond.code ({ cls := "MemberShelf$Entry", name := "<init>", desc := "(ILMemberShelf$Text;)V" } : Jvm.MethodName) prog_7_method_1_code (3 : Nat) (Option.none : Option Jvm.ClassFile.FieldType)) ∈ lw_all := lw_g (lw_at lw_m2 196 rfl) rfl
theorem q484 : (Jvm.Cond.methodLink "MemberShelf$Entry" (3 : Nat) ({ cls := "java/lang/Object", name := "<init>", desc := "()V" } : Jvm.MethodName)) ∈ lw_all := lw_g (lw_at lw_m2 197 rfl) rfl
theorem q486 : (Jvm.Cond.fieldLink "MemberShelf$Entry" (9 : Nat) "MemberShelf$Entry" "name" "I") ∈ lw_all := lw_g (lw_at lw_m2 199 rfl) rfl
theorem q492 : (Jvm.Cond.fieldLink "MemberShelf$Entry" (15 : Nat) "MemberShelf$Entry" "text" "LMemberShelf$Text;") ∈ lw_all := lw_g (lw_at lw_m2 205 rfl) rfl
theorem q500 : (Jvm.Cond.soleField "MemberShelf$Entry" "name") ∈ lw_all := lw_g (lw_at lw_m2 213 rfl) rfl
theorem q502 : (Jvm.Cond.soleField "MemberShelf$Entry" "text") ∈ lw_all := lw_g (lw_at lw_m2 215 rfl) rfl
theorem q504 : (Jvm.Cond.code ({ cls := "MemberShelf$Entry", name := "named", desc := "(I)LMemberShelf$Entry;" } : Jvm.MethodName) prog_7_method_4_code (2 : Nat) (Option.some (Jvm.ClassFile.FieldType.object "MemberShelf$Entry"))) ∈ lw_all := lw_g (lw_at lw_m2 217 rfl) rfl
theorem q505 : (Jvm.Cond.classLink "MemberShelf$Entry" (10 : Nat) "MemberShelf$Entry") ∈ lw_all := lw_g (lw_at lw_m2 218 rfl) rfl
theorem q506 : (Jvm.Cond.instantiable "MemberShelf$Entry" (2 : Nat)) ∈ lw_all := lw_g (lw_at lw_m2 219 rfl) rfl
theorem q507 : (Jvm.Cond.methodLink "MemberShelf$Entry" (19 : Nat) ({ cls := "MemberShelf$Entry", name := "<init>", desc := "(ILMemberShelf$Text;)V" } : Jvm.MethodName)) ∈ lw_all := lw_g (lw_at lw_m2 220 rfl) rfl
theorem q508 : (Jvm.Cond.laysFinal "MemberShelf$Entry" "MemberShelf$Entry" "name" "I") ∈ lw_all := lw_g (lw_at lw_m2 221 rfl) rfl
theorem q509 : (Jvm.Cond.lays "MemberShelf$Entry" "MemberShelf$Entry" "text" "LMemberShelf$Text;") ∈ lw_all := lw_g (lw_at lw_m2 222 rfl) rfl
theorem q510 : (Jvm.Cond.superclass "MemberShelf$Entry" "java/lang/Object") ∈ lw_all := lw_g (lw_at lw_m2 223 rfl) rfl
theorem q641 : (Jvm.Cond.instanceMethod ({ cls := "MemberShelf$Entry", name := "isAlias", desc := "()Z" } : Jvm.MethodName)) ∈ lw_all := lw_g (lw_at lw_m3 114 rfl) rfl
theorem q642 : (Jvm.Cond.selects "MemberShelf$Entry" ({ cls := "MemberShelf$Entry", name := "isAlias", desc := "()Z" } : Jvm.MethodName) ({ cls := "MemberShelf$Entry", name := "isAlias", desc := "()Z" } : Jvm.MethodName)) ∈ lw_all := lw_g (lw_at lw_m3 115 rfl) rfl
theorem q643 : (Jvm.Cond.sameMethod "MemberShelf$Entry" "MemberShelf$Entry" "isAlias" "()Z") ∈ lw_all := lw_g (lw_at lw_m3 116 rfl) rfl
theorem q647 : (Jvm.Cond.code ({ cls := "MemberShelf$Entry", name := "isAlias", desc := "()Z" } : Jvm.MethodName) prog_7_method_2_code (1 : Nat) (Option.some Jvm.ClassFile.FieldType.boolean)) ∈ lw_all := lw_g (lw_at lw_m3 120 rfl) rfl
theorem q680 : (Jvm.Cond.selects "MemberShelf$Entry" ({ cls := "java/lang/Object", name := "equals", desc := "(Ljava/lang/Object;)Z" } : Jvm.MethodName) ({ cls := "java/lang/Object", name := "equals", desc := "(Ljava/lang/Object;)Z" } : Jvm.MethodName)) ∈ lw_all := lw_g (lw_at lw_m3 153 rfl) rfl
theorem q730 : (Jvm.Cond.instanceMethod ({ cls := "MemberShelf$Entry", name := "behind", desc := "(II)LMemberShelf$Entry;" } : Jvm.MethodName)) ∈ lw_all := lw_g (lw_at lw_m3 203 rfl) rfl
theorem q731 : (Jvm.Cond.selects "MemberShelf$Entry" ({ cls := "MemberShelf$Entry", name := "behind", desc := "(II)LMemberShelf$Entry;" } : Jvm.MethodName) ({ cls := "MemberShelf$Entry", name := "behind", desc := "(II)LMemberShelf$Entry;" } : Jvm.MethodName)) ∈ lw_all := lw_g (lw_at lw_m3 204 rfl) rfl
theorem q732 : (Jvm.Cond.sameMethod "MemberShelf$Entry" "MemberShelf$Entry" "behind" "(II)LMemberShelf$Entry;") ∈ lw_all := lw_g (lw_at lw_m3 205 rfl) rfl
theorem q737 : (Jvm.Cond.code ({ cls := "MemberShelf$Entry", name := "behind", desc := "(II)LMemberShelf$Entry;" } : Jvm.MethodName) prog_7_method_5_code (3 : Nat) (Option.some (Jvm.ClassFile.FieldType.object "MemberShelf$Entry"))) ∈ lw_all := lw_g (lw_at lw_m3 210 rfl) rfl
theorem q738 : (Jvm.Cond.methodLink "MemberShelf$Entry" (22 : Nat) ({ cls := "MemberShelf$Entry", name := "named", desc := "(I)LMemberShelf$Entry;" } : Jvm.MethodName)) ∈ lw_all := lw_g (lw_at lw_m3 211 rfl) rfl
theorem q766 : (Jvm.Cond.instanceMethod ({ cls := "MemberShelf$Entry", name := "given", desc := "()I" } : Jvm.MethodName)) ∈ lw_all := lw_g (lw_at lw_m3 239 rfl) rfl
theorem q767 : (Jvm.Cond.selects "MemberShelf$Entry" ({ cls := "MemberShelf$Entry", name := "given", desc := "()I" } : Jvm.MethodName) ({ cls := "MemberShelf$Entry", name := "given", desc := "()I" } : Jvm.MethodName)) ∈ lw_all := lw_g (lw_at lw_m4 0 rfl) rfl
theorem q768 : (Jvm.Cond.sameMethod "MemberShelf$Entry" "MemberShelf$Entry" "given" "()I") ∈ lw_all := lw_g (lw_at lw_m4 1 rfl) rfl
theorem q772 : (Jvm.Cond.code ({ cls := "MemberShelf$Entry", name := "given", desc := "()I" } : Jvm.MethodName) prog_7_method_3_code (1 : Nat) (Option.some Jvm.ClassFile.FieldType.int)) ∈ lw_all := lw_g (lw_at lw_m4 5 rfl) rfl
theorem q1121 : (Jvm.Cond.instanceMethod ({ cls := "MemberShelf$Entry", name := "isLost", desc := "(LMemberShelf$Directory;)Z" } : Jvm.MethodName)) ∈ lw_all := lw_g (lw_at lw_m5 114 rfl) rfl
theorem q1122 : (Jvm.Cond.selects "MemberShelf$Entry" ({ cls := "MemberShelf$Entry", name := "isLost", desc := "(LMemberShelf$Directory;)Z" } : Jvm.MethodName) ({ cls := "MemberShelf$Entry", name := "isLost", desc := "(LMemberShelf$Directory;)Z" } : Jvm.MethodName)) ∈ lw_all := lw_g (lw_at lw_m5 115 rfl) rfl
theorem q1123 : (Jvm.Cond.sameMethod "MemberShelf$Entry" "MemberShelf$Entry" "isLost" "(LMemberShelf$Directory;)Z") ∈ lw_all := lw_g (lw_at lw_m5 116 rfl) rfl
theorem q1129 : (Jvm.Cond.code ({ cls := "MemberShelf$Entry", name := "isLost", desc := "(LMemberShelf$Directory;)Z" } : Jvm.MethodName) prog_7_method_6_code (2 : Nat) (Option.some Jvm.ClassFile.FieldType.boolean)) ∈ lw_all := lw_g (lw_at lw_m5 122 rfl) rfl
theorem q1480 : (Jvm.Cond.castable "MemberShelf$Entry" "java/lang/Object") ∈ lw_tbl := lw_at lw_m6 233 rfl
def RX6 : String := "MemberShelf$Alias"
def TX6 : u_T := fun k => match k with
  | 0 => ("MemberShelf$Entry", "name", "I", true)
  | 1 => ("MemberShelf$Entry", "text", "LMemberShelf$Text;", false)
  | _ => ("MemberShelf$Alias", "given", "I", true)
def tyX6 : Nat → FieldType := fun k => match k with
  | 0 => .int
  | 1 => .object "MemberShelf$Text"
  | _ => .int
abbrev wsX60 : List Cond := u_ws RX6 TX6 3
theorem nmX6 : ∀ a, a < 3 → ∀ b, b < 3 → a ≠ b → (TX6 a).2.1 ≠ (TX6 b).2.1 := by decide +kernel
theorem tyX6_ok : ∀ k, k < 3 → parseFieldDescriptor (TX6 k).2.2.1 = some (tyX6 k) := by decide +kernel
abbrev cX6_named : ByteArray := prog_3_method_4_code
def yX6_named : MethodName := ⟨RX6, "named", "(I)LMemberShelf$Entry;"⟩
abbrev cX6_init : ByteArray := prog_3_method_1_code
def yX6_init : MethodName := ⟨RX6, "<init>", "(ILMemberShelf$Text;I)V"⟩
abbrev cX6_isAlias : ByteArray := prog_3_method_2_code
def yX6_isAlias : MethodName := ⟨RX6, "isAlias", "()Z"⟩
abbrev cX6_behind : ByteArray := prog_3_method_5_code
def yX6_behind : MethodName := ⟨RX6, "behind", "(II)LMemberShelf$Entry;"⟩
abbrev cX6_given : ByteArray := prog_3_method_3_code
def yX6_given : MethodName := ⟨RX6, "given", "()I"⟩
abbrev cX6_isLost : ByteArray := prog_3_method_6_code
def yX6_isLost : MethodName := ⟨RX6, "isLost", "(LMemberShelf$Directory;)Z"⟩
theorem q69 : (Jvm.Cond.initialized "MemberShelf$Alias") ∈ lw_all := lw_g (lw_at lw_m1 22 rfl) rfl
theorem q384 : (Jvm.Cond.selects "MemberShelf$Alias" ({ cls := "java/lang/Object", name := "getClass", desc := "()Ljava/lang/Class;" } : Jvm.MethodName) ({ cls := "java/lang/Object", name := "getClass", desc := "()Ljava/lang/Class;" } : Jvm.MethodName)) ∈ lw_all := lw_g (lw_at lw_m2 97 rfl) rfl
theorem q473 : (Jvm.Cond.selects "MemberShelf$Alias" ({ cls := "MemberShelf$Entry", name := "named", desc := "(I)LMemberShelf$Entry;" } : Jvm.MethodName) ({ cls := "MemberShelf$Alias", name := "named", desc := "(I)LMemberShelf$Entry;" } : Jvm.MethodName)) ∈ lw_all := lw_g (lw_at lw_m2 186 rfl) rfl
theorem q474 : (Jvm.Cond.instanceMethod ({ cls := "MemberShelf$Alias", name := "named", desc := "(I)LMemberShelf$Entry;" } : Jvm.MethodName)) ∈ lw_all := lw_g (lw_at lw_m2 187 rfl) rfl
theorem q475 : (Jvm.Cond.code ({ cls := "MemberShelf$Alias", name := "named", desc := "(I)LMemberShelf$Entry;" } : Jvm.MethodName) prog_3_method_4_code (2 : Nat) (Option.some (Jvm.ClassFile.FieldType.object "MemberShelf$Entry"))) ∈ lw_all := lw_g (lw_at lw_m2 188 rfl) rfl
theorem q476 : (Jvm.Cond.classLink "MemberShelf$Alias" (8 : Nat) "MemberShelf$Alias") ∈ lw_all := lw_g (lw_at lw_m2 189 rfl) rfl
theorem q477 : (Jvm.Cond.instantiable "MemberShelf$Alias" (3 : Nat)) ∈ lw_all := lw_g (lw_at lw_m2 190 rfl) rfl
theorem q478 : (Jvm.Cond.methodLink "MemberShelf$Alias" (17 : Nat) ({ cls := "MemberShelf$Alias", name := "<init>", desc := "(ILMemberShelf$Text;I)V" } : Jvm.MethodName)) ∈ lw_all := lw_g (lw_at lw_m2 191 rfl) rfl
theorem q479 : (Jvm.Cond.instanceMethod ({ cls := "MemberShelf$Alias", name := "<init>", desc := "(ILMemberShelf$Text;I)V" } : Jvm.MethodName)) ∈ lw_all := lw_g (lw_at lw_m2 192 rfl) rfl
theorem q480 : (Jvm.Cond.code ({ cls := "MemberShelf$Alias", name := "<init>", desc := "(ILMemberShelf$Text;I)V" } : Jvm.MethodName) prog_3_method_1_code (4 : Nat) (Option.none : Option Jvm.ClassFile.FieldType)) ∈ lw_all := lw_g (lw_at lw_m2 193 rfl) rfl
theorem q481 : (Jvm.Cond.methodLink "MemberShelf$Alias" (1 : Nat) ({ cls := "MemberShelf$Entry", name := "<init>", desc := "(ILMemberShelf$Text;)V" } : Jvm.MethodName)) ∈ lw_all := lw_g (lw_at lw_m2 194 rfl) rfl
theorem q485 : (Jvm.Cond.fieldLink "MemberShelf$Alias" (7 : Nat) "MemberShelf$Alias" "given" "I") ∈ lw_all := lw_g (lw_at lw_m2 198 rfl) rfl
theorem q489 : (Jvm.Cond.fieldLinkNest "MemberShelf$Alias" (20 : Nat) "MemberShelf$Entry" "name" "I" "MemberShelf") ∈ lw_tbl := lw_at lw_m2 202 rfl
theorem q493 : (Jvm.Cond.fieldLinkNest "MemberShelf$Alias" (13 : Nat) "MemberShelf$Entry" "text" "LMemberShelf$Text;" "MemberShelf") ∈ lw_tbl := lw_at lw_m2 206 rfl
theorem q497 : (Jvm.Cond.laysFinal "MemberShelf$Alias" "MemberShelf$Alias" "given" "I") ∈ lw_all := lw_g (lw_at lw_m2 210 rfl) rfl
theorem q498 : (Jvm.Cond.soleField "MemberShelf$Alias" "given") ∈ lw_all := lw_g (lw_at lw_m2 211 rfl) rfl
theorem q499 : (Jvm.Cond.laysFinal "MemberShelf$Alias" "MemberShelf$Entry" "name" "I") ∈ lw_all := lw_g (lw_at lw_m2 212 rfl) rfl
theorem q501 : (Jvm.Cond.lays "MemberShelf$Alias" "MemberShelf$Entry" "text" "LMemberShelf$Text;") ∈ lw_all := lw_g (lw_at lw_m2 214 rfl) rfl
theorem q503 : (Jvm.Cond.superclass "MemberShelf$Alias" "MemberShelf$Entry") ∈ lw_all := lw_g (lw_at lw_m2 216 rfl) rfl
theorem q644 : (Jvm.Cond.selects "MemberShelf$Alias" ({ cls := "MemberShelf$Entry", name := "isAlias", desc := "()Z" } : Jvm.MethodName) ({ cls := "MemberShelf$Alias", name := "isAlias", desc := "()Z" } : Jvm.MethodName)) ∈ lw_all := lw_g (lw_at lw_m3 117 rfl) rfl
theorem q645 : (Jvm.Cond.instanceMethod ({ cls := "MemberShelf$Alias", name := "isAlias", desc := "()Z" } : Jvm.MethodName)) ∈ lw_all := lw_g (lw_at lw_m3 118 rfl) rfl
theorem q646 : (Jvm.Cond.code ({ cls := "MemberShelf$Alias", name := "isAlias", desc := "()Z" } : Jvm.MethodName) prog_3_method_2_code (1 : Nat) (Option.some Jvm.ClassFile.FieldType.boolean)) ∈ lw_all := lw_g (lw_at lw_m3 119 rfl) rfl
theorem q676 : (Jvm.Cond.selects "MemberShelf$Alias" ({ cls := "java/lang/Object", name := "equals", desc := "(Ljava/lang/Object;)Z" } : Jvm.MethodName) ({ cls := "java/lang/Object", name := "equals", desc := "(Ljava/lang/Object;)Z" } : Jvm.MethodName)) ∈ lw_all := lw_g (lw_at lw_m3 149 rfl) rfl
theorem q733 : (Jvm.Cond.selects "MemberShelf$Alias" ({ cls := "MemberShelf$Entry", name := "behind", desc := "(II)LMemberShelf$Entry;" } : Jvm.MethodName) ({ cls := "MemberShelf$Alias", name := "behind", desc := "(II)LMemberShelf$Entry;" } : Jvm.MethodName)) ∈ lw_all := lw_g (lw_at lw_m3 206 rfl) rfl
theorem q734 : (Jvm.Cond.instanceMethod ({ cls := "MemberShelf$Alias", name := "behind", desc := "(II)LMemberShelf$Entry;" } : Jvm.MethodName)) ∈ lw_all := lw_g (lw_at lw_m3 207 rfl) rfl
theorem q735 : (Jvm.Cond.code ({ cls := "MemberShelf$Alias", name := "behind", desc := "(II)LMemberShelf$Entry;" } : Jvm.MethodName) prog_3_method_5_code (3 : Nat) (Option.some (Jvm.ClassFile.FieldType.object "MemberShelf$Entry"))) ∈ lw_all := lw_g (lw_at lw_m3 208 rfl) rfl
theorem q736 : (Jvm.Cond.methodLink "MemberShelf$Alias" (23 : Nat) ({ cls := "MemberShelf$Entry", name := "behind", desc := "(II)LMemberShelf$Entry;" } : Jvm.MethodName)) ∈ lw_all := lw_g (lw_at lw_m3 209 rfl) rfl
theorem q769 : (Jvm.Cond.selects "MemberShelf$Alias" ({ cls := "MemberShelf$Entry", name := "given", desc := "()I" } : Jvm.MethodName) ({ cls := "MemberShelf$Alias", name := "given", desc := "()I" } : Jvm.MethodName)) ∈ lw_all := lw_g (lw_at lw_m4 2 rfl) rfl
theorem q770 : (Jvm.Cond.instanceMethod ({ cls := "MemberShelf$Alias", name := "given", desc := "()I" } : Jvm.MethodName)) ∈ lw_all := lw_g (lw_at lw_m4 3 rfl) rfl
theorem q771 : (Jvm.Cond.code ({ cls := "MemberShelf$Alias", name := "given", desc := "()I" } : Jvm.MethodName) prog_3_method_3_code (1 : Nat) (Option.some Jvm.ClassFile.FieldType.int)) ∈ lw_all := lw_g (lw_at lw_m4 4 rfl) rfl
theorem q1124 : (Jvm.Cond.selects "MemberShelf$Alias" ({ cls := "MemberShelf$Entry", name := "isLost", desc := "(LMemberShelf$Directory;)Z" } : Jvm.MethodName) ({ cls := "MemberShelf$Alias", name := "isLost", desc := "(LMemberShelf$Directory;)Z" } : Jvm.MethodName)) ∈ lw_all := lw_g (lw_at lw_m5 117 rfl) rfl
theorem q1125 : (Jvm.Cond.instanceMethod ({ cls := "MemberShelf$Alias", name := "isLost", desc := "(LMemberShelf$Directory;)Z" } : Jvm.MethodName)) ∈ lw_all := lw_g (lw_at lw_m5 118 rfl) rfl
theorem q1126 : (Jvm.Cond.code ({ cls := "MemberShelf$Alias", name := "isLost", desc := "(LMemberShelf$Directory;)Z" } : Jvm.MethodName) prog_3_method_6_code (3 : Nat) (Option.some Jvm.ClassFile.FieldType.boolean)) ∈ lw_all := lw_g (lw_at lw_m5 119 rfl) rfl
theorem q1127 : (Jvm.Cond.methodLink "MemberShelf$Alias" (27 : Nat) ({ cls := "MemberShelf$Directory", name := "find", desc := "(I)LMemberShelf$Entry;" } : Jvm.MethodName)) ∈ lw_all := lw_g (lw_at lw_m5 120 rfl) rfl
theorem q1128 : (Jvm.Cond.methodLink "MemberShelf$Alias" (33 : Nat) ({ cls := "MemberShelf$Entry", name := "isAlias", desc := "()Z" } : Jvm.MethodName)) ∈ lw_all := lw_g (lw_at lw_m5 121 rfl) rfl
theorem q1470 : (Jvm.Cond.castable "MemberShelf$Alias" "MemberShelf$Entry") ∈ lw_tbl := lw_at lw_m6 223 rfl
theorem q1482 : (Jvm.Cond.castable "MemberShelf$Alias" "java/lang/Object") ∈ lw_tbl := lw_at lw_m6 235 rfl
def RX7 : String := "MemberShelf$Text"
def TX7 : u_T := fun k => match k with
  | 0 => ("MemberShelf$Text", "start", "I", true)
  | 1 => ("MemberShelf$Text", "length", "I", true)
  | _ => ("MemberShelf$Text", "mark", "I", true)
def tyX7 : Nat → FieldType := fun k => match k with
  | 0 => .int
  | 1 => .int
  | _ => .int
abbrev wsX70 : List Cond := u_ws RX7 TX7 3
theorem nmX7 : ∀ a, a < 3 → ∀ b, b < 3 → a ≠ b → (TX7 a).2.1 ≠ (TX7 b).2.1 := by decide +kernel
theorem tyX7_ok : ∀ k, k < 3 → parseFieldDescriptor (TX7 k).2.2.1 = some (tyX7 k) := by decide +kernel
abbrev cX7_end : ByteArray := prog_10_method_2_code
def yX7_end : MethodName := ⟨RX7, "end", "()I"⟩
abbrev cX7_init : ByteArray := prog_10_method_1_code
def yX7_init : MethodName := ⟨RX7, "<init>", "(III)V"⟩
abbrev cX7_at : ByteArray := prog_10_method_3_code
def yX7_at : MethodName := ⟨RX7, "at", "(I)LMemberShelf$Text;"⟩
theorem q70 : (Jvm.Cond.initialized "MemberShelf$Text") ∈ lw_all := lw_g (lw_at lw_m1 23 rfl) rfl
theorem q391 : (Jvm.Cond.selects "MemberShelf$Text" ({ cls := "java/lang/Object", name := "getClass", desc := "()Ljava/lang/Class;" } : Jvm.MethodName) ({ cls := "java/lang/Object", name := "getClass", desc := "()Ljava/lang/Class;" } : Jvm.MethodName)) ∈ lw_all := lw_g (lw_at lw_m2 104 rfl) rfl
theorem q554 : (Jvm.Cond.instanceMethod ({ cls := "MemberShelf$Text", name := "end", desc := "()I" } : Jvm.MethodName)) ∈ lw_all := lw_g (lw_at lw_m3 27 rfl) rfl
theorem q555 : (Jvm.Cond.selects "MemberShelf$Text" ({ cls := "MemberShelf$Text", name := "end", desc := "()I" } : Jvm.MethodName) ({ cls := "MemberShelf$Text", name := "end", desc := "()I" } : Jvm.MethodName)) ∈ lw_all := lw_g (lw_at lw_m3 28 rfl) rfl
theorem q556 : (Jvm.Cond.code ({ cls := "MemberShelf$Text", name := "end", desc := "()I" } : Jvm.MethodName) prog_10_method_2_code (1 : Nat) (Option.some Jvm.ClassFile.FieldType.int)) ∈ lw_all := lw_g (lw_at lw_m3 29 rfl) rfl
theorem q561 : (Jvm.Cond.instantiable "MemberShelf$Text" (3 : Nat)) ∈ lw_all := lw_g (lw_at lw_m3 34 rfl) rfl
theorem q563 : (Jvm.Cond.instanceMethod ({ cls := "MemberShelf$Text", name := "<init>", desc := "(III)V" } : Jvm.MethodName)) ∈ lw_all := lw_g (lw_at lw_m3 36 rfl) rfl
theorem q564 : (Jvm.Cond.code ({ cls := "MemberShelf$Text", name := "<init>", desc := "(III)V" } : Jvm.MethodName) prog_10_method_1_code (4 : Nat) (Option.none : Option Jvm.ClassFile.FieldType)) ∈ lw_all := lw_g (lw_at lw_m3 37 rfl) rfl
theorem q565 : (Jvm.Cond.methodLink "MemberShelf$Text" (1 : Nat) ({ cls := "java/lang/Object", name := "<init>", desc := "()V" } : Jvm.MethodName)) ∈ lw_all := lw_g (lw_at lw_m3 38 rfl) rfl
theorem q566 : (Jvm.Cond.fieldLink "MemberShelf$Text" (7 : Nat) "MemberShelf$Text" "start" "I") ∈ lw_all := lw_g (lw_at lw_m3 39 rfl) rfl
theorem q569 : (Jvm.Cond.fieldLink "MemberShelf$Text" (13 : Nat) "MemberShelf$Text" "length" "I") ∈ lw_all := lw_g (lw_at lw_m3 42 rfl) rfl
theorem q572 : (Jvm.Cond.fieldLink "MemberShelf$Text" (16 : Nat) "MemberShelf$Text" "mark" "I") ∈ lw_all := lw_g (lw_at lw_m3 45 rfl) rfl
theorem q574 : (Jvm.Cond.laysFinal "MemberShelf$Text" "MemberShelf$Text" "start" "I") ∈ lw_all := lw_g (lw_at lw_m3 47 rfl) rfl
theorem q575 : (Jvm.Cond.soleField "MemberShelf$Text" "start") ∈ lw_all := lw_g (lw_at lw_m3 48 rfl) rfl
theorem q576 : (Jvm.Cond.laysFinal "MemberShelf$Text" "MemberShelf$Text" "length" "I") ∈ lw_all := lw_g (lw_at lw_m3 49 rfl) rfl
theorem q577 : (Jvm.Cond.soleField "MemberShelf$Text" "length") ∈ lw_all := lw_g (lw_at lw_m3 50 rfl) rfl
theorem q578 : (Jvm.Cond.laysFinal "MemberShelf$Text" "MemberShelf$Text" "mark" "I") ∈ lw_all := lw_g (lw_at lw_m3 51 rfl) rfl
theorem q579 : (Jvm.Cond.soleField "MemberShelf$Text" "mark") ∈ lw_all := lw_g (lw_at lw_m3 52 rfl) rfl
theorem q580 : (Jvm.Cond.superclass "MemberShelf$Text" "java/lang/Object") ∈ lw_all := lw_g (lw_at lw_m3 53 rfl) rfl
theorem q683 : (Jvm.Cond.selects "MemberShelf$Text" ({ cls := "java/lang/Object", name := "equals", desc := "(Ljava/lang/Object;)Z" } : Jvm.MethodName) ({ cls := "java/lang/Object", name := "equals", desc := "(Ljava/lang/Object;)Z" } : Jvm.MethodName)) ∈ lw_all := lw_g (lw_at lw_m3 156 rfl) rfl
theorem q981 : (Jvm.Cond.instanceMethod ({ cls := "MemberShelf$Text", name := "at", desc := "(I)LMemberShelf$Text;" } : Jvm.MethodName)) ∈ lw_all := lw_g (lw_at lw_m4 214 rfl) rfl
theorem q982 : (Jvm.Cond.selects "MemberShelf$Text" ({ cls := "MemberShelf$Text", name := "at", desc := "(I)LMemberShelf$Text;" } : Jvm.MethodName) ({ cls := "MemberShelf$Text", name := "at", desc := "(I)LMemberShelf$Text;" } : Jvm.MethodName)) ∈ lw_all := lw_g (lw_at lw_m4 215 rfl) rfl
theorem q983 : (Jvm.Cond.code ({ cls := "MemberShelf$Text", name := "at", desc := "(I)LMemberShelf$Text;" } : Jvm.MethodName) prog_10_method_3_code (2 : Nat) (Option.some (Jvm.ClassFile.FieldType.object "MemberShelf$Text"))) ∈ lw_all := lw_g (lw_at lw_m4 216 rfl) rfl
theorem q984 : (Jvm.Cond.classLink "MemberShelf$Text" (8 : Nat) "MemberShelf$Text") ∈ lw_all := lw_g (lw_at lw_m4 217 rfl) rfl
theorem q985 : (Jvm.Cond.methodLink "MemberShelf$Text" (19 : Nat) ({ cls := "MemberShelf$Text", name := "<init>", desc := "(III)V" } : Jvm.MethodName)) ∈ lw_all := lw_g (lw_at lw_m4 218 rfl) rfl
theorem q1481 : (Jvm.Cond.castable "MemberShelf$Text" "java/lang/Object") ∈ lw_tbl := lw_at lw_m6 234 rfl
def RX8 : String := "MemberShelf$1Reader"
def TX8 : u_T := fun k => match k with
  | 0 => ("MemberShelf$1Reader", "place", "I", false)
  | _ => ("MemberShelf$1Reader", "val$pad", "Ljava/lang/CharSequence;", true)
def tyX8 : Nat → FieldType := fun k => match k with
  | 0 => .int
  | _ => .object "java/lang/CharSequence"
abbrev wsX80 : List Cond := u_ws RX8 TX8 2
theorem nmX8 : ∀ a, a < 2 → ∀ b, b < 2 → a ≠ b → (TX8 a).2.1 ≠ (TX8 b).2.1 := by decide +kernel
theorem tyX8_ok : ∀ k, k < 2 → parseFieldDescriptor (TX8 k).2.2.1 = some (tyX8 k) := by decide +kernel
abbrev cX8_init : ByteArray := prog_2_method_1_code
def yX8_init : MethodName := ⟨RX8, "<init>", "(Ljava/lang/CharSequence;)V"⟩
abbrev cX8_addition : ByteArray := prog_2_method_7_code
def yX8_addition : MethodName := ⟨RX8, "addition", "()[I"⟩
abbrev cX8_name : ByteArray := prog_2_method_5_code
def yX8_name : MethodName := ⟨RX8, "name", "()I"⟩
abbrev cX8_letter : ByteArray := prog_2_method_4_code
def yX8_letter : MethodName := ⟨RX8, "letter", "()I"⟩
abbrev cX8_sees : ByteArray := prog_2_method_2_code
def yX8_sees : MethodName := ⟨RX8, "sees", "(CC)Z"⟩
abbrev cX8_takes : ByteArray := prog_2_method_3_code
def yX8_takes : MethodName := ⟨RX8, "takes", "(C)Z"⟩
abbrev cX8_number : ByteArray := prog_2_method_6_code
def yX8_number : MethodName := ⟨RX8, "number", "(CI)I"⟩
theorem q71 : (Jvm.Cond.initialized "MemberShelf$1Reader") ∈ lw_all := lw_g (lw_at lw_m1 24 rfl) rfl
theorem q383 : (Jvm.Cond.selects "MemberShelf$1Reader" ({ cls := "java/lang/Object", name := "getClass", desc := "()Ljava/lang/Class;" } : Jvm.MethodName) ({ cls := "java/lang/Object", name := "getClass", desc := "()Ljava/lang/Class;" } : Jvm.MethodName)) ∈ lw_all := lw_g (lw_at lw_m2 96 rfl) rfl
theorem q675 : (Jvm.Cond.selects "MemberShelf$1Reader" ({ cls := "java/lang/Object", name := "equals", desc := "(Ljava/lang/Object;)Z" } : Jvm.MethodName) ({ cls := "java/lang/Object", name := "equals", desc := "(Ljava/lang/Object;)Z" } : Jvm.MethodName)) ∈ lw_all := lw_g (lw_at lw_m3 148 rfl) rfl
theorem q785 : (Jvm.Cond.instantiable "MemberShelf$1Reader" (2 : Nat)) ∈ lw_all := lw_g (lw_at lw_m4 18 rfl) rfl
theorem q787 : (Jvm.Cond.instanceMethod ({ cls := "MemberShelf$1Reader", name := "<init>", desc := "(Ljava/lang/CharSequence;)V" } : Jvm.MethodName)) ∈ lw_all := lw_g (lw_at lw_m4 20 rfl) rfl
theorem q788 : (Jvm.Cond.code ({ cls := "MemberShelf$1Reader", name := "<init>", desc := "(Ljava/lang/CharSequence;)V" } : Jvm.MethodName) prog_2_method_1_code (2 : Nat) (Option.none : Option Jvm.ClassFile.FieldType)) ∈ lw_all := lw_g (lw_at lw_m4 21 rfl) rfl
theorem q789 : (Jvm.Cond.methodLink "MemberShelf$1Reader" (9 : Nat) ({ cls := "java/lang/Object", name := "<init>", desc := "()V" } : Jvm.MethodName)) ∈ lw_all := lw_g (lw_at lw_m4 22 rfl) rfl
theorem q790 : (Jvm.Cond.fieldLink "MemberShelf$1Reader" (15 : Nat) "MemberShelf$1Reader" "place" "I") ∈ lw_all := lw_g (lw_at lw_m4 23 rfl) rfl
theorem q792 : (Jvm.Cond.fieldLink "MemberShelf$1Reader" (3 : Nat) "MemberShelf$1Reader" "val$pad" "Ljava/lang/CharSequence;") ∈ lw_all := lw_g (lw_at lw_m4 25 rfl) rfl
theorem q793 : (Jvm.Cond.lays "MemberShelf$1Reader" "MemberShelf$1Reader" "place" "I") ∈ lw_all := lw_g (lw_at lw_m4 26 rfl) rfl
theorem q794 : (Jvm.Cond.soleField "MemberShelf$1Reader" "place") ∈ lw_all := lw_g (lw_at lw_m4 27 rfl) rfl
theorem q795 : (Jvm.Cond.laysFinal "MemberShelf$1Reader" "MemberShelf$1Reader" "val$pad" "Ljava/lang/CharSequence;") ∈ lw_all := lw_g (lw_at lw_m4 28 rfl) rfl
theorem q796 : (Jvm.Cond.soleField "MemberShelf$1Reader" "val$pad") ∈ lw_all := lw_g (lw_at lw_m4 29 rfl) rfl
theorem q797 : (Jvm.Cond.superclass "MemberShelf$1Reader" "java/lang/Object") ∈ lw_all := lw_g (lw_at lw_m4 30 rfl) rfl
theorem q801 : (Jvm.Cond.privateMethod ({ cls := "MemberShelf$1Reader", name := "addition", desc := "()[I" } : Jvm.MethodName)) ∈ lw_tbl := lw_at lw_m4 34 rfl
theorem q802 : (Jvm.Cond.instanceMethod ({ cls := "MemberShelf$1Reader", name := "addition", desc := "()[I" } : Jvm.MethodName)) ∈ lw_all := lw_g (lw_at lw_m4 35 rfl) rfl
theorem q803 : (Jvm.Cond.code ({ cls := "MemberShelf$1Reader", name := "addition", desc := "()[I" } : Jvm.MethodName) prog_2_method_7_code (2 : Nat) (Option.some (Jvm.ClassFile.FieldType.array Jvm.ClassFile.FieldType.int))) ∈ lw_all := lw_g (lw_at lw_m4 36 rfl) rfl
theorem q804 : (Jvm.Cond.methodLink "MemberShelf$1Reader" (45 : Nat) ({ cls := "MemberShelf$1Reader", name := "name", desc := "()I" } : Jvm.MethodName)) ∈ lw_all := lw_g (lw_at lw_m4 37 rfl) rfl
theorem q805 : (Jvm.Cond.privateMethod ({ cls := "MemberShelf$1Reader", name := "name", desc := "()I" } : Jvm.MethodName)) ∈ lw_tbl := lw_at lw_m4 38 rfl
theorem q806 : (Jvm.Cond.instanceMethod ({ cls := "MemberShelf$1Reader", name := "name", desc := "()I" } : Jvm.MethodName)) ∈ lw_all := lw_g (lw_at lw_m4 39 rfl) rfl
theorem q807 : (Jvm.Cond.code ({ cls := "MemberShelf$1Reader", name := "name", desc := "()I" } : Jvm.MethodName) prog_2_method_5_code (2 : Nat) (Option.some Jvm.ClassFile.FieldType.int)) ∈ lw_all := lw_g (lw_at lw_m4 40 rfl) rfl
theorem q808 : (Jvm.Cond.methodLink "MemberShelf$1Reader" (42 : Nat) ({ cls := "MemberShelf$1Reader", name := "letter", desc := "()I" } : Jvm.MethodName)) ∈ lw_all := lw_g (lw_at lw_m4 41 rfl) rfl
theorem q809 : (Jvm.Cond.privateMethod ({ cls := "MemberShelf$1Reader", name := "letter", desc := "()I" } : Jvm.MethodName)) ∈ lw_tbl := lw_at lw_m4 42 rfl
theorem q810 : (Jvm.Cond.instanceMethod ({ cls := "MemberShelf$1Reader", name := "letter", desc := "()I" } : Jvm.MethodName)) ∈ lw_all := lw_g (lw_at lw_m4 43 rfl) rfl
theorem q811 : (Jvm.Cond.code ({ cls := "MemberShelf$1Reader", name := "letter", desc := "()I" } : Jvm.MethodName) prog_2_method_4_code (1 : Nat) (Option.some Jvm.ClassFile.FieldType.int)) ∈ lw_all := lw_g (lw_at lw_m4 44 rfl) rfl
theorem q812 : (Jvm.Cond.methodLink "MemberShelf$1Reader" (33 : Nat) ({ cls := "MemberShelf$1Reader", name := "sees", desc := "(CC)Z" } : Jvm.MethodName)) ∈ lw_all := lw_g (lw_at lw_m4 45 rfl) rfl
theorem q813 : (Jvm.Cond.privateMethod ({ cls := "MemberShelf$1Reader", name := "sees", desc := "(CC)Z" } : Jvm.MethodName)) ∈ lw_tbl := lw_at lw_m4 46 rfl
theorem q814 : (Jvm.Cond.instanceMethod ({ cls := "MemberShelf$1Reader", name := "sees", desc := "(CC)Z" } : Jvm.MethodName)) ∈ lw_all := lw_g (lw_at lw_m4 47 rfl) rfl
theorem q815 : (Jvm.Cond.code ({ cls := "MemberShelf$1Reader", name := "sees", desc := "(CC)Z" } : Jvm.MethodName) prog_2_method_2_code (3 : Nat) (Option.some Jvm.ClassFile.FieldType.boolean)) ∈ lw_all := lw_g (lw_at lw_m4 48 rfl) rfl
theorem q816 : (Jvm.Cond.interfaceEntry "MemberShelf$1Reader" (19 : Nat)) ∈ lw_tbl := lw_at lw_m4 49 rfl
theorem q817 : (Jvm.Cond.methodLink "MemberShelf$1Reader" (19 : Nat) ({ cls := "java/lang/CharSequence", name := "length", desc := "()I" } : Jvm.MethodName)) ∈ lw_all := lw_g (lw_at lw_m4 50 rfl) rfl
theorem q829 : (Jvm.Cond.interfaceEntry "MemberShelf$1Reader" (25 : Nat)) ∈ lw_tbl := lw_at lw_m4 62 rfl
theorem q830 : (Jvm.Cond.methodLink "MemberShelf$1Reader" (25 : Nat) ({ cls := "java/lang/CharSequence", name := "charAt", desc := "(I)C" } : Jvm.MethodName)) ∈ lw_all := lw_g (lw_at lw_m4 63 rfl) rfl
theorem q860 : (Jvm.Cond.methodLinkNest "MemberShelf$1Reader" (29 : Nat) ({ cls := "MemberShelf", name := "inRange", desc := "(III)Z" } : Jvm.MethodName) "MemberShelf") ∈ lw_tbl := lw_at lw_m4 93 rfl
theorem q861 : (Jvm.Cond.classLink "MemberShelf$1Reader" (37 : Nat) "MemberShelf$Fault") ∈ lw_all := lw_g (lw_at lw_m4 94 rfl) rfl
theorem q898 : (Jvm.Cond.methodLink "MemberShelf$1Reader" (39 : Nat) ({ cls := "MemberShelf$Fault", name := "<init>", desc := "(I)V" } : Jvm.MethodName)) ∈ lw_all := lw_g (lw_at lw_m4 131 rfl) rfl
theorem q922 : (Jvm.Cond.methodLink "MemberShelf$1Reader" (48 : Nat) ({ cls := "MemberShelf$1Reader", name := "takes", desc := "(C)Z" } : Jvm.MethodName)) ∈ lw_all := lw_g (lw_at lw_m4 155 rfl) rfl
theorem q923 : (Jvm.Cond.privateMethod ({ cls := "MemberShelf$1Reader", name := "takes", desc := "(C)Z" } : Jvm.MethodName)) ∈ lw_tbl := lw_at lw_m4 156 rfl
theorem q924 : (Jvm.Cond.instanceMethod ({ cls := "MemberShelf$1Reader", name := "takes", desc := "(C)Z" } : Jvm.MethodName)) ∈ lw_all := lw_g (lw_at lw_m4 157 rfl) rfl
theorem q925 : (Jvm.Cond.code ({ cls := "MemberShelf$1Reader", name := "takes", desc := "(C)Z" } : Jvm.MethodName) prog_2_method_3_code (3 : Nat) (Option.some Jvm.ClassFile.FieldType.boolean)) ∈ lw_all := lw_g (lw_at lw_m4 158 rfl) rfl
theorem q926 : (Jvm.Cond.methodLink "MemberShelf$1Reader" (52 : Nat) ({ cls := "MemberShelf$1Reader", name := "number", desc := "(CI)I" } : Jvm.MethodName)) ∈ lw_all := lw_g (lw_at lw_m4 159 rfl) rfl
theorem q927 : (Jvm.Cond.privateMethod ({ cls := "MemberShelf$1Reader", name := "number", desc := "(CI)I" } : Jvm.MethodName)) ∈ lw_tbl := lw_at lw_m4 160 rfl
theorem q928 : (Jvm.Cond.instanceMethod ({ cls := "MemberShelf$1Reader", name := "number", desc := "(CI)I" } : Jvm.MethodName)) ∈ lw_all := lw_g (lw_at lw_m4 161 rfl) rfl
theorem q929 : (Jvm.Cond.code ({ cls := "MemberShelf$1Reader", name := "number", desc := "(CI)I" } : Jvm.MethodName) prog_2_method_6_code (4 : Nat) (Option.some Jvm.ClassFile.FieldType.int)) ∈ lw_all := lw_g (lw_at lw_m4 162 rfl) rfl
theorem q1483 : (Jvm.Cond.castable "MemberShelf$1Reader" "java/lang/Object") ∈ lw_tbl := lw_at lw_m6 236 rfl
def RX9 : String := "MemberShelf$Fault"
def TX9 : u_T := fun k => match k with
  | 0 => ("java/lang/Throwable", "cause", "Ljava/lang/Throwable;", false)
  | 1 => ("java/lang/Throwable", "stackTrace", "[Ljava/lang/StackTraceElement;", false)
  | 2 => ("java/lang/Throwable", "suppressedExceptions", "Ljava/util/List;", false)
  | 3 => ("java/lang/Throwable", "detailMessage", "Ljava/lang/String;", false)
  | 4 => ("java/lang/Throwable", "backtrace", "Ljava/lang/Object;", false)
  | 5 => ("java/lang/Throwable", "depth", "I", false)
  | _ => ("MemberShelf$Fault", "place", "I", true)
def tyX9 : Nat → FieldType := fun k => match k with
  | 0 => .object "java/lang/Throwable"
  | 1 => .array (.object "java/lang/StackTraceElement")
  | 2 => .object "java/util/List"
  | 3 => .object "java/lang/String"
  | 4 => .object "java/lang/Object"
  | 5 => .int
  | _ => .int
abbrev wsX90 : List Cond := u_ws RX9 TX9 7
theorem nmX9 : ∀ a, a < 7 → ∀ b, b < 7 → a ≠ b → (TX9 a).2.1 ≠ (TX9 b).2.1 := by decide +kernel
theorem tyX9_ok : ∀ k, k < 7 → parseFieldDescriptor (TX9 k).2.2.1 = some (tyX9 k) := by decide +kernel
abbrev cX9_init : ByteArray := prog_8_method_1_code
def yX9_init : MethodName := ⟨RX9, "<init>", "(I)V"⟩
theorem q74 : (Jvm.Cond.initialized "MemberShelf$Fault") ∈ lw_all := lw_g (lw_at lw_m1 27 rfl) rfl
theorem q389 : (Jvm.Cond.selects "MemberShelf$Fault" ({ cls := "java/lang/Object", name := "getClass", desc := "()Ljava/lang/Class;" } : Jvm.MethodName) ({ cls := "java/lang/Object", name := "getClass", desc := "()Ljava/lang/Class;" } : Jvm.MethodName)) ∈ lw_all := lw_g (lw_at lw_m2 102 rfl) rfl
theorem q681 : (Jvm.Cond.selects "MemberShelf$Fault" ({ cls := "java/lang/Object", name := "equals", desc := "(Ljava/lang/Object;)Z" } : Jvm.MethodName) ({ cls := "java/lang/Object", name := "equals", desc := "(Ljava/lang/Object;)Z" } : Jvm.MethodName)) ∈ lw_all := lw_g (lw_at lw_m3 154 rfl) rfl
theorem q862 : (Jvm.Cond.instantiable "MemberShelf$Fault" (7 : Nat)) ∈ lw_all := lw_g (lw_at lw_m4 95 rfl) rfl
theorem q863 : (Jvm.Cond.castable "MemberShelf$Fault" "MemberShelf$Fault") ∈ lw_tbl := lw_at lw_m4 96 rfl
theorem q868 : (Jvm.Cond.selects "MemberShelf$Fault" ({ cls := "java/lang/Throwable", name := "fillInStackTrace", desc := "(I)Ljava/lang/Throwable;" } : Jvm.MethodName) ({ cls := "java/lang/Throwable", name := "fillInStackTrace", desc := "(I)Ljava/lang/Throwable;" } : Jvm.MethodName)) ∈ lw_all := lw_g (lw_at lw_m4 101 rfl) rfl
theorem q869 : (Jvm.Cond.selects "MemberShelf$Fault" ({ cls := "java/lang/Throwable", name := "fillInStackTrace", desc := "()Ljava/lang/Throwable;" } : Jvm.MethodName) ({ cls := "java/lang/Throwable", name := "fillInStackTrace", desc := "()Ljava/lang/Throwable;" } : Jvm.MethodName)) ∈ lw_all := lw_g (lw_at lw_m4 102 rfl) rfl
theorem q870 : (Jvm.Cond.lays "MemberShelf$Fault" "java/lang/Throwable" "cause" "Ljava/lang/Throwable;") ∈ lw_all := lw_g (lw_at lw_m4 103 rfl) rfl
theorem q872 : (Jvm.Cond.lays "MemberShelf$Fault" "java/lang/Throwable" "stackTrace" "[Ljava/lang/StackTraceElement;") ∈ lw_all := lw_g (lw_at lw_m4 105 rfl) rfl
theorem q874 : (Jvm.Cond.lays "MemberShelf$Fault" "java/lang/Throwable" "suppressedExceptions" "Ljava/util/List;") ∈ lw_all := lw_g (lw_at lw_m4 107 rfl) rfl
theorem q876 : (Jvm.Cond.lays "MemberShelf$Fault" "java/lang/Throwable" "detailMessage" "Ljava/lang/String;") ∈ lw_all := lw_g (lw_at lw_m4 109 rfl) rfl
theorem q878 : (Jvm.Cond.lays "MemberShelf$Fault" "java/lang/Throwable" "backtrace" "Ljava/lang/Object;") ∈ lw_all := lw_g (lw_at lw_m4 111 rfl) rfl
theorem q899 : (Jvm.Cond.instanceMethod ({ cls := "MemberShelf$Fault", name := "<init>", desc := "(I)V" } : Jvm.MethodName)) ∈ lw_all := lw_g (lw_at lw_m4 132 rfl) rfl
theorem q900 : (Jvm.Cond.code ({ cls := "MemberShelf$Fault", name := "<init>", desc := "(I)V" } : Jvm.MethodName) prog_8_method_1_code (2 : Nat) (Option.none : Option Jvm.ClassFile.FieldType)) ∈ lw_all := lw_g (lw_at lw_m4 133 rfl) rfl
theorem q901 : (Jvm.Cond.methodLink "MemberShelf$Fault" (1 : Nat) ({ cls := "java/lang/Exception", name := "<init>", desc := "()V" } : Jvm.MethodName)) ∈ lw_all := lw_g (lw_at lw_m4 134 rfl) rfl
theorem q905 : (Jvm.Cond.fieldLink "MemberShelf$Fault" (7 : Nat) "MemberShelf$Fault" "place" "I") ∈ lw_all := lw_g (lw_at lw_m4 138 rfl) rfl
theorem q911 : (Jvm.Cond.laysFinal "MemberShelf$Fault" "MemberShelf$Fault" "place" "I") ∈ lw_all := lw_g (lw_at lw_m4 144 rfl) rfl
theorem q912 : (Jvm.Cond.soleField "MemberShelf$Fault" "place") ∈ lw_all := lw_g (lw_at lw_m4 145 rfl) rfl
theorem q917 : (Jvm.Cond.lays "MemberShelf$Fault" "java/lang/Throwable" "depth" "I") ∈ lw_all := lw_g (lw_at lw_m4 150 rfl) rfl
theorem q920 : (Jvm.Cond.superclass "MemberShelf$Fault" "java/lang/Exception") ∈ lw_all := lw_g (lw_at lw_m4 153 rfl) rfl
theorem q1484 : (Jvm.Cond.castable "MemberShelf$Fault" "java/lang/Object") ∈ lw_tbl := lw_at lw_m6 237 rfl
theorem q47 : (Jvm.Cond.initialized "MemberShelfLaw") ∈ lw_all := lw_g (lw_at lw_m1 0 rfl) rfl
theorem q77 : (Jvm.Cond.classLink "MemberShelfLaw" (7 : Nat) "MemberShelf") ∈ lw_all := lw_g (lw_at lw_m1 30 rfl) rfl
theorem q79 : (Jvm.Cond.methodLink "MemberShelfLaw" (9 : Nat) ({ cls := "MemberShelf", name := "<init>", desc := "()V" } : Jvm.MethodName)) ∈ lw_all := lw_g (lw_at lw_m1 32 rfl) rfl
theorem q221 : (Jvm.Cond.methodLink "MemberShelfLaw" (13 : Nat) ({ cls := "MemberShelf", name := "add", desc := "(III)I" } : Jvm.MethodName)) ∈ lw_all := lw_g (lw_at lw_m1 174 rfl) rfl
theorem q631 : (Jvm.Cond.methodLink "MemberShelfLaw" (18 : Nat) ({ cls := "MemberShelf", name := "replace", desc := "(III)I" } : Jvm.MethodName)) ∈ lw_all := lw_g (lw_at lw_m3 104 rfl) rfl
theorem q652 : (Jvm.Cond.methodLink "MemberShelfLaw" (22 : Nat) ({ cls := "MemberShelf", name := "remove", desc := "(I)I" } : Jvm.MethodName)) ∈ lw_all := lw_g (lw_at lw_m3 125 rfl) rfl
theorem q719 : (Jvm.Cond.methodLink "MemberShelfLaw" (27 : Nat) ({ cls := "MemberShelf", name := "rename", desc := "(II)I" } : Jvm.MethodName)) ∈ lw_all := lw_g (lw_at lw_m3 192 rfl) rfl
theorem q756 : (Jvm.Cond.methodLink "MemberShelfLaw" (32 : Nat) ({ cls := "MemberShelf", name := "alias", desc := "(II)I" } : Jvm.MethodName)) ∈ lw_all := lw_g (lw_at lw_m3 229 rfl) rfl
theorem q776 : (Jvm.Cond.methodLink "MemberShelfLaw" (36 : Nat) ({ cls := "MemberShelf", name := "addAll", desc := "()I" } : Jvm.MethodName)) ∈ lw_all := lw_g (lw_at lw_m4 9 rfl) rfl
theorem q951 : (Jvm.Cond.methodLink "MemberShelfLaw" (41 : Nat) ({ cls := "MemberShelf", name := "squeeze", desc := "()I" } : Jvm.MethodName)) ∈ lw_all := lw_g (lw_at lw_m4 184 rfl) rfl
theorem q986 : (Jvm.Cond.methodLink "MemberShelfLaw" (45 : Nat) ({ cls := "MemberShelf", name := "makeAnew", desc := "(I)I" } : Jvm.MethodName)) ∈ lw_all := lw_g (lw_at lw_m4 219 rfl) rfl
theorem q990 : (Jvm.Cond.methodLink "MemberShelfLaw" (49 : Nat) ({ cls := "MemberShelf", name := "type", desc := "(C)I" } : Jvm.MethodName)) ∈ lw_all := lw_g (lw_at lw_m4 223 rfl) rfl
theorem q1059 : (Jvm.Cond.methodLink "MemberShelfLaw" (54 : Nat) ({ cls := "MemberShelf", name := "clearPad", desc := "()I" } : Jvm.MethodName)) ∈ lw_all := lw_g (lw_at lw_m5 52 rfl) rfl
theorem q1083 : (Jvm.Cond.methodLink "MemberShelfLaw" (58 : Nat) ({ cls := "MemberShelf", name := "undo", desc := "()I" } : Jvm.MethodName)) ∈ lw_all := lw_g (lw_at lw_m5 76 rfl) rfl
theorem q1102 : (Jvm.Cond.methodLink "MemberShelfLaw" (62 : Nat) ({ cls := "MemberShelf", name := "keep", desc := "()I" } : Jvm.MethodName)) ∈ lw_all := lw_g (lw_at lw_m5 95 rfl) rfl
theorem q1106 : (Jvm.Cond.methodLink "MemberShelfLaw" (66 : Nat) ({ cls := "MemberShelf", name := "restore", desc := "()I" } : Jvm.MethodName)) ∈ lw_all := lw_g (lw_at lw_m5 99 rfl) rfl
theorem q1110 : (Jvm.Cond.methodLink "MemberShelfLaw" (70 : Nat) ({ cls := "MemberShelf", name := "entry", desc := "(II)I" } : Jvm.MethodName)) ∈ lw_all := lw_g (lw_at lw_m5 103 rfl) rfl
theorem q1130 : (Jvm.Cond.methodLink "MemberShelfLaw" (74 : Nat) ({ cls := "MemberShelf", name := "named", desc := "(I)I" } : Jvm.MethodName)) ∈ lw_all := lw_g (lw_at lw_m5 123 rfl) rfl
theorem q1137 : (Jvm.Cond.methodLink "MemberShelfLaw" (78 : Nat) ({ cls := "MemberShelf", name := "block", desc := "(II)I" } : Jvm.MethodName)) ∈ lw_all := lw_g (lw_at lw_m5 130 rfl) rfl
theorem q1184 : (Jvm.Cond.methodLink "MemberShelfLaw" (82 : Nat) ({ cls := "MemberShelf", name := "at", desc := "(I)I" } : Jvm.MethodName)) ∈ lw_all := lw_g (lw_at lw_m5 177 rfl) rfl
theorem q1195 : (Jvm.Cond.methodLink "MemberShelfLaw" (86 : Nat) ({ cls := "MemberShelf", name := "fits", desc := "(I)I" } : Jvm.MethodName)) ∈ lw_all := lw_g (lw_at lw_m5 188 rfl) rfl
theorem q1200 : (Jvm.Cond.methodLink "MemberShelfLaw" (90 : Nat) ({ cls := "MemberShelf", name := "beginning", desc := "(II)I" } : Jvm.MethodName)) ∈ lw_all := lw_g (lw_at lw_m5 193 rfl) rfl
theorem q1204 : (Jvm.Cond.methodLink "MemberShelfLaw" (94 : Nat) ({ cls := "MemberShelf", name := "count", desc := "(I)I" } : Jvm.MethodName)) ∈ lw_all := lw_g (lw_at lw_m5 197 rfl) rfl
theorem q1219 : (Jvm.Cond.classLink "MemberShelfLaw" (10 : Nat) "MemberShelfModel") ∈ lw_all := lw_g (lw_at lw_m5 212 rfl) rfl
theorem q1221 : (Jvm.Cond.methodLink "MemberShelfLaw" (12 : Nat) ({ cls := "MemberShelfModel", name := "<init>", desc := "()V" } : Jvm.MethodName)) ∈ lw_all := lw_g (lw_at lw_m5 214 rfl) rfl
theorem q1262 : (Jvm.Cond.methodLink "MemberShelfLaw" (17 : Nat) ({ cls := "MemberShelfModel", name := "add", desc := "(III)I" } : Jvm.MethodName)) ∈ lw_all := lw_g (lw_at lw_m6 15 rfl) rfl
theorem q1315 : (Jvm.Cond.methodLink "MemberShelfLaw" (21 : Nat) ({ cls := "MemberShelfModel", name := "replace", desc := "(III)I" } : Jvm.MethodName)) ∈ lw_all := lw_g (lw_at lw_m6 68 rfl) rfl
theorem q1323 : (Jvm.Cond.methodLink "MemberShelfLaw" (26 : Nat) ({ cls := "MemberShelfModel", name := "remove", desc := "(I)I" } : Jvm.MethodName)) ∈ lw_all := lw_g (lw_at lw_m6 76 rfl) rfl
theorem q1331 : (Jvm.Cond.methodLink "MemberShelfLaw" (31 : Nat) ({ cls := "MemberShelfModel", name := "rename", desc := "(II)I" } : Jvm.MethodName)) ∈ lw_all := lw_g (lw_at lw_m6 84 rfl) rfl
theorem q1335 : (Jvm.Cond.methodLink "MemberShelfLaw" (35 : Nat) ({ cls := "MemberShelfModel", name := "alias", desc := "(II)I" } : Jvm.MethodName)) ∈ lw_all := lw_g (lw_at lw_m6 88 rfl) rfl
theorem q1343 : (Jvm.Cond.methodLink "MemberShelfLaw" (53 : Nat) ({ cls := "MemberShelfModel", name := "type", desc := "(C)I" } : Jvm.MethodName)) ∈ lw_all := lw_g (lw_at lw_m6 96 rfl) rfl
theorem q1347 : (Jvm.Cond.methodLink "MemberShelfLaw" (57 : Nat) ({ cls := "MemberShelfModel", name := "clearPad", desc := "()I" } : Jvm.MethodName)) ∈ lw_all := lw_g (lw_at lw_m6 100 rfl) rfl
theorem q1351 : (Jvm.Cond.methodLink "MemberShelfLaw" (40 : Nat) ({ cls := "MemberShelfModel", name := "addAll", desc := "()I" } : Jvm.MethodName)) ∈ lw_all := lw_g (lw_at lw_m6 104 rfl) rfl
theorem q1379 : (Jvm.Cond.methodLink "MemberShelfLaw" (44 : Nat) ({ cls := "MemberShelfModel", name := "squeeze", desc := "()I" } : Jvm.MethodName)) ∈ lw_all := lw_g (lw_at lw_m6 132 rfl) rfl
theorem q1395 : (Jvm.Cond.methodLink "MemberShelfLaw" (48 : Nat) ({ cls := "MemberShelfModel", name := "makeAnew", desc := "(I)I" } : Jvm.MethodName)) ∈ lw_all := lw_g (lw_at lw_m6 148 rfl) rfl
theorem q1400 : (Jvm.Cond.methodLink "MemberShelfLaw" (61 : Nat) ({ cls := "MemberShelfModel", name := "undo", desc := "()I" } : Jvm.MethodName)) ∈ lw_all := lw_g (lw_at lw_m6 153 rfl) rfl
theorem q1404 : (Jvm.Cond.methodLink "MemberShelfLaw" (65 : Nat) ({ cls := "MemberShelfModel", name := "keep", desc := "()I" } : Jvm.MethodName)) ∈ lw_all := lw_g (lw_at lw_m6 157 rfl) rfl
theorem q1408 : (Jvm.Cond.methodLink "MemberShelfLaw" (69 : Nat) ({ cls := "MemberShelfModel", name := "restore", desc := "()I" } : Jvm.MethodName)) ∈ lw_all := lw_g (lw_at lw_m6 161 rfl) rfl
theorem q1412 : (Jvm.Cond.methodLink "MemberShelfLaw" (73 : Nat) ({ cls := "MemberShelfModel", name := "entry", desc := "(II)I" } : Jvm.MethodName)) ∈ lw_all := lw_g (lw_at lw_m6 165 rfl) rfl
theorem q1424 : (Jvm.Cond.methodLink "MemberShelfLaw" (77 : Nat) ({ cls := "MemberShelfModel", name := "named", desc := "(I)I" } : Jvm.MethodName)) ∈ lw_all := lw_g (lw_at lw_m6 177 rfl) rfl
theorem q1428 : (Jvm.Cond.methodLink "MemberShelfLaw" (81 : Nat) ({ cls := "MemberShelfModel", name := "block", desc := "(II)I" } : Jvm.MethodName)) ∈ lw_all := lw_g (lw_at lw_m6 181 rfl) rfl
theorem q1433 : (Jvm.Cond.methodLink "MemberShelfLaw" (85 : Nat) ({ cls := "MemberShelfModel", name := "at", desc := "(I)I" } : Jvm.MethodName)) ∈ lw_all := lw_g (lw_at lw_m6 186 rfl) rfl
theorem q1438 : (Jvm.Cond.methodLink "MemberShelfLaw" (89 : Nat) ({ cls := "MemberShelfModel", name := "fits", desc := "(I)I" } : Jvm.MethodName)) ∈ lw_all := lw_g (lw_at lw_m6 191 rfl) rfl
theorem q1442 : (Jvm.Cond.methodLink "MemberShelfLaw" (93 : Nat) ({ cls := "MemberShelfModel", name := "beginning", desc := "(II)I" } : Jvm.MethodName)) ∈ lw_all := lw_g (lw_at lw_m6 195 rfl) rfl
theorem q1447 : (Jvm.Cond.methodLink "MemberShelfLaw" (97 : Nat) ({ cls := "MemberShelfModel", name := "count", desc := "(I)I" } : Jvm.MethodName)) ∈ lw_all := lw_g (lw_at lw_m6 200 rfl) rfl
theorem q1016 : (Jvm.Cond.sameMethod "[B" "java/lang/Object" "clone" "()Ljava/lang/Object;") ∈ lw_all := lw_g (lw_at lw_m5 9 rfl) rfl
theorem q1019 : (Jvm.Cond.selects "[B" ({ cls := "[B", name := "clone", desc := "()Ljava/lang/Object;" } : Jvm.MethodName) ({ cls := "java/lang/Object", name := "clone", desc := "()Ljava/lang/Object;" } : Jvm.MethodName)) ∈ lw_all := lw_g (lw_at lw_m5 12 rfl) rfl
theorem q1020 : (Jvm.Cond.castable "[B" "java/lang/Cloneable") ∈ lw_tbl := lw_at lw_m5 13 rfl
theorem q1491 : (Jvm.Cond.castable "[B" "java/lang/Object") ∈ lw_tbl := lw_at lw_m7 4 rfl
theorem q1492 : (Jvm.Cond.castable "[I" "java/lang/Object") ∈ lw_tbl := lw_at lw_m7 5 rfl
theorem q1487 : (Jvm.Cond.sameMethod "[Ljava/lang/Object;" "java/lang/Object" "getClass" "()Ljava/lang/Class;") ∈ lw_all := lw_g (lw_at lw_m7 0 rfl) rfl
theorem q1488 : (Jvm.Cond.selects "[Ljava/lang/Object;" ({ cls := "java/lang/Object", name := "getClass", desc := "()Ljava/lang/Class;" } : Jvm.MethodName) ({ cls := "java/lang/Object", name := "getClass", desc := "()Ljava/lang/Class;" } : Jvm.MethodName)) ∈ lw_all := lw_g (lw_at lw_m7 1 rfl) rfl
theorem q1490 : (Jvm.Cond.castable "[Ljava/lang/Object;" "java/lang/Object") ∈ lw_tbl := lw_at lw_m7 3 rfl
theorem q818 : (Jvm.Cond.interfaceMethod "java/lang/CharSequence" "java/lang/CharSequence" "length" "()I") ∈ lw_tbl := lw_at lw_m4 51 rfl
theorem q819 : (Jvm.Cond.declares ({ cls := "java/lang/CharSequence", name := "length", desc := "()I" } : Jvm.MethodName)) ∈ lw_tbl := lw_at lw_m4 52 rfl
theorem q831 : (Jvm.Cond.interfaceMethod "java/lang/CharSequence" "java/lang/CharSequence" "charAt" "(I)C") ∈ lw_tbl := lw_at lw_m4 64 rfl
theorem q832 : (Jvm.Cond.declares ({ cls := "java/lang/CharSequence", name := "charAt", desc := "(I)C" } : Jvm.MethodName)) ∈ lw_tbl := lw_at lw_m4 65 rfl
theorem q699 : (Jvm.Cond.publicMethod ({ cls := "java/lang/Iterable", name := "iterator", desc := "()Ljava/util/Iterator;" } : Jvm.MethodName)) ∈ lw_tbl := lw_at lw_m3 172 rfl
theorem q700 : (Jvm.Cond.declares ({ cls := "java/lang/Iterable", name := "iterator", desc := "()Ljava/util/Iterator;" } : Jvm.MethodName)) ∈ lw_tbl := lw_at lw_m3 173 rfl
theorem q66 : (Jvm.Cond.initialized "java/lang/System") ∈ lw_all := lw_g (lw_at lw_m1 19 rfl) rfl
theorem q407 : (Jvm.Cond.static ({ cls := "java/lang/System", name := "arraycopy", desc := "(Ljava/lang/Object;ILjava/lang/Object;II)V" } : Jvm.MethodName)) ∈ lw_all := lw_g (lw_at lw_m2 120 rfl) rfl
theorem q408 : (Jvm.Cond.native ({ cls := "java/lang/System", name := "arraycopy", desc := "(Ljava/lang/Object;ILjava/lang/Object;II)V" } : Jvm.MethodName)) ∈ lw_all := lw_g (lw_at lw_m2 121 rfl) rfl
theorem q288 : (Jvm.Cond.interfaceMethod "java/util/Iterator" "java/util/Iterator" "hasNext" "()Z") ∈ lw_tbl := lw_at lw_m2 1 rfl
theorem q289 : (Jvm.Cond.declares ({ cls := "java/util/Iterator", name := "hasNext", desc := "()Z" } : Jvm.MethodName)) ∈ lw_tbl := lw_at lw_m2 2 rfl
theorem q304 : (Jvm.Cond.interfaceMethod "java/util/Iterator" "java/util/Iterator" "next" "()Ljava/lang/Object;") ∈ lw_tbl := lw_at lw_m2 17 rfl
theorem q305 : (Jvm.Cond.declares ({ cls := "java/util/Iterator", name := "next", desc := "()Ljava/lang/Object;" } : Jvm.MethodName)) ∈ lw_tbl := lw_at lw_m2 18 rfl
theorem q255 : (Jvm.Cond.interfaceMethod "java/util/List" "java/util/List" "size" "()I") ∈ lw_tbl := lw_at lw_m1 208 rfl
theorem q256 : (Jvm.Cond.declares ({ cls := "java/util/List", name := "size", desc := "()I" } : Jvm.MethodName)) ∈ lw_tbl := lw_at lw_m1 209 rfl
theorem q317 : (Jvm.Cond.interfaceMethod "java/util/List" "java/util/List" "get" "(I)Ljava/lang/Object;") ∈ lw_tbl := lw_at lw_m2 30 rfl
theorem q318 : (Jvm.Cond.declares ({ cls := "java/util/List", name := "get", desc := "(I)Ljava/lang/Object;" } : Jvm.MethodName)) ∈ lw_tbl := lw_at lw_m2 31 rfl
theorem q347 : (Jvm.Cond.interfaceMethod "java/util/List" "java/util/List" "add" "(Ljava/lang/Object;)Z") ∈ lw_tbl := lw_at lw_m2 60 rfl
theorem q348 : (Jvm.Cond.declares ({ cls := "java/util/List", name := "add", desc := "(Ljava/lang/Object;)Z" } : Jvm.MethodName)) ∈ lw_tbl := lw_at lw_m2 61 rfl
theorem q413 : (Jvm.Cond.interfaceMethod "java/util/List" "java/util/List" "iterator" "()Ljava/util/Iterator;") ∈ lw_tbl := lw_at lw_m2 126 rfl
theorem q414 : (Jvm.Cond.declares ({ cls := "java/util/List", name := "iterator", desc := "()Ljava/util/Iterator;" } : Jvm.MethodName)) ∈ lw_tbl := lw_at lw_m2 127 rfl
theorem q457 : (Jvm.Cond.interfaceMethod "java/util/List" "java/util/List" "remove" "(I)Ljava/lang/Object;") ∈ lw_tbl := lw_at lw_m2 170 rfl
theorem q458 : (Jvm.Cond.declares ({ cls := "java/util/List", name := "remove", desc := "(I)Ljava/lang/Object;" } : Jvm.MethodName)) ∈ lw_tbl := lw_at lw_m2 171 rfl
theorem q513 : (Jvm.Cond.interfaceMethod "java/util/List" "java/util/List" "add" "(ILjava/lang/Object;)V") ∈ lw_tbl := lw_at lw_m2 226 rfl
theorem q514 : (Jvm.Cond.declares ({ cls := "java/util/List", name := "add", desc := "(ILjava/lang/Object;)V" } : Jvm.MethodName)) ∈ lw_tbl := lw_at lw_m2 227 rfl
theorem q546 : (Jvm.Cond.interfaceMethod "java/util/List" "java/util/List" "isEmpty" "()Z") ∈ lw_tbl := lw_at lw_m3 19 rfl
theorem q547 : (Jvm.Cond.declares ({ cls := "java/util/List", name := "isEmpty", desc := "()Z" } : Jvm.MethodName)) ∈ lw_tbl := lw_at lw_m3 20 rfl
theorem q663 : (Jvm.Cond.interfaceMethod "java/util/List" "java/util/List" "remove" "(Ljava/lang/Object;)Z") ∈ lw_tbl := lw_at lw_m3 136 rfl
theorem q664 : (Jvm.Cond.declares ({ cls := "java/util/List", name := "remove", desc := "(Ljava/lang/Object;)Z" } : Jvm.MethodName)) ∈ lw_tbl := lw_at lw_m3 137 rfl
theorem q745 : (Jvm.Cond.interfaceMethod "java/util/List" "java/util/List" "indexOf" "(Ljava/lang/Object;)I") ∈ lw_tbl := lw_at lw_m3 218 rfl
theorem q746 : (Jvm.Cond.declares ({ cls := "java/util/List", name := "indexOf", desc := "(Ljava/lang/Object;)I" } : Jvm.MethodName)) ∈ lw_tbl := lw_at lw_m3 219 rfl
theorem q973 : (Jvm.Cond.interfaceMethod "java/util/List" "java/util/List" "clear" "()V") ∈ lw_tbl := lw_at lw_m4 206 rfl
theorem q974 : (Jvm.Cond.declares ({ cls := "java/util/List", name := "clear", desc := "()V" } : Jvm.MethodName)) ∈ lw_tbl := lw_at lw_m4 207 rfl
theorem q165 : (Jvm.Cond.arrayOver (Jvm.ClassFile.FieldType.object "java/lang/Object")) ∈ lw_tbl := lw_at lw_m1 118 rfl
theorem q207 : (Jvm.Cond.arrayClass Jvm.ClassFile.FieldType.byte) ∈ lw_all := lw_g (lw_at lw_m1 160 rfl) rfl
theorem q921 : (Jvm.Cond.arrayClass Jvm.ClassFile.FieldType.int) ∈ lw_all := lw_g (lw_at lw_m4 154 rfl) rfl
theorem in_J13 : ∀ w ∈ wsJ130, w ∈ lw_all := lw_in wsJ130 [430, 432, 434, 436] (by decide +kernel) (by decide +kernel)
theorem in_J14 : ∀ w ∈ wsJ140, w ∈ lw_all := lw_in wsJ140 [871, 873, 875, 877, 879] (by decide +kernel) (by decide +kernel)
theorem in_J2 : ∀ w ∈ wsJ20, w ∈ lw_all := lw_in wsJ20 [123, 119, 121] (by decide +kernel) (by decide +kernel)
theorem in_J3 : ∀ w ∈ wsJ30, w ∈ lw_all := lw_in wsJ30 [169, 171, 173] (by decide +kernel) (by decide +kernel)
theorem in_J5 : ∀ w ∈ wsJ50, w ∈ lw_all := lw_in wsJ50 [198, 200, 202, 204] (by decide +kernel) (by decide +kernel)
theorem in_X0 : ∀ w ∈ wsX00, w ∈ lw_all := lw_in wsX00 [212, 214, 216, 218] (by decide +kernel) (by decide +kernel)
theorem in_X1 : ∀ w ∈ wsX10, w ∈ lw_all := lw_in wsX10 [149, 151, 153, 155] (by decide +kernel) (by decide +kernel)
theorem in_X10 : ∀ w ∈ wsX100, w ∈ lw_all := lw_in wsX100 [1153, 1155] (by decide +kernel) (by decide +kernel)
theorem in_X2 : ∀ w ∈ wsX20, w ∈ lw_all := lw_in wsX20 [134, 136] (by decide +kernel) (by decide +kernel)
theorem in_X3 : ∀ w ∈ wsX30, w ∈ lw_all := lw_in wsX30 [1237, 1239, 1241, 1243, 1245, 1247, 1249, 1251, 1253, 1255, 1257, 1259] (by decide +kernel) (by decide +kernel)
theorem in_X4 : ∀ w ∈ wsX40, w ∈ lw_all := lw_in wsX40 [277, 279, 281, 283] (by decide +kernel) (by decide +kernel)
theorem in_X5 : ∀ w ∈ wsX50, w ∈ lw_all := lw_in wsX50 [508, 509] (by decide +kernel) (by decide +kernel)
theorem in_X6 : ∀ w ∈ wsX60, w ∈ lw_all := lw_in wsX60 [499, 501, 497] (by decide +kernel) (by decide +kernel)
theorem in_X7 : ∀ w ∈ wsX70, w ∈ lw_all := lw_in wsX70 [574, 576, 578] (by decide +kernel) (by decide +kernel)
theorem in_X8 : ∀ w ∈ wsX80, w ∈ lw_all := lw_in wsX80 [793, 795] (by decide +kernel) (by decide +kernel)
theorem in_X9 : ∀ w ∈ wsX90, w ∈ lw_all := lw_in wsX90 [870, 872, 874, 876, 878, 917, 911] (by decide +kernel) (by decide +kernel)
