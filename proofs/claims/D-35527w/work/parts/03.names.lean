set_option maxRecDepth 100000
def RJ0 : String := "java/util/AbstractCollection"
abbrev cJ0_init : ByteArray := prog_60_method_1_code
def yJ0_init : MethodName := ⟨RJ0, "<init>", "()V"⟩
abbrev cJ0_isEmpty : ByteArray := prog_60_method_4_code
def yJ0_isEmpty : MethodName := ⟨RJ0, "isEmpty", "()Z"⟩
theorem q106 : (Jvm.Cond.initialized "java/util/AbstractCollection") ∈ lw_all := lw_g (lw_at lw_m1 2 rfl) rfl
theorem q202 : (Jvm.Cond.instanceMethod ({ cls := "java/util/AbstractCollection", name := "<init>", desc := "()V" } : Jvm.MethodName)) ∈ lw_all := lw_g (lw_at lw_m1 98 rfl) rfl
theorem q203 : (Jvm.Cond.code ({ cls := "java/util/AbstractCollection", name := "<init>", desc := "()V" } : Jvm.MethodName) prog_60_method_1_code (1 : Nat) (Option.none : Option Jvm.ClassFile.FieldType)) ∈ lw_all := lw_g (lw_at lw_m1 99 rfl) rfl
theorem q204 : (Jvm.Cond.methodLink "java/util/AbstractCollection" (1 : Nat) ({ cls := "java/lang/Object", name := "<init>", desc := "()V" } : Jvm.MethodName)) ∈ lw_all := lw_g (lw_at lw_m1 100 rfl) rfl
theorem q1668 : (Jvm.Cond.declares ({ cls := "java/util/AbstractCollection", name := "size", desc := "()I" } : Jvm.MethodName)) ∈ lw_tbl := lw_at lw_m7 124 rfl
theorem q2883 : (Jvm.Cond.instanceMethod ({ cls := "java/util/AbstractCollection", name := "isEmpty", desc := "()Z" } : Jvm.MethodName)) ∈ lw_all := lw_g (lw_at lw_m12 139 rfl) rfl
theorem q2884 : (Jvm.Cond.publicMethod ({ cls := "java/util/AbstractCollection", name := "isEmpty", desc := "()Z" } : Jvm.MethodName)) ∈ lw_tbl := lw_at lw_m12 140 rfl
theorem q2885 : (Jvm.Cond.code ({ cls := "java/util/AbstractCollection", name := "isEmpty", desc := "()Z" } : Jvm.MethodName) prog_60_method_4_code (1 : Nat) (Option.some Jvm.ClassFile.FieldType.boolean)) ∈ lw_all := lw_g (lw_at lw_m12 141 rfl) rfl
theorem q2886 : (Jvm.Cond.methodLink "java/util/AbstractCollection" (7 : Nat) ({ cls := "java/util/AbstractCollection", name := "size", desc := "()I" } : Jvm.MethodName)) ∈ lw_all := lw_g (lw_at lw_m12 142 rfl) rfl
theorem q3808 : (Jvm.Cond.sameMethod "java/util/AbstractCollection" "java/util/AbstractCollection" "size" "()I") ∈ lw_all := lw_g (lw_at lw_m16 104 rfl) rfl
def RJ1 : String := "java/util/AbstractList"
abbrev cJ1_init : ByteArray := prog_61_method_1_code
def yJ1_init : MethodName := ⟨RJ1, "<init>", "()V"⟩
abbrev cJ1_listIterator : ByteArray := prog_61_method_12_code
def yJ1_listIterator : MethodName := ⟨RJ1, "listIterator", "()Ljava/util/ListIterator;"⟩
theorem q107 : (Jvm.Cond.initialized "java/util/AbstractList") ∈ lw_all := lw_g (lw_at lw_m1 3 rfl) rfl
theorem q199 : (Jvm.Cond.instanceMethod ({ cls := "java/util/AbstractList", name := "<init>", desc := "()V" } : Jvm.MethodName)) ∈ lw_all := lw_g (lw_at lw_m1 95 rfl) rfl
theorem q200 : (Jvm.Cond.code ({ cls := "java/util/AbstractList", name := "<init>", desc := "()V" } : Jvm.MethodName) prog_61_method_1_code (1 : Nat) (Option.none : Option Jvm.ClassFile.FieldType)) ∈ lw_all := lw_g (lw_at lw_m1 96 rfl) rfl
theorem q201 : (Jvm.Cond.methodLink "java/util/AbstractList" (1 : Nat) ({ cls := "java/util/AbstractCollection", name := "<init>", desc := "()V" } : Jvm.MethodName)) ∈ lw_all := lw_g (lw_at lw_m1 97 rfl) rfl
theorem q209 : (Jvm.Cond.fieldLink "java/util/AbstractList" (7 : Nat) "java/util/AbstractList" "modCount" "I") ∈ lw_all := lw_g (lw_at lw_m1 105 rfl) rfl
theorem q224 : (Jvm.Cond.soleField "java/util/AbstractList" "modCount") ∈ lw_all := lw_g (lw_at lw_m1 120 rfl) rfl
theorem q1556 : (Jvm.Cond.declares ({ cls := "java/util/AbstractList", name := "listIterator", desc := "()Ljava/util/ListIterator;" } : Jvm.MethodName)) ∈ lw_tbl := lw_at lw_m7 12 rfl
theorem q1558 : (Jvm.Cond.instanceMethod ({ cls := "java/util/AbstractList", name := "listIterator", desc := "()Ljava/util/ListIterator;" } : Jvm.MethodName)) ∈ lw_all := lw_g (lw_at lw_m7 14 rfl) rfl
theorem q1559 : (Jvm.Cond.code ({ cls := "java/util/AbstractList", name := "listIterator", desc := "()Ljava/util/ListIterator;" } : Jvm.MethodName) prog_61_method_12_code (1 : Nat) (Option.some (Jvm.ClassFile.FieldType.object "java/util/ListIterator"))) ∈ lw_all := lw_g (lw_at lw_m7 15 rfl) rfl
theorem q1560 : (Jvm.Cond.methodLink "java/util/AbstractList" (47 : Nat) ({ cls := "java/util/AbstractList", name := "listIterator", desc := "(I)Ljava/util/ListIterator;" } : Jvm.MethodName)) ∈ lw_all := lw_g (lw_at lw_m7 16 rfl) rfl
theorem q1561 : (Jvm.Cond.instanceMethod ({ cls := "java/util/AbstractList", name := "listIterator", desc := "(I)Ljava/util/ListIterator;" } : Jvm.MethodName)) ∈ lw_all := lw_g (lw_at lw_m7 17 rfl) rfl
theorem q1562 : (Jvm.Cond.sameMethod "java/util/AbstractList" "java/util/AbstractList" "listIterator" "(I)Ljava/util/ListIterator;") ∈ lw_all := lw_g (lw_at lw_m7 18 rfl) rfl
theorem q1655 : (Jvm.Cond.declares ({ cls := "java/util/AbstractList", name := "listIterator", desc := "(I)Ljava/util/ListIterator;" } : Jvm.MethodName)) ∈ lw_tbl := lw_at lw_m7 111 rfl
theorem q1667 : (Jvm.Cond.sameMethod "java/util/AbstractList" "java/util/AbstractCollection" "size" "()I") ∈ lw_all := lw_g (lw_at lw_m7 123 rfl) rfl
theorem q1709 : (Jvm.Cond.declares ({ cls := "java/util/AbstractList", name := "get", desc := "(I)Ljava/lang/Object;" } : Jvm.MethodName)) ∈ lw_tbl := lw_at lw_m7 165 rfl
theorem q1710 : (Jvm.Cond.sameMethod "java/util/AbstractList" "java/util/AbstractList" "get" "(I)Ljava/lang/Object;") ∈ lw_all := lw_g (lw_at lw_m7 166 rfl) rfl
theorem q1884 : (Jvm.Cond.instanceMethod ({ cls := "java/util/AbstractList", name := "remove", desc := "(I)Ljava/lang/Object;" } : Jvm.MethodName)) ∈ lw_all := lw_g (lw_at lw_m8 100 rfl) rfl
theorem q1885 : (Jvm.Cond.sameMethod "java/util/AbstractList" "java/util/AbstractList" "remove" "(I)Ljava/lang/Object;") ∈ lw_all := lw_g (lw_at lw_m8 101 rfl) rfl
theorem q1900 : (Jvm.Cond.declares ({ cls := "java/util/AbstractList", name := "remove", desc := "(I)Ljava/lang/Object;" } : Jvm.MethodName)) ∈ lw_tbl := lw_at lw_m8 116 rfl
def RJ2 : String := "java/util/AbstractSequentialList"
abbrev cJ2_init : ByteArray := prog_64_method_1_code
def yJ2_init : MethodName := ⟨RJ2, "<init>", "()V"⟩
abbrev cJ2_iterator : ByteArray := prog_64_method_7_code
def yJ2_iterator : MethodName := ⟨RJ2, "iterator", "()Ljava/util/Iterator;"⟩
theorem q108 : (Jvm.Cond.initialized "java/util/AbstractSequentialList") ∈ lw_all := lw_g (lw_at lw_m1 4 rfl) rfl
theorem q196 : (Jvm.Cond.instanceMethod ({ cls := "java/util/AbstractSequentialList", name := "<init>", desc := "()V" } : Jvm.MethodName)) ∈ lw_all := lw_g (lw_at lw_m1 92 rfl) rfl
theorem q197 : (Jvm.Cond.code ({ cls := "java/util/AbstractSequentialList", name := "<init>", desc := "()V" } : Jvm.MethodName) prog_64_method_1_code (1 : Nat) (Option.none : Option Jvm.ClassFile.FieldType)) ∈ lw_all := lw_g (lw_at lw_m1 93 rfl) rfl
theorem q198 : (Jvm.Cond.methodLink "java/util/AbstractSequentialList" (1 : Nat) ({ cls := "java/util/AbstractList", name := "<init>", desc := "()V" } : Jvm.MethodName)) ∈ lw_all := lw_g (lw_at lw_m1 94 rfl) rfl
theorem q1550 : (Jvm.Cond.declares ({ cls := "java/util/AbstractSequentialList", name := "iterator", desc := "()Ljava/util/Iterator;" } : Jvm.MethodName)) ∈ lw_tbl := lw_at lw_m7 6 rfl
theorem q1552 : (Jvm.Cond.instanceMethod ({ cls := "java/util/AbstractSequentialList", name := "iterator", desc := "()Ljava/util/Iterator;" } : Jvm.MethodName)) ∈ lw_all := lw_g (lw_at lw_m7 8 rfl) rfl
theorem q1553 : (Jvm.Cond.code ({ cls := "java/util/AbstractSequentialList", name := "iterator", desc := "()Ljava/util/Iterator;" } : Jvm.MethodName) prog_64_method_7_code (1 : Nat) (Option.some (Jvm.ClassFile.FieldType.object "java/util/Iterator"))) ∈ lw_all := lw_g (lw_at lw_m7 9 rfl) rfl
theorem q1554 : (Jvm.Cond.methodLink "java/util/AbstractSequentialList" (65 : Nat) ({ cls := "java/util/AbstractSequentialList", name := "listIterator", desc := "()Ljava/util/ListIterator;" } : Jvm.MethodName)) ∈ lw_all := lw_g (lw_at lw_m7 10 rfl) rfl
theorem q1555 : (Jvm.Cond.sameMethod "java/util/AbstractSequentialList" "java/util/AbstractList" "listIterator" "()Ljava/util/ListIterator;") ∈ lw_all := lw_g (lw_at lw_m7 11 rfl) rfl
theorem q3034 : (Jvm.Cond.publicMethod ({ cls := "java/util/AbstractSequentialList", name := "iterator", desc := "()Ljava/util/Iterator;" } : Jvm.MethodName)) ∈ lw_tbl := lw_at lw_m13 50 rfl
def RJ3 : String := "java/util/LinkedList"
def TJ3 : u_T := fun k => match k with
  | 0 => ("java/util/AbstractList", "modCount", "I", false)
  | 1 => ("java/util/LinkedList", "size", "I", false)
  | 2 => ("java/util/LinkedList", "first", "Ljava/util/LinkedList$Node;", false)
  | _ => ("java/util/LinkedList", "last", "Ljava/util/LinkedList$Node;", false)
def tyJ3 : Nat → FieldType := fun k => match k with
  | 0 => .int
  | 1 => .int
  | 2 => .object "java/util/LinkedList$Node"
  | _ => .object "java/util/LinkedList$Node"
abbrev wsJ30 : List Cond := u_ws RJ3 TJ3 4
theorem nmJ3 : ∀ a, a < 4 → ∀ b, b < 4 → a ≠ b → (TJ3 a).2.1 ≠ (TJ3 b).2.1 := by decide +kernel
theorem tyJ3_ok : ∀ k, k < 4 → parseFieldDescriptor (TJ3 k).2.2.1 = some (tyJ3 k) := by decide +kernel
abbrev cJ3_init : ByteArray := prog_81_method_1_code
def yJ3_init : MethodName := ⟨RJ3, "<init>", "()V"⟩
abbrev cJ3_toArray : ByteArray := prog_81_method_53_code
def yJ3_toArray : MethodName := ⟨RJ3, "toArray", "()[Ljava/lang/Object;"⟩
abbrev cJ3_size : ByteArray := prog_81_method_16_code
def yJ3_size : MethodName := ⟨RJ3, "size", "()I"⟩
abbrev cJ3_clear : ByteArray := prog_81_method_21_code
def yJ3_clear : MethodName := ⟨RJ3, "clear", "()V"⟩
abbrev cJ3_listIterator : ByteArray := prog_81_method_49_code
def yJ3_listIterator : MethodName := ⟨RJ3, "listIterator", "(I)Ljava/util/ListIterator;"⟩
abbrev cJ3_checkPositionIndex : ByteArray := prog_81_method_30_code
def yJ3_checkPositionIndex : MethodName := ⟨RJ3, "checkPositionIndex", "(I)V"⟩
abbrev cJ3_isPositionIndex : ByteArray := prog_81_method_27_code
def yJ3_isPositionIndex : MethodName := ⟨RJ3, "isPositionIndex", "(I)Z"⟩
abbrev cJ3_outOfBoundsMsg : ByteArray := prog_81_method_28_code
def yJ3_outOfBoundsMsg : MethodName := ⟨RJ3, "outOfBoundsMsg", "(I)Ljava/lang/String;"⟩
abbrev cJ3_node : ByteArray := prog_81_method_31_code
def yJ3_node : MethodName := ⟨RJ3, "node", "(I)Ljava/util/LinkedList$Node;"⟩
abbrev cJ3_get : ByteArray := prog_81_method_22_code
def yJ3_get : MethodName := ⟨RJ3, "get", "(I)Ljava/lang/Object;"⟩
abbrev cJ3_checkElementIndex : ByteArray := prog_81_method_29_code
def yJ3_checkElementIndex : MethodName := ⟨RJ3, "checkElementIndex", "(I)V"⟩
abbrev cJ3_isElementIndex : ByteArray := prog_81_method_26_code
def yJ3_isElementIndex : MethodName := ⟨RJ3, "isElementIndex", "(I)Z"⟩
abbrev cJ3_remove : ByteArray := prog_81_method_25_code
def yJ3_remove : MethodName := ⟨RJ3, "remove", "(I)Ljava/lang/Object;"⟩
abbrev cJ3_unlink : ByteArray := prog_81_method_8_code
def yJ3_unlink : MethodName := ⟨RJ3, "unlink", "(Ljava/util/LinkedList$Node;)Ljava/lang/Object;"⟩
abbrev cJ3_remove_2 : ByteArray := prog_81_method_18_code
def yJ3_remove_2 : MethodName := ⟨RJ3, "remove", "(Ljava/lang/Object;)Z"⟩
abbrev cJ3_add : ByteArray := prog_81_method_17_code
def yJ3_add : MethodName := ⟨RJ3, "add", "(Ljava/lang/Object;)Z"⟩
abbrev cJ3_linkLast : ByteArray := prog_81_method_4_code
def yJ3_linkLast : MethodName := ⟨RJ3, "linkLast", "(Ljava/lang/Object;)V"⟩
theorem q109 : (Jvm.Cond.initialized "java/util/LinkedList") ∈ lw_all := lw_g (lw_at lw_m1 5 rfl) rfl
theorem q191 : (Jvm.Cond.instantiable "java/util/LinkedList" (4 : Nat)) ∈ lw_all := lw_g (lw_at lw_m1 87 rfl) rfl
theorem q193 : (Jvm.Cond.instanceMethod ({ cls := "java/util/LinkedList", name := "<init>", desc := "()V" } : Jvm.MethodName)) ∈ lw_all := lw_g (lw_at lw_m1 89 rfl) rfl
theorem q194 : (Jvm.Cond.code ({ cls := "java/util/LinkedList", name := "<init>", desc := "()V" } : Jvm.MethodName) prog_81_method_1_code (1 : Nat) (Option.none : Option Jvm.ClassFile.FieldType)) ∈ lw_all := lw_g (lw_at lw_m1 90 rfl) rfl
theorem q195 : (Jvm.Cond.methodLink "java/util/LinkedList" (1 : Nat) ({ cls := "java/util/AbstractSequentialList", name := "<init>", desc := "()V" } : Jvm.MethodName)) ∈ lw_all := lw_g (lw_at lw_m1 91 rfl) rfl
theorem q205 : (Jvm.Cond.fieldLink "java/util/LinkedList" (7 : Nat) "java/util/LinkedList" "size" "I") ∈ lw_all := lw_g (lw_at lw_m1 101 rfl) rfl
theorem q207 : (Jvm.Cond.fieldLink "java/util/LinkedList" (18 : Nat) "java/util/LinkedList" "first" "Ljava/util/LinkedList$Node;") ∈ lw_all := lw_g (lw_at lw_m1 103 rfl) rfl
theorem q208 : (Jvm.Cond.fieldLink "java/util/LinkedList" (27 : Nat) "java/util/LinkedList" "last" "Ljava/util/LinkedList$Node;") ∈ lw_all := lw_g (lw_at lw_m1 104 rfl) rfl
theorem q211 : (Jvm.Cond.sameField "java/util/LinkedList" "java/util/AbstractList" "modCount" "I") ∈ lw_all := lw_g (lw_at lw_m1 107 rfl) rfl
theorem q215 : (Jvm.Cond.fieldLink "java/util/LinkedList" (33 : Nat) "java/util/LinkedList" "modCount" "I") ∈ lw_all := lw_g (lw_at lw_m1 111 rfl) rfl
theorem q217 : (Jvm.Cond.lays "java/util/LinkedList" "java/util/LinkedList" "size" "I") ∈ lw_all := lw_g (lw_at lw_m1 113 rfl) rfl
theorem q218 : (Jvm.Cond.soleField "java/util/LinkedList" "size") ∈ lw_all := lw_g (lw_at lw_m1 114 rfl) rfl
theorem q219 : (Jvm.Cond.lays "java/util/LinkedList" "java/util/LinkedList" "first" "Ljava/util/LinkedList$Node;") ∈ lw_all := lw_g (lw_at lw_m1 115 rfl) rfl
theorem q220 : (Jvm.Cond.soleField "java/util/LinkedList" "first") ∈ lw_all := lw_g (lw_at lw_m1 116 rfl) rfl
theorem q221 : (Jvm.Cond.lays "java/util/LinkedList" "java/util/LinkedList" "last" "Ljava/util/LinkedList$Node;") ∈ lw_all := lw_g (lw_at lw_m1 117 rfl) rfl
theorem q222 : (Jvm.Cond.soleField "java/util/LinkedList" "last") ∈ lw_all := lw_g (lw_at lw_m1 118 rfl) rfl
theorem q223 : (Jvm.Cond.lays "java/util/LinkedList" "java/util/AbstractList" "modCount" "I") ∈ lw_all := lw_g (lw_at lw_m1 119 rfl) rfl
theorem q225 : (Jvm.Cond.superclass "java/util/LinkedList" "java/util/AbstractSequentialList") ∈ lw_all := lw_g (lw_at lw_m1 121 rfl) rfl
theorem q984 : (Jvm.Cond.selects "java/util/LinkedList" ({ cls := "java/lang/Object", name := "getClass", desc := "()Ljava/lang/Class;" } : Jvm.MethodName) ({ cls := "java/lang/Object", name := "getClass", desc := "()Ljava/lang/Class;" } : Jvm.MethodName)) ∈ lw_all := lw_g (lw_at lw_m4 160 rfl) rfl
theorem q1313 : (Jvm.Cond.castable "java/util/LinkedList" "java/util/Collection") ∈ lw_tbl := lw_at lw_m6 9 rfl
theorem q1314 : (Jvm.Cond.selects "java/util/LinkedList" ({ cls := "java/util/Collection", name := "toArray", desc := "()[Ljava/lang/Object;" } : Jvm.MethodName) ({ cls := "java/util/LinkedList", name := "toArray", desc := "()[Ljava/lang/Object;" } : Jvm.MethodName)) ∈ lw_all := lw_g (lw_at lw_m6 10 rfl) rfl
theorem q1315 : (Jvm.Cond.unhidden "java/util/LinkedList" "toArray" "()[Ljava/lang/Object;") ∈ lw_tbl := lw_at lw_m6 11 rfl
theorem q1316 : (Jvm.Cond.instanceMethod ({ cls := "java/util/LinkedList", name := "toArray", desc := "()[Ljava/lang/Object;" } : Jvm.MethodName)) ∈ lw_all := lw_g (lw_at lw_m6 12 rfl) rfl
theorem q1317 : (Jvm.Cond.publicMethod ({ cls := "java/util/LinkedList", name := "toArray", desc := "()[Ljava/lang/Object;" } : Jvm.MethodName)) ∈ lw_tbl := lw_at lw_m6 13 rfl
theorem q1318 : (Jvm.Cond.code ({ cls := "java/util/LinkedList", name := "toArray", desc := "()[Ljava/lang/Object;" } : Jvm.MethodName) prog_81_method_53_code (4 : Nat) (Option.some (Jvm.ClassFile.FieldType.array (Jvm.ClassFile.FieldType.object "java/lang/Object")))) ∈ lw_all := lw_g (lw_at lw_m6 14 rfl) rfl
theorem q1319 : (Jvm.Cond.classLink "java/util/LinkedList" (68 : Nat) "java/lang/Object") ∈ lw_all := lw_g (lw_at lw_m6 15 rfl) rfl
theorem q1389 : (Jvm.Cond.instanceMethod ({ cls := "java/util/LinkedList", name := "size", desc := "()I" } : Jvm.MethodName)) ∈ lw_all := lw_g (lw_at lw_m6 85 rfl) rfl
theorem q1390 : (Jvm.Cond.selects "java/util/LinkedList" ({ cls := "java/util/LinkedList", name := "size", desc := "()I" } : Jvm.MethodName) ({ cls := "java/util/LinkedList", name := "size", desc := "()I" } : Jvm.MethodName)) ∈ lw_all := lw_g (lw_at lw_m6 86 rfl) rfl
theorem q1391 : (Jvm.Cond.code ({ cls := "java/util/LinkedList", name := "size", desc := "()I" } : Jvm.MethodName) prog_81_method_16_code (1 : Nat) (Option.some Jvm.ClassFile.FieldType.int)) ∈ lw_all := lw_g (lw_at lw_m6 87 rfl) rfl
theorem q1525 : (Jvm.Cond.instanceMethod ({ cls := "java/util/LinkedList", name := "clear", desc := "()V" } : Jvm.MethodName)) ∈ lw_all := lw_g (lw_at lw_m6 221 rfl) rfl
theorem q1526 : (Jvm.Cond.selects "java/util/LinkedList" ({ cls := "java/util/LinkedList", name := "clear", desc := "()V" } : Jvm.MethodName) ({ cls := "java/util/LinkedList", name := "clear", desc := "()V" } : Jvm.MethodName)) ∈ lw_all := lw_g (lw_at lw_m6 222 rfl) rfl
theorem q1527 : (Jvm.Cond.code ({ cls := "java/util/LinkedList", name := "clear", desc := "()V" } : Jvm.MethodName) prog_81_method_21_code (3 : Nat) (Option.none : Option Jvm.ClassFile.FieldType)) ∈ lw_all := lw_g (lw_at lw_m6 223 rfl) rfl
theorem q1549 : (Jvm.Cond.sameMethod "java/util/LinkedList" "java/util/AbstractSequentialList" "iterator" "()Ljava/util/Iterator;") ∈ lw_all := lw_g (lw_at lw_m7 5 rfl) rfl
theorem q1551 : (Jvm.Cond.selects "java/util/LinkedList" ({ cls := "java/util/LinkedList", name := "iterator", desc := "()Ljava/util/Iterator;" } : Jvm.MethodName) ({ cls := "java/util/AbstractSequentialList", name := "iterator", desc := "()Ljava/util/Iterator;" } : Jvm.MethodName)) ∈ lw_all := lw_g (lw_at lw_m7 7 rfl) rfl
theorem q1557 : (Jvm.Cond.selects "java/util/LinkedList" ({ cls := "java/util/AbstractSequentialList", name := "listIterator", desc := "()Ljava/util/ListIterator;" } : Jvm.MethodName) ({ cls := "java/util/AbstractList", name := "listIterator", desc := "()Ljava/util/ListIterator;" } : Jvm.MethodName)) ∈ lw_all := lw_g (lw_at lw_m7 13 rfl) rfl
theorem q1605 : (Jvm.Cond.selects "java/util/LinkedList" ({ cls := "java/util/AbstractList", name := "listIterator", desc := "(I)Ljava/util/ListIterator;" } : Jvm.MethodName) ({ cls := "java/util/LinkedList", name := "listIterator", desc := "(I)Ljava/util/ListIterator;" } : Jvm.MethodName)) ∈ lw_all := lw_g (lw_at lw_m7 61 rfl) rfl
theorem q1606 : (Jvm.Cond.instanceMethod ({ cls := "java/util/LinkedList", name := "listIterator", desc := "(I)Ljava/util/ListIterator;" } : Jvm.MethodName)) ∈ lw_all := lw_g (lw_at lw_m7 62 rfl) rfl
theorem q1607 : (Jvm.Cond.code ({ cls := "java/util/LinkedList", name := "listIterator", desc := "(I)Ljava/util/ListIterator;" } : Jvm.MethodName) prog_81_method_49_code (2 : Nat) (Option.some (Jvm.ClassFile.FieldType.object "java/util/ListIterator"))) ∈ lw_all := lw_g (lw_at lw_m7 63 rfl) rfl
theorem q1608 : (Jvm.Cond.methodLink "java/util/LinkedList" (76 : Nat) ({ cls := "java/util/LinkedList", name := "checkPositionIndex", desc := "(I)V" } : Jvm.MethodName)) ∈ lw_all := lw_g (lw_at lw_m7 64 rfl) rfl
theorem q1609 : (Jvm.Cond.privateMethod ({ cls := "java/util/LinkedList", name := "checkPositionIndex", desc := "(I)V" } : Jvm.MethodName)) ∈ lw_tbl := lw_at lw_m7 65 rfl
theorem q1610 : (Jvm.Cond.instanceMethod ({ cls := "java/util/LinkedList", name := "checkPositionIndex", desc := "(I)V" } : Jvm.MethodName)) ∈ lw_all := lw_g (lw_at lw_m7 66 rfl) rfl
theorem q1611 : (Jvm.Cond.code ({ cls := "java/util/LinkedList", name := "checkPositionIndex", desc := "(I)V" } : Jvm.MethodName) prog_81_method_30_code (2 : Nat) (Option.none : Option Jvm.ClassFile.FieldType)) ∈ lw_all := lw_g (lw_at lw_m7 67 rfl) rfl
theorem q1612 : (Jvm.Cond.methodLink "java/util/LinkedList" (128 : Nat) ({ cls := "java/util/LinkedList", name := "isPositionIndex", desc := "(I)Z" } : Jvm.MethodName)) ∈ lw_all := lw_g (lw_at lw_m7 68 rfl) rfl
theorem q1613 : (Jvm.Cond.privateMethod ({ cls := "java/util/LinkedList", name := "isPositionIndex", desc := "(I)Z" } : Jvm.MethodName)) ∈ lw_tbl := lw_at lw_m7 69 rfl
theorem q1614 : (Jvm.Cond.instanceMethod ({ cls := "java/util/LinkedList", name := "isPositionIndex", desc := "(I)Z" } : Jvm.MethodName)) ∈ lw_all := lw_g (lw_at lw_m7 70 rfl) rfl
theorem q1615 : (Jvm.Cond.code ({ cls := "java/util/LinkedList", name := "isPositionIndex", desc := "(I)Z" } : Jvm.MethodName) prog_81_method_27_code (2 : Nat) (Option.some Jvm.ClassFile.FieldType.boolean)) ∈ lw_all := lw_g (lw_at lw_m7 71 rfl) rfl
theorem q1616 : (Jvm.Cond.classLink "java/util/LinkedList" (119 : Nat) "java/lang/IndexOutOfBoundsException") ∈ lw_all := lw_g (lw_at lw_m7 72 rfl) rfl
theorem q1617 : (Jvm.Cond.methodLink "java/util/LinkedList" (121 : Nat) ({ cls := "java/util/LinkedList", name := "outOfBoundsMsg", desc := "(I)Ljava/lang/String;" } : Jvm.MethodName)) ∈ lw_all := lw_g (lw_at lw_m7 73 rfl) rfl
theorem q1618 : (Jvm.Cond.privateMethod ({ cls := "java/util/LinkedList", name := "outOfBoundsMsg", desc := "(I)Ljava/lang/String;" } : Jvm.MethodName)) ∈ lw_tbl := lw_at lw_m7 74 rfl
theorem q1619 : (Jvm.Cond.instanceMethod ({ cls := "java/util/LinkedList", name := "outOfBoundsMsg", desc := "(I)Ljava/lang/String;" } : Jvm.MethodName)) ∈ lw_all := lw_g (lw_at lw_m7 75 rfl) rfl
theorem q1620 : (Jvm.Cond.code ({ cls := "java/util/LinkedList", name := "outOfBoundsMsg", desc := "(I)Ljava/lang/String;" } : Jvm.MethodName) prog_81_method_28_code (2 : Nat) (Option.some (Jvm.ClassFile.FieldType.object "java/lang/String"))) ∈ lw_all := lw_g (lw_at lw_m7 76 rfl) rfl
theorem q1621 : (Jvm.Cond.classLink "java/util/LinkedList" (97 : Nat) "java/lang/StringBuilder") ∈ lw_all := lw_g (lw_at lw_m7 77 rfl) rfl
theorem q1622 : (Jvm.Cond.methodLink "java/util/LinkedList" (99 : Nat) ({ cls := "java/lang/StringBuilder", name := "<init>", desc := "()V" } : Jvm.MethodName)) ∈ lw_all := lw_g (lw_at lw_m7 78 rfl) rfl
theorem q1623 : (Jvm.Cond.stringRef "java/util/LinkedList" (100 : Nat) "Index: ") ∈ lw_tbl := lw_at lw_m7 79 rfl
theorem q1624 : (Jvm.Cond.methodLink "java/util/LinkedList" (102 : Nat) ({ cls := "java/lang/StringBuilder", name := "append", desc := "(Ljava/lang/String;)Ljava/lang/StringBuilder;" } : Jvm.MethodName)) ∈ lw_all := lw_g (lw_at lw_m7 80 rfl) rfl
theorem q1625 : (Jvm.Cond.methodLink "java/util/LinkedList" (106 : Nat) ({ cls := "java/lang/StringBuilder", name := "append", desc := "(I)Ljava/lang/StringBuilder;" } : Jvm.MethodName)) ∈ lw_all := lw_g (lw_at lw_m7 81 rfl) rfl
theorem q1626 : (Jvm.Cond.stringRef "java/util/LinkedList" (109 : Nat) ", Size: ") ∈ lw_tbl := lw_at lw_m7 82 rfl
theorem q1627 : (Jvm.Cond.methodLink "java/util/LinkedList" (111 : Nat) ({ cls := "java/lang/StringBuilder", name := "toString", desc := "()Ljava/lang/String;" } : Jvm.MethodName)) ∈ lw_all := lw_g (lw_at lw_m7 83 rfl) rfl
theorem q1628 : (Jvm.Cond.methodLink "java/util/LinkedList" (125 : Nat) ({ cls := "java/lang/IndexOutOfBoundsException", name := "<init>", desc := "(Ljava/lang/String;)V" } : Jvm.MethodName)) ∈ lw_all := lw_g (lw_at lw_m7 84 rfl) rfl
theorem q1629 : (Jvm.Cond.classLink "java/util/LinkedList" (150 : Nat) "java/util/LinkedList$ListItr") ∈ lw_all := lw_g (lw_at lw_m7 85 rfl) rfl
theorem q1631 : (Jvm.Cond.methodLink "java/util/LinkedList" (152 : Nat) ({ cls := "java/util/LinkedList$ListItr", name := "<init>", desc := "(Ljava/util/LinkedList;I)V" } : Jvm.MethodName)) ∈ lw_all := lw_g (lw_at lw_m7 87 rfl) rfl
theorem q1636 : (Jvm.Cond.instanceMethod ({ cls := "java/util/LinkedList", name := "node", desc := "(I)Ljava/util/LinkedList$Node;" } : Jvm.MethodName)) ∈ lw_all := lw_g (lw_at lw_m7 92 rfl) rfl
theorem q1637 : (Jvm.Cond.selects "java/util/LinkedList" ({ cls := "java/util/LinkedList", name := "node", desc := "(I)Ljava/util/LinkedList$Node;" } : Jvm.MethodName) ({ cls := "java/util/LinkedList", name := "node", desc := "(I)Ljava/util/LinkedList$Node;" } : Jvm.MethodName)) ∈ lw_all := lw_g (lw_at lw_m7 93 rfl) rfl
theorem q1638 : (Jvm.Cond.code ({ cls := "java/util/LinkedList", name := "node", desc := "(I)Ljava/util/LinkedList$Node;" } : Jvm.MethodName) prog_81_method_31_code (4 : Nat) (Option.some (Jvm.ClassFile.FieldType.object "java/util/LinkedList$Node"))) ∈ lw_all := lw_g (lw_at lw_m7 94 rfl) rfl
theorem q1672 : (Jvm.Cond.selects "java/util/LinkedList" ({ cls := "java/util/AbstractList", name := "size", desc := "()I" } : Jvm.MethodName) ({ cls := "java/util/LinkedList", name := "size", desc := "()I" } : Jvm.MethodName)) ∈ lw_all := lw_g (lw_at lw_m7 128 rfl) rfl
theorem q1722 : (Jvm.Cond.selects "java/util/LinkedList" ({ cls := "java/util/AbstractList", name := "get", desc := "(I)Ljava/lang/Object;" } : Jvm.MethodName) ({ cls := "java/util/LinkedList", name := "get", desc := "(I)Ljava/lang/Object;" } : Jvm.MethodName)) ∈ lw_all := lw_g (lw_at lw_m7 178 rfl) rfl
theorem q1723 : (Jvm.Cond.instanceMethod ({ cls := "java/util/LinkedList", name := "get", desc := "(I)Ljava/lang/Object;" } : Jvm.MethodName)) ∈ lw_all := lw_g (lw_at lw_m7 179 rfl) rfl
theorem q1724 : (Jvm.Cond.code ({ cls := "java/util/LinkedList", name := "get", desc := "(I)Ljava/lang/Object;" } : Jvm.MethodName) prog_81_method_22_code (2 : Nat) (Option.some (Jvm.ClassFile.FieldType.object "java/lang/Object"))) ∈ lw_all := lw_g (lw_at lw_m7 180 rfl) rfl
theorem q1725 : (Jvm.Cond.methodLink "java/util/LinkedList" (90 : Nat) ({ cls := "java/util/LinkedList", name := "checkElementIndex", desc := "(I)V" } : Jvm.MethodName)) ∈ lw_all := lw_g (lw_at lw_m7 181 rfl) rfl
theorem q1726 : (Jvm.Cond.privateMethod ({ cls := "java/util/LinkedList", name := "checkElementIndex", desc := "(I)V" } : Jvm.MethodName)) ∈ lw_tbl := lw_at lw_m7 182 rfl
theorem q1727 : (Jvm.Cond.instanceMethod ({ cls := "java/util/LinkedList", name := "checkElementIndex", desc := "(I)V" } : Jvm.MethodName)) ∈ lw_all := lw_g (lw_at lw_m7 183 rfl) rfl
theorem q1728 : (Jvm.Cond.code ({ cls := "java/util/LinkedList", name := "checkElementIndex", desc := "(I)V" } : Jvm.MethodName) prog_81_method_29_code (2 : Nat) (Option.none : Option Jvm.ClassFile.FieldType)) ∈ lw_all := lw_g (lw_at lw_m7 184 rfl) rfl
theorem q1729 : (Jvm.Cond.methodLink "java/util/LinkedList" (115 : Nat) ({ cls := "java/util/LinkedList", name := "isElementIndex", desc := "(I)Z" } : Jvm.MethodName)) ∈ lw_all := lw_g (lw_at lw_m7 185 rfl) rfl
theorem q1730 : (Jvm.Cond.privateMethod ({ cls := "java/util/LinkedList", name := "isElementIndex", desc := "(I)Z" } : Jvm.MethodName)) ∈ lw_tbl := lw_at lw_m7 186 rfl
theorem q1731 : (Jvm.Cond.instanceMethod ({ cls := "java/util/LinkedList", name := "isElementIndex", desc := "(I)Z" } : Jvm.MethodName)) ∈ lw_all := lw_g (lw_at lw_m7 187 rfl) rfl
theorem q1732 : (Jvm.Cond.code ({ cls := "java/util/LinkedList", name := "isElementIndex", desc := "(I)Z" } : Jvm.MethodName) prog_81_method_26_code (2 : Nat) (Option.some Jvm.ClassFile.FieldType.boolean)) ∈ lw_all := lw_g (lw_at lw_m7 188 rfl) rfl
theorem q1733 : (Jvm.Cond.methodLink "java/util/LinkedList" (86 : Nat) ({ cls := "java/util/LinkedList", name := "node", desc := "(I)Ljava/util/LinkedList$Node;" } : Jvm.MethodName)) ∈ lw_all := lw_g (lw_at lw_m7 189 rfl) rfl
theorem q1834 : (Jvm.Cond.castable "java/util/LinkedList" "java/util/List") ∈ lw_tbl := lw_at lw_m8 50 rfl
theorem q1835 : (Jvm.Cond.selects "java/util/LinkedList" ({ cls := "java/util/List", name := "get", desc := "(I)Ljava/lang/Object;" } : Jvm.MethodName) ({ cls := "java/util/LinkedList", name := "get", desc := "(I)Ljava/lang/Object;" } : Jvm.MethodName)) ∈ lw_all := lw_g (lw_at lw_m8 51 rfl) rfl
theorem q1836 : (Jvm.Cond.unhidden "java/util/LinkedList" "get" "(I)Ljava/lang/Object;") ∈ lw_tbl := lw_at lw_m8 52 rfl
theorem q1837 : (Jvm.Cond.publicMethod ({ cls := "java/util/LinkedList", name := "get", desc := "(I)Ljava/lang/Object;" } : Jvm.MethodName)) ∈ lw_tbl := lw_at lw_m8 53 rfl
theorem q1893 : (Jvm.Cond.selects "java/util/LinkedList" ({ cls := "java/util/AbstractList", name := "remove", desc := "(I)Ljava/lang/Object;" } : Jvm.MethodName) ({ cls := "java/util/LinkedList", name := "remove", desc := "(I)Ljava/lang/Object;" } : Jvm.MethodName)) ∈ lw_all := lw_g (lw_at lw_m8 109 rfl) rfl
theorem q1894 : (Jvm.Cond.instanceMethod ({ cls := "java/util/LinkedList", name := "remove", desc := "(I)Ljava/lang/Object;" } : Jvm.MethodName)) ∈ lw_all := lw_g (lw_at lw_m8 110 rfl) rfl
theorem q1895 : (Jvm.Cond.code ({ cls := "java/util/LinkedList", name := "remove", desc := "(I)Ljava/lang/Object;" } : Jvm.MethodName) prog_81_method_25_code (2 : Nat) (Option.some (Jvm.ClassFile.FieldType.object "java/lang/Object"))) ∈ lw_all := lw_g (lw_at lw_m8 111 rfl) rfl
theorem q1896 : (Jvm.Cond.methodLink "java/util/LinkedList" (64 : Nat) ({ cls := "java/util/LinkedList", name := "unlink", desc := "(Ljava/util/LinkedList$Node;)Ljava/lang/Object;" } : Jvm.MethodName)) ∈ lw_all := lw_g (lw_at lw_m8 112 rfl) rfl
theorem q1897 : (Jvm.Cond.instanceMethod ({ cls := "java/util/LinkedList", name := "unlink", desc := "(Ljava/util/LinkedList$Node;)Ljava/lang/Object;" } : Jvm.MethodName)) ∈ lw_all := lw_g (lw_at lw_m8 113 rfl) rfl
theorem q1898 : (Jvm.Cond.selects "java/util/LinkedList" ({ cls := "java/util/LinkedList", name := "unlink", desc := "(Ljava/util/LinkedList$Node;)Ljava/lang/Object;" } : Jvm.MethodName) ({ cls := "java/util/LinkedList", name := "unlink", desc := "(Ljava/util/LinkedList$Node;)Ljava/lang/Object;" } : Jvm.MethodName)) ∈ lw_all := lw_g (lw_at lw_m8 114 rfl) rfl
theorem q1899 : (Jvm.Cond.code ({ cls := "java/util/LinkedList", name := "unlink", desc := "(Ljava/util/LinkedList$Node;)Ljava/lang/Object;" } : Jvm.MethodName) prog_81_method_8_code (5 : Nat) (Option.some (Jvm.ClassFile.FieldType.object "java/lang/Object"))) ∈ lw_all := lw_g (lw_at lw_m8 115 rfl) rfl
theorem q2445 : (Jvm.Cond.instanceMethod ({ cls := "java/util/LinkedList", name := "remove", desc := "(Ljava/lang/Object;)Z" } : Jvm.MethodName)) ∈ lw_all := lw_g (lw_at lw_m10 181 rfl) rfl
theorem q2446 : (Jvm.Cond.selects "java/util/LinkedList" ({ cls := "java/util/LinkedList", name := "remove", desc := "(Ljava/lang/Object;)Z" } : Jvm.MethodName) ({ cls := "java/util/LinkedList", name := "remove", desc := "(Ljava/lang/Object;)Z" } : Jvm.MethodName)) ∈ lw_all := lw_g (lw_at lw_m10 182 rfl) rfl
theorem q2447 : (Jvm.Cond.code ({ cls := "java/util/LinkedList", name := "remove", desc := "(Ljava/lang/Object;)Z" } : Jvm.MethodName) prog_81_method_18_code (3 : Nat) (Option.some Jvm.ClassFile.FieldType.boolean)) ∈ lw_all := lw_g (lw_at lw_m10 183 rfl) rfl
theorem q2449 : (Jvm.Cond.methodLink "java/util/LinkedList" (67 : Nat) ({ cls := "java/lang/Object", name := "equals", desc := "(Ljava/lang/Object;)Z" } : Jvm.MethodName)) ∈ lw_all := lw_g (lw_at lw_m10 185 rfl) rfl
theorem q2546 : (Jvm.Cond.instanceMethod ({ cls := "java/util/LinkedList", name := "add", desc := "(Ljava/lang/Object;)Z" } : Jvm.MethodName)) ∈ lw_all := lw_g (lw_at lw_m11 42 rfl) rfl
theorem q2547 : (Jvm.Cond.selects "java/util/LinkedList" ({ cls := "java/util/LinkedList", name := "add", desc := "(Ljava/lang/Object;)Z" } : Jvm.MethodName) ({ cls := "java/util/LinkedList", name := "add", desc := "(Ljava/lang/Object;)Z" } : Jvm.MethodName)) ∈ lw_all := lw_g (lw_at lw_m11 43 rfl) rfl
theorem q2548 : (Jvm.Cond.code ({ cls := "java/util/LinkedList", name := "add", desc := "(Ljava/lang/Object;)Z" } : Jvm.MethodName) prog_81_method_17_code (2 : Nat) (Option.some Jvm.ClassFile.FieldType.boolean)) ∈ lw_all := lw_g (lw_at lw_m11 44 rfl) rfl
theorem q2549 : (Jvm.Cond.methodLink "java/util/LinkedList" (57 : Nat) ({ cls := "java/util/LinkedList", name := "linkLast", desc := "(Ljava/lang/Object;)V" } : Jvm.MethodName)) ∈ lw_all := lw_g (lw_at lw_m11 45 rfl) rfl
theorem q2550 : (Jvm.Cond.instanceMethod ({ cls := "java/util/LinkedList", name := "linkLast", desc := "(Ljava/lang/Object;)V" } : Jvm.MethodName)) ∈ lw_all := lw_g (lw_at lw_m11 46 rfl) rfl
theorem q2551 : (Jvm.Cond.selects "java/util/LinkedList" ({ cls := "java/util/LinkedList", name := "linkLast", desc := "(Ljava/lang/Object;)V" } : Jvm.MethodName) ({ cls := "java/util/LinkedList", name := "linkLast", desc := "(Ljava/lang/Object;)V" } : Jvm.MethodName)) ∈ lw_all := lw_g (lw_at lw_m11 47 rfl) rfl
theorem q2552 : (Jvm.Cond.code ({ cls := "java/util/LinkedList", name := "linkLast", desc := "(Ljava/lang/Object;)V" } : Jvm.MethodName) prog_81_method_4_code (4 : Nat) (Option.none : Option Jvm.ClassFile.FieldType)) ∈ lw_all := lw_g (lw_at lw_m11 48 rfl) rfl
theorem q2553 : (Jvm.Cond.classLink "java/util/LinkedList" (22 : Nat) "java/util/LinkedList$Node") ∈ lw_all := lw_g (lw_at lw_m11 49 rfl) rfl
theorem q2555 : (Jvm.Cond.methodLink "java/util/LinkedList" (24 : Nat) ({ cls := "java/util/LinkedList$Node", name := "<init>", desc := "(Ljava/util/LinkedList$Node;Ljava/lang/Object;Ljava/util/LinkedList$Node;)V" } : Jvm.MethodName)) ∈ lw_all := lw_g (lw_at lw_m11 51 rfl) rfl
theorem q2561 : (Jvm.Cond.fieldLink "java/util/LinkedList" (39 : Nat) "java/util/LinkedList$Node" "item" "Ljava/lang/Object;") ∈ lw_all := lw_g (lw_at lw_m11 57 rfl) rfl
theorem q2564 : (Jvm.Cond.fieldLink "java/util/LinkedList" (36 : Nat) "java/util/LinkedList$Node" "next" "Ljava/util/LinkedList$Node;") ∈ lw_all := lw_g (lw_at lw_m11 60 rfl) rfl
theorem q2566 : (Jvm.Cond.fieldLink "java/util/LinkedList" (30 : Nat) "java/util/LinkedList$Node" "prev" "Ljava/util/LinkedList$Node;") ∈ lw_all := lw_g (lw_at lw_m11 62 rfl) rfl
theorem q2881 : (Jvm.Cond.selects "java/util/LinkedList" ({ cls := "java/util/List", name := "isEmpty", desc := "()Z" } : Jvm.MethodName) ({ cls := "java/util/AbstractCollection", name := "isEmpty", desc := "()Z" } : Jvm.MethodName)) ∈ lw_all := lw_g (lw_at lw_m12 137 rfl) rfl
theorem q2882 : (Jvm.Cond.unhidden "java/util/LinkedList" "isEmpty" "()Z") ∈ lw_tbl := lw_at lw_m12 138 rfl
theorem q2904 : (Jvm.Cond.selects "java/util/LinkedList" ({ cls := "java/util/List", name := "size", desc := "()I" } : Jvm.MethodName) ({ cls := "java/util/LinkedList", name := "size", desc := "()I" } : Jvm.MethodName)) ∈ lw_all := lw_g (lw_at lw_m12 160 rfl) rfl
theorem q2905 : (Jvm.Cond.unhidden "java/util/LinkedList" "size" "()I") ∈ lw_tbl := lw_at lw_m12 161 rfl
theorem q2906 : (Jvm.Cond.publicMethod ({ cls := "java/util/LinkedList", name := "size", desc := "()I" } : Jvm.MethodName)) ∈ lw_tbl := lw_at lw_m12 162 rfl
theorem q2975 : (Jvm.Cond.selects "java/util/LinkedList" ({ cls := "java/util/List", name := "add", desc := "(Ljava/lang/Object;)Z" } : Jvm.MethodName) ({ cls := "java/util/LinkedList", name := "add", desc := "(Ljava/lang/Object;)Z" } : Jvm.MethodName)) ∈ lw_all := lw_g (lw_at lw_m12 231 rfl) rfl
theorem q2976 : (Jvm.Cond.unhidden "java/util/LinkedList" "add" "(Ljava/lang/Object;)Z") ∈ lw_tbl := lw_at lw_m12 232 rfl
theorem q2977 : (Jvm.Cond.publicMethod ({ cls := "java/util/LinkedList", name := "add", desc := "(Ljava/lang/Object;)Z" } : Jvm.MethodName)) ∈ lw_tbl := lw_at lw_m12 233 rfl
theorem q3032 : (Jvm.Cond.selects "java/util/LinkedList" ({ cls := "java/util/List", name := "iterator", desc := "()Ljava/util/Iterator;" } : Jvm.MethodName) ({ cls := "java/util/AbstractSequentialList", name := "iterator", desc := "()Ljava/util/Iterator;" } : Jvm.MethodName)) ∈ lw_all := lw_g (lw_at lw_m13 48 rfl) rfl
theorem q3033 : (Jvm.Cond.unhidden "java/util/LinkedList" "iterator" "()Ljava/util/Iterator;") ∈ lw_tbl := lw_at lw_m13 49 rfl
theorem q3052 : (Jvm.Cond.selects "java/util/LinkedList" ({ cls := "java/util/List", name := "remove", desc := "(I)Ljava/lang/Object;" } : Jvm.MethodName) ({ cls := "java/util/LinkedList", name := "remove", desc := "(I)Ljava/lang/Object;" } : Jvm.MethodName)) ∈ lw_all := lw_g (lw_at lw_m13 68 rfl) rfl
theorem q3053 : (Jvm.Cond.unhidden "java/util/LinkedList" "remove" "(I)Ljava/lang/Object;") ∈ lw_tbl := lw_at lw_m13 69 rfl
theorem q3054 : (Jvm.Cond.publicMethod ({ cls := "java/util/LinkedList", name := "remove", desc := "(I)Ljava/lang/Object;" } : Jvm.MethodName)) ∈ lw_tbl := lw_at lw_m13 70 rfl
theorem q3076 : (Jvm.Cond.selects "java/util/LinkedList" ({ cls := "java/util/List", name := "clear", desc := "()V" } : Jvm.MethodName) ({ cls := "java/util/LinkedList", name := "clear", desc := "()V" } : Jvm.MethodName)) ∈ lw_all := lw_g (lw_at lw_m13 92 rfl) rfl
theorem q3077 : (Jvm.Cond.unhidden "java/util/LinkedList" "clear" "()V") ∈ lw_tbl := lw_at lw_m13 93 rfl
theorem q3078 : (Jvm.Cond.publicMethod ({ cls := "java/util/LinkedList", name := "clear", desc := "()V" } : Jvm.MethodName)) ∈ lw_tbl := lw_at lw_m13 94 rfl
theorem q3187 : (Jvm.Cond.unhidden "java/util/LinkedList" "getClass" "()Ljava/lang/Class;") ∈ lw_tbl := lw_at lw_m13 203 rfl
theorem q3619 : (Jvm.Cond.selects "java/util/LinkedList" ({ cls := "java/util/List", name := "remove", desc := "(Ljava/lang/Object;)Z" } : Jvm.MethodName) ({ cls := "java/util/LinkedList", name := "remove", desc := "(Ljava/lang/Object;)Z" } : Jvm.MethodName)) ∈ lw_all := lw_g (lw_at lw_m15 155 rfl) rfl
theorem q3620 : (Jvm.Cond.unhidden "java/util/LinkedList" "remove" "(Ljava/lang/Object;)Z") ∈ lw_tbl := lw_at lw_m15 156 rfl
theorem q3621 : (Jvm.Cond.publicMethod ({ cls := "java/util/LinkedList", name := "remove", desc := "(Ljava/lang/Object;)Z" } : Jvm.MethodName)) ∈ lw_tbl := lw_at lw_m15 157 rfl
theorem q3812 : (Jvm.Cond.selects "java/util/LinkedList" ({ cls := "java/util/AbstractCollection", name := "size", desc := "()I" } : Jvm.MethodName) ({ cls := "java/util/LinkedList", name := "size", desc := "()I" } : Jvm.MethodName)) ∈ lw_all := lw_g (lw_at lw_m16 108 rfl) rfl
theorem q3831 : (Jvm.Cond.castable "java/util/LinkedList" "java/lang/Object") ∈ lw_tbl := lw_at lw_m16 127 rfl
theorem in_J3 : ∀ w ∈ wsJ30, w ∈ lw_all := lw_in wsJ30 [223, 217, 219, 221] (by decide +kernel) (by decide +kernel)
def RJ4 : String := "java/lang/AbstractStringBuilder"
abbrev cJ4_init : ByteArray := prog_33_method_2_code
def yJ4_init : MethodName := ⟨RJ4, "<init>", "(I)V"⟩
abbrev cJ4_append : ByteArray := prog_33_method_22_code
def yJ4_append : MethodName := ⟨RJ4, "append", "(Ljava/lang/String;)Ljava/lang/AbstractStringBuilder;"⟩
abbrev cJ4_appendNull : ByteArray := prog_33_method_26_code
def yJ4_appendNull : MethodName := ⟨RJ4, "appendNull", "()Ljava/lang/AbstractStringBuilder;"⟩
abbrev cJ4_ensureCapacityInternal : ByteArray := prog_33_method_9_code
def yJ4_ensureCapacityInternal : MethodName := ⟨RJ4, "ensureCapacityInternal", "(I)V"⟩
abbrev cJ4_newCapacity : ByteArray := prog_33_method_10_code
def yJ4_newCapacity : MethodName := ⟨RJ4, "newCapacity", "(I)I"⟩
abbrev cJ4_isLatin1 : ByteArray := prog_33_method_68_code
def yJ4_isLatin1 : MethodName := ⟨RJ4, "isLatin1", "()Z"⟩
abbrev cJ4_putStringAt : ByteArray := prog_33_method_73_code
def yJ4_putStringAt : MethodName := ⟨RJ4, "putStringAt", "(ILjava/lang/String;)V"⟩
abbrev cJ4_inflateIfNeededFor : ByteArray := prog_33_method_71_code
def yJ4_inflateIfNeededFor : MethodName := ⟨RJ4, "inflateIfNeededFor", "(Ljava/lang/String;)V"⟩
abbrev cJ4_inflate : ByteArray := prog_33_method_11_code
def yJ4_inflate : MethodName := ⟨RJ4, "inflate", "()V"⟩
abbrev cJ4_append_2 : ByteArray := prog_33_method_32_code
def yJ4_append_2 : MethodName := ⟨RJ4, "append", "(I)Ljava/lang/AbstractStringBuilder;"⟩
abbrev cJ4_getValue : ByteArray := prog_33_method_64_code
def yJ4_getValue : MethodName := ⟨RJ4, "getValue", "()[B"⟩
abbrev cJ4_length : ByteArray := prog_33_method_6_code
def yJ4_length : MethodName := ⟨RJ4, "length", "()I"⟩
abbrev cJ4_append_3 : ByteArray := prog_33_method_31_code
def yJ4_append_3 : MethodName := ⟨RJ4, "append", "(C)Ljava/lang/AbstractStringBuilder;"⟩
abbrev cJ4_init_2 : ByteArray := prog_33_method_3_code
def yJ4_init_2 : MethodName := ⟨RJ4, "<init>", "(Ljava/lang/String;)V"⟩
abbrev cJ4_reverse : ByteArray := prog_33_method_60_code
def yJ4_reverse : MethodName := ⟨RJ4, "reverse", "()Ljava/lang/AbstractStringBuilder;"⟩
abbrev cJ4_substring : ByteArray := prog_33_method_40_code
def yJ4_substring : MethodName := ⟨RJ4, "substring", "(I)Ljava/lang/String;"⟩
abbrev cJ4_substring_2 : ByteArray := prog_33_method_42_code
def yJ4_substring_2 : MethodName := ⟨RJ4, "substring", "(II)Ljava/lang/String;"⟩
abbrev cJ4_append_4 : ByteArray := prog_33_method_29_code
def yJ4_append_4 : MethodName := ⟨RJ4, "append", "([CII)Ljava/lang/AbstractStringBuilder;"⟩
abbrev cJ4_appendChars : ByteArray := prog_33_method_74_code
def yJ4_appendChars : MethodName := ⟨RJ4, "appendChars", "([CII)V"⟩
abbrev cJ4_charAt : ByteArray := prog_33_method_14_code
def yJ4_charAt : MethodName := ⟨RJ4, "charAt", "(I)C"⟩
theorem q111 : (Jvm.Cond.initialized "java/lang/AbstractStringBuilder") ∈ lw_all := lw_g (lw_at lw_m1 7 rfl) rfl
theorem q240 : (Jvm.Cond.instanceMethod ({ cls := "java/lang/AbstractStringBuilder", name := "<init>", desc := "(I)V" } : Jvm.MethodName)) ∈ lw_all := lw_g (lw_at lw_m1 136 rfl) rfl
theorem q241 : (Jvm.Cond.code ({ cls := "java/lang/AbstractStringBuilder", name := "<init>", desc := "(I)V" } : Jvm.MethodName) prog_33_method_2_code (2 : Nat) (Option.none : Option Jvm.ClassFile.FieldType)) ∈ lw_all := lw_g (lw_at lw_m1 137 rfl) rfl
theorem q242 : (Jvm.Cond.methodLink "java/lang/AbstractStringBuilder" (3 : Nat) ({ cls := "java/lang/Object", name := "<init>", desc := "()V" } : Jvm.MethodName)) ∈ lw_all := lw_g (lw_at lw_m1 138 rfl) rfl
theorem q243 : (Jvm.Cond.fieldLink "java/lang/AbstractStringBuilder" (18 : Nat) "java/lang/String" "COMPACT_STRINGS" "Z") ∈ lw_all := lw_g (lw_at lw_m1 139 rfl) rfl
theorem q245 : (Jvm.Cond.methodLink "java/lang/AbstractStringBuilder" (26 : Nat) ({ cls := "java/lang/StringUTF16", name := "newBytesFor", desc := "(I)[B" } : Jvm.MethodName)) ∈ lw_all := lw_g (lw_at lw_m1 141 rfl) rfl
theorem q252 : (Jvm.Cond.fieldLink "java/lang/AbstractStringBuilder" (15 : Nat) "java/lang/AbstractStringBuilder" "value" "[B") ∈ lw_all := lw_g (lw_at lw_m1 148 rfl) rfl
theorem q253 : (Jvm.Cond.fieldLink "java/lang/AbstractStringBuilder" (22 : Nat) "java/lang/AbstractStringBuilder" "coder" "B") ∈ lw_all := lw_g (lw_at lw_m1 149 rfl) rfl
theorem q255 : (Jvm.Cond.fieldLink "java/lang/AbstractStringBuilder" (79 : Nat) "java/lang/AbstractStringBuilder" "count" "I") ∈ lw_all := lw_g (lw_at lw_m1 151 rfl) rfl
theorem q257 : (Jvm.Cond.soleField "java/lang/AbstractStringBuilder" "value") ∈ lw_all := lw_g (lw_at lw_m1 153 rfl) rfl
theorem q259 : (Jvm.Cond.soleField "java/lang/AbstractStringBuilder" "coder") ∈ lw_all := lw_g (lw_at lw_m1 155 rfl) rfl
theorem q261 : (Jvm.Cond.soleField "java/lang/AbstractStringBuilder" "maybeLatin1") ∈ lw_all := lw_g (lw_at lw_m1 157 rfl) rfl
theorem q263 : (Jvm.Cond.soleField "java/lang/AbstractStringBuilder" "count") ∈ lw_all := lw_g (lw_at lw_m1 159 rfl) rfl
theorem q343 : (Jvm.Cond.instanceMethod ({ cls := "java/lang/AbstractStringBuilder", name := "append", desc := "(Ljava/lang/String;)Ljava/lang/AbstractStringBuilder;" } : Jvm.MethodName)) ∈ lw_all := lw_g (lw_at lw_m1 239 rfl) rfl
theorem q344 : (Jvm.Cond.code ({ cls := "java/lang/AbstractStringBuilder", name := "append", desc := "(Ljava/lang/String;)Ljava/lang/AbstractStringBuilder;" } : Jvm.MethodName) prog_33_method_22_code (3 : Nat) (Option.some (Jvm.ClassFile.FieldType.object "java/lang/AbstractStringBuilder"))) ∈ lw_all := lw_g (lw_at lw_m2 0 rfl) rfl
theorem q345 : (Jvm.Cond.methodLink "java/lang/AbstractStringBuilder" (204 : Nat) ({ cls := "java/lang/AbstractStringBuilder", name := "appendNull", desc := "()Ljava/lang/AbstractStringBuilder;" } : Jvm.MethodName)) ∈ lw_all := lw_g (lw_at lw_m2 1 rfl) rfl
theorem q346 : (Jvm.Cond.privateMethod ({ cls := "java/lang/AbstractStringBuilder", name := "appendNull", desc := "()Ljava/lang/AbstractStringBuilder;" } : Jvm.MethodName)) ∈ lw_tbl := lw_at lw_m2 2 rfl
theorem q347 : (Jvm.Cond.instanceMethod ({ cls := "java/lang/AbstractStringBuilder", name := "appendNull", desc := "()Ljava/lang/AbstractStringBuilder;" } : Jvm.MethodName)) ∈ lw_all := lw_g (lw_at lw_m2 3 rfl) rfl
theorem q348 : (Jvm.Cond.code ({ cls := "java/lang/AbstractStringBuilder", name := "appendNull", desc := "()Ljava/lang/AbstractStringBuilder;" } : Jvm.MethodName) prog_33_method_26_code (3 : Nat) (Option.some (Jvm.ClassFile.FieldType.object "java/lang/AbstractStringBuilder"))) ∈ lw_all := lw_g (lw_at lw_m2 4 rfl) rfl
theorem q349 : (Jvm.Cond.methodLink "java/lang/AbstractStringBuilder" (100 : Nat) ({ cls := "java/lang/AbstractStringBuilder", name := "ensureCapacityInternal", desc := "(I)V" } : Jvm.MethodName)) ∈ lw_all := lw_g (lw_at lw_m2 5 rfl) rfl
theorem q350 : (Jvm.Cond.privateMethod ({ cls := "java/lang/AbstractStringBuilder", name := "ensureCapacityInternal", desc := "(I)V" } : Jvm.MethodName)) ∈ lw_tbl := lw_at lw_m2 6 rfl
theorem q351 : (Jvm.Cond.instanceMethod ({ cls := "java/lang/AbstractStringBuilder", name := "ensureCapacityInternal", desc := "(I)V" } : Jvm.MethodName)) ∈ lw_all := lw_g (lw_at lw_m2 7 rfl) rfl
theorem q352 : (Jvm.Cond.code ({ cls := "java/lang/AbstractStringBuilder", name := "ensureCapacityInternal", desc := "(I)V" } : Jvm.MethodName) prog_33_method_9_code (3 : Nat) (Option.none : Option Jvm.ClassFile.FieldType)) ∈ lw_all := lw_g (lw_at lw_m2 8 rfl) rfl
theorem q353 : (Jvm.Cond.methodLink "java/lang/AbstractStringBuilder" (104 : Nat) ({ cls := "java/lang/AbstractStringBuilder", name := "newCapacity", desc := "(I)I" } : Jvm.MethodName)) ∈ lw_all := lw_g (lw_at lw_m2 9 rfl) rfl
theorem q354 : (Jvm.Cond.privateMethod ({ cls := "java/lang/AbstractStringBuilder", name := "newCapacity", desc := "(I)I" } : Jvm.MethodName)) ∈ lw_tbl := lw_at lw_m2 10 rfl
theorem q355 : (Jvm.Cond.instanceMethod ({ cls := "java/lang/AbstractStringBuilder", name := "newCapacity", desc := "(I)I" } : Jvm.MethodName)) ∈ lw_all := lw_g (lw_at lw_m2 11 rfl) rfl
theorem q356 : (Jvm.Cond.code ({ cls := "java/lang/AbstractStringBuilder", name := "newCapacity", desc := "(I)I" } : Jvm.MethodName) prog_33_method_10_code (6 : Nat) (Option.some Jvm.ClassFile.FieldType.int)) ∈ lw_all := lw_g (lw_at lw_m2 12 rfl) rfl
theorem q357 : (Jvm.Cond.methodLink "java/lang/AbstractStringBuilder" (114 : Nat) ({ cls := "jdk/internal/util/ArraysSupport", name := "newLength", desc := "(III)I" } : Jvm.MethodName)) ∈ lw_all := lw_g (lw_at lw_m2 13 rfl) rfl
theorem q367 : (Jvm.Cond.constant "java/lang/AbstractStringBuilder" (39 : Nat) (2147483647 : Int32)) ∈ lw_all := lw_g (lw_at lw_m2 23 rfl) rfl
theorem q368 : (Jvm.Cond.methodLink "java/lang/AbstractStringBuilder" (108 : Nat) ({ cls := "java/util/Arrays", name := "copyOf", desc := "([BI)[B" } : Jvm.MethodName)) ∈ lw_all := lw_g (lw_at lw_m2 24 rfl) rfl
theorem q384 : (Jvm.Cond.methodLink "java/lang/AbstractStringBuilder" (83 : Nat) ({ cls := "java/lang/AbstractStringBuilder", name := "isLatin1", desc := "()Z" } : Jvm.MethodName)) ∈ lw_all := lw_g (lw_at lw_m2 40 rfl) rfl
theorem q385 : (Jvm.Cond.instanceMethod ({ cls := "java/lang/AbstractStringBuilder", name := "isLatin1", desc := "()Z" } : Jvm.MethodName)) ∈ lw_all := lw_g (lw_at lw_m2 41 rfl) rfl
theorem q386 : (Jvm.Cond.sameMethod "java/lang/AbstractStringBuilder" "java/lang/AbstractStringBuilder" "isLatin1" "()Z") ∈ lw_all := lw_g (lw_at lw_m2 42 rfl) rfl
theorem q388 : (Jvm.Cond.code ({ cls := "java/lang/AbstractStringBuilder", name := "isLatin1", desc := "()Z" } : Jvm.MethodName) prog_33_method_68_code (1 : Nat) (Option.some Jvm.ClassFile.FieldType.boolean)) ∈ lw_all := lw_g (lw_at lw_m2 44 rfl) rfl
theorem q389 : (Jvm.Cond.methodLink "java/lang/AbstractStringBuilder" (226 : Nat) ({ cls := "java/lang/StringUTF16", name := "putCharsAt", desc := "([BICCCC)I" } : Jvm.MethodName)) ∈ lw_all := lw_g (lw_at lw_m2 45 rfl) rfl
theorem q415 : (Jvm.Cond.methodLink "java/lang/AbstractStringBuilder" (32 : Nat) ({ cls := "java/lang/String", name := "length", desc := "()I" } : Jvm.MethodName)) ∈ lw_all := lw_g (lw_at lw_m2 71 rfl) rfl
theorem q424 : (Jvm.Cond.methodLink "java/lang/AbstractStringBuilder" (208 : Nat) ({ cls := "java/lang/AbstractStringBuilder", name := "putStringAt", desc := "(ILjava/lang/String;)V" } : Jvm.MethodName)) ∈ lw_all := lw_g (lw_at lw_m2 80 rfl) rfl
theorem q425 : (Jvm.Cond.privateMethod ({ cls := "java/lang/AbstractStringBuilder", name := "putStringAt", desc := "(ILjava/lang/String;)V" } : Jvm.MethodName)) ∈ lw_tbl := lw_at lw_m2 81 rfl
theorem q426 : (Jvm.Cond.instanceMethod ({ cls := "java/lang/AbstractStringBuilder", name := "putStringAt", desc := "(ILjava/lang/String;)V" } : Jvm.MethodName)) ∈ lw_all := lw_g (lw_at lw_m2 82 rfl) rfl
theorem q427 : (Jvm.Cond.code ({ cls := "java/lang/AbstractStringBuilder", name := "putStringAt", desc := "(ILjava/lang/String;)V" } : Jvm.MethodName) prog_33_method_73_code (3 : Nat) (Option.none : Option Jvm.ClassFile.FieldType)) ∈ lw_all := lw_g (lw_at lw_m2 83 rfl) rfl
theorem q428 : (Jvm.Cond.methodLink "java/lang/AbstractStringBuilder" (397 : Nat) ({ cls := "java/lang/AbstractStringBuilder", name := "inflateIfNeededFor", desc := "(Ljava/lang/String;)V" } : Jvm.MethodName)) ∈ lw_all := lw_g (lw_at lw_m2 84 rfl) rfl
theorem q429 : (Jvm.Cond.privateMethod ({ cls := "java/lang/AbstractStringBuilder", name := "inflateIfNeededFor", desc := "(Ljava/lang/String;)V" } : Jvm.MethodName)) ∈ lw_tbl := lw_at lw_m2 85 rfl
theorem q430 : (Jvm.Cond.instanceMethod ({ cls := "java/lang/AbstractStringBuilder", name := "inflateIfNeededFor", desc := "(Ljava/lang/String;)V" } : Jvm.MethodName)) ∈ lw_all := lw_g (lw_at lw_m2 86 rfl) rfl
theorem q431 : (Jvm.Cond.code ({ cls := "java/lang/AbstractStringBuilder", name := "inflateIfNeededFor", desc := "(Ljava/lang/String;)V" } : Jvm.MethodName) prog_33_method_71_code (2 : Nat) (Option.none : Option Jvm.ClassFile.FieldType)) ∈ lw_all := lw_g (lw_at lw_m2 87 rfl) rfl
theorem q432 : (Jvm.Cond.methodLink "java/lang/AbstractStringBuilder" (40 : Nat) ({ cls := "java/lang/String", name := "coder", desc := "()B" } : Jvm.MethodName)) ∈ lw_all := lw_g (lw_at lw_m2 88 rfl) rfl
theorem q433 : (Jvm.Cond.methodLink "java/lang/AbstractStringBuilder" (195 : Nat) ({ cls := "java/lang/AbstractStringBuilder", name := "inflate", desc := "()V" } : Jvm.MethodName)) ∈ lw_all := lw_g (lw_at lw_m2 89 rfl) rfl
theorem q434 : (Jvm.Cond.privateMethod ({ cls := "java/lang/AbstractStringBuilder", name := "inflate", desc := "()V" } : Jvm.MethodName)) ∈ lw_tbl := lw_at lw_m2 90 rfl
theorem q435 : (Jvm.Cond.instanceMethod ({ cls := "java/lang/AbstractStringBuilder", name := "inflate", desc := "()V" } : Jvm.MethodName)) ∈ lw_all := lw_g (lw_at lw_m2 91 rfl) rfl
theorem q436 : (Jvm.Cond.code ({ cls := "java/lang/AbstractStringBuilder", name := "inflate", desc := "()V" } : Jvm.MethodName) prog_33_method_11_code (2 : Nat) (Option.none : Option Jvm.ClassFile.FieldType)) ∈ lw_all := lw_g (lw_at lw_m2 92 rfl) rfl
theorem q437 : (Jvm.Cond.methodLink "java/lang/AbstractStringBuilder" (125 : Nat) ({ cls := "java/lang/StringLatin1", name := "inflate", desc := "([BI[BII)V" } : Jvm.MethodName)) ∈ lw_all := lw_g (lw_at lw_m2 93 rfl) rfl
theorem q452 : (Jvm.Cond.methodLink "java/lang/AbstractStringBuilder" (399 : Nat) ({ cls := "java/lang/String", name := "getBytes", desc := "([BIB)V" } : Jvm.MethodName)) ∈ lw_all := lw_g (lw_at lw_m2 108 rfl) rfl
theorem q463 : (Jvm.Cond.instanceMethod ({ cls := "java/lang/AbstractStringBuilder", name := "append", desc := "(I)Ljava/lang/AbstractStringBuilder;" } : Jvm.MethodName)) ∈ lw_all := lw_g (lw_at lw_m2 119 rfl) rfl
theorem q464 : (Jvm.Cond.code ({ cls := "java/lang/AbstractStringBuilder", name := "append", desc := "(I)Ljava/lang/AbstractStringBuilder;" } : Jvm.MethodName) prog_33_method_32_code (4 : Nat) (Option.some (Jvm.ClassFile.FieldType.object "java/lang/AbstractStringBuilder"))) ∈ lw_all := lw_g (lw_at lw_m2 120 rfl) rfl
theorem q465 : (Jvm.Cond.methodLink "java/lang/AbstractStringBuilder" (245 : Nat) ({ cls := "java/lang/Integer", name := "stringSize", desc := "(I)I" } : Jvm.MethodName)) ∈ lw_all := lw_g (lw_at lw_m2 121 rfl) rfl
theorem q468 : (Jvm.Cond.methodLink "java/lang/AbstractStringBuilder" (248 : Nat) ({ cls := "java/lang/Integer", name := "getChars", desc := "(II[B)I" } : Jvm.MethodName)) ∈ lw_all := lw_g (lw_at lw_m2 124 rfl) rfl
theorem q475 : (Jvm.Cond.methodLink "java/lang/AbstractStringBuilder" (251 : Nat) ({ cls := "java/lang/StringUTF16", name := "getChars", desc := "(III[B)I" } : Jvm.MethodName)) ∈ lw_all := lw_g (lw_at lw_m2 131 rfl) rfl
theorem q497 : (Jvm.Cond.instanceMethod ({ cls := "java/lang/AbstractStringBuilder", name := "getValue", desc := "()[B" } : Jvm.MethodName)) ∈ lw_all := lw_g (lw_at lw_m2 153 rfl) rfl
theorem q498 : (Jvm.Cond.sameMethod "java/lang/AbstractStringBuilder" "java/lang/AbstractStringBuilder" "getValue" "()[B") ∈ lw_all := lw_g (lw_at lw_m2 154 rfl) rfl
theorem q500 : (Jvm.Cond.code ({ cls := "java/lang/AbstractStringBuilder", name := "getValue", desc := "()[B" } : Jvm.MethodName) prog_33_method_64_code (1 : Nat) (Option.some (Jvm.ClassFile.FieldType.array Jvm.ClassFile.FieldType.byte))) ∈ lw_all := lw_g (lw_at lw_m2 156 rfl) rfl
theorem q502 : (Jvm.Cond.instanceMethod ({ cls := "java/lang/AbstractStringBuilder", name := "length", desc := "()I" } : Jvm.MethodName)) ∈ lw_all := lw_g (lw_at lw_m2 158 rfl) rfl
theorem q503 : (Jvm.Cond.sameMethod "java/lang/AbstractStringBuilder" "java/lang/AbstractStringBuilder" "length" "()I") ∈ lw_all := lw_g (lw_at lw_m2 159 rfl) rfl
theorem q508 : (Jvm.Cond.code ({ cls := "java/lang/AbstractStringBuilder", name := "length", desc := "()I" } : Jvm.MethodName) prog_33_method_6_code (1 : Nat) (Option.some Jvm.ClassFile.FieldType.int)) ∈ lw_all := lw_g (lw_at lw_m2 164 rfl) rfl
theorem q890 : (Jvm.Cond.instanceMethod ({ cls := "java/lang/AbstractStringBuilder", name := "append", desc := "(C)Ljava/lang/AbstractStringBuilder;" } : Jvm.MethodName)) ∈ lw_all := lw_g (lw_at lw_m4 66 rfl) rfl
theorem q891 : (Jvm.Cond.code ({ cls := "java/lang/AbstractStringBuilder", name := "append", desc := "(C)Ljava/lang/AbstractStringBuilder;" } : Jvm.MethodName) prog_33_method_31_code (2 : Nat) (Option.some (Jvm.ClassFile.FieldType.object "java/lang/AbstractStringBuilder"))) ∈ lw_all := lw_g (lw_at lw_m4 67 rfl) rfl
theorem q892 : (Jvm.Cond.methodLink "java/lang/AbstractStringBuilder" (191 : Nat) ({ cls := "java/lang/StringLatin1", name := "canEncode", desc := "(C)Z" } : Jvm.MethodName)) ∈ lw_all := lw_g (lw_at lw_m4 68 rfl) rfl
theorem q895 : (Jvm.Cond.methodLink "java/lang/AbstractStringBuilder" (197 : Nat) ({ cls := "java/lang/StringUTF16", name := "putCharSB", desc := "([BII)V" } : Jvm.MethodName)) ∈ lw_all := lw_g (lw_at lw_m4 71 rfl) rfl
theorem q2322 : (Jvm.Cond.instanceMethod ({ cls := "java/lang/AbstractStringBuilder", name := "<init>", desc := "(Ljava/lang/String;)V" } : Jvm.MethodName)) ∈ lw_all := lw_g (lw_at lw_m10 58 rfl) rfl
theorem q2323 : (Jvm.Cond.code ({ cls := "java/lang/AbstractStringBuilder", name := "<init>", desc := "(Ljava/lang/String;)V" } : Jvm.MethodName) prog_33_method_3_code (5 : Nat) (Option.none : Option Jvm.ClassFile.FieldType)) ∈ lw_all := lw_g (lw_at lw_m10 59 rfl) rfl
theorem q2324 : (Jvm.Cond.constant "java/lang/AbstractStringBuilder" (38 : Nat) (2147483631 : Int32)) ∈ lw_all := lw_g (lw_at lw_m10 60 rfl) rfl
theorem q2325 : (Jvm.Cond.methodLink "java/lang/AbstractStringBuilder" (43 : Nat) ({ cls := "java/lang/AbstractStringBuilder", name := "append", desc := "(Ljava/lang/String;)Ljava/lang/AbstractStringBuilder;" } : Jvm.MethodName)) ∈ lw_all := lw_g (lw_at lw_m10 61 rfl) rfl
theorem q2334 : (Jvm.Cond.instanceMethod ({ cls := "java/lang/AbstractStringBuilder", name := "reverse", desc := "()Ljava/lang/AbstractStringBuilder;" } : Jvm.MethodName)) ∈ lw_all := lw_g (lw_at lw_m10 70 rfl) rfl
theorem q2335 : (Jvm.Cond.code ({ cls := "java/lang/AbstractStringBuilder", name := "reverse", desc := "()Ljava/lang/AbstractStringBuilder;" } : Jvm.MethodName) prog_33_method_60_code (7 : Nat) (Option.some (Jvm.ClassFile.FieldType.object "java/lang/AbstractStringBuilder"))) ∈ lw_all := lw_g (lw_at lw_m10 71 rfl) rfl
theorem q2336 : (Jvm.Cond.methodLink "java/lang/AbstractStringBuilder" (358 : Nat) ({ cls := "java/lang/StringUTF16", name := "reverse", desc := "([BI)V" } : Jvm.MethodName)) ∈ lw_all := lw_g (lw_at lw_m10 72 rfl) rfl
theorem q2504 : (Jvm.Cond.instanceMethod ({ cls := "java/lang/AbstractStringBuilder", name := "substring", desc := "(I)Ljava/lang/String;" } : Jvm.MethodName)) ∈ lw_all := lw_g (lw_at lw_m11 0 rfl) rfl
theorem q2505 : (Jvm.Cond.code ({ cls := "java/lang/AbstractStringBuilder", name := "substring", desc := "(I)Ljava/lang/String;" } : Jvm.MethodName) prog_33_method_40_code (2 : Nat) (Option.some (Jvm.ClassFile.FieldType.object "java/lang/String"))) ∈ lw_all := lw_g (lw_at lw_m11 1 rfl) rfl
theorem q2506 : (Jvm.Cond.methodLink "java/lang/AbstractStringBuilder" (300 : Nat) ({ cls := "java/lang/AbstractStringBuilder", name := "substring", desc := "(II)Ljava/lang/String;" } : Jvm.MethodName)) ∈ lw_all := lw_g (lw_at lw_m11 2 rfl) rfl
theorem q2507 : (Jvm.Cond.instanceMethod ({ cls := "java/lang/AbstractStringBuilder", name := "substring", desc := "(II)Ljava/lang/String;" } : Jvm.MethodName)) ∈ lw_all := lw_g (lw_at lw_m11 3 rfl) rfl
theorem q2508 : (Jvm.Cond.sameMethod "java/lang/AbstractStringBuilder" "java/lang/AbstractStringBuilder" "substring" "(II)Ljava/lang/String;") ∈ lw_all := lw_g (lw_at lw_m11 4 rfl) rfl
theorem q2513 : (Jvm.Cond.code ({ cls := "java/lang/AbstractStringBuilder", name := "substring", desc := "(II)Ljava/lang/String;" } : Jvm.MethodName) prog_33_method_42_code (3 : Nat) (Option.some (Jvm.ClassFile.FieldType.object "java/lang/String"))) ∈ lw_all := lw_g (lw_at lw_m11 9 rfl) rfl
theorem q2514 : (Jvm.Cond.fieldLink "java/lang/AbstractStringBuilder" (179 : Nat) "jdk/internal/util/Preconditions" "SIOOBE_FORMATTER" "Ljava/util/function/BiFunction;") ∈ lw_all := lw_g (lw_at lw_m11 10 rfl) rfl
theorem q2515 : (Jvm.Cond.methodLink "java/lang/AbstractStringBuilder" (161 : Nat) ({ cls := "jdk/internal/util/Preconditions", name := "checkFromToIndex", desc := "(IIILjava/util/function/BiFunction;)I" } : Jvm.MethodName)) ∈ lw_all := lw_g (lw_at lw_m11 11 rfl) rfl
theorem q2516 : (Jvm.Cond.methodLink "java/lang/AbstractStringBuilder" (304 : Nat) ({ cls := "java/lang/StringLatin1", name := "newString", desc := "([BII)Ljava/lang/String;" } : Jvm.MethodName)) ∈ lw_all := lw_g (lw_at lw_m11 12 rfl) rfl
theorem q2517 : (Jvm.Cond.methodLink "java/lang/AbstractStringBuilder" (308 : Nat) ({ cls := "java/lang/StringUTF16", name := "newString", desc := "([BII)Ljava/lang/String;" } : Jvm.MethodName)) ∈ lw_all := lw_g (lw_at lw_m11 13 rfl) rfl
theorem q3352 : (Jvm.Cond.instanceMethod ({ cls := "java/lang/AbstractStringBuilder", name := "append", desc := "([CII)Ljava/lang/AbstractStringBuilder;" } : Jvm.MethodName)) ∈ lw_all := lw_g (lw_at lw_m14 128 rfl) rfl
theorem q3353 : (Jvm.Cond.code ({ cls := "java/lang/AbstractStringBuilder", name := "append", desc := "([CII)Ljava/lang/AbstractStringBuilder;" } : Jvm.MethodName) prog_33_method_29_code (5 : Nat) (Option.some (Jvm.ClassFile.FieldType.object "java/lang/AbstractStringBuilder"))) ∈ lw_all := lw_g (lw_at lw_m14 129 rfl) rfl
theorem q3354 : (Jvm.Cond.fieldLink "java/lang/AbstractStringBuilder" (183 : Nat) "jdk/internal/util/Preconditions" "IOOBE_FORMATTER" "Ljava/util/function/BiFunction;") ∈ lw_all := lw_g (lw_at lw_m14 130 rfl) rfl
theorem q3356 : (Jvm.Cond.methodLink "java/lang/AbstractStringBuilder" (239 : Nat) ({ cls := "java/lang/AbstractStringBuilder", name := "appendChars", desc := "([CII)V" } : Jvm.MethodName)) ∈ lw_all := lw_g (lw_at lw_m14 132 rfl) rfl
theorem q3357 : (Jvm.Cond.privateMethod ({ cls := "java/lang/AbstractStringBuilder", name := "appendChars", desc := "([CII)V" } : Jvm.MethodName)) ∈ lw_tbl := lw_at lw_m14 133 rfl
theorem q3358 : (Jvm.Cond.instanceMethod ({ cls := "java/lang/AbstractStringBuilder", name := "appendChars", desc := "([CII)V" } : Jvm.MethodName)) ∈ lw_all := lw_g (lw_at lw_m14 134 rfl) rfl
theorem q3359 : (Jvm.Cond.code ({ cls := "java/lang/AbstractStringBuilder", name := "appendChars", desc := "([CII)V" } : Jvm.MethodName) prog_33_method_74_code (9 : Nat) (Option.none : Option Jvm.ClassFile.FieldType)) ∈ lw_all := lw_g (lw_at lw_m14 135 rfl) rfl
theorem q3360 : (Jvm.Cond.methodLink "java/lang/AbstractStringBuilder" (386 : Nat) ({ cls := "java/lang/StringUTF16", name := "putCharsSB", desc := "([BI[CII)V" } : Jvm.MethodName)) ∈ lw_all := lw_g (lw_at lw_m14 136 rfl) rfl
theorem q3760 : (Jvm.Cond.instanceMethod ({ cls := "java/lang/AbstractStringBuilder", name := "charAt", desc := "(I)C" } : Jvm.MethodName)) ∈ lw_all := lw_g (lw_at lw_m16 56 rfl) rfl
theorem q3761 : (Jvm.Cond.code ({ cls := "java/lang/AbstractStringBuilder", name := "charAt", desc := "(I)C" } : Jvm.MethodName) prog_33_method_14_code (5 : Nat) (Option.some Jvm.ClassFile.FieldType.char)) ∈ lw_all := lw_g (lw_at lw_m16 57 rfl) rfl
theorem q3762 : (Jvm.Cond.methodLink "java/lang/AbstractStringBuilder" (138 : Nat) ({ cls := "java/lang/Math", name := "min", desc := "(II)I" } : Jvm.MethodName)) ∈ lw_all := lw_g (lw_at lw_m16 58 rfl) rfl
theorem q3763 : (Jvm.Cond.methodLink "java/lang/AbstractStringBuilder" (144 : Nat) ({ cls := "java/lang/String", name := "checkIndex", desc := "(II)V" } : Jvm.MethodName)) ∈ lw_all := lw_g (lw_at lw_m16 59 rfl) rfl
theorem q3764 : (Jvm.Cond.methodLink "java/lang/AbstractStringBuilder" (148 : Nat) ({ cls := "java/lang/StringUTF16", name := "getChar", desc := "([BI)C" } : Jvm.MethodName)) ∈ lw_all := lw_g (lw_at lw_m16 60 rfl) rfl
theorem q3790 : (Jvm.Cond.sameMethod "java/lang/AbstractStringBuilder" "java/lang/AbstractStringBuilder" "append" "(Ljava/lang/String;)Ljava/lang/AbstractStringBuilder;") ∈ lw_all := lw_g (lw_at lw_m16 86 rfl) rfl
theorem q3791 : (Jvm.Cond.sameMethod "java/lang/AbstractStringBuilder" "java/lang/AbstractStringBuilder" "appendNull" "()Ljava/lang/AbstractStringBuilder;") ∈ lw_all := lw_g (lw_at lw_m16 87 rfl) rfl
theorem q3792 : (Jvm.Cond.sameMethod "java/lang/AbstractStringBuilder" "java/lang/AbstractStringBuilder" "ensureCapacityInternal" "(I)V") ∈ lw_all := lw_g (lw_at lw_m16 88 rfl) rfl
theorem q3793 : (Jvm.Cond.sameMethod "java/lang/AbstractStringBuilder" "java/lang/AbstractStringBuilder" "newCapacity" "(I)I") ∈ lw_all := lw_g (lw_at lw_m16 89 rfl) rfl
theorem q3794 : (Jvm.Cond.sameMethod "java/lang/AbstractStringBuilder" "java/lang/AbstractStringBuilder" "putStringAt" "(ILjava/lang/String;)V") ∈ lw_all := lw_g (lw_at lw_m16 90 rfl) rfl
theorem q3795 : (Jvm.Cond.sameMethod "java/lang/AbstractStringBuilder" "java/lang/AbstractStringBuilder" "inflateIfNeededFor" "(Ljava/lang/String;)V") ∈ lw_all := lw_g (lw_at lw_m16 91 rfl) rfl
theorem q3796 : (Jvm.Cond.sameMethod "java/lang/AbstractStringBuilder" "java/lang/AbstractStringBuilder" "inflate" "()V") ∈ lw_all := lw_g (lw_at lw_m16 92 rfl) rfl
theorem q3797 : (Jvm.Cond.sameMethod "java/lang/AbstractStringBuilder" "java/lang/AbstractStringBuilder" "append" "(I)Ljava/lang/AbstractStringBuilder;") ∈ lw_all := lw_g (lw_at lw_m16 93 rfl) rfl
theorem q3798 : (Jvm.Cond.sameMethod "java/lang/AbstractStringBuilder" "java/lang/AbstractStringBuilder" "append" "(C)Ljava/lang/AbstractStringBuilder;") ∈ lw_all := lw_g (lw_at lw_m16 94 rfl) rfl
theorem q3805 : (Jvm.Cond.sameMethod "java/lang/AbstractStringBuilder" "java/lang/AbstractStringBuilder" "reverse" "()Ljava/lang/AbstractStringBuilder;") ∈ lw_all := lw_g (lw_at lw_m16 101 rfl) rfl
theorem q3806 : (Jvm.Cond.sameMethod "java/lang/AbstractStringBuilder" "java/lang/AbstractStringBuilder" "substring" "(I)Ljava/lang/String;") ∈ lw_all := lw_g (lw_at lw_m16 102 rfl) rfl
theorem q3813 : (Jvm.Cond.sameMethod "java/lang/AbstractStringBuilder" "java/lang/AbstractStringBuilder" "append" "([CII)Ljava/lang/AbstractStringBuilder;") ∈ lw_all := lw_g (lw_at lw_m16 109 rfl) rfl
theorem q3814 : (Jvm.Cond.sameMethod "java/lang/AbstractStringBuilder" "java/lang/AbstractStringBuilder" "appendChars" "([CII)V") ∈ lw_all := lw_g (lw_at lw_m16 110 rfl) rfl
theorem q3815 : (Jvm.Cond.sameMethod "java/lang/AbstractStringBuilder" "java/lang/AbstractStringBuilder" "charAt" "(I)C") ∈ lw_all := lw_g (lw_at lw_m16 111 rfl) rfl
def RJ5 : String := "java/lang/StringBuilder"
def TJ5 : u_T := fun k => match k with
  | 0 => ("java/lang/AbstractStringBuilder", "value", "[B", false)
  | 1 => ("java/lang/AbstractStringBuilder", "coder", "B", false)
  | 2 => ("java/lang/AbstractStringBuilder", "maybeLatin1", "Z", false)
  | _ => ("java/lang/AbstractStringBuilder", "count", "I", false)
def tyJ5 : Nat → FieldType := fun k => match k with
  | 0 => .array .byte
  | 1 => .byte
  | 2 => .boolean
  | _ => .int
abbrev wsJ50 : List Cond := u_ws RJ5 TJ5 4
theorem nmJ5 : ∀ a, a < 4 → ∀ b, b < 4 → a ≠ b → (TJ5 a).2.1 ≠ (TJ5 b).2.1 := by decide +kernel
theorem tyJ5_ok : ∀ k, k < 4 → parseFieldDescriptor (TJ5 k).2.2.1 = some (tyJ5 k) := by decide +kernel
abbrev cJ5_init : ByteArray := prog_53_method_1_code
def yJ5_init : MethodName := ⟨RJ5, "<init>", "()V"⟩
abbrev cJ5_append : ByteArray := prog_53_method_7_code
def yJ5_append : MethodName := ⟨RJ5, "append", "(Ljava/lang/String;)Ljava/lang/StringBuilder;"⟩
abbrev cJ5_append_2 : ByteArray := prog_53_method_15_code
def yJ5_append_2 : MethodName := ⟨RJ5, "append", "(I)Ljava/lang/StringBuilder;"⟩
abbrev cJ5_toString : ByteArray := prog_53_method_42_code
def yJ5_toString : MethodName := ⟨RJ5, "toString", "()Ljava/lang/String;"⟩
abbrev cJ5_length : ByteArray := prog_53_method_93_code
def yJ5_length : MethodName := ⟨RJ5, "length", "()I"⟩
abbrev cJ5_append_3 : ByteArray := prog_53_method_14_code
def yJ5_append_3 : MethodName := ⟨RJ5, "append", "(C)Ljava/lang/StringBuilder;"⟩
abbrev cJ5_init_2 : ByteArray := prog_53_method_3_code
def yJ5_init_2 : MethodName := ⟨RJ5, "<init>", "(Ljava/lang/String;)V"⟩
abbrev cJ5_append_4 : ByteArray := prog_53_method_80_code
def yJ5_append_4 : MethodName := ⟨RJ5, "append", "(Ljava/lang/String;)Ljava/lang/AbstractStringBuilder;"⟩
abbrev cJ5_reverse : ByteArray := prog_53_method_39_code
def yJ5_reverse : MethodName := ⟨RJ5, "reverse", "()Ljava/lang/StringBuilder;"⟩
abbrev cJ5_substring : ByteArray := prog_53_method_64_code
def yJ5_substring : MethodName := ⟨RJ5, "substring", "(I)Ljava/lang/String;"⟩
abbrev cJ5_substring_2 : ByteArray := prog_53_method_62_code
def yJ5_substring_2 : MethodName := ⟨RJ5, "substring", "(II)Ljava/lang/String;"⟩
abbrev cJ5_append_5 : ByteArray := prog_53_method_12_code
def yJ5_append_5 : MethodName := ⟨RJ5, "append", "([CII)Ljava/lang/StringBuilder;"⟩
abbrev cJ5_charAt : ByteArray := prog_53_method_88_code
def yJ5_charAt : MethodName := ⟨RJ5, "charAt", "(I)C"⟩
theorem q112 : (Jvm.Cond.initialized "java/lang/StringBuilder") ∈ lw_all := lw_g (lw_at lw_m1 8 rfl) rfl
theorem q235 : (Jvm.Cond.instantiable "java/lang/StringBuilder" (4 : Nat)) ∈ lw_all := lw_g (lw_at lw_m1 131 rfl) rfl
theorem q237 : (Jvm.Cond.instanceMethod ({ cls := "java/lang/StringBuilder", name := "<init>", desc := "()V" } : Jvm.MethodName)) ∈ lw_all := lw_g (lw_at lw_m1 133 rfl) rfl
theorem q238 : (Jvm.Cond.code ({ cls := "java/lang/StringBuilder", name := "<init>", desc := "()V" } : Jvm.MethodName) prog_53_method_1_code (1 : Nat) (Option.none : Option Jvm.ClassFile.FieldType)) ∈ lw_all := lw_g (lw_at lw_m1 134 rfl) rfl
theorem q239 : (Jvm.Cond.methodLink "java/lang/StringBuilder" (1 : Nat) ({ cls := "java/lang/AbstractStringBuilder", name := "<init>", desc := "(I)V" } : Jvm.MethodName)) ∈ lw_all := lw_g (lw_at lw_m1 135 rfl) rfl
theorem q256 : (Jvm.Cond.lays "java/lang/StringBuilder" "java/lang/AbstractStringBuilder" "value" "[B") ∈ lw_all := lw_g (lw_at lw_m1 152 rfl) rfl
theorem q258 : (Jvm.Cond.lays "java/lang/StringBuilder" "java/lang/AbstractStringBuilder" "coder" "B") ∈ lw_all := lw_g (lw_at lw_m1 154 rfl) rfl
theorem q260 : (Jvm.Cond.lays "java/lang/StringBuilder" "java/lang/AbstractStringBuilder" "maybeLatin1" "Z") ∈ lw_all := lw_g (lw_at lw_m1 156 rfl) rfl
theorem q262 : (Jvm.Cond.lays "java/lang/StringBuilder" "java/lang/AbstractStringBuilder" "count" "I") ∈ lw_all := lw_g (lw_at lw_m1 158 rfl) rfl
theorem q264 : (Jvm.Cond.superclass "java/lang/StringBuilder" "java/lang/AbstractStringBuilder") ∈ lw_all := lw_g (lw_at lw_m1 160 rfl) rfl
theorem q339 : (Jvm.Cond.instanceMethod ({ cls := "java/lang/StringBuilder", name := "append", desc := "(Ljava/lang/String;)Ljava/lang/StringBuilder;" } : Jvm.MethodName)) ∈ lw_all := lw_g (lw_at lw_m1 235 rfl) rfl
theorem q340 : (Jvm.Cond.selects "java/lang/StringBuilder" ({ cls := "java/lang/StringBuilder", name := "append", desc := "(Ljava/lang/String;)Ljava/lang/StringBuilder;" } : Jvm.MethodName) ({ cls := "java/lang/StringBuilder", name := "append", desc := "(Ljava/lang/String;)Ljava/lang/StringBuilder;" } : Jvm.MethodName)) ∈ lw_all := lw_g (lw_at lw_m1 236 rfl) rfl
theorem q341 : (Jvm.Cond.code ({ cls := "java/lang/StringBuilder", name := "append", desc := "(Ljava/lang/String;)Ljava/lang/StringBuilder;" } : Jvm.MethodName) prog_53_method_7_code (2 : Nat) (Option.some (Jvm.ClassFile.FieldType.object "java/lang/StringBuilder"))) ∈ lw_all := lw_g (lw_at lw_m1 237 rfl) rfl
theorem q342 : (Jvm.Cond.methodLink "java/lang/StringBuilder" (29 : Nat) ({ cls := "java/lang/AbstractStringBuilder", name := "append", desc := "(Ljava/lang/String;)Ljava/lang/AbstractStringBuilder;" } : Jvm.MethodName)) ∈ lw_all := lw_g (lw_at lw_m1 238 rfl) rfl
theorem q387 : (Jvm.Cond.selects "java/lang/StringBuilder" ({ cls := "java/lang/AbstractStringBuilder", name := "isLatin1", desc := "()Z" } : Jvm.MethodName) ({ cls := "java/lang/AbstractStringBuilder", name := "isLatin1", desc := "()Z" } : Jvm.MethodName)) ∈ lw_all := lw_g (lw_at lw_m2 43 rfl) rfl
theorem q459 : (Jvm.Cond.instanceMethod ({ cls := "java/lang/StringBuilder", name := "append", desc := "(I)Ljava/lang/StringBuilder;" } : Jvm.MethodName)) ∈ lw_all := lw_g (lw_at lw_m2 115 rfl) rfl
theorem q460 : (Jvm.Cond.selects "java/lang/StringBuilder" ({ cls := "java/lang/StringBuilder", name := "append", desc := "(I)Ljava/lang/StringBuilder;" } : Jvm.MethodName) ({ cls := "java/lang/StringBuilder", name := "append", desc := "(I)Ljava/lang/StringBuilder;" } : Jvm.MethodName)) ∈ lw_all := lw_g (lw_at lw_m2 116 rfl) rfl
theorem q461 : (Jvm.Cond.code ({ cls := "java/lang/StringBuilder", name := "append", desc := "(I)Ljava/lang/StringBuilder;" } : Jvm.MethodName) prog_53_method_15_code (2 : Nat) (Option.some (Jvm.ClassFile.FieldType.object "java/lang/StringBuilder"))) ∈ lw_all := lw_g (lw_at lw_m2 117 rfl) rfl
theorem q462 : (Jvm.Cond.methodLink "java/lang/StringBuilder" (53 : Nat) ({ cls := "java/lang/AbstractStringBuilder", name := "append", desc := "(I)Ljava/lang/AbstractStringBuilder;" } : Jvm.MethodName)) ∈ lw_all := lw_g (lw_at lw_m2 118 rfl) rfl
theorem q484 : (Jvm.Cond.instanceMethod ({ cls := "java/lang/StringBuilder", name := "toString", desc := "()Ljava/lang/String;" } : Jvm.MethodName)) ∈ lw_all := lw_g (lw_at lw_m2 140 rfl) rfl
theorem q485 : (Jvm.Cond.selects "java/lang/StringBuilder" ({ cls := "java/lang/StringBuilder", name := "toString", desc := "()Ljava/lang/String;" } : Jvm.MethodName) ({ cls := "java/lang/StringBuilder", name := "toString", desc := "()Ljava/lang/String;" } : Jvm.MethodName)) ∈ lw_all := lw_g (lw_at lw_m2 141 rfl) rfl
theorem q486 : (Jvm.Cond.code ({ cls := "java/lang/StringBuilder", name := "toString", desc := "()Ljava/lang/String;" } : Jvm.MethodName) prog_53_method_42_code (1 : Nat) (Option.some (Jvm.ClassFile.FieldType.object "java/lang/String"))) ∈ lw_all := lw_g (lw_at lw_m2 142 rfl) rfl
theorem q487 : (Jvm.Cond.classLink "java/lang/StringBuilder" (18 : Nat) "java/lang/String") ∈ lw_all := lw_g (lw_at lw_m2 143 rfl) rfl
theorem q489 : (Jvm.Cond.methodLink "java/lang/StringBuilder" (137 : Nat) ({ cls := "java/lang/String", name := "<init>", desc := "(Ljava/lang/StringBuilder;)V" } : Jvm.MethodName)) ∈ lw_all := lw_g (lw_at lw_m2 145 rfl) rfl
theorem q499 : (Jvm.Cond.selects "java/lang/StringBuilder" ({ cls := "java/lang/AbstractStringBuilder", name := "getValue", desc := "()[B" } : Jvm.MethodName) ({ cls := "java/lang/AbstractStringBuilder", name := "getValue", desc := "()[B" } : Jvm.MethodName)) ∈ lw_all := lw_g (lw_at lw_m2 155 rfl) rfl
theorem q504 : (Jvm.Cond.selects "java/lang/StringBuilder" ({ cls := "java/lang/AbstractStringBuilder", name := "length", desc := "()I" } : Jvm.MethodName) ({ cls := "java/lang/StringBuilder", name := "length", desc := "()I" } : Jvm.MethodName)) ∈ lw_all := lw_g (lw_at lw_m2 160 rfl) rfl
theorem q505 : (Jvm.Cond.instanceMethod ({ cls := "java/lang/StringBuilder", name := "length", desc := "()I" } : Jvm.MethodName)) ∈ lw_all := lw_g (lw_at lw_m2 161 rfl) rfl
theorem q506 : (Jvm.Cond.code ({ cls := "java/lang/StringBuilder", name := "length", desc := "()I" } : Jvm.MethodName) prog_53_method_93_code (1 : Nat) (Option.some Jvm.ClassFile.FieldType.int)) ∈ lw_all := lw_g (lw_at lw_m2 162 rfl) rfl
theorem q507 : (Jvm.Cond.methodLink "java/lang/StringBuilder" (343 : Nat) ({ cls := "java/lang/AbstractStringBuilder", name := "length", desc := "()I" } : Jvm.MethodName)) ∈ lw_all := lw_g (lw_at lw_m2 163 rfl) rfl
theorem q886 : (Jvm.Cond.instanceMethod ({ cls := "java/lang/StringBuilder", name := "append", desc := "(C)Ljava/lang/StringBuilder;" } : Jvm.MethodName)) ∈ lw_all := lw_g (lw_at lw_m4 62 rfl) rfl
theorem q887 : (Jvm.Cond.selects "java/lang/StringBuilder" ({ cls := "java/lang/StringBuilder", name := "append", desc := "(C)Ljava/lang/StringBuilder;" } : Jvm.MethodName) ({ cls := "java/lang/StringBuilder", name := "append", desc := "(C)Ljava/lang/StringBuilder;" } : Jvm.MethodName)) ∈ lw_all := lw_g (lw_at lw_m4 63 rfl) rfl
theorem q888 : (Jvm.Cond.code ({ cls := "java/lang/StringBuilder", name := "append", desc := "(C)Ljava/lang/StringBuilder;" } : Jvm.MethodName) prog_53_method_14_code (2 : Nat) (Option.some (Jvm.ClassFile.FieldType.object "java/lang/StringBuilder"))) ∈ lw_all := lw_g (lw_at lw_m4 64 rfl) rfl
theorem q889 : (Jvm.Cond.methodLink "java/lang/StringBuilder" (50 : Nat) ({ cls := "java/lang/AbstractStringBuilder", name := "append", desc := "(C)Ljava/lang/AbstractStringBuilder;" } : Jvm.MethodName)) ∈ lw_all := lw_g (lw_at lw_m4 65 rfl) rfl
theorem q974 : (Jvm.Cond.selects "java/lang/StringBuilder" ({ cls := "java/lang/Object", name := "getClass", desc := "()Ljava/lang/Class;" } : Jvm.MethodName) ({ cls := "java/lang/Object", name := "getClass", desc := "()Ljava/lang/Class;" } : Jvm.MethodName)) ∈ lw_all := lw_g (lw_at lw_m4 150 rfl) rfl
theorem q2319 : (Jvm.Cond.instanceMethod ({ cls := "java/lang/StringBuilder", name := "<init>", desc := "(Ljava/lang/String;)V" } : Jvm.MethodName)) ∈ lw_all := lw_g (lw_at lw_m10 55 rfl) rfl
theorem q2320 : (Jvm.Cond.code ({ cls := "java/lang/StringBuilder", name := "<init>", desc := "(Ljava/lang/String;)V" } : Jvm.MethodName) prog_53_method_3_code (2 : Nat) (Option.none : Option Jvm.ClassFile.FieldType)) ∈ lw_all := lw_g (lw_at lw_m10 56 rfl) rfl
theorem q2321 : (Jvm.Cond.methodLink "java/lang/StringBuilder" (7 : Nat) ({ cls := "java/lang/AbstractStringBuilder", name := "<init>", desc := "(Ljava/lang/String;)V" } : Jvm.MethodName)) ∈ lw_all := lw_g (lw_at lw_m10 57 rfl) rfl
theorem q2326 : (Jvm.Cond.instanceMethod ({ cls := "java/lang/StringBuilder", name := "append", desc := "(Ljava/lang/String;)Ljava/lang/AbstractStringBuilder;" } : Jvm.MethodName)) ∈ lw_all := lw_g (lw_at lw_m10 62 rfl) rfl
theorem q2327 : (Jvm.Cond.code ({ cls := "java/lang/StringBuilder", name := "append", desc := "(Ljava/lang/String;)Ljava/lang/AbstractStringBuilder;" } : Jvm.MethodName) prog_53_method_80_code (2 : Nat) (Option.some (Jvm.ClassFile.FieldType.object "java/lang/AbstractStringBuilder"))) ∈ lw_all := lw_g (lw_at lw_m10 63 rfl) rfl
theorem q2328 : (Jvm.Cond.methodLink "java/lang/StringBuilder" (23 : Nat) ({ cls := "java/lang/StringBuilder", name := "append", desc := "(Ljava/lang/String;)Ljava/lang/StringBuilder;" } : Jvm.MethodName)) ∈ lw_all := lw_g (lw_at lw_m10 64 rfl) rfl
theorem q2330 : (Jvm.Cond.instanceMethod ({ cls := "java/lang/StringBuilder", name := "reverse", desc := "()Ljava/lang/StringBuilder;" } : Jvm.MethodName)) ∈ lw_all := lw_g (lw_at lw_m10 66 rfl) rfl
theorem q2331 : (Jvm.Cond.selects "java/lang/StringBuilder" ({ cls := "java/lang/StringBuilder", name := "reverse", desc := "()Ljava/lang/StringBuilder;" } : Jvm.MethodName) ({ cls := "java/lang/StringBuilder", name := "reverse", desc := "()Ljava/lang/StringBuilder;" } : Jvm.MethodName)) ∈ lw_all := lw_g (lw_at lw_m10 67 rfl) rfl
theorem q2332 : (Jvm.Cond.code ({ cls := "java/lang/StringBuilder", name := "reverse", desc := "()Ljava/lang/StringBuilder;" } : Jvm.MethodName) prog_53_method_39_code (1 : Nat) (Option.some (Jvm.ClassFile.FieldType.object "java/lang/StringBuilder"))) ∈ lw_all := lw_g (lw_at lw_m10 68 rfl) rfl
theorem q2333 : (Jvm.Cond.methodLink "java/lang/StringBuilder" (127 : Nat) ({ cls := "java/lang/AbstractStringBuilder", name := "reverse", desc := "()Ljava/lang/AbstractStringBuilder;" } : Jvm.MethodName)) ∈ lw_all := lw_g (lw_at lw_m10 69 rfl) rfl
theorem q2493 : (Jvm.Cond.selects "java/lang/StringBuilder" ({ cls := "java/lang/Object", name := "equals", desc := "(Ljava/lang/Object;)Z" } : Jvm.MethodName) ({ cls := "java/lang/Object", name := "equals", desc := "(Ljava/lang/Object;)Z" } : Jvm.MethodName)) ∈ lw_all := lw_g (lw_at lw_m10 229 rfl) rfl
theorem q2500 : (Jvm.Cond.instanceMethod ({ cls := "java/lang/StringBuilder", name := "substring", desc := "(I)Ljava/lang/String;" } : Jvm.MethodName)) ∈ lw_all := lw_g (lw_at lw_m10 236 rfl) rfl
theorem q2501 : (Jvm.Cond.selects "java/lang/StringBuilder" ({ cls := "java/lang/StringBuilder", name := "substring", desc := "(I)Ljava/lang/String;" } : Jvm.MethodName) ({ cls := "java/lang/StringBuilder", name := "substring", desc := "(I)Ljava/lang/String;" } : Jvm.MethodName)) ∈ lw_all := lw_g (lw_at lw_m10 237 rfl) rfl
theorem q2502 : (Jvm.Cond.code ({ cls := "java/lang/StringBuilder", name := "substring", desc := "(I)Ljava/lang/String;" } : Jvm.MethodName) prog_53_method_64_code (2 : Nat) (Option.some (Jvm.ClassFile.FieldType.object "java/lang/String"))) ∈ lw_all := lw_g (lw_at lw_m10 238 rfl) rfl
theorem q2503 : (Jvm.Cond.methodLink "java/lang/StringBuilder" (260 : Nat) ({ cls := "java/lang/AbstractStringBuilder", name := "substring", desc := "(I)Ljava/lang/String;" } : Jvm.MethodName)) ∈ lw_all := lw_g (lw_at lw_m10 239 rfl) rfl
theorem q2509 : (Jvm.Cond.selects "java/lang/StringBuilder" ({ cls := "java/lang/AbstractStringBuilder", name := "substring", desc := "(II)Ljava/lang/String;" } : Jvm.MethodName) ({ cls := "java/lang/StringBuilder", name := "substring", desc := "(II)Ljava/lang/String;" } : Jvm.MethodName)) ∈ lw_all := lw_g (lw_at lw_m11 5 rfl) rfl
theorem q2510 : (Jvm.Cond.instanceMethod ({ cls := "java/lang/StringBuilder", name := "substring", desc := "(II)Ljava/lang/String;" } : Jvm.MethodName)) ∈ lw_all := lw_g (lw_at lw_m11 6 rfl) rfl
theorem q2511 : (Jvm.Cond.code ({ cls := "java/lang/StringBuilder", name := "substring", desc := "(II)Ljava/lang/String;" } : Jvm.MethodName) prog_53_method_62_code (3 : Nat) (Option.some (Jvm.ClassFile.FieldType.object "java/lang/String"))) ∈ lw_all := lw_g (lw_at lw_m11 7 rfl) rfl
theorem q2512 : (Jvm.Cond.methodLink "java/lang/StringBuilder" (252 : Nat) ({ cls := "java/lang/AbstractStringBuilder", name := "substring", desc := "(II)Ljava/lang/String;" } : Jvm.MethodName)) ∈ lw_all := lw_g (lw_at lw_m11 8 rfl) rfl
theorem q3348 : (Jvm.Cond.instanceMethod ({ cls := "java/lang/StringBuilder", name := "append", desc := "([CII)Ljava/lang/StringBuilder;" } : Jvm.MethodName)) ∈ lw_all := lw_g (lw_at lw_m14 124 rfl) rfl
theorem q3349 : (Jvm.Cond.selects "java/lang/StringBuilder" ({ cls := "java/lang/StringBuilder", name := "append", desc := "([CII)Ljava/lang/StringBuilder;" } : Jvm.MethodName) ({ cls := "java/lang/StringBuilder", name := "append", desc := "([CII)Ljava/lang/StringBuilder;" } : Jvm.MethodName)) ∈ lw_all := lw_g (lw_at lw_m14 125 rfl) rfl
theorem q3350 : (Jvm.Cond.code ({ cls := "java/lang/StringBuilder", name := "append", desc := "([CII)Ljava/lang/StringBuilder;" } : Jvm.MethodName) prog_53_method_12_code (4 : Nat) (Option.some (Jvm.ClassFile.FieldType.object "java/lang/StringBuilder"))) ∈ lw_all := lw_g (lw_at lw_m14 126 rfl) rfl
theorem q3351 : (Jvm.Cond.methodLink "java/lang/StringBuilder" (44 : Nat) ({ cls := "java/lang/AbstractStringBuilder", name := "append", desc := "([CII)Ljava/lang/AbstractStringBuilder;" } : Jvm.MethodName)) ∈ lw_all := lw_g (lw_at lw_m14 127 rfl) rfl
theorem q3743 : (Jvm.Cond.castable "java/lang/StringBuilder" "java/lang/CharSequence") ∈ lw_tbl := lw_at lw_m16 39 rfl
theorem q3744 : (Jvm.Cond.selects "java/lang/StringBuilder" ({ cls := "java/lang/CharSequence", name := "length", desc := "()I" } : Jvm.MethodName) ({ cls := "java/lang/StringBuilder", name := "length", desc := "()I" } : Jvm.MethodName)) ∈ lw_all := lw_g (lw_at lw_m16 40 rfl) rfl
theorem q3745 : (Jvm.Cond.unhidden "java/lang/StringBuilder" "length" "()I") ∈ lw_tbl := lw_at lw_m16 41 rfl
theorem q3746 : (Jvm.Cond.publicMethod ({ cls := "java/lang/StringBuilder", name := "length", desc := "()I" } : Jvm.MethodName)) ∈ lw_tbl := lw_at lw_m16 42 rfl
theorem q3754 : (Jvm.Cond.selects "java/lang/StringBuilder" ({ cls := "java/lang/CharSequence", name := "charAt", desc := "(I)C" } : Jvm.MethodName) ({ cls := "java/lang/StringBuilder", name := "charAt", desc := "(I)C" } : Jvm.MethodName)) ∈ lw_all := lw_g (lw_at lw_m16 50 rfl) rfl
theorem q3755 : (Jvm.Cond.unhidden "java/lang/StringBuilder" "charAt" "(I)C") ∈ lw_tbl := lw_at lw_m16 51 rfl
theorem q3756 : (Jvm.Cond.instanceMethod ({ cls := "java/lang/StringBuilder", name := "charAt", desc := "(I)C" } : Jvm.MethodName)) ∈ lw_all := lw_g (lw_at lw_m16 52 rfl) rfl
theorem q3757 : (Jvm.Cond.publicMethod ({ cls := "java/lang/StringBuilder", name := "charAt", desc := "(I)C" } : Jvm.MethodName)) ∈ lw_tbl := lw_at lw_m16 53 rfl
theorem q3758 : (Jvm.Cond.code ({ cls := "java/lang/StringBuilder", name := "charAt", desc := "(I)C" } : Jvm.MethodName) prog_53_method_88_code (2 : Nat) (Option.some Jvm.ClassFile.FieldType.char)) ∈ lw_all := lw_g (lw_at lw_m16 54 rfl) rfl
theorem q3759 : (Jvm.Cond.methodLink "java/lang/StringBuilder" (329 : Nat) ({ cls := "java/lang/AbstractStringBuilder", name := "charAt", desc := "(I)C" } : Jvm.MethodName)) ∈ lw_all := lw_g (lw_at lw_m16 55 rfl) rfl
theorem q3799 : (Jvm.Cond.selects "java/lang/StringBuilder" ({ cls := "java/lang/StringBuilder", name := "length", desc := "()I" } : Jvm.MethodName) ({ cls := "java/lang/StringBuilder", name := "length", desc := "()I" } : Jvm.MethodName)) ∈ lw_all := lw_g (lw_at lw_m16 95 rfl) rfl
theorem q3804 : (Jvm.Cond.selects "java/lang/StringBuilder" ({ cls := "java/lang/AbstractStringBuilder", name := "append", desc := "(Ljava/lang/String;)Ljava/lang/AbstractStringBuilder;" } : Jvm.MethodName) ({ cls := "java/lang/StringBuilder", name := "append", desc := "(Ljava/lang/String;)Ljava/lang/AbstractStringBuilder;" } : Jvm.MethodName)) ∈ lw_all := lw_g (lw_at lw_m16 100 rfl) rfl
theorem q3833 : (Jvm.Cond.castable "java/lang/StringBuilder" "java/lang/Object") ∈ lw_tbl := lw_at lw_m16 129 rfl
theorem in_J5 : ∀ w ∈ wsJ50, w ∈ lw_all := lw_in wsJ50 [256, 258, 260, 262] (by decide +kernel) (by decide +kernel)
def RJ6 : String := "java/lang/String"
def TJ6 : u_T := fun k => match k with
  | 0 => ("java/lang/String", "value", "[B", true)
  | 1 => ("java/lang/String", "coder", "B", true)
  | 2 => ("java/lang/String", "hash", "I", false)
  | _ => ("java/lang/String", "hashIsZero", "Z", false)
def tyJ6 : Nat → FieldType := fun k => match k with
  | 0 => .array .byte
  | 1 => .byte
  | 2 => .int
  | _ => .boolean
abbrev wsJ60 : List Cond := u_ws RJ6 TJ6 4
theorem nmJ6 : ∀ a, a < 4 → ∀ b, b < 4 → a ≠ b → (TJ6 a).2.1 ≠ (TJ6 b).2.1 := by decide +kernel
theorem tyJ6_ok : ∀ k, k < 4 → parseFieldDescriptor (TJ6 k).2.2.1 = some (tyJ6 k) := by decide +kernel
abbrev cJ6_checkBoundsBeginEnd : ByteArray := prog_52_method_158_code
def yJ6_checkBoundsBeginEnd : MethodName := ⟨RJ6, "checkBoundsBeginEnd", "(III)V"⟩
abbrev cJ6_length : ByteArray := prog_52_method_54_code
def yJ6_length : MethodName := ⟨RJ6, "length", "()I"⟩
abbrev cJ6_coder : ByteArray := prog_52_method_152_code
def yJ6_coder : MethodName := ⟨RJ6, "coder", "()B"⟩
abbrev cJ6_checkBoundsOffCount : ByteArray := prog_52_method_157_code
def yJ6_checkBoundsOffCount : MethodName := ⟨RJ6, "checkBoundsOffCount", "(III)I"⟩
abbrev cJ6_getBytes : ByteArray := prog_52_method_147_code
def yJ6_getBytes : MethodName := ⟨RJ6, "getBytes", "([BIB)V"⟩
abbrev cJ6_init : ByteArray := prog_52_method_53_code
def yJ6_init : MethodName := ⟨RJ6, "<init>", "(Ljava/lang/StringBuilder;)V"⟩
abbrev cJ6_init_2 : ByteArray := prog_52_method_150_code
def yJ6_init_2 : MethodName := ⟨RJ6, "<init>", "(Ljava/lang/AbstractStringBuilder;Ljava/lang/Void;)V"⟩
abbrev cJ6_checkIndex : ByteArray := prog_52_method_155_code
def yJ6_checkIndex : MethodName := ⟨RJ6, "checkIndex", "(II)V"⟩
abbrev cJ6_isEmpty : ByteArray := prog_52_method_55_code
def yJ6_isEmpty : MethodName := ⟨RJ6, "isEmpty", "()Z"⟩
abbrev cJ6_charAt : ByteArray := prog_52_method_56_code
def yJ6_charAt : MethodName := ⟨RJ6, "charAt", "(I)C"⟩
abbrev cJ6_isLatin1 : ByteArray := prog_52_method_154_code
def yJ6_isLatin1 : MethodName := ⟨RJ6, "isLatin1", "()Z"⟩
abbrev cJ6_substring : ByteArray := prog_52_method_92_code
def yJ6_substring : MethodName := ⟨RJ6, "substring", "(II)Ljava/lang/String;"⟩
abbrev cJ6_init_3 : ByteArray := prog_52_method_151_code
def yJ6_init_3 : MethodName := ⟨RJ6, "<init>", "([BB)V"⟩
abbrev cJ6_valueOf : ByteArray := prog_52_method_140_code
def yJ6_valueOf : MethodName := ⟨RJ6, "valueOf", "(I)Ljava/lang/String;"⟩
abbrev cJ6_equals : ByteArray := prog_52_method_66_code
def yJ6_equals : MethodName := ⟨RJ6, "equals", "(Ljava/lang/Object;)Z"⟩
abbrev cJ6_checkOffset : ByteArray := prog_52_method_156_code
def yJ6_checkOffset : MethodName := ⟨RJ6, "checkOffset", "(II)V"⟩
abbrev cJ6_indexOf : ByteArray := prog_52_method_79_code
def yJ6_indexOf : MethodName := ⟨RJ6, "indexOf", "(I)I"⟩
abbrev cJ6_indexOf_2 : ByteArray := prog_52_method_80_code
def yJ6_indexOf_2 : MethodName := ⟨RJ6, "indexOf", "(II)I"⟩
abbrev cJ6_toCharArray : ByteArray := prog_52_method_129_code
def yJ6_toCharArray : MethodName := ⟨RJ6, "toCharArray", "()[C"⟩
abbrev cJ6_compareTo : ByteArray := prog_52_method_71_code
def yJ6_compareTo : MethodName := ⟨RJ6, "compareTo", "(Ljava/lang/String;)I"⟩
abbrev cJ6_valueOf_2 : ByteArray := prog_52_method_139_code
def yJ6_valueOf_2 : MethodName := ⟨RJ6, "valueOf", "(C)Ljava/lang/String;"⟩
theorem q113 : (Jvm.Cond.initialized "java/lang/String") ∈ lw_all := lw_g (lw_at lw_m1 9 rfl) rfl
theorem q244 : (Jvm.Cond.laysStatic "java/lang/String" "COMPACT_STRINGS" "Z") ∈ lw_tbl := lw_at lw_m1 140 rfl
theorem q254 : (Jvm.Cond.fieldLink "java/lang/String" (1048 : Nat) "java/lang/AbstractStringBuilder" "maybeLatin1" "Z") ∈ lw_all := lw_g (lw_at lw_m1 150 rfl) rfl
theorem q399 : (Jvm.Cond.static ({ cls := "java/lang/String", name := "checkBoundsBeginEnd", desc := "(III)V" } : Jvm.MethodName)) ∈ lw_all := lw_g (lw_at lw_m2 55 rfl) rfl
theorem q400 : (Jvm.Cond.code ({ cls := "java/lang/String", name := "checkBoundsBeginEnd", desc := "(III)V" } : Jvm.MethodName) prog_52_method_158_code (3 : Nat) (Option.none : Option Jvm.ClassFile.FieldType)) ∈ lw_all := lw_g (lw_at lw_m2 56 rfl) rfl
theorem q401 : (Jvm.Cond.fieldLink "java/lang/String" (1053 : Nat) "jdk/internal/util/Preconditions" "SIOOBE_FORMATTER" "Ljava/util/function/BiFunction;") ∈ lw_all := lw_g (lw_at lw_m2 57 rfl) rfl
theorem q403 : (Jvm.Cond.methodLink "java/lang/String" (1062 : Nat) ({ cls := "jdk/internal/util/Preconditions", name := "checkFromToIndex", desc := "(IIILjava/util/function/BiFunction;)I" } : Jvm.MethodName)) ∈ lw_all := lw_g (lw_at lw_m2 59 rfl) rfl
theorem q416 : (Jvm.Cond.instanceMethod ({ cls := "java/lang/String", name := "length", desc := "()I" } : Jvm.MethodName)) ∈ lw_all := lw_g (lw_at lw_m2 72 rfl) rfl
theorem q417 : (Jvm.Cond.selects "java/lang/String" ({ cls := "java/lang/String", name := "length", desc := "()I" } : Jvm.MethodName) ({ cls := "java/lang/String", name := "length", desc := "()I" } : Jvm.MethodName)) ∈ lw_all := lw_g (lw_at lw_m2 73 rfl) rfl
theorem q418 : (Jvm.Cond.code ({ cls := "java/lang/String", name := "length", desc := "()I" } : Jvm.MethodName) prog_52_method_54_code (1 : Nat) (Option.some Jvm.ClassFile.FieldType.int)) ∈ lw_all := lw_g (lw_at lw_m2 74 rfl) rfl
theorem q419 : (Jvm.Cond.methodLink "java/lang/String" (335 : Nat) ({ cls := "java/lang/String", name := "coder", desc := "()B" } : Jvm.MethodName)) ∈ lw_all := lw_g (lw_at lw_m2 75 rfl) rfl
theorem q420 : (Jvm.Cond.instanceMethod ({ cls := "java/lang/String", name := "coder", desc := "()B" } : Jvm.MethodName)) ∈ lw_all := lw_g (lw_at lw_m2 76 rfl) rfl
theorem q421 : (Jvm.Cond.selects "java/lang/String" ({ cls := "java/lang/String", name := "coder", desc := "()B" } : Jvm.MethodName) ({ cls := "java/lang/String", name := "coder", desc := "()B" } : Jvm.MethodName)) ∈ lw_all := lw_g (lw_at lw_m2 77 rfl) rfl
theorem q422 : (Jvm.Cond.code ({ cls := "java/lang/String", name := "coder", desc := "()B" } : Jvm.MethodName) prog_52_method_152_code (1 : Nat) (Option.some Jvm.ClassFile.FieldType.byte)) ∈ lw_all := lw_g (lw_at lw_m2 78 rfl) rfl
theorem q423 : (Jvm.Cond.fieldLink "java/lang/String" (38 : Nat) "java/lang/String" "COMPACT_STRINGS" "Z") ∈ lw_all := lw_g (lw_at lw_m2 79 rfl) rfl
theorem q447 : (Jvm.Cond.static ({ cls := "java/lang/String", name := "checkBoundsOffCount", desc := "(III)I" } : Jvm.MethodName)) ∈ lw_all := lw_g (lw_at lw_m2 103 rfl) rfl
theorem q448 : (Jvm.Cond.code ({ cls := "java/lang/String", name := "checkBoundsOffCount", desc := "(III)I" } : Jvm.MethodName) prog_52_method_157_code (3 : Nat) (Option.some Jvm.ClassFile.FieldType.int)) ∈ lw_all := lw_g (lw_at lw_m2 104 rfl) rfl
theorem q449 : (Jvm.Cond.methodLink "java/lang/String" (1065 : Nat) ({ cls := "jdk/internal/util/Preconditions", name := "checkFromIndexSize", desc := "(IIILjava/util/function/BiFunction;)I" } : Jvm.MethodName)) ∈ lw_all := lw_g (lw_at lw_m2 105 rfl) rfl
theorem q453 : (Jvm.Cond.instanceMethod ({ cls := "java/lang/String", name := "getBytes", desc := "([BIB)V" } : Jvm.MethodName)) ∈ lw_all := lw_g (lw_at lw_m2 109 rfl) rfl
theorem q454 : (Jvm.Cond.selects "java/lang/String" ({ cls := "java/lang/String", name := "getBytes", desc := "([BIB)V" } : Jvm.MethodName) ({ cls := "java/lang/String", name := "getBytes", desc := "([BIB)V" } : Jvm.MethodName)) ∈ lw_all := lw_g (lw_at lw_m2 110 rfl) rfl
theorem q455 : (Jvm.Cond.code ({ cls := "java/lang/String", name := "getBytes", desc := "([BIB)V" } : Jvm.MethodName) prog_52_method_147_code (4 : Nat) (Option.none : Option Jvm.ClassFile.FieldType)) ∈ lw_all := lw_g (lw_at lw_m2 111 rfl) rfl
theorem q456 : (Jvm.Cond.methodLink "java/lang/String" (212 : Nat) ({ cls := "java/lang/System", name := "arraycopy", desc := "(Ljava/lang/Object;ILjava/lang/Object;II)V" } : Jvm.MethodName)) ∈ lw_all := lw_g (lw_at lw_m2 112 rfl) rfl
theorem q457 : (Jvm.Cond.methodLink "java/lang/String" (106 : Nat) ({ cls := "java/lang/StringLatin1", name := "inflate", desc := "([BI[BII)V" } : Jvm.MethodName)) ∈ lw_all := lw_g (lw_at lw_m2 113 rfl) rfl
theorem q488 : (Jvm.Cond.instantiable "java/lang/String" (4 : Nat)) ∈ lw_all := lw_g (lw_at lw_m2 144 rfl) rfl
theorem q490 : (Jvm.Cond.instanceMethod ({ cls := "java/lang/String", name := "<init>", desc := "(Ljava/lang/StringBuilder;)V" } : Jvm.MethodName)) ∈ lw_all := lw_g (lw_at lw_m2 146 rfl) rfl
theorem q491 : (Jvm.Cond.code ({ cls := "java/lang/String", name := "<init>", desc := "(Ljava/lang/StringBuilder;)V" } : Jvm.MethodName) prog_52_method_53_code (2 : Nat) (Option.none : Option Jvm.ClassFile.FieldType)) ∈ lw_all := lw_g (lw_at lw_m2 147 rfl) rfl
theorem q492 : (Jvm.Cond.methodLink "java/lang/String" (489 : Nat) ({ cls := "java/lang/String", name := "<init>", desc := "(Ljava/lang/AbstractStringBuilder;Ljava/lang/Void;)V" } : Jvm.MethodName)) ∈ lw_all := lw_g (lw_at lw_m2 148 rfl) rfl
theorem q493 : (Jvm.Cond.instanceMethod ({ cls := "java/lang/String", name := "<init>", desc := "(Ljava/lang/AbstractStringBuilder;Ljava/lang/Void;)V" } : Jvm.MethodName)) ∈ lw_all := lw_g (lw_at lw_m2 149 rfl) rfl
theorem q494 : (Jvm.Cond.code ({ cls := "java/lang/String", name := "<init>", desc := "(Ljava/lang/AbstractStringBuilder;Ljava/lang/Void;)V" } : Jvm.MethodName) prog_52_method_150_code (5 : Nat) (Option.none : Option Jvm.ClassFile.FieldType)) ∈ lw_all := lw_g (lw_at lw_m2 150 rfl) rfl
theorem q495 : (Jvm.Cond.methodLink "java/lang/String" (1 : Nat) ({ cls := "java/lang/Object", name := "<init>", desc := "()V" } : Jvm.MethodName)) ∈ lw_all := lw_g (lw_at lw_m2 151 rfl) rfl
theorem q496 : (Jvm.Cond.methodLink "java/lang/String" (552 : Nat) ({ cls := "java/lang/AbstractStringBuilder", name := "getValue", desc := "()[B" } : Jvm.MethodName)) ∈ lw_all := lw_g (lw_at lw_m2 152 rfl) rfl
theorem q501 : (Jvm.Cond.methodLink "java/lang/String" (549 : Nat) ({ cls := "java/lang/AbstractStringBuilder", name := "length", desc := "()I" } : Jvm.MethodName)) ∈ lw_all := lw_g (lw_at lw_m2 157 rfl) rfl
theorem q509 : (Jvm.Cond.methodLink "java/lang/String" (1047 : Nat) ({ cls := "java/lang/AbstractStringBuilder", name := "isLatin1", desc := "()Z" } : Jvm.MethodName)) ∈ lw_all := lw_g (lw_at lw_m2 165 rfl) rfl
theorem q510 : (Jvm.Cond.methodLink "java/lang/String" (54 : Nat) ({ cls := "java/util/Arrays", name := "copyOfRange", desc := "([BII)[B" } : Jvm.MethodName)) ∈ lw_all := lw_g (lw_at lw_m2 166 rfl) rfl
theorem q551 : (Jvm.Cond.methodLink "java/lang/String" (1051 : Nat) ({ cls := "java/lang/StringUTF16", name := "compress", desc := "([BII)[B" } : Jvm.MethodName)) ∈ lw_all := lw_g (lw_at lw_m2 207 rfl) rfl
theorem q561 : (Jvm.Cond.methodLink "java/lang/String" (47 : Nat) ({ cls := "java/lang/StringUTF16", name := "coderFromArrayLen", desc := "([BI)B" } : Jvm.MethodName)) ∈ lw_all := lw_g (lw_at lw_m2 217 rfl) rfl
theorem q564 : (Jvm.Cond.fieldLink "java/lang/String" (9 : Nat) "java/lang/String" "value" "[B") ∈ lw_all := lw_g (lw_at lw_m2 220 rfl) rfl
theorem q565 : (Jvm.Cond.fieldLink "java/lang/String" (15 : Nat) "java/lang/String" "coder" "B") ∈ lw_all := lw_g (lw_at lw_m2 221 rfl) rfl
theorem q566 : (Jvm.Cond.laysFinal "java/lang/String" "java/lang/String" "value" "[B") ∈ lw_all := lw_g (lw_at lw_m2 222 rfl) rfl
theorem q567 : (Jvm.Cond.soleField "java/lang/String" "value") ∈ lw_all := lw_g (lw_at lw_m2 223 rfl) rfl
theorem q568 : (Jvm.Cond.laysFinal "java/lang/String" "java/lang/String" "coder" "B") ∈ lw_all := lw_g (lw_at lw_m2 224 rfl) rfl
theorem q569 : (Jvm.Cond.soleField "java/lang/String" "coder") ∈ lw_all := lw_g (lw_at lw_m2 225 rfl) rfl
theorem q570 : (Jvm.Cond.lays "java/lang/String" "java/lang/String" "hash" "I") ∈ lw_all := lw_g (lw_at lw_m2 226 rfl) rfl
theorem q571 : (Jvm.Cond.soleField "java/lang/String" "hash") ∈ lw_all := lw_g (lw_at lw_m2 227 rfl) rfl
theorem q572 : (Jvm.Cond.lays "java/lang/String" "java/lang/String" "hashIsZero" "Z") ∈ lw_all := lw_g (lw_at lw_m2 228 rfl) rfl
theorem q573 : (Jvm.Cond.soleField "java/lang/String" "hashIsZero") ∈ lw_all := lw_g (lw_at lw_m2 229 rfl) rfl
theorem q574 : (Jvm.Cond.superclass "java/lang/String" "java/lang/Object") ∈ lw_all := lw_g (lw_at lw_m2 230 rfl) rfl
theorem q902 : (Jvm.Cond.static ({ cls := "java/lang/String", name := "checkIndex", desc := "(II)V" } : Jvm.MethodName)) ∈ lw_all := lw_g (lw_at lw_m4 78 rfl) rfl
theorem q903 : (Jvm.Cond.code ({ cls := "java/lang/String", name := "checkIndex", desc := "(II)V" } : Jvm.MethodName) prog_52_method_155_code (2 : Nat) (Option.none : Option Jvm.ClassFile.FieldType)) ∈ lw_all := lw_g (lw_at lw_m4 79 rfl) rfl
theorem q904 : (Jvm.Cond.methodLink "java/lang/String" (1059 : Nat) ({ cls := "jdk/internal/util/Preconditions", name := "checkIndex", desc := "(IILjava/util/function/BiFunction;)I" } : Jvm.MethodName)) ∈ lw_all := lw_g (lw_at lw_m4 80 rfl) rfl
theorem q915 : (Jvm.Cond.instanceMethod ({ cls := "java/lang/String", name := "isEmpty", desc := "()Z" } : Jvm.MethodName)) ∈ lw_all := lw_g (lw_at lw_m4 91 rfl) rfl
theorem q916 : (Jvm.Cond.selects "java/lang/String" ({ cls := "java/lang/String", name := "isEmpty", desc := "()Z" } : Jvm.MethodName) ({ cls := "java/lang/String", name := "isEmpty", desc := "()Z" } : Jvm.MethodName)) ∈ lw_all := lw_g (lw_at lw_m4 92 rfl) rfl
theorem q917 : (Jvm.Cond.code ({ cls := "java/lang/String", name := "isEmpty", desc := "()Z" } : Jvm.MethodName) prog_52_method_55_code (1 : Nat) (Option.some Jvm.ClassFile.FieldType.boolean)) ∈ lw_all := lw_g (lw_at lw_m4 93 rfl) rfl
theorem q973 : (Jvm.Cond.selects "java/lang/String" ({ cls := "java/lang/Object", name := "getClass", desc := "()Ljava/lang/Class;" } : Jvm.MethodName) ({ cls := "java/lang/Object", name := "getClass", desc := "()Ljava/lang/Class;" } : Jvm.MethodName)) ∈ lw_all := lw_g (lw_at lw_m4 149 rfl) rfl
theorem q1030 : (Jvm.Cond.instanceMethod ({ cls := "java/lang/String", name := "charAt", desc := "(I)C" } : Jvm.MethodName)) ∈ lw_all := lw_g (lw_at lw_m4 206 rfl) rfl
theorem q1031 : (Jvm.Cond.selects "java/lang/String" ({ cls := "java/lang/String", name := "charAt", desc := "(I)C" } : Jvm.MethodName) ({ cls := "java/lang/String", name := "charAt", desc := "(I)C" } : Jvm.MethodName)) ∈ lw_all := lw_g (lw_at lw_m4 207 rfl) rfl
theorem q1032 : (Jvm.Cond.code ({ cls := "java/lang/String", name := "charAt", desc := "(I)C" } : Jvm.MethodName) prog_52_method_56_code (2 : Nat) (Option.some Jvm.ClassFile.FieldType.char)) ∈ lw_all := lw_g (lw_at lw_m4 208 rfl) rfl
theorem q1033 : (Jvm.Cond.methodLink "java/lang/String" (492 : Nat) ({ cls := "java/lang/String", name := "isLatin1", desc := "()Z" } : Jvm.MethodName)) ∈ lw_all := lw_g (lw_at lw_m4 209 rfl) rfl
theorem q1034 : (Jvm.Cond.instanceMethod ({ cls := "java/lang/String", name := "isLatin1", desc := "()Z" } : Jvm.MethodName)) ∈ lw_all := lw_g (lw_at lw_m4 210 rfl) rfl
theorem q1035 : (Jvm.Cond.selects "java/lang/String" ({ cls := "java/lang/String", name := "isLatin1", desc := "()Z" } : Jvm.MethodName) ({ cls := "java/lang/String", name := "isLatin1", desc := "()Z" } : Jvm.MethodName)) ∈ lw_all := lw_g (lw_at lw_m4 211 rfl) rfl
theorem q1036 : (Jvm.Cond.code ({ cls := "java/lang/String", name := "isLatin1", desc := "()Z" } : Jvm.MethodName) prog_52_method_154_code (1 : Nat) (Option.some Jvm.ClassFile.FieldType.boolean)) ∈ lw_all := lw_g (lw_at lw_m4 212 rfl) rfl
theorem q1037 : (Jvm.Cond.methodLink "java/lang/String" (495 : Nat) ({ cls := "java/lang/StringLatin1", name := "charAt", desc := "([BI)C" } : Jvm.MethodName)) ∈ lw_all := lw_g (lw_at lw_m4 213 rfl) rfl
theorem q1041 : (Jvm.Cond.methodLink "java/lang/String" (498 : Nat) ({ cls := "java/lang/StringUTF16", name := "charAt", desc := "([BI)C" } : Jvm.MethodName)) ∈ lw_all := lw_g (lw_at lw_m4 217 rfl) rfl
theorem q1045 : (Jvm.Cond.instanceMethod ({ cls := "java/lang/String", name := "substring", desc := "(II)Ljava/lang/String;" } : Jvm.MethodName)) ∈ lw_all := lw_g (lw_at lw_m4 221 rfl) rfl
theorem q1046 : (Jvm.Cond.selects "java/lang/String" ({ cls := "java/lang/String", name := "substring", desc := "(II)Ljava/lang/String;" } : Jvm.MethodName) ({ cls := "java/lang/String", name := "substring", desc := "(II)Ljava/lang/String;" } : Jvm.MethodName)) ∈ lw_all := lw_g (lw_at lw_m4 222 rfl) rfl
theorem q1047 : (Jvm.Cond.code ({ cls := "java/lang/String", name := "substring", desc := "(II)Ljava/lang/String;" } : Jvm.MethodName) prog_52_method_92_code (5 : Nat) (Option.some (Jvm.ClassFile.FieldType.object "java/lang/String"))) ∈ lw_all := lw_g (lw_at lw_m4 223 rfl) rfl
theorem q1048 : (Jvm.Cond.methodLink "java/lang/String" (505 : Nat) ({ cls := "java/lang/String", name := "length", desc := "()I" } : Jvm.MethodName)) ∈ lw_all := lw_g (lw_at lw_m4 224 rfl) rfl
theorem q1049 : (Jvm.Cond.methodLink "java/lang/String" (521 : Nat) ({ cls := "java/lang/String", name := "checkBoundsBeginEnd", desc := "(III)V" } : Jvm.MethodName)) ∈ lw_all := lw_g (lw_at lw_m4 225 rfl) rfl
theorem q1050 : (Jvm.Cond.methodLink "java/lang/String" (685 : Nat) ({ cls := "java/lang/StringLatin1", name := "newString", desc := "([BII)Ljava/lang/String;" } : Jvm.MethodName)) ∈ lw_all := lw_g (lw_at lw_m4 226 rfl) rfl
theorem q1057 : (Jvm.Cond.instanceMethod ({ cls := "java/lang/String", name := "<init>", desc := "([BB)V" } : Jvm.MethodName)) ∈ lw_all := lw_g (lw_at lw_m4 233 rfl) rfl
theorem q1058 : (Jvm.Cond.code ({ cls := "java/lang/String", name := "<init>", desc := "([BB)V" } : Jvm.MethodName) prog_52_method_151_code (3 : Nat) (Option.none : Option Jvm.ClassFile.FieldType)) ∈ lw_all := lw_g (lw_at lw_m4 234 rfl) rfl
theorem q1059 : (Jvm.Cond.methodLink "java/lang/String" (689 : Nat) ({ cls := "java/lang/StringUTF16", name := "newString", desc := "([BII)Ljava/lang/String;" } : Jvm.MethodName)) ∈ lw_all := lw_g (lw_at lw_m4 235 rfl) rfl
theorem q1173 : (Jvm.Cond.static ({ cls := "java/lang/String", name := "valueOf", desc := "(I)Ljava/lang/String;" } : Jvm.MethodName)) ∈ lw_all := lw_g (lw_at lw_m5 109 rfl) rfl
theorem q1174 : (Jvm.Cond.code ({ cls := "java/lang/String", name := "valueOf", desc := "(I)Ljava/lang/String;" } : Jvm.MethodName) prog_52_method_140_code (1 : Nat) (Option.some (Jvm.ClassFile.FieldType.object "java/lang/String"))) ∈ lw_all := lw_g (lw_at lw_m5 110 rfl) rfl
theorem q1175 : (Jvm.Cond.methodLink "java/lang/String" (1022 : Nat) ({ cls := "java/lang/Integer", name := "toString", desc := "(I)Ljava/lang/String;" } : Jvm.MethodName)) ∈ lw_all := lw_g (lw_at lw_m5 111 rfl) rfl
theorem q2257 : (Jvm.Cond.instanceMethod ({ cls := "java/lang/String", name := "equals", desc := "(Ljava/lang/Object;)Z" } : Jvm.MethodName)) ∈ lw_all := lw_g (lw_at lw_m9 233 rfl) rfl
theorem q2258 : (Jvm.Cond.selects "java/lang/String" ({ cls := "java/lang/String", name := "equals", desc := "(Ljava/lang/Object;)Z" } : Jvm.MethodName) ({ cls := "java/lang/String", name := "equals", desc := "(Ljava/lang/Object;)Z" } : Jvm.MethodName)) ∈ lw_all := lw_g (lw_at lw_m9 234 rfl) rfl
theorem q2259 : (Jvm.Cond.code ({ cls := "java/lang/String", name := "equals", desc := "(Ljava/lang/Object;)Z" } : Jvm.MethodName) prog_52_method_66_code (3 : Nat) (Option.some Jvm.ClassFile.FieldType.boolean)) ∈ lw_all := lw_g (lw_at lw_m9 235 rfl) rfl
theorem q2260 : (Jvm.Cond.classLink "java/lang/String" (10 : Nat) "java/lang/String") ∈ lw_all := lw_g (lw_at lw_m9 236 rfl) rfl
theorem q2261 : (Jvm.Cond.methodLink "java/lang/String" (541 : Nat) ({ cls := "java/lang/StringLatin1", name := "equals", desc := "([B[B)Z" } : Jvm.MethodName)) ∈ lw_all := lw_g (lw_at lw_m9 237 rfl) rfl
theorem q2343 : (Jvm.Cond.static ({ cls := "java/lang/String", name := "checkOffset", desc := "(II)V" } : Jvm.MethodName)) ∈ lw_all := lw_g (lw_at lw_m10 79 rfl) rfl
theorem q2344 : (Jvm.Cond.code ({ cls := "java/lang/String", name := "checkOffset", desc := "(II)V" } : Jvm.MethodName) prog_52_method_156_code (2 : Nat) (Option.none : Option Jvm.ClassFile.FieldType)) ∈ lw_all := lw_g (lw_at lw_m10 80 rfl) rfl
theorem q2492 : (Jvm.Cond.selects "java/lang/String" ({ cls := "java/lang/Object", name := "equals", desc := "(Ljava/lang/Object;)Z" } : Jvm.MethodName) ({ cls := "java/lang/String", name := "equals", desc := "(Ljava/lang/Object;)Z" } : Jvm.MethodName)) ∈ lw_all := lw_g (lw_at lw_m10 228 rfl) rfl
theorem q2662 : (Jvm.Cond.instanceMethod ({ cls := "java/lang/String", name := "indexOf", desc := "(I)I" } : Jvm.MethodName)) ∈ lw_all := lw_g (lw_at lw_m11 158 rfl) rfl
theorem q2663 : (Jvm.Cond.selects "java/lang/String" ({ cls := "java/lang/String", name := "indexOf", desc := "(I)I" } : Jvm.MethodName) ({ cls := "java/lang/String", name := "indexOf", desc := "(I)I" } : Jvm.MethodName)) ∈ lw_all := lw_g (lw_at lw_m11 159 rfl) rfl
theorem q2664 : (Jvm.Cond.code ({ cls := "java/lang/String", name := "indexOf", desc := "(I)I" } : Jvm.MethodName) prog_52_method_79_code (2 : Nat) (Option.some Jvm.ClassFile.FieldType.int)) ∈ lw_all := lw_g (lw_at lw_m11 160 rfl) rfl
theorem q2665 : (Jvm.Cond.methodLink "java/lang/String" (633 : Nat) ({ cls := "java/lang/String", name := "indexOf", desc := "(II)I" } : Jvm.MethodName)) ∈ lw_all := lw_g (lw_at lw_m11 161 rfl) rfl
theorem q2666 : (Jvm.Cond.instanceMethod ({ cls := "java/lang/String", name := "indexOf", desc := "(II)I" } : Jvm.MethodName)) ∈ lw_all := lw_g (lw_at lw_m11 162 rfl) rfl
theorem q2667 : (Jvm.Cond.selects "java/lang/String" ({ cls := "java/lang/String", name := "indexOf", desc := "(II)I" } : Jvm.MethodName) ({ cls := "java/lang/String", name := "indexOf", desc := "(II)I" } : Jvm.MethodName)) ∈ lw_all := lw_g (lw_at lw_m11 163 rfl) rfl
theorem q2668 : (Jvm.Cond.code ({ cls := "java/lang/String", name := "indexOf", desc := "(II)I" } : Jvm.MethodName) prog_52_method_80_code (3 : Nat) (Option.some Jvm.ClassFile.FieldType.int)) ∈ lw_all := lw_g (lw_at lw_m11 164 rfl) rfl
theorem q2669 : (Jvm.Cond.methodLink "java/lang/String" (637 : Nat) ({ cls := "java/lang/StringLatin1", name := "indexOf", desc := "([BIII)I" } : Jvm.MethodName)) ∈ lw_all := lw_g (lw_at lw_m11 165 rfl) rfl
theorem q2680 : (Jvm.Cond.methodLink "java/lang/String" (640 : Nat) ({ cls := "java/lang/StringUTF16", name := "indexOf", desc := "([BIII)I" } : Jvm.MethodName)) ∈ lw_all := lw_g (lw_at lw_m11 176 rfl) rfl
theorem q2746 : (Jvm.Cond.instanceMethod ({ cls := "java/lang/String", name := "toCharArray", desc := "()[C" } : Jvm.MethodName)) ∈ lw_all := lw_g (lw_at lw_m12 2 rfl) rfl
theorem q2747 : (Jvm.Cond.selects "java/lang/String" ({ cls := "java/lang/String", name := "toCharArray", desc := "()[C" } : Jvm.MethodName) ({ cls := "java/lang/String", name := "toCharArray", desc := "()[C" } : Jvm.MethodName)) ∈ lw_all := lw_g (lw_at lw_m12 3 rfl) rfl
theorem q2748 : (Jvm.Cond.code ({ cls := "java/lang/String", name := "toCharArray", desc := "()[C" } : Jvm.MethodName) prog_52_method_129_code (1 : Nat) (Option.some (Jvm.ClassFile.FieldType.array Jvm.ClassFile.FieldType.char))) ∈ lw_all := lw_g (lw_at lw_m12 4 rfl) rfl
theorem q2749 : (Jvm.Cond.methodLink "java/lang/String" (299 : Nat) ({ cls := "java/lang/StringLatin1", name := "toChars", desc := "([B)[C" } : Jvm.MethodName)) ∈ lw_all := lw_g (lw_at lw_m12 5 rfl) rfl
theorem q2755 : (Jvm.Cond.methodLink "java/lang/String" (303 : Nat) ({ cls := "java/lang/StringUTF16", name := "toChars", desc := "([B)[C" } : Jvm.MethodName)) ∈ lw_all := lw_g (lw_at lw_m12 11 rfl) rfl
theorem q3413 : (Jvm.Cond.instanceMethod ({ cls := "java/lang/String", name := "compareTo", desc := "(Ljava/lang/String;)I" } : Jvm.MethodName)) ∈ lw_all := lw_g (lw_at lw_m14 189 rfl) rfl
theorem q3414 : (Jvm.Cond.selects "java/lang/String" ({ cls := "java/lang/String", name := "compareTo", desc := "(Ljava/lang/String;)I" } : Jvm.MethodName) ({ cls := "java/lang/String", name := "compareTo", desc := "(Ljava/lang/String;)I" } : Jvm.MethodName)) ∈ lw_all := lw_g (lw_at lw_m14 190 rfl) rfl
theorem q3415 : (Jvm.Cond.code ({ cls := "java/lang/String", name := "compareTo", desc := "(Ljava/lang/String;)I" } : Jvm.MethodName) prog_52_method_71_code (5 : Nat) (Option.some Jvm.ClassFile.FieldType.int)) ∈ lw_all := lw_g (lw_at lw_m14 191 rfl) rfl
theorem q3416 : (Jvm.Cond.methodLink "java/lang/String" (586 : Nat) ({ cls := "java/lang/StringLatin1", name := "compareTo", desc := "([B[B)I" } : Jvm.MethodName)) ∈ lw_all := lw_g (lw_at lw_m14 192 rfl) rfl
theorem q3529 : (Jvm.Cond.methodLink "java/lang/String" (590 : Nat) ({ cls := "java/lang/StringUTF16", name := "compareTo", desc := "([B[B)I" } : Jvm.MethodName)) ∈ lw_all := lw_g (lw_at lw_m15 65 rfl) rfl
theorem q3535 : (Jvm.Cond.methodLink "java/lang/String" (591 : Nat) ({ cls := "java/lang/StringLatin1", name := "compareToUTF16", desc := "([B[B)I" } : Jvm.MethodName)) ∈ lw_all := lw_g (lw_at lw_m15 71 rfl) rfl
theorem q3546 : (Jvm.Cond.methodLink "java/lang/String" (594 : Nat) ({ cls := "java/lang/StringUTF16", name := "compareToLatin1", desc := "([B[B)I" } : Jvm.MethodName)) ∈ lw_all := lw_g (lw_at lw_m15 82 rfl) rfl
theorem q3677 : (Jvm.Cond.static ({ cls := "java/lang/String", name := "valueOf", desc := "(C)Ljava/lang/String;" } : Jvm.MethodName)) ∈ lw_all := lw_g (lw_at lw_m15 213 rfl) rfl
theorem q3678 : (Jvm.Cond.code ({ cls := "java/lang/String", name := "valueOf", desc := "(C)Ljava/lang/String;" } : Jvm.MethodName) prog_52_method_139_code (1 : Nat) (Option.some (Jvm.ClassFile.FieldType.object "java/lang/String"))) ∈ lw_all := lw_g (lw_at lw_m15 214 rfl) rfl
theorem q3679 : (Jvm.Cond.methodLink "java/lang/String" (1015 : Nat) ({ cls := "java/lang/StringLatin1", name := "canEncode", desc := "(C)Z" } : Jvm.MethodName)) ∈ lw_all := lw_g (lw_at lw_m15 215 rfl) rfl
theorem q3680 : (Jvm.Cond.methodLink "java/lang/String" (1018 : Nat) ({ cls := "java/lang/StringLatin1", name := "toBytes", desc := "(C)[B" } : Jvm.MethodName)) ∈ lw_all := lw_g (lw_at lw_m15 216 rfl) rfl
theorem q3683 : (Jvm.Cond.methodLink "java/lang/String" (209 : Nat) ({ cls := "java/lang/String", name := "<init>", desc := "([BB)V" } : Jvm.MethodName)) ∈ lw_all := lw_g (lw_at lw_m15 219 rfl) rfl
theorem q3684 : (Jvm.Cond.methodLink "java/lang/String" (1021 : Nat) ({ cls := "java/lang/StringUTF16", name := "toBytes", desc := "(C)[B" } : Jvm.MethodName)) ∈ lw_all := lw_g (lw_at lw_m15 220 rfl) rfl
theorem q3739 : (Jvm.Cond.castable "java/lang/String" "java/lang/CharSequence") ∈ lw_tbl := lw_at lw_m16 35 rfl
theorem q3740 : (Jvm.Cond.selects "java/lang/String" ({ cls := "java/lang/CharSequence", name := "length", desc := "()I" } : Jvm.MethodName) ({ cls := "java/lang/String", name := "length", desc := "()I" } : Jvm.MethodName)) ∈ lw_all := lw_g (lw_at lw_m16 36 rfl) rfl
theorem q3741 : (Jvm.Cond.unhidden "java/lang/String" "length" "()I") ∈ lw_tbl := lw_at lw_m16 37 rfl
theorem q3742 : (Jvm.Cond.publicMethod ({ cls := "java/lang/String", name := "length", desc := "()I" } : Jvm.MethodName)) ∈ lw_tbl := lw_at lw_m16 38 rfl
theorem q3751 : (Jvm.Cond.selects "java/lang/String" ({ cls := "java/lang/CharSequence", name := "charAt", desc := "(I)C" } : Jvm.MethodName) ({ cls := "java/lang/String", name := "charAt", desc := "(I)C" } : Jvm.MethodName)) ∈ lw_all := lw_g (lw_at lw_m16 47 rfl) rfl
theorem q3752 : (Jvm.Cond.unhidden "java/lang/String" "charAt" "(I)C") ∈ lw_tbl := lw_at lw_m16 48 rfl
theorem q3753 : (Jvm.Cond.publicMethod ({ cls := "java/lang/String", name := "charAt", desc := "(I)C" } : Jvm.MethodName)) ∈ lw_tbl := lw_at lw_m16 49 rfl
theorem q3837 : (Jvm.Cond.castable "java/lang/String" "java/lang/Object") ∈ lw_tbl := lw_at lw_m16 133 rfl
theorem in_J6 : ∀ w ∈ wsJ60, w ∈ lw_all := lw_in wsJ60 [566, 568, 570, 572] (by decide +kernel) (by decide +kernel)
def RJ7 : String := "java/lang/StringUTF16"
abbrev cJ7_newBytesFor : ByteArray := prog_55_method_2_code
def yJ7_newBytesFor : MethodName := ⟨RJ7, "newBytesFor", "(I)[B"⟩
abbrev cJ7_newBytesLength : ByteArray := prog_55_method_3_code
def yJ7_newBytesLength : MethodName := ⟨RJ7, "newBytesLength", "(I)I"⟩
abbrev cJ7_putCharsAt : ByteArray := prog_55_method_81_code
def yJ7_putCharsAt : MethodName := ⟨RJ7, "putCharsAt", "([BICCCC)I"⟩
abbrev cJ7_checkBoundsBeginEnd : ByteArray := prog_55_method_93_code
def yJ7_checkBoundsBeginEnd : MethodName := ⟨RJ7, "checkBoundsBeginEnd", "(II[B)V"⟩
abbrev cJ7_length : ByteArray := prog_55_method_6_code
def yJ7_length : MethodName := ⟨RJ7, "length", "([B)I"⟩
abbrev cJ7_putChar : ByteArray := prog_55_method_4_code
def yJ7_putChar : MethodName := ⟨RJ7, "putChar", "([BII)V"⟩
abbrev cJ7_inflate : ByteArray := prog_55_method_86_code
def yJ7_inflate : MethodName := ⟨RJ7, "inflate", "([BI[BII)V"⟩
abbrev cJ7_checkBoundsOffCount : ByteArray := prog_55_method_94_code
def yJ7_checkBoundsOffCount : MethodName := ⟨RJ7, "checkBoundsOffCount", "(II[B)V"⟩
abbrev cJ7_getChars : ByteArray := prog_55_method_77_code
def yJ7_getChars : MethodName := ⟨RJ7, "getChars", "(III[B)I"⟩
abbrev cJ7_getChars_2 : ByteArray := prog_55_method_89_code
def yJ7_getChars_2 : MethodName := ⟨RJ7, "getChars", "(II[B)I"⟩
abbrev cJ7_compress : ByteArray := prog_55_method_17_code
def yJ7_compress : MethodName := ⟨RJ7, "compress", "([BII)[B"⟩
abbrev cJ7_compress_2 : ByteArray := prog_55_method_22_code
def yJ7_compress_2 : MethodName := ⟨RJ7, "compress", "([BI[BII)I"⟩
abbrev cJ7_getChar : ByteArray := prog_55_method_5_code
def yJ7_getChar : MethodName := ⟨RJ7, "getChar", "([BI)C"⟩
abbrev cJ7_coderFromArrayLen : ByteArray := prog_55_method_15_code
def yJ7_coderFromArrayLen : MethodName := ⟨RJ7, "coderFromArrayLen", "([BI)B"⟩
abbrev cJ7_putCharSB : ByteArray := prog_55_method_71_code
def yJ7_putCharSB : MethodName := ⟨RJ7, "putCharSB", "([BII)V"⟩
abbrev cJ7_checkIndex : ByteArray := prog_55_method_91_code
def yJ7_checkIndex : MethodName := ⟨RJ7, "checkIndex", "(I[B)V"⟩
abbrev cJ7_charAt : ByteArray := prog_55_method_83_code
def yJ7_charAt : MethodName := ⟨RJ7, "charAt", "([BI)C"⟩
abbrev cJ7_newString : ByteArray := prog_55_method_69_code
def yJ7_newString : MethodName := ⟨RJ7, "newString", "([BII)Ljava/lang/String;"⟩
abbrev cJ7_reverse : ByteArray := prog_55_method_84_code
def yJ7_reverse : MethodName := ⟨RJ7, "reverse", "([BI)V"⟩
abbrev cJ7_checkOffset : ByteArray := prog_55_method_92_code
def yJ7_checkOffset : MethodName := ⟨RJ7, "checkOffset", "(I[B)V"⟩
abbrev cJ7_reverseAllValidSurrogatePairs : ByteArray := prog_55_method_85_code
def yJ7_reverseAllValidSurrogatePairs : MethodName := ⟨RJ7, "reverseAllValidSurrogatePairs", "([BI)V"⟩
abbrev cJ7_indexOf : ByteArray := prog_55_method_40_code
def yJ7_indexOf : MethodName := ⟨RJ7, "indexOf", "([BIII)I"⟩
abbrev cJ7_indexOfChar : ByteArray := prog_55_method_47_code
def yJ7_indexOfChar : MethodName := ⟨RJ7, "indexOfChar", "([BIII)I"⟩
abbrev cJ7_indexOfCharUnsafe : ByteArray := prog_55_method_48_code
def yJ7_indexOfCharUnsafe : MethodName := ⟨RJ7, "indexOfCharUnsafe", "([BIII)I"⟩
abbrev cJ7_indexOfSupplementary : ByteArray := prog_55_method_49_code
def yJ7_indexOfSupplementary : MethodName := ⟨RJ7, "indexOfSupplementary", "([BIII)I"⟩
abbrev cJ7_toChars : ByteArray := prog_55_method_13_code
def yJ7_toChars : MethodName := ⟨RJ7, "toChars", "([B)[C"⟩
abbrev cJ7_getChars_3 : ByteArray := prog_55_method_26_code
def yJ7_getChars_3 : MethodName := ⟨RJ7, "getChars", "([BII[CI)V"⟩
abbrev cJ7_putCharsSB : ByteArray := prog_55_method_72_code
def yJ7_putCharsSB : MethodName := ⟨RJ7, "putCharsSB", "([BI[CII)V"⟩
abbrev cJ7_putChars : ByteArray := prog_55_method_68_code
def yJ7_putChars : MethodName := ⟨RJ7, "putChars", "([BI[CII)V"⟩
abbrev cJ7_compareTo : ByteArray := prog_55_method_29_code
def yJ7_compareTo : MethodName := ⟨RJ7, "compareTo", "([B[B)I"⟩
abbrev cJ7_compareValues : ByteArray := prog_55_method_31_code
def yJ7_compareValues : MethodName := ⟨RJ7, "compareValues", "([B[BII)I"⟩
abbrev cJ7_compareToLatin1 : ByteArray := prog_55_method_32_code
def yJ7_compareToLatin1 : MethodName := ⟨RJ7, "compareToLatin1", "([B[B)I"⟩
abbrev cJ7_toBytes : ByteArray := prog_55_method_24_code
def yJ7_toBytes : MethodName := ⟨RJ7, "toBytes", "(C)[B"⟩
theorem q114 : (Jvm.Cond.initialized "java/lang/StringUTF16") ∈ lw_all := lw_g (lw_at lw_m1 10 rfl) rfl
theorem q246 : (Jvm.Cond.static ({ cls := "java/lang/StringUTF16", name := "newBytesFor", desc := "(I)[B" } : Jvm.MethodName)) ∈ lw_all := lw_g (lw_at lw_m1 142 rfl) rfl
theorem q247 : (Jvm.Cond.code ({ cls := "java/lang/StringUTF16", name := "newBytesFor", desc := "(I)[B" } : Jvm.MethodName) prog_55_method_2_code (1 : Nat) (Option.some (Jvm.ClassFile.FieldType.array Jvm.ClassFile.FieldType.byte))) ∈ lw_all := lw_g (lw_at lw_m1 143 rfl) rfl
theorem q248 : (Jvm.Cond.methodLink "java/lang/StringUTF16" (11 : Nat) ({ cls := "java/lang/StringUTF16", name := "newBytesLength", desc := "(I)I" } : Jvm.MethodName)) ∈ lw_all := lw_g (lw_at lw_m1 144 rfl) rfl
theorem q249 : (Jvm.Cond.static ({ cls := "java/lang/StringUTF16", name := "newBytesLength", desc := "(I)I" } : Jvm.MethodName)) ∈ lw_all := lw_g (lw_at lw_m1 145 rfl) rfl
theorem q250 : (Jvm.Cond.code ({ cls := "java/lang/StringUTF16", name := "newBytesLength", desc := "(I)I" } : Jvm.MethodName) prog_55_method_3_code (1 : Nat) (Option.some Jvm.ClassFile.FieldType.int)) ∈ lw_all := lw_g (lw_at lw_m1 146 rfl) rfl
theorem q251 : (Jvm.Cond.constant "java/lang/StringUTF16" (20 : Nat) (1073741823 : Int32)) ∈ lw_all := lw_g (lw_at lw_m1 147 rfl) rfl
theorem q390 : (Jvm.Cond.static ({ cls := "java/lang/StringUTF16", name := "putCharsAt", desc := "([BICCCC)I" } : Jvm.MethodName)) ∈ lw_all := lw_g (lw_at lw_m2 46 rfl) rfl
theorem q391 : (Jvm.Cond.code ({ cls := "java/lang/StringUTF16", name := "putCharsAt", desc := "([BICCCC)I" } : Jvm.MethodName) prog_55_method_81_code (7 : Nat) (Option.some Jvm.ClassFile.FieldType.int)) ∈ lw_all := lw_g (lw_at lw_m2 47 rfl) rfl
theorem q392 : (Jvm.Cond.methodLink "java/lang/StringUTF16" (96 : Nat) ({ cls := "java/lang/StringUTF16", name := "checkBoundsBeginEnd", desc := "(II[B)V" } : Jvm.MethodName)) ∈ lw_all := lw_g (lw_at lw_m2 48 rfl) rfl
theorem q393 : (Jvm.Cond.static ({ cls := "java/lang/StringUTF16", name := "checkBoundsBeginEnd", desc := "(II[B)V" } : Jvm.MethodName)) ∈ lw_all := lw_g (lw_at lw_m2 49 rfl) rfl
theorem q394 : (Jvm.Cond.code ({ cls := "java/lang/StringUTF16", name := "checkBoundsBeginEnd", desc := "(II[B)V" } : Jvm.MethodName) prog_55_method_93_code (3 : Nat) (Option.none : Option Jvm.ClassFile.FieldType)) ∈ lw_all := lw_g (lw_at lw_m2 50 rfl) rfl
theorem q395 : (Jvm.Cond.methodLink "java/lang/StringUTF16" (48 : Nat) ({ cls := "java/lang/StringUTF16", name := "length", desc := "([B)I" } : Jvm.MethodName)) ∈ lw_all := lw_g (lw_at lw_m2 51 rfl) rfl
theorem q396 : (Jvm.Cond.static ({ cls := "java/lang/StringUTF16", name := "length", desc := "([B)I" } : Jvm.MethodName)) ∈ lw_all := lw_g (lw_at lw_m2 52 rfl) rfl
theorem q397 : (Jvm.Cond.code ({ cls := "java/lang/StringUTF16", name := "length", desc := "([B)I" } : Jvm.MethodName) prog_55_method_6_code (1 : Nat) (Option.some Jvm.ClassFile.FieldType.int)) ∈ lw_all := lw_g (lw_at lw_m2 53 rfl) rfl
theorem q398 : (Jvm.Cond.methodLink "java/lang/StringUTF16" (241 : Nat) ({ cls := "java/lang/String", name := "checkBoundsBeginEnd", desc := "(III)V" } : Jvm.MethodName)) ∈ lw_all := lw_g (lw_at lw_m2 54 rfl) rfl
theorem q406 : (Jvm.Cond.methodLink "java/lang/StringUTF16" (111 : Nat) ({ cls := "java/lang/StringUTF16", name := "putChar", desc := "([BII)V" } : Jvm.MethodName)) ∈ lw_all := lw_g (lw_at lw_m2 62 rfl) rfl
theorem q407 : (Jvm.Cond.static ({ cls := "java/lang/StringUTF16", name := "putChar", desc := "([BII)V" } : Jvm.MethodName)) ∈ lw_all := lw_g (lw_at lw_m2 63 rfl) rfl
theorem q408 : (Jvm.Cond.code ({ cls := "java/lang/StringUTF16", name := "putChar", desc := "([BII)V" } : Jvm.MethodName) prog_55_method_4_code (3 : Nat) (Option.none : Option Jvm.ClassFile.FieldType)) ∈ lw_all := lw_g (lw_at lw_m2 64 rfl) rfl
theorem q409 : (Jvm.Cond.fieldLink "java/lang/StringUTF16" (44 : Nat) "java/lang/StringUTF16" "$assertionsDisabled" "Z") ∈ lw_all := lw_g (lw_at lw_m2 65 rfl) rfl
theorem q410 : (Jvm.Cond.laysStatic "java/lang/StringUTF16" "$assertionsDisabled" "Z") ∈ lw_tbl := lw_at lw_m2 66 rfl
theorem q411 : (Jvm.Cond.fieldLink "java/lang/StringUTF16" (59 : Nat) "java/lang/StringUTF16" "HI_BYTE_SHIFT" "I") ∈ lw_all := lw_g (lw_at lw_m2 67 rfl) rfl
theorem q412 : (Jvm.Cond.laysStatic "java/lang/StringUTF16" "HI_BYTE_SHIFT" "I") ∈ lw_tbl := lw_at lw_m2 68 rfl
theorem q413 : (Jvm.Cond.fieldLink "java/lang/StringUTF16" (63 : Nat) "java/lang/StringUTF16" "LO_BYTE_SHIFT" "I") ∈ lw_all := lw_g (lw_at lw_m2 69 rfl) rfl
theorem q414 : (Jvm.Cond.laysStatic "java/lang/StringUTF16" "LO_BYTE_SHIFT" "I") ∈ lw_tbl := lw_at lw_m2 70 rfl
theorem q441 : (Jvm.Cond.static ({ cls := "java/lang/StringUTF16", name := "inflate", desc := "([BI[BII)V" } : Jvm.MethodName)) ∈ lw_all := lw_g (lw_at lw_m2 97 rfl) rfl
theorem q442 : (Jvm.Cond.code ({ cls := "java/lang/StringUTF16", name := "inflate", desc := "([BI[BII)V" } : Jvm.MethodName) prog_55_method_86_code (6 : Nat) (Option.none : Option Jvm.ClassFile.FieldType)) ∈ lw_all := lw_g (lw_at lw_m2 98 rfl) rfl
theorem q443 : (Jvm.Cond.methodLink "java/lang/StringUTF16" (173 : Nat) ({ cls := "java/lang/StringUTF16", name := "checkBoundsOffCount", desc := "(II[B)V" } : Jvm.MethodName)) ∈ lw_all := lw_g (lw_at lw_m2 99 rfl) rfl
theorem q444 : (Jvm.Cond.static ({ cls := "java/lang/StringUTF16", name := "checkBoundsOffCount", desc := "(II[B)V" } : Jvm.MethodName)) ∈ lw_all := lw_g (lw_at lw_m2 100 rfl) rfl
theorem q445 : (Jvm.Cond.code ({ cls := "java/lang/StringUTF16", name := "checkBoundsOffCount", desc := "(II[B)V" } : Jvm.MethodName) prog_55_method_94_code (3 : Nat) (Option.none : Option Jvm.ClassFile.FieldType)) ∈ lw_all := lw_g (lw_at lw_m2 101 rfl) rfl
theorem q446 : (Jvm.Cond.methodLink "java/lang/StringUTF16" (419 : Nat) ({ cls := "java/lang/String", name := "checkBoundsOffCount", desc := "(III)I" } : Jvm.MethodName)) ∈ lw_all := lw_g (lw_at lw_m2 102 rfl) rfl
theorem q476 : (Jvm.Cond.static ({ cls := "java/lang/StringUTF16", name := "getChars", desc := "(III[B)I" } : Jvm.MethodName)) ∈ lw_all := lw_g (lw_at lw_m2 132 rfl) rfl
theorem q477 : (Jvm.Cond.code ({ cls := "java/lang/StringUTF16", name := "getChars", desc := "(III[B)I" } : Jvm.MethodName) prog_55_method_77_code (5 : Nat) (Option.some Jvm.ClassFile.FieldType.int)) ∈ lw_all := lw_g (lw_at lw_m2 133 rfl) rfl
theorem q478 : (Jvm.Cond.methodLink "java/lang/StringUTF16" (393 : Nat) ({ cls := "java/lang/StringUTF16", name := "getChars", desc := "(II[B)I" } : Jvm.MethodName)) ∈ lw_all := lw_g (lw_at lw_m2 134 rfl) rfl
theorem q479 : (Jvm.Cond.static ({ cls := "java/lang/StringUTF16", name := "getChars", desc := "(II[B)I" } : Jvm.MethodName)) ∈ lw_all := lw_g (lw_at lw_m2 135 rfl) rfl
theorem q480 : (Jvm.Cond.code ({ cls := "java/lang/StringUTF16", name := "getChars", desc := "(II[B)I" } : Jvm.MethodName) prog_55_method_89_code (7 : Nat) (Option.some Jvm.ClassFile.FieldType.int)) ∈ lw_all := lw_g (lw_at lw_m2 136 rfl) rfl
theorem q481 : (Jvm.Cond.fieldLink "java/lang/StringUTF16" (403 : Nat) "java/lang/Integer" "DigitOnes" "[B") ∈ lw_all := lw_g (lw_at lw_m2 137 rfl) rfl
theorem q482 : (Jvm.Cond.fieldLink "java/lang/StringUTF16" (407 : Nat) "java/lang/Integer" "DigitTens" "[B") ∈ lw_all := lw_g (lw_at lw_m2 138 rfl) rfl
theorem q552 : (Jvm.Cond.static ({ cls := "java/lang/StringUTF16", name := "compress", desc := "([BII)[B" } : Jvm.MethodName)) ∈ lw_all := lw_g (lw_at lw_m2 208 rfl) rfl
theorem q553 : (Jvm.Cond.code ({ cls := "java/lang/StringUTF16", name := "compress", desc := "([BII)[B" } : Jvm.MethodName) prog_55_method_17_code (6 : Nat) (Option.some (Jvm.ClassFile.FieldType.array Jvm.ClassFile.FieldType.byte))) ∈ lw_all := lw_g (lw_at lw_m2 209 rfl) rfl
theorem q554 : (Jvm.Cond.methodLink "java/lang/StringUTF16" (123 : Nat) ({ cls := "java/lang/StringUTF16", name := "compress", desc := "([BI[BII)I" } : Jvm.MethodName)) ∈ lw_all := lw_g (lw_at lw_m2 210 rfl) rfl
theorem q555 : (Jvm.Cond.static ({ cls := "java/lang/StringUTF16", name := "compress", desc := "([BI[BII)I" } : Jvm.MethodName)) ∈ lw_all := lw_g (lw_at lw_m2 211 rfl) rfl
theorem q556 : (Jvm.Cond.code ({ cls := "java/lang/StringUTF16", name := "compress", desc := "([BI[BII)I" } : Jvm.MethodName) prog_55_method_22_code (7 : Nat) (Option.some Jvm.ClassFile.FieldType.int)) ∈ lw_all := lw_g (lw_at lw_m2 212 rfl) rfl
theorem q557 : (Jvm.Cond.methodLink "java/lang/StringUTF16" (71 : Nat) ({ cls := "java/lang/StringUTF16", name := "getChar", desc := "([BI)C" } : Jvm.MethodName)) ∈ lw_all := lw_g (lw_at lw_m2 213 rfl) rfl
theorem q558 : (Jvm.Cond.static ({ cls := "java/lang/StringUTF16", name := "getChar", desc := "([BI)C" } : Jvm.MethodName)) ∈ lw_all := lw_g (lw_at lw_m2 214 rfl) rfl
theorem q559 : (Jvm.Cond.code ({ cls := "java/lang/StringUTF16", name := "getChar", desc := "([BI)C" } : Jvm.MethodName) prog_55_method_5_code (2 : Nat) (Option.some Jvm.ClassFile.FieldType.char)) ∈ lw_all := lw_g (lw_at lw_m2 215 rfl) rfl
theorem q560 : (Jvm.Cond.methodLink "java/lang/StringUTF16" (126 : Nat) ({ cls := "java/util/Arrays", name := "copyOfRange", desc := "([BII)[B" } : Jvm.MethodName)) ∈ lw_all := lw_g (lw_at lw_m2 216 rfl) rfl
theorem q562 : (Jvm.Cond.static ({ cls := "java/lang/StringUTF16", name := "coderFromArrayLen", desc := "([BI)B" } : Jvm.MethodName)) ∈ lw_all := lw_g (lw_at lw_m2 218 rfl) rfl
theorem q563 : (Jvm.Cond.code ({ cls := "java/lang/StringUTF16", name := "coderFromArrayLen", desc := "([BI)B" } : Jvm.MethodName) prog_55_method_15_code (2 : Nat) (Option.some Jvm.ClassFile.FieldType.byte)) ∈ lw_all := lw_g (lw_at lw_m2 219 rfl) rfl
theorem q896 : (Jvm.Cond.static ({ cls := "java/lang/StringUTF16", name := "putCharSB", desc := "([BII)V" } : Jvm.MethodName)) ∈ lw_all := lw_g (lw_at lw_m4 72 rfl) rfl
theorem q897 : (Jvm.Cond.code ({ cls := "java/lang/StringUTF16", name := "putCharSB", desc := "([BII)V" } : Jvm.MethodName) prog_55_method_71_code (3 : Nat) (Option.none : Option Jvm.ClassFile.FieldType)) ∈ lw_all := lw_g (lw_at lw_m4 73 rfl) rfl
theorem q898 : (Jvm.Cond.methodLink "java/lang/StringUTF16" (67 : Nat) ({ cls := "java/lang/StringUTF16", name := "checkIndex", desc := "(I[B)V" } : Jvm.MethodName)) ∈ lw_all := lw_g (lw_at lw_m4 74 rfl) rfl
theorem q899 : (Jvm.Cond.static ({ cls := "java/lang/StringUTF16", name := "checkIndex", desc := "(I[B)V" } : Jvm.MethodName)) ∈ lw_all := lw_g (lw_at lw_m4 75 rfl) rfl
theorem q900 : (Jvm.Cond.code ({ cls := "java/lang/StringUTF16", name := "checkIndex", desc := "(I[B)V" } : Jvm.MethodName) prog_55_method_91_code (2 : Nat) (Option.none : Option Jvm.ClassFile.FieldType)) ∈ lw_all := lw_g (lw_at lw_m4 76 rfl) rfl
theorem q901 : (Jvm.Cond.methodLink "java/lang/StringUTF16" (414 : Nat) ({ cls := "java/lang/String", name := "checkIndex", desc := "(II)V" } : Jvm.MethodName)) ∈ lw_all := lw_g (lw_at lw_m4 77 rfl) rfl
theorem q1042 : (Jvm.Cond.static ({ cls := "java/lang/StringUTF16", name := "charAt", desc := "([BI)C" } : Jvm.MethodName)) ∈ lw_all := lw_g (lw_at lw_m4 218 rfl) rfl
theorem q1043 : (Jvm.Cond.code ({ cls := "java/lang/StringUTF16", name := "charAt", desc := "([BI)C" } : Jvm.MethodName) prog_55_method_83_code (2 : Nat) (Option.some Jvm.ClassFile.FieldType.char)) ∈ lw_all := lw_g (lw_at lw_m4 219 rfl) rfl
theorem q1060 : (Jvm.Cond.static ({ cls := "java/lang/StringUTF16", name := "newString", desc := "([BII)Ljava/lang/String;" } : Jvm.MethodName)) ∈ lw_all := lw_g (lw_at lw_m4 236 rfl) rfl
theorem q1061 : (Jvm.Cond.code ({ cls := "java/lang/StringUTF16", name := "newString", desc := "([BII)Ljava/lang/String;" } : Jvm.MethodName) prog_55_method_69_code (5 : Nat) (Option.some (Jvm.ClassFile.FieldType.object "java/lang/String"))) ∈ lw_all := lw_g (lw_at lw_m4 237 rfl) rfl
theorem q1062 : (Jvm.Cond.stringRef "java/lang/StringUTF16" (295 : Nat) "") ∈ lw_tbl := lw_at lw_m4 238 rfl
theorem q1063 : (Jvm.Cond.fieldLink "java/lang/StringUTF16" (251 : Nat) "java/lang/String" "COMPACT_STRINGS" "Z") ∈ lw_all := lw_g (lw_at lw_m4 239 rfl) rfl
theorem q1064 : (Jvm.Cond.methodLink "java/lang/StringUTF16" (257 : Nat) ({ cls := "java/lang/StringUTF16", name := "compress", desc := "([BII)[B" } : Jvm.MethodName)) ∈ lw_all := lw_g (lw_at lw_m5 0 rfl) rfl
theorem q1065 : (Jvm.Cond.methodLink "java/lang/StringUTF16" (259 : Nat) ({ cls := "java/lang/StringUTF16", name := "coderFromArrayLen", desc := "([BI)B" } : Jvm.MethodName)) ∈ lw_all := lw_g (lw_at lw_m5 1 rfl) rfl
theorem q1066 : (Jvm.Cond.classLink "java/lang/StringUTF16" (3 : Nat) "java/lang/String") ∈ lw_all := lw_g (lw_at lw_m5 2 rfl) rfl
theorem q1067 : (Jvm.Cond.methodLink "java/lang/StringUTF16" (263 : Nat) ({ cls := "java/lang/String", name := "<init>", desc := "([BB)V" } : Jvm.MethodName)) ∈ lw_all := lw_g (lw_at lw_m5 3 rfl) rfl
theorem q2337 : (Jvm.Cond.static ({ cls := "java/lang/StringUTF16", name := "reverse", desc := "([BI)V" } : Jvm.MethodName)) ∈ lw_all := lw_g (lw_at lw_m10 73 rfl) rfl
theorem q2338 : (Jvm.Cond.code ({ cls := "java/lang/StringUTF16", name := "reverse", desc := "([BI)V" } : Jvm.MethodName) prog_55_method_84_code (8 : Nat) (Option.none : Option Jvm.ClassFile.FieldType)) ∈ lw_all := lw_g (lw_at lw_m10 74 rfl) rfl
theorem q2339 : (Jvm.Cond.methodLink "java/lang/StringUTF16" (180 : Nat) ({ cls := "java/lang/StringUTF16", name := "checkOffset", desc := "(I[B)V" } : Jvm.MethodName)) ∈ lw_all := lw_g (lw_at lw_m10 75 rfl) rfl
theorem q2340 : (Jvm.Cond.static ({ cls := "java/lang/StringUTF16", name := "checkOffset", desc := "(I[B)V" } : Jvm.MethodName)) ∈ lw_all := lw_g (lw_at lw_m10 76 rfl) rfl
theorem q2341 : (Jvm.Cond.code ({ cls := "java/lang/StringUTF16", name := "checkOffset", desc := "(I[B)V" } : Jvm.MethodName) prog_55_method_92_code (2 : Nat) (Option.none : Option Jvm.ClassFile.FieldType)) ∈ lw_all := lw_g (lw_at lw_m10 77 rfl) rfl
theorem q2342 : (Jvm.Cond.methodLink "java/lang/StringUTF16" (417 : Nat) ({ cls := "java/lang/String", name := "checkOffset", desc := "(II)V" } : Jvm.MethodName)) ∈ lw_all := lw_g (lw_at lw_m10 78 rfl) rfl
theorem q2345 : (Jvm.Cond.methodLink "java/lang/StringUTF16" (212 : Nat) ({ cls := "java/lang/Character", name := "isSurrogate", desc := "(C)Z" } : Jvm.MethodName)) ∈ lw_all := lw_g (lw_at lw_m10 81 rfl) rfl
theorem q2350 : (Jvm.Cond.methodLink "java/lang/StringUTF16" (399 : Nat) ({ cls := "java/lang/StringUTF16", name := "reverseAllValidSurrogatePairs", desc := "([BI)V" } : Jvm.MethodName)) ∈ lw_all := lw_g (lw_at lw_m10 86 rfl) rfl
theorem q2351 : (Jvm.Cond.static ({ cls := "java/lang/StringUTF16", name := "reverseAllValidSurrogatePairs", desc := "([BI)V" } : Jvm.MethodName)) ∈ lw_all := lw_g (lw_at lw_m10 87 rfl) rfl
theorem q2352 : (Jvm.Cond.code ({ cls := "java/lang/StringUTF16", name := "reverseAllValidSurrogatePairs", desc := "([BI)V" } : Jvm.MethodName) prog_55_method_85_code (5 : Nat) (Option.none : Option Jvm.ClassFile.FieldType)) ∈ lw_all := lw_g (lw_at lw_m10 88 rfl) rfl
theorem q2353 : (Jvm.Cond.methodLink "java/lang/StringUTF16" (81 : Nat) ({ cls := "java/lang/Character", name := "isLowSurrogate", desc := "(C)Z" } : Jvm.MethodName)) ∈ lw_all := lw_g (lw_at lw_m10 89 rfl) rfl
theorem q2357 : (Jvm.Cond.methodLink "java/lang/StringUTF16" (75 : Nat) ({ cls := "java/lang/Character", name := "isHighSurrogate", desc := "(C)Z" } : Jvm.MethodName)) ∈ lw_all := lw_g (lw_at lw_m10 93 rfl) rfl
theorem q2681 : (Jvm.Cond.static ({ cls := "java/lang/StringUTF16", name := "indexOf", desc := "([BIII)I" } : Jvm.MethodName)) ∈ lw_all := lw_g (lw_at lw_m11 177 rfl) rfl
theorem q2682 : (Jvm.Cond.code ({ cls := "java/lang/StringUTF16", name := "indexOf", desc := "([BIII)I" } : Jvm.MethodName) prog_55_method_40_code (4 : Nat) (Option.some Jvm.ClassFile.FieldType.int)) ∈ lw_all := lw_g (lw_at lw_m11 178 rfl) rfl
theorem q2683 : (Jvm.Cond.methodLink "java/lang/StringUTF16" (224 : Nat) ({ cls := "java/lang/Math", name := "max", desc := "(II)I" } : Jvm.MethodName)) ∈ lw_all := lw_g (lw_at lw_m11 179 rfl) rfl
theorem q2684 : (Jvm.Cond.methodLink "java/lang/StringUTF16" (183 : Nat) ({ cls := "java/lang/Math", name := "min", desc := "(II)I" } : Jvm.MethodName)) ∈ lw_all := lw_g (lw_at lw_m11 180 rfl) rfl
theorem q2685 : (Jvm.Cond.constant "java/lang/StringUTF16" (227 : Nat) (65536 : Int32)) ∈ lw_all := lw_g (lw_at lw_m11 181 rfl) rfl
theorem q2686 : (Jvm.Cond.methodLink "java/lang/StringUTF16" (228 : Nat) ({ cls := "java/lang/StringUTF16", name := "indexOfChar", desc := "([BIII)I" } : Jvm.MethodName)) ∈ lw_all := lw_g (lw_at lw_m11 182 rfl) rfl
theorem q2687 : (Jvm.Cond.static ({ cls := "java/lang/StringUTF16", name := "indexOfChar", desc := "([BIII)I" } : Jvm.MethodName)) ∈ lw_all := lw_g (lw_at lw_m11 183 rfl) rfl
theorem q2688 : (Jvm.Cond.code ({ cls := "java/lang/StringUTF16", name := "indexOfChar", desc := "([BIII)I" } : Jvm.MethodName) prog_55_method_47_code (4 : Nat) (Option.some Jvm.ClassFile.FieldType.int)) ∈ lw_all := lw_g (lw_at lw_m11 184 rfl) rfl
theorem q2689 : (Jvm.Cond.methodLink "java/lang/StringUTF16" (244 : Nat) ({ cls := "java/lang/StringUTF16", name := "indexOfCharUnsafe", desc := "([BIII)I" } : Jvm.MethodName)) ∈ lw_all := lw_g (lw_at lw_m11 185 rfl) rfl
theorem q2690 : (Jvm.Cond.static ({ cls := "java/lang/StringUTF16", name := "indexOfCharUnsafe", desc := "([BIII)I" } : Jvm.MethodName)) ∈ lw_all := lw_g (lw_at lw_m11 186 rfl) rfl
theorem q2691 : (Jvm.Cond.code ({ cls := "java/lang/StringUTF16", name := "indexOfCharUnsafe", desc := "([BIII)I" } : Jvm.MethodName) prog_55_method_48_code (5 : Nat) (Option.some Jvm.ClassFile.FieldType.int)) ∈ lw_all := lw_g (lw_at lw_m11 187 rfl) rfl
theorem q2692 : (Jvm.Cond.methodLink "java/lang/StringUTF16" (232 : Nat) ({ cls := "java/lang/StringUTF16", name := "indexOfSupplementary", desc := "([BIII)I" } : Jvm.MethodName)) ∈ lw_all := lw_g (lw_at lw_m11 188 rfl) rfl
theorem q2693 : (Jvm.Cond.static ({ cls := "java/lang/StringUTF16", name := "indexOfSupplementary", desc := "([BIII)I" } : Jvm.MethodName)) ∈ lw_all := lw_g (lw_at lw_m11 189 rfl) rfl
theorem q2694 : (Jvm.Cond.code ({ cls := "java/lang/StringUTF16", name := "indexOfSupplementary", desc := "([BIII)I" } : Jvm.MethodName) prog_55_method_49_code (7 : Nat) (Option.some Jvm.ClassFile.FieldType.int)) ∈ lw_all := lw_g (lw_at lw_m11 190 rfl) rfl
theorem q2695 : (Jvm.Cond.methodLink "java/lang/StringUTF16" (164 : Nat) ({ cls := "java/lang/Character", name := "isValidCodePoint", desc := "(I)Z" } : Jvm.MethodName)) ∈ lw_all := lw_g (lw_at lw_m11 191 rfl) rfl
theorem q2698 : (Jvm.Cond.methodLink "java/lang/StringUTF16" (157 : Nat) ({ cls := "java/lang/Character", name := "highSurrogate", desc := "(I)C" } : Jvm.MethodName)) ∈ lw_all := lw_g (lw_at lw_m11 194 rfl) rfl
theorem q2702 : (Jvm.Cond.methodLink "java/lang/StringUTF16" (161 : Nat) ({ cls := "java/lang/Character", name := "lowSurrogate", desc := "(I)C" } : Jvm.MethodName)) ∈ lw_all := lw_g (lw_at lw_m11 198 rfl) rfl
theorem q2756 : (Jvm.Cond.static ({ cls := "java/lang/StringUTF16", name := "toChars", desc := "([B)[C" } : Jvm.MethodName)) ∈ lw_all := lw_g (lw_at lw_m12 12 rfl) rfl
theorem q2757 : (Jvm.Cond.code ({ cls := "java/lang/StringUTF16", name := "toChars", desc := "([B)[C" } : Jvm.MethodName) prog_55_method_13_code (2 : Nat) (Option.some (Jvm.ClassFile.FieldType.array Jvm.ClassFile.FieldType.char))) ∈ lw_all := lw_g (lw_at lw_m12 13 rfl) rfl
theorem q2758 : (Jvm.Cond.methodLink "java/lang/StringUTF16" (103 : Nat) ({ cls := "java/lang/StringUTF16", name := "getChars", desc := "([BII[CI)V" } : Jvm.MethodName)) ∈ lw_all := lw_g (lw_at lw_m12 14 rfl) rfl
theorem q2759 : (Jvm.Cond.static ({ cls := "java/lang/StringUTF16", name := "getChars", desc := "([BII[CI)V" } : Jvm.MethodName)) ∈ lw_all := lw_g (lw_at lw_m12 15 rfl) rfl
theorem q2760 : (Jvm.Cond.code ({ cls := "java/lang/StringUTF16", name := "getChars", desc := "([BII[CI)V" } : Jvm.MethodName) prog_55_method_26_code (6 : Nat) (Option.none : Option Jvm.ClassFile.FieldType)) ∈ lw_all := lw_g (lw_at lw_m12 16 rfl) rfl
theorem q3361 : (Jvm.Cond.static ({ cls := "java/lang/StringUTF16", name := "putCharsSB", desc := "([BI[CII)V" } : Jvm.MethodName)) ∈ lw_all := lw_g (lw_at lw_m14 137 rfl) rfl
theorem q3362 : (Jvm.Cond.code ({ cls := "java/lang/StringUTF16", name := "putCharsSB", desc := "([BI[CII)V" } : Jvm.MethodName) prog_55_method_72_code (5 : Nat) (Option.none : Option Jvm.ClassFile.FieldType)) ∈ lw_all := lw_g (lw_at lw_m14 138 rfl) rfl
theorem q3363 : (Jvm.Cond.methodLink "java/lang/StringUTF16" (384 : Nat) ({ cls := "java/lang/StringUTF16", name := "putChars", desc := "([BI[CII)V" } : Jvm.MethodName)) ∈ lw_all := lw_g (lw_at lw_m14 139 rfl) rfl
theorem q3364 : (Jvm.Cond.static ({ cls := "java/lang/StringUTF16", name := "putChars", desc := "([BI[CII)V" } : Jvm.MethodName)) ∈ lw_all := lw_g (lw_at lw_m14 140 rfl) rfl
theorem q3365 : (Jvm.Cond.code ({ cls := "java/lang/StringUTF16", name := "putChars", desc := "([BI[CII)V" } : Jvm.MethodName) prog_55_method_68_code (5 : Nat) (Option.none : Option Jvm.ClassFile.FieldType)) ∈ lw_all := lw_g (lw_at lw_m14 141 rfl) rfl
theorem q3530 : (Jvm.Cond.static ({ cls := "java/lang/StringUTF16", name := "compareTo", desc := "([B[B)I" } : Jvm.MethodName)) ∈ lw_all := lw_g (lw_at lw_m15 66 rfl) rfl
theorem q3531 : (Jvm.Cond.code ({ cls := "java/lang/StringUTF16", name := "compareTo", desc := "([B[B)I" } : Jvm.MethodName) prog_55_method_29_code (4 : Nat) (Option.some Jvm.ClassFile.FieldType.int)) ∈ lw_all := lw_g (lw_at lw_m15 67 rfl) rfl
theorem q3532 : (Jvm.Cond.methodLink "java/lang/StringUTF16" (176 : Nat) ({ cls := "java/lang/StringUTF16", name := "compareValues", desc := "([B[BII)I" } : Jvm.MethodName)) ∈ lw_all := lw_g (lw_at lw_m15 68 rfl) rfl
theorem q3533 : (Jvm.Cond.static ({ cls := "java/lang/StringUTF16", name := "compareValues", desc := "([B[BII)I" } : Jvm.MethodName)) ∈ lw_all := lw_g (lw_at lw_m15 69 rfl) rfl
theorem q3534 : (Jvm.Cond.code ({ cls := "java/lang/StringUTF16", name := "compareValues", desc := "([B[BII)I" } : Jvm.MethodName) prog_55_method_31_code (8 : Nat) (Option.some Jvm.ClassFile.FieldType.int)) ∈ lw_all := lw_g (lw_at lw_m15 70 rfl) rfl
theorem q3547 : (Jvm.Cond.static ({ cls := "java/lang/StringUTF16", name := "compareToLatin1", desc := "([B[B)I" } : Jvm.MethodName)) ∈ lw_all := lw_g (lw_at lw_m15 83 rfl) rfl
theorem q3548 : (Jvm.Cond.code ({ cls := "java/lang/StringUTF16", name := "compareToLatin1", desc := "([B[B)I" } : Jvm.MethodName) prog_55_method_32_code (2 : Nat) (Option.some Jvm.ClassFile.FieldType.int)) ∈ lw_all := lw_g (lw_at lw_m15 84 rfl) rfl
theorem q3549 : (Jvm.Cond.methodLink "java/lang/StringUTF16" (189 : Nat) ({ cls := "java/lang/StringLatin1", name := "compareToUTF16", desc := "([B[B)I" } : Jvm.MethodName)) ∈ lw_all := lw_g (lw_at lw_m15 85 rfl) rfl
theorem q3685 : (Jvm.Cond.static ({ cls := "java/lang/StringUTF16", name := "toBytes", desc := "(C)[B" } : Jvm.MethodName)) ∈ lw_all := lw_g (lw_at lw_m15 221 rfl) rfl
theorem q3686 : (Jvm.Cond.code ({ cls := "java/lang/StringUTF16", name := "toBytes", desc := "(C)[B" } : Jvm.MethodName) prog_55_method_24_code (2 : Nat) (Option.some (Jvm.ClassFile.FieldType.array Jvm.ClassFile.FieldType.byte))) ∈ lw_all := lw_g (lw_at lw_m15 222 rfl) rfl
def RJ8 : String := "java/lang/Enum"
abbrev cJ8_equals : ByteArray := prog_40_method_5_code
def yJ8_equals : MethodName := ⟨RJ8, "equals", "(Ljava/lang/Object;)Z"⟩
theorem q116 : (Jvm.Cond.initialized "java/lang/Enum") ∈ lw_all := lw_g (lw_at lw_m1 12 rfl) rfl
theorem q2469 : (Jvm.Cond.instanceMethod ({ cls := "java/lang/Enum", name := "equals", desc := "(Ljava/lang/Object;)Z" } : Jvm.MethodName)) ∈ lw_all := lw_g (lw_at lw_m10 205 rfl) rfl
theorem q2470 : (Jvm.Cond.code ({ cls := "java/lang/Enum", name := "equals", desc := "(Ljava/lang/Object;)Z" } : Jvm.MethodName) prog_40_method_5_code (2 : Nat) (Option.some Jvm.ClassFile.FieldType.boolean)) ∈ lw_all := lw_g (lw_at lw_m10 206 rfl) rfl
def RJ9 : String := "java/util/ArrayList"
def TJ9 : u_T := fun k => match k with
  | 0 => ("java/util/AbstractList", "modCount", "I", false)
  | 1 => ("java/util/ArrayList", "elementData", "[Ljava/lang/Object;", false)
  | _ => ("java/util/ArrayList", "size", "I", false)
def tyJ9 : Nat → FieldType := fun k => match k with
  | 0 => .int
  | 1 => .array (.object "java/lang/Object")
  | _ => .int
abbrev wsJ90 : List Cond := u_ws RJ9 TJ9 3
theorem nmJ9 : ∀ a, a < 3 → ∀ b, b < 3 → a ≠ b → (TJ9 a).2.1 ≠ (TJ9 b).2.1 := by decide +kernel
theorem tyJ9_ok : ∀ k, k < 3 → parseFieldDescriptor (TJ9 k).2.2.1 = some (tyJ9 k) := by decide +kernel
abbrev cJ9_init : ByteArray := prog_66_method_1_code
def yJ9_init : MethodName := ⟨RJ9, "<init>", "(I)V"⟩
abbrev cJ9_init_2 : ByteArray := prog_66_method_2_code
def yJ9_init_2 : MethodName := ⟨RJ9, "<init>", "()V"⟩
abbrev cJ9_add : ByteArray := prog_66_method_25_code
def yJ9_add : MethodName := ⟨RJ9, "add", "(Ljava/lang/Object;)Z"⟩
abbrev cJ9_add_2 : ByteArray := prog_66_method_24_code
def yJ9_add_2 : MethodName := ⟨RJ9, "add", "(Ljava/lang/Object;[Ljava/lang/Object;I)V"⟩
abbrev cJ9_grow : ByteArray := prog_66_method_7_code
def yJ9_grow : MethodName := ⟨RJ9, "grow", "()[Ljava/lang/Object;"⟩
abbrev cJ9_grow_2 : ByteArray := prog_66_method_6_code
def yJ9_grow_2 : MethodName := ⟨RJ9, "grow", "(I)[Ljava/lang/Object;"⟩
abbrev cJ9_addAll : ByteArray := prog_66_method_41_code
def yJ9_addAll : MethodName := ⟨RJ9, "addAll", "(Ljava/util/Collection;)Z"⟩
abbrev cJ9_toArray : ByteArray := prog_66_method_16_code
def yJ9_toArray : MethodName := ⟨RJ9, "toArray", "()[Ljava/lang/Object;"⟩
abbrev cJ9_listIterator : ByteArray := prog_66_method_53_code
def yJ9_listIterator : MethodName := ⟨RJ9, "listIterator", "(I)Ljava/util/ListIterator;"⟩
abbrev cJ9_rangeCheckForAdd : ByteArray := prog_66_method_45_code
def yJ9_rangeCheckForAdd : MethodName := ⟨RJ9, "rangeCheckForAdd", "(I)V"⟩
abbrev cJ9_outOfBoundsMsg : ByteArray := prog_66_method_46_code
def yJ9_outOfBoundsMsg : MethodName := ⟨RJ9, "outOfBoundsMsg", "(I)Ljava/lang/String;"⟩
abbrev cJ9_size : ByteArray := prog_66_method_8_code
def yJ9_size : MethodName := ⟨RJ9, "size", "()I"⟩
abbrev cJ9_get : ByteArray := prog_66_method_20_code
def yJ9_get : MethodName := ⟨RJ9, "get", "(I)Ljava/lang/Object;"⟩
abbrev cJ9_elementData : ByteArray := prog_66_method_18_code
def yJ9_elementData : MethodName := ⟨RJ9, "elementData", "(I)Ljava/lang/Object;"⟩
abbrev cJ9_remove : ByteArray := prog_66_method_29_code
def yJ9_remove : MethodName := ⟨RJ9, "remove", "(I)Ljava/lang/Object;"⟩
abbrev cJ9_fastRemove : ByteArray := prog_66_method_39_code
def yJ9_fastRemove : MethodName := ⟨RJ9, "fastRemove", "([Ljava/lang/Object;I)V"⟩
abbrev cJ9_isEmpty : ByteArray := prog_66_method_9_code
def yJ9_isEmpty : MethodName := ⟨RJ9, "isEmpty", "()Z"⟩
abbrev cJ9_iterator : ByteArray := prog_66_method_55_code
def yJ9_iterator : MethodName := ⟨RJ9, "iterator", "()Ljava/util/Iterator;"⟩
abbrev cJ9_clear : ByteArray := prog_66_method_40_code
def yJ9_clear : MethodName := ⟨RJ9, "clear", "()V"⟩
abbrev cJ9_init_3 : ByteArray := prog_66_method_3_code
def yJ9_init_3 : MethodName := ⟨RJ9, "<init>", "(Ljava/util/Collection;)V"⟩
abbrev cJ9_remove_2 : ByteArray := prog_66_method_38_code
def yJ9_remove_2 : MethodName := ⟨RJ9, "remove", "(Ljava/lang/Object;)Z"⟩
theorem q118 : (Jvm.Cond.initialized "java/util/ArrayList") ∈ lw_all := lw_g (lw_at lw_m1 14 rfl) rfl
theorem q213 : (Jvm.Cond.sameField "java/util/ArrayList" "java/util/AbstractList" "modCount" "I") ∈ lw_all := lw_g (lw_at lw_m1 109 rfl) rfl
theorem q216 : (Jvm.Cond.fieldLink "java/util/ArrayList" (63 : Nat) "java/util/ArrayList" "modCount" "I") ∈ lw_all := lw_g (lw_at lw_m1 112 rfl) rfl
theorem q279 : (Jvm.Cond.instantiable "java/util/ArrayList" (3 : Nat)) ∈ lw_all := lw_g (lw_at lw_m1 175 rfl) rfl
theorem q281 : (Jvm.Cond.instanceMethod ({ cls := "java/util/ArrayList", name := "<init>", desc := "(I)V" } : Jvm.MethodName)) ∈ lw_all := lw_g (lw_at lw_m1 177 rfl) rfl
theorem q282 : (Jvm.Cond.code ({ cls := "java/util/ArrayList", name := "<init>", desc := "(I)V" } : Jvm.MethodName) prog_66_method_1_code (2 : Nat) (Option.none : Option Jvm.ClassFile.FieldType)) ∈ lw_all := lw_g (lw_at lw_m1 178 rfl) rfl
theorem q283 : (Jvm.Cond.methodLink "java/util/ArrayList" (1 : Nat) ({ cls := "java/util/AbstractList", name := "<init>", desc := "()V" } : Jvm.MethodName)) ∈ lw_all := lw_g (lw_at lw_m1 179 rfl) rfl
theorem q284 : (Jvm.Cond.classLink "java/util/ArrayList" (7 : Nat) "java/lang/Object") ∈ lw_all := lw_g (lw_at lw_m1 180 rfl) rfl
theorem q286 : (Jvm.Cond.fieldLink "java/util/ArrayList" (15 : Nat) "java/util/ArrayList" "EMPTY_ELEMENTDATA" "[Ljava/lang/Object;") ∈ lw_all := lw_g (lw_at lw_m1 182 rfl) rfl
theorem q287 : (Jvm.Cond.laysStatic "java/util/ArrayList" "EMPTY_ELEMENTDATA" "[Ljava/lang/Object;") ∈ lw_tbl := lw_at lw_m1 183 rfl
theorem q288 : (Jvm.Cond.classLink "java/util/ArrayList" (18 : Nat) "java/lang/IllegalArgumentException") ∈ lw_all := lw_g (lw_at lw_m1 184 rfl) rfl
theorem q335 : (Jvm.Cond.classLink "java/util/ArrayList" (20 : Nat) "java/lang/StringBuilder") ∈ lw_all := lw_g (lw_at lw_m1 231 rfl) rfl
theorem q336 : (Jvm.Cond.methodLink "java/util/ArrayList" (22 : Nat) ({ cls := "java/lang/StringBuilder", name := "<init>", desc := "()V" } : Jvm.MethodName)) ∈ lw_all := lw_g (lw_at lw_m1 232 rfl) rfl
theorem q337 : (Jvm.Cond.stringRef "java/util/ArrayList" (23 : Nat) "Illegal Capacity: ") ∈ lw_tbl := lw_at lw_m1 233 rfl
theorem q338 : (Jvm.Cond.methodLink "java/util/ArrayList" (25 : Nat) ({ cls := "java/lang/StringBuilder", name := "append", desc := "(Ljava/lang/String;)Ljava/lang/StringBuilder;" } : Jvm.MethodName)) ∈ lw_all := lw_g (lw_at lw_m1 234 rfl) rfl
theorem q458 : (Jvm.Cond.methodLink "java/util/ArrayList" (29 : Nat) ({ cls := "java/lang/StringBuilder", name := "append", desc := "(I)Ljava/lang/StringBuilder;" } : Jvm.MethodName)) ∈ lw_all := lw_g (lw_at lw_m2 114 rfl) rfl
theorem q483 : (Jvm.Cond.methodLink "java/util/ArrayList" (32 : Nat) ({ cls := "java/lang/StringBuilder", name := "toString", desc := "()Ljava/lang/String;" } : Jvm.MethodName)) ∈ lw_all := lw_g (lw_at lw_m2 139 rfl) rfl
theorem q575 : (Jvm.Cond.methodLink "java/util/ArrayList" (36 : Nat) ({ cls := "java/lang/IllegalArgumentException", name := "<init>", desc := "(Ljava/lang/String;)V" } : Jvm.MethodName)) ∈ lw_all := lw_g (lw_at lw_m2 231 rfl) rfl
theorem q576 : (Jvm.Cond.fieldLink "java/util/ArrayList" (9 : Nat) "java/util/ArrayList" "elementData" "[Ljava/lang/Object;") ∈ lw_all := lw_g (lw_at lw_m2 232 rfl) rfl
theorem q579 : (Jvm.Cond.fieldLink "java/util/ArrayList" (48 : Nat) "java/util/ArrayList" "size" "I") ∈ lw_all := lw_g (lw_at lw_m2 235 rfl) rfl
theorem q580 : (Jvm.Cond.lays "java/util/ArrayList" "java/util/ArrayList" "elementData" "[Ljava/lang/Object;") ∈ lw_all := lw_g (lw_at lw_m2 236 rfl) rfl
theorem q581 : (Jvm.Cond.soleField "java/util/ArrayList" "elementData") ∈ lw_all := lw_g (lw_at lw_m2 237 rfl) rfl
theorem q582 : (Jvm.Cond.lays "java/util/ArrayList" "java/util/ArrayList" "size" "I") ∈ lw_all := lw_g (lw_at lw_m2 238 rfl) rfl
theorem q583 : (Jvm.Cond.soleField "java/util/ArrayList" "size") ∈ lw_all := lw_g (lw_at lw_m2 239 rfl) rfl
theorem q584 : (Jvm.Cond.lays "java/util/ArrayList" "java/util/AbstractList" "modCount" "I") ∈ lw_all := lw_g (lw_at lw_m3 0 rfl) rfl
theorem q585 : (Jvm.Cond.superclass "java/util/ArrayList" "java/util/AbstractList") ∈ lw_all := lw_g (lw_at lw_m3 1 rfl) rfl
theorem q634 : (Jvm.Cond.instanceMethod ({ cls := "java/util/ArrayList", name := "<init>", desc := "()V" } : Jvm.MethodName)) ∈ lw_all := lw_g (lw_at lw_m3 50 rfl) rfl
theorem q635 : (Jvm.Cond.code ({ cls := "java/util/ArrayList", name := "<init>", desc := "()V" } : Jvm.MethodName) prog_66_method_2_code (1 : Nat) (Option.none : Option Jvm.ClassFile.FieldType)) ∈ lw_all := lw_g (lw_at lw_m3 51 rfl) rfl
theorem q636 : (Jvm.Cond.fieldLink "java/util/ArrayList" (39 : Nat) "java/util/ArrayList" "DEFAULTCAPACITY_EMPTY_ELEMENTDATA" "[Ljava/lang/Object;") ∈ lw_all := lw_g (lw_at lw_m3 52 rfl) rfl
theorem q637 : (Jvm.Cond.laysStatic "java/util/ArrayList" "DEFAULTCAPACITY_EMPTY_ELEMENTDATA" "[Ljava/lang/Object;") ∈ lw_tbl := lw_at lw_m3 53 rfl
theorem q919 : (Jvm.Cond.instanceMethod ({ cls := "java/util/ArrayList", name := "add", desc := "(Ljava/lang/Object;)Z" } : Jvm.MethodName)) ∈ lw_all := lw_g (lw_at lw_m4 95 rfl) rfl
theorem q920 : (Jvm.Cond.selects "java/util/ArrayList" ({ cls := "java/util/ArrayList", name := "add", desc := "(Ljava/lang/Object;)Z" } : Jvm.MethodName) ({ cls := "java/util/ArrayList", name := "add", desc := "(Ljava/lang/Object;)Z" } : Jvm.MethodName)) ∈ lw_all := lw_g (lw_at lw_m4 96 rfl) rfl
theorem q921 : (Jvm.Cond.code ({ cls := "java/util/ArrayList", name := "add", desc := "(Ljava/lang/Object;)Z" } : Jvm.MethodName) prog_66_method_25_code (2 : Nat) (Option.some Jvm.ClassFile.FieldType.boolean)) ∈ lw_all := lw_g (lw_at lw_m4 97 rfl) rfl
theorem q922 : (Jvm.Cond.methodLink "java/util/ArrayList" (131 : Nat) ({ cls := "java/util/ArrayList", name := "add", desc := "(Ljava/lang/Object;[Ljava/lang/Object;I)V" } : Jvm.MethodName)) ∈ lw_all := lw_g (lw_at lw_m4 98 rfl) rfl
theorem q923 : (Jvm.Cond.privateMethod ({ cls := "java/util/ArrayList", name := "add", desc := "(Ljava/lang/Object;[Ljava/lang/Object;I)V" } : Jvm.MethodName)) ∈ lw_tbl := lw_at lw_m4 99 rfl
theorem q924 : (Jvm.Cond.instanceMethod ({ cls := "java/util/ArrayList", name := "add", desc := "(Ljava/lang/Object;[Ljava/lang/Object;I)V" } : Jvm.MethodName)) ∈ lw_all := lw_g (lw_at lw_m4 100 rfl) rfl
theorem q925 : (Jvm.Cond.code ({ cls := "java/util/ArrayList", name := "add", desc := "(Ljava/lang/Object;[Ljava/lang/Object;I)V" } : Jvm.MethodName) prog_66_method_24_code (4 : Nat) (Option.none : Option Jvm.ClassFile.FieldType)) ∈ lw_all := lw_g (lw_at lw_m4 101 rfl) rfl
theorem q926 : (Jvm.Cond.methodLink "java/util/ArrayList" (129 : Nat) ({ cls := "java/util/ArrayList", name := "grow", desc := "()[Ljava/lang/Object;" } : Jvm.MethodName)) ∈ lw_all := lw_g (lw_at lw_m4 102 rfl) rfl
theorem q927 : (Jvm.Cond.privateMethod ({ cls := "java/util/ArrayList", name := "grow", desc := "()[Ljava/lang/Object;" } : Jvm.MethodName)) ∈ lw_tbl := lw_at lw_m4 103 rfl
theorem q928 : (Jvm.Cond.instanceMethod ({ cls := "java/util/ArrayList", name := "grow", desc := "()[Ljava/lang/Object;" } : Jvm.MethodName)) ∈ lw_all := lw_g (lw_at lw_m4 104 rfl) rfl
theorem q929 : (Jvm.Cond.code ({ cls := "java/util/ArrayList", name := "grow", desc := "()[Ljava/lang/Object;" } : Jvm.MethodName) prog_66_method_7_code (1 : Nat) (Option.some (Jvm.ClassFile.FieldType.array (Jvm.ClassFile.FieldType.object "java/lang/Object")))) ∈ lw_all := lw_g (lw_at lw_m4 105 rfl) rfl
theorem q930 : (Jvm.Cond.methodLink "java/util/ArrayList" (69 : Nat) ({ cls := "java/util/ArrayList", name := "grow", desc := "(I)[Ljava/lang/Object;" } : Jvm.MethodName)) ∈ lw_all := lw_g (lw_at lw_m4 106 rfl) rfl
theorem q931 : (Jvm.Cond.privateMethod ({ cls := "java/util/ArrayList", name := "grow", desc := "(I)[Ljava/lang/Object;" } : Jvm.MethodName)) ∈ lw_tbl := lw_at lw_m4 107 rfl
theorem q932 : (Jvm.Cond.instanceMethod ({ cls := "java/util/ArrayList", name := "grow", desc := "(I)[Ljava/lang/Object;" } : Jvm.MethodName)) ∈ lw_all := lw_g (lw_at lw_m4 108 rfl) rfl
theorem q933 : (Jvm.Cond.code ({ cls := "java/util/ArrayList", name := "grow", desc := "(I)[Ljava/lang/Object;" } : Jvm.MethodName) prog_66_method_6_code (4 : Nat) (Option.some (Jvm.ClassFile.FieldType.array (Jvm.ClassFile.FieldType.object "java/lang/Object")))) ∈ lw_all := lw_g (lw_at lw_m4 109 rfl) rfl
theorem q934 : (Jvm.Cond.methodLink "java/util/ArrayList" (73 : Nat) ({ cls := "jdk/internal/util/ArraysSupport", name := "newLength", desc := "(III)I" } : Jvm.MethodName)) ∈ lw_all := lw_g (lw_at lw_m4 110 rfl) rfl
theorem q935 : (Jvm.Cond.methodLink "java/util/ArrayList" (66 : Nat) ({ cls := "java/util/Arrays", name := "copyOf", desc := "([Ljava/lang/Object;I)[Ljava/lang/Object;" } : Jvm.MethodName)) ∈ lw_all := lw_g (lw_at lw_m4 111 rfl) rfl
theorem q977 : (Jvm.Cond.selects "java/util/ArrayList" ({ cls := "java/lang/Object", name := "getClass", desc := "()Ljava/lang/Class;" } : Jvm.MethodName) ({ cls := "java/lang/Object", name := "getClass", desc := "()Ljava/lang/Class;" } : Jvm.MethodName)) ∈ lw_all := lw_g (lw_at lw_m4 153 rfl) rfl
theorem q995 : (Jvm.Cond.methodLink "java/util/ArrayList" (79 : Nat) ({ cls := "java/lang/Math", name := "max", desc := "(II)I" } : Jvm.MethodName)) ∈ lw_all := lw_g (lw_at lw_m4 171 rfl) rfl
theorem q1278 : (Jvm.Cond.instanceMethod ({ cls := "java/util/ArrayList", name := "addAll", desc := "(Ljava/util/Collection;)Z" } : Jvm.MethodName)) ∈ lw_all := lw_g (lw_at lw_m5 214 rfl) rfl
theorem q1279 : (Jvm.Cond.selects "java/util/ArrayList" ({ cls := "java/util/ArrayList", name := "addAll", desc := "(Ljava/util/Collection;)Z" } : Jvm.MethodName) ({ cls := "java/util/ArrayList", name := "addAll", desc := "(Ljava/util/Collection;)Z" } : Jvm.MethodName)) ∈ lw_all := lw_g (lw_at lw_m5 215 rfl) rfl
theorem q1280 : (Jvm.Cond.code ({ cls := "java/util/ArrayList", name := "addAll", desc := "(Ljava/util/Collection;)Z" } : Jvm.MethodName) prog_66_method_41_code (6 : Nat) (Option.some Jvm.ClassFile.FieldType.boolean)) ∈ lw_all := lw_g (lw_at lw_m5 216 rfl) rfl
theorem q1281 : (Jvm.Cond.interfaceEntry "java/util/ArrayList" (42 : Nat)) ∈ lw_tbl := lw_at lw_m5 217 rfl
theorem q1282 : (Jvm.Cond.methodLink "java/util/ArrayList" (42 : Nat) ({ cls := "java/util/Collection", name := "toArray", desc := "()[Ljava/lang/Object;" } : Jvm.MethodName)) ∈ lw_all := lw_g (lw_at lw_m5 218 rfl) rfl
theorem q1300 : (Jvm.Cond.castable "java/util/ArrayList" "java/util/Collection") ∈ lw_tbl := lw_at lw_m5 236 rfl
theorem q1301 : (Jvm.Cond.selects "java/util/ArrayList" ({ cls := "java/util/Collection", name := "toArray", desc := "()[Ljava/lang/Object;" } : Jvm.MethodName) ({ cls := "java/util/ArrayList", name := "toArray", desc := "()[Ljava/lang/Object;" } : Jvm.MethodName)) ∈ lw_all := lw_g (lw_at lw_m5 237 rfl) rfl
theorem q1302 : (Jvm.Cond.unhidden "java/util/ArrayList" "toArray" "()[Ljava/lang/Object;") ∈ lw_tbl := lw_at lw_m5 238 rfl
theorem q1303 : (Jvm.Cond.instanceMethod ({ cls := "java/util/ArrayList", name := "toArray", desc := "()[Ljava/lang/Object;" } : Jvm.MethodName)) ∈ lw_all := lw_g (lw_at lw_m5 239 rfl) rfl
theorem q1304 : (Jvm.Cond.publicMethod ({ cls := "java/util/ArrayList", name := "toArray", desc := "()[Ljava/lang/Object;" } : Jvm.MethodName)) ∈ lw_tbl := lw_at lw_m6 0 rfl
theorem q1305 : (Jvm.Cond.code ({ cls := "java/util/ArrayList", name := "toArray", desc := "()[Ljava/lang/Object;" } : Jvm.MethodName) prog_66_method_16_code (1 : Nat) (Option.some (Jvm.ClassFile.FieldType.array (Jvm.ClassFile.FieldType.object "java/lang/Object")))) ∈ lw_all := lw_g (lw_at lw_m6 1 rfl) rfl
theorem q1320 : (Jvm.Cond.methodLink "java/util/ArrayList" (112 : Nat) ({ cls := "java/lang/System", name := "arraycopy", desc := "(Ljava/lang/Object;ILjava/lang/Object;II)V" } : Jvm.MethodName)) ∈ lw_all := lw_g (lw_at lw_m6 16 rfl) rfl
theorem q1563 : (Jvm.Cond.selects "java/util/ArrayList" ({ cls := "java/util/AbstractList", name := "listIterator", desc := "(I)Ljava/util/ListIterator;" } : Jvm.MethodName) ({ cls := "java/util/ArrayList", name := "listIterator", desc := "(I)Ljava/util/ListIterator;" } : Jvm.MethodName)) ∈ lw_all := lw_g (lw_at lw_m7 19 rfl) rfl
theorem q1564 : (Jvm.Cond.instanceMethod ({ cls := "java/util/ArrayList", name := "listIterator", desc := "(I)Ljava/util/ListIterator;" } : Jvm.MethodName)) ∈ lw_all := lw_g (lw_at lw_m7 20 rfl) rfl
theorem q1565 : (Jvm.Cond.code ({ cls := "java/util/ArrayList", name := "listIterator", desc := "(I)Ljava/util/ListIterator;" } : Jvm.MethodName) prog_66_method_53_code (2 : Nat) (Option.some (Jvm.ClassFile.FieldType.object "java/util/ListIterator"))) ∈ lw_all := lw_g (lw_at lw_m7 21 rfl) rfl
theorem q1566 : (Jvm.Cond.methodLink "java/util/ArrayList" (135 : Nat) ({ cls := "java/util/ArrayList", name := "rangeCheckForAdd", desc := "(I)V" } : Jvm.MethodName)) ∈ lw_all := lw_g (lw_at lw_m7 22 rfl) rfl
theorem q1567 : (Jvm.Cond.privateMethod ({ cls := "java/util/ArrayList", name := "rangeCheckForAdd", desc := "(I)V" } : Jvm.MethodName)) ∈ lw_tbl := lw_at lw_m7 23 rfl
theorem q1568 : (Jvm.Cond.instanceMethod ({ cls := "java/util/ArrayList", name := "rangeCheckForAdd", desc := "(I)V" } : Jvm.MethodName)) ∈ lw_all := lw_g (lw_at lw_m7 24 rfl) rfl
theorem q1569 : (Jvm.Cond.code ({ cls := "java/util/ArrayList", name := "rangeCheckForAdd", desc := "(I)V" } : Jvm.MethodName) prog_66_method_45_code (2 : Nat) (Option.none : Option Jvm.ClassFile.FieldType)) ∈ lw_all := lw_g (lw_at lw_m7 25 rfl) rfl
theorem q1570 : (Jvm.Cond.classLink "java/util/ArrayList" (187 : Nat) "java/lang/IndexOutOfBoundsException") ∈ lw_all := lw_g (lw_at lw_m7 26 rfl) rfl
theorem q1571 : (Jvm.Cond.methodLink "java/util/ArrayList" (198 : Nat) ({ cls := "java/util/ArrayList", name := "outOfBoundsMsg", desc := "(I)Ljava/lang/String;" } : Jvm.MethodName)) ∈ lw_all := lw_g (lw_at lw_m7 27 rfl) rfl
theorem q1572 : (Jvm.Cond.privateMethod ({ cls := "java/util/ArrayList", name := "outOfBoundsMsg", desc := "(I)Ljava/lang/String;" } : Jvm.MethodName)) ∈ lw_tbl := lw_at lw_m7 28 rfl
theorem q1573 : (Jvm.Cond.instanceMethod ({ cls := "java/util/ArrayList", name := "outOfBoundsMsg", desc := "(I)Ljava/lang/String;" } : Jvm.MethodName)) ∈ lw_all := lw_g (lw_at lw_m7 29 rfl) rfl
theorem q1574 : (Jvm.Cond.code ({ cls := "java/util/ArrayList", name := "outOfBoundsMsg", desc := "(I)Ljava/lang/String;" } : Jvm.MethodName) prog_66_method_46_code (2 : Nat) (Option.some (Jvm.ClassFile.FieldType.object "java/lang/String"))) ∈ lw_all := lw_g (lw_at lw_m7 30 rfl) rfl
theorem q1575 : (Jvm.Cond.stringRef "java/util/ArrayList" (201 : Nat) "Index: ") ∈ lw_tbl := lw_at lw_m7 31 rfl
theorem q1576 : (Jvm.Cond.stringRef "java/util/ArrayList" (203 : Nat) ", Size: ") ∈ lw_tbl := lw_at lw_m7 32 rfl
theorem q1577 : (Jvm.Cond.methodLink "java/util/ArrayList" (193 : Nat) ({ cls := "java/lang/IndexOutOfBoundsException", name := "<init>", desc := "(Ljava/lang/String;)V" } : Jvm.MethodName)) ∈ lw_all := lw_g (lw_at lw_m7 33 rfl) rfl
theorem q1578 : (Jvm.Cond.classLink "java/util/ArrayList" (262 : Nat) "java/util/ArrayList$ListItr") ∈ lw_all := lw_g (lw_at lw_m7 34 rfl) rfl
theorem q1580 : (Jvm.Cond.methodLink "java/util/ArrayList" (264 : Nat) ({ cls := "java/util/ArrayList$ListItr", name := "<init>", desc := "(Ljava/util/ArrayList;I)V" } : Jvm.MethodName)) ∈ lw_all := lw_g (lw_at lw_m7 36 rfl) rfl
theorem q1669 : (Jvm.Cond.selects "java/util/ArrayList" ({ cls := "java/util/AbstractList", name := "size", desc := "()I" } : Jvm.MethodName) ({ cls := "java/util/ArrayList", name := "size", desc := "()I" } : Jvm.MethodName)) ∈ lw_all := lw_g (lw_at lw_m7 125 rfl) rfl
theorem q1670 : (Jvm.Cond.instanceMethod ({ cls := "java/util/ArrayList", name := "size", desc := "()I" } : Jvm.MethodName)) ∈ lw_all := lw_g (lw_at lw_m7 126 rfl) rfl
theorem q1671 : (Jvm.Cond.code ({ cls := "java/util/ArrayList", name := "size", desc := "()I" } : Jvm.MethodName) prog_66_method_8_code (1 : Nat) (Option.some Jvm.ClassFile.FieldType.int)) ∈ lw_all := lw_g (lw_at lw_m7 127 rfl) rfl
theorem q1711 : (Jvm.Cond.selects "java/util/ArrayList" ({ cls := "java/util/AbstractList", name := "get", desc := "(I)Ljava/lang/Object;" } : Jvm.MethodName) ({ cls := "java/util/ArrayList", name := "get", desc := "(I)Ljava/lang/Object;" } : Jvm.MethodName)) ∈ lw_all := lw_g (lw_at lw_m7 167 rfl) rfl
theorem q1712 : (Jvm.Cond.instanceMethod ({ cls := "java/util/ArrayList", name := "get", desc := "(I)Ljava/lang/Object;" } : Jvm.MethodName)) ∈ lw_all := lw_g (lw_at lw_m7 168 rfl) rfl
theorem q1713 : (Jvm.Cond.code ({ cls := "java/util/ArrayList", name := "get", desc := "(I)Ljava/lang/Object;" } : Jvm.MethodName) prog_66_method_20_code (2 : Nat) (Option.some (Jvm.ClassFile.FieldType.object "java/lang/Object"))) ∈ lw_all := lw_g (lw_at lw_m7 169 rfl) rfl
theorem q1714 : (Jvm.Cond.methodLink "java/util/ArrayList" (118 : Nat) ({ cls := "java/util/Objects", name := "checkIndex", desc := "(II)I" } : Jvm.MethodName)) ∈ lw_all := lw_g (lw_at lw_m7 170 rfl) rfl
theorem q1718 : (Jvm.Cond.methodLink "java/util/ArrayList" (123 : Nat) ({ cls := "java/util/ArrayList", name := "elementData", desc := "(I)Ljava/lang/Object;" } : Jvm.MethodName)) ∈ lw_all := lw_g (lw_at lw_m7 174 rfl) rfl
theorem q1719 : (Jvm.Cond.instanceMethod ({ cls := "java/util/ArrayList", name := "elementData", desc := "(I)Ljava/lang/Object;" } : Jvm.MethodName)) ∈ lw_all := lw_g (lw_at lw_m7 175 rfl) rfl
theorem q1720 : (Jvm.Cond.selects "java/util/ArrayList" ({ cls := "java/util/ArrayList", name := "elementData", desc := "(I)Ljava/lang/Object;" } : Jvm.MethodName) ({ cls := "java/util/ArrayList", name := "elementData", desc := "(I)Ljava/lang/Object;" } : Jvm.MethodName)) ∈ lw_all := lw_g (lw_at lw_m7 176 rfl) rfl
theorem q1721 : (Jvm.Cond.code ({ cls := "java/util/ArrayList", name := "elementData", desc := "(I)Ljava/lang/Object;" } : Jvm.MethodName) prog_66_method_18_code (2 : Nat) (Option.some (Jvm.ClassFile.FieldType.object "java/lang/Object"))) ∈ lw_all := lw_g (lw_at lw_m7 177 rfl) rfl
theorem q1824 : (Jvm.Cond.castable "java/util/ArrayList" "java/util/List") ∈ lw_tbl := lw_at lw_m8 40 rfl
theorem q1825 : (Jvm.Cond.selects "java/util/ArrayList" ({ cls := "java/util/List", name := "get", desc := "(I)Ljava/lang/Object;" } : Jvm.MethodName) ({ cls := "java/util/ArrayList", name := "get", desc := "(I)Ljava/lang/Object;" } : Jvm.MethodName)) ∈ lw_all := lw_g (lw_at lw_m8 41 rfl) rfl
theorem q1826 : (Jvm.Cond.unhidden "java/util/ArrayList" "get" "(I)Ljava/lang/Object;") ∈ lw_tbl := lw_at lw_m8 42 rfl
theorem q1827 : (Jvm.Cond.publicMethod ({ cls := "java/util/ArrayList", name := "get", desc := "(I)Ljava/lang/Object;" } : Jvm.MethodName)) ∈ lw_tbl := lw_at lw_m8 43 rfl
theorem q1886 : (Jvm.Cond.selects "java/util/ArrayList" ({ cls := "java/util/AbstractList", name := "remove", desc := "(I)Ljava/lang/Object;" } : Jvm.MethodName) ({ cls := "java/util/ArrayList", name := "remove", desc := "(I)Ljava/lang/Object;" } : Jvm.MethodName)) ∈ lw_all := lw_g (lw_at lw_m8 102 rfl) rfl
theorem q1887 : (Jvm.Cond.instanceMethod ({ cls := "java/util/ArrayList", name := "remove", desc := "(I)Ljava/lang/Object;" } : Jvm.MethodName)) ∈ lw_all := lw_g (lw_at lw_m8 103 rfl) rfl
theorem q1888 : (Jvm.Cond.code ({ cls := "java/util/ArrayList", name := "remove", desc := "(I)Ljava/lang/Object;" } : Jvm.MethodName) prog_66_method_29_code (4 : Nat) (Option.some (Jvm.ClassFile.FieldType.object "java/lang/Object"))) ∈ lw_all := lw_g (lw_at lw_m8 104 rfl) rfl
theorem q1889 : (Jvm.Cond.methodLink "java/util/ArrayList" (144 : Nat) ({ cls := "java/util/ArrayList", name := "fastRemove", desc := "([Ljava/lang/Object;I)V" } : Jvm.MethodName)) ∈ lw_all := lw_g (lw_at lw_m8 105 rfl) rfl
theorem q1890 : (Jvm.Cond.privateMethod ({ cls := "java/util/ArrayList", name := "fastRemove", desc := "([Ljava/lang/Object;I)V" } : Jvm.MethodName)) ∈ lw_tbl := lw_at lw_m8 106 rfl
theorem q1891 : (Jvm.Cond.instanceMethod ({ cls := "java/util/ArrayList", name := "fastRemove", desc := "([Ljava/lang/Object;I)V" } : Jvm.MethodName)) ∈ lw_all := lw_g (lw_at lw_m8 107 rfl) rfl
theorem q1892 : (Jvm.Cond.code ({ cls := "java/util/ArrayList", name := "fastRemove", desc := "([Ljava/lang/Object;I)V" } : Jvm.MethodName) prog_66_method_39_code (4 : Nat) (Option.none : Option Jvm.ClassFile.FieldType)) ∈ lw_all := lw_g (lw_at lw_m8 108 rfl) rfl
theorem q2289 : (Jvm.Cond.instanceMethod ({ cls := "java/util/ArrayList", name := "isEmpty", desc := "()Z" } : Jvm.MethodName)) ∈ lw_all := lw_g (lw_at lw_m10 25 rfl) rfl
theorem q2290 : (Jvm.Cond.selects "java/util/ArrayList" ({ cls := "java/util/ArrayList", name := "isEmpty", desc := "()Z" } : Jvm.MethodName) ({ cls := "java/util/ArrayList", name := "isEmpty", desc := "()Z" } : Jvm.MethodName)) ∈ lw_all := lw_g (lw_at lw_m10 26 rfl) rfl
theorem q2291 : (Jvm.Cond.code ({ cls := "java/util/ArrayList", name := "isEmpty", desc := "()Z" } : Jvm.MethodName) prog_66_method_9_code (1 : Nat) (Option.some Jvm.ClassFile.FieldType.boolean)) ∈ lw_all := lw_g (lw_at lw_m10 27 rfl) rfl
theorem q2873 : (Jvm.Cond.selects "java/util/ArrayList" ({ cls := "java/util/List", name := "isEmpty", desc := "()Z" } : Jvm.MethodName) ({ cls := "java/util/ArrayList", name := "isEmpty", desc := "()Z" } : Jvm.MethodName)) ∈ lw_all := lw_g (lw_at lw_m12 129 rfl) rfl
theorem q2874 : (Jvm.Cond.unhidden "java/util/ArrayList" "isEmpty" "()Z") ∈ lw_tbl := lw_at lw_m12 130 rfl
theorem q2875 : (Jvm.Cond.publicMethod ({ cls := "java/util/ArrayList", name := "isEmpty", desc := "()Z" } : Jvm.MethodName)) ∈ lw_tbl := lw_at lw_m12 131 rfl
theorem q2898 : (Jvm.Cond.selects "java/util/ArrayList" ({ cls := "java/util/List", name := "size", desc := "()I" } : Jvm.MethodName) ({ cls := "java/util/ArrayList", name := "size", desc := "()I" } : Jvm.MethodName)) ∈ lw_all := lw_g (lw_at lw_m12 154 rfl) rfl
theorem q2899 : (Jvm.Cond.unhidden "java/util/ArrayList" "size" "()I") ∈ lw_tbl := lw_at lw_m12 155 rfl
theorem q2900 : (Jvm.Cond.publicMethod ({ cls := "java/util/ArrayList", name := "size", desc := "()I" } : Jvm.MethodName)) ∈ lw_tbl := lw_at lw_m12 156 rfl
theorem q2967 : (Jvm.Cond.selects "java/util/ArrayList" ({ cls := "java/util/List", name := "add", desc := "(Ljava/lang/Object;)Z" } : Jvm.MethodName) ({ cls := "java/util/ArrayList", name := "add", desc := "(Ljava/lang/Object;)Z" } : Jvm.MethodName)) ∈ lw_all := lw_g (lw_at lw_m12 223 rfl) rfl
theorem q2968 : (Jvm.Cond.unhidden "java/util/ArrayList" "add" "(Ljava/lang/Object;)Z") ∈ lw_tbl := lw_at lw_m12 224 rfl
theorem q2969 : (Jvm.Cond.publicMethod ({ cls := "java/util/ArrayList", name := "add", desc := "(Ljava/lang/Object;)Z" } : Jvm.MethodName)) ∈ lw_tbl := lw_at lw_m12 225 rfl
theorem q2992 : (Jvm.Cond.selects "java/util/ArrayList" ({ cls := "java/util/List", name := "iterator", desc := "()Ljava/util/Iterator;" } : Jvm.MethodName) ({ cls := "java/util/ArrayList", name := "iterator", desc := "()Ljava/util/Iterator;" } : Jvm.MethodName)) ∈ lw_all := lw_g (lw_at lw_m13 8 rfl) rfl
theorem q2993 : (Jvm.Cond.unhidden "java/util/ArrayList" "iterator" "()Ljava/util/Iterator;") ∈ lw_tbl := lw_at lw_m13 9 rfl
theorem q2994 : (Jvm.Cond.instanceMethod ({ cls := "java/util/ArrayList", name := "iterator", desc := "()Ljava/util/Iterator;" } : Jvm.MethodName)) ∈ lw_all := lw_g (lw_at lw_m13 10 rfl) rfl
theorem q2995 : (Jvm.Cond.publicMethod ({ cls := "java/util/ArrayList", name := "iterator", desc := "()Ljava/util/Iterator;" } : Jvm.MethodName)) ∈ lw_tbl := lw_at lw_m13 11 rfl
theorem q2996 : (Jvm.Cond.code ({ cls := "java/util/ArrayList", name := "iterator", desc := "()Ljava/util/Iterator;" } : Jvm.MethodName) prog_66_method_55_code (1 : Nat) (Option.some (Jvm.ClassFile.FieldType.object "java/util/Iterator"))) ∈ lw_all := lw_g (lw_at lw_m13 12 rfl) rfl
theorem q2997 : (Jvm.Cond.classLink "java/util/ArrayList" (267 : Nat) "java/util/ArrayList$Itr") ∈ lw_all := lw_g (lw_at lw_m13 13 rfl) rfl
theorem q2999 : (Jvm.Cond.methodLink "java/util/ArrayList" (269 : Nat) ({ cls := "java/util/ArrayList$Itr", name := "<init>", desc := "(Ljava/util/ArrayList;)V" } : Jvm.MethodName)) ∈ lw_all := lw_g (lw_at lw_m13 15 rfl) rfl
theorem q3044 : (Jvm.Cond.selects "java/util/ArrayList" ({ cls := "java/util/List", name := "remove", desc := "(I)Ljava/lang/Object;" } : Jvm.MethodName) ({ cls := "java/util/ArrayList", name := "remove", desc := "(I)Ljava/lang/Object;" } : Jvm.MethodName)) ∈ lw_all := lw_g (lw_at lw_m13 60 rfl) rfl
theorem q3045 : (Jvm.Cond.unhidden "java/util/ArrayList" "remove" "(I)Ljava/lang/Object;") ∈ lw_tbl := lw_at lw_m13 61 rfl
theorem q3046 : (Jvm.Cond.publicMethod ({ cls := "java/util/ArrayList", name := "remove", desc := "(I)Ljava/lang/Object;" } : Jvm.MethodName)) ∈ lw_tbl := lw_at lw_m13 62 rfl
theorem q3066 : (Jvm.Cond.selects "java/util/ArrayList" ({ cls := "java/util/List", name := "clear", desc := "()V" } : Jvm.MethodName) ({ cls := "java/util/ArrayList", name := "clear", desc := "()V" } : Jvm.MethodName)) ∈ lw_all := lw_g (lw_at lw_m13 82 rfl) rfl
theorem q3067 : (Jvm.Cond.unhidden "java/util/ArrayList" "clear" "()V") ∈ lw_tbl := lw_at lw_m13 83 rfl
theorem q3068 : (Jvm.Cond.instanceMethod ({ cls := "java/util/ArrayList", name := "clear", desc := "()V" } : Jvm.MethodName)) ∈ lw_all := lw_g (lw_at lw_m13 84 rfl) rfl
theorem q3069 : (Jvm.Cond.publicMethod ({ cls := "java/util/ArrayList", name := "clear", desc := "()V" } : Jvm.MethodName)) ∈ lw_tbl := lw_at lw_m13 85 rfl
theorem q3070 : (Jvm.Cond.code ({ cls := "java/util/ArrayList", name := "clear", desc := "()V" } : Jvm.MethodName) prog_66_method_40_code (4 : Nat) (Option.none : Option Jvm.ClassFile.FieldType)) ∈ lw_all := lw_g (lw_at lw_m13 86 rfl) rfl
theorem q3177 : (Jvm.Cond.instanceMethod ({ cls := "java/util/ArrayList", name := "<init>", desc := "(Ljava/util/Collection;)V" } : Jvm.MethodName)) ∈ lw_all := lw_g (lw_at lw_m13 193 rfl) rfl
theorem q3178 : (Jvm.Cond.code ({ cls := "java/util/ArrayList", name := "<init>", desc := "(Ljava/util/Collection;)V" } : Jvm.MethodName) prog_66_method_3_code (3 : Nat) (Option.none : Option Jvm.ClassFile.FieldType)) ∈ lw_all := lw_g (lw_at lw_m13 194 rfl) rfl
theorem q3179 : (Jvm.Cond.interfaceEntry "java/util/ArrayList" (52 : Nat)) ∈ lw_tbl := lw_at lw_m13 195 rfl
theorem q3180 : (Jvm.Cond.methodLink "java/util/ArrayList" (52 : Nat) ({ cls := "java/util/Collection", name := "getClass", desc := "()Ljava/lang/Class;" } : Jvm.MethodName)) ∈ lw_all := lw_g (lw_at lw_m13 196 rfl) rfl
theorem q3185 : (Jvm.Cond.unhidden "java/util/ArrayList" "getClass" "()Ljava/lang/Class;") ∈ lw_tbl := lw_at lw_m13 201 rfl
theorem q3188 : (Jvm.Cond.classLink "java/util/ArrayList" (10 : Nat) "java/util/ArrayList") ∈ lw_all := lw_g (lw_at lw_m13 204 rfl) rfl
theorem q3189 : (Jvm.Cond.classLink "java/util/ArrayList" (56 : Nat) "[Ljava/lang/Object;") ∈ lw_all := lw_g (lw_at lw_m13 205 rfl) rfl
theorem q3190 : (Jvm.Cond.methodLink "java/util/ArrayList" (57 : Nat) ({ cls := "java/util/Arrays", name := "copyOf", desc := "([Ljava/lang/Object;ILjava/lang/Class;)[Ljava/lang/Object;" } : Jvm.MethodName)) ∈ lw_all := lw_g (lw_at lw_m13 206 rfl) rfl
theorem q3608 : (Jvm.Cond.selects "java/util/ArrayList" ({ cls := "java/util/List", name := "remove", desc := "(Ljava/lang/Object;)Z" } : Jvm.MethodName) ({ cls := "java/util/ArrayList", name := "remove", desc := "(Ljava/lang/Object;)Z" } : Jvm.MethodName)) ∈ lw_all := lw_g (lw_at lw_m15 144 rfl) rfl
theorem q3609 : (Jvm.Cond.unhidden "java/util/ArrayList" "remove" "(Ljava/lang/Object;)Z") ∈ lw_tbl := lw_at lw_m15 145 rfl
theorem q3610 : (Jvm.Cond.instanceMethod ({ cls := "java/util/ArrayList", name := "remove", desc := "(Ljava/lang/Object;)Z" } : Jvm.MethodName)) ∈ lw_all := lw_g (lw_at lw_m15 146 rfl) rfl
theorem q3611 : (Jvm.Cond.publicMethod ({ cls := "java/util/ArrayList", name := "remove", desc := "(Ljava/lang/Object;)Z" } : Jvm.MethodName)) ∈ lw_tbl := lw_at lw_m15 147 rfl
theorem q3612 : (Jvm.Cond.code ({ cls := "java/util/ArrayList", name := "remove", desc := "(Ljava/lang/Object;)Z" } : Jvm.MethodName) prog_66_method_38_code (5 : Nat) (Option.some Jvm.ClassFile.FieldType.boolean)) ∈ lw_all := lw_g (lw_at lw_m15 148 rfl) rfl
theorem q3613 : (Jvm.Cond.methodLink "java/util/ArrayList" (93 : Nat) ({ cls := "java/lang/Object", name := "equals", desc := "(Ljava/lang/Object;)Z" } : Jvm.MethodName)) ∈ lw_all := lw_g (lw_at lw_m15 149 rfl) rfl
theorem q3801 : (Jvm.Cond.selects "java/util/ArrayList" ({ cls := "java/util/ArrayList", name := "remove", desc := "(I)Ljava/lang/Object;" } : Jvm.MethodName) ({ cls := "java/util/ArrayList", name := "remove", desc := "(I)Ljava/lang/Object;" } : Jvm.MethodName)) ∈ lw_all := lw_g (lw_at lw_m16 97 rfl) rfl
theorem q3802 : (Jvm.Cond.selects "java/util/ArrayList" ({ cls := "java/util/ArrayList", name := "size", desc := "()I" } : Jvm.MethodName) ({ cls := "java/util/ArrayList", name := "size", desc := "()I" } : Jvm.MethodName)) ∈ lw_all := lw_g (lw_at lw_m16 98 rfl) rfl
theorem q3803 : (Jvm.Cond.selects "java/util/ArrayList" ({ cls := "java/util/ArrayList", name := "get", desc := "(I)Ljava/lang/Object;" } : Jvm.MethodName) ({ cls := "java/util/ArrayList", name := "get", desc := "(I)Ljava/lang/Object;" } : Jvm.MethodName)) ∈ lw_all := lw_g (lw_at lw_m16 99 rfl) rfl
theorem q3810 : (Jvm.Cond.selects "java/util/ArrayList" ({ cls := "java/util/AbstractCollection", name := "size", desc := "()I" } : Jvm.MethodName) ({ cls := "java/util/ArrayList", name := "size", desc := "()I" } : Jvm.MethodName)) ∈ lw_all := lw_g (lw_at lw_m16 106 rfl) rfl
theorem q3835 : (Jvm.Cond.castable "java/util/ArrayList" "java/lang/Object") ∈ lw_tbl := lw_at lw_m16 131 rfl
theorem in_J9 : ∀ w ∈ wsJ90, w ∈ lw_all := lw_in wsJ90 [584, 580, 582] (by decide +kernel) (by decide +kernel)
def RJ10 : String := "java/lang/Throwable"
def TJ10 : u_T := fun k => match k with
  | 0 => ("java/lang/Throwable", "cause", "Ljava/lang/Throwable;", false)
  | 1 => ("java/lang/Throwable", "stackTrace", "[Ljava/lang/StackTraceElement;", false)
  | 2 => ("java/lang/Throwable", "suppressedExceptions", "Ljava/util/List;", false)
  | 3 => ("java/lang/Throwable", "detailMessage", "Ljava/lang/String;", false)
  | _ => ("java/lang/Throwable", "backtrace", "Ljava/lang/Object;", false)
def tyJ10 : Nat → FieldType := fun k => match k with
  | 0 => .object "java/lang/Throwable"
  | 1 => .array (.object "java/lang/StackTraceElement")
  | 2 => .object "java/util/List"
  | 3 => .object "java/lang/String"
  | _ => .object "java/lang/Object"
abbrev wsJ100 : List Cond := u_ws RJ10 TJ10 5
theorem nmJ10 : ∀ a, a < 5 → ∀ b, b < 5 → a ≠ b → (TJ10 a).2.1 ≠ (TJ10 b).2.1 := by decide +kernel
theorem tyJ10_ok : ∀ k, k < 5 → parseFieldDescriptor (TJ10 k).2.2.1 = some (tyJ10 k) := by decide +kernel
abbrev cJ10_init : ByteArray := prog_57_method_1_code
def yJ10_init : MethodName := ⟨RJ10, "<init>", "()V"⟩
abbrev cJ10_init_2 : ByteArray := prog_57_method_2_code
def yJ10_init_2 : MethodName := ⟨RJ10, "<init>", "(Ljava/lang/String;)V"⟩
abbrev cJ10_init_3 : ByteArray := prog_57_method_3_code
def yJ10_init_3 : MethodName := ⟨RJ10, "<init>", "(Ljava/lang/String;Ljava/lang/Throwable;)V"⟩
abbrev cJ10_init_4 : ByteArray := prog_57_method_4_code
def yJ10_init_4 : MethodName := ⟨RJ10, "<init>", "(Ljava/lang/Throwable;)V"⟩
abbrev cJ10_toString : ByteArray := prog_57_method_11_code
def yJ10_toString : MethodName := ⟨RJ10, "toString", "()Ljava/lang/String;"⟩
abbrev cJ10_getLocalizedMessage : ByteArray := prog_57_method_7_code
def yJ10_getLocalizedMessage : MethodName := ⟨RJ10, "getLocalizedMessage", "()Ljava/lang/String;"⟩
abbrev cJ10_getMessage : ByteArray := prog_57_method_6_code
def yJ10_getMessage : MethodName := ⟨RJ10, "getMessage", "()Ljava/lang/String;"⟩
abbrev cJ10_init_5 : ByteArray := prog_57_method_5_code
def yJ10_init_5 : MethodName := ⟨RJ10, "<init>", "(Ljava/lang/String;Ljava/lang/Throwable;ZZ)V"⟩
theorem q119 : (Jvm.Cond.initialized "java/lang/Throwable") ∈ lw_all := lw_g (lw_at lw_m1 15 rfl) rfl
theorem q295 : (Jvm.Cond.declares ({ cls := "java/lang/Throwable", name := "<init>", desc := "()V" } : Jvm.MethodName)) ∈ lw_tbl := lw_at lw_m1 191 rfl
theorem q296 : (Jvm.Cond.declares ({ cls := "java/lang/Throwable", name := "<init>", desc := "(Ljava/lang/String;)V" } : Jvm.MethodName)) ∈ lw_tbl := lw_at lw_m1 192 rfl
theorem q300 : (Jvm.Cond.lays "java/lang/Throwable" "java/lang/Throwable" "cause" "Ljava/lang/Throwable;") ∈ lw_all := lw_g (lw_at lw_m1 196 rfl) rfl
theorem q302 : (Jvm.Cond.lays "java/lang/Throwable" "java/lang/Throwable" "stackTrace" "[Ljava/lang/StackTraceElement;") ∈ lw_all := lw_g (lw_at lw_m1 198 rfl) rfl
theorem q304 : (Jvm.Cond.lays "java/lang/Throwable" "java/lang/Throwable" "suppressedExceptions" "Ljava/util/List;") ∈ lw_all := lw_g (lw_at lw_m1 200 rfl) rfl
theorem q306 : (Jvm.Cond.lays "java/lang/Throwable" "java/lang/Throwable" "detailMessage" "Ljava/lang/String;") ∈ lw_all := lw_g (lw_at lw_m1 202 rfl) rfl
theorem q308 : (Jvm.Cond.lays "java/lang/Throwable" "java/lang/Throwable" "backtrace" "Ljava/lang/Object;") ∈ lw_all := lw_g (lw_at lw_m1 204 rfl) rfl
theorem q309 : (Jvm.Cond.fieldLink "java/lang/Throwable" (198 : Nat) "java/lang/Throwable" "backtrace" "Ljava/lang/Object;") ∈ lw_all := lw_g (lw_at lw_m1 205 rfl) rfl
theorem q310 : (Jvm.Cond.superclass "java/lang/Throwable" "java/lang/Object") ∈ lw_all := lw_g (lw_at lw_m1 206 rfl) rfl
theorem q311 : (Jvm.Cond.instanceMethod ({ cls := "java/lang/Throwable", name := "<init>", desc := "()V" } : Jvm.MethodName)) ∈ lw_all := lw_g (lw_at lw_m1 207 rfl) rfl
theorem q312 : (Jvm.Cond.code ({ cls := "java/lang/Throwable", name := "<init>", desc := "()V" } : Jvm.MethodName) prog_57_method_1_code (1 : Nat) (Option.none : Option Jvm.ClassFile.FieldType)) ∈ lw_all := lw_g (lw_at lw_m1 208 rfl) rfl
theorem q313 : (Jvm.Cond.methodLink "java/lang/Throwable" (1 : Nat) ({ cls := "java/lang/Object", name := "<init>", desc := "()V" } : Jvm.MethodName)) ∈ lw_all := lw_g (lw_at lw_m1 209 rfl) rfl
theorem q314 : (Jvm.Cond.fieldLink "java/lang/Throwable" (13 : Nat) "java/lang/Throwable" "UNASSIGNED_STACK" "[Ljava/lang/StackTraceElement;") ∈ lw_all := lw_g (lw_at lw_m1 210 rfl) rfl
theorem q315 : (Jvm.Cond.laysStatic "java/lang/Throwable" "UNASSIGNED_STACK" "[Ljava/lang/StackTraceElement;") ∈ lw_tbl := lw_at lw_m1 211 rfl
theorem q316 : (Jvm.Cond.fieldLink "java/lang/Throwable" (20 : Nat) "java/lang/Throwable" "SUPPRESSED_SENTINEL" "Ljava/util/List;") ∈ lw_all := lw_g (lw_at lw_m1 212 rfl) rfl
theorem q317 : (Jvm.Cond.laysStatic "java/lang/Throwable" "SUPPRESSED_SENTINEL" "Ljava/util/List;") ∈ lw_tbl := lw_at lw_m1 213 rfl
theorem q318 : (Jvm.Cond.methodLink "java/lang/Throwable" (27 : Nat) ({ cls := "java/lang/Throwable", name := "fillInStackTrace", desc := "()Ljava/lang/Throwable;" } : Jvm.MethodName)) ∈ lw_all := lw_g (lw_at lw_m1 214 rfl) rfl
theorem q319 : (Jvm.Cond.instanceMethod ({ cls := "java/lang/Throwable", name := "fillInStackTrace", desc := "()Ljava/lang/Throwable;" } : Jvm.MethodName)) ∈ lw_all := lw_g (lw_at lw_m1 215 rfl) rfl
theorem q320 : (Jvm.Cond.sameMethod "java/lang/Throwable" "java/lang/Throwable" "fillInStackTrace" "()Ljava/lang/Throwable;") ∈ lw_all := lw_g (lw_at lw_m1 216 rfl) rfl
theorem q329 : (Jvm.Cond.codeSync ({ cls := "java/lang/Throwable", name := "fillInStackTrace", desc := "()Ljava/lang/Throwable;" } : Jvm.MethodName) prog_57_method_18_code (1 : Nat) (Option.some (Jvm.ClassFile.FieldType.object "java/lang/Throwable"))) ∈ lw_all := lw_g (lw_at lw_m1 225 rfl) rfl
theorem q330 : (Jvm.Cond.methodLink "java/lang/Throwable" (202 : Nat) ({ cls := "java/lang/Throwable", name := "fillInStackTrace", desc := "(I)Ljava/lang/Throwable;" } : Jvm.MethodName)) ∈ lw_all := lw_g (lw_at lw_m1 226 rfl) rfl
theorem q331 : (Jvm.Cond.privateMethod ({ cls := "java/lang/Throwable", name := "fillInStackTrace", desc := "(I)Ljava/lang/Throwable;" } : Jvm.MethodName)) ∈ lw_tbl := lw_at lw_m1 227 rfl
theorem q332 : (Jvm.Cond.instanceMethod ({ cls := "java/lang/Throwable", name := "fillInStackTrace", desc := "(I)Ljava/lang/Throwable;" } : Jvm.MethodName)) ∈ lw_all := lw_g (lw_at lw_m1 228 rfl) rfl
theorem q333 : (Jvm.Cond.instantiable "java/lang/Throwable" (6 : Nat)) ∈ lw_all := lw_g (lw_at lw_m1 229 rfl) rfl
theorem q334 : (Jvm.Cond.native ({ cls := "java/lang/Throwable", name := "fillInStackTrace", desc := "(I)Ljava/lang/Throwable;" } : Jvm.MethodName)) ∈ lw_all := lw_g (lw_at lw_m1 230 rfl) rfl
theorem q536 : (Jvm.Cond.instanceMethod ({ cls := "java/lang/Throwable", name := "<init>", desc := "(Ljava/lang/String;)V" } : Jvm.MethodName)) ∈ lw_all := lw_g (lw_at lw_m2 192 rfl) rfl
theorem q537 : (Jvm.Cond.code ({ cls := "java/lang/Throwable", name := "<init>", desc := "(Ljava/lang/String;)V" } : Jvm.MethodName) prog_57_method_2_code (2 : Nat) (Option.none : Option Jvm.ClassFile.FieldType)) ∈ lw_all := lw_g (lw_at lw_m2 193 rfl) rfl
theorem q538 : (Jvm.Cond.fieldLink "java/lang/Throwable" (198 : Nat) "java/lang/Throwable" "backtrace" "Ljava/lang/Object;") ∈ lw_all := lw_g (lw_at lw_m2 194 rfl) rfl
theorem q539 : (Jvm.Cond.fieldLink "java/lang/Throwable" (31 : Nat) "java/lang/Throwable" "detailMessage" "Ljava/lang/String;") ∈ lw_all := lw_g (lw_at lw_m2 195 rfl) rfl
theorem q540 : (Jvm.Cond.fieldLink "java/lang/Throwable" (7 : Nat) "java/lang/Throwable" "cause" "Ljava/lang/Throwable;") ∈ lw_all := lw_g (lw_at lw_m2 196 rfl) rfl
theorem q541 : (Jvm.Cond.fieldLink "java/lang/Throwable" (17 : Nat) "java/lang/Throwable" "stackTrace" "[Ljava/lang/StackTraceElement;") ∈ lw_all := lw_g (lw_at lw_m2 197 rfl) rfl
theorem q542 : (Jvm.Cond.fieldLink "java/lang/Throwable" (24 : Nat) "java/lang/Throwable" "suppressedExceptions" "Ljava/util/List;") ∈ lw_all := lw_g (lw_at lw_m2 198 rfl) rfl
theorem q543 : (Jvm.Cond.soleField "java/lang/Throwable" "backtrace") ∈ lw_all := lw_g (lw_at lw_m2 199 rfl) rfl
theorem q544 : (Jvm.Cond.soleField "java/lang/Throwable" "detailMessage") ∈ lw_all := lw_g (lw_at lw_m2 200 rfl) rfl
theorem q545 : (Jvm.Cond.soleField "java/lang/Throwable" "cause") ∈ lw_all := lw_g (lw_at lw_m2 201 rfl) rfl
theorem q546 : (Jvm.Cond.soleField "java/lang/Throwable" "stackTrace") ∈ lw_all := lw_g (lw_at lw_m2 202 rfl) rfl
theorem q548 : (Jvm.Cond.soleField "java/lang/Throwable" "depth") ∈ lw_all := lw_g (lw_at lw_m2 204 rfl) rfl
theorem q549 : (Jvm.Cond.soleField "java/lang/Throwable" "suppressedExceptions") ∈ lw_all := lw_g (lw_at lw_m2 205 rfl) rfl
theorem q1522 : (Jvm.Cond.instanceMethod ({ cls := "java/lang/Throwable", name := "<init>", desc := "(Ljava/lang/String;Ljava/lang/Throwable;)V" } : Jvm.MethodName)) ∈ lw_all := lw_g (lw_at lw_m6 218 rfl) rfl
theorem q1523 : (Jvm.Cond.code ({ cls := "java/lang/Throwable", name := "<init>", desc := "(Ljava/lang/String;Ljava/lang/Throwable;)V" } : Jvm.MethodName) prog_57_method_3_code (3 : Nat) (Option.none : Option Jvm.ClassFile.FieldType)) ∈ lw_all := lw_g (lw_at lw_m6 219 rfl) rfl
theorem q1753 : (Jvm.Cond.instanceMethod ({ cls := "java/lang/Throwable", name := "<init>", desc := "(Ljava/lang/Throwable;)V" } : Jvm.MethodName)) ∈ lw_all := lw_g (lw_at lw_m7 209 rfl) rfl
theorem q1754 : (Jvm.Cond.code ({ cls := "java/lang/Throwable", name := "<init>", desc := "(Ljava/lang/Throwable;)V" } : Jvm.MethodName) prog_57_method_4_code (2 : Nat) (Option.none : Option Jvm.ClassFile.FieldType)) ∈ lw_all := lw_g (lw_at lw_m7 210 rfl) rfl
theorem q1755 : (Jvm.Cond.methodLink "java/lang/Throwable" (35 : Nat) ({ cls := "java/lang/Throwable", name := "toString", desc := "()Ljava/lang/String;" } : Jvm.MethodName)) ∈ lw_all := lw_g (lw_at lw_m7 211 rfl) rfl
theorem q1756 : (Jvm.Cond.instanceMethod ({ cls := "java/lang/Throwable", name := "toString", desc := "()Ljava/lang/String;" } : Jvm.MethodName)) ∈ lw_all := lw_g (lw_at lw_m7 212 rfl) rfl
theorem q1757 : (Jvm.Cond.sameMethod "java/lang/Throwable" "java/lang/Throwable" "toString" "()Ljava/lang/String;") ∈ lw_all := lw_g (lw_at lw_m7 213 rfl) rfl
theorem q1767 : (Jvm.Cond.code ({ cls := "java/lang/Throwable", name := "toString", desc := "()Ljava/lang/String;" } : Jvm.MethodName) prog_57_method_11_code (3 : Nat) (Option.some (Jvm.ClassFile.FieldType.object "java/lang/String"))) ∈ lw_all := lw_g (lw_at lw_m7 223 rfl) rfl
theorem q1768 : (Jvm.Cond.methodLink "java/lang/Throwable" (69 : Nat) ({ cls := "java/lang/Object", name := "getClass", desc := "()Ljava/lang/Class;" } : Jvm.MethodName)) ∈ lw_all := lw_g (lw_at lw_m7 224 rfl) rfl
theorem q1769 : (Jvm.Cond.methodLink "java/lang/Throwable" (78 : Nat) ({ cls := "java/lang/Throwable", name := "getLocalizedMessage", desc := "()Ljava/lang/String;" } : Jvm.MethodName)) ∈ lw_all := lw_g (lw_at lw_m7 225 rfl) rfl
theorem q1770 : (Jvm.Cond.instanceMethod ({ cls := "java/lang/Throwable", name := "getLocalizedMessage", desc := "()Ljava/lang/String;" } : Jvm.MethodName)) ∈ lw_all := lw_g (lw_at lw_m7 226 rfl) rfl
theorem q1771 : (Jvm.Cond.sameMethod "java/lang/Throwable" "java/lang/Throwable" "getLocalizedMessage" "()Ljava/lang/String;") ∈ lw_all := lw_g (lw_at lw_m7 227 rfl) rfl
theorem q1781 : (Jvm.Cond.code ({ cls := "java/lang/Throwable", name := "getLocalizedMessage", desc := "()Ljava/lang/String;" } : Jvm.MethodName) prog_57_method_7_code (1 : Nat) (Option.some (Jvm.ClassFile.FieldType.object "java/lang/String"))) ∈ lw_all := lw_g (lw_at lw_m7 237 rfl) rfl
theorem q1782 : (Jvm.Cond.methodLink "java/lang/Throwable" (39 : Nat) ({ cls := "java/lang/Throwable", name := "getMessage", desc := "()Ljava/lang/String;" } : Jvm.MethodName)) ∈ lw_all := lw_g (lw_at lw_m7 238 rfl) rfl
theorem q1783 : (Jvm.Cond.instanceMethod ({ cls := "java/lang/Throwable", name := "getMessage", desc := "()Ljava/lang/String;" } : Jvm.MethodName)) ∈ lw_all := lw_g (lw_at lw_m7 239 rfl) rfl
theorem q1784 : (Jvm.Cond.sameMethod "java/lang/Throwable" "java/lang/Throwable" "getMessage" "()Ljava/lang/String;") ∈ lw_all := lw_g (lw_at lw_m8 0 rfl) rfl
theorem q1794 : (Jvm.Cond.code ({ cls := "java/lang/Throwable", name := "getMessage", desc := "()Ljava/lang/String;" } : Jvm.MethodName) prog_57_method_6_code (1 : Nat) (Option.some (Jvm.ClassFile.FieldType.object "java/lang/String"))) ∈ lw_all := lw_g (lw_at lw_m8 10 rfl) rfl
theorem q1795 : (Jvm.Cond.classLink "java/lang/Throwable" (44 : Nat) "java/lang/StringBuilder") ∈ lw_all := lw_g (lw_at lw_m8 11 rfl) rfl
theorem q1796 : (Jvm.Cond.methodLink "java/lang/Throwable" (46 : Nat) ({ cls := "java/lang/StringBuilder", name := "<init>", desc := "()V" } : Jvm.MethodName)) ∈ lw_all := lw_g (lw_at lw_m8 12 rfl) rfl
theorem q1797 : (Jvm.Cond.methodLink "java/lang/Throwable" (49 : Nat) ({ cls := "java/lang/StringBuilder", name := "append", desc := "(Ljava/lang/String;)Ljava/lang/StringBuilder;" } : Jvm.MethodName)) ∈ lw_all := lw_g (lw_at lw_m8 13 rfl) rfl
theorem q1798 : (Jvm.Cond.stringRef "java/lang/Throwable" (81 : Nat) ": ") ∈ lw_tbl := lw_at lw_m8 14 rfl
theorem q1799 : (Jvm.Cond.methodLink "java/lang/Throwable" (60 : Nat) ({ cls := "java/lang/StringBuilder", name := "toString", desc := "()Ljava/lang/String;" } : Jvm.MethodName)) ∈ lw_all := lw_g (lw_at lw_m8 15 rfl) rfl
theorem q2860 : (Jvm.Cond.instanceMethod ({ cls := "java/lang/Throwable", name := "<init>", desc := "(Ljava/lang/String;Ljava/lang/Throwable;ZZ)V" } : Jvm.MethodName)) ∈ lw_all := lw_g (lw_at lw_m12 116 rfl) rfl
theorem q2861 : (Jvm.Cond.code ({ cls := "java/lang/Throwable", name := "<init>", desc := "(Ljava/lang/String;Ljava/lang/Throwable;ZZ)V" } : Jvm.MethodName) prog_57_method_5_code (5 : Nat) (Option.none : Option Jvm.ClassFile.FieldType)) ∈ lw_all := lw_g (lw_at lw_m12 117 rfl) rfl
theorem q3789 : (Jvm.Cond.sameMethod "java/lang/Throwable" "java/lang/Throwable" "fillInStackTrace" "(I)Ljava/lang/Throwable;") ∈ lw_all := lw_g (lw_at lw_m16 85 rfl) rfl
theorem q3873 : (Jvm.Cond.castable "java/lang/Throwable" "java/lang/Object") ∈ lw_tbl := lw_at lw_m16 169 rfl
theorem in_J10 : ∀ w ∈ wsJ100, w ∈ lw_all := lw_in wsJ100 [300, 302, 304, 306, 308] (by decide +kernel) (by decide +kernel)
def RJ11 : String := "java/lang/Exception"
abbrev cJ11_init : ByteArray := prog_41_method_2_code
def yJ11_init : MethodName := ⟨RJ11, "<init>", "(Ljava/lang/String;)V"⟩
abbrev cJ11_init_2 : ByteArray := prog_41_method_1_code
def yJ11_init_2 : MethodName := ⟨RJ11, "<init>", "()V"⟩
abbrev cJ11_init_3 : ByteArray := prog_41_method_3_code
def yJ11_init_3 : MethodName := ⟨RJ11, "<init>", "(Ljava/lang/String;Ljava/lang/Throwable;)V"⟩
abbrev cJ11_init_4 : ByteArray := prog_41_method_4_code
def yJ11_init_4 : MethodName := ⟨RJ11, "<init>", "(Ljava/lang/Throwable;)V"⟩
abbrev cJ11_init_5 : ByteArray := prog_41_method_5_code
def yJ11_init_5 : MethodName := ⟨RJ11, "<init>", "(Ljava/lang/String;Ljava/lang/Throwable;ZZ)V"⟩
theorem q120 : (Jvm.Cond.initialized "java/lang/Exception") ∈ lw_all := lw_g (lw_at lw_m1 16 rfl) rfl
theorem q293 : (Jvm.Cond.declares ({ cls := "java/lang/Exception", name := "<init>", desc := "()V" } : Jvm.MethodName)) ∈ lw_tbl := lw_at lw_m1 189 rfl
theorem q294 : (Jvm.Cond.declares ({ cls := "java/lang/Exception", name := "<init>", desc := "(Ljava/lang/String;)V" } : Jvm.MethodName)) ∈ lw_tbl := lw_at lw_m1 190 rfl
theorem q533 : (Jvm.Cond.instanceMethod ({ cls := "java/lang/Exception", name := "<init>", desc := "(Ljava/lang/String;)V" } : Jvm.MethodName)) ∈ lw_all := lw_g (lw_at lw_m2 189 rfl) rfl
theorem q534 : (Jvm.Cond.code ({ cls := "java/lang/Exception", name := "<init>", desc := "(Ljava/lang/String;)V" } : Jvm.MethodName) prog_41_method_2_code (2 : Nat) (Option.none : Option Jvm.ClassFile.FieldType)) ∈ lw_all := lw_g (lw_at lw_m2 190 rfl) rfl
theorem q535 : (Jvm.Cond.methodLink "java/lang/Exception" (7 : Nat) ({ cls := "java/lang/Throwable", name := "<init>", desc := "(Ljava/lang/String;)V" } : Jvm.MethodName)) ∈ lw_all := lw_g (lw_at lw_m2 191 rfl) rfl
theorem q1447 : (Jvm.Cond.instanceMethod ({ cls := "java/lang/Exception", name := "<init>", desc := "()V" } : Jvm.MethodName)) ∈ lw_all := lw_g (lw_at lw_m6 143 rfl) rfl
theorem q1448 : (Jvm.Cond.code ({ cls := "java/lang/Exception", name := "<init>", desc := "()V" } : Jvm.MethodName) prog_41_method_1_code (1 : Nat) (Option.none : Option Jvm.ClassFile.FieldType)) ∈ lw_all := lw_g (lw_at lw_m6 144 rfl) rfl
theorem q1449 : (Jvm.Cond.methodLink "java/lang/Exception" (1 : Nat) ({ cls := "java/lang/Throwable", name := "<init>", desc := "()V" } : Jvm.MethodName)) ∈ lw_all := lw_g (lw_at lw_m6 145 rfl) rfl
theorem q1519 : (Jvm.Cond.instanceMethod ({ cls := "java/lang/Exception", name := "<init>", desc := "(Ljava/lang/String;Ljava/lang/Throwable;)V" } : Jvm.MethodName)) ∈ lw_all := lw_g (lw_at lw_m6 215 rfl) rfl
theorem q1520 : (Jvm.Cond.code ({ cls := "java/lang/Exception", name := "<init>", desc := "(Ljava/lang/String;Ljava/lang/Throwable;)V" } : Jvm.MethodName) prog_41_method_3_code (3 : Nat) (Option.none : Option Jvm.ClassFile.FieldType)) ∈ lw_all := lw_g (lw_at lw_m6 216 rfl) rfl
theorem q1521 : (Jvm.Cond.methodLink "java/lang/Exception" (10 : Nat) ({ cls := "java/lang/Throwable", name := "<init>", desc := "(Ljava/lang/String;Ljava/lang/Throwable;)V" } : Jvm.MethodName)) ∈ lw_all := lw_g (lw_at lw_m6 217 rfl) rfl
theorem q1750 : (Jvm.Cond.instanceMethod ({ cls := "java/lang/Exception", name := "<init>", desc := "(Ljava/lang/Throwable;)V" } : Jvm.MethodName)) ∈ lw_all := lw_g (lw_at lw_m7 206 rfl) rfl
theorem q1751 : (Jvm.Cond.code ({ cls := "java/lang/Exception", name := "<init>", desc := "(Ljava/lang/Throwable;)V" } : Jvm.MethodName) prog_41_method_4_code (2 : Nat) (Option.none : Option Jvm.ClassFile.FieldType)) ∈ lw_all := lw_g (lw_at lw_m7 207 rfl) rfl
theorem q1752 : (Jvm.Cond.methodLink "java/lang/Exception" (13 : Nat) ({ cls := "java/lang/Throwable", name := "<init>", desc := "(Ljava/lang/Throwable;)V" } : Jvm.MethodName)) ∈ lw_all := lw_g (lw_at lw_m7 208 rfl) rfl
theorem q2857 : (Jvm.Cond.instanceMethod ({ cls := "java/lang/Exception", name := "<init>", desc := "(Ljava/lang/String;Ljava/lang/Throwable;ZZ)V" } : Jvm.MethodName)) ∈ lw_all := lw_g (lw_at lw_m12 113 rfl) rfl
theorem q2858 : (Jvm.Cond.code ({ cls := "java/lang/Exception", name := "<init>", desc := "(Ljava/lang/String;Ljava/lang/Throwable;ZZ)V" } : Jvm.MethodName) prog_41_method_5_code (5 : Nat) (Option.none : Option Jvm.ClassFile.FieldType)) ∈ lw_all := lw_g (lw_at lw_m12 114 rfl) rfl
theorem q2859 : (Jvm.Cond.methodLink "java/lang/Exception" (16 : Nat) ({ cls := "java/lang/Throwable", name := "<init>", desc := "(Ljava/lang/String;Ljava/lang/Throwable;ZZ)V" } : Jvm.MethodName)) ∈ lw_all := lw_g (lw_at lw_m12 115 rfl) rfl
def RJ12 : String := "java/lang/RuntimeException"
abbrev cJ12_init : ByteArray := prog_51_method_2_code
def yJ12_init : MethodName := ⟨RJ12, "<init>", "(Ljava/lang/String;)V"⟩
abbrev cJ12_init_2 : ByteArray := prog_51_method_1_code
def yJ12_init_2 : MethodName := ⟨RJ12, "<init>", "()V"⟩
abbrev cJ12_init_3 : ByteArray := prog_51_method_3_code
def yJ12_init_3 : MethodName := ⟨RJ12, "<init>", "(Ljava/lang/String;Ljava/lang/Throwable;)V"⟩
abbrev cJ12_init_4 : ByteArray := prog_51_method_4_code
def yJ12_init_4 : MethodName := ⟨RJ12, "<init>", "(Ljava/lang/Throwable;)V"⟩
abbrev cJ12_init_5 : ByteArray := prog_51_method_5_code
def yJ12_init_5 : MethodName := ⟨RJ12, "<init>", "(Ljava/lang/String;Ljava/lang/Throwable;ZZ)V"⟩
theorem q121 : (Jvm.Cond.initialized "java/lang/RuntimeException") ∈ lw_all := lw_g (lw_at lw_m1 17 rfl) rfl
theorem q291 : (Jvm.Cond.declares ({ cls := "java/lang/RuntimeException", name := "<init>", desc := "()V" } : Jvm.MethodName)) ∈ lw_tbl := lw_at lw_m1 187 rfl
theorem q292 : (Jvm.Cond.declares ({ cls := "java/lang/RuntimeException", name := "<init>", desc := "(Ljava/lang/String;)V" } : Jvm.MethodName)) ∈ lw_tbl := lw_at lw_m1 188 rfl
theorem q530 : (Jvm.Cond.instanceMethod ({ cls := "java/lang/RuntimeException", name := "<init>", desc := "(Ljava/lang/String;)V" } : Jvm.MethodName)) ∈ lw_all := lw_g (lw_at lw_m2 186 rfl) rfl
theorem q531 : (Jvm.Cond.code ({ cls := "java/lang/RuntimeException", name := "<init>", desc := "(Ljava/lang/String;)V" } : Jvm.MethodName) prog_51_method_2_code (2 : Nat) (Option.none : Option Jvm.ClassFile.FieldType)) ∈ lw_all := lw_g (lw_at lw_m2 187 rfl) rfl
theorem q532 : (Jvm.Cond.methodLink "java/lang/RuntimeException" (7 : Nat) ({ cls := "java/lang/Exception", name := "<init>", desc := "(Ljava/lang/String;)V" } : Jvm.MethodName)) ∈ lw_all := lw_g (lw_at lw_m2 188 rfl) rfl
theorem q1444 : (Jvm.Cond.instanceMethod ({ cls := "java/lang/RuntimeException", name := "<init>", desc := "()V" } : Jvm.MethodName)) ∈ lw_all := lw_g (lw_at lw_m6 140 rfl) rfl
theorem q1445 : (Jvm.Cond.code ({ cls := "java/lang/RuntimeException", name := "<init>", desc := "()V" } : Jvm.MethodName) prog_51_method_1_code (1 : Nat) (Option.none : Option Jvm.ClassFile.FieldType)) ∈ lw_all := lw_g (lw_at lw_m6 141 rfl) rfl
theorem q1446 : (Jvm.Cond.methodLink "java/lang/RuntimeException" (1 : Nat) ({ cls := "java/lang/Exception", name := "<init>", desc := "()V" } : Jvm.MethodName)) ∈ lw_all := lw_g (lw_at lw_m6 142 rfl) rfl
theorem q1516 : (Jvm.Cond.instanceMethod ({ cls := "java/lang/RuntimeException", name := "<init>", desc := "(Ljava/lang/String;Ljava/lang/Throwable;)V" } : Jvm.MethodName)) ∈ lw_all := lw_g (lw_at lw_m6 212 rfl) rfl
theorem q1517 : (Jvm.Cond.code ({ cls := "java/lang/RuntimeException", name := "<init>", desc := "(Ljava/lang/String;Ljava/lang/Throwable;)V" } : Jvm.MethodName) prog_51_method_3_code (3 : Nat) (Option.none : Option Jvm.ClassFile.FieldType)) ∈ lw_all := lw_g (lw_at lw_m6 213 rfl) rfl
theorem q1518 : (Jvm.Cond.methodLink "java/lang/RuntimeException" (10 : Nat) ({ cls := "java/lang/Exception", name := "<init>", desc := "(Ljava/lang/String;Ljava/lang/Throwable;)V" } : Jvm.MethodName)) ∈ lw_all := lw_g (lw_at lw_m6 214 rfl) rfl
theorem q1747 : (Jvm.Cond.instanceMethod ({ cls := "java/lang/RuntimeException", name := "<init>", desc := "(Ljava/lang/Throwable;)V" } : Jvm.MethodName)) ∈ lw_all := lw_g (lw_at lw_m7 203 rfl) rfl
theorem q1748 : (Jvm.Cond.code ({ cls := "java/lang/RuntimeException", name := "<init>", desc := "(Ljava/lang/Throwable;)V" } : Jvm.MethodName) prog_51_method_4_code (2 : Nat) (Option.none : Option Jvm.ClassFile.FieldType)) ∈ lw_all := lw_g (lw_at lw_m7 204 rfl) rfl
theorem q1749 : (Jvm.Cond.methodLink "java/lang/RuntimeException" (13 : Nat) ({ cls := "java/lang/Exception", name := "<init>", desc := "(Ljava/lang/Throwable;)V" } : Jvm.MethodName)) ∈ lw_all := lw_g (lw_at lw_m7 205 rfl) rfl
theorem q2854 : (Jvm.Cond.instanceMethod ({ cls := "java/lang/RuntimeException", name := "<init>", desc := "(Ljava/lang/String;Ljava/lang/Throwable;ZZ)V" } : Jvm.MethodName)) ∈ lw_all := lw_g (lw_at lw_m12 110 rfl) rfl
theorem q2855 : (Jvm.Cond.code ({ cls := "java/lang/RuntimeException", name := "<init>", desc := "(Ljava/lang/String;Ljava/lang/Throwable;ZZ)V" } : Jvm.MethodName) prog_51_method_5_code (5 : Nat) (Option.none : Option Jvm.ClassFile.FieldType)) ∈ lw_all := lw_g (lw_at lw_m12 111 rfl) rfl
theorem q2856 : (Jvm.Cond.methodLink "java/lang/RuntimeException" (16 : Nat) ({ cls := "java/lang/Exception", name := "<init>", desc := "(Ljava/lang/String;Ljava/lang/Throwable;ZZ)V" } : Jvm.MethodName)) ∈ lw_all := lw_g (lw_at lw_m12 112 rfl) rfl
def RJ13 : String := "java/lang/IllegalArgumentException"
def TJ13 : u_T := fun k => match k with
  | 0 => ("java/lang/Throwable", "cause", "Ljava/lang/Throwable;", false)
  | 1 => ("java/lang/Throwable", "stackTrace", "[Ljava/lang/StackTraceElement;", false)
  | 2 => ("java/lang/Throwable", "suppressedExceptions", "Ljava/util/List;", false)
  | 3 => ("java/lang/Throwable", "detailMessage", "Ljava/lang/String;", false)
  | 4 => ("java/lang/Throwable", "backtrace", "Ljava/lang/Object;", false)
  | _ => ("java/lang/Throwable", "depth", "I", false)
def tyJ13 : Nat → FieldType := fun k => match k with
  | 0 => .object "java/lang/Throwable"
  | 1 => .array (.object "java/lang/StackTraceElement")
  | 2 => .object "java/util/List"
  | 3 => .object "java/lang/String"
  | 4 => .object "java/lang/Object"
  | _ => .int
abbrev wsJ130 : List Cond := u_ws RJ13 TJ13 6
theorem nmJ13 : ∀ a, a < 6 → ∀ b, b < 6 → a ≠ b → (TJ13 a).2.1 ≠ (TJ13 b).2.1 := by decide +kernel
theorem tyJ13_ok : ∀ k, k < 6 → parseFieldDescriptor (TJ13 k).2.2.1 = some (tyJ13 k) := by decide +kernel
abbrev cJ13_init : ByteArray := prog_42_method_2_code
def yJ13_init : MethodName := ⟨RJ13, "<init>", "(Ljava/lang/String;)V"⟩
abbrev cJ13_init_2 : ByteArray := prog_42_method_1_code
def yJ13_init_2 : MethodName := ⟨RJ13, "<init>", "()V"⟩
theorem q122 : (Jvm.Cond.initialized "java/lang/IllegalArgumentException") ∈ lw_all := lw_g (lw_at lw_m1 18 rfl) rfl
theorem q289 : (Jvm.Cond.instantiable "java/lang/IllegalArgumentException" (6 : Nat)) ∈ lw_all := lw_g (lw_at lw_m1 185 rfl) rfl
theorem q290 : (Jvm.Cond.castable "java/lang/IllegalArgumentException" "java/lang/IllegalArgumentException") ∈ lw_tbl := lw_at lw_m1 186 rfl
theorem q297 : (Jvm.Cond.selects "java/lang/IllegalArgumentException" ({ cls := "java/lang/Throwable", name := "fillInStackTrace", desc := "(I)Ljava/lang/Throwable;" } : Jvm.MethodName) ({ cls := "java/lang/Throwable", name := "fillInStackTrace", desc := "(I)Ljava/lang/Throwable;" } : Jvm.MethodName)) ∈ lw_all := lw_g (lw_at lw_m1 193 rfl) rfl
theorem q298 : (Jvm.Cond.selects "java/lang/IllegalArgumentException" ({ cls := "java/lang/Throwable", name := "fillInStackTrace", desc := "()Ljava/lang/Throwable;" } : Jvm.MethodName) ({ cls := "java/lang/Throwable", name := "fillInStackTrace", desc := "()Ljava/lang/Throwable;" } : Jvm.MethodName)) ∈ lw_all := lw_g (lw_at lw_m1 194 rfl) rfl
theorem q299 : (Jvm.Cond.lays "java/lang/IllegalArgumentException" "java/lang/Throwable" "cause" "Ljava/lang/Throwable;") ∈ lw_all := lw_g (lw_at lw_m1 195 rfl) rfl
theorem q301 : (Jvm.Cond.lays "java/lang/IllegalArgumentException" "java/lang/Throwable" "stackTrace" "[Ljava/lang/StackTraceElement;") ∈ lw_all := lw_g (lw_at lw_m1 197 rfl) rfl
theorem q303 : (Jvm.Cond.lays "java/lang/IllegalArgumentException" "java/lang/Throwable" "suppressedExceptions" "Ljava/util/List;") ∈ lw_all := lw_g (lw_at lw_m1 199 rfl) rfl
theorem q305 : (Jvm.Cond.lays "java/lang/IllegalArgumentException" "java/lang/Throwable" "detailMessage" "Ljava/lang/String;") ∈ lw_all := lw_g (lw_at lw_m1 201 rfl) rfl
theorem q307 : (Jvm.Cond.lays "java/lang/IllegalArgumentException" "java/lang/Throwable" "backtrace" "Ljava/lang/Object;") ∈ lw_all := lw_g (lw_at lw_m1 203 rfl) rfl
theorem q527 : (Jvm.Cond.instanceMethod ({ cls := "java/lang/IllegalArgumentException", name := "<init>", desc := "(Ljava/lang/String;)V" } : Jvm.MethodName)) ∈ lw_all := lw_g (lw_at lw_m2 183 rfl) rfl
theorem q528 : (Jvm.Cond.code ({ cls := "java/lang/IllegalArgumentException", name := "<init>", desc := "(Ljava/lang/String;)V" } : Jvm.MethodName) prog_42_method_2_code (2 : Nat) (Option.none : Option Jvm.ClassFile.FieldType)) ∈ lw_all := lw_g (lw_at lw_m2 184 rfl) rfl
theorem q529 : (Jvm.Cond.methodLink "java/lang/IllegalArgumentException" (7 : Nat) ({ cls := "java/lang/RuntimeException", name := "<init>", desc := "(Ljava/lang/String;)V" } : Jvm.MethodName)) ∈ lw_all := lw_g (lw_at lw_m2 185 rfl) rfl
theorem q547 : (Jvm.Cond.lays "java/lang/IllegalArgumentException" "java/lang/Throwable" "depth" "I") ∈ lw_all := lw_g (lw_at lw_m2 203 rfl) rfl
theorem q550 : (Jvm.Cond.superclass "java/lang/IllegalArgumentException" "java/lang/RuntimeException") ∈ lw_all := lw_g (lw_at lw_m2 206 rfl) rfl
theorem q969 : (Jvm.Cond.selects "java/lang/IllegalArgumentException" ({ cls := "java/lang/Object", name := "getClass", desc := "()Ljava/lang/Class;" } : Jvm.MethodName) ({ cls := "java/lang/Object", name := "getClass", desc := "()Ljava/lang/Class;" } : Jvm.MethodName)) ∈ lw_all := lw_g (lw_at lw_m4 145 rfl) rfl
theorem q1441 : (Jvm.Cond.instanceMethod ({ cls := "java/lang/IllegalArgumentException", name := "<init>", desc := "()V" } : Jvm.MethodName)) ∈ lw_all := lw_g (lw_at lw_m6 137 rfl) rfl
theorem q1442 : (Jvm.Cond.code ({ cls := "java/lang/IllegalArgumentException", name := "<init>", desc := "()V" } : Jvm.MethodName) prog_42_method_1_code (1 : Nat) (Option.none : Option Jvm.ClassFile.FieldType)) ∈ lw_all := lw_g (lw_at lw_m6 138 rfl) rfl
theorem q1443 : (Jvm.Cond.methodLink "java/lang/IllegalArgumentException" (1 : Nat) ({ cls := "java/lang/RuntimeException", name := "<init>", desc := "()V" } : Jvm.MethodName)) ∈ lw_all := lw_g (lw_at lw_m6 139 rfl) rfl
theorem q1762 : (Jvm.Cond.selects "java/lang/IllegalArgumentException" ({ cls := "java/lang/Throwable", name := "toString", desc := "()Ljava/lang/String;" } : Jvm.MethodName) ({ cls := "java/lang/Throwable", name := "toString", desc := "()Ljava/lang/String;" } : Jvm.MethodName)) ∈ lw_all := lw_g (lw_at lw_m7 218 rfl) rfl
theorem q1776 : (Jvm.Cond.selects "java/lang/IllegalArgumentException" ({ cls := "java/lang/Throwable", name := "getLocalizedMessage", desc := "()Ljava/lang/String;" } : Jvm.MethodName) ({ cls := "java/lang/Throwable", name := "getLocalizedMessage", desc := "()Ljava/lang/String;" } : Jvm.MethodName)) ∈ lw_all := lw_g (lw_at lw_m7 232 rfl) rfl
theorem q1789 : (Jvm.Cond.selects "java/lang/IllegalArgumentException" ({ cls := "java/lang/Throwable", name := "getMessage", desc := "()Ljava/lang/String;" } : Jvm.MethodName) ({ cls := "java/lang/Throwable", name := "getMessage", desc := "()Ljava/lang/String;" } : Jvm.MethodName)) ∈ lw_all := lw_g (lw_at lw_m8 5 rfl) rfl
theorem q2482 : (Jvm.Cond.selects "java/lang/IllegalArgumentException" ({ cls := "java/lang/Object", name := "equals", desc := "(Ljava/lang/Object;)Z" } : Jvm.MethodName) ({ cls := "java/lang/Object", name := "equals", desc := "(Ljava/lang/Object;)Z" } : Jvm.MethodName)) ∈ lw_all := lw_g (lw_at lw_m10 218 rfl) rfl
theorem q3836 : (Jvm.Cond.castable "java/lang/IllegalArgumentException" "java/lang/Object") ∈ lw_tbl := lw_at lw_m16 132 rfl
theorem in_J13 : ∀ w ∈ wsJ130, w ∈ lw_all := lw_in wsJ130 [299, 301, 303, 305, 307, 547] (by decide +kernel) (by decide +kernel)
def RJ14 : String := "jdk/internal/util/ArraysSupport"
abbrev cJ14_newLength : ByteArray := prog_93_method_27_code
def yJ14_newLength : MethodName := ⟨RJ14, "newLength", "(III)I"⟩
abbrev cJ14_hugeLength : ByteArray := prog_93_method_28_code
def yJ14_hugeLength : MethodName := ⟨RJ14, "hugeLength", "(II)I"⟩
abbrev cJ14_mismatch : ByteArray := prog_93_method_13_code
def yJ14_mismatch : MethodName := ⟨RJ14, "mismatch", "([B[BI)I"⟩
abbrev cJ14_vectorizedMismatch : ByteArray := prog_93_method_3_code
def yJ14_vectorizedMismatch : MethodName := ⟨RJ14, "vectorizedMismatch", "(Ljava/lang/Object;JLjava/lang/Object;JII)I"⟩
theorem q123 : (Jvm.Cond.initialized "jdk/internal/util/ArraysSupport") ∈ lw_all := lw_g (lw_at lw_m1 19 rfl) rfl
theorem q358 : (Jvm.Cond.static ({ cls := "jdk/internal/util/ArraysSupport", name := "newLength", desc := "(III)I" } : Jvm.MethodName)) ∈ lw_all := lw_g (lw_at lw_m2 14 rfl) rfl
theorem q359 : (Jvm.Cond.code ({ cls := "jdk/internal/util/ArraysSupport", name := "newLength", desc := "(III)I" } : Jvm.MethodName) prog_93_method_27_code (4 : Nat) (Option.some Jvm.ClassFile.FieldType.int)) ∈ lw_all := lw_g (lw_at lw_m2 15 rfl) rfl
theorem q360 : (Jvm.Cond.methodLink "jdk/internal/util/ArraysSupport" (194 : Nat) ({ cls := "java/lang/Math", name := "max", desc := "(II)I" } : Jvm.MethodName)) ∈ lw_all := lw_g (lw_at lw_m2 16 rfl) rfl
theorem q363 : (Jvm.Cond.constant "jdk/internal/util/ArraysSupport" (200 : Nat) (2147483639 : Int32)) ∈ lw_all := lw_g (lw_at lw_m2 19 rfl) rfl
theorem q364 : (Jvm.Cond.methodLink "jdk/internal/util/ArraysSupport" (201 : Nat) ({ cls := "jdk/internal/util/ArraysSupport", name := "hugeLength", desc := "(II)I" } : Jvm.MethodName)) ∈ lw_all := lw_g (lw_at lw_m2 20 rfl) rfl
theorem q365 : (Jvm.Cond.static ({ cls := "jdk/internal/util/ArraysSupport", name := "hugeLength", desc := "(II)I" } : Jvm.MethodName)) ∈ lw_all := lw_g (lw_at lw_m2 21 rfl) rfl
theorem q366 : (Jvm.Cond.code ({ cls := "jdk/internal/util/ArraysSupport", name := "hugeLength", desc := "(II)I" } : Jvm.MethodName) prog_93_method_28_code (3 : Nat) (Option.some Jvm.ClassFile.FieldType.int)) ∈ lw_all := lw_g (lw_at lw_m2 22 rfl) rfl
theorem q3423 : (Jvm.Cond.static ({ cls := "jdk/internal/util/ArraysSupport", name := "mismatch", desc := "([B[BI)I" } : Jvm.MethodName)) ∈ lw_all := lw_g (lw_at lw_m14 199 rfl) rfl
theorem q3424 : (Jvm.Cond.code ({ cls := "jdk/internal/util/ArraysSupport", name := "mismatch", desc := "([B[BI)I" } : Jvm.MethodName) prog_93_method_13_code (4 : Nat) (Option.some Jvm.ClassFile.FieldType.int)) ∈ lw_all := lw_g (lw_at lw_m14 200 rfl) rfl
theorem q3425 : (Jvm.Cond.fieldLink "jdk/internal/util/ArraysSupport" (126 : Nat) "jdk/internal/misc/Unsafe" "ARRAY_BYTE_BASE_OFFSET" "I") ∈ lw_all := lw_g (lw_at lw_m14 201 rfl) rfl
theorem q3427 : (Jvm.Cond.fieldLink "jdk/internal/util/ArraysSupport" (129 : Nat) "jdk/internal/util/ArraysSupport" "LOG2_ARRAY_BYTE_INDEX_SCALE" "I") ∈ lw_all := lw_g (lw_at lw_m14 203 rfl) rfl
theorem q3428 : (Jvm.Cond.laysStatic "jdk/internal/util/ArraysSupport" "LOG2_ARRAY_BYTE_INDEX_SCALE" "I") ∈ lw_tbl := lw_at lw_m14 204 rfl
theorem q3429 : (Jvm.Cond.methodLink "jdk/internal/util/ArraysSupport" (122 : Nat) ({ cls := "jdk/internal/util/ArraysSupport", name := "vectorizedMismatch", desc := "(Ljava/lang/Object;JLjava/lang/Object;JII)I" } : Jvm.MethodName)) ∈ lw_all := lw_g (lw_at lw_m14 205 rfl) rfl
theorem q3430 : (Jvm.Cond.static ({ cls := "jdk/internal/util/ArraysSupport", name := "vectorizedMismatch", desc := "(Ljava/lang/Object;JLjava/lang/Object;JII)I" } : Jvm.MethodName)) ∈ lw_all := lw_g (lw_at lw_m14 206 rfl) rfl
theorem q3431 : (Jvm.Cond.code ({ cls := "jdk/internal/util/ArraysSupport", name := "vectorizedMismatch", desc := "(Ljava/lang/Object;JLjava/lang/Object;JII)I" } : Jvm.MethodName) prog_93_method_3_code (19 : Nat) (Option.some Jvm.ClassFile.FieldType.int)) ∈ lw_all := lw_g (lw_at lw_m14 207 rfl) rfl
theorem q3432 : (Jvm.Cond.fieldLink "jdk/internal/util/ArraysSupport" (20 : Nat) "jdk/internal/util/ArraysSupport" "LOG2_ARRAY_LONG_INDEX_SCALE" "I") ∈ lw_all := lw_g (lw_at lw_m14 208 rfl) rfl
theorem q3433 : (Jvm.Cond.laysStatic "jdk/internal/util/ArraysSupport" "LOG2_ARRAY_LONG_INDEX_SCALE" "I") ∈ lw_tbl := lw_at lw_m14 209 rfl
theorem q3434 : (Jvm.Cond.fieldLink "jdk/internal/util/ArraysSupport" (26 : Nat) "jdk/internal/util/ArraysSupport" "U" "Ljdk/internal/misc/Unsafe;") ∈ lw_all := lw_g (lw_at lw_m14 210 rfl) rfl
theorem q3435 : (Jvm.Cond.laysStatic "jdk/internal/util/ArraysSupport" "U" "Ljdk/internal/misc/Unsafe;") ∈ lw_tbl := lw_at lw_m14 211 rfl
theorem q3436 : (Jvm.Cond.methodLink "jdk/internal/util/ArraysSupport" (30 : Nat) ({ cls := "jdk/internal/misc/Unsafe", name := "getLongUnaligned", desc := "(Ljava/lang/Object;J)J" } : Jvm.MethodName)) ∈ lw_all := lw_g (lw_at lw_m14 212 rfl) rfl
theorem q3488 : (Jvm.Cond.fieldLink "jdk/internal/util/ArraysSupport" (36 : Nat) "jdk/internal/util/ArraysSupport" "BIG_ENDIAN" "Z") ∈ lw_all := lw_g (lw_at lw_m15 24 rfl) rfl
theorem q3489 : (Jvm.Cond.laysStatic "jdk/internal/util/ArraysSupport" "BIG_ENDIAN" "Z") ∈ lw_tbl := lw_at lw_m15 25 rfl
theorem q3490 : (Jvm.Cond.methodLink "jdk/internal/util/ArraysSupport" (40 : Nat) ({ cls := "java/lang/Long", name := "numberOfLeadingZeros", desc := "(J)I" } : Jvm.MethodName)) ∈ lw_all := lw_g (lw_at lw_m15 26 rfl) rfl
theorem q3497 : (Jvm.Cond.fieldLink "jdk/internal/util/ArraysSupport" (46 : Nat) "jdk/internal/util/ArraysSupport" "LOG2_BYTE_BIT_SIZE" "I") ∈ lw_all := lw_g (lw_at lw_m15 33 rfl) rfl
theorem q3498 : (Jvm.Cond.laysStatic "jdk/internal/util/ArraysSupport" "LOG2_BYTE_BIT_SIZE" "I") ∈ lw_tbl := lw_at lw_m15 34 rfl
theorem q3499 : (Jvm.Cond.methodLink "jdk/internal/util/ArraysSupport" (49 : Nat) ({ cls := "java/lang/Long", name := "numberOfTrailingZeros", desc := "(J)I" } : Jvm.MethodName)) ∈ lw_all := lw_g (lw_at lw_m15 35 rfl) rfl
theorem q3505 : (Jvm.Cond.fieldLink "jdk/internal/util/ArraysSupport" (51 : Nat) "jdk/internal/util/ArraysSupport" "LOG2_ARRAY_INT_INDEX_SCALE" "I") ∈ lw_all := lw_g (lw_at lw_m15 41 rfl) rfl
theorem q3506 : (Jvm.Cond.laysStatic "jdk/internal/util/ArraysSupport" "LOG2_ARRAY_INT_INDEX_SCALE" "I") ∈ lw_tbl := lw_at lw_m15 42 rfl
theorem q3507 : (Jvm.Cond.methodLink "jdk/internal/util/ArraysSupport" (54 : Nat) ({ cls := "jdk/internal/misc/Unsafe", name := "getIntUnaligned", desc := "(Ljava/lang/Object;J)I" } : Jvm.MethodName)) ∈ lw_all := lw_g (lw_at lw_m15 43 rfl) rfl
theorem q3524 : (Jvm.Cond.methodLink "jdk/internal/util/ArraysSupport" (58 : Nat) ({ cls := "java/lang/Integer", name := "numberOfLeadingZeros", desc := "(I)I" } : Jvm.MethodName)) ∈ lw_all := lw_g (lw_at lw_m15 60 rfl) rfl
theorem q3525 : (Jvm.Cond.methodLink "jdk/internal/util/ArraysSupport" (11 : Nat) ({ cls := "java/lang/Integer", name := "numberOfTrailingZeros", desc := "(I)I" } : Jvm.MethodName)) ∈ lw_all := lw_g (lw_at lw_m15 61 rfl) rfl
def RJ15 : String := "java/lang/Math"
abbrev cJ15_max : ByteArray := prog_49_method_65_code
def yJ15_max : MethodName := ⟨RJ15, "max", "(II)I"⟩
abbrev cJ15_min : ByteArray := prog_49_method_69_code
def yJ15_min : MethodName := ⟨RJ15, "min", "(II)I"⟩
theorem q124 : (Jvm.Cond.initialized "java/lang/Math") ∈ lw_all := lw_g (lw_at lw_m1 20 rfl) rfl
theorem q361 : (Jvm.Cond.static ({ cls := "java/lang/Math", name := "max", desc := "(II)I" } : Jvm.MethodName)) ∈ lw_all := lw_g (lw_at lw_m2 17 rfl) rfl
theorem q362 : (Jvm.Cond.code ({ cls := "java/lang/Math", name := "max", desc := "(II)I" } : Jvm.MethodName) prog_49_method_65_code (2 : Nat) (Option.some Jvm.ClassFile.FieldType.int)) ∈ lw_all := lw_g (lw_at lw_m2 18 rfl) rfl
theorem q379 : (Jvm.Cond.static ({ cls := "java/lang/Math", name := "min", desc := "(II)I" } : Jvm.MethodName)) ∈ lw_all := lw_g (lw_at lw_m2 35 rfl) rfl
theorem q380 : (Jvm.Cond.code ({ cls := "java/lang/Math", name := "min", desc := "(II)I" } : Jvm.MethodName) prog_49_method_69_code (2 : Nat) (Option.some Jvm.ClassFile.FieldType.int)) ∈ lw_all := lw_g (lw_at lw_m2 36 rfl) rfl
def RJ16 : String := "java/util/Arrays"
abbrev cJ16_copyOf : ByteArray := prog_69_method_121_code
def yJ16_copyOf : MethodName := ⟨RJ16, "copyOf", "([BI)[B"⟩
abbrev cJ16_copyOfRange : ByteArray := prog_69_method_132_code
def yJ16_copyOfRange : MethodName := ⟨RJ16, "copyOfRange", "([BII)[B"⟩
abbrev cJ16_copyOfRangeByte : ByteArray := prog_69_method_133_code
def yJ16_copyOfRangeByte : MethodName := ⟨RJ16, "copyOfRangeByte", "([BII)[B"⟩
abbrev cJ16_checkLength : ByteArray := prog_69_method_131_code
def yJ16_checkLength : MethodName := ⟨RJ16, "checkLength", "(II)V"⟩
abbrev cJ16_copyOf_2 : ByteArray := prog_69_method_119_code
def yJ16_copyOf_2 : MethodName := ⟨RJ16, "copyOf", "([Ljava/lang/Object;I)[Ljava/lang/Object;"⟩
abbrev cJ16_copyOf_3 : ByteArray := prog_69_method_120_code
def yJ16_copyOf_3 : MethodName := ⟨RJ16, "copyOf", "([Ljava/lang/Object;ILjava/lang/Class;)[Ljava/lang/Object;"⟩
abbrev cJ16_copyOfRange_2 : ByteArray := prog_69_method_130_code
def yJ16_copyOfRange_2 : MethodName := ⟨RJ16, "copyOfRange", "([Ljava/lang/Object;IILjava/lang/Class;)[Ljava/lang/Object;"⟩
abbrev cJ16_copyOf_4 : ByteArray := prog_69_method_124_code
def yJ16_copyOf_4 : MethodName := ⟨RJ16, "copyOf", "([JI)[J"⟩
theorem q125 : (Jvm.Cond.initialized "java/util/Arrays") ∈ lw_all := lw_g (lw_at lw_m1 21 rfl) rfl
theorem q369 : (Jvm.Cond.static ({ cls := "java/util/Arrays", name := "copyOf", desc := "([BI)[B" } : Jvm.MethodName)) ∈ lw_all := lw_g (lw_at lw_m2 25 rfl) rfl
theorem q370 : (Jvm.Cond.code ({ cls := "java/util/Arrays", name := "copyOf", desc := "([BI)[B" } : Jvm.MethodName) prog_69_method_121_code (3 : Nat) (Option.some (Jvm.ClassFile.FieldType.array Jvm.ClassFile.FieldType.byte))) ∈ lw_all := lw_g (lw_at lw_m2 26 rfl) rfl
theorem q371 : (Jvm.Cond.methodLink "java/util/Arrays" (310 : Nat) ({ cls := "[B", name := "clone", desc := "()Ljava/lang/Object;" } : Jvm.MethodName)) ∈ lw_all := lw_g (lw_at lw_m2 27 rfl) rfl
theorem q377 : (Jvm.Cond.classLink "java/util/Arrays" (311 : Nat) "[B") ∈ lw_all := lw_g (lw_at lw_m2 33 rfl) rfl
theorem q378 : (Jvm.Cond.methodLink "java/util/Arrays" (304 : Nat) ({ cls := "java/lang/Math", name := "min", desc := "(II)I" } : Jvm.MethodName)) ∈ lw_all := lw_g (lw_at lw_m2 34 rfl) rfl
theorem q381 : (Jvm.Cond.methodLink "java/util/Arrays" (150 : Nat) ({ cls := "java/lang/System", name := "arraycopy", desc := "(Ljava/lang/Object;ILjava/lang/Object;II)V" } : Jvm.MethodName)) ∈ lw_all := lw_g (lw_at lw_m2 37 rfl) rfl
theorem q511 : (Jvm.Cond.static ({ cls := "java/util/Arrays", name := "copyOfRange", desc := "([BII)[B" } : Jvm.MethodName)) ∈ lw_all := lw_g (lw_at lw_m2 167 rfl) rfl
theorem q512 : (Jvm.Cond.code ({ cls := "java/util/Arrays", name := "copyOfRange", desc := "([BII)[B" } : Jvm.MethodName) prog_69_method_132_code (3 : Nat) (Option.some (Jvm.ClassFile.FieldType.array Jvm.ClassFile.FieldType.byte))) ∈ lw_all := lw_g (lw_at lw_m2 168 rfl) rfl
theorem q513 : (Jvm.Cond.methodLink "java/util/Arrays" (339 : Nat) ({ cls := "java/util/Arrays", name := "copyOfRangeByte", desc := "([BII)[B" } : Jvm.MethodName)) ∈ lw_all := lw_g (lw_at lw_m2 169 rfl) rfl
theorem q514 : (Jvm.Cond.static ({ cls := "java/util/Arrays", name := "copyOfRangeByte", desc := "([BII)[B" } : Jvm.MethodName)) ∈ lw_all := lw_g (lw_at lw_m2 170 rfl) rfl
theorem q515 : (Jvm.Cond.code ({ cls := "java/util/Arrays", name := "copyOfRangeByte", desc := "([BII)[B" } : Jvm.MethodName) prog_69_method_133_code (5 : Nat) (Option.some (Jvm.ClassFile.FieldType.array Jvm.ClassFile.FieldType.byte))) ∈ lw_all := lw_g (lw_at lw_m2 171 rfl) rfl
theorem q516 : (Jvm.Cond.methodLink "java/util/Arrays" (343 : Nat) ({ cls := "java/util/Arrays", name := "checkLength", desc := "(II)V" } : Jvm.MethodName)) ∈ lw_all := lw_g (lw_at lw_m2 172 rfl) rfl
theorem q517 : (Jvm.Cond.static ({ cls := "java/util/Arrays", name := "checkLength", desc := "(II)V" } : Jvm.MethodName)) ∈ lw_all := lw_g (lw_at lw_m2 173 rfl) rfl
theorem q518 : (Jvm.Cond.code ({ cls := "java/util/Arrays", name := "checkLength", desc := "(II)V" } : Jvm.MethodName) prog_69_method_131_code (2 : Nat) (Option.none : Option Jvm.ClassFile.FieldType)) ∈ lw_all := lw_g (lw_at lw_m2 174 rfl) rfl
theorem q519 : (Jvm.Cond.classLink "java/util/Arrays" (43 : Nat) "java/lang/IllegalArgumentException") ∈ lw_all := lw_g (lw_at lw_m2 175 rfl) rfl
theorem q520 : (Jvm.Cond.classLink "java/util/Arrays" (45 : Nat) "java/lang/StringBuilder") ∈ lw_all := lw_g (lw_at lw_m2 176 rfl) rfl
theorem q521 : (Jvm.Cond.methodLink "java/util/Arrays" (47 : Nat) ({ cls := "java/lang/StringBuilder", name := "<init>", desc := "()V" } : Jvm.MethodName)) ∈ lw_all := lw_g (lw_at lw_m2 177 rfl) rfl
theorem q522 : (Jvm.Cond.methodLink "java/util/Arrays" (54 : Nat) ({ cls := "java/lang/StringBuilder", name := "append", desc := "(I)Ljava/lang/StringBuilder;" } : Jvm.MethodName)) ∈ lw_all := lw_g (lw_at lw_m2 178 rfl) rfl
theorem q523 : (Jvm.Cond.stringRef "java/util/Arrays" (337 : Nat) " > ") ∈ lw_tbl := lw_at lw_m2 179 rfl
theorem q524 : (Jvm.Cond.methodLink "java/util/Arrays" (50 : Nat) ({ cls := "java/lang/StringBuilder", name := "append", desc := "(Ljava/lang/String;)Ljava/lang/StringBuilder;" } : Jvm.MethodName)) ∈ lw_all := lw_g (lw_at lw_m2 180 rfl) rfl
theorem q525 : (Jvm.Cond.methodLink "java/util/Arrays" (61 : Nat) ({ cls := "java/lang/StringBuilder", name := "toString", desc := "()Ljava/lang/String;" } : Jvm.MethodName)) ∈ lw_all := lw_g (lw_at lw_m2 181 rfl) rfl
theorem q526 : (Jvm.Cond.methodLink "java/util/Arrays" (65 : Nat) ({ cls := "java/lang/IllegalArgumentException", name := "<init>", desc := "(Ljava/lang/String;)V" } : Jvm.MethodName)) ∈ lw_all := lw_g (lw_at lw_m2 182 rfl) rfl
theorem q936 : (Jvm.Cond.static ({ cls := "java/util/Arrays", name := "copyOf", desc := "([Ljava/lang/Object;I)[Ljava/lang/Object;" } : Jvm.MethodName)) ∈ lw_all := lw_g (lw_at lw_m4 112 rfl) rfl
theorem q937 : (Jvm.Cond.code ({ cls := "java/util/Arrays", name := "copyOf", desc := "([Ljava/lang/Object;I)[Ljava/lang/Object;" } : Jvm.MethodName) prog_69_method_119_code (2 : Nat) (Option.some (Jvm.ClassFile.FieldType.array (Jvm.ClassFile.FieldType.object "java/lang/Object")))) ∈ lw_all := lw_g (lw_at lw_m4 113 rfl) rfl
theorem q938 : (Jvm.Cond.methodLink "java/util/Arrays" (86 : Nat) ({ cls := "java/lang/Object", name := "getClass", desc := "()Ljava/lang/Class;" } : Jvm.MethodName)) ∈ lw_all := lw_g (lw_at lw_m4 114 rfl) rfl
theorem q990 : (Jvm.Cond.methodLink "java/util/Arrays" (300 : Nat) ({ cls := "java/util/Arrays", name := "copyOf", desc := "([Ljava/lang/Object;ILjava/lang/Class;)[Ljava/lang/Object;" } : Jvm.MethodName)) ∈ lw_all := lw_g (lw_at lw_m4 166 rfl) rfl
theorem q991 : (Jvm.Cond.static ({ cls := "java/util/Arrays", name := "copyOf", desc := "([Ljava/lang/Object;ILjava/lang/Class;)[Ljava/lang/Object;" } : Jvm.MethodName)) ∈ lw_all := lw_g (lw_at lw_m4 167 rfl) rfl
theorem q992 : (Jvm.Cond.code ({ cls := "java/util/Arrays", name := "copyOf", desc := "([Ljava/lang/Object;ILjava/lang/Class;)[Ljava/lang/Object;" } : Jvm.MethodName) prog_69_method_120_code (4 : Nat) (Option.some (Jvm.ClassFile.FieldType.array (Jvm.ClassFile.FieldType.object "java/lang/Object")))) ∈ lw_all := lw_g (lw_at lw_m4 168 rfl) rfl
theorem q993 : (Jvm.Cond.classLink "java/util/Arrays" (110 : Nat) "[Ljava/lang/Object;") ∈ lw_all := lw_g (lw_at lw_m4 169 rfl) rfl
theorem q994 : (Jvm.Cond.classLink "java/util/Arrays" (2 : Nat) "java/lang/Object") ∈ lw_all := lw_g (lw_at lw_m4 170 rfl) rfl
theorem q1297 : (Jvm.Cond.static ({ cls := "java/util/Arrays", name := "copyOfRange", desc := "([Ljava/lang/Object;IILjava/lang/Class;)[Ljava/lang/Object;" } : Jvm.MethodName)) ∈ lw_all := lw_g (lw_at lw_m5 233 rfl) rfl
theorem q1298 : (Jvm.Cond.code ({ cls := "java/util/Arrays", name := "copyOfRange", desc := "([Ljava/lang/Object;IILjava/lang/Class;)[Ljava/lang/Object;" } : Jvm.MethodName) prog_69_method_130_code (6 : Nat) (Option.some (Jvm.ClassFile.FieldType.array (Jvm.ClassFile.FieldType.object "java/lang/Object")))) ∈ lw_all := lw_g (lw_at lw_m5 234 rfl) rfl
theorem q2225 : (Jvm.Cond.static ({ cls := "java/util/Arrays", name := "copyOf", desc := "([JI)[J" } : Jvm.MethodName)) ∈ lw_all := lw_g (lw_at lw_m9 201 rfl) rfl
theorem q2226 : (Jvm.Cond.code ({ cls := "java/util/Arrays", name := "copyOf", desc := "([JI)[J" } : Jvm.MethodName) prog_69_method_124_code (3 : Nat) (Option.some (Jvm.ClassFile.FieldType.array Jvm.ClassFile.FieldType.long))) ∈ lw_all := lw_g (lw_at lw_m9 202 rfl) rfl
theorem q2227 : (Jvm.Cond.methodLink "java/util/Arrays" (319 : Nat) ({ cls := "[J", name := "clone", desc := "()Ljava/lang/Object;" } : Jvm.MethodName)) ∈ lw_all := lw_g (lw_at lw_m9 203 rfl) rfl
theorem q2231 : (Jvm.Cond.classLink "java/util/Arrays" (320 : Nat) "[J") ∈ lw_all := lw_g (lw_at lw_m9 207 rfl) rfl
def RJ17 : String := "jdk/internal/util/Preconditions"
abbrev cJ17_checkFromToIndex : ByteArray := prog_94_method_12_code
def yJ17_checkFromToIndex : MethodName := ⟨RJ17, "checkFromToIndex", "(IIILjava/util/function/BiFunction;)I"⟩
abbrev cJ17_checkFromIndexSize : ByteArray := prog_94_method_13_code
def yJ17_checkFromIndexSize : MethodName := ⟨RJ17, "checkFromIndexSize", "(IIILjava/util/function/BiFunction;)I"⟩
abbrev cJ17_checkIndex : ByteArray := prog_94_method_11_code
def yJ17_checkIndex : MethodName := ⟨RJ17, "checkIndex", "(IILjava/util/function/BiFunction;)I"⟩
theorem q127 : (Jvm.Cond.initialized "jdk/internal/util/Preconditions") ∈ lw_all := lw_g (lw_at lw_m1 23 rfl) rfl
theorem q402 : (Jvm.Cond.laysStatic "jdk/internal/util/Preconditions" "SIOOBE_FORMATTER" "Ljava/util/function/BiFunction;") ∈ lw_tbl := lw_at lw_m2 58 rfl
theorem q404 : (Jvm.Cond.static ({ cls := "jdk/internal/util/Preconditions", name := "checkFromToIndex", desc := "(IIILjava/util/function/BiFunction;)I" } : Jvm.MethodName)) ∈ lw_all := lw_g (lw_at lw_m2 60 rfl) rfl
theorem q405 : (Jvm.Cond.code ({ cls := "jdk/internal/util/Preconditions", name := "checkFromToIndex", desc := "(IIILjava/util/function/BiFunction;)I" } : Jvm.MethodName) prog_94_method_12_code (4 : Nat) (Option.some Jvm.ClassFile.FieldType.int)) ∈ lw_all := lw_g (lw_at lw_m2 61 rfl) rfl
theorem q450 : (Jvm.Cond.static ({ cls := "jdk/internal/util/Preconditions", name := "checkFromIndexSize", desc := "(IIILjava/util/function/BiFunction;)I" } : Jvm.MethodName)) ∈ lw_all := lw_g (lw_at lw_m2 106 rfl) rfl
theorem q451 : (Jvm.Cond.code ({ cls := "jdk/internal/util/Preconditions", name := "checkFromIndexSize", desc := "(IIILjava/util/function/BiFunction;)I" } : Jvm.MethodName) prog_94_method_13_code (4 : Nat) (Option.some Jvm.ClassFile.FieldType.int)) ∈ lw_all := lw_g (lw_at lw_m2 107 rfl) rfl
theorem q905 : (Jvm.Cond.static ({ cls := "jdk/internal/util/Preconditions", name := "checkIndex", desc := "(IILjava/util/function/BiFunction;)I" } : Jvm.MethodName)) ∈ lw_all := lw_g (lw_at lw_m4 81 rfl) rfl
theorem q906 : (Jvm.Cond.code ({ cls := "jdk/internal/util/Preconditions", name := "checkIndex", desc := "(IILjava/util/function/BiFunction;)I" } : Jvm.MethodName) prog_94_method_11_code (3 : Nat) (Option.some Jvm.ClassFile.FieldType.int)) ∈ lw_all := lw_g (lw_at lw_m4 82 rfl) rfl
theorem q3355 : (Jvm.Cond.laysStatic "jdk/internal/util/Preconditions" "IOOBE_FORMATTER" "Ljava/util/function/BiFunction;") ∈ lw_tbl := lw_at lw_m14 131 rfl
def RJ18 : String := "java/lang/StringLatin1"
abbrev cJ18_inflate : ByteArray := prog_54_method_50_code
def yJ18_inflate : MethodName := ⟨RJ18, "inflate", "([BI[BII)V"⟩
abbrev cJ18_canEncode : ByteArray := prog_54_method_3_code
def yJ18_canEncode : MethodName := ⟨RJ18, "canEncode", "(C)Z"⟩
abbrev cJ18_charAt : ByteArray := prog_54_method_2_code
def yJ18_charAt : MethodName := ⟨RJ18, "charAt", "([BI)C"⟩
abbrev cJ18_newString : ByteArray := prog_54_method_47_code
def yJ18_newString : MethodName := ⟨RJ18, "newString", "([BII)Ljava/lang/String;"⟩
abbrev cJ18_equals : ByteArray := prog_54_method_13_code
def yJ18_equals : MethodName := ⟨RJ18, "equals", "([B[B)Z"⟩
abbrev cJ18_indexOf : ByteArray := prog_54_method_22_code
def yJ18_indexOf : MethodName := ⟨RJ18, "indexOf", "([BIII)I"⟩
abbrev cJ18_canEncode_2 : ByteArray := prog_54_method_4_code
def yJ18_canEncode_2 : MethodName := ⟨RJ18, "canEncode", "(I)Z"⟩
abbrev cJ18_indexOfChar : ByteArray := prog_54_method_23_code
def yJ18_indexOfChar : MethodName := ⟨RJ18, "indexOfChar", "([BIII)I"⟩
abbrev cJ18_toChars : ByteArray := prog_54_method_9_code
def yJ18_toChars : MethodName := ⟨RJ18, "toChars", "([B)[C"⟩
abbrev cJ18_inflate_2 : ByteArray := prog_54_method_49_code
def yJ18_inflate_2 : MethodName := ⟨RJ18, "inflate", "([BI[CII)V"⟩
abbrev cJ18_compareTo : ByteArray := prog_54_method_14_code
def yJ18_compareTo : MethodName := ⟨RJ18, "compareTo", "([B[B)I"⟩
abbrev cJ18_compareTo_2 : ByteArray := prog_54_method_15_code
def yJ18_compareTo_2 : MethodName := ⟨RJ18, "compareTo", "([B[BII)I"⟩
abbrev cJ18_getChar : ByteArray := prog_54_method_44_code
def yJ18_getChar : MethodName := ⟨RJ18, "getChar", "([BI)C"⟩
abbrev cJ18_compareToUTF16 : ByteArray := prog_54_method_16_code
def yJ18_compareToUTF16 : MethodName := ⟨RJ18, "compareToUTF16", "([B[B)I"⟩
abbrev cJ18_length : ByteArray := prog_54_method_5_code
def yJ18_length : MethodName := ⟨RJ18, "length", "([B)I"⟩
abbrev cJ18_compareToUTF16Values : ByteArray := prog_54_method_18_code
def yJ18_compareToUTF16Values : MethodName := ⟨RJ18, "compareToUTF16Values", "([B[BII)I"⟩
abbrev cJ18_toBytes : ByteArray := prog_54_method_46_code
def yJ18_toBytes : MethodName := ⟨RJ18, "toBytes", "(C)[B"⟩
theorem q128 : (Jvm.Cond.initialized "java/lang/StringLatin1") ∈ lw_all := lw_g (lw_at lw_m1 24 rfl) rfl
theorem q438 : (Jvm.Cond.static ({ cls := "java/lang/StringLatin1", name := "inflate", desc := "([BI[BII)V" } : Jvm.MethodName)) ∈ lw_all := lw_g (lw_at lw_m2 94 rfl) rfl
theorem q439 : (Jvm.Cond.code ({ cls := "java/lang/StringLatin1", name := "inflate", desc := "([BI[BII)V" } : Jvm.MethodName) prog_54_method_50_code (5 : Nat) (Option.none : Option Jvm.ClassFile.FieldType)) ∈ lw_all := lw_g (lw_at lw_m2 95 rfl) rfl
theorem q440 : (Jvm.Cond.methodLink "java/lang/StringLatin1" (240 : Nat) ({ cls := "java/lang/StringUTF16", name := "inflate", desc := "([BI[BII)V" } : Jvm.MethodName)) ∈ lw_all := lw_g (lw_at lw_m2 96 rfl) rfl
theorem q893 : (Jvm.Cond.static ({ cls := "java/lang/StringLatin1", name := "canEncode", desc := "(C)Z" } : Jvm.MethodName)) ∈ lw_all := lw_g (lw_at lw_m4 69 rfl) rfl
theorem q894 : (Jvm.Cond.code ({ cls := "java/lang/StringLatin1", name := "canEncode", desc := "(C)Z" } : Jvm.MethodName) prog_54_method_3_code (1 : Nat) (Option.some Jvm.ClassFile.FieldType.boolean)) ∈ lw_all := lw_g (lw_at lw_m4 70 rfl) rfl
theorem q1038 : (Jvm.Cond.static ({ cls := "java/lang/StringLatin1", name := "charAt", desc := "([BI)C" } : Jvm.MethodName)) ∈ lw_all := lw_g (lw_at lw_m4 214 rfl) rfl
theorem q1039 : (Jvm.Cond.code ({ cls := "java/lang/StringLatin1", name := "charAt", desc := "([BI)C" } : Jvm.MethodName) prog_54_method_2_code (2 : Nat) (Option.some Jvm.ClassFile.FieldType.char)) ∈ lw_all := lw_g (lw_at lw_m4 215 rfl) rfl
theorem q1040 : (Jvm.Cond.methodLink "java/lang/StringLatin1" (9 : Nat) ({ cls := "java/lang/String", name := "checkIndex", desc := "(II)V" } : Jvm.MethodName)) ∈ lw_all := lw_g (lw_at lw_m4 216 rfl) rfl
theorem q1051 : (Jvm.Cond.static ({ cls := "java/lang/StringLatin1", name := "newString", desc := "([BII)Ljava/lang/String;" } : Jvm.MethodName)) ∈ lw_all := lw_g (lw_at lw_m4 227 rfl) rfl
theorem q1052 : (Jvm.Cond.code ({ cls := "java/lang/StringLatin1", name := "newString", desc := "([BII)Ljava/lang/String;" } : Jvm.MethodName) prog_54_method_47_code (3 : Nat) (Option.some (Jvm.ClassFile.FieldType.object "java/lang/String"))) ∈ lw_all := lw_g (lw_at lw_m4 228 rfl) rfl
theorem q1053 : (Jvm.Cond.stringRef "java/lang/StringLatin1" (151 : Nat) "") ∈ lw_tbl := lw_at lw_m4 229 rfl
theorem q1054 : (Jvm.Cond.classLink "java/lang/StringLatin1" (1 : Nat) "java/lang/String") ∈ lw_all := lw_g (lw_at lw_m4 230 rfl) rfl
theorem q1055 : (Jvm.Cond.methodLink "java/lang/StringLatin1" (232 : Nat) ({ cls := "java/util/Arrays", name := "copyOfRange", desc := "([BII)[B" } : Jvm.MethodName)) ∈ lw_all := lw_g (lw_at lw_m4 231 rfl) rfl
theorem q1056 : (Jvm.Cond.methodLink "java/lang/StringLatin1" (112 : Nat) ({ cls := "java/lang/String", name := "<init>", desc := "([BB)V" } : Jvm.MethodName)) ∈ lw_all := lw_g (lw_at lw_m4 232 rfl) rfl
theorem q2262 : (Jvm.Cond.static ({ cls := "java/lang/StringLatin1", name := "equals", desc := "([B[B)Z" } : Jvm.MethodName)) ∈ lw_all := lw_g (lw_at lw_m9 238 rfl) rfl
theorem q2263 : (Jvm.Cond.code ({ cls := "java/lang/StringLatin1", name := "equals", desc := "([B[B)Z" } : Jvm.MethodName) prog_54_method_13_code (3 : Nat) (Option.some Jvm.ClassFile.FieldType.boolean)) ∈ lw_all := lw_g (lw_at lw_m9 239 rfl) rfl
theorem q2670 : (Jvm.Cond.static ({ cls := "java/lang/StringLatin1", name := "indexOf", desc := "([BIII)I" } : Jvm.MethodName)) ∈ lw_all := lw_g (lw_at lw_m11 166 rfl) rfl
theorem q2671 : (Jvm.Cond.code ({ cls := "java/lang/StringLatin1", name := "indexOf", desc := "([BIII)I" } : Jvm.MethodName) prog_54_method_22_code (4 : Nat) (Option.some Jvm.ClassFile.FieldType.int)) ∈ lw_all := lw_g (lw_at lw_m11 167 rfl) rfl
theorem q2672 : (Jvm.Cond.methodLink "java/lang/StringLatin1" (88 : Nat) ({ cls := "java/lang/StringLatin1", name := "canEncode", desc := "(I)Z" } : Jvm.MethodName)) ∈ lw_all := lw_g (lw_at lw_m11 168 rfl) rfl
theorem q2673 : (Jvm.Cond.static ({ cls := "java/lang/StringLatin1", name := "canEncode", desc := "(I)Z" } : Jvm.MethodName)) ∈ lw_all := lw_g (lw_at lw_m11 169 rfl) rfl
theorem q2674 : (Jvm.Cond.code ({ cls := "java/lang/StringLatin1", name := "canEncode", desc := "(I)Z" } : Jvm.MethodName) prog_54_method_4_code (1 : Nat) (Option.some Jvm.ClassFile.FieldType.boolean)) ∈ lw_all := lw_g (lw_at lw_m11 170 rfl) rfl
theorem q2675 : (Jvm.Cond.methodLink "java/lang/StringLatin1" (92 : Nat) ({ cls := "java/lang/Math", name := "max", desc := "(II)I" } : Jvm.MethodName)) ∈ lw_all := lw_g (lw_at lw_m11 171 rfl) rfl
theorem q2676 : (Jvm.Cond.methodLink "java/lang/StringLatin1" (38 : Nat) ({ cls := "java/lang/Math", name := "min", desc := "(II)I" } : Jvm.MethodName)) ∈ lw_all := lw_g (lw_at lw_m11 172 rfl) rfl
theorem q2677 : (Jvm.Cond.methodLink "java/lang/StringLatin1" (95 : Nat) ({ cls := "java/lang/StringLatin1", name := "indexOfChar", desc := "([BIII)I" } : Jvm.MethodName)) ∈ lw_all := lw_g (lw_at lw_m11 173 rfl) rfl
theorem q2678 : (Jvm.Cond.static ({ cls := "java/lang/StringLatin1", name := "indexOfChar", desc := "([BIII)I" } : Jvm.MethodName)) ∈ lw_all := lw_g (lw_at lw_m11 174 rfl) rfl
theorem q2679 : (Jvm.Cond.code ({ cls := "java/lang/StringLatin1", name := "indexOfChar", desc := "([BIII)I" } : Jvm.MethodName) prog_54_method_23_code (6 : Nat) (Option.some Jvm.ClassFile.FieldType.int)) ∈ lw_all := lw_g (lw_at lw_m11 175 rfl) rfl
theorem q2750 : (Jvm.Cond.static ({ cls := "java/lang/StringLatin1", name := "toChars", desc := "([B)[C" } : Jvm.MethodName)) ∈ lw_all := lw_g (lw_at lw_m12 6 rfl) rfl
theorem q2751 : (Jvm.Cond.code ({ cls := "java/lang/StringLatin1", name := "toChars", desc := "([B)[C" } : Jvm.MethodName) prog_54_method_9_code (2 : Nat) (Option.some (Jvm.ClassFile.FieldType.array Jvm.ClassFile.FieldType.char))) ∈ lw_all := lw_g (lw_at lw_m12 7 rfl) rfl
theorem q2752 : (Jvm.Cond.methodLink "java/lang/StringLatin1" (13 : Nat) ({ cls := "java/lang/StringLatin1", name := "inflate", desc := "([BI[CII)V" } : Jvm.MethodName)) ∈ lw_all := lw_g (lw_at lw_m12 8 rfl) rfl
theorem q2753 : (Jvm.Cond.static ({ cls := "java/lang/StringLatin1", name := "inflate", desc := "([BI[CII)V" } : Jvm.MethodName)) ∈ lw_all := lw_g (lw_at lw_m12 9 rfl) rfl
theorem q2754 : (Jvm.Cond.code ({ cls := "java/lang/StringLatin1", name := "inflate", desc := "([BI[CII)V" } : Jvm.MethodName) prog_54_method_49_code (6 : Nat) (Option.none : Option Jvm.ClassFile.FieldType)) ∈ lw_all := lw_g (lw_at lw_m12 10 rfl) rfl
theorem q3417 : (Jvm.Cond.static ({ cls := "java/lang/StringLatin1", name := "compareTo", desc := "([B[B)I" } : Jvm.MethodName)) ∈ lw_all := lw_g (lw_at lw_m14 193 rfl) rfl
theorem q3418 : (Jvm.Cond.code ({ cls := "java/lang/StringLatin1", name := "compareTo", desc := "([B[B)I" } : Jvm.MethodName) prog_54_method_14_code (4 : Nat) (Option.some Jvm.ClassFile.FieldType.int)) ∈ lw_all := lw_g (lw_at lw_m14 194 rfl) rfl
theorem q3419 : (Jvm.Cond.methodLink "java/lang/StringLatin1" (34 : Nat) ({ cls := "java/lang/StringLatin1", name := "compareTo", desc := "([B[BII)I" } : Jvm.MethodName)) ∈ lw_all := lw_g (lw_at lw_m14 195 rfl) rfl
theorem q3420 : (Jvm.Cond.static ({ cls := "java/lang/StringLatin1", name := "compareTo", desc := "([B[BII)I" } : Jvm.MethodName)) ∈ lw_all := lw_g (lw_at lw_m14 196 rfl) rfl
theorem q3421 : (Jvm.Cond.code ({ cls := "java/lang/StringLatin1", name := "compareTo", desc := "([B[BII)I" } : Jvm.MethodName) prog_54_method_15_code (6 : Nat) (Option.some Jvm.ClassFile.FieldType.int)) ∈ lw_all := lw_g (lw_at lw_m14 197 rfl) rfl
theorem q3422 : (Jvm.Cond.methodLink "java/lang/StringLatin1" (44 : Nat) ({ cls := "jdk/internal/util/ArraysSupport", name := "mismatch", desc := "([B[BI)I" } : Jvm.MethodName)) ∈ lw_all := lw_g (lw_at lw_m14 198 rfl) rfl
theorem q3526 : (Jvm.Cond.methodLink "java/lang/StringLatin1" (50 : Nat) ({ cls := "java/lang/StringLatin1", name := "getChar", desc := "([BI)C" } : Jvm.MethodName)) ∈ lw_all := lw_g (lw_at lw_m15 62 rfl) rfl
theorem q3527 : (Jvm.Cond.static ({ cls := "java/lang/StringLatin1", name := "getChar", desc := "([BI)C" } : Jvm.MethodName)) ∈ lw_all := lw_g (lw_at lw_m15 63 rfl) rfl
theorem q3528 : (Jvm.Cond.code ({ cls := "java/lang/StringLatin1", name := "getChar", desc := "([BI)C" } : Jvm.MethodName) prog_54_method_44_code (2 : Nat) (Option.some Jvm.ClassFile.FieldType.char)) ∈ lw_all := lw_g (lw_at lw_m15 64 rfl) rfl
theorem q3536 : (Jvm.Cond.static ({ cls := "java/lang/StringLatin1", name := "compareToUTF16", desc := "([B[B)I" } : Jvm.MethodName)) ∈ lw_all := lw_g (lw_at lw_m15 72 rfl) rfl
theorem q3537 : (Jvm.Cond.code ({ cls := "java/lang/StringLatin1", name := "compareToUTF16", desc := "([B[B)I" } : Jvm.MethodName) prog_54_method_16_code (4 : Nat) (Option.some Jvm.ClassFile.FieldType.int)) ∈ lw_all := lw_g (lw_at lw_m15 73 rfl) rfl
theorem q3538 : (Jvm.Cond.methodLink "java/lang/StringLatin1" (54 : Nat) ({ cls := "java/lang/StringLatin1", name := "length", desc := "([B)I" } : Jvm.MethodName)) ∈ lw_all := lw_g (lw_at lw_m15 74 rfl) rfl
theorem q3539 : (Jvm.Cond.static ({ cls := "java/lang/StringLatin1", name := "length", desc := "([B)I" } : Jvm.MethodName)) ∈ lw_all := lw_g (lw_at lw_m15 75 rfl) rfl
theorem q3540 : (Jvm.Cond.code ({ cls := "java/lang/StringLatin1", name := "length", desc := "([B)I" } : Jvm.MethodName) prog_54_method_5_code (1 : Nat) (Option.some Jvm.ClassFile.FieldType.int)) ∈ lw_all := lw_g (lw_at lw_m15 76 rfl) rfl
theorem q3541 : (Jvm.Cond.methodLink "java/lang/StringLatin1" (58 : Nat) ({ cls := "java/lang/StringUTF16", name := "length", desc := "([B)I" } : Jvm.MethodName)) ∈ lw_all := lw_g (lw_at lw_m15 77 rfl) rfl
theorem q3542 : (Jvm.Cond.methodLink "java/lang/StringLatin1" (59 : Nat) ({ cls := "java/lang/StringLatin1", name := "compareToUTF16Values", desc := "([B[BII)I" } : Jvm.MethodName)) ∈ lw_all := lw_g (lw_at lw_m15 78 rfl) rfl
theorem q3543 : (Jvm.Cond.static ({ cls := "java/lang/StringLatin1", name := "compareToUTF16Values", desc := "([B[BII)I" } : Jvm.MethodName)) ∈ lw_all := lw_g (lw_at lw_m15 79 rfl) rfl
theorem q3544 : (Jvm.Cond.code ({ cls := "java/lang/StringLatin1", name := "compareToUTF16Values", desc := "([B[BII)I" } : Jvm.MethodName) prog_54_method_18_code (8 : Nat) (Option.some Jvm.ClassFile.FieldType.int)) ∈ lw_all := lw_g (lw_at lw_m15 80 rfl) rfl
theorem q3545 : (Jvm.Cond.methodLink "java/lang/StringLatin1" (65 : Nat) ({ cls := "java/lang/StringUTF16", name := "getChar", desc := "([BI)C" } : Jvm.MethodName)) ∈ lw_all := lw_g (lw_at lw_m15 81 rfl) rfl
theorem q3681 : (Jvm.Cond.static ({ cls := "java/lang/StringLatin1", name := "toBytes", desc := "(C)[B" } : Jvm.MethodName)) ∈ lw_all := lw_g (lw_at lw_m15 217 rfl) rfl
theorem q3682 : (Jvm.Cond.code ({ cls := "java/lang/StringLatin1", name := "toBytes", desc := "(C)[B" } : Jvm.MethodName) prog_54_method_46_code (1 : Nat) (Option.some (Jvm.ClassFile.FieldType.array Jvm.ClassFile.FieldType.byte))) ∈ lw_all := lw_g (lw_at lw_m15 218 rfl) rfl
def RJ19 : String := "java/lang/Number"
abbrev cJ19_init : ByteArray := prog_50_method_1_code
def yJ19_init : MethodName := ⟨RJ19, "<init>", "()V"⟩
theorem q129 : (Jvm.Cond.initialized "java/lang/Number") ∈ lw_all := lw_g (lw_at lw_m1 25 rfl) rfl
theorem q2045 : (Jvm.Cond.instanceMethod ({ cls := "java/lang/Number", name := "<init>", desc := "()V" } : Jvm.MethodName)) ∈ lw_all := lw_g (lw_at lw_m9 21 rfl) rfl
theorem q2046 : (Jvm.Cond.code ({ cls := "java/lang/Number", name := "<init>", desc := "()V" } : Jvm.MethodName) prog_50_method_1_code (1 : Nat) (Option.none : Option Jvm.ClassFile.FieldType)) ∈ lw_all := lw_g (lw_at lw_m9 22 rfl) rfl
theorem q2047 : (Jvm.Cond.methodLink "java/lang/Number" (1 : Nat) ({ cls := "java/lang/Object", name := "<init>", desc := "()V" } : Jvm.MethodName)) ∈ lw_all := lw_g (lw_at lw_m9 23 rfl) rfl
def RJ20 : String := "java/lang/Integer"
def TJ20 : u_T := fun k => match k with
  | _ => ("java/lang/Integer", "value", "I", true)
def tyJ20 : Nat → FieldType := fun k => match k with
  | _ => .int
abbrev wsJ200 : List Cond := u_ws RJ20 TJ20 1
theorem nmJ20 : ∀ a, a < 1 → ∀ b, b < 1 → a ≠ b → (TJ20 a).2.1 ≠ (TJ20 b).2.1 := by decide +kernel
theorem tyJ20_ok : ∀ k, k < 1 → parseFieldDescriptor (TJ20 k).2.2.1 = some (tyJ20 k) := by decide +kernel
abbrev cJ20_stringSize : ByteArray := prog_45_method_13_code
def yJ20_stringSize : MethodName := ⟨RJ20, "stringSize", "(I)I"⟩
abbrev cJ20_getChars : ByteArray := prog_45_method_12_code
def yJ20_getChars : MethodName := ⟨RJ20, "getChars", "(II[B)I"⟩
abbrev cJ20_toString : ByteArray := prog_45_method_10_code
def yJ20_toString : MethodName := ⟨RJ20, "toString", "(I)Ljava/lang/String;"⟩
abbrev cJ20_valueOf : ByteArray := prog_45_method_22_code
def yJ20_valueOf : MethodName := ⟨RJ20, "valueOf", "(I)Ljava/lang/Integer;"⟩
abbrev cJ20_init : ByteArray := prog_45_method_23_code
def yJ20_init : MethodName := ⟨RJ20, "<init>", "(I)V"⟩
abbrev cJ20_equals : ByteArray := prog_45_method_34_code
def yJ20_equals : MethodName := ⟨RJ20, "equals", "(Ljava/lang/Object;)Z"⟩
abbrev cJ20_intValue : ByteArray := prog_45_method_27_code
def yJ20_intValue : MethodName := ⟨RJ20, "intValue", "()I"⟩
abbrev cJ20_numberOfLeadingZeros : ByteArray := prog_45_method_47_code
def yJ20_numberOfLeadingZeros : MethodName := ⟨RJ20, "numberOfLeadingZeros", "(I)I"⟩
abbrev cJ20_numberOfTrailingZeros : ByteArray := prog_45_method_48_code
def yJ20_numberOfTrailingZeros : MethodName := ⟨RJ20, "numberOfTrailingZeros", "(I)I"⟩
theorem q130 : (Jvm.Cond.initialized "java/lang/Integer") ∈ lw_all := lw_g (lw_at lw_m1 26 rfl) rfl
theorem q466 : (Jvm.Cond.static ({ cls := "java/lang/Integer", name := "stringSize", desc := "(I)I" } : Jvm.MethodName)) ∈ lw_all := lw_g (lw_at lw_m2 122 rfl) rfl
theorem q467 : (Jvm.Cond.code ({ cls := "java/lang/Integer", name := "stringSize", desc := "(I)I" } : Jvm.MethodName) prog_45_method_13_code (4 : Nat) (Option.some Jvm.ClassFile.FieldType.int)) ∈ lw_all := lw_g (lw_at lw_m2 123 rfl) rfl
theorem q469 : (Jvm.Cond.static ({ cls := "java/lang/Integer", name := "getChars", desc := "(II[B)I" } : Jvm.MethodName)) ∈ lw_all := lw_g (lw_at lw_m2 125 rfl) rfl
theorem q470 : (Jvm.Cond.code ({ cls := "java/lang/Integer", name := "getChars", desc := "(II[B)I" } : Jvm.MethodName) prog_45_method_12_code (7 : Nat) (Option.some Jvm.ClassFile.FieldType.int)) ∈ lw_all := lw_g (lw_at lw_m2 126 rfl) rfl
theorem q471 : (Jvm.Cond.fieldLink "java/lang/Integer" (83 : Nat) "java/lang/Integer" "DigitOnes" "[B") ∈ lw_all := lw_g (lw_at lw_m2 127 rfl) rfl
theorem q472 : (Jvm.Cond.laysStatic "java/lang/Integer" "DigitOnes" "[B") ∈ lw_tbl := lw_at lw_m2 128 rfl
theorem q473 : (Jvm.Cond.fieldLink "java/lang/Integer" (87 : Nat) "java/lang/Integer" "DigitTens" "[B") ∈ lw_all := lw_g (lw_at lw_m2 129 rfl) rfl
theorem q474 : (Jvm.Cond.laysStatic "java/lang/Integer" "DigitTens" "[B") ∈ lw_tbl := lw_at lw_m2 130 rfl
theorem q972 : (Jvm.Cond.selects "java/lang/Integer" ({ cls := "java/lang/Object", name := "getClass", desc := "()Ljava/lang/Class;" } : Jvm.MethodName) ({ cls := "java/lang/Object", name := "getClass", desc := "()Ljava/lang/Class;" } : Jvm.MethodName)) ∈ lw_all := lw_g (lw_at lw_m4 148 rfl) rfl
theorem q1176 : (Jvm.Cond.static ({ cls := "java/lang/Integer", name := "toString", desc := "(I)Ljava/lang/String;" } : Jvm.MethodName)) ∈ lw_all := lw_g (lw_at lw_m5 112 rfl) rfl
theorem q1177 : (Jvm.Cond.code ({ cls := "java/lang/Integer", name := "toString", desc := "(I)Ljava/lang/String;" } : Jvm.MethodName) prog_45_method_10_code (3 : Nat) (Option.some (Jvm.ClassFile.FieldType.object "java/lang/String"))) ∈ lw_all := lw_g (lw_at lw_m5 113 rfl) rfl
theorem q1178 : (Jvm.Cond.methodLink "java/lang/Integer" (72 : Nat) ({ cls := "java/lang/Integer", name := "stringSize", desc := "(I)I" } : Jvm.MethodName)) ∈ lw_all := lw_g (lw_at lw_m5 114 rfl) rfl
theorem q1179 : (Jvm.Cond.fieldLink "java/lang/Integer" (13 : Nat) "java/lang/String" "COMPACT_STRINGS" "Z") ∈ lw_all := lw_g (lw_at lw_m5 115 rfl) rfl
theorem q1180 : (Jvm.Cond.methodLink "java/lang/Integer" (75 : Nat) ({ cls := "java/lang/Integer", name := "getChars", desc := "(II[B)I" } : Jvm.MethodName)) ∈ lw_all := lw_g (lw_at lw_m5 116 rfl) rfl
theorem q1181 : (Jvm.Cond.classLink "java/lang/Integer" (5 : Nat) "java/lang/String") ∈ lw_all := lw_g (lw_at lw_m5 117 rfl) rfl
theorem q1182 : (Jvm.Cond.methodLink "java/lang/Integer" (65 : Nat) ({ cls := "java/lang/String", name := "<init>", desc := "([BB)V" } : Jvm.MethodName)) ∈ lw_all := lw_g (lw_at lw_m5 118 rfl) rfl
theorem q1183 : (Jvm.Cond.methodLink "java/lang/Integer" (79 : Nat) ({ cls := "java/lang/StringUTF16", name := "getChars", desc := "(II[B)I" } : Jvm.MethodName)) ∈ lw_all := lw_g (lw_at lw_m5 119 rfl) rfl
theorem q2033 : (Jvm.Cond.static ({ cls := "java/lang/Integer", name := "valueOf", desc := "(I)Ljava/lang/Integer;" } : Jvm.MethodName)) ∈ lw_all := lw_g (lw_at lw_m9 9 rfl) rfl
theorem q2034 : (Jvm.Cond.code ({ cls := "java/lang/Integer", name := "valueOf", desc := "(I)Ljava/lang/Integer;" } : Jvm.MethodName) prog_45_method_22_code (1 : Nat) (Option.some (Jvm.ClassFile.FieldType.object "java/lang/Integer"))) ∈ lw_all := lw_g (lw_at lw_m9 10 rfl) rfl
theorem q2035 : (Jvm.Cond.fieldLink "java/lang/Integer" (191 : Nat) "java/lang/Integer$IntegerCache" "high" "I") ∈ lw_all := lw_g (lw_at lw_m9 11 rfl) rfl
theorem q2037 : (Jvm.Cond.fieldLink "java/lang/Integer" (195 : Nat) "java/lang/Integer$IntegerCache" "cache" "[Ljava/lang/Integer;") ∈ lw_all := lw_g (lw_at lw_m9 13 rfl) rfl
theorem q2039 : (Jvm.Cond.classLink "java/lang/Integer" (1 : Nat) "java/lang/Integer") ∈ lw_all := lw_g (lw_at lw_m9 15 rfl) rfl
theorem q2040 : (Jvm.Cond.instantiable "java/lang/Integer" (1 : Nat)) ∈ lw_all := lw_g (lw_at lw_m9 16 rfl) rfl
theorem q2041 : (Jvm.Cond.methodLink "java/lang/Integer" (199 : Nat) ({ cls := "java/lang/Integer", name := "<init>", desc := "(I)V" } : Jvm.MethodName)) ∈ lw_all := lw_g (lw_at lw_m9 17 rfl) rfl
theorem q2042 : (Jvm.Cond.instanceMethod ({ cls := "java/lang/Integer", name := "<init>", desc := "(I)V" } : Jvm.MethodName)) ∈ lw_all := lw_g (lw_at lw_m9 18 rfl) rfl
theorem q2043 : (Jvm.Cond.code ({ cls := "java/lang/Integer", name := "<init>", desc := "(I)V" } : Jvm.MethodName) prog_45_method_23_code (2 : Nat) (Option.none : Option Jvm.ClassFile.FieldType)) ∈ lw_all := lw_g (lw_at lw_m9 19 rfl) rfl
theorem q2044 : (Jvm.Cond.methodLink "java/lang/Integer" (202 : Nat) ({ cls := "java/lang/Number", name := "<init>", desc := "()V" } : Jvm.MethodName)) ∈ lw_all := lw_g (lw_at lw_m9 20 rfl) rfl
theorem q2048 : (Jvm.Cond.fieldLink "java/lang/Integer" (205 : Nat) "java/lang/Integer" "value" "I") ∈ lw_all := lw_g (lw_at lw_m9 24 rfl) rfl
theorem q2049 : (Jvm.Cond.laysFinal "java/lang/Integer" "java/lang/Integer" "value" "I") ∈ lw_all := lw_g (lw_at lw_m9 25 rfl) rfl
theorem q2050 : (Jvm.Cond.soleField "java/lang/Integer" "value") ∈ lw_all := lw_g (lw_at lw_m9 26 rfl) rfl
theorem q2051 : (Jvm.Cond.superclass "java/lang/Integer" "java/lang/Number") ∈ lw_all := lw_g (lw_at lw_m9 27 rfl) rfl
theorem q2485 : (Jvm.Cond.selects "java/lang/Integer" ({ cls := "java/lang/Object", name := "equals", desc := "(Ljava/lang/Object;)Z" } : Jvm.MethodName) ({ cls := "java/lang/Integer", name := "equals", desc := "(Ljava/lang/Object;)Z" } : Jvm.MethodName)) ∈ lw_all := lw_g (lw_at lw_m10 221 rfl) rfl
theorem q2486 : (Jvm.Cond.instanceMethod ({ cls := "java/lang/Integer", name := "equals", desc := "(Ljava/lang/Object;)Z" } : Jvm.MethodName)) ∈ lw_all := lw_g (lw_at lw_m10 222 rfl) rfl
theorem q2487 : (Jvm.Cond.code ({ cls := "java/lang/Integer", name := "equals", desc := "(Ljava/lang/Object;)Z" } : Jvm.MethodName) prog_45_method_34_code (2 : Nat) (Option.some Jvm.ClassFile.FieldType.boolean)) ∈ lw_all := lw_g (lw_at lw_m10 223 rfl) rfl
theorem q2488 : (Jvm.Cond.methodLink "java/lang/Integer" (211 : Nat) ({ cls := "java/lang/Integer", name := "intValue", desc := "()I" } : Jvm.MethodName)) ∈ lw_all := lw_g (lw_at lw_m10 224 rfl) rfl
theorem q2489 : (Jvm.Cond.instanceMethod ({ cls := "java/lang/Integer", name := "intValue", desc := "()I" } : Jvm.MethodName)) ∈ lw_all := lw_g (lw_at lw_m10 225 rfl) rfl
theorem q2490 : (Jvm.Cond.selects "java/lang/Integer" ({ cls := "java/lang/Integer", name := "intValue", desc := "()I" } : Jvm.MethodName) ({ cls := "java/lang/Integer", name := "intValue", desc := "()I" } : Jvm.MethodName)) ∈ lw_all := lw_g (lw_at lw_m10 226 rfl) rfl
theorem q2491 : (Jvm.Cond.code ({ cls := "java/lang/Integer", name := "intValue", desc := "()I" } : Jvm.MethodName) prog_45_method_27_code (1 : Nat) (Option.some Jvm.ClassFile.FieldType.int)) ∈ lw_all := lw_g (lw_at lw_m10 227 rfl) rfl
theorem q3494 : (Jvm.Cond.static ({ cls := "java/lang/Integer", name := "numberOfLeadingZeros", desc := "(I)I" } : Jvm.MethodName)) ∈ lw_all := lw_g (lw_at lw_m15 30 rfl) rfl
theorem q3495 : (Jvm.Cond.code ({ cls := "java/lang/Integer", name := "numberOfLeadingZeros", desc := "(I)I" } : Jvm.MethodName) prog_45_method_47_code (2 : Nat) (Option.some Jvm.ClassFile.FieldType.int)) ∈ lw_all := lw_g (lw_at lw_m15 31 rfl) rfl
theorem q3496 : (Jvm.Cond.constant "java/lang/Integer" (264 : Nat) (65536 : Int32)) ∈ lw_all := lw_g (lw_at lw_m15 32 rfl) rfl
theorem q3503 : (Jvm.Cond.static ({ cls := "java/lang/Integer", name := "numberOfTrailingZeros", desc := "(I)I" } : Jvm.MethodName)) ∈ lw_all := lw_g (lw_at lw_m15 39 rfl) rfl
theorem q3504 : (Jvm.Cond.code ({ cls := "java/lang/Integer", name := "numberOfTrailingZeros", desc := "(I)I" } : Jvm.MethodName) prog_45_method_48_code (2 : Nat) (Option.some Jvm.ClassFile.FieldType.int)) ∈ lw_all := lw_g (lw_at lw_m15 40 rfl) rfl
theorem q3858 : (Jvm.Cond.castable "java/lang/Integer" "java/lang/Object") ∈ lw_tbl := lw_at lw_m16 154 rfl
theorem in_J20 : ∀ w ∈ wsJ200, w ∈ lw_all := lw_in wsJ200 [2049] (by decide +kernel) (by decide +kernel)
def RJ21 : String := "java/util/BitSet"
def TJ21 : u_T := fun k => match k with
  | 0 => ("java/util/BitSet", "words", "[J", false)
  | 1 => ("java/util/BitSet", "wordsInUse", "I", false)
  | _ => ("java/util/BitSet", "sizeIsSticky", "Z", false)
def tyJ21 : Nat → FieldType := fun k => match k with
  | 0 => .array .long
  | 1 => .int
  | _ => .boolean
abbrev wsJ210 : List Cond := u_ws RJ21 TJ21 3
theorem nmJ21 : ∀ a, a < 3 → ∀ b, b < 3 → a ≠ b → (TJ21 a).2.1 ≠ (TJ21 b).2.1 := by decide +kernel
theorem tyJ21_ok : ∀ k, k < 3 → parseFieldDescriptor (TJ21 k).2.2.1 = some (tyJ21 k) := by decide +kernel
abbrev cJ21_init : ByteArray := prog_70_method_4_code
def yJ21_init : MethodName := ⟨RJ21, "<init>", "()V"⟩
abbrev cJ21_initWords : ByteArray := prog_70_method_6_code
def yJ21_initWords : MethodName := ⟨RJ21, "initWords", "(I)V"⟩
abbrev cJ21_wordIndex : ByteArray := prog_70_method_1_code
def yJ21_wordIndex : MethodName := ⟨RJ21, "wordIndex", "(I)I"⟩
abbrev cJ21_get : ByteArray := prog_70_method_26_code
def yJ21_get : MethodName := ⟨RJ21, "get", "(I)Z"⟩
abbrev cJ21_checkInvariants : ByteArray := prog_70_method_2_code
def yJ21_checkInvariants : MethodName := ⟨RJ21, "checkInvariants", "()V"⟩
abbrev cJ21_set : ByteArray := prog_70_method_19_code
def yJ21_set : MethodName := ⟨RJ21, "set", "(I)V"⟩
abbrev cJ21_expandTo : ByteArray := prog_70_method_15_code
def yJ21_expandTo : MethodName := ⟨RJ21, "expandTo", "(I)V"⟩
abbrev cJ21_ensureCapacity : ByteArray := prog_70_method_14_code
def yJ21_ensureCapacity : MethodName := ⟨RJ21, "ensureCapacity", "(I)V"⟩
abbrev cJ21_or : ByteArray := prog_70_method_37_code
def yJ21_or : MethodName := ⟨RJ21, "or", "(Ljava/util/BitSet;)V"⟩
theorem q131 : (Jvm.Cond.initialized "java/util/BitSet") ∈ lw_all := lw_g (lw_at lw_m1 27 rfl) rfl
theorem q609 : (Jvm.Cond.instantiable "java/util/BitSet" (3 : Nat)) ∈ lw_all := lw_g (lw_at lw_m3 25 rfl) rfl
theorem q611 : (Jvm.Cond.instanceMethod ({ cls := "java/util/BitSet", name := "<init>", desc := "()V" } : Jvm.MethodName)) ∈ lw_all := lw_g (lw_at lw_m3 27 rfl) rfl
theorem q612 : (Jvm.Cond.code ({ cls := "java/util/BitSet", name := "<init>", desc := "()V" } : Jvm.MethodName) prog_70_method_4_code (1 : Nat) (Option.none : Option Jvm.ClassFile.FieldType)) ∈ lw_all := lw_g (lw_at lw_m3 28 rfl) rfl
theorem q613 : (Jvm.Cond.methodLink "java/util/BitSet" (21 : Nat) ({ cls := "java/lang/Object", name := "<init>", desc := "()V" } : Jvm.MethodName)) ∈ lw_all := lw_g (lw_at lw_m3 29 rfl) rfl
theorem q614 : (Jvm.Cond.methodLink "java/util/BitSet" (27 : Nat) ({ cls := "java/util/BitSet", name := "initWords", desc := "(I)V" } : Jvm.MethodName)) ∈ lw_all := lw_g (lw_at lw_m3 30 rfl) rfl
theorem q615 : (Jvm.Cond.privateMethod ({ cls := "java/util/BitSet", name := "initWords", desc := "(I)V" } : Jvm.MethodName)) ∈ lw_tbl := lw_at lw_m3 31 rfl
theorem q616 : (Jvm.Cond.instanceMethod ({ cls := "java/util/BitSet", name := "initWords", desc := "(I)V" } : Jvm.MethodName)) ∈ lw_all := lw_g (lw_at lw_m3 32 rfl) rfl
theorem q617 : (Jvm.Cond.code ({ cls := "java/util/BitSet", name := "initWords", desc := "(I)V" } : Jvm.MethodName) prog_70_method_6_code (2 : Nat) (Option.none : Option Jvm.ClassFile.FieldType)) ∈ lw_all := lw_g (lw_at lw_m3 33 rfl) rfl
theorem q618 : (Jvm.Cond.methodLink "java/util/BitSet" (52 : Nat) ({ cls := "java/util/BitSet", name := "wordIndex", desc := "(I)I" } : Jvm.MethodName)) ∈ lw_all := lw_g (lw_at lw_m3 34 rfl) rfl
theorem q619 : (Jvm.Cond.static ({ cls := "java/util/BitSet", name := "wordIndex", desc := "(I)I" } : Jvm.MethodName)) ∈ lw_all := lw_g (lw_at lw_m3 35 rfl) rfl
theorem q620 : (Jvm.Cond.code ({ cls := "java/util/BitSet", name := "wordIndex", desc := "(I)I" } : Jvm.MethodName) prog_70_method_1_code (1 : Nat) (Option.some Jvm.ClassFile.FieldType.int)) ∈ lw_all := lw_g (lw_at lw_m3 36 rfl) rfl
theorem q621 : (Jvm.Cond.fieldLink "java/util/BitSet" (11 : Nat) "java/util/BitSet" "words" "[J") ∈ lw_all := lw_g (lw_at lw_m3 37 rfl) rfl
theorem q622 : (Jvm.Cond.fieldLink "java/util/BitSet" (7 : Nat) "java/util/BitSet" "wordsInUse" "I") ∈ lw_all := lw_g (lw_at lw_m3 38 rfl) rfl
theorem q623 : (Jvm.Cond.fieldLink "java/util/BitSet" (24 : Nat) "java/util/BitSet" "sizeIsSticky" "Z") ∈ lw_all := lw_g (lw_at lw_m3 39 rfl) rfl
theorem q624 : (Jvm.Cond.lays "java/util/BitSet" "java/util/BitSet" "words" "[J") ∈ lw_all := lw_g (lw_at lw_m3 40 rfl) rfl
theorem q625 : (Jvm.Cond.soleField "java/util/BitSet" "words") ∈ lw_all := lw_g (lw_at lw_m3 41 rfl) rfl
theorem q626 : (Jvm.Cond.lays "java/util/BitSet" "java/util/BitSet" "wordsInUse" "I") ∈ lw_all := lw_g (lw_at lw_m3 42 rfl) rfl
theorem q627 : (Jvm.Cond.soleField "java/util/BitSet" "wordsInUse") ∈ lw_all := lw_g (lw_at lw_m3 43 rfl) rfl
theorem q628 : (Jvm.Cond.lays "java/util/BitSet" "java/util/BitSet" "sizeIsSticky" "Z") ∈ lw_all := lw_g (lw_at lw_m3 44 rfl) rfl
theorem q629 : (Jvm.Cond.soleField "java/util/BitSet" "sizeIsSticky") ∈ lw_all := lw_g (lw_at lw_m3 45 rfl) rfl
theorem q630 : (Jvm.Cond.superclass "java/util/BitSet" "java/lang/Object") ∈ lw_all := lw_g (lw_at lw_m3 46 rfl) rfl
theorem q980 : (Jvm.Cond.selects "java/util/BitSet" ({ cls := "java/lang/Object", name := "getClass", desc := "()Ljava/lang/Class;" } : Jvm.MethodName) ({ cls := "java/lang/Object", name := "getClass", desc := "()Ljava/lang/Class;" } : Jvm.MethodName)) ∈ lw_all := lw_g (lw_at lw_m4 156 rfl) rfl
theorem q1855 : (Jvm.Cond.instanceMethod ({ cls := "java/util/BitSet", name := "get", desc := "(I)Z" } : Jvm.MethodName)) ∈ lw_all := lw_g (lw_at lw_m8 71 rfl) rfl
theorem q1856 : (Jvm.Cond.selects "java/util/BitSet" ({ cls := "java/util/BitSet", name := "get", desc := "(I)Z" } : Jvm.MethodName) ({ cls := "java/util/BitSet", name := "get", desc := "(I)Z" } : Jvm.MethodName)) ∈ lw_all := lw_g (lw_at lw_m8 72 rfl) rfl
theorem q1857 : (Jvm.Cond.code ({ cls := "java/util/BitSet", name := "get", desc := "(I)Z" } : Jvm.MethodName) prog_70_method_26_code (3 : Nat) (Option.some Jvm.ClassFile.FieldType.boolean)) ∈ lw_all := lw_g (lw_at lw_m8 73 rfl) rfl
theorem q1858 : (Jvm.Cond.classLink "java/util/BitSet" (142 : Nat) "java/lang/IndexOutOfBoundsException") ∈ lw_all := lw_g (lw_at lw_m8 74 rfl) rfl
theorem q1859 : (Jvm.Cond.classLink "java/util/BitSet" (33 : Nat) "java/lang/StringBuilder") ∈ lw_all := lw_g (lw_at lw_m8 75 rfl) rfl
theorem q1860 : (Jvm.Cond.methodLink "java/util/BitSet" (35 : Nat) ({ cls := "java/lang/StringBuilder", name := "<init>", desc := "()V" } : Jvm.MethodName)) ∈ lw_all := lw_g (lw_at lw_m8 76 rfl) rfl
theorem q1861 : (Jvm.Cond.stringRef "java/util/BitSet" (153 : Nat) "bitIndex < 0: ") ∈ lw_tbl := lw_at lw_m8 77 rfl
theorem q1862 : (Jvm.Cond.methodLink "java/util/BitSet" (38 : Nat) ({ cls := "java/lang/StringBuilder", name := "append", desc := "(Ljava/lang/String;)Ljava/lang/StringBuilder;" } : Jvm.MethodName)) ∈ lw_all := lw_g (lw_at lw_m8 78 rfl) rfl
theorem q1863 : (Jvm.Cond.methodLink "java/util/BitSet" (42 : Nat) ({ cls := "java/lang/StringBuilder", name := "append", desc := "(I)Ljava/lang/StringBuilder;" } : Jvm.MethodName)) ∈ lw_all := lw_g (lw_at lw_m8 79 rfl) rfl
theorem q1864 : (Jvm.Cond.methodLink "java/util/BitSet" (45 : Nat) ({ cls := "java/lang/StringBuilder", name := "toString", desc := "()Ljava/lang/String;" } : Jvm.MethodName)) ∈ lw_all := lw_g (lw_at lw_m8 80 rfl) rfl
theorem q1865 : (Jvm.Cond.methodLink "java/util/BitSet" (146 : Nat) ({ cls := "java/lang/IndexOutOfBoundsException", name := "<init>", desc := "(Ljava/lang/String;)V" } : Jvm.MethodName)) ∈ lw_all := lw_g (lw_at lw_m8 81 rfl) rfl
theorem q1866 : (Jvm.Cond.methodLink "java/util/BitSet" (56 : Nat) ({ cls := "java/util/BitSet", name := "checkInvariants", desc := "()V" } : Jvm.MethodName)) ∈ lw_all := lw_g (lw_at lw_m8 82 rfl) rfl
theorem q1867 : (Jvm.Cond.privateMethod ({ cls := "java/util/BitSet", name := "checkInvariants", desc := "()V" } : Jvm.MethodName)) ∈ lw_tbl := lw_at lw_m8 83 rfl
theorem q1868 : (Jvm.Cond.instanceMethod ({ cls := "java/util/BitSet", name := "checkInvariants", desc := "()V" } : Jvm.MethodName)) ∈ lw_all := lw_g (lw_at lw_m8 84 rfl) rfl
theorem q1869 : (Jvm.Cond.code ({ cls := "java/util/BitSet", name := "checkInvariants", desc := "()V" } : Jvm.MethodName) prog_70_method_2_code (1 : Nat) (Option.none : Option Jvm.ClassFile.FieldType)) ∈ lw_all := lw_g (lw_at lw_m8 85 rfl) rfl
theorem q1870 : (Jvm.Cond.fieldLink "java/util/BitSet" (3 : Nat) "java/util/BitSet" "$assertionsDisabled" "Z") ∈ lw_all := lw_g (lw_at lw_m8 86 rfl) rfl
theorem q1871 : (Jvm.Cond.laysStatic "java/util/BitSet" "$assertionsDisabled" "Z") ∈ lw_tbl := lw_at lw_m8 87 rfl
theorem q2212 : (Jvm.Cond.instanceMethod ({ cls := "java/util/BitSet", name := "set", desc := "(I)V" } : Jvm.MethodName)) ∈ lw_all := lw_g (lw_at lw_m9 188 rfl) rfl
theorem q2213 : (Jvm.Cond.selects "java/util/BitSet" ({ cls := "java/util/BitSet", name := "set", desc := "(I)V" } : Jvm.MethodName) ({ cls := "java/util/BitSet", name := "set", desc := "(I)V" } : Jvm.MethodName)) ∈ lw_all := lw_g (lw_at lw_m9 189 rfl) rfl
theorem q2214 : (Jvm.Cond.code ({ cls := "java/util/BitSet", name := "set", desc := "(I)V" } : Jvm.MethodName) prog_70_method_19_code (3 : Nat) (Option.none : Option Jvm.ClassFile.FieldType)) ∈ lw_all := lw_g (lw_at lw_m9 190 rfl) rfl
theorem q2215 : (Jvm.Cond.methodLink "java/util/BitSet" (155 : Nat) ({ cls := "java/util/BitSet", name := "expandTo", desc := "(I)V" } : Jvm.MethodName)) ∈ lw_all := lw_g (lw_at lw_m9 191 rfl) rfl
theorem q2216 : (Jvm.Cond.privateMethod ({ cls := "java/util/BitSet", name := "expandTo", desc := "(I)V" } : Jvm.MethodName)) ∈ lw_tbl := lw_at lw_m9 192 rfl
theorem q2217 : (Jvm.Cond.instanceMethod ({ cls := "java/util/BitSet", name := "expandTo", desc := "(I)V" } : Jvm.MethodName)) ∈ lw_all := lw_g (lw_at lw_m9 193 rfl) rfl
theorem q2218 : (Jvm.Cond.code ({ cls := "java/util/BitSet", name := "expandTo", desc := "(I)V" } : Jvm.MethodName) prog_70_method_15_code (3 : Nat) (Option.none : Option Jvm.ClassFile.FieldType)) ∈ lw_all := lw_g (lw_at lw_m9 194 rfl) rfl
theorem q2219 : (Jvm.Cond.methodLink "java/util/BitSet" (139 : Nat) ({ cls := "java/util/BitSet", name := "ensureCapacity", desc := "(I)V" } : Jvm.MethodName)) ∈ lw_all := lw_g (lw_at lw_m9 195 rfl) rfl
theorem q2220 : (Jvm.Cond.privateMethod ({ cls := "java/util/BitSet", name := "ensureCapacity", desc := "(I)V" } : Jvm.MethodName)) ∈ lw_tbl := lw_at lw_m9 196 rfl
theorem q2221 : (Jvm.Cond.instanceMethod ({ cls := "java/util/BitSet", name := "ensureCapacity", desc := "(I)V" } : Jvm.MethodName)) ∈ lw_all := lw_g (lw_at lw_m9 197 rfl) rfl
theorem q2222 : (Jvm.Cond.code ({ cls := "java/util/BitSet", name := "ensureCapacity", desc := "(I)V" } : Jvm.MethodName) prog_70_method_14_code (3 : Nat) (Option.none : Option Jvm.ClassFile.FieldType)) ∈ lw_all := lw_g (lw_at lw_m9 198 rfl) rfl
theorem q2223 : (Jvm.Cond.methodLink "java/util/BitSet" (133 : Nat) ({ cls := "java/lang/Math", name := "max", desc := "(II)I" } : Jvm.MethodName)) ∈ lw_all := lw_g (lw_at lw_m9 199 rfl) rfl
theorem q2224 : (Jvm.Cond.methodLink "java/util/BitSet" (59 : Nat) ({ cls := "java/util/Arrays", name := "copyOf", desc := "([JI)[J" } : Jvm.MethodName)) ∈ lw_all := lw_g (lw_at lw_m9 200 rfl) rfl
theorem q2439 : (Jvm.Cond.instanceMethod ({ cls := "java/util/BitSet", name := "or", desc := "(Ljava/util/BitSet;)V" } : Jvm.MethodName)) ∈ lw_all := lw_g (lw_at lw_m10 175 rfl) rfl
theorem q2440 : (Jvm.Cond.selects "java/util/BitSet" ({ cls := "java/util/BitSet", name := "or", desc := "(Ljava/util/BitSet;)V" } : Jvm.MethodName) ({ cls := "java/util/BitSet", name := "or", desc := "(Ljava/util/BitSet;)V" } : Jvm.MethodName)) ∈ lw_all := lw_g (lw_at lw_m10 176 rfl) rfl
theorem q2441 : (Jvm.Cond.code ({ cls := "java/util/BitSet", name := "or", desc := "(Ljava/util/BitSet;)V" } : Jvm.MethodName) prog_70_method_37_code (4 : Nat) (Option.none : Option Jvm.ClassFile.FieldType)) ∈ lw_all := lw_g (lw_at lw_m10 177 rfl) rfl
theorem q2442 : (Jvm.Cond.methodLink "java/util/BitSet" (193 : Nat) ({ cls := "java/lang/Math", name := "min", desc := "(II)I" } : Jvm.MethodName)) ∈ lw_all := lw_g (lw_at lw_m10 178 rfl) rfl
theorem q2443 : (Jvm.Cond.methodLink "java/util/BitSet" (199 : Nat) ({ cls := "java/lang/System", name := "arraycopy", desc := "(Ljava/lang/Object;ILjava/lang/Object;II)V" } : Jvm.MethodName)) ∈ lw_all := lw_g (lw_at lw_m10 179 rfl) rfl
theorem q3838 : (Jvm.Cond.castable "java/util/BitSet" "java/lang/Object") ∈ lw_tbl := lw_at lw_m16 134 rfl
theorem in_J21 : ∀ w ∈ wsJ210, w ∈ lw_all := lw_in wsJ210 [624, 626, 628] (by decide +kernel) (by decide +kernel)
def RJ22 : String := "java/util/ArrayDeque"
def TJ22 : u_T := fun k => match k with
  | 0 => ("java/util/ArrayDeque", "elements", "[Ljava/lang/Object;", false)
  | 1 => ("java/util/ArrayDeque", "head", "I", false)
  | _ => ("java/util/ArrayDeque", "tail", "I", false)
def tyJ22 : Nat → FieldType := fun k => match k with
  | 0 => .array (.object "java/lang/Object")
  | 1 => .int
  | _ => .int
abbrev wsJ220 : List Cond := u_ws RJ22 TJ22 3
theorem nmJ22 : ∀ a, a < 3 → ∀ b, b < 3 → a ≠ b → (TJ22 a).2.1 ≠ (TJ22 b).2.1 := by decide +kernel
theorem tyJ22_ok : ∀ k, k < 3 → parseFieldDescriptor (TJ22 k).2.2.1 = some (tyJ22 k) := by decide +kernel
abbrev cJ22_init : ByteArray := prog_65_method_3_code
def yJ22_init : MethodName := ⟨RJ22, "<init>", "()V"⟩
abbrev cJ22_toArray : ByteArray := prog_65_method_55_code
def yJ22_toArray : MethodName := ⟨RJ22, "toArray", "()[Ljava/lang/Object;"⟩
abbrev cJ22_toArray_2 : ByteArray := prog_65_method_56_code
def yJ22_toArray_2 : MethodName := ⟨RJ22, "toArray", "(Ljava/lang/Class;)[Ljava/lang/Object;"⟩
abbrev cJ22_addFirst : ByteArray := prog_65_method_12_code
def yJ22_addFirst : MethodName := ⟨RJ22, "addFirst", "(Ljava/lang/Object;)V"⟩
abbrev cJ22_dec : ByteArray := prog_65_method_7_code
def yJ22_dec : MethodName := ⟨RJ22, "dec", "(II)I"⟩
abbrev cJ22_grow : ByteArray := prog_65_method_1_code
def yJ22_grow : MethodName := ⟨RJ22, "grow", "(I)V"⟩
abbrev cJ22_newCapacity : ByteArray := prog_65_method_2_code
def yJ22_newCapacity : MethodName := ⟨RJ22, "newCapacity", "(II)I"⟩
abbrev cJ22_removeFirst : ByteArray := prog_65_method_18_code
def yJ22_removeFirst : MethodName := ⟨RJ22, "removeFirst", "()Ljava/lang/Object;"⟩
abbrev cJ22_pollFirst : ByteArray := prog_65_method_20_code
def yJ22_pollFirst : MethodName := ⟨RJ22, "pollFirst", "()Ljava/lang/Object;"⟩
abbrev cJ22_elementAt : ByteArray := prog_65_method_10_code
def yJ22_elementAt : MethodName := ⟨RJ22, "elementAt", "([Ljava/lang/Object;I)Ljava/lang/Object;"⟩
abbrev cJ22_inc : ByteArray := prog_65_method_6_code
def yJ22_inc : MethodName := ⟨RJ22, "inc", "(II)I"⟩
abbrev cJ22_size : ByteArray := prog_65_method_37_code
def yJ22_size : MethodName := ⟨RJ22, "size", "()I"⟩
abbrev cJ22_sub : ByteArray := prog_65_method_9_code
def yJ22_sub : MethodName := ⟨RJ22, "sub", "(III)I"⟩
theorem q132 : (Jvm.Cond.initialized "java/util/ArrayDeque") ∈ lw_all := lw_g (lw_at lw_m1 28 rfl) rfl
theorem q639 : (Jvm.Cond.instantiable "java/util/ArrayDeque" (3 : Nat)) ∈ lw_all := lw_g (lw_at lw_m3 55 rfl) rfl
theorem q641 : (Jvm.Cond.instanceMethod ({ cls := "java/util/ArrayDeque", name := "<init>", desc := "()V" } : Jvm.MethodName)) ∈ lw_all := lw_g (lw_at lw_m3 57 rfl) rfl
theorem q642 : (Jvm.Cond.code ({ cls := "java/util/ArrayDeque", name := "<init>", desc := "()V" } : Jvm.MethodName) prog_65_method_3_code (1 : Nat) (Option.none : Option Jvm.ClassFile.FieldType)) ∈ lw_all := lw_g (lw_at lw_m3 58 rfl) rfl
theorem q643 : (Jvm.Cond.methodLink "java/util/ArrayDeque" (42 : Nat) ({ cls := "java/util/AbstractCollection", name := "<init>", desc := "()V" } : Jvm.MethodName)) ∈ lw_all := lw_g (lw_at lw_m3 59 rfl) rfl
theorem q644 : (Jvm.Cond.classLink "java/util/ArrayDeque" (47 : Nat) "java/lang/Object") ∈ lw_all := lw_g (lw_at lw_m3 60 rfl) rfl
theorem q645 : (Jvm.Cond.fieldLink "java/util/ArrayDeque" (3 : Nat) "java/util/ArrayDeque" "elements" "[Ljava/lang/Object;") ∈ lw_all := lw_g (lw_at lw_m3 61 rfl) rfl
theorem q646 : (Jvm.Cond.fieldLink "java/util/ArrayDeque" (24 : Nat) "java/util/ArrayDeque" "head" "I") ∈ lw_all := lw_g (lw_at lw_m3 62 rfl) rfl
theorem q647 : (Jvm.Cond.fieldLink "java/util/ArrayDeque" (20 : Nat) "java/util/ArrayDeque" "tail" "I") ∈ lw_all := lw_g (lw_at lw_m3 63 rfl) rfl
theorem q648 : (Jvm.Cond.lays "java/util/ArrayDeque" "java/util/ArrayDeque" "elements" "[Ljava/lang/Object;") ∈ lw_all := lw_g (lw_at lw_m3 64 rfl) rfl
theorem q649 : (Jvm.Cond.soleField "java/util/ArrayDeque" "elements") ∈ lw_all := lw_g (lw_at lw_m3 65 rfl) rfl
theorem q650 : (Jvm.Cond.lays "java/util/ArrayDeque" "java/util/ArrayDeque" "head" "I") ∈ lw_all := lw_g (lw_at lw_m3 66 rfl) rfl
theorem q651 : (Jvm.Cond.soleField "java/util/ArrayDeque" "head") ∈ lw_all := lw_g (lw_at lw_m3 67 rfl) rfl
theorem q652 : (Jvm.Cond.lays "java/util/ArrayDeque" "java/util/ArrayDeque" "tail" "I") ∈ lw_all := lw_g (lw_at lw_m3 68 rfl) rfl
theorem q653 : (Jvm.Cond.soleField "java/util/ArrayDeque" "tail") ∈ lw_all := lw_g (lw_at lw_m3 69 rfl) rfl
theorem q654 : (Jvm.Cond.superclass "java/util/ArrayDeque" "java/util/AbstractCollection") ∈ lw_all := lw_g (lw_at lw_m3 70 rfl) rfl
theorem q976 : (Jvm.Cond.selects "java/util/ArrayDeque" ({ cls := "java/lang/Object", name := "getClass", desc := "()Ljava/lang/Class;" } : Jvm.MethodName) ({ cls := "java/lang/Object", name := "getClass", desc := "()Ljava/lang/Class;" } : Jvm.MethodName)) ∈ lw_all := lw_g (lw_at lw_m4 152 rfl) rfl
theorem q1285 : (Jvm.Cond.castable "java/util/ArrayDeque" "java/util/Collection") ∈ lw_tbl := lw_at lw_m5 221 rfl
theorem q1286 : (Jvm.Cond.selects "java/util/ArrayDeque" ({ cls := "java/util/Collection", name := "toArray", desc := "()[Ljava/lang/Object;" } : Jvm.MethodName) ({ cls := "java/util/ArrayDeque", name := "toArray", desc := "()[Ljava/lang/Object;" } : Jvm.MethodName)) ∈ lw_all := lw_g (lw_at lw_m5 222 rfl) rfl
theorem q1287 : (Jvm.Cond.unhidden "java/util/ArrayDeque" "toArray" "()[Ljava/lang/Object;") ∈ lw_tbl := lw_at lw_m5 223 rfl
theorem q1288 : (Jvm.Cond.instanceMethod ({ cls := "java/util/ArrayDeque", name := "toArray", desc := "()[Ljava/lang/Object;" } : Jvm.MethodName)) ∈ lw_all := lw_g (lw_at lw_m5 224 rfl) rfl
theorem q1289 : (Jvm.Cond.publicMethod ({ cls := "java/util/ArrayDeque", name := "toArray", desc := "()[Ljava/lang/Object;" } : Jvm.MethodName)) ∈ lw_tbl := lw_at lw_m5 225 rfl
theorem q1290 : (Jvm.Cond.code ({ cls := "java/util/ArrayDeque", name := "toArray", desc := "()[Ljava/lang/Object;" } : Jvm.MethodName) prog_65_method_55_code (1 : Nat) (Option.some (Jvm.ClassFile.FieldType.array (Jvm.ClassFile.FieldType.object "java/lang/Object")))) ∈ lw_all := lw_g (lw_at lw_m5 226 rfl) rfl
theorem q1291 : (Jvm.Cond.classLink "java/util/ArrayDeque" (188 : Nat) "[Ljava/lang/Object;") ∈ lw_all := lw_g (lw_at lw_m5 227 rfl) rfl
theorem q1292 : (Jvm.Cond.methodLink "java/util/ArrayDeque" (189 : Nat) ({ cls := "java/util/ArrayDeque", name := "toArray", desc := "(Ljava/lang/Class;)[Ljava/lang/Object;" } : Jvm.MethodName)) ∈ lw_all := lw_g (lw_at lw_m5 228 rfl) rfl
theorem q1293 : (Jvm.Cond.privateMethod ({ cls := "java/util/ArrayDeque", name := "toArray", desc := "(Ljava/lang/Class;)[Ljava/lang/Object;" } : Jvm.MethodName)) ∈ lw_tbl := lw_at lw_m5 229 rfl
theorem q1294 : (Jvm.Cond.instanceMethod ({ cls := "java/util/ArrayDeque", name := "toArray", desc := "(Ljava/lang/Class;)[Ljava/lang/Object;" } : Jvm.MethodName)) ∈ lw_all := lw_g (lw_at lw_m5 230 rfl) rfl
theorem q1295 : (Jvm.Cond.code ({ cls := "java/util/ArrayDeque", name := "toArray", desc := "(Ljava/lang/Class;)[Ljava/lang/Object;" } : Jvm.MethodName) prog_65_method_56_code (7 : Nat) (Option.some (Jvm.ClassFile.FieldType.array (Jvm.ClassFile.FieldType.object "java/lang/Object")))) ∈ lw_all := lw_g (lw_at lw_m5 231 rfl) rfl
theorem q1296 : (Jvm.Cond.methodLink "java/util/ArrayDeque" (193 : Nat) ({ cls := "java/util/Arrays", name := "copyOfRange", desc := "([Ljava/lang/Object;IILjava/lang/Class;)[Ljava/lang/Object;" } : Jvm.MethodName)) ∈ lw_all := lw_g (lw_at lw_m5 232 rfl) rfl
theorem q1299 : (Jvm.Cond.methodLink "java/util/ArrayDeque" (27 : Nat) ({ cls := "java/lang/System", name := "arraycopy", desc := "(Ljava/lang/Object;ILjava/lang/Object;II)V" } : Jvm.MethodName)) ∈ lw_all := lw_g (lw_at lw_m5 235 rfl) rfl
theorem q2156 : (Jvm.Cond.instanceMethod ({ cls := "java/util/ArrayDeque", name := "addFirst", desc := "(Ljava/lang/Object;)V" } : Jvm.MethodName)) ∈ lw_all := lw_g (lw_at lw_m9 132 rfl) rfl
theorem q2157 : (Jvm.Cond.selects "java/util/ArrayDeque" ({ cls := "java/util/ArrayDeque", name := "addFirst", desc := "(Ljava/lang/Object;)V" } : Jvm.MethodName) ({ cls := "java/util/ArrayDeque", name := "addFirst", desc := "(Ljava/lang/Object;)V" } : Jvm.MethodName)) ∈ lw_all := lw_g (lw_at lw_m9 133 rfl) rfl
theorem q2158 : (Jvm.Cond.code ({ cls := "java/util/ArrayDeque", name := "addFirst", desc := "(Ljava/lang/Object;)V" } : Jvm.MethodName) prog_65_method_12_code (3 : Nat) (Option.none : Option Jvm.ClassFile.FieldType)) ∈ lw_all := lw_g (lw_at lw_m9 134 rfl) rfl
theorem q2159 : (Jvm.Cond.methodLink "java/util/ArrayDeque" (68 : Nat) ({ cls := "java/util/ArrayDeque", name := "dec", desc := "(II)I" } : Jvm.MethodName)) ∈ lw_all := lw_g (lw_at lw_m9 135 rfl) rfl
theorem q2160 : (Jvm.Cond.static ({ cls := "java/util/ArrayDeque", name := "dec", desc := "(II)I" } : Jvm.MethodName)) ∈ lw_all := lw_g (lw_at lw_m9 136 rfl) rfl
theorem q2161 : (Jvm.Cond.code ({ cls := "java/util/ArrayDeque", name := "dec", desc := "(II)I" } : Jvm.MethodName) prog_65_method_7_code (2 : Nat) (Option.some Jvm.ClassFile.FieldType.int)) ∈ lw_all := lw_g (lw_at lw_m9 137 rfl) rfl
theorem q2162 : (Jvm.Cond.methodLink "java/util/ArrayDeque" (71 : Nat) ({ cls := "java/util/ArrayDeque", name := "grow", desc := "(I)V" } : Jvm.MethodName)) ∈ lw_all := lw_g (lw_at lw_m9 138 rfl) rfl
theorem q2163 : (Jvm.Cond.privateMethod ({ cls := "java/util/ArrayDeque", name := "grow", desc := "(I)V" } : Jvm.MethodName)) ∈ lw_tbl := lw_at lw_m9 139 rfl
theorem q2164 : (Jvm.Cond.instanceMethod ({ cls := "java/util/ArrayDeque", name := "grow", desc := "(I)V" } : Jvm.MethodName)) ∈ lw_all := lw_g (lw_at lw_m9 140 rfl) rfl
theorem q2165 : (Jvm.Cond.code ({ cls := "java/util/ArrayDeque", name := "grow", desc := "(I)V" } : Jvm.MethodName) prog_65_method_1_code (9 : Nat) (Option.none : Option Jvm.ClassFile.FieldType)) ∈ lw_all := lw_g (lw_at lw_m9 141 rfl) rfl
theorem q2166 : (Jvm.Cond.constant "java/util/ArrayDeque" (9 : Nat) (2147483639 : Int32)) ∈ lw_all := lw_g (lw_at lw_m9 142 rfl) rfl
theorem q2167 : (Jvm.Cond.methodLink "java/util/ArrayDeque" (10 : Nat) ({ cls := "java/util/ArrayDeque", name := "newCapacity", desc := "(II)I" } : Jvm.MethodName)) ∈ lw_all := lw_g (lw_at lw_m9 143 rfl) rfl
theorem q2168 : (Jvm.Cond.privateMethod ({ cls := "java/util/ArrayDeque", name := "newCapacity", desc := "(II)I" } : Jvm.MethodName)) ∈ lw_tbl := lw_at lw_m9 144 rfl
theorem q2169 : (Jvm.Cond.instanceMethod ({ cls := "java/util/ArrayDeque", name := "newCapacity", desc := "(II)I" } : Jvm.MethodName)) ∈ lw_all := lw_g (lw_at lw_m9 145 rfl) rfl
theorem q2170 : (Jvm.Cond.code ({ cls := "java/util/ArrayDeque", name := "newCapacity", desc := "(II)I" } : Jvm.MethodName) prog_65_method_2_code (5 : Nat) (Option.some Jvm.ClassFile.FieldType.int)) ∈ lw_all := lw_g (lw_at lw_m9 146 rfl) rfl
theorem q2171 : (Jvm.Cond.classLink "java/util/ArrayDeque" (33 : Nat) "java/lang/IllegalStateException") ∈ lw_all := lw_g (lw_at lw_m9 147 rfl) rfl
theorem q2172 : (Jvm.Cond.stringRef "java/util/ArrayDeque" (35 : Nat) "Sorry, deque too big") ∈ lw_tbl := lw_at lw_m9 148 rfl
theorem q2173 : (Jvm.Cond.methodLink "java/util/ArrayDeque" (37 : Nat) ({ cls := "java/lang/IllegalStateException", name := "<init>", desc := "(Ljava/lang/String;)V" } : Jvm.MethodName)) ∈ lw_all := lw_g (lw_at lw_m9 149 rfl) rfl
theorem q2177 : (Jvm.Cond.constant "java/util/ArrayDeque" (41 : Nat) (2147483647 : Int32)) ∈ lw_all := lw_g (lw_at lw_m9 153 rfl) rfl
theorem q2178 : (Jvm.Cond.methodLink "java/util/ArrayDeque" (14 : Nat) ({ cls := "java/util/Arrays", name := "copyOf", desc := "([Ljava/lang/Object;I)[Ljava/lang/Object;" } : Jvm.MethodName)) ∈ lw_all := lw_g (lw_at lw_m9 154 rfl) rfl
theorem q2180 : (Jvm.Cond.instanceMethod ({ cls := "java/util/ArrayDeque", name := "removeFirst", desc := "()Ljava/lang/Object;" } : Jvm.MethodName)) ∈ lw_all := lw_g (lw_at lw_m9 156 rfl) rfl
theorem q2181 : (Jvm.Cond.selects "java/util/ArrayDeque" ({ cls := "java/util/ArrayDeque", name := "removeFirst", desc := "()Ljava/lang/Object;" } : Jvm.MethodName) ({ cls := "java/util/ArrayDeque", name := "removeFirst", desc := "()Ljava/lang/Object;" } : Jvm.MethodName)) ∈ lw_all := lw_g (lw_at lw_m9 157 rfl) rfl
theorem q2182 : (Jvm.Cond.code ({ cls := "java/util/ArrayDeque", name := "removeFirst", desc := "()Ljava/lang/Object;" } : Jvm.MethodName) prog_65_method_18_code (2 : Nat) (Option.some (Jvm.ClassFile.FieldType.object "java/lang/Object"))) ∈ lw_all := lw_g (lw_at lw_m9 158 rfl) rfl
theorem q2183 : (Jvm.Cond.methodLink "java/util/ArrayDeque" (93 : Nat) ({ cls := "java/util/ArrayDeque", name := "pollFirst", desc := "()Ljava/lang/Object;" } : Jvm.MethodName)) ∈ lw_all := lw_g (lw_at lw_m9 159 rfl) rfl
theorem q2184 : (Jvm.Cond.instanceMethod ({ cls := "java/util/ArrayDeque", name := "pollFirst", desc := "()Ljava/lang/Object;" } : Jvm.MethodName)) ∈ lw_all := lw_g (lw_at lw_m9 160 rfl) rfl
theorem q2185 : (Jvm.Cond.selects "java/util/ArrayDeque" ({ cls := "java/util/ArrayDeque", name := "pollFirst", desc := "()Ljava/lang/Object;" } : Jvm.MethodName) ({ cls := "java/util/ArrayDeque", name := "pollFirst", desc := "()Ljava/lang/Object;" } : Jvm.MethodName)) ∈ lw_all := lw_g (lw_at lw_m9 161 rfl) rfl
theorem q2186 : (Jvm.Cond.code ({ cls := "java/util/ArrayDeque", name := "pollFirst", desc := "()Ljava/lang/Object;" } : Jvm.MethodName) prog_65_method_20_code (4 : Nat) (Option.some (Jvm.ClassFile.FieldType.object "java/lang/Object"))) ∈ lw_all := lw_g (lw_at lw_m9 162 rfl) rfl
theorem q2187 : (Jvm.Cond.methodLink "java/util/ArrayDeque" (103 : Nat) ({ cls := "java/util/ArrayDeque", name := "elementAt", desc := "([Ljava/lang/Object;I)Ljava/lang/Object;" } : Jvm.MethodName)) ∈ lw_all := lw_g (lw_at lw_m9 163 rfl) rfl
theorem q2188 : (Jvm.Cond.static ({ cls := "java/util/ArrayDeque", name := "elementAt", desc := "([Ljava/lang/Object;I)Ljava/lang/Object;" } : Jvm.MethodName)) ∈ lw_all := lw_g (lw_at lw_m9 164 rfl) rfl
theorem q2189 : (Jvm.Cond.code ({ cls := "java/util/ArrayDeque", name := "elementAt", desc := "([Ljava/lang/Object;I)Ljava/lang/Object;" } : Jvm.MethodName) prog_65_method_10_code (2 : Nat) (Option.some (Jvm.ClassFile.FieldType.object "java/lang/Object"))) ∈ lw_all := lw_g (lw_at lw_m9 165 rfl) rfl
theorem q2190 : (Jvm.Cond.methodLink "java/util/ArrayDeque" (74 : Nat) ({ cls := "java/util/ArrayDeque", name := "inc", desc := "(II)I" } : Jvm.MethodName)) ∈ lw_all := lw_g (lw_at lw_m9 166 rfl) rfl
theorem q2191 : (Jvm.Cond.static ({ cls := "java/util/ArrayDeque", name := "inc", desc := "(II)I" } : Jvm.MethodName)) ∈ lw_all := lw_g (lw_at lw_m9 167 rfl) rfl
theorem q2192 : (Jvm.Cond.code ({ cls := "java/util/ArrayDeque", name := "inc", desc := "(II)I" } : Jvm.MethodName) prog_65_method_6_code (2 : Nat) (Option.some Jvm.ClassFile.FieldType.int)) ∈ lw_all := lw_g (lw_at lw_m9 168 rfl) rfl
theorem q2887 : (Jvm.Cond.instanceMethod ({ cls := "java/util/ArrayDeque", name := "size", desc := "()I" } : Jvm.MethodName)) ∈ lw_all := lw_g (lw_at lw_m12 143 rfl) rfl
theorem q2888 : (Jvm.Cond.code ({ cls := "java/util/ArrayDeque", name := "size", desc := "()I" } : Jvm.MethodName) prog_65_method_37_code (1 : Nat) (Option.some Jvm.ClassFile.FieldType.int)) ∈ lw_all := lw_g (lw_at lw_m12 144 rfl) rfl
theorem q2889 : (Jvm.Cond.methodLink "java/util/ArrayDeque" (127 : Nat) ({ cls := "java/util/ArrayDeque", name := "sub", desc := "(III)I" } : Jvm.MethodName)) ∈ lw_all := lw_g (lw_at lw_m12 145 rfl) rfl
theorem q2890 : (Jvm.Cond.static ({ cls := "java/util/ArrayDeque", name := "sub", desc := "(III)I" } : Jvm.MethodName)) ∈ lw_all := lw_g (lw_at lw_m12 146 rfl) rfl
theorem q2891 : (Jvm.Cond.code ({ cls := "java/util/ArrayDeque", name := "sub", desc := "(III)I" } : Jvm.MethodName) prog_65_method_9_code (3 : Nat) (Option.some Jvm.ClassFile.FieldType.int)) ∈ lw_all := lw_g (lw_at lw_m12 147 rfl) rfl
theorem q3183 : (Jvm.Cond.unhidden "java/util/ArrayDeque" "getClass" "()Ljava/lang/Class;") ∈ lw_tbl := lw_at lw_m13 199 rfl
theorem q3809 : (Jvm.Cond.selects "java/util/ArrayDeque" ({ cls := "java/util/AbstractCollection", name := "size", desc := "()I" } : Jvm.MethodName) ({ cls := "java/util/ArrayDeque", name := "size", desc := "()I" } : Jvm.MethodName)) ∈ lw_all := lw_g (lw_at lw_m16 105 rfl) rfl
theorem q3839 : (Jvm.Cond.castable "java/util/ArrayDeque" "java/lang/Object") ∈ lw_tbl := lw_at lw_m16 135 rfl
theorem in_J22 : ∀ w ∈ wsJ220, w ∈ lw_all := lw_in wsJ220 [648, 650, 652] (by decide +kernel) (by decide +kernel)
def RJ23 : String := "java/lang/IllegalStateException"
def TJ23 : u_T := fun k => match k with
  | 0 => ("java/lang/Throwable", "cause", "Ljava/lang/Throwable;", false)
  | 1 => ("java/lang/Throwable", "stackTrace", "[Ljava/lang/StackTraceElement;", false)
  | 2 => ("java/lang/Throwable", "suppressedExceptions", "Ljava/util/List;", false)
  | 3 => ("java/lang/Throwable", "detailMessage", "Ljava/lang/String;", false)
  | 4 => ("java/lang/Throwable", "backtrace", "Ljava/lang/Object;", false)
  | _ => ("java/lang/Throwable", "depth", "I", false)
def tyJ23 : Nat → FieldType := fun k => match k with
  | 0 => .object "java/lang/Throwable"
  | 1 => .array (.object "java/lang/StackTraceElement")
  | 2 => .object "java/util/List"
  | 3 => .object "java/lang/String"
  | 4 => .object "java/lang/Object"
  | _ => .int
abbrev wsJ230 : List Cond := u_ws RJ23 TJ23 6
theorem nmJ23 : ∀ a, a < 6 → ∀ b, b < 6 → a ≠ b → (TJ23 a).2.1 ≠ (TJ23 b).2.1 := by decide +kernel
theorem tyJ23_ok : ∀ k, k < 6 → parseFieldDescriptor (TJ23 k).2.2.1 = some (tyJ23 k) := by decide +kernel
abbrev cJ23_init : ByteArray := prog_43_method_1_code
def yJ23_init : MethodName := ⟨RJ23, "<init>", "()V"⟩
abbrev cJ23_init_2 : ByteArray := prog_43_method_3_code
def yJ23_init_2 : MethodName := ⟨RJ23, "<init>", "(Ljava/lang/String;Ljava/lang/Throwable;)V"⟩
abbrev cJ23_init_3 : ByteArray := prog_43_method_2_code
def yJ23_init_3 : MethodName := ⟨RJ23, "<init>", "(Ljava/lang/String;)V"⟩
theorem q134 : (Jvm.Cond.initialized "java/lang/IllegalStateException") ∈ lw_all := lw_g (lw_at lw_m1 30 rfl) rfl
theorem q325 : (Jvm.Cond.selects "java/lang/IllegalStateException" ({ cls := "java/lang/Throwable", name := "fillInStackTrace", desc := "()Ljava/lang/Throwable;" } : Jvm.MethodName) ({ cls := "java/lang/Throwable", name := "fillInStackTrace", desc := "()Ljava/lang/Throwable;" } : Jvm.MethodName)) ∈ lw_all := lw_g (lw_at lw_m1 221 rfl) rfl
theorem q970 : (Jvm.Cond.selects "java/lang/IllegalStateException" ({ cls := "java/lang/Object", name := "getClass", desc := "()Ljava/lang/Class;" } : Jvm.MethodName) ({ cls := "java/lang/Object", name := "getClass", desc := "()Ljava/lang/Class;" } : Jvm.MethodName)) ∈ lw_all := lw_g (lw_at lw_m4 146 rfl) rfl
theorem q1454 : (Jvm.Cond.instantiable "java/lang/IllegalStateException" (6 : Nat)) ∈ lw_all := lw_g (lw_at lw_m6 150 rfl) rfl
theorem q1455 : (Jvm.Cond.castable "java/lang/IllegalStateException" "java/lang/IllegalStateException") ∈ lw_tbl := lw_at lw_m6 151 rfl
theorem q1456 : (Jvm.Cond.selects "java/lang/IllegalStateException" ({ cls := "java/lang/Throwable", name := "fillInStackTrace", desc := "(I)Ljava/lang/Throwable;" } : Jvm.MethodName) ({ cls := "java/lang/Throwable", name := "fillInStackTrace", desc := "(I)Ljava/lang/Throwable;" } : Jvm.MethodName)) ∈ lw_all := lw_g (lw_at lw_m6 152 rfl) rfl
theorem q1457 : (Jvm.Cond.lays "java/lang/IllegalStateException" "java/lang/Throwable" "cause" "Ljava/lang/Throwable;") ∈ lw_all := lw_g (lw_at lw_m6 153 rfl) rfl
theorem q1458 : (Jvm.Cond.lays "java/lang/IllegalStateException" "java/lang/Throwable" "stackTrace" "[Ljava/lang/StackTraceElement;") ∈ lw_all := lw_g (lw_at lw_m6 154 rfl) rfl
theorem q1459 : (Jvm.Cond.lays "java/lang/IllegalStateException" "java/lang/Throwable" "suppressedExceptions" "Ljava/util/List;") ∈ lw_all := lw_g (lw_at lw_m6 155 rfl) rfl
theorem q1460 : (Jvm.Cond.lays "java/lang/IllegalStateException" "java/lang/Throwable" "detailMessage" "Ljava/lang/String;") ∈ lw_all := lw_g (lw_at lw_m6 156 rfl) rfl
theorem q1461 : (Jvm.Cond.lays "java/lang/IllegalStateException" "java/lang/Throwable" "backtrace" "Ljava/lang/Object;") ∈ lw_all := lw_g (lw_at lw_m6 157 rfl) rfl
theorem q1463 : (Jvm.Cond.instanceMethod ({ cls := "java/lang/IllegalStateException", name := "<init>", desc := "()V" } : Jvm.MethodName)) ∈ lw_all := lw_g (lw_at lw_m6 159 rfl) rfl
theorem q1464 : (Jvm.Cond.code ({ cls := "java/lang/IllegalStateException", name := "<init>", desc := "()V" } : Jvm.MethodName) prog_43_method_1_code (1 : Nat) (Option.none : Option Jvm.ClassFile.FieldType)) ∈ lw_all := lw_g (lw_at lw_m6 160 rfl) rfl
theorem q1465 : (Jvm.Cond.methodLink "java/lang/IllegalStateException" (1 : Nat) ({ cls := "java/lang/RuntimeException", name := "<init>", desc := "()V" } : Jvm.MethodName)) ∈ lw_all := lw_g (lw_at lw_m6 161 rfl) rfl
theorem q1466 : (Jvm.Cond.lays "java/lang/IllegalStateException" "java/lang/Throwable" "depth" "I") ∈ lw_all := lw_g (lw_at lw_m6 162 rfl) rfl
theorem q1467 : (Jvm.Cond.superclass "java/lang/IllegalStateException" "java/lang/RuntimeException") ∈ lw_all := lw_g (lw_at lw_m6 163 rfl) rfl
theorem q1513 : (Jvm.Cond.instanceMethod ({ cls := "java/lang/IllegalStateException", name := "<init>", desc := "(Ljava/lang/String;Ljava/lang/Throwable;)V" } : Jvm.MethodName)) ∈ lw_all := lw_g (lw_at lw_m6 209 rfl) rfl
theorem q1514 : (Jvm.Cond.code ({ cls := "java/lang/IllegalStateException", name := "<init>", desc := "(Ljava/lang/String;Ljava/lang/Throwable;)V" } : Jvm.MethodName) prog_43_method_3_code (3 : Nat) (Option.none : Option Jvm.ClassFile.FieldType)) ∈ lw_all := lw_g (lw_at lw_m6 210 rfl) rfl
theorem q1515 : (Jvm.Cond.methodLink "java/lang/IllegalStateException" (10 : Nat) ({ cls := "java/lang/RuntimeException", name := "<init>", desc := "(Ljava/lang/String;Ljava/lang/Throwable;)V" } : Jvm.MethodName)) ∈ lw_all := lw_g (lw_at lw_m6 211 rfl) rfl
theorem q1763 : (Jvm.Cond.selects "java/lang/IllegalStateException" ({ cls := "java/lang/Throwable", name := "toString", desc := "()Ljava/lang/String;" } : Jvm.MethodName) ({ cls := "java/lang/Throwable", name := "toString", desc := "()Ljava/lang/String;" } : Jvm.MethodName)) ∈ lw_all := lw_g (lw_at lw_m7 219 rfl) rfl
theorem q1777 : (Jvm.Cond.selects "java/lang/IllegalStateException" ({ cls := "java/lang/Throwable", name := "getLocalizedMessage", desc := "()Ljava/lang/String;" } : Jvm.MethodName) ({ cls := "java/lang/Throwable", name := "getLocalizedMessage", desc := "()Ljava/lang/String;" } : Jvm.MethodName)) ∈ lw_all := lw_g (lw_at lw_m7 233 rfl) rfl
theorem q1790 : (Jvm.Cond.selects "java/lang/IllegalStateException" ({ cls := "java/lang/Throwable", name := "getMessage", desc := "()Ljava/lang/String;" } : Jvm.MethodName) ({ cls := "java/lang/Throwable", name := "getMessage", desc := "()Ljava/lang/String;" } : Jvm.MethodName)) ∈ lw_all := lw_g (lw_at lw_m8 6 rfl) rfl
theorem q2174 : (Jvm.Cond.instanceMethod ({ cls := "java/lang/IllegalStateException", name := "<init>", desc := "(Ljava/lang/String;)V" } : Jvm.MethodName)) ∈ lw_all := lw_g (lw_at lw_m9 150 rfl) rfl
theorem q2175 : (Jvm.Cond.code ({ cls := "java/lang/IllegalStateException", name := "<init>", desc := "(Ljava/lang/String;)V" } : Jvm.MethodName) prog_43_method_2_code (2 : Nat) (Option.none : Option Jvm.ClassFile.FieldType)) ∈ lw_all := lw_g (lw_at lw_m9 151 rfl) rfl
theorem q2176 : (Jvm.Cond.methodLink "java/lang/IllegalStateException" (7 : Nat) ({ cls := "java/lang/RuntimeException", name := "<init>", desc := "(Ljava/lang/String;)V" } : Jvm.MethodName)) ∈ lw_all := lw_g (lw_at lw_m9 152 rfl) rfl
theorem q2483 : (Jvm.Cond.selects "java/lang/IllegalStateException" ({ cls := "java/lang/Object", name := "equals", desc := "(Ljava/lang/Object;)Z" } : Jvm.MethodName) ({ cls := "java/lang/Object", name := "equals", desc := "(Ljava/lang/Object;)Z" } : Jvm.MethodName)) ∈ lw_all := lw_g (lw_at lw_m10 219 rfl) rfl
theorem q3841 : (Jvm.Cond.castable "java/lang/IllegalStateException" "java/lang/Object") ∈ lw_tbl := lw_at lw_m16 137 rfl
theorem in_J23 : ∀ w ∈ wsJ230, w ∈ lw_all := lw_in wsJ230 [1457, 1458, 1459, 1460, 1461, 1466] (by decide +kernel) (by decide +kernel)
def RJ24 : String := "java/lang/Character"
abbrev cJ24_isSurrogate : ByteArray := prog_37_method_16_code
def yJ24_isSurrogate : MethodName := ⟨RJ24, "isSurrogate", "(C)Z"⟩
abbrev cJ24_isLowSurrogate : ByteArray := prog_37_method_15_code
def yJ24_isLowSurrogate : MethodName := ⟨RJ24, "isLowSurrogate", "(C)Z"⟩
abbrev cJ24_isHighSurrogate : ByteArray := prog_37_method_14_code
def yJ24_isHighSurrogate : MethodName := ⟨RJ24, "isHighSurrogate", "(C)Z"⟩
abbrev cJ24_isValidCodePoint : ByteArray := prog_37_method_11_code
def yJ24_isValidCodePoint : MethodName := ⟨RJ24, "isValidCodePoint", "(I)Z"⟩
abbrev cJ24_highSurrogate : ByteArray := prog_37_method_28_code
def yJ24_highSurrogate : MethodName := ⟨RJ24, "highSurrogate", "(I)C"⟩
abbrev cJ24_lowSurrogate : ByteArray := prog_37_method_29_code
def yJ24_lowSurrogate : MethodName := ⟨RJ24, "lowSurrogate", "(I)C"⟩
theorem q135 : (Jvm.Cond.initialized "java/lang/Character") ∈ lw_all := lw_g (lw_at lw_m1 31 rfl) rfl
theorem q2346 : (Jvm.Cond.static ({ cls := "java/lang/Character", name := "isSurrogate", desc := "(C)Z" } : Jvm.MethodName)) ∈ lw_all := lw_g (lw_at lw_m10 82 rfl) rfl
theorem q2347 : (Jvm.Cond.code ({ cls := "java/lang/Character", name := "isSurrogate", desc := "(C)Z" } : Jvm.MethodName) prog_37_method_16_code (1 : Nat) (Option.some Jvm.ClassFile.FieldType.boolean)) ∈ lw_all := lw_g (lw_at lw_m10 83 rfl) rfl
theorem q2348 : (Jvm.Cond.constant "java/lang/Character" (75 : Nat) (55296 : Int32)) ∈ lw_all := lw_g (lw_at lw_m10 84 rfl) rfl
theorem q2349 : (Jvm.Cond.constant "java/lang/Character" (77 : Nat) (57344 : Int32)) ∈ lw_all := lw_g (lw_at lw_m10 85 rfl) rfl
theorem q2354 : (Jvm.Cond.static ({ cls := "java/lang/Character", name := "isLowSurrogate", desc := "(C)Z" } : Jvm.MethodName)) ∈ lw_all := lw_g (lw_at lw_m10 90 rfl) rfl
theorem q2355 : (Jvm.Cond.code ({ cls := "java/lang/Character", name := "isLowSurrogate", desc := "(C)Z" } : Jvm.MethodName) prog_37_method_15_code (1 : Nat) (Option.some Jvm.ClassFile.FieldType.boolean)) ∈ lw_all := lw_g (lw_at lw_m10 91 rfl) rfl
theorem q2356 : (Jvm.Cond.constant "java/lang/Character" (76 : Nat) (56320 : Int32)) ∈ lw_all := lw_g (lw_at lw_m10 92 rfl) rfl
theorem q2358 : (Jvm.Cond.static ({ cls := "java/lang/Character", name := "isHighSurrogate", desc := "(C)Z" } : Jvm.MethodName)) ∈ lw_all := lw_g (lw_at lw_m10 94 rfl) rfl
theorem q2359 : (Jvm.Cond.code ({ cls := "java/lang/Character", name := "isHighSurrogate", desc := "(C)Z" } : Jvm.MethodName) prog_37_method_14_code (1 : Nat) (Option.some Jvm.ClassFile.FieldType.boolean)) ∈ lw_all := lw_g (lw_at lw_m10 95 rfl) rfl
theorem q2696 : (Jvm.Cond.static ({ cls := "java/lang/Character", name := "isValidCodePoint", desc := "(I)Z" } : Jvm.MethodName)) ∈ lw_all := lw_g (lw_at lw_m11 192 rfl) rfl
theorem q2697 : (Jvm.Cond.code ({ cls := "java/lang/Character", name := "isValidCodePoint", desc := "(I)Z" } : Jvm.MethodName) prog_37_method_11_code (2 : Nat) (Option.some Jvm.ClassFile.FieldType.boolean)) ∈ lw_all := lw_g (lw_at lw_m11 193 rfl) rfl
theorem q2699 : (Jvm.Cond.static ({ cls := "java/lang/Character", name := "highSurrogate", desc := "(I)C" } : Jvm.MethodName)) ∈ lw_all := lw_g (lw_at lw_m11 195 rfl) rfl
theorem q2700 : (Jvm.Cond.code ({ cls := "java/lang/Character", name := "highSurrogate", desc := "(I)C" } : Jvm.MethodName) prog_37_method_28_code (1 : Nat) (Option.some Jvm.ClassFile.FieldType.char)) ∈ lw_all := lw_g (lw_at lw_m11 196 rfl) rfl
theorem q2701 : (Jvm.Cond.constant "java/lang/Character" (110 : Nat) (55232 : Int32)) ∈ lw_all := lw_g (lw_at lw_m11 197 rfl) rfl
theorem q2703 : (Jvm.Cond.static ({ cls := "java/lang/Character", name := "lowSurrogate", desc := "(I)C" } : Jvm.MethodName)) ∈ lw_all := lw_g (lw_at lw_m11 199 rfl) rfl
theorem q2704 : (Jvm.Cond.code ({ cls := "java/lang/Character", name := "lowSurrogate", desc := "(I)C" } : Jvm.MethodName) prog_37_method_29_code (1 : Nat) (Option.some Jvm.ClassFile.FieldType.char)) ∈ lw_all := lw_g (lw_at lw_m11 200 rfl) rfl
def RJ25 : String := "java/lang/IndexOutOfBoundsException"
def TJ25 : u_T := fun k => match k with
  | 0 => ("java/lang/Throwable", "cause", "Ljava/lang/Throwable;", false)
  | 1 => ("java/lang/Throwable", "stackTrace", "[Ljava/lang/StackTraceElement;", false)
  | 2 => ("java/lang/Throwable", "suppressedExceptions", "Ljava/util/List;", false)
  | 3 => ("java/lang/Throwable", "detailMessage", "Ljava/lang/String;", false)
  | 4 => ("java/lang/Throwable", "backtrace", "Ljava/lang/Object;", false)
  | _ => ("java/lang/Throwable", "depth", "I", false)
def tyJ25 : Nat → FieldType := fun k => match k with
  | 0 => .object "java/lang/Throwable"
  | 1 => .array (.object "java/lang/StackTraceElement")
  | 2 => .object "java/util/List"
  | 3 => .object "java/lang/String"
  | 4 => .object "java/lang/Object"
  | _ => .int
abbrev wsJ250 : List Cond := u_ws RJ25 TJ25 6
theorem nmJ25 : ∀ a, a < 6 → ∀ b, b < 6 → a ≠ b → (TJ25 a).2.1 ≠ (TJ25 b).2.1 := by decide +kernel
theorem tyJ25_ok : ∀ k, k < 6 → parseFieldDescriptor (TJ25 k).2.2.1 = some (tyJ25 k) := by decide +kernel
abbrev cJ25_init : ByteArray := prog_44_method_2_code
def yJ25_init : MethodName := ⟨RJ25, "<init>", "(Ljava/lang/String;)V"⟩
abbrev cJ25_init_2 : ByteArray := prog_44_method_1_code
def yJ25_init_2 : MethodName := ⟨RJ25, "<init>", "()V"⟩
theorem q136 : (Jvm.Cond.initialized "java/lang/IndexOutOfBoundsException") ∈ lw_all := lw_g (lw_at lw_m1 32 rfl) rfl
theorem q326 : (Jvm.Cond.selects "java/lang/IndexOutOfBoundsException" ({ cls := "java/lang/Throwable", name := "fillInStackTrace", desc := "()Ljava/lang/Throwable;" } : Jvm.MethodName) ({ cls := "java/lang/Throwable", name := "fillInStackTrace", desc := "()Ljava/lang/Throwable;" } : Jvm.MethodName)) ∈ lw_all := lw_g (lw_at lw_m1 222 rfl) rfl
theorem q971 : (Jvm.Cond.selects "java/lang/IndexOutOfBoundsException" ({ cls := "java/lang/Object", name := "getClass", desc := "()Ljava/lang/Class;" } : Jvm.MethodName) ({ cls := "java/lang/Object", name := "getClass", desc := "()Ljava/lang/Class;" } : Jvm.MethodName)) ∈ lw_all := lw_g (lw_at lw_m4 147 rfl) rfl
theorem q1476 : (Jvm.Cond.instanceMethod ({ cls := "java/lang/IndexOutOfBoundsException", name := "<init>", desc := "(Ljava/lang/String;)V" } : Jvm.MethodName)) ∈ lw_all := lw_g (lw_at lw_m6 172 rfl) rfl
theorem q1477 : (Jvm.Cond.code ({ cls := "java/lang/IndexOutOfBoundsException", name := "<init>", desc := "(Ljava/lang/String;)V" } : Jvm.MethodName) prog_44_method_2_code (2 : Nat) (Option.none : Option Jvm.ClassFile.FieldType)) ∈ lw_all := lw_g (lw_at lw_m6 173 rfl) rfl
theorem q1478 : (Jvm.Cond.methodLink "java/lang/IndexOutOfBoundsException" (7 : Nat) ({ cls := "java/lang/RuntimeException", name := "<init>", desc := "(Ljava/lang/String;)V" } : Jvm.MethodName)) ∈ lw_all := lw_g (lw_at lw_m6 174 rfl) rfl
theorem q1487 : (Jvm.Cond.declares ({ cls := "java/lang/IndexOutOfBoundsException", name := "<init>", desc := "()V" } : Jvm.MethodName)) ∈ lw_tbl := lw_at lw_m6 183 rfl
theorem q1488 : (Jvm.Cond.declares ({ cls := "java/lang/IndexOutOfBoundsException", name := "<init>", desc := "(Ljava/lang/String;)V" } : Jvm.MethodName)) ∈ lw_tbl := lw_at lw_m6 184 rfl
theorem q1498 : (Jvm.Cond.instantiable "java/lang/IndexOutOfBoundsException" (6 : Nat)) ∈ lw_all := lw_g (lw_at lw_m6 194 rfl) rfl
theorem q1499 : (Jvm.Cond.castable "java/lang/IndexOutOfBoundsException" "java/lang/IndexOutOfBoundsException") ∈ lw_tbl := lw_at lw_m6 195 rfl
theorem q1500 : (Jvm.Cond.selects "java/lang/IndexOutOfBoundsException" ({ cls := "java/lang/Throwable", name := "fillInStackTrace", desc := "(I)Ljava/lang/Throwable;" } : Jvm.MethodName) ({ cls := "java/lang/Throwable", name := "fillInStackTrace", desc := "(I)Ljava/lang/Throwable;" } : Jvm.MethodName)) ∈ lw_all := lw_g (lw_at lw_m6 196 rfl) rfl
theorem q1501 : (Jvm.Cond.lays "java/lang/IndexOutOfBoundsException" "java/lang/Throwable" "cause" "Ljava/lang/Throwable;") ∈ lw_all := lw_g (lw_at lw_m6 197 rfl) rfl
theorem q1502 : (Jvm.Cond.lays "java/lang/IndexOutOfBoundsException" "java/lang/Throwable" "stackTrace" "[Ljava/lang/StackTraceElement;") ∈ lw_all := lw_g (lw_at lw_m6 198 rfl) rfl
theorem q1503 : (Jvm.Cond.lays "java/lang/IndexOutOfBoundsException" "java/lang/Throwable" "suppressedExceptions" "Ljava/util/List;") ∈ lw_all := lw_g (lw_at lw_m6 199 rfl) rfl
theorem q1504 : (Jvm.Cond.lays "java/lang/IndexOutOfBoundsException" "java/lang/Throwable" "detailMessage" "Ljava/lang/String;") ∈ lw_all := lw_g (lw_at lw_m6 200 rfl) rfl
theorem q1505 : (Jvm.Cond.lays "java/lang/IndexOutOfBoundsException" "java/lang/Throwable" "backtrace" "Ljava/lang/Object;") ∈ lw_all := lw_g (lw_at lw_m6 201 rfl) rfl
theorem q1507 : (Jvm.Cond.instanceMethod ({ cls := "java/lang/IndexOutOfBoundsException", name := "<init>", desc := "()V" } : Jvm.MethodName)) ∈ lw_all := lw_g (lw_at lw_m6 203 rfl) rfl
theorem q1508 : (Jvm.Cond.code ({ cls := "java/lang/IndexOutOfBoundsException", name := "<init>", desc := "()V" } : Jvm.MethodName) prog_44_method_1_code (1 : Nat) (Option.none : Option Jvm.ClassFile.FieldType)) ∈ lw_all := lw_g (lw_at lw_m6 204 rfl) rfl
theorem q1509 : (Jvm.Cond.methodLink "java/lang/IndexOutOfBoundsException" (1 : Nat) ({ cls := "java/lang/RuntimeException", name := "<init>", desc := "()V" } : Jvm.MethodName)) ∈ lw_all := lw_g (lw_at lw_m6 205 rfl) rfl
theorem q1510 : (Jvm.Cond.lays "java/lang/IndexOutOfBoundsException" "java/lang/Throwable" "depth" "I") ∈ lw_all := lw_g (lw_at lw_m6 206 rfl) rfl
theorem q1511 : (Jvm.Cond.superclass "java/lang/IndexOutOfBoundsException" "java/lang/RuntimeException") ∈ lw_all := lw_g (lw_at lw_m6 207 rfl) rfl
theorem q1764 : (Jvm.Cond.selects "java/lang/IndexOutOfBoundsException" ({ cls := "java/lang/Throwable", name := "toString", desc := "()Ljava/lang/String;" } : Jvm.MethodName) ({ cls := "java/lang/Throwable", name := "toString", desc := "()Ljava/lang/String;" } : Jvm.MethodName)) ∈ lw_all := lw_g (lw_at lw_m7 220 rfl) rfl
theorem q1778 : (Jvm.Cond.selects "java/lang/IndexOutOfBoundsException" ({ cls := "java/lang/Throwable", name := "getLocalizedMessage", desc := "()Ljava/lang/String;" } : Jvm.MethodName) ({ cls := "java/lang/Throwable", name := "getLocalizedMessage", desc := "()Ljava/lang/String;" } : Jvm.MethodName)) ∈ lw_all := lw_g (lw_at lw_m7 234 rfl) rfl
theorem q1791 : (Jvm.Cond.selects "java/lang/IndexOutOfBoundsException" ({ cls := "java/lang/Throwable", name := "getMessage", desc := "()Ljava/lang/String;" } : Jvm.MethodName) ({ cls := "java/lang/Throwable", name := "getMessage", desc := "()Ljava/lang/String;" } : Jvm.MethodName)) ∈ lw_all := lw_g (lw_at lw_m8 7 rfl) rfl
theorem q2484 : (Jvm.Cond.selects "java/lang/IndexOutOfBoundsException" ({ cls := "java/lang/Object", name := "equals", desc := "(Ljava/lang/Object;)Z" } : Jvm.MethodName) ({ cls := "java/lang/Object", name := "equals", desc := "(Ljava/lang/Object;)Z" } : Jvm.MethodName)) ∈ lw_all := lw_g (lw_at lw_m10 220 rfl) rfl
theorem q3843 : (Jvm.Cond.castable "java/lang/IndexOutOfBoundsException" "java/lang/Object") ∈ lw_tbl := lw_at lw_m16 139 rfl
theorem in_J25 : ∀ w ∈ wsJ250, w ∈ lw_all := lw_in wsJ250 [1501, 1502, 1503, 1504, 1505, 1510] (by decide +kernel) (by decide +kernel)
def RJ26 : String := "java/lang/ArrayIndexOutOfBoundsException"
def TJ26 : u_T := fun k => match k with
  | 0 => ("java/lang/Throwable", "backtrace", "Ljava/lang/Object;", false)
  | 1 => ("java/lang/Throwable", "detailMessage", "Ljava/lang/String;", false)
  | 2 => ("java/lang/Throwable", "cause", "Ljava/lang/Throwable;", false)
  | 3 => ("java/lang/Throwable", "stackTrace", "[Ljava/lang/StackTraceElement;", false)
  | 4 => ("java/lang/Throwable", "depth", "I", false)
  | _ => ("java/lang/Throwable", "suppressedExceptions", "Ljava/util/List;", false)
def tyJ26 : Nat → FieldType := fun k => match k with
  | 0 => .object "java/lang/Object"
  | 1 => .object "java/lang/String"
  | 2 => .object "java/lang/Throwable"
  | 3 => .array (.object "java/lang/StackTraceElement")
  | 4 => .int
  | _ => .object "java/util/List"
abbrev wsJ260 : List Cond := u_ws RJ26 TJ26 6
theorem nmJ26 : ∀ a, a < 6 → ∀ b, b < 6 → a ≠ b → (TJ26 a).2.1 ≠ (TJ26 b).2.1 := by decide +kernel
theorem tyJ26_ok : ∀ k, k < 6 → parseFieldDescriptor (TJ26 k).2.2.1 = some (tyJ26 k) := by decide +kernel
abbrev cJ26_init : ByteArray := prog_35_method_2_code
def yJ26_init : MethodName := ⟨RJ26, "<init>", "(Ljava/lang/String;)V"⟩
theorem q137 : (Jvm.Cond.initialized "java/lang/ArrayIndexOutOfBoundsException") ∈ lw_all := lw_g (lw_at lw_m1 33 rfl) rfl
theorem q324 : (Jvm.Cond.selects "java/lang/ArrayIndexOutOfBoundsException" ({ cls := "java/lang/Throwable", name := "fillInStackTrace", desc := "()Ljava/lang/Throwable;" } : Jvm.MethodName) ({ cls := "java/lang/Throwable", name := "fillInStackTrace", desc := "()Ljava/lang/Throwable;" } : Jvm.MethodName)) ∈ lw_all := lw_g (lw_at lw_m1 220 rfl) rfl
theorem q968 : (Jvm.Cond.selects "java/lang/ArrayIndexOutOfBoundsException" ({ cls := "java/lang/Object", name := "getClass", desc := "()Ljava/lang/Class;" } : Jvm.MethodName) ({ cls := "java/lang/Object", name := "getClass", desc := "()Ljava/lang/Class;" } : Jvm.MethodName)) ∈ lw_all := lw_g (lw_at lw_m4 144 rfl) rfl
theorem q1472 : (Jvm.Cond.instantiable "java/lang/ArrayIndexOutOfBoundsException" (6 : Nat)) ∈ lw_all := lw_g (lw_at lw_m6 168 rfl) rfl
theorem q1473 : (Jvm.Cond.instanceMethod ({ cls := "java/lang/ArrayIndexOutOfBoundsException", name := "<init>", desc := "(Ljava/lang/String;)V" } : Jvm.MethodName)) ∈ lw_all := lw_g (lw_at lw_m6 169 rfl) rfl
theorem q1474 : (Jvm.Cond.code ({ cls := "java/lang/ArrayIndexOutOfBoundsException", name := "<init>", desc := "(Ljava/lang/String;)V" } : Jvm.MethodName) prog_35_method_2_code (2 : Nat) (Option.none : Option Jvm.ClassFile.FieldType)) ∈ lw_all := lw_g (lw_at lw_m6 170 rfl) rfl
theorem q1475 : (Jvm.Cond.methodLink "java/lang/ArrayIndexOutOfBoundsException" (7 : Nat) ({ cls := "java/lang/IndexOutOfBoundsException", name := "<init>", desc := "(Ljava/lang/String;)V" } : Jvm.MethodName)) ∈ lw_all := lw_g (lw_at lw_m6 171 rfl) rfl
theorem q1479 : (Jvm.Cond.lays "java/lang/ArrayIndexOutOfBoundsException" "java/lang/Throwable" "backtrace" "Ljava/lang/Object;") ∈ lw_all := lw_g (lw_at lw_m6 175 rfl) rfl
theorem q1480 : (Jvm.Cond.lays "java/lang/ArrayIndexOutOfBoundsException" "java/lang/Throwable" "detailMessage" "Ljava/lang/String;") ∈ lw_all := lw_g (lw_at lw_m6 176 rfl) rfl
theorem q1481 : (Jvm.Cond.lays "java/lang/ArrayIndexOutOfBoundsException" "java/lang/Throwable" "cause" "Ljava/lang/Throwable;") ∈ lw_all := lw_g (lw_at lw_m6 177 rfl) rfl
theorem q1482 : (Jvm.Cond.lays "java/lang/ArrayIndexOutOfBoundsException" "java/lang/Throwable" "stackTrace" "[Ljava/lang/StackTraceElement;") ∈ lw_all := lw_g (lw_at lw_m6 178 rfl) rfl
theorem q1483 : (Jvm.Cond.lays "java/lang/ArrayIndexOutOfBoundsException" "java/lang/Throwable" "depth" "I") ∈ lw_all := lw_g (lw_at lw_m6 179 rfl) rfl
theorem q1484 : (Jvm.Cond.lays "java/lang/ArrayIndexOutOfBoundsException" "java/lang/Throwable" "suppressedExceptions" "Ljava/util/List;") ∈ lw_all := lw_g (lw_at lw_m6 180 rfl) rfl
theorem q1485 : (Jvm.Cond.superclass "java/lang/ArrayIndexOutOfBoundsException" "java/lang/IndexOutOfBoundsException") ∈ lw_all := lw_g (lw_at lw_m6 181 rfl) rfl
theorem q1486 : (Jvm.Cond.castable "java/lang/ArrayIndexOutOfBoundsException" "java/lang/ArrayIndexOutOfBoundsException") ∈ lw_tbl := lw_at lw_m6 182 rfl
theorem q1489 : (Jvm.Cond.selects "java/lang/ArrayIndexOutOfBoundsException" ({ cls := "java/lang/Throwable", name := "fillInStackTrace", desc := "(I)Ljava/lang/Throwable;" } : Jvm.MethodName) ({ cls := "java/lang/Throwable", name := "fillInStackTrace", desc := "(I)Ljava/lang/Throwable;" } : Jvm.MethodName)) ∈ lw_all := lw_g (lw_at lw_m6 185 rfl) rfl
theorem q1761 : (Jvm.Cond.selects "java/lang/ArrayIndexOutOfBoundsException" ({ cls := "java/lang/Throwable", name := "toString", desc := "()Ljava/lang/String;" } : Jvm.MethodName) ({ cls := "java/lang/Throwable", name := "toString", desc := "()Ljava/lang/String;" } : Jvm.MethodName)) ∈ lw_all := lw_g (lw_at lw_m7 217 rfl) rfl
theorem q1775 : (Jvm.Cond.selects "java/lang/ArrayIndexOutOfBoundsException" ({ cls := "java/lang/Throwable", name := "getLocalizedMessage", desc := "()Ljava/lang/String;" } : Jvm.MethodName) ({ cls := "java/lang/Throwable", name := "getLocalizedMessage", desc := "()Ljava/lang/String;" } : Jvm.MethodName)) ∈ lw_all := lw_g (lw_at lw_m7 231 rfl) rfl
theorem q1788 : (Jvm.Cond.selects "java/lang/ArrayIndexOutOfBoundsException" ({ cls := "java/lang/Throwable", name := "getMessage", desc := "()Ljava/lang/String;" } : Jvm.MethodName) ({ cls := "java/lang/Throwable", name := "getMessage", desc := "()Ljava/lang/String;" } : Jvm.MethodName)) ∈ lw_all := lw_g (lw_at lw_m8 4 rfl) rfl
theorem q2481 : (Jvm.Cond.selects "java/lang/ArrayIndexOutOfBoundsException" ({ cls := "java/lang/Object", name := "equals", desc := "(Ljava/lang/Object;)Z" } : Jvm.MethodName) ({ cls := "java/lang/Object", name := "equals", desc := "(Ljava/lang/Object;)Z" } : Jvm.MethodName)) ∈ lw_all := lw_g (lw_at lw_m10 217 rfl) rfl
theorem q3817 : (Jvm.Cond.castable "java/lang/ArrayIndexOutOfBoundsException" "java/lang/IndexOutOfBoundsException") ∈ lw_tbl := lw_at lw_m16 113 rfl
theorem q3842 : (Jvm.Cond.castable "java/lang/ArrayIndexOutOfBoundsException" "java/lang/Object") ∈ lw_tbl := lw_at lw_m16 138 rfl
theorem in_J26 : ∀ w ∈ wsJ260, w ∈ lw_all := lw_in wsJ260 [1479, 1480, 1481, 1482, 1483, 1484] (by decide +kernel) (by decide +kernel)
def RJ27 : String := "java/util/Objects"
abbrev cJ27_checkIndex : ByteArray := prog_87_method_17_code
def yJ27_checkIndex : MethodName := ⟨RJ27, "checkIndex", "(II)I"⟩
theorem q157 : (Jvm.Cond.initialized "java/util/Objects") ∈ lw_all := lw_g (lw_at lw_m1 53 rfl) rfl
theorem q1715 : (Jvm.Cond.static ({ cls := "java/util/Objects", name := "checkIndex", desc := "(II)I" } : Jvm.MethodName)) ∈ lw_all := lw_g (lw_at lw_m7 171 rfl) rfl
theorem q1716 : (Jvm.Cond.code ({ cls := "java/util/Objects", name := "checkIndex", desc := "(II)I" } : Jvm.MethodName) prog_87_method_17_code (2 : Nat) (Option.some Jvm.ClassFile.FieldType.int)) ∈ lw_all := lw_g (lw_at lw_m7 172 rfl) rfl
theorem q1717 : (Jvm.Cond.methodLink "java/util/Objects" (105 : Nat) ({ cls := "jdk/internal/util/Preconditions", name := "checkIndex", desc := "(IILjava/util/function/BiFunction;)I" } : Jvm.MethodName)) ∈ lw_all := lw_g (lw_at lw_m7 173 rfl) rfl
def RJ28 : String := "java/util/LinkedList$Node"
def TJ28 : u_T := fun k => match k with
  | 0 => ("java/util/LinkedList$Node", "item", "Ljava/lang/Object;", false)
  | 1 => ("java/util/LinkedList$Node", "next", "Ljava/util/LinkedList$Node;", false)
  | _ => ("java/util/LinkedList$Node", "prev", "Ljava/util/LinkedList$Node;", false)
def tyJ28 : Nat → FieldType := fun k => match k with
  | 0 => .object "java/lang/Object"
  | 1 => .object "java/util/LinkedList$Node"
  | _ => .object "java/util/LinkedList$Node"
abbrev wsJ280 : List Cond := u_ws RJ28 TJ28 3
theorem nmJ28 : ∀ a, a < 3 → ∀ b, b < 3 → a ≠ b → (TJ28 a).2.1 ≠ (TJ28 b).2.1 := by decide +kernel
theorem tyJ28_ok : ∀ k, k < 3 → parseFieldDescriptor (TJ28 k).2.2.1 = some (tyJ28 k) := by decide +kernel
abbrev cJ28_init : ByteArray := prog_83_method_1_code
def yJ28_init : MethodName := ⟨RJ28, "<init>", "(Ljava/util/LinkedList$Node;Ljava/lang/Object;Ljava/util/LinkedList$Node;)V"⟩
theorem q159 : (Jvm.Cond.initialized "java/util/LinkedList$Node") ∈ lw_all := lw_g (lw_at lw_m1 55 rfl) rfl
theorem q986 : (Jvm.Cond.selects "java/util/LinkedList$Node" ({ cls := "java/lang/Object", name := "getClass", desc := "()Ljava/lang/Class;" } : Jvm.MethodName) ({ cls := "java/lang/Object", name := "getClass", desc := "()Ljava/lang/Class;" } : Jvm.MethodName)) ∈ lw_all := lw_g (lw_at lw_m4 162 rfl) rfl
theorem q2554 : (Jvm.Cond.instantiable "java/util/LinkedList$Node" (3 : Nat)) ∈ lw_all := lw_g (lw_at lw_m11 50 rfl) rfl
theorem q2556 : (Jvm.Cond.instanceMethod ({ cls := "java/util/LinkedList$Node", name := "<init>", desc := "(Ljava/util/LinkedList$Node;Ljava/lang/Object;Ljava/util/LinkedList$Node;)V" } : Jvm.MethodName)) ∈ lw_all := lw_g (lw_at lw_m11 52 rfl) rfl
theorem q2557 : (Jvm.Cond.code ({ cls := "java/util/LinkedList$Node", name := "<init>", desc := "(Ljava/util/LinkedList$Node;Ljava/lang/Object;Ljava/util/LinkedList$Node;)V" } : Jvm.MethodName) prog_83_method_1_code (4 : Nat) (Option.none : Option Jvm.ClassFile.FieldType)) ∈ lw_all := lw_g (lw_at lw_m11 53 rfl) rfl
theorem q2558 : (Jvm.Cond.methodLink "java/util/LinkedList$Node" (1 : Nat) ({ cls := "java/lang/Object", name := "<init>", desc := "()V" } : Jvm.MethodName)) ∈ lw_all := lw_g (lw_at lw_m11 54 rfl) rfl
theorem q2559 : (Jvm.Cond.fieldLink "java/util/LinkedList$Node" (7 : Nat) "java/util/LinkedList$Node" "item" "Ljava/lang/Object;") ∈ lw_all := lw_g (lw_at lw_m11 55 rfl) rfl
theorem q2562 : (Jvm.Cond.fieldLink "java/util/LinkedList$Node" (13 : Nat) "java/util/LinkedList$Node" "next" "Ljava/util/LinkedList$Node;") ∈ lw_all := lw_g (lw_at lw_m11 58 rfl) rfl
theorem q2565 : (Jvm.Cond.fieldLink "java/util/LinkedList$Node" (17 : Nat) "java/util/LinkedList$Node" "prev" "Ljava/util/LinkedList$Node;") ∈ lw_all := lw_g (lw_at lw_m11 61 rfl) rfl
theorem q2567 : (Jvm.Cond.lays "java/util/LinkedList$Node" "java/util/LinkedList$Node" "item" "Ljava/lang/Object;") ∈ lw_all := lw_g (lw_at lw_m11 63 rfl) rfl
theorem q2568 : (Jvm.Cond.soleField "java/util/LinkedList$Node" "item") ∈ lw_all := lw_g (lw_at lw_m11 64 rfl) rfl
theorem q2569 : (Jvm.Cond.lays "java/util/LinkedList$Node" "java/util/LinkedList$Node" "next" "Ljava/util/LinkedList$Node;") ∈ lw_all := lw_g (lw_at lw_m11 65 rfl) rfl
theorem q2570 : (Jvm.Cond.soleField "java/util/LinkedList$Node" "next") ∈ lw_all := lw_g (lw_at lw_m11 66 rfl) rfl
theorem q2571 : (Jvm.Cond.lays "java/util/LinkedList$Node" "java/util/LinkedList$Node" "prev" "Ljava/util/LinkedList$Node;") ∈ lw_all := lw_g (lw_at lw_m11 67 rfl) rfl
theorem q2572 : (Jvm.Cond.soleField "java/util/LinkedList$Node" "prev") ∈ lw_all := lw_g (lw_at lw_m11 68 rfl) rfl
theorem q2573 : (Jvm.Cond.superclass "java/util/LinkedList$Node" "java/lang/Object") ∈ lw_all := lw_g (lw_at lw_m11 69 rfl) rfl
theorem q3859 : (Jvm.Cond.castable "java/util/LinkedList$Node" "java/lang/Object") ∈ lw_tbl := lw_at lw_m16 155 rfl
theorem in_J28 : ∀ w ∈ wsJ280, w ∈ lw_all := lw_in wsJ280 [2567, 2569, 2571] (by decide +kernel) (by decide +kernel)
def RJ29 : String := "java/util/ArrayList$Itr"
def TJ29 : u_T := fun k => match k with
  | 0 => ("java/util/ArrayList$Itr", "cursor", "I", false)
  | 1 => ("java/util/ArrayList$Itr", "lastRet", "I", false)
  | 2 => ("java/util/ArrayList$Itr", "expectedModCount", "I", false)
  | _ => ("java/util/ArrayList$Itr", "this$0", "Ljava/util/ArrayList;", true)
def tyJ29 : Nat → FieldType := fun k => match k with
  | 0 => .int
  | 1 => .int
  | 2 => .int
  | _ => .object "java/util/ArrayList"
abbrev wsJ290 : List Cond := u_ws RJ29 TJ29 4
theorem nmJ29 : ∀ a, a < 4 → ∀ b, b < 4 → a ≠ b → (TJ29 a).2.1 ≠ (TJ29 b).2.1 := by decide +kernel
theorem tyJ29_ok : ∀ k, k < 4 → parseFieldDescriptor (TJ29 k).2.2.1 = some (tyJ29 k) := by decide +kernel
abbrev cJ29_init : ByteArray := prog_67_method_1_code
def yJ29_init : MethodName := ⟨RJ29, "<init>", "(Ljava/util/ArrayList;)V"⟩
abbrev cJ29_hasNext : ByteArray := prog_67_method_2_code
def yJ29_hasNext : MethodName := ⟨RJ29, "hasNext", "()Z"⟩
abbrev cJ29_next : ByteArray := prog_67_method_3_code
def yJ29_next : MethodName := ⟨RJ29, "next", "()Ljava/lang/Object;"⟩
abbrev cJ29_checkForComodification : ByteArray := prog_67_method_6_code
def yJ29_checkForComodification : MethodName := ⟨RJ29, "checkForComodification", "()V"⟩
abbrev cJ29_remove : ByteArray := prog_67_method_4_code
def yJ29_remove : MethodName := ⟨RJ29, "remove", "()V"⟩
theorem q160 : (Jvm.Cond.initialized "java/util/ArrayList$Itr") ∈ lw_all := lw_g (lw_at lw_m1 56 rfl) rfl
theorem q212 : (Jvm.Cond.fieldLink "java/util/ArrayList$Itr" (17 : Nat) "java/util/ArrayList" "modCount" "I") ∈ lw_all := lw_g (lw_at lw_m1 108 rfl) rfl
theorem q577 : (Jvm.Cond.fieldLink "java/util/ArrayList$Itr" (37 : Nat) "java/util/ArrayList" "elementData" "[Ljava/lang/Object;") ∈ lw_all := lw_g (lw_at lw_m2 233 rfl) rfl
theorem q578 : (Jvm.Cond.fieldLinkNest "java/util/ArrayList$Itr" (28 : Nat) "java/util/ArrayList" "size" "I" "java/util/ArrayList") ∈ lw_tbl := lw_at lw_m2 234 rfl
theorem q978 : (Jvm.Cond.selects "java/util/ArrayList$Itr" ({ cls := "java/lang/Object", name := "getClass", desc := "()Ljava/lang/Class;" } : Jvm.MethodName) ({ cls := "java/lang/Object", name := "getClass", desc := "()Ljava/lang/Class;" } : Jvm.MethodName)) ∈ lw_all := lw_g (lw_at lw_m4 154 rfl) rfl
theorem q1584 : (Jvm.Cond.instanceMethod ({ cls := "java/util/ArrayList$Itr", name := "<init>", desc := "(Ljava/util/ArrayList;)V" } : Jvm.MethodName)) ∈ lw_all := lw_g (lw_at lw_m7 40 rfl) rfl
theorem q1585 : (Jvm.Cond.code ({ cls := "java/util/ArrayList$Itr", name := "<init>", desc := "(Ljava/util/ArrayList;)V" } : Jvm.MethodName) prog_67_method_1_code (2 : Nat) (Option.none : Option Jvm.ClassFile.FieldType)) ∈ lw_all := lw_g (lw_at lw_m7 41 rfl) rfl
theorem q1586 : (Jvm.Cond.methodLink "java/util/ArrayList$Itr" (7 : Nat) ({ cls := "java/lang/Object", name := "<init>", desc := "()V" } : Jvm.MethodName)) ∈ lw_all := lw_g (lw_at lw_m7 42 rfl) rfl
theorem q1590 : (Jvm.Cond.fieldLink "java/util/ArrayList$Itr" (25 : Nat) "java/util/ArrayList$Itr" "cursor" "I") ∈ lw_all := lw_g (lw_at lw_m7 46 rfl) rfl
theorem q1591 : (Jvm.Cond.fieldLink "java/util/ArrayList$Itr" (13 : Nat) "java/util/ArrayList$Itr" "lastRet" "I") ∈ lw_all := lw_g (lw_at lw_m7 47 rfl) rfl
theorem q1592 : (Jvm.Cond.fieldLink "java/util/ArrayList$Itr" (22 : Nat) "java/util/ArrayList$Itr" "expectedModCount" "I") ∈ lw_all := lw_g (lw_at lw_m7 48 rfl) rfl
theorem q1593 : (Jvm.Cond.fieldLink "java/util/ArrayList$Itr" (1 : Nat) "java/util/ArrayList$Itr" "this$0" "Ljava/util/ArrayList;") ∈ lw_all := lw_g (lw_at lw_m7 49 rfl) rfl
theorem q1597 : (Jvm.Cond.soleField "java/util/ArrayList$Itr" "cursor") ∈ lw_all := lw_g (lw_at lw_m7 53 rfl) rfl
theorem q1599 : (Jvm.Cond.soleField "java/util/ArrayList$Itr" "lastRet") ∈ lw_all := lw_g (lw_at lw_m7 55 rfl) rfl
theorem q1601 : (Jvm.Cond.soleField "java/util/ArrayList$Itr" "expectedModCount") ∈ lw_all := lw_g (lw_at lw_m7 57 rfl) rfl
theorem q1603 : (Jvm.Cond.soleField "java/util/ArrayList$Itr" "this$0") ∈ lw_all := lw_g (lw_at lw_m7 59 rfl) rfl
theorem q1673 : (Jvm.Cond.castable "java/util/ArrayList$Itr" "java/util/Iterator") ∈ lw_tbl := lw_at lw_m7 129 rfl
theorem q1674 : (Jvm.Cond.selects "java/util/ArrayList$Itr" ({ cls := "java/util/Iterator", name := "hasNext", desc := "()Z" } : Jvm.MethodName) ({ cls := "java/util/ArrayList$Itr", name := "hasNext", desc := "()Z" } : Jvm.MethodName)) ∈ lw_all := lw_g (lw_at lw_m7 130 rfl) rfl
theorem q1675 : (Jvm.Cond.unhidden "java/util/ArrayList$Itr" "hasNext" "()Z") ∈ lw_tbl := lw_at lw_m7 131 rfl
theorem q1676 : (Jvm.Cond.instanceMethod ({ cls := "java/util/ArrayList$Itr", name := "hasNext", desc := "()Z" } : Jvm.MethodName)) ∈ lw_all := lw_g (lw_at lw_m7 132 rfl) rfl
theorem q1677 : (Jvm.Cond.publicMethod ({ cls := "java/util/ArrayList$Itr", name := "hasNext", desc := "()Z" } : Jvm.MethodName)) ∈ lw_tbl := lw_at lw_m7 133 rfl
theorem q1678 : (Jvm.Cond.code ({ cls := "java/util/ArrayList$Itr", name := "hasNext", desc := "()Z" } : Jvm.MethodName) prog_67_method_2_code (1 : Nat) (Option.some Jvm.ClassFile.FieldType.boolean)) ∈ lw_all := lw_g (lw_at lw_m7 134 rfl) rfl
theorem q1802 : (Jvm.Cond.selects "java/util/ArrayList$Itr" ({ cls := "java/util/Iterator", name := "next", desc := "()Ljava/lang/Object;" } : Jvm.MethodName) ({ cls := "java/util/ArrayList$Itr", name := "next", desc := "()Ljava/lang/Object;" } : Jvm.MethodName)) ∈ lw_all := lw_g (lw_at lw_m8 18 rfl) rfl
theorem q1803 : (Jvm.Cond.unhidden "java/util/ArrayList$Itr" "next" "()Ljava/lang/Object;") ∈ lw_tbl := lw_at lw_m8 19 rfl
theorem q1804 : (Jvm.Cond.instanceMethod ({ cls := "java/util/ArrayList$Itr", name := "next", desc := "()Ljava/lang/Object;" } : Jvm.MethodName)) ∈ lw_all := lw_g (lw_at lw_m8 20 rfl) rfl
theorem q1805 : (Jvm.Cond.publicMethod ({ cls := "java/util/ArrayList$Itr", name := "next", desc := "()Ljava/lang/Object;" } : Jvm.MethodName)) ∈ lw_tbl := lw_at lw_m8 21 rfl
theorem q1806 : (Jvm.Cond.code ({ cls := "java/util/ArrayList$Itr", name := "next", desc := "()Ljava/lang/Object;" } : Jvm.MethodName) prog_67_method_3_code (3 : Nat) (Option.some (Jvm.ClassFile.FieldType.object "java/lang/Object"))) ∈ lw_all := lw_g (lw_at lw_m8 22 rfl) rfl
theorem q1807 : (Jvm.Cond.methodLink "java/util/ArrayList$Itr" (31 : Nat) ({ cls := "java/util/ArrayList$Itr", name := "checkForComodification", desc := "()V" } : Jvm.MethodName)) ∈ lw_all := lw_g (lw_at lw_m8 23 rfl) rfl
theorem q1808 : (Jvm.Cond.instanceMethod ({ cls := "java/util/ArrayList$Itr", name := "checkForComodification", desc := "()V" } : Jvm.MethodName)) ∈ lw_all := lw_g (lw_at lw_m8 24 rfl) rfl
theorem q1809 : (Jvm.Cond.selects "java/util/ArrayList$Itr" ({ cls := "java/util/ArrayList$Itr", name := "checkForComodification", desc := "()V" } : Jvm.MethodName) ({ cls := "java/util/ArrayList$Itr", name := "checkForComodification", desc := "()V" } : Jvm.MethodName)) ∈ lw_all := lw_g (lw_at lw_m8 25 rfl) rfl
theorem q1810 : (Jvm.Cond.sameMethod "java/util/ArrayList$Itr" "java/util/ArrayList$Itr" "checkForComodification" "()V") ∈ lw_all := lw_g (lw_at lw_m8 26 rfl) rfl
theorem q1812 : (Jvm.Cond.code ({ cls := "java/util/ArrayList$Itr", name := "checkForComodification", desc := "()V" } : Jvm.MethodName) prog_67_method_6_code (1 : Nat) (Option.none : Option Jvm.ClassFile.FieldType)) ∈ lw_all := lw_g (lw_at lw_m8 28 rfl) rfl
theorem q1916 : (Jvm.Cond.selects "java/util/ArrayList$Itr" ({ cls := "java/util/Iterator", name := "remove", desc := "()V" } : Jvm.MethodName) ({ cls := "java/util/ArrayList$Itr", name := "remove", desc := "()V" } : Jvm.MethodName)) ∈ lw_all := lw_g (lw_at lw_m8 132 rfl) rfl
theorem q1917 : (Jvm.Cond.unhidden "java/util/ArrayList$Itr" "remove" "()V") ∈ lw_tbl := lw_at lw_m8 133 rfl
theorem q1918 : (Jvm.Cond.instanceMethod ({ cls := "java/util/ArrayList$Itr", name := "remove", desc := "()V" } : Jvm.MethodName)) ∈ lw_all := lw_g (lw_at lw_m8 134 rfl) rfl
theorem q1919 : (Jvm.Cond.publicMethod ({ cls := "java/util/ArrayList$Itr", name := "remove", desc := "()V" } : Jvm.MethodName)) ∈ lw_tbl := lw_at lw_m8 135 rfl
theorem q1920 : (Jvm.Cond.codeWith ({ cls := "java/util/ArrayList$Itr", name := "remove", desc := "()V" } : Jvm.MethodName) prog_67_method_4_code (2 : Nat) (Option.none : Option Jvm.ClassFile.FieldType) [((19 : Nat), (55 : Nat), (58 : Nat), (51 : Nat))]) ∈ lw_all := lw_g (lw_at lw_m8 136 rfl) rfl
theorem q1921 : (Jvm.Cond.classLink "java/util/ArrayList$Itr" (44 : Nat) "java/lang/IllegalStateException") ∈ lw_all := lw_g (lw_at lw_m8 137 rfl) rfl
theorem q1922 : (Jvm.Cond.methodLink "java/util/ArrayList$Itr" (46 : Nat) ({ cls := "java/lang/IllegalStateException", name := "<init>", desc := "()V" } : Jvm.MethodName)) ∈ lw_all := lw_g (lw_at lw_m8 138 rfl) rfl
theorem q1923 : (Jvm.Cond.methodLink "java/util/ArrayList$Itr" (47 : Nat) ({ cls := "java/util/ArrayList", name := "remove", desc := "(I)Ljava/lang/Object;" } : Jvm.MethodName)) ∈ lw_all := lw_g (lw_at lw_m8 139 rfl) rfl
theorem q1924 : (Jvm.Cond.classLink "java/util/ArrayList$Itr" (41 : Nat) "java/util/ConcurrentModificationException") ∈ lw_all := lw_g (lw_at lw_m8 140 rfl) rfl
theorem q1925 : (Jvm.Cond.methodLink "java/util/ArrayList$Itr" (43 : Nat) ({ cls := "java/util/ConcurrentModificationException", name := "<init>", desc := "()V" } : Jvm.MethodName)) ∈ lw_all := lw_g (lw_at lw_m8 141 rfl) rfl
theorem q2998 : (Jvm.Cond.instantiable "java/util/ArrayList$Itr" (4 : Nat)) ∈ lw_all := lw_g (lw_at lw_m13 14 rfl) rfl
theorem q3000 : (Jvm.Cond.lays "java/util/ArrayList$Itr" "java/util/ArrayList$Itr" "cursor" "I") ∈ lw_all := lw_g (lw_at lw_m13 16 rfl) rfl
theorem q3001 : (Jvm.Cond.lays "java/util/ArrayList$Itr" "java/util/ArrayList$Itr" "lastRet" "I") ∈ lw_all := lw_g (lw_at lw_m13 17 rfl) rfl
theorem q3002 : (Jvm.Cond.lays "java/util/ArrayList$Itr" "java/util/ArrayList$Itr" "expectedModCount" "I") ∈ lw_all := lw_g (lw_at lw_m13 18 rfl) rfl
theorem q3003 : (Jvm.Cond.laysFinal "java/util/ArrayList$Itr" "java/util/ArrayList$Itr" "this$0" "Ljava/util/ArrayList;") ∈ lw_all := lw_g (lw_at lw_m13 19 rfl) rfl
theorem q3004 : (Jvm.Cond.superclass "java/util/ArrayList$Itr" "java/lang/Object") ∈ lw_all := lw_g (lw_at lw_m13 20 rfl) rfl
theorem q3860 : (Jvm.Cond.castable "java/util/ArrayList$Itr" "java/lang/Object") ∈ lw_tbl := lw_at lw_m16 156 rfl
theorem in_J29 : ∀ w ∈ wsJ290, w ∈ lw_all := lw_in wsJ290 [3000, 3001, 3002, 3003] (by decide +kernel) (by decide +kernel)
def RJ30 : String := "java/util/ImmutableCollections$ListItr"
def TJ30 : u_T := fun k => match k with
  | 0 => ("java/util/ImmutableCollections$ListItr", "list", "Ljava/util/List;", true)
  | 1 => ("java/util/ImmutableCollections$ListItr", "size", "I", true)
  | 2 => ("java/util/ImmutableCollections$ListItr", "isListIterator", "Z", true)
  | _ => ("java/util/ImmutableCollections$ListItr", "cursor", "I", false)
def tyJ30 : Nat → FieldType := fun k => match k with
  | 0 => .object "java/util/List"
  | 1 => .int
  | 2 => .boolean
  | _ => .int
abbrev wsJ300 : List Cond := u_ws RJ30 TJ30 4
theorem nmJ30 : ∀ a, a < 4 → ∀ b, b < 4 → a ≠ b → (TJ30 a).2.1 ≠ (TJ30 b).2.1 := by decide +kernel
theorem tyJ30_ok : ∀ k, k < 4 → parseFieldDescriptor (TJ30 k).2.2.1 = some (tyJ30 k) := by decide +kernel
abbrev cJ30_hasNext : ByteArray := prog_78_method_3_code
def yJ30_hasNext : MethodName := ⟨RJ30, "hasNext", "()Z"⟩
abbrev cJ30_next : ByteArray := prog_78_method_4_code
def yJ30_next : MethodName := ⟨RJ30, "next", "()Ljava/lang/Object;"⟩
abbrev cJ30_remove : ByteArray := prog_78_method_5_code
def yJ30_remove : MethodName := ⟨RJ30, "remove", "()V"⟩
abbrev cJ30_init : ByteArray := prog_78_method_1_code
def yJ30_init : MethodName := ⟨RJ30, "<init>", "(Ljava/util/List;I)V"⟩
theorem q161 : (Jvm.Cond.initialized "java/util/ImmutableCollections$ListItr") ∈ lw_all := lw_g (lw_at lw_m1 57 rfl) rfl
theorem q982 : (Jvm.Cond.selects "java/util/ImmutableCollections$ListItr" ({ cls := "java/lang/Object", name := "getClass", desc := "()Ljava/lang/Class;" } : Jvm.MethodName) ({ cls := "java/lang/Object", name := "getClass", desc := "()Ljava/lang/Class;" } : Jvm.MethodName)) ∈ lw_all := lw_g (lw_at lw_m4 158 rfl) rfl
theorem q1682 : (Jvm.Cond.castable "java/util/ImmutableCollections$ListItr" "java/util/Iterator") ∈ lw_tbl := lw_at lw_m7 138 rfl
theorem q1683 : (Jvm.Cond.selects "java/util/ImmutableCollections$ListItr" ({ cls := "java/util/Iterator", name := "hasNext", desc := "()Z" } : Jvm.MethodName) ({ cls := "java/util/ImmutableCollections$ListItr", name := "hasNext", desc := "()Z" } : Jvm.MethodName)) ∈ lw_all := lw_g (lw_at lw_m7 139 rfl) rfl
theorem q1684 : (Jvm.Cond.unhidden "java/util/ImmutableCollections$ListItr" "hasNext" "()Z") ∈ lw_tbl := lw_at lw_m7 140 rfl
theorem q1685 : (Jvm.Cond.instanceMethod ({ cls := "java/util/ImmutableCollections$ListItr", name := "hasNext", desc := "()Z" } : Jvm.MethodName)) ∈ lw_all := lw_g (lw_at lw_m7 141 rfl) rfl
theorem q1686 : (Jvm.Cond.publicMethod ({ cls := "java/util/ImmutableCollections$ListItr", name := "hasNext", desc := "()Z" } : Jvm.MethodName)) ∈ lw_tbl := lw_at lw_m7 142 rfl
theorem q1687 : (Jvm.Cond.code ({ cls := "java/util/ImmutableCollections$ListItr", name := "hasNext", desc := "()Z" } : Jvm.MethodName) prog_78_method_3_code (1 : Nat) (Option.some Jvm.ClassFile.FieldType.boolean)) ∈ lw_all := lw_g (lw_at lw_m7 143 rfl) rfl
theorem q1815 : (Jvm.Cond.selects "java/util/ImmutableCollections$ListItr" ({ cls := "java/util/Iterator", name := "next", desc := "()Ljava/lang/Object;" } : Jvm.MethodName) ({ cls := "java/util/ImmutableCollections$ListItr", name := "next", desc := "()Ljava/lang/Object;" } : Jvm.MethodName)) ∈ lw_all := lw_g (lw_at lw_m8 31 rfl) rfl
theorem q1816 : (Jvm.Cond.unhidden "java/util/ImmutableCollections$ListItr" "next" "()Ljava/lang/Object;") ∈ lw_tbl := lw_at lw_m8 32 rfl
theorem q1817 : (Jvm.Cond.instanceMethod ({ cls := "java/util/ImmutableCollections$ListItr", name := "next", desc := "()Ljava/lang/Object;" } : Jvm.MethodName)) ∈ lw_all := lw_g (lw_at lw_m8 33 rfl) rfl
theorem q1818 : (Jvm.Cond.publicMethod ({ cls := "java/util/ImmutableCollections$ListItr", name := "next", desc := "()Ljava/lang/Object;" } : Jvm.MethodName)) ∈ lw_tbl := lw_at lw_m8 34 rfl
theorem q1819 : (Jvm.Cond.codeWith ({ cls := "java/util/ImmutableCollections$ListItr", name := "next", desc := "()Ljava/lang/Object;" } : Jvm.MethodName) prog_78_method_4_code (3 : Nat) (Option.some (Jvm.ClassFile.FieldType.object "java/lang/Object")) [((0 : Nat), (24 : Nat), (25 : Nat), (30 : Nat))]) ∈ lw_all := lw_g (lw_at lw_m8 35 rfl) rfl
theorem q1820 : (Jvm.Cond.interfaceEntry "java/util/ImmutableCollections$ListItr" (24 : Nat)) ∈ lw_tbl := lw_at lw_m8 36 rfl
theorem q1821 : (Jvm.Cond.methodLink "java/util/ImmutableCollections$ListItr" (24 : Nat) ({ cls := "java/util/List", name := "get", desc := "(I)Ljava/lang/Object;" } : Jvm.MethodName)) ∈ lw_all := lw_g (lw_at lw_m8 37 rfl) rfl
theorem q1838 : (Jvm.Cond.classLink "java/util/ImmutableCollections$ListItr" (32 : Nat) "java/util/NoSuchElementException") ∈ lw_all := lw_g (lw_at lw_m8 54 rfl) rfl
theorem q1839 : (Jvm.Cond.methodLink "java/util/ImmutableCollections$ListItr" (34 : Nat) ({ cls := "java/util/NoSuchElementException", name := "<init>", desc := "()V" } : Jvm.MethodName)) ∈ lw_all := lw_g (lw_at lw_m8 55 rfl) rfl
theorem q1928 : (Jvm.Cond.selects "java/util/ImmutableCollections$ListItr" ({ cls := "java/util/Iterator", name := "remove", desc := "()V" } : Jvm.MethodName) ({ cls := "java/util/ImmutableCollections$ListItr", name := "remove", desc := "()V" } : Jvm.MethodName)) ∈ lw_all := lw_g (lw_at lw_m8 144 rfl) rfl
theorem q1929 : (Jvm.Cond.unhidden "java/util/ImmutableCollections$ListItr" "remove" "()V") ∈ lw_tbl := lw_at lw_m8 145 rfl
theorem q1930 : (Jvm.Cond.instanceMethod ({ cls := "java/util/ImmutableCollections$ListItr", name := "remove", desc := "()V" } : Jvm.MethodName)) ∈ lw_all := lw_g (lw_at lw_m8 146 rfl) rfl
theorem q1931 : (Jvm.Cond.publicMethod ({ cls := "java/util/ImmutableCollections$ListItr", name := "remove", desc := "()V" } : Jvm.MethodName)) ∈ lw_tbl := lw_at lw_m8 147 rfl
theorem q1932 : (Jvm.Cond.code ({ cls := "java/util/ImmutableCollections$ListItr", name := "remove", desc := "()V" } : Jvm.MethodName) prog_78_method_5_code (1 : Nat) (Option.none : Option Jvm.ClassFile.FieldType)) ∈ lw_all := lw_g (lw_at lw_m8 148 rfl) rfl
theorem q3011 : (Jvm.Cond.instantiable "java/util/ImmutableCollections$ListItr" (4 : Nat)) ∈ lw_all := lw_g (lw_at lw_m13 27 rfl) rfl
theorem q3016 : (Jvm.Cond.instanceMethod ({ cls := "java/util/ImmutableCollections$ListItr", name := "<init>", desc := "(Ljava/util/List;I)V" } : Jvm.MethodName)) ∈ lw_all := lw_g (lw_at lw_m13 32 rfl) rfl
theorem q3017 : (Jvm.Cond.code ({ cls := "java/util/ImmutableCollections$ListItr", name := "<init>", desc := "(Ljava/util/List;I)V" } : Jvm.MethodName) prog_78_method_1_code (3 : Nat) (Option.none : Option Jvm.ClassFile.FieldType)) ∈ lw_all := lw_g (lw_at lw_m13 33 rfl) rfl
theorem q3018 : (Jvm.Cond.methodLink "java/util/ImmutableCollections$ListItr" (1 : Nat) ({ cls := "java/lang/Object", name := "<init>", desc := "()V" } : Jvm.MethodName)) ∈ lw_all := lw_g (lw_at lw_m13 34 rfl) rfl
theorem q3019 : (Jvm.Cond.fieldLink "java/util/ImmutableCollections$ListItr" (7 : Nat) "java/util/ImmutableCollections$ListItr" "list" "Ljava/util/List;") ∈ lw_all := lw_g (lw_at lw_m13 35 rfl) rfl
theorem q3020 : (Jvm.Cond.fieldLink "java/util/ImmutableCollections$ListItr" (13 : Nat) "java/util/ImmutableCollections$ListItr" "size" "I") ∈ lw_all := lw_g (lw_at lw_m13 36 rfl) rfl
theorem q3021 : (Jvm.Cond.fieldLink "java/util/ImmutableCollections$ListItr" (20 : Nat) "java/util/ImmutableCollections$ListItr" "isListIterator" "Z") ∈ lw_all := lw_g (lw_at lw_m13 37 rfl) rfl
theorem q3022 : (Jvm.Cond.fieldLink "java/util/ImmutableCollections$ListItr" (17 : Nat) "java/util/ImmutableCollections$ListItr" "cursor" "I") ∈ lw_all := lw_g (lw_at lw_m13 38 rfl) rfl
theorem q3023 : (Jvm.Cond.laysFinal "java/util/ImmutableCollections$ListItr" "java/util/ImmutableCollections$ListItr" "list" "Ljava/util/List;") ∈ lw_all := lw_g (lw_at lw_m13 39 rfl) rfl
theorem q3024 : (Jvm.Cond.soleField "java/util/ImmutableCollections$ListItr" "list") ∈ lw_all := lw_g (lw_at lw_m13 40 rfl) rfl
theorem q3025 : (Jvm.Cond.laysFinal "java/util/ImmutableCollections$ListItr" "java/util/ImmutableCollections$ListItr" "size" "I") ∈ lw_all := lw_g (lw_at lw_m13 41 rfl) rfl
theorem q3026 : (Jvm.Cond.soleField "java/util/ImmutableCollections$ListItr" "size") ∈ lw_all := lw_g (lw_at lw_m13 42 rfl) rfl
theorem q3027 : (Jvm.Cond.laysFinal "java/util/ImmutableCollections$ListItr" "java/util/ImmutableCollections$ListItr" "isListIterator" "Z") ∈ lw_all := lw_g (lw_at lw_m13 43 rfl) rfl
theorem q3028 : (Jvm.Cond.soleField "java/util/ImmutableCollections$ListItr" "isListIterator") ∈ lw_all := lw_g (lw_at lw_m13 44 rfl) rfl
theorem q3029 : (Jvm.Cond.lays "java/util/ImmutableCollections$ListItr" "java/util/ImmutableCollections$ListItr" "cursor" "I") ∈ lw_all := lw_g (lw_at lw_m13 45 rfl) rfl
theorem q3030 : (Jvm.Cond.soleField "java/util/ImmutableCollections$ListItr" "cursor") ∈ lw_all := lw_g (lw_at lw_m13 46 rfl) rfl
theorem q3031 : (Jvm.Cond.superclass "java/util/ImmutableCollections$ListItr" "java/lang/Object") ∈ lw_all := lw_g (lw_at lw_m13 47 rfl) rfl
theorem q3871 : (Jvm.Cond.castable "java/util/ImmutableCollections$ListItr" "java/lang/Object") ∈ lw_tbl := lw_at lw_m16 167 rfl
theorem in_J30 : ∀ w ∈ wsJ300, w ∈ lw_all := lw_in wsJ300 [3023, 3025, 3027, 3029] (by decide +kernel) (by decide +kernel)
def RJ31 : String := "java/util/AbstractList$Itr"
abbrev cJ31_hasNext : ByteArray := prog_62_method_2_code
def yJ31_hasNext : MethodName := ⟨RJ31, "hasNext", "()Z"⟩
abbrev cJ31_next : ByteArray := prog_62_method_3_code
def yJ31_next : MethodName := ⟨RJ31, "next", "()Ljava/lang/Object;"⟩
abbrev cJ31_checkForComodification : ByteArray := prog_62_method_5_code
def yJ31_checkForComodification : MethodName := ⟨RJ31, "checkForComodification", "()V"⟩
abbrev cJ31_remove : ByteArray := prog_62_method_4_code
def yJ31_remove : MethodName := ⟨RJ31, "remove", "()V"⟩
theorem q162 : (Jvm.Cond.initialized "java/util/AbstractList$Itr") ∈ lw_all := lw_g (lw_at lw_m1 58 rfl) rfl
theorem q214 : (Jvm.Cond.fieldLink "java/util/AbstractList$Itr" (20 : Nat) "java/util/AbstractList" "modCount" "I") ∈ lw_all := lw_g (lw_at lw_m1 110 rfl) rfl
theorem q1663 : (Jvm.Cond.instanceMethod ({ cls := "java/util/AbstractList$Itr", name := "hasNext", desc := "()Z" } : Jvm.MethodName)) ∈ lw_all := lw_g (lw_at lw_m7 119 rfl) rfl
theorem q1664 : (Jvm.Cond.publicMethod ({ cls := "java/util/AbstractList$Itr", name := "hasNext", desc := "()Z" } : Jvm.MethodName)) ∈ lw_tbl := lw_at lw_m7 120 rfl
theorem q1665 : (Jvm.Cond.code ({ cls := "java/util/AbstractList$Itr", name := "hasNext", desc := "()Z" } : Jvm.MethodName) prog_62_method_2_code (1 : Nat) (Option.some Jvm.ClassFile.FieldType.boolean)) ∈ lw_all := lw_g (lw_at lw_m7 121 rfl) rfl
theorem q1666 : (Jvm.Cond.methodLink "java/util/AbstractList$Itr" (28 : Nat) ({ cls := "java/util/AbstractList", name := "size", desc := "()I" } : Jvm.MethodName)) ∈ lw_all := lw_g (lw_at lw_m7 122 rfl) rfl
theorem q1700 : (Jvm.Cond.instanceMethod ({ cls := "java/util/AbstractList$Itr", name := "next", desc := "()Ljava/lang/Object;" } : Jvm.MethodName)) ∈ lw_all := lw_g (lw_at lw_m7 156 rfl) rfl
theorem q1701 : (Jvm.Cond.publicMethod ({ cls := "java/util/AbstractList$Itr", name := "next", desc := "()Ljava/lang/Object;" } : Jvm.MethodName)) ∈ lw_tbl := lw_at lw_m7 157 rfl
theorem q1702 : (Jvm.Cond.codeWith ({ cls := "java/util/AbstractList$Itr", name := "next", desc := "()Ljava/lang/Object;" } : Jvm.MethodName) prog_62_method_3_code (3 : Nat) (Option.some (Jvm.ClassFile.FieldType.object "java/lang/Object")) [((4 : Nat), (31 : Nat), (32 : Nat), (39 : Nat))]) ∈ lw_all := lw_g (lw_at lw_m7 158 rfl) rfl
theorem q1703 : (Jvm.Cond.methodLink "java/util/AbstractList$Itr" (32 : Nat) ({ cls := "java/util/AbstractList$Itr", name := "checkForComodification", desc := "()V" } : Jvm.MethodName)) ∈ lw_all := lw_g (lw_at lw_m7 159 rfl) rfl
theorem q1704 : (Jvm.Cond.instanceMethod ({ cls := "java/util/AbstractList$Itr", name := "checkForComodification", desc := "()V" } : Jvm.MethodName)) ∈ lw_all := lw_g (lw_at lw_m7 160 rfl) rfl
theorem q1705 : (Jvm.Cond.sameMethod "java/util/AbstractList$Itr" "java/util/AbstractList$Itr" "checkForComodification" "()V") ∈ lw_all := lw_g (lw_at lw_m7 161 rfl) rfl
theorem q1707 : (Jvm.Cond.code ({ cls := "java/util/AbstractList$Itr", name := "checkForComodification", desc := "()V" } : Jvm.MethodName) prog_62_method_5_code (1 : Nat) (Option.none : Option Jvm.ClassFile.FieldType)) ∈ lw_all := lw_g (lw_at lw_m7 163 rfl) rfl
theorem q1708 : (Jvm.Cond.methodLink "java/util/AbstractList$Itr" (35 : Nat) ({ cls := "java/util/AbstractList", name := "get", desc := "(I)Ljava/lang/Object;" } : Jvm.MethodName)) ∈ lw_all := lw_g (lw_at lw_m7 164 rfl) rfl
theorem q1734 : (Jvm.Cond.classLink "java/util/AbstractList$Itr" (41 : Nat) "java/util/NoSuchElementException") ∈ lw_all := lw_g (lw_at lw_m7 190 rfl) rfl
theorem q1743 : (Jvm.Cond.methodLink "java/util/AbstractList$Itr" (43 : Nat) ({ cls := "java/util/NoSuchElementException", name := "<init>", desc := "(Ljava/lang/Throwable;)V" } : Jvm.MethodName)) ∈ lw_all := lw_g (lw_at lw_m7 199 rfl) rfl
theorem q1878 : (Jvm.Cond.instanceMethod ({ cls := "java/util/AbstractList$Itr", name := "remove", desc := "()V" } : Jvm.MethodName)) ∈ lw_all := lw_g (lw_at lw_m8 94 rfl) rfl
theorem q1879 : (Jvm.Cond.publicMethod ({ cls := "java/util/AbstractList$Itr", name := "remove", desc := "()V" } : Jvm.MethodName)) ∈ lw_tbl := lw_at lw_m8 95 rfl
theorem q1880 : (Jvm.Cond.codeWith ({ cls := "java/util/AbstractList$Itr", name := "remove", desc := "()V" } : Jvm.MethodName) prog_62_method_4_code (2 : Nat) (Option.none : Option Jvm.ClassFile.FieldType) [((19 : Nat), (68 : Nat), (71 : Nat), (39 : Nat))]) ∈ lw_all := lw_g (lw_at lw_m8 96 rfl) rfl
theorem q1881 : (Jvm.Cond.classLink "java/util/AbstractList$Itr" (46 : Nat) "java/lang/IllegalStateException") ∈ lw_all := lw_g (lw_at lw_m8 97 rfl) rfl
theorem q1882 : (Jvm.Cond.methodLink "java/util/AbstractList$Itr" (48 : Nat) ({ cls := "java/lang/IllegalStateException", name := "<init>", desc := "()V" } : Jvm.MethodName)) ∈ lw_all := lw_g (lw_at lw_m8 98 rfl) rfl
theorem q1883 : (Jvm.Cond.methodLink "java/util/AbstractList$Itr" (49 : Nat) ({ cls := "java/util/AbstractList", name := "remove", desc := "(I)Ljava/lang/Object;" } : Jvm.MethodName)) ∈ lw_all := lw_g (lw_at lw_m8 99 rfl) rfl
theorem q1901 : (Jvm.Cond.classLink "java/util/AbstractList$Itr" (52 : Nat) "java/util/ConcurrentModificationException") ∈ lw_all := lw_g (lw_at lw_m8 117 rfl) rfl
theorem q1910 : (Jvm.Cond.methodLink "java/util/AbstractList$Itr" (54 : Nat) ({ cls := "java/util/ConcurrentModificationException", name := "<init>", desc := "()V" } : Jvm.MethodName)) ∈ lw_all := lw_g (lw_at lw_m8 126 rfl) rfl
theorem q3889 : (Jvm.Cond.fieldLink "java/util/AbstractList$Itr" (1 : Nat) "java/util/AbstractList$Itr" "this$0" "Ljava/util/AbstractList;") ∈ lw_all := lw_g (lw_at lw_m16 185 rfl) rfl
theorem q3890 : (Jvm.Cond.fieldLink "java/util/AbstractList$Itr" (13 : Nat) "java/util/AbstractList$Itr" "cursor" "I") ∈ lw_all := lw_g (lw_at lw_m16 186 rfl) rfl
theorem q3891 : (Jvm.Cond.fieldLink "java/util/AbstractList$Itr" (17 : Nat) "java/util/AbstractList$Itr" "lastRet" "I") ∈ lw_all := lw_g (lw_at lw_m16 187 rfl) rfl
theorem q3892 : (Jvm.Cond.fieldLink "java/util/AbstractList$Itr" (25 : Nat) "java/util/AbstractList$Itr" "expectedModCount" "I") ∈ lw_all := lw_g (lw_at lw_m16 188 rfl) rfl
def RJ32 : String := "java/util/ArrayList$ListItr"
def TJ32 : u_T := fun k => match k with
  | 0 => ("java/util/ArrayList$Itr", "cursor", "I", false)
  | 1 => ("java/util/ArrayList$Itr", "lastRet", "I", false)
  | 2 => ("java/util/ArrayList$Itr", "expectedModCount", "I", false)
  | 3 => ("java/util/ArrayList$Itr", "this$0", "Ljava/util/ArrayList;", true)
  | _ => ("java/util/ArrayList$ListItr", "this$0", "Ljava/util/ArrayList;", true)
def tyJ32 : Nat → FieldType := fun k => match k with
  | 0 => .int
  | 1 => .int
  | 2 => .int
  | 3 => .object "java/util/ArrayList"
  | _ => .object "java/util/ArrayList"
abbrev wsJ320 : List Cond := u_ws RJ32 TJ32 5
-- two fields of one name: no nmJ32
theorem tyJ32_ok : ∀ k, k < 5 → parseFieldDescriptor (TJ32 k).2.2.1 = some (tyJ32 k) := by decide +kernel
abbrev cJ32_init : ByteArray := prog_68_method_1_code
def yJ32_init : MethodName := ⟨RJ32, "<init>", "(Ljava/util/ArrayList;I)V"⟩
theorem q164 : (Jvm.Cond.initialized "java/util/ArrayList$ListItr") ∈ lw_all := lw_g (lw_at lw_m1 60 rfl) rfl
theorem q979 : (Jvm.Cond.selects "java/util/ArrayList$ListItr" ({ cls := "java/lang/Object", name := "getClass", desc := "()Ljava/lang/Class;" } : Jvm.MethodName) ({ cls := "java/lang/Object", name := "getClass", desc := "()Ljava/lang/Class;" } : Jvm.MethodName)) ∈ lw_all := lw_g (lw_at lw_m4 155 rfl) rfl
theorem q1579 : (Jvm.Cond.instantiable "java/util/ArrayList$ListItr" (5 : Nat)) ∈ lw_all := lw_g (lw_at lw_m7 35 rfl) rfl
theorem q1581 : (Jvm.Cond.instanceMethod ({ cls := "java/util/ArrayList$ListItr", name := "<init>", desc := "(Ljava/util/ArrayList;I)V" } : Jvm.MethodName)) ∈ lw_all := lw_g (lw_at lw_m7 37 rfl) rfl
theorem q1582 : (Jvm.Cond.code ({ cls := "java/util/ArrayList$ListItr", name := "<init>", desc := "(Ljava/util/ArrayList;I)V" } : Jvm.MethodName) prog_68_method_1_code (3 : Nat) (Option.none : Option Jvm.ClassFile.FieldType)) ∈ lw_all := lw_g (lw_at lw_m7 38 rfl) rfl
theorem q1583 : (Jvm.Cond.methodLink "java/util/ArrayList$ListItr" (7 : Nat) ({ cls := "java/util/ArrayList$Itr", name := "<init>", desc := "(Ljava/util/ArrayList;)V" } : Jvm.MethodName)) ∈ lw_all := lw_g (lw_at lw_m7 39 rfl) rfl
theorem q1587 : (Jvm.Cond.fieldLink "java/util/ArrayList$ListItr" (1 : Nat) "java/util/ArrayList$ListItr" "this$0" "Ljava/util/ArrayList;") ∈ lw_all := lw_g (lw_at lw_m7 43 rfl) rfl
theorem q1588 : (Jvm.Cond.fieldLink "java/util/ArrayList$ListItr" (13 : Nat) "java/util/ArrayList$ListItr" "cursor" "I") ∈ lw_all := lw_g (lw_at lw_m7 44 rfl) rfl
theorem q1589 : (Jvm.Cond.sameField "java/util/ArrayList$ListItr" "java/util/ArrayList$Itr" "cursor" "I") ∈ lw_all := lw_g (lw_at lw_m7 45 rfl) rfl
theorem q1594 : (Jvm.Cond.laysFinal "java/util/ArrayList$ListItr" "java/util/ArrayList$ListItr" "this$0" "Ljava/util/ArrayList;") ∈ lw_all := lw_g (lw_at lw_m7 50 rfl) rfl
theorem q1595 : (Jvm.Cond.soleField "java/util/ArrayList$ListItr" "this$0") ∈ lw_all := lw_g (lw_at lw_m7 51 rfl) rfl
theorem q1596 : (Jvm.Cond.lays "java/util/ArrayList$ListItr" "java/util/ArrayList$Itr" "cursor" "I") ∈ lw_all := lw_g (lw_at lw_m7 52 rfl) rfl
theorem q1598 : (Jvm.Cond.lays "java/util/ArrayList$ListItr" "java/util/ArrayList$Itr" "lastRet" "I") ∈ lw_all := lw_g (lw_at lw_m7 54 rfl) rfl
theorem q1600 : (Jvm.Cond.lays "java/util/ArrayList$ListItr" "java/util/ArrayList$Itr" "expectedModCount" "I") ∈ lw_all := lw_g (lw_at lw_m7 56 rfl) rfl
theorem q1602 : (Jvm.Cond.laysFinal "java/util/ArrayList$ListItr" "java/util/ArrayList$Itr" "this$0" "Ljava/util/ArrayList;") ∈ lw_all := lw_g (lw_at lw_m7 58 rfl) rfl
theorem q1604 : (Jvm.Cond.superclass "java/util/ArrayList$ListItr" "java/util/ArrayList$Itr") ∈ lw_all := lw_g (lw_at lw_m7 60 rfl) rfl
theorem q1679 : (Jvm.Cond.castable "java/util/ArrayList$ListItr" "java/util/Iterator") ∈ lw_tbl := lw_at lw_m7 135 rfl
theorem q1680 : (Jvm.Cond.selects "java/util/ArrayList$ListItr" ({ cls := "java/util/Iterator", name := "hasNext", desc := "()Z" } : Jvm.MethodName) ({ cls := "java/util/ArrayList$Itr", name := "hasNext", desc := "()Z" } : Jvm.MethodName)) ∈ lw_all := lw_g (lw_at lw_m7 136 rfl) rfl
theorem q1681 : (Jvm.Cond.unhidden "java/util/ArrayList$ListItr" "hasNext" "()Z") ∈ lw_tbl := lw_at lw_m7 137 rfl
theorem q1811 : (Jvm.Cond.selects "java/util/ArrayList$ListItr" ({ cls := "java/util/ArrayList$Itr", name := "checkForComodification", desc := "()V" } : Jvm.MethodName) ({ cls := "java/util/ArrayList$Itr", name := "checkForComodification", desc := "()V" } : Jvm.MethodName)) ∈ lw_all := lw_g (lw_at lw_m8 27 rfl) rfl
theorem q1813 : (Jvm.Cond.selects "java/util/ArrayList$ListItr" ({ cls := "java/util/Iterator", name := "next", desc := "()Ljava/lang/Object;" } : Jvm.MethodName) ({ cls := "java/util/ArrayList$Itr", name := "next", desc := "()Ljava/lang/Object;" } : Jvm.MethodName)) ∈ lw_all := lw_g (lw_at lw_m8 29 rfl) rfl
theorem q1814 : (Jvm.Cond.unhidden "java/util/ArrayList$ListItr" "next" "()Ljava/lang/Object;") ∈ lw_tbl := lw_at lw_m8 30 rfl
theorem q1926 : (Jvm.Cond.selects "java/util/ArrayList$ListItr" ({ cls := "java/util/Iterator", name := "remove", desc := "()V" } : Jvm.MethodName) ({ cls := "java/util/ArrayList$Itr", name := "remove", desc := "()V" } : Jvm.MethodName)) ∈ lw_all := lw_g (lw_at lw_m8 142 rfl) rfl
theorem q1927 : (Jvm.Cond.unhidden "java/util/ArrayList$ListItr" "remove" "()V") ∈ lw_tbl := lw_at lw_m8 143 rfl
theorem q3862 : (Jvm.Cond.castable "java/util/ArrayList$ListItr" "java/lang/Object") ∈ lw_tbl := lw_at lw_m16 158 rfl
theorem in_J32 : ∀ w ∈ wsJ320, w ∈ lw_all := lw_in wsJ320 [1596, 1598, 1600, 1602, 1594] (by decide +kernel) (by decide +kernel)
def RJ33 : String := "java/util/LinkedList$ListItr"
def TJ33 : u_T := fun k => match k with
  | 0 => ("java/util/LinkedList$ListItr", "lastReturned", "Ljava/util/LinkedList$Node;", false)
  | 1 => ("java/util/LinkedList$ListItr", "next", "Ljava/util/LinkedList$Node;", false)
  | 2 => ("java/util/LinkedList$ListItr", "nextIndex", "I", false)
  | 3 => ("java/util/LinkedList$ListItr", "expectedModCount", "I", false)
  | _ => ("java/util/LinkedList$ListItr", "this$0", "Ljava/util/LinkedList;", true)
def tyJ33 : Nat → FieldType := fun k => match k with
  | 0 => .object "java/util/LinkedList$Node"
  | 1 => .object "java/util/LinkedList$Node"
  | 2 => .int
  | 3 => .int
  | _ => .object "java/util/LinkedList"
abbrev wsJ330 : List Cond := u_ws RJ33 TJ33 5
theorem nmJ33 : ∀ a, a < 5 → ∀ b, b < 5 → a ≠ b → (TJ33 a).2.1 ≠ (TJ33 b).2.1 := by decide +kernel
theorem tyJ33_ok : ∀ k, k < 5 → parseFieldDescriptor (TJ33 k).2.2.1 = some (tyJ33 k) := by decide +kernel
abbrev cJ33_init : ByteArray := prog_82_method_1_code
def yJ33_init : MethodName := ⟨RJ33, "<init>", "(Ljava/util/LinkedList;I)V"⟩
abbrev cJ33_hasNext : ByteArray := prog_82_method_2_code
def yJ33_hasNext : MethodName := ⟨RJ33, "hasNext", "()Z"⟩
abbrev cJ33_next : ByteArray := prog_82_method_3_code
def yJ33_next : MethodName := ⟨RJ33, "next", "()Ljava/lang/Object;"⟩
abbrev cJ33_checkForComodification : ByteArray := prog_82_method_12_code
def yJ33_checkForComodification : MethodName := ⟨RJ33, "checkForComodification", "()V"⟩
abbrev cJ33_remove : ByteArray := prog_82_method_8_code
def yJ33_remove : MethodName := ⟨RJ33, "remove", "()V"⟩
theorem q165 : (Jvm.Cond.initialized "java/util/LinkedList$ListItr") ∈ lw_all := lw_g (lw_at lw_m1 61 rfl) rfl
theorem q206 : (Jvm.Cond.fieldLink "java/util/LinkedList$ListItr" (22 : Nat) "java/util/LinkedList" "size" "I") ∈ lw_all := lw_g (lw_at lw_m1 102 rfl) rfl
theorem q210 : (Jvm.Cond.fieldLink "java/util/LinkedList$ListItr" (13 : Nat) "java/util/LinkedList" "modCount" "I") ∈ lw_all := lw_g (lw_at lw_m1 106 rfl) rfl
theorem q985 : (Jvm.Cond.selects "java/util/LinkedList$ListItr" ({ cls := "java/lang/Object", name := "getClass", desc := "()Ljava/lang/Class;" } : Jvm.MethodName) ({ cls := "java/lang/Object", name := "getClass", desc := "()Ljava/lang/Class;" } : Jvm.MethodName)) ∈ lw_all := lw_g (lw_at lw_m4 161 rfl) rfl
theorem q1630 : (Jvm.Cond.instantiable "java/util/LinkedList$ListItr" (5 : Nat)) ∈ lw_all := lw_g (lw_at lw_m7 86 rfl) rfl
theorem q1632 : (Jvm.Cond.instanceMethod ({ cls := "java/util/LinkedList$ListItr", name := "<init>", desc := "(Ljava/util/LinkedList;I)V" } : Jvm.MethodName)) ∈ lw_all := lw_g (lw_at lw_m7 88 rfl) rfl
theorem q1633 : (Jvm.Cond.code ({ cls := "java/util/LinkedList$ListItr", name := "<init>", desc := "(Ljava/util/LinkedList;I)V" } : Jvm.MethodName) prog_82_method_1_code (3 : Nat) (Option.none : Option Jvm.ClassFile.FieldType)) ∈ lw_all := lw_g (lw_at lw_m7 89 rfl) rfl
theorem q1634 : (Jvm.Cond.methodLink "java/util/LinkedList$ListItr" (7 : Nat) ({ cls := "java/lang/Object", name := "<init>", desc := "()V" } : Jvm.MethodName)) ∈ lw_all := lw_g (lw_at lw_m7 90 rfl) rfl
theorem q1635 : (Jvm.Cond.methodLink "java/util/LinkedList$ListItr" (25 : Nat) ({ cls := "java/util/LinkedList", name := "node", desc := "(I)Ljava/util/LinkedList$Node;" } : Jvm.MethodName)) ∈ lw_all := lw_g (lw_at lw_m7 91 rfl) rfl
theorem q1639 : (Jvm.Cond.fieldLink "java/util/LinkedList$ListItr" (46 : Nat) "java/util/LinkedList$ListItr" "lastReturned" "Ljava/util/LinkedList$Node;") ∈ lw_all := lw_g (lw_at lw_m7 95 rfl) rfl
theorem q1640 : (Jvm.Cond.fieldLink "java/util/LinkedList$ListItr" (29 : Nat) "java/util/LinkedList$ListItr" "next" "Ljava/util/LinkedList$Node;") ∈ lw_all := lw_g (lw_at lw_m7 96 rfl) rfl
theorem q1641 : (Jvm.Cond.fieldLink "java/util/LinkedList$ListItr" (33 : Nat) "java/util/LinkedList$ListItr" "nextIndex" "I") ∈ lw_all := lw_g (lw_at lw_m7 97 rfl) rfl
theorem q1642 : (Jvm.Cond.fieldLink "java/util/LinkedList$ListItr" (19 : Nat) "java/util/LinkedList$ListItr" "expectedModCount" "I") ∈ lw_all := lw_g (lw_at lw_m7 98 rfl) rfl
theorem q1643 : (Jvm.Cond.fieldLink "java/util/LinkedList$ListItr" (1 : Nat) "java/util/LinkedList$ListItr" "this$0" "Ljava/util/LinkedList;") ∈ lw_all := lw_g (lw_at lw_m7 99 rfl) rfl
theorem q1644 : (Jvm.Cond.lays "java/util/LinkedList$ListItr" "java/util/LinkedList$ListItr" "lastReturned" "Ljava/util/LinkedList$Node;") ∈ lw_all := lw_g (lw_at lw_m7 100 rfl) rfl
theorem q1645 : (Jvm.Cond.soleField "java/util/LinkedList$ListItr" "lastReturned") ∈ lw_all := lw_g (lw_at lw_m7 101 rfl) rfl
theorem q1646 : (Jvm.Cond.lays "java/util/LinkedList$ListItr" "java/util/LinkedList$ListItr" "next" "Ljava/util/LinkedList$Node;") ∈ lw_all := lw_g (lw_at lw_m7 102 rfl) rfl
theorem q1647 : (Jvm.Cond.soleField "java/util/LinkedList$ListItr" "next") ∈ lw_all := lw_g (lw_at lw_m7 103 rfl) rfl
theorem q1648 : (Jvm.Cond.lays "java/util/LinkedList$ListItr" "java/util/LinkedList$ListItr" "nextIndex" "I") ∈ lw_all := lw_g (lw_at lw_m7 104 rfl) rfl
theorem q1649 : (Jvm.Cond.soleField "java/util/LinkedList$ListItr" "nextIndex") ∈ lw_all := lw_g (lw_at lw_m7 105 rfl) rfl
theorem q1650 : (Jvm.Cond.lays "java/util/LinkedList$ListItr" "java/util/LinkedList$ListItr" "expectedModCount" "I") ∈ lw_all := lw_g (lw_at lw_m7 106 rfl) rfl
theorem q1651 : (Jvm.Cond.soleField "java/util/LinkedList$ListItr" "expectedModCount") ∈ lw_all := lw_g (lw_at lw_m7 107 rfl) rfl
theorem q1652 : (Jvm.Cond.laysFinal "java/util/LinkedList$ListItr" "java/util/LinkedList$ListItr" "this$0" "Ljava/util/LinkedList;") ∈ lw_all := lw_g (lw_at lw_m7 108 rfl) rfl
theorem q1653 : (Jvm.Cond.soleField "java/util/LinkedList$ListItr" "this$0") ∈ lw_all := lw_g (lw_at lw_m7 109 rfl) rfl
theorem q1654 : (Jvm.Cond.superclass "java/util/LinkedList$ListItr" "java/lang/Object") ∈ lw_all := lw_g (lw_at lw_m7 110 rfl) rfl
theorem q1688 : (Jvm.Cond.castable "java/util/LinkedList$ListItr" "java/util/Iterator") ∈ lw_tbl := lw_at lw_m7 144 rfl
theorem q1689 : (Jvm.Cond.selects "java/util/LinkedList$ListItr" ({ cls := "java/util/Iterator", name := "hasNext", desc := "()Z" } : Jvm.MethodName) ({ cls := "java/util/LinkedList$ListItr", name := "hasNext", desc := "()Z" } : Jvm.MethodName)) ∈ lw_all := lw_g (lw_at lw_m7 145 rfl) rfl
theorem q1690 : (Jvm.Cond.unhidden "java/util/LinkedList$ListItr" "hasNext" "()Z") ∈ lw_tbl := lw_at lw_m7 146 rfl
theorem q1691 : (Jvm.Cond.instanceMethod ({ cls := "java/util/LinkedList$ListItr", name := "hasNext", desc := "()Z" } : Jvm.MethodName)) ∈ lw_all := lw_g (lw_at lw_m7 147 rfl) rfl
theorem q1692 : (Jvm.Cond.publicMethod ({ cls := "java/util/LinkedList$ListItr", name := "hasNext", desc := "()Z" } : Jvm.MethodName)) ∈ lw_tbl := lw_at lw_m7 148 rfl
theorem q1693 : (Jvm.Cond.code ({ cls := "java/util/LinkedList$ListItr", name := "hasNext", desc := "()Z" } : Jvm.MethodName) prog_82_method_2_code (1 : Nat) (Option.some Jvm.ClassFile.FieldType.boolean)) ∈ lw_all := lw_g (lw_at lw_m7 149 rfl) rfl
theorem q1843 : (Jvm.Cond.selects "java/util/LinkedList$ListItr" ({ cls := "java/util/Iterator", name := "next", desc := "()Ljava/lang/Object;" } : Jvm.MethodName) ({ cls := "java/util/LinkedList$ListItr", name := "next", desc := "()Ljava/lang/Object;" } : Jvm.MethodName)) ∈ lw_all := lw_g (lw_at lw_m8 59 rfl) rfl
theorem q1844 : (Jvm.Cond.unhidden "java/util/LinkedList$ListItr" "next" "()Ljava/lang/Object;") ∈ lw_tbl := lw_at lw_m8 60 rfl
theorem q1845 : (Jvm.Cond.instanceMethod ({ cls := "java/util/LinkedList$ListItr", name := "next", desc := "()Ljava/lang/Object;" } : Jvm.MethodName)) ∈ lw_all := lw_g (lw_at lw_m8 61 rfl) rfl
theorem q1846 : (Jvm.Cond.publicMethod ({ cls := "java/util/LinkedList$ListItr", name := "next", desc := "()Ljava/lang/Object;" } : Jvm.MethodName)) ∈ lw_tbl := lw_at lw_m8 62 rfl
theorem q1847 : (Jvm.Cond.code ({ cls := "java/util/LinkedList$ListItr", name := "next", desc := "()Ljava/lang/Object;" } : Jvm.MethodName) prog_82_method_3_code (1 : Nat) (Option.some (Jvm.ClassFile.FieldType.object "java/lang/Object"))) ∈ lw_all := lw_g (lw_at lw_m8 63 rfl) rfl
theorem q1848 : (Jvm.Cond.methodLink "java/util/LinkedList$ListItr" (36 : Nat) ({ cls := "java/util/LinkedList$ListItr", name := "checkForComodification", desc := "()V" } : Jvm.MethodName)) ∈ lw_all := lw_g (lw_at lw_m8 64 rfl) rfl
theorem q1849 : (Jvm.Cond.instanceMethod ({ cls := "java/util/LinkedList$ListItr", name := "checkForComodification", desc := "()V" } : Jvm.MethodName)) ∈ lw_all := lw_g (lw_at lw_m8 65 rfl) rfl
theorem q1850 : (Jvm.Cond.selects "java/util/LinkedList$ListItr" ({ cls := "java/util/LinkedList$ListItr", name := "checkForComodification", desc := "()V" } : Jvm.MethodName) ({ cls := "java/util/LinkedList$ListItr", name := "checkForComodification", desc := "()V" } : Jvm.MethodName)) ∈ lw_all := lw_g (lw_at lw_m8 66 rfl) rfl
theorem q1851 : (Jvm.Cond.code ({ cls := "java/util/LinkedList$ListItr", name := "checkForComodification", desc := "()V" } : Jvm.MethodName) prog_82_method_12_code (1 : Nat) (Option.none : Option Jvm.ClassFile.FieldType)) ∈ lw_all := lw_g (lw_at lw_m8 67 rfl) rfl
theorem q1852 : (Jvm.Cond.methodLink "java/util/LinkedList$ListItr" (39 : Nat) ({ cls := "java/util/LinkedList$ListItr", name := "hasNext", desc := "()Z" } : Jvm.MethodName)) ∈ lw_all := lw_g (lw_at lw_m8 68 rfl) rfl
theorem q1933 : (Jvm.Cond.selects "java/util/LinkedList$ListItr" ({ cls := "java/util/Iterator", name := "remove", desc := "()V" } : Jvm.MethodName) ({ cls := "java/util/LinkedList$ListItr", name := "remove", desc := "()V" } : Jvm.MethodName)) ∈ lw_all := lw_g (lw_at lw_m8 149 rfl) rfl
theorem q1934 : (Jvm.Cond.unhidden "java/util/LinkedList$ListItr" "remove" "()V") ∈ lw_tbl := lw_at lw_m8 150 rfl
theorem q1935 : (Jvm.Cond.instanceMethod ({ cls := "java/util/LinkedList$ListItr", name := "remove", desc := "()V" } : Jvm.MethodName)) ∈ lw_all := lw_g (lw_at lw_m8 151 rfl) rfl
theorem q1936 : (Jvm.Cond.publicMethod ({ cls := "java/util/LinkedList$ListItr", name := "remove", desc := "()V" } : Jvm.MethodName)) ∈ lw_tbl := lw_at lw_m8 152 rfl
theorem q1937 : (Jvm.Cond.code ({ cls := "java/util/LinkedList$ListItr", name := "remove", desc := "()V" } : Jvm.MethodName) prog_82_method_8_code (2 : Nat) (Option.none : Option Jvm.ClassFile.FieldType)) ∈ lw_all := lw_g (lw_at lw_m8 153 rfl) rfl
theorem q1938 : (Jvm.Cond.classLink "java/util/LinkedList$ListItr" (65 : Nat) "java/lang/IllegalStateException") ∈ lw_all := lw_g (lw_at lw_m8 154 rfl) rfl
theorem q1939 : (Jvm.Cond.methodLink "java/util/LinkedList$ListItr" (67 : Nat) ({ cls := "java/lang/IllegalStateException", name := "<init>", desc := "()V" } : Jvm.MethodName)) ∈ lw_all := lw_g (lw_at lw_m8 155 rfl) rfl
theorem q1940 : (Jvm.Cond.methodLink "java/util/LinkedList$ListItr" (68 : Nat) ({ cls := "java/util/LinkedList", name := "unlink", desc := "(Ljava/util/LinkedList$Node;)Ljava/lang/Object;" } : Jvm.MethodName)) ∈ lw_all := lw_g (lw_at lw_m8 156 rfl) rfl
theorem q2560 : (Jvm.Cond.fieldLink "java/util/LinkedList$ListItr" (52 : Nat) "java/util/LinkedList$Node" "item" "Ljava/lang/Object;") ∈ lw_all := lw_g (lw_at lw_m11 56 rfl) rfl
theorem q2563 : (Jvm.Cond.fieldLink "java/util/LinkedList$ListItr" (49 : Nat) "java/util/LinkedList$Node" "next" "Ljava/util/LinkedList$Node;") ∈ lw_all := lw_g (lw_at lw_m11 59 rfl) rfl
theorem q3800 : (Jvm.Cond.selects "java/util/LinkedList$ListItr" ({ cls := "java/util/LinkedList$ListItr", name := "hasNext", desc := "()Z" } : Jvm.MethodName) ({ cls := "java/util/LinkedList$ListItr", name := "hasNext", desc := "()Z" } : Jvm.MethodName)) ∈ lw_all := lw_g (lw_at lw_m16 96 rfl) rfl
theorem q3863 : (Jvm.Cond.castable "java/util/LinkedList$ListItr" "java/lang/Object") ∈ lw_tbl := lw_at lw_m16 159 rfl
theorem in_J33 : ∀ w ∈ wsJ330, w ∈ lw_all := lw_in wsJ330 [1644, 1646, 1648, 1650, 1652] (by decide +kernel) (by decide +kernel)
def RJ34 : String := "java/util/NoSuchElementException"
def TJ34 : u_T := fun k => match k with
  | 0 => ("java/lang/Throwable", "cause", "Ljava/lang/Throwable;", false)
  | 1 => ("java/lang/Throwable", "stackTrace", "[Ljava/lang/StackTraceElement;", false)
  | 2 => ("java/lang/Throwable", "suppressedExceptions", "Ljava/util/List;", false)
  | 3 => ("java/lang/Throwable", "detailMessage", "Ljava/lang/String;", false)
  | 4 => ("java/lang/Throwable", "backtrace", "Ljava/lang/Object;", false)
  | _ => ("java/lang/Throwable", "depth", "I", false)
def tyJ34 : Nat → FieldType := fun k => match k with
  | 0 => .object "java/lang/Throwable"
  | 1 => .array (.object "java/lang/StackTraceElement")
  | 2 => .object "java/util/List"
  | 3 => .object "java/lang/String"
  | 4 => .object "java/lang/Object"
  | _ => .int
abbrev wsJ340 : List Cond := u_ws RJ34 TJ34 6
theorem nmJ34 : ∀ a, a < 6 → ∀ b, b < 6 → a ≠ b → (TJ34 a).2.1 ≠ (TJ34 b).2.1 := by decide +kernel
theorem tyJ34_ok : ∀ k, k < 6 → parseFieldDescriptor (TJ34 k).2.2.1 = some (tyJ34 k) := by decide +kernel
abbrev cJ34_init : ByteArray := prog_86_method_3_code
def yJ34_init : MethodName := ⟨RJ34, "<init>", "(Ljava/lang/Throwable;)V"⟩
abbrev cJ34_init_2 : ByteArray := prog_86_method_1_code
def yJ34_init_2 : MethodName := ⟨RJ34, "<init>", "()V"⟩
theorem q166 : (Jvm.Cond.initialized "java/util/NoSuchElementException") ∈ lw_all := lw_g (lw_at lw_m1 62 rfl) rfl
theorem q328 : (Jvm.Cond.selects "java/util/NoSuchElementException" ({ cls := "java/lang/Throwable", name := "fillInStackTrace", desc := "()Ljava/lang/Throwable;" } : Jvm.MethodName) ({ cls := "java/lang/Throwable", name := "fillInStackTrace", desc := "()Ljava/lang/Throwable;" } : Jvm.MethodName)) ∈ lw_all := lw_g (lw_at lw_m1 224 rfl) rfl
theorem q987 : (Jvm.Cond.selects "java/util/NoSuchElementException" ({ cls := "java/lang/Object", name := "getClass", desc := "()Ljava/lang/Class;" } : Jvm.MethodName) ({ cls := "java/lang/Object", name := "getClass", desc := "()Ljava/lang/Class;" } : Jvm.MethodName)) ∈ lw_all := lw_g (lw_at lw_m4 163 rfl) rfl
theorem q1735 : (Jvm.Cond.instantiable "java/util/NoSuchElementException" (6 : Nat)) ∈ lw_all := lw_g (lw_at lw_m7 191 rfl) rfl
theorem q1736 : (Jvm.Cond.castable "java/util/NoSuchElementException" "java/util/NoSuchElementException") ∈ lw_tbl := lw_at lw_m7 192 rfl
theorem q1737 : (Jvm.Cond.selects "java/util/NoSuchElementException" ({ cls := "java/lang/Throwable", name := "fillInStackTrace", desc := "(I)Ljava/lang/Throwable;" } : Jvm.MethodName) ({ cls := "java/lang/Throwable", name := "fillInStackTrace", desc := "(I)Ljava/lang/Throwable;" } : Jvm.MethodName)) ∈ lw_all := lw_g (lw_at lw_m7 193 rfl) rfl
theorem q1738 : (Jvm.Cond.lays "java/util/NoSuchElementException" "java/lang/Throwable" "cause" "Ljava/lang/Throwable;") ∈ lw_all := lw_g (lw_at lw_m7 194 rfl) rfl
theorem q1739 : (Jvm.Cond.lays "java/util/NoSuchElementException" "java/lang/Throwable" "stackTrace" "[Ljava/lang/StackTraceElement;") ∈ lw_all := lw_g (lw_at lw_m7 195 rfl) rfl
theorem q1740 : (Jvm.Cond.lays "java/util/NoSuchElementException" "java/lang/Throwable" "suppressedExceptions" "Ljava/util/List;") ∈ lw_all := lw_g (lw_at lw_m7 196 rfl) rfl
theorem q1741 : (Jvm.Cond.lays "java/util/NoSuchElementException" "java/lang/Throwable" "detailMessage" "Ljava/lang/String;") ∈ lw_all := lw_g (lw_at lw_m7 197 rfl) rfl
theorem q1742 : (Jvm.Cond.lays "java/util/NoSuchElementException" "java/lang/Throwable" "backtrace" "Ljava/lang/Object;") ∈ lw_all := lw_g (lw_at lw_m7 198 rfl) rfl
theorem q1744 : (Jvm.Cond.instanceMethod ({ cls := "java/util/NoSuchElementException", name := "<init>", desc := "(Ljava/lang/Throwable;)V" } : Jvm.MethodName)) ∈ lw_all := lw_g (lw_at lw_m7 200 rfl) rfl
theorem q1745 : (Jvm.Cond.code ({ cls := "java/util/NoSuchElementException", name := "<init>", desc := "(Ljava/lang/Throwable;)V" } : Jvm.MethodName) prog_86_method_3_code (2 : Nat) (Option.none : Option Jvm.ClassFile.FieldType)) ∈ lw_all := lw_g (lw_at lw_m7 201 rfl) rfl
theorem q1746 : (Jvm.Cond.methodLink "java/util/NoSuchElementException" (10 : Nat) ({ cls := "java/lang/RuntimeException", name := "<init>", desc := "(Ljava/lang/Throwable;)V" } : Jvm.MethodName)) ∈ lw_all := lw_g (lw_at lw_m7 202 rfl) rfl
theorem q1766 : (Jvm.Cond.selects "java/util/NoSuchElementException" ({ cls := "java/lang/Throwable", name := "toString", desc := "()Ljava/lang/String;" } : Jvm.MethodName) ({ cls := "java/lang/Throwable", name := "toString", desc := "()Ljava/lang/String;" } : Jvm.MethodName)) ∈ lw_all := lw_g (lw_at lw_m7 222 rfl) rfl
theorem q1780 : (Jvm.Cond.selects "java/util/NoSuchElementException" ({ cls := "java/lang/Throwable", name := "getLocalizedMessage", desc := "()Ljava/lang/String;" } : Jvm.MethodName) ({ cls := "java/lang/Throwable", name := "getLocalizedMessage", desc := "()Ljava/lang/String;" } : Jvm.MethodName)) ∈ lw_all := lw_g (lw_at lw_m7 236 rfl) rfl
theorem q1793 : (Jvm.Cond.selects "java/util/NoSuchElementException" ({ cls := "java/lang/Throwable", name := "getMessage", desc := "()Ljava/lang/String;" } : Jvm.MethodName) ({ cls := "java/lang/Throwable", name := "getMessage", desc := "()Ljava/lang/String;" } : Jvm.MethodName)) ∈ lw_all := lw_g (lw_at lw_m8 9 rfl) rfl
theorem q1800 : (Jvm.Cond.lays "java/util/NoSuchElementException" "java/lang/Throwable" "depth" "I") ∈ lw_all := lw_g (lw_at lw_m8 16 rfl) rfl
theorem q1801 : (Jvm.Cond.superclass "java/util/NoSuchElementException" "java/lang/RuntimeException") ∈ lw_all := lw_g (lw_at lw_m8 17 rfl) rfl
theorem q1840 : (Jvm.Cond.instanceMethod ({ cls := "java/util/NoSuchElementException", name := "<init>", desc := "()V" } : Jvm.MethodName)) ∈ lw_all := lw_g (lw_at lw_m8 56 rfl) rfl
theorem q1841 : (Jvm.Cond.code ({ cls := "java/util/NoSuchElementException", name := "<init>", desc := "()V" } : Jvm.MethodName) prog_86_method_1_code (1 : Nat) (Option.none : Option Jvm.ClassFile.FieldType)) ∈ lw_all := lw_g (lw_at lw_m8 57 rfl) rfl
theorem q1842 : (Jvm.Cond.methodLink "java/util/NoSuchElementException" (1 : Nat) ({ cls := "java/lang/RuntimeException", name := "<init>", desc := "()V" } : Jvm.MethodName)) ∈ lw_all := lw_g (lw_at lw_m8 58 rfl) rfl
theorem q3864 : (Jvm.Cond.castable "java/util/NoSuchElementException" "java/lang/Object") ∈ lw_tbl := lw_at lw_m16 160 rfl
theorem in_J34 : ∀ w ∈ wsJ340, w ∈ lw_all := lw_in wsJ340 [1738, 1739, 1740, 1741, 1742, 1800] (by decide +kernel) (by decide +kernel)
def RJ35 : String := "java/util/ConcurrentModificationException"
def TJ35 : u_T := fun k => match k with
  | 0 => ("java/lang/Throwable", "cause", "Ljava/lang/Throwable;", false)
  | 1 => ("java/lang/Throwable", "stackTrace", "[Ljava/lang/StackTraceElement;", false)
  | 2 => ("java/lang/Throwable", "suppressedExceptions", "Ljava/util/List;", false)
  | 3 => ("java/lang/Throwable", "detailMessage", "Ljava/lang/String;", false)
  | 4 => ("java/lang/Throwable", "backtrace", "Ljava/lang/Object;", false)
  | _ => ("java/lang/Throwable", "depth", "I", false)
def tyJ35 : Nat → FieldType := fun k => match k with
  | 0 => .object "java/lang/Throwable"
  | 1 => .array (.object "java/lang/StackTraceElement")
  | 2 => .object "java/util/List"
  | 3 => .object "java/lang/String"
  | 4 => .object "java/lang/Object"
  | _ => .int
abbrev wsJ350 : List Cond := u_ws RJ35 TJ35 6
theorem nmJ35 : ∀ a, a < 6 → ∀ b, b < 6 → a ≠ b → (TJ35 a).2.1 ≠ (TJ35 b).2.1 := by decide +kernel
theorem tyJ35_ok : ∀ k, k < 6 → parseFieldDescriptor (TJ35 k).2.2.1 = some (tyJ35 k) := by decide +kernel
abbrev cJ35_init : ByteArray := prog_72_method_1_code
def yJ35_init : MethodName := ⟨RJ35, "<init>", "()V"⟩
theorem q167 : (Jvm.Cond.initialized "java/util/ConcurrentModificationException") ∈ lw_all := lw_g (lw_at lw_m1 63 rfl) rfl
theorem q327 : (Jvm.Cond.selects "java/util/ConcurrentModificationException" ({ cls := "java/lang/Throwable", name := "fillInStackTrace", desc := "()Ljava/lang/Throwable;" } : Jvm.MethodName) ({ cls := "java/lang/Throwable", name := "fillInStackTrace", desc := "()Ljava/lang/Throwable;" } : Jvm.MethodName)) ∈ lw_all := lw_g (lw_at lw_m1 223 rfl) rfl
theorem q981 : (Jvm.Cond.selects "java/util/ConcurrentModificationException" ({ cls := "java/lang/Object", name := "getClass", desc := "()Ljava/lang/Class;" } : Jvm.MethodName) ({ cls := "java/lang/Object", name := "getClass", desc := "()Ljava/lang/Class;" } : Jvm.MethodName)) ∈ lw_all := lw_g (lw_at lw_m4 157 rfl) rfl
theorem q1765 : (Jvm.Cond.selects "java/util/ConcurrentModificationException" ({ cls := "java/lang/Throwable", name := "toString", desc := "()Ljava/lang/String;" } : Jvm.MethodName) ({ cls := "java/lang/Throwable", name := "toString", desc := "()Ljava/lang/String;" } : Jvm.MethodName)) ∈ lw_all := lw_g (lw_at lw_m7 221 rfl) rfl
theorem q1779 : (Jvm.Cond.selects "java/util/ConcurrentModificationException" ({ cls := "java/lang/Throwable", name := "getLocalizedMessage", desc := "()Ljava/lang/String;" } : Jvm.MethodName) ({ cls := "java/lang/Throwable", name := "getLocalizedMessage", desc := "()Ljava/lang/String;" } : Jvm.MethodName)) ∈ lw_all := lw_g (lw_at lw_m7 235 rfl) rfl
theorem q1792 : (Jvm.Cond.selects "java/util/ConcurrentModificationException" ({ cls := "java/lang/Throwable", name := "getMessage", desc := "()Ljava/lang/String;" } : Jvm.MethodName) ({ cls := "java/lang/Throwable", name := "getMessage", desc := "()Ljava/lang/String;" } : Jvm.MethodName)) ∈ lw_all := lw_g (lw_at lw_m8 8 rfl) rfl
theorem q1902 : (Jvm.Cond.instantiable "java/util/ConcurrentModificationException" (6 : Nat)) ∈ lw_all := lw_g (lw_at lw_m8 118 rfl) rfl
theorem q1903 : (Jvm.Cond.castable "java/util/ConcurrentModificationException" "java/util/ConcurrentModificationException") ∈ lw_tbl := lw_at lw_m8 119 rfl
theorem q1904 : (Jvm.Cond.selects "java/util/ConcurrentModificationException" ({ cls := "java/lang/Throwable", name := "fillInStackTrace", desc := "(I)Ljava/lang/Throwable;" } : Jvm.MethodName) ({ cls := "java/lang/Throwable", name := "fillInStackTrace", desc := "(I)Ljava/lang/Throwable;" } : Jvm.MethodName)) ∈ lw_all := lw_g (lw_at lw_m8 120 rfl) rfl
theorem q1905 : (Jvm.Cond.lays "java/util/ConcurrentModificationException" "java/lang/Throwable" "cause" "Ljava/lang/Throwable;") ∈ lw_all := lw_g (lw_at lw_m8 121 rfl) rfl
theorem q1906 : (Jvm.Cond.lays "java/util/ConcurrentModificationException" "java/lang/Throwable" "stackTrace" "[Ljava/lang/StackTraceElement;") ∈ lw_all := lw_g (lw_at lw_m8 122 rfl) rfl
theorem q1907 : (Jvm.Cond.lays "java/util/ConcurrentModificationException" "java/lang/Throwable" "suppressedExceptions" "Ljava/util/List;") ∈ lw_all := lw_g (lw_at lw_m8 123 rfl) rfl
theorem q1908 : (Jvm.Cond.lays "java/util/ConcurrentModificationException" "java/lang/Throwable" "detailMessage" "Ljava/lang/String;") ∈ lw_all := lw_g (lw_at lw_m8 124 rfl) rfl
theorem q1909 : (Jvm.Cond.lays "java/util/ConcurrentModificationException" "java/lang/Throwable" "backtrace" "Ljava/lang/Object;") ∈ lw_all := lw_g (lw_at lw_m8 125 rfl) rfl
theorem q1911 : (Jvm.Cond.instanceMethod ({ cls := "java/util/ConcurrentModificationException", name := "<init>", desc := "()V" } : Jvm.MethodName)) ∈ lw_all := lw_g (lw_at lw_m8 127 rfl) rfl
theorem q1912 : (Jvm.Cond.code ({ cls := "java/util/ConcurrentModificationException", name := "<init>", desc := "()V" } : Jvm.MethodName) prog_72_method_1_code (1 : Nat) (Option.none : Option Jvm.ClassFile.FieldType)) ∈ lw_all := lw_g (lw_at lw_m8 128 rfl) rfl
theorem q1913 : (Jvm.Cond.methodLink "java/util/ConcurrentModificationException" (1 : Nat) ({ cls := "java/lang/RuntimeException", name := "<init>", desc := "()V" } : Jvm.MethodName)) ∈ lw_all := lw_g (lw_at lw_m8 129 rfl) rfl
theorem q1914 : (Jvm.Cond.lays "java/util/ConcurrentModificationException" "java/lang/Throwable" "depth" "I") ∈ lw_all := lw_g (lw_at lw_m8 130 rfl) rfl
theorem q1915 : (Jvm.Cond.superclass "java/util/ConcurrentModificationException" "java/lang/RuntimeException") ∈ lw_all := lw_g (lw_at lw_m8 131 rfl) rfl
theorem q3865 : (Jvm.Cond.castable "java/util/ConcurrentModificationException" "java/lang/Object") ∈ lw_tbl := lw_at lw_m16 161 rfl
theorem in_J35 : ∀ w ∈ wsJ350, w ∈ lw_all := lw_in wsJ350 [1905, 1906, 1907, 1908, 1909, 1914] (by decide +kernel) (by decide +kernel)
def RJ36 : String := "java/util/List"
abbrev cJ36_of : ByteArray := prog_84_method_36_code
def yJ36_of : MethodName := ⟨RJ36, "of", "()Ljava/util/List;"⟩
theorem q169 : (Jvm.Cond.initialized "java/util/List") ∈ lw_all := lw_g (lw_at lw_m1 65 rfl) rfl
theorem q1822 : (Jvm.Cond.interfaceMethod "java/util/List" "java/util/List" "get" "(I)Ljava/lang/Object;") ∈ lw_tbl := lw_at lw_m8 38 rfl
theorem q1823 : (Jvm.Cond.declares ({ cls := "java/util/List", name := "get", desc := "(I)Ljava/lang/Object;" } : Jvm.MethodName)) ∈ lw_tbl := lw_at lw_m8 39 rfl
theorem q2871 : (Jvm.Cond.interfaceMethod "java/util/List" "java/util/List" "isEmpty" "()Z") ∈ lw_tbl := lw_at lw_m12 127 rfl
theorem q2872 : (Jvm.Cond.declares ({ cls := "java/util/List", name := "isEmpty", desc := "()Z" } : Jvm.MethodName)) ∈ lw_tbl := lw_at lw_m12 128 rfl
theorem q2896 : (Jvm.Cond.interfaceMethod "java/util/List" "java/util/List" "size" "()I") ∈ lw_tbl := lw_at lw_m12 152 rfl
theorem q2897 : (Jvm.Cond.declares ({ cls := "java/util/List", name := "size", desc := "()I" } : Jvm.MethodName)) ∈ lw_tbl := lw_at lw_m12 153 rfl
theorem q2965 : (Jvm.Cond.interfaceMethod "java/util/List" "java/util/List" "add" "(Ljava/lang/Object;)Z") ∈ lw_tbl := lw_at lw_m12 221 rfl
theorem q2966 : (Jvm.Cond.declares ({ cls := "java/util/List", name := "add", desc := "(Ljava/lang/Object;)Z" } : Jvm.MethodName)) ∈ lw_tbl := lw_at lw_m12 222 rfl
theorem q2990 : (Jvm.Cond.interfaceMethod "java/util/List" "java/util/List" "iterator" "()Ljava/util/Iterator;") ∈ lw_tbl := lw_at lw_m13 6 rfl
theorem q2991 : (Jvm.Cond.declares ({ cls := "java/util/List", name := "iterator", desc := "()Ljava/util/Iterator;" } : Jvm.MethodName)) ∈ lw_tbl := lw_at lw_m13 7 rfl
theorem q3042 : (Jvm.Cond.interfaceMethod "java/util/List" "java/util/List" "remove" "(I)Ljava/lang/Object;") ∈ lw_tbl := lw_at lw_m13 58 rfl
theorem q3043 : (Jvm.Cond.declares ({ cls := "java/util/List", name := "remove", desc := "(I)Ljava/lang/Object;" } : Jvm.MethodName)) ∈ lw_tbl := lw_at lw_m13 59 rfl
theorem q3064 : (Jvm.Cond.interfaceMethod "java/util/List" "java/util/List" "clear" "()V") ∈ lw_tbl := lw_at lw_m13 80 rfl
theorem q3065 : (Jvm.Cond.declares ({ cls := "java/util/List", name := "clear", desc := "()V" } : Jvm.MethodName)) ∈ lw_tbl := lw_at lw_m13 81 rfl
theorem q3099 : (Jvm.Cond.static ({ cls := "java/util/List", name := "of", desc := "()Ljava/util/List;" } : Jvm.MethodName)) ∈ lw_all := lw_g (lw_at lw_m13 115 rfl) rfl
theorem q3100 : (Jvm.Cond.code ({ cls := "java/util/List", name := "of", desc := "()Ljava/util/List;" } : Jvm.MethodName) prog_84_method_36_code (0 : Nat) (Option.some (Jvm.ClassFile.FieldType.object "java/util/List"))) ∈ lw_all := lw_g (lw_at lw_m13 116 rfl) rfl
theorem q3101 : (Jvm.Cond.fieldLink "java/util/List" (90 : Nat) "java/util/ImmutableCollections" "EMPTY_LIST" "Ljava/util/ImmutableCollections$ListN;") ∈ lw_all := lw_g (lw_at lw_m13 117 rfl) rfl
theorem q3606 : (Jvm.Cond.interfaceMethod "java/util/List" "java/util/List" "remove" "(Ljava/lang/Object;)Z") ∈ lw_tbl := lw_at lw_m15 142 rfl
theorem q3607 : (Jvm.Cond.declares ({ cls := "java/util/List", name := "remove", desc := "(Ljava/lang/Object;)Z" } : Jvm.MethodName)) ∈ lw_tbl := lw_at lw_m15 143 rfl
def RJ37 : String := "jdk/internal/misc/Unsafe"
abbrev cJ37_getLongUnaligned : ByteArray := prog_91_method_334_code
def yJ37_getLongUnaligned : MethodName := ⟨RJ37, "getLongUnaligned", "(Ljava/lang/Object;J)J"⟩
abbrev cJ37_makeLong : ByteArray := prog_91_method_353_code
def yJ37_makeLong : MethodName := ⟨RJ37, "makeLong", "(II)J"⟩
abbrev cJ37_toUnsignedLong : ByteArray := prog_91_method_370_code
def yJ37_toUnsignedLong : MethodName := ⟨RJ37, "toUnsignedLong", "(I)J"⟩
abbrev cJ37_pickPos : ByteArray := prog_91_method_350_code
def yJ37_pickPos : MethodName := ⟨RJ37, "pickPos", "(II)I"⟩
abbrev cJ37_makeLong_2 : ByteArray := prog_91_method_352_code
def yJ37_makeLong_2 : MethodName := ⟨RJ37, "makeLong", "(SSSS)J"⟩
abbrev cJ37_toUnsignedLong_2 : ByteArray := prog_91_method_369_code
def yJ37_toUnsignedLong_2 : MethodName := ⟨RJ37, "toUnsignedLong", "(S)J"⟩
abbrev cJ37_makeLong_3 : ByteArray := prog_91_method_351_code
def yJ37_makeLong_3 : MethodName := ⟨RJ37, "makeLong", "(BBBBBBBB)J"⟩
abbrev cJ37_toUnsignedLong_3 : ByteArray := prog_91_method_368_code
def yJ37_toUnsignedLong_3 : MethodName := ⟨RJ37, "toUnsignedLong", "(B)J"⟩
abbrev cJ37_getIntUnaligned : ByteArray := prog_91_method_336_code
def yJ37_getIntUnaligned : MethodName := ⟨RJ37, "getIntUnaligned", "(Ljava/lang/Object;J)I"⟩
abbrev cJ37_makeInt : ByteArray := prog_91_method_354_code
def yJ37_makeInt : MethodName := ⟨RJ37, "makeInt", "(SS)I"⟩
abbrev cJ37_toUnsignedInt : ByteArray := prog_91_method_367_code
def yJ37_toUnsignedInt : MethodName := ⟨RJ37, "toUnsignedInt", "(S)I"⟩
abbrev cJ37_makeInt_2 : ByteArray := prog_91_method_355_code
def yJ37_makeInt_2 : MethodName := ⟨RJ37, "makeInt", "(BBBB)I"⟩
abbrev cJ37_toUnsignedInt_2 : ByteArray := prog_91_method_366_code
def yJ37_toUnsignedInt_2 : MethodName := ⟨RJ37, "toUnsignedInt", "(B)I"⟩
theorem q174 : (Jvm.Cond.initialized "jdk/internal/misc/Unsafe") ∈ lw_all := lw_g (lw_at lw_m1 70 rfl) rfl
theorem q988 : (Jvm.Cond.selects "jdk/internal/misc/Unsafe" ({ cls := "java/lang/Object", name := "getClass", desc := "()Ljava/lang/Class;" } : Jvm.MethodName) ({ cls := "java/lang/Object", name := "getClass", desc := "()Ljava/lang/Class;" } : Jvm.MethodName)) ∈ lw_all := lw_g (lw_at lw_m4 164 rfl) rfl
theorem q2494 : (Jvm.Cond.selects "jdk/internal/misc/Unsafe" ({ cls := "java/lang/Object", name := "equals", desc := "(Ljava/lang/Object;)Z" } : Jvm.MethodName) ({ cls := "java/lang/Object", name := "equals", desc := "(Ljava/lang/Object;)Z" } : Jvm.MethodName)) ∈ lw_all := lw_g (lw_at lw_m10 230 rfl) rfl
theorem q3426 : (Jvm.Cond.laysStatic "jdk/internal/misc/Unsafe" "ARRAY_BYTE_BASE_OFFSET" "I") ∈ lw_tbl := lw_at lw_m14 202 rfl
theorem q3437 : (Jvm.Cond.instanceMethod ({ cls := "jdk/internal/misc/Unsafe", name := "getLongUnaligned", desc := "(Ljava/lang/Object;J)J" } : Jvm.MethodName)) ∈ lw_all := lw_g (lw_at lw_m14 213 rfl) rfl
theorem q3438 : (Jvm.Cond.selects "jdk/internal/misc/Unsafe" ({ cls := "jdk/internal/misc/Unsafe", name := "getLongUnaligned", desc := "(Ljava/lang/Object;J)J" } : Jvm.MethodName) ({ cls := "jdk/internal/misc/Unsafe", name := "getLongUnaligned", desc := "(Ljava/lang/Object;J)J" } : Jvm.MethodName)) ∈ lw_all := lw_g (lw_at lw_m14 214 rfl) rfl
theorem q3439 : (Jvm.Cond.code ({ cls := "jdk/internal/misc/Unsafe", name := "getLongUnaligned", desc := "(Ljava/lang/Object;J)J" } : Jvm.MethodName) prog_91_method_334_code (4 : Nat) (Option.some Jvm.ClassFile.FieldType.long)) ∈ lw_all := lw_g (lw_at lw_m14 215 rfl) rfl
theorem q3440 : (Jvm.Cond.constantLong "jdk/internal/misc/Unsafe" (696 : Nat) (7 : Int64)) ∈ lw_all := lw_g (lw_at lw_m14 216 rfl) rfl
theorem q3441 : (Jvm.Cond.methodLink "jdk/internal/misc/Unsafe" (27 : Nat) ({ cls := "jdk/internal/misc/Unsafe", name := "getLong", desc := "(Ljava/lang/Object;J)J" } : Jvm.MethodName)) ∈ lw_all := lw_g (lw_at lw_m14 217 rfl) rfl
theorem q3442 : (Jvm.Cond.instanceMethod ({ cls := "jdk/internal/misc/Unsafe", name := "getLong", desc := "(Ljava/lang/Object;J)J" } : Jvm.MethodName)) ∈ lw_all := lw_g (lw_at lw_m14 218 rfl) rfl
theorem q3443 : (Jvm.Cond.selects "jdk/internal/misc/Unsafe" ({ cls := "jdk/internal/misc/Unsafe", name := "getLong", desc := "(Ljava/lang/Object;J)J" } : Jvm.MethodName) ({ cls := "jdk/internal/misc/Unsafe", name := "getLong", desc := "(Ljava/lang/Object;J)J" } : Jvm.MethodName)) ∈ lw_all := lw_g (lw_at lw_m14 219 rfl) rfl
theorem q3444 : (Jvm.Cond.native ({ cls := "jdk/internal/misc/Unsafe", name := "getLong", desc := "(Ljava/lang/Object;J)J" } : Jvm.MethodName)) ∈ lw_all := lw_g (lw_at lw_m14 220 rfl) rfl
theorem q3445 : (Jvm.Cond.constantLong "jdk/internal/misc/Unsafe" (349 : Nat) (3 : Int64)) ∈ lw_all := lw_g (lw_at lw_m14 221 rfl) rfl
theorem q3446 : (Jvm.Cond.methodLink "jdk/internal/misc/Unsafe" (17 : Nat) ({ cls := "jdk/internal/misc/Unsafe", name := "getInt", desc := "(Ljava/lang/Object;J)I" } : Jvm.MethodName)) ∈ lw_all := lw_g (lw_at lw_m14 222 rfl) rfl
theorem q3447 : (Jvm.Cond.instanceMethod ({ cls := "jdk/internal/misc/Unsafe", name := "getInt", desc := "(Ljava/lang/Object;J)I" } : Jvm.MethodName)) ∈ lw_all := lw_g (lw_at lw_m14 223 rfl) rfl
theorem q3448 : (Jvm.Cond.selects "jdk/internal/misc/Unsafe" ({ cls := "jdk/internal/misc/Unsafe", name := "getInt", desc := "(Ljava/lang/Object;J)I" } : Jvm.MethodName) ({ cls := "jdk/internal/misc/Unsafe", name := "getInt", desc := "(Ljava/lang/Object;J)I" } : Jvm.MethodName)) ∈ lw_all := lw_g (lw_at lw_m14 224 rfl) rfl
theorem q3449 : (Jvm.Cond.native ({ cls := "jdk/internal/misc/Unsafe", name := "getInt", desc := "(Ljava/lang/Object;J)I" } : Jvm.MethodName)) ∈ lw_all := lw_g (lw_at lw_m14 225 rfl) rfl
theorem q3450 : (Jvm.Cond.constantLong "jdk/internal/misc/Unsafe" (205 : Nat) (4 : Int64)) ∈ lw_all := lw_g (lw_at lw_m14 226 rfl) rfl
theorem q3451 : (Jvm.Cond.methodLink "jdk/internal/misc/Unsafe" (698 : Nat) ({ cls := "jdk/internal/misc/Unsafe", name := "makeLong", desc := "(II)J" } : Jvm.MethodName)) ∈ lw_all := lw_g (lw_at lw_m14 227 rfl) rfl
theorem q3452 : (Jvm.Cond.static ({ cls := "jdk/internal/misc/Unsafe", name := "makeLong", desc := "(II)J" } : Jvm.MethodName)) ∈ lw_all := lw_g (lw_at lw_m14 228 rfl) rfl
theorem q3453 : (Jvm.Cond.code ({ cls := "jdk/internal/misc/Unsafe", name := "makeLong", desc := "(II)J" } : Jvm.MethodName) prog_91_method_353_code (2 : Nat) (Option.some Jvm.ClassFile.FieldType.long)) ∈ lw_all := lw_g (lw_at lw_m14 229 rfl) rfl
theorem q3454 : (Jvm.Cond.methodLink "jdk/internal/misc/Unsafe" (791 : Nat) ({ cls := "jdk/internal/misc/Unsafe", name := "toUnsignedLong", desc := "(I)J" } : Jvm.MethodName)) ∈ lw_all := lw_g (lw_at lw_m14 230 rfl) rfl
theorem q3455 : (Jvm.Cond.static ({ cls := "jdk/internal/misc/Unsafe", name := "toUnsignedLong", desc := "(I)J" } : Jvm.MethodName)) ∈ lw_all := lw_g (lw_at lw_m14 231 rfl) rfl
theorem q3456 : (Jvm.Cond.code ({ cls := "jdk/internal/misc/Unsafe", name := "toUnsignedLong", desc := "(I)J" } : Jvm.MethodName) prog_91_method_370_code (1 : Nat) (Option.some Jvm.ClassFile.FieldType.long)) ∈ lw_all := lw_g (lw_at lw_m14 232 rfl) rfl
theorem q3457 : (Jvm.Cond.constantLong "jdk/internal/misc/Unsafe" (812 : Nat) (4294967295 : Int64)) ∈ lw_all := lw_g (lw_at lw_m14 233 rfl) rfl
theorem q3458 : (Jvm.Cond.methodLink "jdk/internal/misc/Unsafe" (784 : Nat) ({ cls := "jdk/internal/misc/Unsafe", name := "pickPos", desc := "(II)I" } : Jvm.MethodName)) ∈ lw_all := lw_g (lw_at lw_m14 234 rfl) rfl
theorem q3459 : (Jvm.Cond.static ({ cls := "jdk/internal/misc/Unsafe", name := "pickPos", desc := "(II)I" } : Jvm.MethodName)) ∈ lw_all := lw_g (lw_at lw_m14 235 rfl) rfl
theorem q3460 : (Jvm.Cond.code ({ cls := "jdk/internal/misc/Unsafe", name := "pickPos", desc := "(II)I" } : Jvm.MethodName) prog_91_method_350_code (2 : Nat) (Option.some Jvm.ClassFile.FieldType.int)) ∈ lw_all := lw_g (lw_at lw_m14 236 rfl) rfl
theorem q3461 : (Jvm.Cond.fieldLink "jdk/internal/misc/Unsafe" (351 : Nat) "jdk/internal/misc/UnsafeConstants" "BIG_ENDIAN" "Z") ∈ lw_all := lw_g (lw_at lw_m14 237 rfl) rfl
theorem q3463 : (Jvm.Cond.methodLink "jdk/internal/misc/Unsafe" (47 : Nat) ({ cls := "jdk/internal/misc/Unsafe", name := "getShort", desc := "(Ljava/lang/Object;J)S" } : Jvm.MethodName)) ∈ lw_all := lw_g (lw_at lw_m14 239 rfl) rfl
theorem q3464 : (Jvm.Cond.instanceMethod ({ cls := "jdk/internal/misc/Unsafe", name := "getShort", desc := "(Ljava/lang/Object;J)S" } : Jvm.MethodName)) ∈ lw_all := lw_g (lw_at lw_m15 0 rfl) rfl
theorem q3465 : (Jvm.Cond.selects "jdk/internal/misc/Unsafe" ({ cls := "jdk/internal/misc/Unsafe", name := "getShort", desc := "(Ljava/lang/Object;J)S" } : Jvm.MethodName) ({ cls := "jdk/internal/misc/Unsafe", name := "getShort", desc := "(Ljava/lang/Object;J)S" } : Jvm.MethodName)) ∈ lw_all := lw_g (lw_at lw_m15 1 rfl) rfl
theorem q3466 : (Jvm.Cond.native ({ cls := "jdk/internal/misc/Unsafe", name := "getShort", desc := "(Ljava/lang/Object;J)S" } : Jvm.MethodName)) ∈ lw_all := lw_g (lw_at lw_m15 2 rfl) rfl
theorem q3467 : (Jvm.Cond.constantLong "jdk/internal/misc/Unsafe" (203 : Nat) (2 : Int64)) ∈ lw_all := lw_g (lw_at lw_m15 3 rfl) rfl
theorem q3468 : (Jvm.Cond.constantLong "jdk/internal/misc/Unsafe" (702 : Nat) (6 : Int64)) ∈ lw_all := lw_g (lw_at lw_m15 4 rfl) rfl
theorem q3469 : (Jvm.Cond.methodLink "jdk/internal/misc/Unsafe" (704 : Nat) ({ cls := "jdk/internal/misc/Unsafe", name := "makeLong", desc := "(SSSS)J" } : Jvm.MethodName)) ∈ lw_all := lw_g (lw_at lw_m15 5 rfl) rfl
theorem q3470 : (Jvm.Cond.static ({ cls := "jdk/internal/misc/Unsafe", name := "makeLong", desc := "(SSSS)J" } : Jvm.MethodName)) ∈ lw_all := lw_g (lw_at lw_m15 6 rfl) rfl
theorem q3471 : (Jvm.Cond.code ({ cls := "jdk/internal/misc/Unsafe", name := "makeLong", desc := "(SSSS)J" } : Jvm.MethodName) prog_91_method_352_code (4 : Nat) (Option.some Jvm.ClassFile.FieldType.long)) ∈ lw_all := lw_g (lw_at lw_m15 7 rfl) rfl
theorem q3472 : (Jvm.Cond.methodLink "jdk/internal/misc/Unsafe" (788 : Nat) ({ cls := "jdk/internal/misc/Unsafe", name := "toUnsignedLong", desc := "(S)J" } : Jvm.MethodName)) ∈ lw_all := lw_g (lw_at lw_m15 8 rfl) rfl
theorem q3473 : (Jvm.Cond.static ({ cls := "jdk/internal/misc/Unsafe", name := "toUnsignedLong", desc := "(S)J" } : Jvm.MethodName)) ∈ lw_all := lw_g (lw_at lw_m15 9 rfl) rfl
theorem q3474 : (Jvm.Cond.code ({ cls := "jdk/internal/misc/Unsafe", name := "toUnsignedLong", desc := "(S)J" } : Jvm.MethodName) prog_91_method_369_code (1 : Nat) (Option.some Jvm.ClassFile.FieldType.long)) ∈ lw_all := lw_g (lw_at lw_m15 10 rfl) rfl
theorem q3475 : (Jvm.Cond.constantLong "jdk/internal/misc/Unsafe" (810 : Nat) (65535 : Int64)) ∈ lw_all := lw_g (lw_at lw_m15 11 rfl) rfl
theorem q3476 : (Jvm.Cond.methodLink "jdk/internal/misc/Unsafe" (39 : Nat) ({ cls := "jdk/internal/misc/Unsafe", name := "getByte", desc := "(Ljava/lang/Object;J)B" } : Jvm.MethodName)) ∈ lw_all := lw_g (lw_at lw_m15 12 rfl) rfl
theorem q3477 : (Jvm.Cond.instanceMethod ({ cls := "jdk/internal/misc/Unsafe", name := "getByte", desc := "(Ljava/lang/Object;J)B" } : Jvm.MethodName)) ∈ lw_all := lw_g (lw_at lw_m15 13 rfl) rfl
theorem q3478 : (Jvm.Cond.selects "jdk/internal/misc/Unsafe" ({ cls := "jdk/internal/misc/Unsafe", name := "getByte", desc := "(Ljava/lang/Object;J)B" } : Jvm.MethodName) ({ cls := "jdk/internal/misc/Unsafe", name := "getByte", desc := "(Ljava/lang/Object;J)B" } : Jvm.MethodName)) ∈ lw_all := lw_g (lw_at lw_m15 14 rfl) rfl
theorem q3479 : (Jvm.Cond.native ({ cls := "jdk/internal/misc/Unsafe", name := "getByte", desc := "(Ljava/lang/Object;J)B" } : Jvm.MethodName)) ∈ lw_all := lw_g (lw_at lw_m15 15 rfl) rfl
theorem q3480 : (Jvm.Cond.constantLong "jdk/internal/misc/Unsafe" (707 : Nat) (5 : Int64)) ∈ lw_all := lw_g (lw_at lw_m15 16 rfl) rfl
theorem q3481 : (Jvm.Cond.methodLink "jdk/internal/misc/Unsafe" (709 : Nat) ({ cls := "jdk/internal/misc/Unsafe", name := "makeLong", desc := "(BBBBBBBB)J" } : Jvm.MethodName)) ∈ lw_all := lw_g (lw_at lw_m15 17 rfl) rfl
theorem q3482 : (Jvm.Cond.static ({ cls := "jdk/internal/misc/Unsafe", name := "makeLong", desc := "(BBBBBBBB)J" } : Jvm.MethodName)) ∈ lw_all := lw_g (lw_at lw_m15 18 rfl) rfl
theorem q3483 : (Jvm.Cond.code ({ cls := "jdk/internal/misc/Unsafe", name := "makeLong", desc := "(BBBBBBBB)J" } : Jvm.MethodName) prog_91_method_351_code (8 : Nat) (Option.some Jvm.ClassFile.FieldType.long)) ∈ lw_all := lw_g (lw_at lw_m15 19 rfl) rfl
theorem q3484 : (Jvm.Cond.methodLink "jdk/internal/misc/Unsafe" (781 : Nat) ({ cls := "jdk/internal/misc/Unsafe", name := "toUnsignedLong", desc := "(B)J" } : Jvm.MethodName)) ∈ lw_all := lw_g (lw_at lw_m15 20 rfl) rfl
theorem q3485 : (Jvm.Cond.static ({ cls := "jdk/internal/misc/Unsafe", name := "toUnsignedLong", desc := "(B)J" } : Jvm.MethodName)) ∈ lw_all := lw_g (lw_at lw_m15 21 rfl) rfl
theorem q3486 : (Jvm.Cond.code ({ cls := "jdk/internal/misc/Unsafe", name := "toUnsignedLong", desc := "(B)J" } : Jvm.MethodName) prog_91_method_368_code (1 : Nat) (Option.some Jvm.ClassFile.FieldType.long)) ∈ lw_all := lw_g (lw_at lw_m15 22 rfl) rfl
theorem q3487 : (Jvm.Cond.constantLong "jdk/internal/misc/Unsafe" (808 : Nat) (255 : Int64)) ∈ lw_all := lw_g (lw_at lw_m15 23 rfl) rfl
theorem q3508 : (Jvm.Cond.instanceMethod ({ cls := "jdk/internal/misc/Unsafe", name := "getIntUnaligned", desc := "(Ljava/lang/Object;J)I" } : Jvm.MethodName)) ∈ lw_all := lw_g (lw_at lw_m15 44 rfl) rfl
theorem q3509 : (Jvm.Cond.selects "jdk/internal/misc/Unsafe" ({ cls := "jdk/internal/misc/Unsafe", name := "getIntUnaligned", desc := "(Ljava/lang/Object;J)I" } : Jvm.MethodName) ({ cls := "jdk/internal/misc/Unsafe", name := "getIntUnaligned", desc := "(Ljava/lang/Object;J)I" } : Jvm.MethodName)) ∈ lw_all := lw_g (lw_at lw_m15 45 rfl) rfl
theorem q3510 : (Jvm.Cond.code ({ cls := "jdk/internal/misc/Unsafe", name := "getIntUnaligned", desc := "(Ljava/lang/Object;J)I" } : Jvm.MethodName) prog_91_method_336_code (4 : Nat) (Option.some Jvm.ClassFile.FieldType.int)) ∈ lw_all := lw_g (lw_at lw_m15 46 rfl) rfl
theorem q3511 : (Jvm.Cond.methodLink "jdk/internal/misc/Unsafe" (719 : Nat) ({ cls := "jdk/internal/misc/Unsafe", name := "makeInt", desc := "(SS)I" } : Jvm.MethodName)) ∈ lw_all := lw_g (lw_at lw_m15 47 rfl) rfl
theorem q3512 : (Jvm.Cond.static ({ cls := "jdk/internal/misc/Unsafe", name := "makeInt", desc := "(SS)I" } : Jvm.MethodName)) ∈ lw_all := lw_g (lw_at lw_m15 48 rfl) rfl
theorem q3513 : (Jvm.Cond.code ({ cls := "jdk/internal/misc/Unsafe", name := "makeInt", desc := "(SS)I" } : Jvm.MethodName) prog_91_method_354_code (2 : Nat) (Option.some Jvm.ClassFile.FieldType.int)) ∈ lw_all := lw_g (lw_at lw_m15 49 rfl) rfl
theorem q3514 : (Jvm.Cond.methodLink "jdk/internal/misc/Unsafe" (792 : Nat) ({ cls := "jdk/internal/misc/Unsafe", name := "toUnsignedInt", desc := "(S)I" } : Jvm.MethodName)) ∈ lw_all := lw_g (lw_at lw_m15 50 rfl) rfl
theorem q3515 : (Jvm.Cond.static ({ cls := "jdk/internal/misc/Unsafe", name := "toUnsignedInt", desc := "(S)I" } : Jvm.MethodName)) ∈ lw_all := lw_g (lw_at lw_m15 51 rfl) rfl
theorem q3516 : (Jvm.Cond.code ({ cls := "jdk/internal/misc/Unsafe", name := "toUnsignedInt", desc := "(S)I" } : Jvm.MethodName) prog_91_method_367_code (1 : Nat) (Option.some Jvm.ClassFile.FieldType.int)) ∈ lw_all := lw_g (lw_at lw_m15 52 rfl) rfl
theorem q3517 : (Jvm.Cond.constant "jdk/internal/misc/Unsafe" (374 : Nat) (65535 : Int32)) ∈ lw_all := lw_g (lw_at lw_m15 53 rfl) rfl
theorem q3518 : (Jvm.Cond.methodLink "jdk/internal/misc/Unsafe" (723 : Nat) ({ cls := "jdk/internal/misc/Unsafe", name := "makeInt", desc := "(BBBB)I" } : Jvm.MethodName)) ∈ lw_all := lw_g (lw_at lw_m15 54 rfl) rfl
theorem q3519 : (Jvm.Cond.static ({ cls := "jdk/internal/misc/Unsafe", name := "makeInt", desc := "(BBBB)I" } : Jvm.MethodName)) ∈ lw_all := lw_g (lw_at lw_m15 55 rfl) rfl
theorem q3520 : (Jvm.Cond.code ({ cls := "jdk/internal/misc/Unsafe", name := "makeInt", desc := "(BBBB)I" } : Jvm.MethodName) prog_91_method_355_code (4 : Nat) (Option.some Jvm.ClassFile.FieldType.int)) ∈ lw_all := lw_g (lw_at lw_m15 56 rfl) rfl
theorem q3521 : (Jvm.Cond.methodLink "jdk/internal/misc/Unsafe" (796 : Nat) ({ cls := "jdk/internal/misc/Unsafe", name := "toUnsignedInt", desc := "(B)I" } : Jvm.MethodName)) ∈ lw_all := lw_g (lw_at lw_m15 57 rfl) rfl
theorem q3522 : (Jvm.Cond.static ({ cls := "jdk/internal/misc/Unsafe", name := "toUnsignedInt", desc := "(B)I" } : Jvm.MethodName)) ∈ lw_all := lw_g (lw_at lw_m15 58 rfl) rfl
theorem q3523 : (Jvm.Cond.code ({ cls := "jdk/internal/misc/Unsafe", name := "toUnsignedInt", desc := "(B)I" } : Jvm.MethodName) prog_91_method_366_code (1 : Nat) (Option.some Jvm.ClassFile.FieldType.int)) ∈ lw_all := lw_g (lw_at lw_m15 59 rfl) rfl
theorem q3870 : (Jvm.Cond.castable "jdk/internal/misc/Unsafe" "java/lang/Object") ∈ lw_tbl := lw_at lw_m16 166 rfl
def RJ38 : String := "java/lang/Long"
abbrev cJ38_numberOfLeadingZeros : ByteArray := prog_48_method_48_code
def yJ38_numberOfLeadingZeros : MethodName := ⟨RJ38, "numberOfLeadingZeros", "(J)I"⟩
abbrev cJ38_numberOfTrailingZeros : ByteArray := prog_48_method_49_code
def yJ38_numberOfTrailingZeros : MethodName := ⟨RJ38, "numberOfTrailingZeros", "(J)I"⟩
theorem q176 : (Jvm.Cond.initialized "java/lang/Long") ∈ lw_all := lw_g (lw_at lw_m1 72 rfl) rfl
theorem q3491 : (Jvm.Cond.static ({ cls := "java/lang/Long", name := "numberOfLeadingZeros", desc := "(J)I" } : Jvm.MethodName)) ∈ lw_all := lw_g (lw_at lw_m15 27 rfl) rfl
theorem q3492 : (Jvm.Cond.code ({ cls := "java/lang/Long", name := "numberOfLeadingZeros", desc := "(J)I" } : Jvm.MethodName) prog_48_method_48_code (3 : Nat) (Option.some Jvm.ClassFile.FieldType.int)) ∈ lw_all := lw_g (lw_at lw_m15 28 rfl) rfl
theorem q3493 : (Jvm.Cond.methodLink "java/lang/Long" (308 : Nat) ({ cls := "java/lang/Integer", name := "numberOfLeadingZeros", desc := "(I)I" } : Jvm.MethodName)) ∈ lw_all := lw_g (lw_at lw_m15 29 rfl) rfl
theorem q3500 : (Jvm.Cond.static ({ cls := "java/lang/Long", name := "numberOfTrailingZeros", desc := "(J)I" } : Jvm.MethodName)) ∈ lw_all := lw_g (lw_at lw_m15 36 rfl) rfl
theorem q3501 : (Jvm.Cond.code ({ cls := "java/lang/Long", name := "numberOfTrailingZeros", desc := "(J)I" } : Jvm.MethodName) prog_48_method_49_code (3 : Nat) (Option.some Jvm.ClassFile.FieldType.int)) ∈ lw_all := lw_g (lw_at lw_m15 37 rfl) rfl
theorem q3502 : (Jvm.Cond.methodLink "java/lang/Long" (311 : Nat) ({ cls := "java/lang/Integer", name := "numberOfTrailingZeros", desc := "(I)I" } : Jvm.MethodName)) ∈ lw_all := lw_g (lw_at lw_m15 38 rfl) rfl
def RJ39 : String := "java/lang/Object"
abbrev cJ39_init : ByteArray := object_method_1_code
def yJ39_init : MethodName := ⟨RJ39, "<init>", "()V"⟩
abbrev cJ39_equals : ByteArray := object_method_4_code
def yJ39_equals : MethodName := ⟨RJ39, "equals", "(Ljava/lang/Object;)Z"⟩
theorem q184 : (Jvm.Cond.instanceMethod ({ cls := "java/lang/Object", name := "<init>", desc := "()V" } : Jvm.MethodName)) ∈ lw_all := lw_g (lw_at lw_m1 80 rfl) rfl
theorem q185 : (Jvm.Cond.code ({ cls := "java/lang/Object", name := "<init>", desc := "()V" } : Jvm.MethodName) object_method_1_code (1 : Nat) (Option.none : Option Jvm.ClassFile.FieldType)) ∈ lw_all := lw_g (lw_at lw_m1 81 rfl) rfl
theorem q373 : (Jvm.Cond.native ({ cls := "java/lang/Object", name := "clone", desc := "()Ljava/lang/Object;" } : Jvm.MethodName)) ∈ lw_all := lw_g (lw_at lw_m2 29 rfl) rfl
theorem q374 : (Jvm.Cond.instanceMethod ({ cls := "java/lang/Object", name := "clone", desc := "()Ljava/lang/Object;" } : Jvm.MethodName)) ∈ lw_all := lw_g (lw_at lw_m2 30 rfl) rfl
theorem q939 : (Jvm.Cond.instanceMethod ({ cls := "java/lang/Object", name := "getClass", desc := "()Ljava/lang/Class;" } : Jvm.MethodName)) ∈ lw_all := lw_g (lw_at lw_m4 115 rfl) rfl
theorem q940 : (Jvm.Cond.sameMethod "java/lang/Object" "java/lang/Object" "getClass" "()Ljava/lang/Class;") ∈ lw_all := lw_g (lw_at lw_m4 116 rfl) rfl
theorem q989 : (Jvm.Cond.native ({ cls := "java/lang/Object", name := "getClass", desc := "()Ljava/lang/Class;" } : Jvm.MethodName)) ∈ lw_all := lw_g (lw_at lw_m4 165 rfl) rfl
theorem q2448 : (Jvm.Cond.declares ({ cls := "java/lang/Object", name := "equals", desc := "(Ljava/lang/Object;)Z" } : Jvm.MethodName)) ∈ lw_tbl := lw_at lw_m10 184 rfl
theorem q2450 : (Jvm.Cond.instanceMethod ({ cls := "java/lang/Object", name := "equals", desc := "(Ljava/lang/Object;)Z" } : Jvm.MethodName)) ∈ lw_all := lw_g (lw_at lw_m10 186 rfl) rfl
theorem q2451 : (Jvm.Cond.sameMethod "java/lang/Object" "java/lang/Object" "equals" "(Ljava/lang/Object;)Z") ∈ lw_all := lw_g (lw_at lw_m10 187 rfl) rfl
theorem q2495 : (Jvm.Cond.code ({ cls := "java/lang/Object", name := "equals", desc := "(Ljava/lang/Object;)Z" } : Jvm.MethodName) object_method_4_code (2 : Nat) (Option.some Jvm.ClassFile.FieldType.boolean)) ∈ lw_all := lw_g (lw_at lw_m10 231 rfl) rfl
theorem q3182 : (Jvm.Cond.declares ({ cls := "java/lang/Object", name := "getClass", desc := "()Ljava/lang/Class;" } : Jvm.MethodName)) ∈ lw_tbl := lw_at lw_m13 198 rfl
theorem q3184 : (Jvm.Cond.publicMethod ({ cls := "java/lang/Object", name := "getClass", desc := "()Ljava/lang/Class;" } : Jvm.MethodName)) ∈ lw_tbl := lw_at lw_m13 200 rfl
theorem q3816 : (Jvm.Cond.initialized "java/lang/Object") ∈ lw_all := lw_g (lw_at lw_m16 112 rfl) rfl
theorem q3895 : (Jvm.Cond.instantiable "java/lang/Object" (0 : Nat)) ∈ lw_all := lw_g (lw_at lw_m16 191 rfl) rfl
def RJ40 : String := "java/util/ImmutableCollections$ListN"
abbrev cJ40_toArray : ByteArray := prog_79_method_7_code
def yJ40_toArray : MethodName := ⟨RJ40, "toArray", "()[Ljava/lang/Object;"⟩
abbrev cJ40_get : ByteArray := prog_79_method_4_code
def yJ40_get : MethodName := ⟨RJ40, "get", "(I)Ljava/lang/Object;"⟩
abbrev cJ40_isEmpty : ByteArray := prog_79_method_2_code
def yJ40_isEmpty : MethodName := ⟨RJ40, "isEmpty", "()Z"⟩
abbrev cJ40_size : ByteArray := prog_79_method_3_code
def yJ40_size : MethodName := ⟨RJ40, "size", "()I"⟩
theorem q983 : (Jvm.Cond.selects "java/util/ImmutableCollections$ListN" ({ cls := "java/lang/Object", name := "getClass", desc := "()Ljava/lang/Class;" } : Jvm.MethodName) ({ cls := "java/lang/Object", name := "getClass", desc := "()Ljava/lang/Class;" } : Jvm.MethodName)) ∈ lw_all := lw_g (lw_at lw_m4 159 rfl) rfl
theorem q1306 : (Jvm.Cond.castable "java/util/ImmutableCollections$ListN" "java/util/Collection") ∈ lw_tbl := lw_at lw_m6 2 rfl
theorem q1307 : (Jvm.Cond.selects "java/util/ImmutableCollections$ListN" ({ cls := "java/util/Collection", name := "toArray", desc := "()[Ljava/lang/Object;" } : Jvm.MethodName) ({ cls := "java/util/ImmutableCollections$ListN", name := "toArray", desc := "()[Ljava/lang/Object;" } : Jvm.MethodName)) ∈ lw_all := lw_g (lw_at lw_m6 3 rfl) rfl
theorem q1308 : (Jvm.Cond.unhidden "java/util/ImmutableCollections$ListN" "toArray" "()[Ljava/lang/Object;") ∈ lw_tbl := lw_at lw_m6 4 rfl
theorem q1309 : (Jvm.Cond.instanceMethod ({ cls := "java/util/ImmutableCollections$ListN", name := "toArray", desc := "()[Ljava/lang/Object;" } : Jvm.MethodName)) ∈ lw_all := lw_g (lw_at lw_m6 5 rfl) rfl
theorem q1310 : (Jvm.Cond.publicMethod ({ cls := "java/util/ImmutableCollections$ListN", name := "toArray", desc := "()[Ljava/lang/Object;" } : Jvm.MethodName)) ∈ lw_tbl := lw_at lw_m6 6 rfl
theorem q1311 : (Jvm.Cond.code ({ cls := "java/util/ImmutableCollections$ListN", name := "toArray", desc := "()[Ljava/lang/Object;" } : Jvm.MethodName) prog_79_method_7_code (1 : Nat) (Option.some (Jvm.ClassFile.FieldType.array (Jvm.ClassFile.FieldType.object "java/lang/Object")))) ∈ lw_all := lw_g (lw_at lw_m6 7 rfl) rfl
theorem q1312 : (Jvm.Cond.methodLink "java/util/ImmutableCollections$ListN" (29 : Nat) ({ cls := "java/util/Arrays", name := "copyOf", desc := "([Ljava/lang/Object;I)[Ljava/lang/Object;" } : Jvm.MethodName)) ∈ lw_all := lw_g (lw_at lw_m6 8 rfl) rfl
theorem q1828 : (Jvm.Cond.castable "java/util/ImmutableCollections$ListN" "java/util/List") ∈ lw_tbl := lw_at lw_m8 44 rfl
theorem q1829 : (Jvm.Cond.selects "java/util/ImmutableCollections$ListN" ({ cls := "java/util/List", name := "get", desc := "(I)Ljava/lang/Object;" } : Jvm.MethodName) ({ cls := "java/util/ImmutableCollections$ListN", name := "get", desc := "(I)Ljava/lang/Object;" } : Jvm.MethodName)) ∈ lw_all := lw_g (lw_at lw_m8 45 rfl) rfl
theorem q1830 : (Jvm.Cond.unhidden "java/util/ImmutableCollections$ListN" "get" "(I)Ljava/lang/Object;") ∈ lw_tbl := lw_at lw_m8 46 rfl
theorem q1831 : (Jvm.Cond.instanceMethod ({ cls := "java/util/ImmutableCollections$ListN", name := "get", desc := "(I)Ljava/lang/Object;" } : Jvm.MethodName)) ∈ lw_all := lw_g (lw_at lw_m8 47 rfl) rfl
theorem q1832 : (Jvm.Cond.publicMethod ({ cls := "java/util/ImmutableCollections$ListN", name := "get", desc := "(I)Ljava/lang/Object;" } : Jvm.MethodName)) ∈ lw_tbl := lw_at lw_m8 48 rfl
theorem q1833 : (Jvm.Cond.code ({ cls := "java/util/ImmutableCollections$ListN", name := "get", desc := "(I)Ljava/lang/Object;" } : Jvm.MethodName) prog_79_method_4_code (2 : Nat) (Option.some (Jvm.ClassFile.FieldType.object "java/lang/Object"))) ∈ lw_all := lw_g (lw_at lw_m8 49 rfl) rfl
theorem q2876 : (Jvm.Cond.selects "java/util/ImmutableCollections$ListN" ({ cls := "java/util/List", name := "isEmpty", desc := "()Z" } : Jvm.MethodName) ({ cls := "java/util/ImmutableCollections$ListN", name := "isEmpty", desc := "()Z" } : Jvm.MethodName)) ∈ lw_all := lw_g (lw_at lw_m12 132 rfl) rfl
theorem q2877 : (Jvm.Cond.unhidden "java/util/ImmutableCollections$ListN" "isEmpty" "()Z") ∈ lw_tbl := lw_at lw_m12 133 rfl
theorem q2878 : (Jvm.Cond.instanceMethod ({ cls := "java/util/ImmutableCollections$ListN", name := "isEmpty", desc := "()Z" } : Jvm.MethodName)) ∈ lw_all := lw_g (lw_at lw_m12 134 rfl) rfl
theorem q2879 : (Jvm.Cond.publicMethod ({ cls := "java/util/ImmutableCollections$ListN", name := "isEmpty", desc := "()Z" } : Jvm.MethodName)) ∈ lw_tbl := lw_at lw_m12 135 rfl
theorem q2880 : (Jvm.Cond.code ({ cls := "java/util/ImmutableCollections$ListN", name := "isEmpty", desc := "()Z" } : Jvm.MethodName) prog_79_method_2_code (1 : Nat) (Option.some Jvm.ClassFile.FieldType.boolean)) ∈ lw_all := lw_g (lw_at lw_m12 136 rfl) rfl
theorem q2892 : (Jvm.Cond.instanceMethod ({ cls := "java/util/ImmutableCollections$ListN", name := "size", desc := "()I" } : Jvm.MethodName)) ∈ lw_all := lw_g (lw_at lw_m12 148 rfl) rfl
theorem q2893 : (Jvm.Cond.code ({ cls := "java/util/ImmutableCollections$ListN", name := "size", desc := "()I" } : Jvm.MethodName) prog_79_method_3_code (1 : Nat) (Option.some Jvm.ClassFile.FieldType.int)) ∈ lw_all := lw_g (lw_at lw_m12 149 rfl) rfl
theorem q2901 : (Jvm.Cond.selects "java/util/ImmutableCollections$ListN" ({ cls := "java/util/List", name := "size", desc := "()I" } : Jvm.MethodName) ({ cls := "java/util/ImmutableCollections$ListN", name := "size", desc := "()I" } : Jvm.MethodName)) ∈ lw_all := lw_g (lw_at lw_m12 157 rfl) rfl
theorem q2902 : (Jvm.Cond.unhidden "java/util/ImmutableCollections$ListN" "size" "()I") ∈ lw_tbl := lw_at lw_m12 158 rfl
theorem q2903 : (Jvm.Cond.publicMethod ({ cls := "java/util/ImmutableCollections$ListN", name := "size", desc := "()I" } : Jvm.MethodName)) ∈ lw_tbl := lw_at lw_m12 159 rfl
theorem q2970 : (Jvm.Cond.selects "java/util/ImmutableCollections$ListN" ({ cls := "java/util/List", name := "add", desc := "(Ljava/lang/Object;)Z" } : Jvm.MethodName) ({ cls := "java/util/ImmutableCollections$AbstractImmutableCollection", name := "add", desc := "(Ljava/lang/Object;)Z" } : Jvm.MethodName)) ∈ lw_all := lw_g (lw_at lw_m12 226 rfl) rfl
theorem q2971 : (Jvm.Cond.unhidden "java/util/ImmutableCollections$ListN" "add" "(Ljava/lang/Object;)Z") ∈ lw_tbl := lw_at lw_m12 227 rfl
theorem q3005 : (Jvm.Cond.selects "java/util/ImmutableCollections$ListN" ({ cls := "java/util/List", name := "iterator", desc := "()Ljava/util/Iterator;" } : Jvm.MethodName) ({ cls := "java/util/ImmutableCollections$AbstractImmutableList", name := "iterator", desc := "()Ljava/util/Iterator;" } : Jvm.MethodName)) ∈ lw_all := lw_g (lw_at lw_m13 21 rfl) rfl
theorem q3006 : (Jvm.Cond.unhidden "java/util/ImmutableCollections$ListN" "iterator" "()Ljava/util/Iterator;") ∈ lw_tbl := lw_at lw_m13 22 rfl
theorem q3014 : (Jvm.Cond.selects "java/util/ImmutableCollections$ListN" ({ cls := "java/util/ImmutableCollections$AbstractImmutableList", name := "size", desc := "()I" } : Jvm.MethodName) ({ cls := "java/util/ImmutableCollections$ListN", name := "size", desc := "()I" } : Jvm.MethodName)) ∈ lw_all := lw_g (lw_at lw_m13 30 rfl) rfl
theorem q3047 : (Jvm.Cond.selects "java/util/ImmutableCollections$ListN" ({ cls := "java/util/List", name := "remove", desc := "(I)Ljava/lang/Object;" } : Jvm.MethodName) ({ cls := "java/util/ImmutableCollections$AbstractImmutableList", name := "remove", desc := "(I)Ljava/lang/Object;" } : Jvm.MethodName)) ∈ lw_all := lw_g (lw_at lw_m13 63 rfl) rfl
theorem q3048 : (Jvm.Cond.unhidden "java/util/ImmutableCollections$ListN" "remove" "(I)Ljava/lang/Object;") ∈ lw_tbl := lw_at lw_m13 64 rfl
theorem q3071 : (Jvm.Cond.selects "java/util/ImmutableCollections$ListN" ({ cls := "java/util/List", name := "clear", desc := "()V" } : Jvm.MethodName) ({ cls := "java/util/ImmutableCollections$AbstractImmutableCollection", name := "clear", desc := "()V" } : Jvm.MethodName)) ∈ lw_all := lw_g (lw_at lw_m13 87 rfl) rfl
theorem q3072 : (Jvm.Cond.unhidden "java/util/ImmutableCollections$ListN" "clear" "()V") ∈ lw_tbl := lw_at lw_m13 88 rfl
theorem q3186 : (Jvm.Cond.unhidden "java/util/ImmutableCollections$ListN" "getClass" "()Ljava/lang/Class;") ∈ lw_tbl := lw_at lw_m13 202 rfl
theorem q3614 : (Jvm.Cond.selects "java/util/ImmutableCollections$ListN" ({ cls := "java/util/List", name := "remove", desc := "(Ljava/lang/Object;)Z" } : Jvm.MethodName) ({ cls := "java/util/ImmutableCollections$AbstractImmutableCollection", name := "remove", desc := "(Ljava/lang/Object;)Z" } : Jvm.MethodName)) ∈ lw_all := lw_g (lw_at lw_m15 150 rfl) rfl
theorem q3615 : (Jvm.Cond.unhidden "java/util/ImmutableCollections$ListN" "remove" "(Ljava/lang/Object;)Z") ∈ lw_tbl := lw_at lw_m15 151 rfl
theorem q3811 : (Jvm.Cond.selects "java/util/ImmutableCollections$ListN" ({ cls := "java/util/AbstractCollection", name := "size", desc := "()I" } : Jvm.MethodName) ({ cls := "java/util/ImmutableCollections$ListN", name := "size", desc := "()I" } : Jvm.MethodName)) ∈ lw_all := lw_g (lw_at lw_m16 107 rfl) rfl
theorem q3866 : (Jvm.Cond.castable "java/util/ImmutableCollections$ListN" "java/lang/Object") ∈ lw_tbl := lw_at lw_m16 162 rfl
theorem q3887 : (Jvm.Cond.fieldLink "java/util/ImmutableCollections$ListN" (7 : Nat) "java/util/ImmutableCollections$ListN" "elements" "[Ljava/lang/Object;") ∈ lw_all := lw_g (lw_at lw_m16 183 rfl) rfl
def RJ41 : String := "java/util/ImmutableCollections$AbstractImmutableCollection"
abbrev cJ41_add : ByteArray := prog_75_method_2_code
def yJ41_add : MethodName := ⟨RJ41, "add", "(Ljava/lang/Object;)Z"⟩
abbrev cJ41_clear : ByteArray := prog_75_method_4_code
def yJ41_clear : MethodName := ⟨RJ41, "clear", "()V"⟩
abbrev cJ41_remove : ByteArray := prog_75_method_5_code
def yJ41_remove : MethodName := ⟨RJ41, "remove", "(Ljava/lang/Object;)Z"⟩
theorem q2972 : (Jvm.Cond.instanceMethod ({ cls := "java/util/ImmutableCollections$AbstractImmutableCollection", name := "add", desc := "(Ljava/lang/Object;)Z" } : Jvm.MethodName)) ∈ lw_all := lw_g (lw_at lw_m12 228 rfl) rfl
theorem q2973 : (Jvm.Cond.publicMethod ({ cls := "java/util/ImmutableCollections$AbstractImmutableCollection", name := "add", desc := "(Ljava/lang/Object;)Z" } : Jvm.MethodName)) ∈ lw_tbl := lw_at lw_m12 229 rfl
theorem q2974 : (Jvm.Cond.code ({ cls := "java/util/ImmutableCollections$AbstractImmutableCollection", name := "add", desc := "(Ljava/lang/Object;)Z" } : Jvm.MethodName) prog_75_method_2_code (2 : Nat) (Option.some Jvm.ClassFile.FieldType.boolean)) ∈ lw_all := lw_g (lw_at lw_m12 230 rfl) rfl
theorem q3073 : (Jvm.Cond.instanceMethod ({ cls := "java/util/ImmutableCollections$AbstractImmutableCollection", name := "clear", desc := "()V" } : Jvm.MethodName)) ∈ lw_all := lw_g (lw_at lw_m13 89 rfl) rfl
theorem q3074 : (Jvm.Cond.publicMethod ({ cls := "java/util/ImmutableCollections$AbstractImmutableCollection", name := "clear", desc := "()V" } : Jvm.MethodName)) ∈ lw_tbl := lw_at lw_m13 90 rfl
theorem q3075 : (Jvm.Cond.code ({ cls := "java/util/ImmutableCollections$AbstractImmutableCollection", name := "clear", desc := "()V" } : Jvm.MethodName) prog_75_method_4_code (1 : Nat) (Option.none : Option Jvm.ClassFile.FieldType)) ∈ lw_all := lw_g (lw_at lw_m13 91 rfl) rfl
theorem q3616 : (Jvm.Cond.instanceMethod ({ cls := "java/util/ImmutableCollections$AbstractImmutableCollection", name := "remove", desc := "(Ljava/lang/Object;)Z" } : Jvm.MethodName)) ∈ lw_all := lw_g (lw_at lw_m15 152 rfl) rfl
theorem q3617 : (Jvm.Cond.publicMethod ({ cls := "java/util/ImmutableCollections$AbstractImmutableCollection", name := "remove", desc := "(Ljava/lang/Object;)Z" } : Jvm.MethodName)) ∈ lw_tbl := lw_at lw_m15 153 rfl
theorem q3618 : (Jvm.Cond.code ({ cls := "java/util/ImmutableCollections$AbstractImmutableCollection", name := "remove", desc := "(Ljava/lang/Object;)Z" } : Jvm.MethodName) prog_75_method_5_code (2 : Nat) (Option.some Jvm.ClassFile.FieldType.boolean)) ∈ lw_all := lw_g (lw_at lw_m15 154 rfl) rfl
def RJ42 : String := "java/util/ImmutableCollections$AbstractImmutableList"
abbrev cJ42_iterator : ByteArray := prog_76_method_10_code
def yJ42_iterator : MethodName := ⟨RJ42, "iterator", "()Ljava/util/Iterator;"⟩
abbrev cJ42_remove : ByteArray := prog_76_method_4_code
def yJ42_remove : MethodName := ⟨RJ42, "remove", "(I)Ljava/lang/Object;"⟩
theorem q3007 : (Jvm.Cond.instanceMethod ({ cls := "java/util/ImmutableCollections$AbstractImmutableList", name := "iterator", desc := "()Ljava/util/Iterator;" } : Jvm.MethodName)) ∈ lw_all := lw_g (lw_at lw_m13 23 rfl) rfl
theorem q3008 : (Jvm.Cond.publicMethod ({ cls := "java/util/ImmutableCollections$AbstractImmutableList", name := "iterator", desc := "()Ljava/util/Iterator;" } : Jvm.MethodName)) ∈ lw_tbl := lw_at lw_m13 24 rfl
theorem q3009 : (Jvm.Cond.code ({ cls := "java/util/ImmutableCollections$AbstractImmutableList", name := "iterator", desc := "()Ljava/util/Iterator;" } : Jvm.MethodName) prog_76_method_10_code (1 : Nat) (Option.some (Jvm.ClassFile.FieldType.object "java/util/Iterator"))) ∈ lw_all := lw_g (lw_at lw_m13 25 rfl) rfl
theorem q3010 : (Jvm.Cond.classLink "java/util/ImmutableCollections$AbstractImmutableList" (61 : Nat) "java/util/ImmutableCollections$ListItr") ∈ lw_all := lw_g (lw_at lw_m13 26 rfl) rfl
theorem q3012 : (Jvm.Cond.methodLink "java/util/ImmutableCollections$AbstractImmutableList" (13 : Nat) ({ cls := "java/util/ImmutableCollections$AbstractImmutableList", name := "size", desc := "()I" } : Jvm.MethodName)) ∈ lw_all := lw_g (lw_at lw_m13 28 rfl) rfl
theorem q3013 : (Jvm.Cond.sameMethod "java/util/ImmutableCollections$AbstractImmutableList" "java/util/AbstractCollection" "size" "()I") ∈ lw_all := lw_g (lw_at lw_m13 29 rfl) rfl
theorem q3015 : (Jvm.Cond.methodLink "java/util/ImmutableCollections$AbstractImmutableList" (63 : Nat) ({ cls := "java/util/ImmutableCollections$ListItr", name := "<init>", desc := "(Ljava/util/List;I)V" } : Jvm.MethodName)) ∈ lw_all := lw_g (lw_at lw_m13 31 rfl) rfl
theorem q3049 : (Jvm.Cond.instanceMethod ({ cls := "java/util/ImmutableCollections$AbstractImmutableList", name := "remove", desc := "(I)Ljava/lang/Object;" } : Jvm.MethodName)) ∈ lw_all := lw_g (lw_at lw_m13 65 rfl) rfl
theorem q3050 : (Jvm.Cond.publicMethod ({ cls := "java/util/ImmutableCollections$AbstractImmutableList", name := "remove", desc := "(I)Ljava/lang/Object;" } : Jvm.MethodName)) ∈ lw_tbl := lw_at lw_m13 66 rfl
theorem q3051 : (Jvm.Cond.code ({ cls := "java/util/ImmutableCollections$AbstractImmutableList", name := "remove", desc := "(I)Ljava/lang/Object;" } : Jvm.MethodName) prog_76_method_4_code (2 : Nat) (Option.some (Jvm.ClassFile.FieldType.object "java/lang/Object"))) ∈ lw_all := lw_g (lw_at lw_m13 67 rfl) rfl
def RX0 : String := "QuillplateLaw"
abbrev cX0_sign : ByteArray := method_3_code
def yX0_sign : MethodName := ⟨RX0, "sign", "(LQuillplate;C[J)I"⟩
abbrev cX0_tell : ByteArray := method_4_code
def yX0_tell : MethodName := ⟨RX0, "tell", "(LQuillplate;I[J)I"⟩
abbrev cX0_number : ByteArray := method_5_code
def yX0_number : MethodName := ⟨RX0, "number", "(LQuillplate;II[J)I"⟩
abbrev cX0_text : ByteArray := method_6_code
def yX0_text : MethodName := ⟨RX0, "text", "(LQuillplate;I[J)I"⟩
abbrev cX0_list : ByteArray := method_7_code
def yX0_list : MethodName := ⟨RX0, "list", "(LQuillplate;I[J)I"⟩
abbrev cX0_addNumber : ByteArray := method_8_code
def yX0_addNumber : MethodName := ⟨RX0, "addNumber", "(LQuillplate;II[J)I"⟩
abbrev cX0_addText : ByteArray := method_9_code
def yX0_addText : MethodName := ⟨RX0, "addText", "(LQuillplate;I[J)I"⟩
abbrev cX0_unset : ByteArray := method_10_code
def yX0_unset : MethodName := ⟨RX0, "unset", "(LQuillplate;I[J)I"⟩
abbrev cX0_render : ByteArray := method_11_code
def yX0_render : MethodName := ⟨RX0, "render", "(LQuillplate;I[J)I"⟩
abbrev cX0_errorPlace : ByteArray := method_12_code
def yX0_errorPlace : MethodName := ⟨RX0, "errorPlace", "(LQuillplate;I[J)I"⟩
abbrev cX0_outSign : ByteArray := method_13_code
def yX0_outSign : MethodName := ⟨RX0, "outSign", "(LQuillplate;I[J)I"⟩
abbrev cX0_sumAnew : ByteArray := method_14_code
def yX0_sumAnew : MethodName := ⟨RX0, "sumAnew", "(LQuillplate;I[J)I"⟩
theorem q104 : (Jvm.Cond.initialized "QuillplateLaw") ∈ lw_all := lw_g (lw_at lw_m1 0 rfl) rfl
theorem q178 : (Jvm.Cond.classLink "QuillplateLaw" (8 : Nat) "Quillplate") ∈ lw_all := lw_g (lw_at lw_m1 74 rfl) rfl
theorem q180 : (Jvm.Cond.methodLink "QuillplateLaw" (56 : Nat) ({ cls := "Quillplate", name := "<init>", desc := "()V" } : Jvm.MethodName)) ∈ lw_all := lw_g (lw_at lw_m1 76 rfl) rfl
theorem q752 : (Jvm.Cond.methodLink "QuillplateLaw" (70 : Nat) ({ cls := "Quillplate", name := "clear", desc := "()I" } : Jvm.MethodName)) ∈ lw_all := lw_g (lw_at lw_m3 168 rfl) rfl
theorem q756 : (Jvm.Cond.methodLink "QuillplateLaw" (78 : Nat) ({ cls := "Quillplate", name := "fault", desc := "()I" } : Jvm.MethodName)) ∈ lw_all := lw_g (lw_at lw_m3 172 rfl) rfl
theorem q1368 : (Jvm.Cond.methodLink "QuillplateLaw" (104 : Nat) ({ cls := "Quillplate", name := "error", desc := "()I" } : Jvm.MethodName)) ∈ lw_all := lw_g (lw_at lw_m6 64 rfl) rfl
theorem q1372 : (Jvm.Cond.methodLink "QuillplateLaw" (111 : Nat) ({ cls := "Quillplate", name := "steps", desc := "()I" } : Jvm.MethodName)) ∈ lw_all := lw_g (lw_at lw_m6 68 rfl) rfl
theorem q1376 : (Jvm.Cond.methodLink "QuillplateLaw" (115 : Nat) ({ cls := "Quillplate", name := "renewed", desc := "()I" } : Jvm.MethodName)) ∈ lw_all := lw_g (lw_at lw_m6 72 rfl) rfl
theorem q1380 : (Jvm.Cond.methodLink "QuillplateLaw" (119 : Nat) ({ cls := "Quillplate", name := "reused", desc := "()I" } : Jvm.MethodName)) ∈ lw_all := lw_g (lw_at lw_m6 76 rfl) rfl
theorem q1384 : (Jvm.Cond.methodLink "QuillplateLaw" (123 : Nat) ({ cls := "Quillplate", name := "parts", desc := "()I" } : Jvm.MethodName)) ∈ lw_all := lw_g (lw_at lw_m6 80 rfl) rfl
theorem q1392 : (Jvm.Cond.methodLink "QuillplateLaw" (127 : Nat) ({ cls := "Quillplate", name := "length", desc := "()I" } : Jvm.MethodName)) ∈ lw_all := lw_g (lw_at lw_m6 88 rfl) rfl
theorem q1397 : (Jvm.Cond.methodLink "QuillplateLaw" (134 : Nat) ({ cls := "Quillplate", name := "sum", desc := "()I" } : Jvm.MethodName)) ∈ lw_all := lw_g (lw_at lw_m6 93 rfl) rfl
theorem q1405 : (Jvm.Cond.methodLink "QuillplateLaw" (138 : Nat) ({ cls := "Quillplate", name := "same", desc := "()I" } : Jvm.MethodName)) ∈ lw_all := lw_g (lw_at lw_m6 101 rfl) rfl
theorem q1410 : (Jvm.Cond.methodLink "QuillplateLaw" (142 : Nat) ({ cls := "Quillplate", name := "gone", desc := "()I" } : Jvm.MethodName)) ∈ lw_all := lw_g (lw_at lw_m6 106 rfl) rfl
theorem q1419 : (Jvm.Cond.methodLink "QuillplateLaw" (146 : Nat) ({ cls := "Quillplate", name := "come", desc := "()I" } : Jvm.MethodName)) ∈ lw_all := lw_g (lw_at lw_m6 115 rfl) rfl
theorem q1423 : (Jvm.Cond.methodLink "QuillplateLaw" (60 : Nat) ({ cls := "QuillplateLaw", name := "sign", desc := "(LQuillplate;C[J)I" } : Jvm.MethodName)) ∈ lw_all := lw_g (lw_at lw_m6 119 rfl) rfl
theorem q1424 : (Jvm.Cond.static ({ cls := "QuillplateLaw", name := "sign", desc := "(LQuillplate;C[J)I" } : Jvm.MethodName)) ∈ lw_all := lw_g (lw_at lw_m6 120 rfl) rfl
theorem q1425 : (Jvm.Cond.codeWith ({ cls := "QuillplateLaw", name := "sign", desc := "(LQuillplate;C[J)I" } : Jvm.MethodName) method_3_code (4 : Nat) (Option.some Jvm.ClassFile.FieldType.int) [((0 : Nat), (9 : Nat), (12 : Nat), (13 : Nat)), ((0 : Nat), (9 : Nat), (15 : Nat), (15 : Nat))]) ∈ lw_all := lw_g (lw_at lw_m6 121 rfl) rfl
theorem q1426 : (Jvm.Cond.classLink "QuillplateLaw" (13 : Nat) "java/lang/IllegalArgumentException") ∈ lw_all := lw_g (lw_at lw_m6 122 rfl) rfl
theorem q1427 : (Jvm.Cond.classLink "QuillplateLaw" (15 : Nat) "java/lang/IllegalStateException") ∈ lw_all := lw_g (lw_at lw_m6 123 rfl) rfl
theorem q1428 : (Jvm.Cond.methodLink "QuillplateLaw" (7 : Nat) ({ cls := "Quillplate", name := "sign", desc := "(C)I" } : Jvm.MethodName)) ∈ lw_all := lw_g (lw_at lw_m6 124 rfl) rfl
theorem q1468 : (Jvm.Cond.methodLink "QuillplateLaw" (74 : Nat) ({ cls := "QuillplateLaw", name := "tell", desc := "(LQuillplate;I[J)I" } : Jvm.MethodName)) ∈ lw_all := lw_g (lw_at lw_m6 164 rfl) rfl
theorem q1469 : (Jvm.Cond.static ({ cls := "QuillplateLaw", name := "tell", desc := "(LQuillplate;I[J)I" } : Jvm.MethodName)) ∈ lw_all := lw_g (lw_at lw_m6 165 rfl) rfl
theorem q1470 : (Jvm.Cond.codeWith ({ cls := "QuillplateLaw", name := "tell", desc := "(LQuillplate;I[J)I" } : Jvm.MethodName) method_4_code (4 : Nat) (Option.some Jvm.ClassFile.FieldType.int) [((0 : Nat), (9 : Nat), (12 : Nat), (21 : Nat)), ((0 : Nat), (9 : Nat), (15 : Nat), (15 : Nat))]) ∈ lw_all := lw_g (lw_at lw_m6 166 rfl) rfl
theorem q1471 : (Jvm.Cond.classLink "QuillplateLaw" (21 : Nat) "java/lang/IndexOutOfBoundsException") ∈ lw_all := lw_g (lw_at lw_m6 167 rfl) rfl
theorem q1490 : (Jvm.Cond.methodLink "QuillplateLaw" (17 : Nat) ({ cls := "Quillplate", name := "tell", desc := "(I)I" } : Jvm.MethodName)) ∈ lw_all := lw_g (lw_at lw_m6 186 rfl) rfl
theorem q1528 : (Jvm.Cond.methodLink "QuillplateLaw" (82 : Nat) ({ cls := "QuillplateLaw", name := "number", desc := "(LQuillplate;II[J)I" } : Jvm.MethodName)) ∈ lw_all := lw_g (lw_at lw_m6 224 rfl) rfl
theorem q1529 : (Jvm.Cond.static ({ cls := "QuillplateLaw", name := "number", desc := "(LQuillplate;II[J)I" } : Jvm.MethodName)) ∈ lw_all := lw_g (lw_at lw_m6 225 rfl) rfl
theorem q1530 : (Jvm.Cond.codeWith ({ cls := "QuillplateLaw", name := "number", desc := "(LQuillplate;II[J)I" } : Jvm.MethodName) method_5_code (5 : Nat) (Option.some Jvm.ClassFile.FieldType.int) [((0 : Nat), (10 : Nat), (13 : Nat), (21 : Nat)), ((0 : Nat), (10 : Nat), (17 : Nat), (13 : Nat))]) ∈ lw_all := lw_g (lw_at lw_m6 226 rfl) rfl
theorem q1531 : (Jvm.Cond.methodLink "QuillplateLaw" (23 : Nat) ({ cls := "Quillplate", name := "number", desc := "(II)I" } : Jvm.MethodName)) ∈ lw_all := lw_g (lw_at lw_m6 227 rfl) rfl
theorem q1941 : (Jvm.Cond.methodLink "QuillplateLaw" (86 : Nat) ({ cls := "QuillplateLaw", name := "text", desc := "(LQuillplate;I[J)I" } : Jvm.MethodName)) ∈ lw_all := lw_g (lw_at lw_m8 157 rfl) rfl
theorem q1942 : (Jvm.Cond.static ({ cls := "QuillplateLaw", name := "text", desc := "(LQuillplate;I[J)I" } : Jvm.MethodName)) ∈ lw_all := lw_g (lw_at lw_m8 158 rfl) rfl
theorem q1943 : (Jvm.Cond.codeWith ({ cls := "QuillplateLaw", name := "text", desc := "(LQuillplate;I[J)I" } : Jvm.MethodName) method_6_code (4 : Nat) (Option.some Jvm.ClassFile.FieldType.int) [((0 : Nat), (9 : Nat), (12 : Nat), (21 : Nat)), ((0 : Nat), (9 : Nat), (15 : Nat), (15 : Nat))]) ∈ lw_all := lw_g (lw_at lw_m8 159 rfl) rfl
theorem q1944 : (Jvm.Cond.methodLink "QuillplateLaw" (27 : Nat) ({ cls := "Quillplate", name := "text", desc := "(I)I" } : Jvm.MethodName)) ∈ lw_all := lw_g (lw_at lw_m8 160 rfl) rfl
theorem q1957 : (Jvm.Cond.methodLink "QuillplateLaw" (89 : Nat) ({ cls := "QuillplateLaw", name := "list", desc := "(LQuillplate;I[J)I" } : Jvm.MethodName)) ∈ lw_all := lw_g (lw_at lw_m8 173 rfl) rfl
theorem q1958 : (Jvm.Cond.static ({ cls := "QuillplateLaw", name := "list", desc := "(LQuillplate;I[J)I" } : Jvm.MethodName)) ∈ lw_all := lw_g (lw_at lw_m8 174 rfl) rfl
theorem q1959 : (Jvm.Cond.codeWith ({ cls := "QuillplateLaw", name := "list", desc := "(LQuillplate;I[J)I" } : Jvm.MethodName) method_7_code (4 : Nat) (Option.some Jvm.ClassFile.FieldType.int) [((0 : Nat), (9 : Nat), (12 : Nat), (21 : Nat))]) ∈ lw_all := lw_g (lw_at lw_m8 175 rfl) rfl
theorem q1960 : (Jvm.Cond.methodLink "QuillplateLaw" (30 : Nat) ({ cls := "Quillplate", name := "list", desc := "(I)I" } : Jvm.MethodName)) ∈ lw_all := lw_g (lw_at lw_m8 176 rfl) rfl
theorem q1969 : (Jvm.Cond.methodLink "QuillplateLaw" (92 : Nat) ({ cls := "QuillplateLaw", name := "addNumber", desc := "(LQuillplate;II[J)I" } : Jvm.MethodName)) ∈ lw_all := lw_g (lw_at lw_m8 185 rfl) rfl
theorem q1970 : (Jvm.Cond.static ({ cls := "QuillplateLaw", name := "addNumber", desc := "(LQuillplate;II[J)I" } : Jvm.MethodName)) ∈ lw_all := lw_g (lw_at lw_m8 186 rfl) rfl
theorem q1971 : (Jvm.Cond.codeWith ({ cls := "QuillplateLaw", name := "addNumber", desc := "(LQuillplate;II[J)I" } : Jvm.MethodName) method_8_code (5 : Nat) (Option.some Jvm.ClassFile.FieldType.int) [((0 : Nat), (10 : Nat), (13 : Nat), (21 : Nat)), ((0 : Nat), (10 : Nat), (17 : Nat), (13 : Nat)), ((0 : Nat), (10 : Nat), (21 : Nat), (15 : Nat))]) ∈ lw_all := lw_g (lw_at lw_m8 187 rfl) rfl
theorem q1972 : (Jvm.Cond.methodLink "QuillplateLaw" (33 : Nat) ({ cls := "Quillplate", name := "addNumber", desc := "(II)I" } : Jvm.MethodName)) ∈ lw_all := lw_g (lw_at lw_m8 188 rfl) rfl
theorem q1992 : (Jvm.Cond.methodLink "QuillplateLaw" (95 : Nat) ({ cls := "QuillplateLaw", name := "addText", desc := "(LQuillplate;I[J)I" } : Jvm.MethodName)) ∈ lw_all := lw_g (lw_at lw_m8 208 rfl) rfl
theorem q1993 : (Jvm.Cond.static ({ cls := "QuillplateLaw", name := "addText", desc := "(LQuillplate;I[J)I" } : Jvm.MethodName)) ∈ lw_all := lw_g (lw_at lw_m8 209 rfl) rfl
theorem q1994 : (Jvm.Cond.codeWith ({ cls := "QuillplateLaw", name := "addText", desc := "(LQuillplate;I[J)I" } : Jvm.MethodName) method_9_code (4 : Nat) (Option.some Jvm.ClassFile.FieldType.int) [((0 : Nat), (9 : Nat), (12 : Nat), (21 : Nat)), ((0 : Nat), (9 : Nat), (15 : Nat), (15 : Nat))]) ∈ lw_all := lw_g (lw_at lw_m8 210 rfl) rfl
theorem q1995 : (Jvm.Cond.methodLink "QuillplateLaw" (36 : Nat) ({ cls := "Quillplate", name := "addText", desc := "(I)I" } : Jvm.MethodName)) ∈ lw_all := lw_g (lw_at lw_m8 211 rfl) rfl
theorem q1999 : (Jvm.Cond.methodLink "QuillplateLaw" (98 : Nat) ({ cls := "QuillplateLaw", name := "unset", desc := "(LQuillplate;I[J)I" } : Jvm.MethodName)) ∈ lw_all := lw_g (lw_at lw_m8 215 rfl) rfl
theorem q2000 : (Jvm.Cond.static ({ cls := "QuillplateLaw", name := "unset", desc := "(LQuillplate;I[J)I" } : Jvm.MethodName)) ∈ lw_all := lw_g (lw_at lw_m8 216 rfl) rfl
theorem q2001 : (Jvm.Cond.codeWith ({ cls := "QuillplateLaw", name := "unset", desc := "(LQuillplate;I[J)I" } : Jvm.MethodName) method_10_code (4 : Nat) (Option.some Jvm.ClassFile.FieldType.int) [((0 : Nat), (16 : Nat), (19 : Nat), (21 : Nat))]) ∈ lw_all := lw_g (lw_at lw_m8 217 rfl) rfl
theorem q2002 : (Jvm.Cond.methodLink "QuillplateLaw" (39 : Nat) ({ cls := "Quillplate", name := "unset", desc := "(I)Z" } : Jvm.MethodName)) ∈ lw_all := lw_g (lw_at lw_m8 218 rfl) rfl
theorem q2006 : (Jvm.Cond.methodLink "QuillplateLaw" (101 : Nat) ({ cls := "QuillplateLaw", name := "render", desc := "(LQuillplate;I[J)I" } : Jvm.MethodName)) ∈ lw_all := lw_g (lw_at lw_m8 222 rfl) rfl
theorem q2007 : (Jvm.Cond.static ({ cls := "QuillplateLaw", name := "render", desc := "(LQuillplate;I[J)I" } : Jvm.MethodName)) ∈ lw_all := lw_g (lw_at lw_m8 223 rfl) rfl
theorem q2008 : (Jvm.Cond.codeWith ({ cls := "QuillplateLaw", name := "render", desc := "(LQuillplate;I[J)I" } : Jvm.MethodName) method_11_code (4 : Nat) (Option.some Jvm.ClassFile.FieldType.int) [((0 : Nat), (9 : Nat), (12 : Nat), (21 : Nat)), ((0 : Nat), (9 : Nat), (15 : Nat), (15 : Nat))]) ∈ lw_all := lw_g (lw_at lw_m8 224 rfl) rfl
theorem q2009 : (Jvm.Cond.methodLink "QuillplateLaw" (43 : Nat) ({ cls := "Quillplate", name := "render", desc := "(I)I" } : Jvm.MethodName)) ∈ lw_all := lw_g (lw_at lw_m8 225 rfl) rfl
theorem q2579 : (Jvm.Cond.methodLink "QuillplateLaw" (108 : Nat) ({ cls := "QuillplateLaw", name := "errorPlace", desc := "(LQuillplate;I[J)I" } : Jvm.MethodName)) ∈ lw_all := lw_g (lw_at lw_m11 75 rfl) rfl
theorem q2580 : (Jvm.Cond.static ({ cls := "QuillplateLaw", name := "errorPlace", desc := "(LQuillplate;I[J)I" } : Jvm.MethodName)) ∈ lw_all := lw_g (lw_at lw_m11 76 rfl) rfl
theorem q2581 : (Jvm.Cond.codeWith ({ cls := "QuillplateLaw", name := "errorPlace", desc := "(LQuillplate;I[J)I" } : Jvm.MethodName) method_12_code (4 : Nat) (Option.some Jvm.ClassFile.FieldType.int) [((0 : Nat), (9 : Nat), (12 : Nat), (21 : Nat))]) ∈ lw_all := lw_g (lw_at lw_m11 77 rfl) rfl
theorem q2582 : (Jvm.Cond.methodLink "QuillplateLaw" (46 : Nat) ({ cls := "Quillplate", name := "errorPlace", desc := "(I)I" } : Jvm.MethodName)) ∈ lw_all := lw_g (lw_at lw_m11 78 rfl) rfl
theorem q2588 : (Jvm.Cond.methodLink "QuillplateLaw" (131 : Nat) ({ cls := "QuillplateLaw", name := "outSign", desc := "(LQuillplate;I[J)I" } : Jvm.MethodName)) ∈ lw_all := lw_g (lw_at lw_m11 84 rfl) rfl
theorem q2589 : (Jvm.Cond.static ({ cls := "QuillplateLaw", name := "outSign", desc := "(LQuillplate;I[J)I" } : Jvm.MethodName)) ∈ lw_all := lw_g (lw_at lw_m11 85 rfl) rfl
theorem q2590 : (Jvm.Cond.codeWith ({ cls := "QuillplateLaw", name := "outSign", desc := "(LQuillplate;I[J)I" } : Jvm.MethodName) method_13_code (4 : Nat) (Option.some Jvm.ClassFile.FieldType.int) [((0 : Nat), (9 : Nat), (12 : Nat), (21 : Nat))]) ∈ lw_all := lw_g (lw_at lw_m11 86 rfl) rfl
theorem q2591 : (Jvm.Cond.methodLink "QuillplateLaw" (49 : Nat) ({ cls := "Quillplate", name := "outSign", desc := "(I)C" } : Jvm.MethodName)) ∈ lw_all := lw_g (lw_at lw_m11 87 rfl) rfl
theorem q2595 : (Jvm.Cond.methodLink "QuillplateLaw" (150 : Nat) ({ cls := "QuillplateLaw", name := "sumAnew", desc := "(LQuillplate;I[J)I" } : Jvm.MethodName)) ∈ lw_all := lw_g (lw_at lw_m11 91 rfl) rfl
theorem q2596 : (Jvm.Cond.static ({ cls := "QuillplateLaw", name := "sumAnew", desc := "(LQuillplate;I[J)I" } : Jvm.MethodName)) ∈ lw_all := lw_g (lw_at lw_m11 92 rfl) rfl
theorem q2597 : (Jvm.Cond.codeWith ({ cls := "QuillplateLaw", name := "sumAnew", desc := "(LQuillplate;I[J)I" } : Jvm.MethodName) method_14_code (4 : Nat) (Option.some Jvm.ClassFile.FieldType.int) [((0 : Nat), (9 : Nat), (12 : Nat), (21 : Nat)), ((0 : Nat), (9 : Nat), (15 : Nat), (15 : Nat))]) ∈ lw_all := lw_g (lw_at lw_m11 93 rfl) rfl
theorem q2598 : (Jvm.Cond.methodLink "QuillplateLaw" (53 : Nat) ({ cls := "Quillplate", name := "sumAnew", desc := "(I)I" } : Jvm.MethodName)) ∈ lw_all := lw_g (lw_at lw_m11 94 rfl) rfl
theorem q2602 : (Jvm.Cond.classLink "QuillplateLaw" (57 : Nat) "QuillplateModel") ∈ lw_all := lw_g (lw_at lw_m11 98 rfl) rfl
theorem q2604 : (Jvm.Cond.methodLink "QuillplateLaw" (59 : Nat) ({ cls := "QuillplateModel", name := "<init>", desc := "()V" } : Jvm.MethodName)) ∈ lw_all := lw_g (lw_at lw_m11 100 rfl) rfl
theorem q2643 : (Jvm.Cond.methodLink "QuillplateLaw" (66 : Nat) ({ cls := "QuillplateModel", name := "thrown", desc := "()I" } : Jvm.MethodName)) ∈ lw_all := lw_g (lw_at lw_m11 139 rfl) rfl
theorem q2647 : (Jvm.Cond.methodLink "QuillplateLaw" (65 : Nat) ({ cls := "QuillplateModel", name := "sign", desc := "(C)I" } : Jvm.MethodName)) ∈ lw_all := lw_g (lw_at lw_m11 143 rfl) rfl
theorem q2711 : (Jvm.Cond.methodLink "QuillplateLaw" (73 : Nat) ({ cls := "QuillplateModel", name := "clear", desc := "()I" } : Jvm.MethodName)) ∈ lw_all := lw_g (lw_at lw_m11 207 rfl) rfl
theorem q2719 : (Jvm.Cond.methodLink "QuillplateLaw" (77 : Nat) ({ cls := "QuillplateModel", name := "tell", desc := "(I)I" } : Jvm.MethodName)) ∈ lw_all := lw_g (lw_at lw_m11 215 rfl) rfl
theorem q3079 : (Jvm.Cond.methodLink "QuillplateLaw" (81 : Nat) ({ cls := "QuillplateModel", name := "fault", desc := "()I" } : Jvm.MethodName)) ∈ lw_all := lw_g (lw_at lw_m13 95 rfl) rfl
theorem q3083 : (Jvm.Cond.methodLink "QuillplateLaw" (85 : Nat) ({ cls := "QuillplateModel", name := "number", desc := "(II)I" } : Jvm.MethodName)) ∈ lw_all := lw_g (lw_at lw_m13 99 rfl) rfl
theorem q3148 : (Jvm.Cond.methodLink "QuillplateLaw" (88 : Nat) ({ cls := "QuillplateModel", name := "text", desc := "(I)I" } : Jvm.MethodName)) ∈ lw_all := lw_g (lw_at lw_m13 164 rfl) rfl
theorem q3156 : (Jvm.Cond.methodLink "QuillplateLaw" (91 : Nat) ({ cls := "QuillplateModel", name := "list", desc := "(I)I" } : Jvm.MethodName)) ∈ lw_all := lw_g (lw_at lw_m13 172 rfl) rfl
theorem q3164 : (Jvm.Cond.methodLink "QuillplateLaw" (94 : Nat) ({ cls := "QuillplateModel", name := "addNumber", desc := "(II)I" } : Jvm.MethodName)) ∈ lw_all := lw_g (lw_at lw_m13 180 rfl) rfl
theorem q3193 : (Jvm.Cond.methodLink "QuillplateLaw" (97 : Nat) ({ cls := "QuillplateModel", name := "addText", desc := "(I)I" } : Jvm.MethodName)) ∈ lw_all := lw_g (lw_at lw_m13 209 rfl) rfl
theorem q3197 : (Jvm.Cond.methodLink "QuillplateLaw" (100 : Nat) ({ cls := "QuillplateModel", name := "unset", desc := "(I)Z" } : Jvm.MethodName)) ∈ lw_all := lw_g (lw_at lw_m13 213 rfl) rfl
theorem q3201 : (Jvm.Cond.methodLink "QuillplateLaw" (103 : Nat) ({ cls := "QuillplateModel", name := "render", desc := "(I)I" } : Jvm.MethodName)) ∈ lw_all := lw_g (lw_at lw_m13 217 rfl) rfl
theorem q3694 : (Jvm.Cond.methodLink "QuillplateLaw" (107 : Nat) ({ cls := "QuillplateModel", name := "error", desc := "()I" } : Jvm.MethodName)) ∈ lw_all := lw_g (lw_at lw_m15 230 rfl) rfl
theorem q3698 : (Jvm.Cond.methodLink "QuillplateLaw" (110 : Nat) ({ cls := "QuillplateModel", name := "errorPlace", desc := "(I)I" } : Jvm.MethodName)) ∈ lw_all := lw_g (lw_at lw_m15 234 rfl) rfl
theorem q3704 : (Jvm.Cond.methodLink "QuillplateLaw" (114 : Nat) ({ cls := "QuillplateModel", name := "steps", desc := "()I" } : Jvm.MethodName)) ∈ lw_all := lw_g (lw_at lw_m16 0 rfl) rfl
theorem q3708 : (Jvm.Cond.methodLink "QuillplateLaw" (118 : Nat) ({ cls := "QuillplateModel", name := "renewed", desc := "()I" } : Jvm.MethodName)) ∈ lw_all := lw_g (lw_at lw_m16 4 rfl) rfl
theorem q3712 : (Jvm.Cond.methodLink "QuillplateLaw" (122 : Nat) ({ cls := "QuillplateModel", name := "reused", desc := "()I" } : Jvm.MethodName)) ∈ lw_all := lw_g (lw_at lw_m16 8 rfl) rfl
theorem q3716 : (Jvm.Cond.methodLink "QuillplateLaw" (126 : Nat) ({ cls := "QuillplateModel", name := "parts", desc := "()I" } : Jvm.MethodName)) ∈ lw_all := lw_g (lw_at lw_m16 12 rfl) rfl
theorem q3720 : (Jvm.Cond.methodLink "QuillplateLaw" (130 : Nat) ({ cls := "QuillplateModel", name := "length", desc := "()I" } : Jvm.MethodName)) ∈ lw_all := lw_g (lw_at lw_m16 16 rfl) rfl
theorem q3724 : (Jvm.Cond.methodLink "QuillplateLaw" (133 : Nat) ({ cls := "QuillplateModel", name := "outSign", desc := "(I)C" } : Jvm.MethodName)) ∈ lw_all := lw_g (lw_at lw_m16 20 rfl) rfl
theorem q3728 : (Jvm.Cond.methodLink "QuillplateLaw" (137 : Nat) ({ cls := "QuillplateModel", name := "sum", desc := "()I" } : Jvm.MethodName)) ∈ lw_all := lw_g (lw_at lw_m16 24 rfl) rfl
theorem q3765 : (Jvm.Cond.methodLink "QuillplateLaw" (141 : Nat) ({ cls := "QuillplateModel", name := "same", desc := "()I" } : Jvm.MethodName)) ∈ lw_all := lw_g (lw_at lw_m16 61 rfl) rfl
theorem q3773 : (Jvm.Cond.methodLink "QuillplateLaw" (145 : Nat) ({ cls := "QuillplateModel", name := "gone", desc := "()I" } : Jvm.MethodName)) ∈ lw_all := lw_g (lw_at lw_m16 69 rfl) rfl
theorem q3781 : (Jvm.Cond.methodLink "QuillplateLaw" (149 : Nat) ({ cls := "QuillplateModel", name := "come", desc := "()I" } : Jvm.MethodName)) ∈ lw_all := lw_g (lw_at lw_m16 77 rfl) rfl
theorem q3785 : (Jvm.Cond.methodLink "QuillplateLaw" (152 : Nat) ({ cls := "QuillplateModel", name := "sumAnew", desc := "(I)I" } : Jvm.MethodName)) ∈ lw_all := lw_g (lw_at lw_m16 81 rfl) rfl
def RX1 : String := "Quillplate"
def TX1 : u_T := fun k => match k with
  | 0 => ("Quillplate", "draft", "[C", true)
  | 1 => ("Quillplate", "drafted", "I", false)
  | 2 => ("Quillplate", "templates", "[LQuillplate$Template;", true)
  | 3 => ("Quillplate", "data", "[LQuillplate$Value;", true)
  | 4 => ("Quillplate", "parts", "Ljava/util/LinkedList;", true)
  | 5 => ("Quillplate", "out", "Ljava/lang/String;", false)
  | 6 => ("Quillplate", "before", "Ljava/lang/String;", false)
  | 7 => ("Quillplate", "latest", "LQuillplate$Run;", false)
  | _ => ("Quillplate", "error", "I", false)
def tyX1 : Nat → FieldType := fun k => match k with
  | 0 => .array .char
  | 1 => .int
  | 2 => .array (.object "Quillplate$Template")
  | 3 => .array (.object "Quillplate$Value")
  | 4 => .object "java/util/LinkedList"
  | 5 => .object "java/lang/String"
  | 6 => .object "java/lang/String"
  | 7 => .object "Quillplate$Run"
  | _ => .int
abbrev wsX10 : List Cond := u_ws RX1 TX1 9
theorem nmX1 : ∀ a, a < 9 → ∀ b, b < 9 → a ≠ b → (TX1 a).2.1 ≠ (TX1 b).2.1 := by decide +kernel
theorem tyX1_ok : ∀ k, k < 9 → parseFieldDescriptor (TX1 k).2.2.1 = some (tyX1 k) := by decide +kernel
abbrev cX1_init : ByteArray := prog_1_method_16_code
def yX1_init : MethodName := ⟨RX1, "<init>", "()V"⟩
abbrev cX1_clear : ByteArray := prog_1_method_24_code
def yX1_clear : MethodName := ⟨RX1, "clear", "()I"⟩
abbrev cX1_fault : ByteArray := prog_1_method_26_code
def yX1_fault : MethodName := ⟨RX1, "fault", "()I"⟩
abbrev cX1_behind : ByteArray := prog_1_method_14_code
def yX1_behind : MethodName := ⟨RX1, "behind", "(CI)I"⟩
abbrev cX1_isIn : ByteArray := prog_1_method_2_code
def yX1_isIn : MethodName := ⟨RX1, "isIn", "(CCC)Z"⟩
abbrev cX1_isLetterOrDigit : ByteArray := prog_1_method_3_code
def yX1_isLetterOrDigit : MethodName := ⟨RX1, "isLetterOrDigit", "(C)Z"⟩
abbrev cX1_error : ByteArray := prog_1_method_40_code
def yX1_error : MethodName := ⟨RX1, "error", "()I"⟩
abbrev cX1_steps : ByteArray := prog_1_method_42_code
def yX1_steps : MethodName := ⟨RX1, "steps", "()I"⟩
abbrev cX1_renewed : ByteArray := prog_1_method_43_code
def yX1_renewed : MethodName := ⟨RX1, "renewed", "()I"⟩
abbrev cX1_reused : ByteArray := prog_1_method_44_code
def yX1_reused : MethodName := ⟨RX1, "reused", "()I"⟩
abbrev cX1_parts : ByteArray := prog_1_method_45_code
def yX1_parts : MethodName := ⟨RX1, "parts", "()I"⟩
abbrev cX1_length : ByteArray := prog_1_method_46_code
def yX1_length : MethodName := ⟨RX1, "length", "()I"⟩
abbrev cX1_sum : ByteArray := prog_1_method_49_code
def yX1_sum : MethodName := ⟨RX1, "sum", "()I"⟩
abbrev cX1_sumOf : ByteArray := prog_1_method_48_code
def yX1_sumOf : MethodName := ⟨RX1, "sumOf", "(Ljava/lang/String;)I"⟩
abbrev cX1_same : ByteArray := prog_1_method_50_code
def yX1_same : MethodName := ⟨RX1, "same", "()I"⟩
abbrev cX1_gone : ByteArray := prog_1_method_52_code
def yX1_gone : MethodName := ⟨RX1, "gone", "()I"⟩
abbrev cX1_sameAtEnd : ByteArray := prog_1_method_51_code
def yX1_sameAtEnd : MethodName := ⟨RX1, "sameAtEnd", "()I"⟩
abbrev cX1_come : ByteArray := prog_1_method_53_code
def yX1_come : MethodName := ⟨RX1, "come", "()I"⟩
abbrev cX1_sign : ByteArray := prog_1_method_23_code
def yX1_sign : MethodName := ⟨RX1, "sign", "(C)I"⟩
abbrev cX1_isOther : ByteArray := prog_1_method_22_code
def yX1_isOther : MethodName := ⟨RX1, "isOther", "(C)Z"⟩
abbrev cX1_checkArgument : ByteArray := prog_1_method_19_code
def yX1_checkArgument : MethodName := ⟨RX1, "checkArgument", "(Z)V"⟩
abbrev cX1_checkState : ByteArray := prog_1_method_18_code
def yX1_checkState : MethodName := ⟨RX1, "checkState", "(Z)V"⟩
abbrev cX1_tell : ByteArray := prog_1_method_25_code
def yX1_tell : MethodName := ⟨RX1, "tell", "(I)I"⟩
abbrev cX1_checkIndex : ByteArray := prog_1_method_20_code
def yX1_checkIndex : MethodName := ⟨RX1, "checkIndex", "(II)V"⟩
abbrev cX1_number : ByteArray := prog_1_method_31_code
def yX1_number : MethodName := ⟨RX1, "number", "(II)I"⟩
abbrev cX1_isNumber : ByteArray := prog_1_method_30_code
def yX1_isNumber : MethodName := ⟨RX1, "isNumber", "(I)Z"⟩
abbrev cX1_numberOf : ByteArray := prog_1_method_28_code
def yX1_numberOf : MethodName := ⟨RX1, "numberOf", "(I)LQuillplate$Value;"⟩
abbrev cX1_set : ByteArray := prog_1_method_27_code
def yX1_set : MethodName := ⟨RX1, "set", "(ILQuillplate$Value;)I"⟩
abbrev cX1_text : ByteArray := prog_1_method_32_code
def yX1_text : MethodName := ⟨RX1, "text", "(I)I"⟩
abbrev cX1_drafted : ByteArray := prog_1_method_29_code
def yX1_drafted : MethodName := ⟨RX1, "drafted", "()LQuillplate$Value;"⟩
abbrev cX1_list : ByteArray := prog_1_method_33_code
def yX1_list : MethodName := ⟨RX1, "list", "(I)I"⟩
abbrev cX1_addNumber : ByteArray := prog_1_method_36_code
def yX1_addNumber : MethodName := ⟨RX1, "addNumber", "(II)I"⟩
abbrev cX1_hasRoom : ByteArray := prog_1_method_35_code
def yX1_hasRoom : MethodName := ⟨RX1, "hasRoom", "(I)Z"⟩
abbrev cX1_add : ByteArray := prog_1_method_34_code
def yX1_add : MethodName := ⟨RX1, "add", "(ILQuillplate$Value;)I"⟩
abbrev cX1_addText : ByteArray := prog_1_method_37_code
def yX1_addText : MethodName := ⟨RX1, "addText", "(I)I"⟩
abbrev cX1_unset : ByteArray := prog_1_method_38_code
def yX1_unset : MethodName := ⟨RX1, "unset", "(I)Z"⟩
abbrev cX1_render : ByteArray := prog_1_method_39_code
def yX1_render : MethodName := ⟨RX1, "render", "(I)I"⟩
abbrev cX1_find : ByteArray := prog_1_method_21_code
def yX1_find : MethodName := ⟨RX1, "find", "(I)LQuillplate$Template;"⟩
abbrev cX1_check : ByteArray := prog_1_method_1_code
def yX1_check : MethodName := ⟨RX1, "check", "(ZI)V"⟩
abbrev cX1_closed : ByteArray := prog_1_method_13_code
def yX1_closed : MethodName := ⟨RX1, "closed", "(Ljava/util/ArrayList;I)I"⟩
abbrev cX1_endsAll : ByteArray := prog_1_method_12_code
def yX1_endsAll : MethodName := ⟨RX1, "endsAll", "(Ljava/util/ArrayList;I)I"⟩
abbrev cX1_add_2 : ByteArray := prog_1_method_5_code
def yX1_add_2 : MethodName := ⟨RX1, "add", "(LQuillplate$Value;LQuillplate$Value;)LQuillplate$Value;"⟩
abbrev cX1_truth : ByteArray := prog_1_method_4_code
def yX1_truth : MethodName := ⟨RX1, "truth", "(Z)LQuillplate$Value;"⟩
abbrev cX1_less : ByteArray := prog_1_method_7_code
def yX1_less : MethodName := ⟨RX1, "less", "(LQuillplate$Value;LQuillplate$Value;)LQuillplate$Value;"⟩
abbrev cX1_compare : ByteArray := prog_1_method_6_code
def yX1_compare : MethodName := ⟨RX1, "compare", "(Ljava/lang/String;Ljava/lang/String;)I"⟩
abbrev cX1_filtered : ByteArray := prog_1_method_8_code
def yX1_filtered : MethodName := ⟨RX1, "filtered", "(CLQuillplate$Value;)LQuillplate$Value;"⟩
abbrev cX1_lambda_filtered_0 : ByteArray := prog_1_method_59_code
def yX1_lambda_filtered_0 : MethodName := ⟨RX1, "lambda$filtered$0", "(LQuillplate$Value;)LQuillplate$Value;"⟩
abbrev cX1_lambda_filtered_1 : ByteArray := prog_1_method_58_code
def yX1_lambda_filtered_1 : MethodName := ⟨RX1, "lambda$filtered$1", "(CLQuillplate$Value;)LQuillplate$Value;"⟩
abbrev cX1_cased : ByteArray := prog_1_method_9_code
def yX1_cased : MethodName := ⟨RX1, "cased", "(Ljava/lang/String;Z)Ljava/lang/String;"⟩
abbrev cX1_lambda_filtered_2 : ByteArray := prog_1_method_57_code
def yX1_lambda_filtered_2 : MethodName := ⟨RX1, "lambda$filtered$2", "(LQuillplate$Value;)LQuillplate$Value;"⟩
abbrev cX1_lambda_filtered_3 : ByteArray := prog_1_method_56_code
def yX1_lambda_filtered_3 : MethodName := ⟨RX1, "lambda$filtered$3", "(LQuillplate$Value;)LQuillplate$Value;"⟩
abbrev cX1_joined : ByteArray := prog_1_method_10_code
def yX1_joined : MethodName := ⟨RX1, "joined", "(LQuillplate$Value;)Ljava/lang/String;"⟩
abbrev cX1_lambda_filtered_4 : ByteArray := prog_1_method_55_code
def yX1_lambda_filtered_4 : MethodName := ⟨RX1, "lambda$filtered$4", "(LQuillplate$Value;)LQuillplate$Value;"⟩
abbrev cX1_backward : ByteArray := prog_1_method_11_code
def yX1_backward : MethodName := ⟨RX1, "backward", "(LQuillplate$Value;)LQuillplate$Value;"⟩
abbrev cX1_escaped : ByteArray := prog_1_method_15_code
def yX1_escaped : MethodName := ⟨RX1, "escaped", "(LQuillplate$Value;I)Ljava/lang/String;"⟩
abbrev cX1_findKept : ByteArray := prog_1_method_17_code
def yX1_findKept : MethodName := ⟨RX1, "findKept", "(III)LQuillplate$Kept;"⟩
abbrev cX1_errorPlace : ByteArray := prog_1_method_41_code
def yX1_errorPlace : MethodName := ⟨RX1, "errorPlace", "(I)I"⟩
abbrev cX1_outSign : ByteArray := prog_1_method_47_code
def yX1_outSign : MethodName := ⟨RX1, "outSign", "(I)C"⟩
abbrev cX1_sumAnew : ByteArray := prog_1_method_54_code
def yX1_sumAnew : MethodName := ⟨RX1, "sumAnew", "(I)I"⟩
theorem q105 : (Jvm.Cond.initialized "Quillplate") ∈ lw_all := lw_g (lw_at lw_m1 1 rfl) rfl
theorem q179 : (Jvm.Cond.instantiable "Quillplate" (9 : Nat)) ∈ lw_all := lw_g (lw_at lw_m1 75 rfl) rfl
theorem q181 : (Jvm.Cond.instanceMethod ({ cls := "Quillplate", name := "<init>", desc := "()V" } : Jvm.MethodName)) ∈ lw_all := lw_g (lw_at lw_m1 77 rfl) rfl
theorem q182 : (Jvm.Cond.code ({ cls := "Quillplate", name := "<init>", desc := "()V" } : Jvm.MethodName) prog_1_method_16_code (1 : Nat) (Option.none : Option Jvm.ClassFile.FieldType)) ∈ lw_all := lw_g (lw_at lw_m1 78 rfl) rfl
theorem q183 : (Jvm.Cond.methodLink "Quillplate" (167 : Nat) ({ cls := "java/lang/Object", name := "<init>", desc := "()V" } : Jvm.MethodName)) ∈ lw_all := lw_g (lw_at lw_m1 79 rfl) rfl
theorem q186 : (Jvm.Cond.classLink "Quillplate" (174 : Nat) "Quillplate$Template") ∈ lw_all := lw_g (lw_at lw_m1 82 rfl) rfl
theorem q188 : (Jvm.Cond.classLink "Quillplate" (14 : Nat) "Quillplate$Value") ∈ lw_all := lw_g (lw_at lw_m1 84 rfl) rfl
theorem q190 : (Jvm.Cond.classLink "Quillplate" (184 : Nat) "java/util/LinkedList") ∈ lw_all := lw_g (lw_at lw_m1 86 rfl) rfl
theorem q192 : (Jvm.Cond.methodLink "Quillplate" (186 : Nat) ({ cls := "java/util/LinkedList", name := "<init>", desc := "()V" } : Jvm.MethodName)) ∈ lw_all := lw_g (lw_at lw_m1 88 rfl) rfl
theorem q227 : (Jvm.Cond.stringRef "Quillplate" (123 : Nat) "") ∈ lw_tbl := lw_at lw_m1 123 rfl
theorem q228 : (Jvm.Cond.classLink "Quillplate" (197 : Nat) "Quillplate$Run") ∈ lw_all := lw_g (lw_at lw_m1 124 rfl) rfl
theorem q230 : (Jvm.Cond.methodLink "Quillplate" (199 : Nat) ({ cls := "Quillplate$Run", name := "<init>", desc := "(LQuillplate;Z)V" } : Jvm.MethodName)) ∈ lw_all := lw_g (lw_at lw_m1 126 rfl) rfl
theorem q587 : (Jvm.Cond.fieldLink "Quillplate" (83 : Nat) "Quillplate$Value" "sort" "LQuillplate$Sort;") ∈ lw_all := lw_g (lw_at lw_m3 3 rfl) rfl
theorem q589 : (Jvm.Cond.fieldLink "Quillplate" (39 : Nat) "Quillplate$Value" "number" "I") ∈ lw_all := lw_g (lw_at lw_m3 5 rfl) rfl
theorem q591 : (Jvm.Cond.fieldLink "Quillplate" (48 : Nat) "Quillplate$Value" "text" "Ljava/lang/String;") ∈ lw_all := lw_g (lw_at lw_m3 7 rfl) rfl
theorem q593 : (Jvm.Cond.fieldLink "Quillplate" (60 : Nat) "Quillplate$Value" "isSafe" "Z") ∈ lw_all := lw_g (lw_at lw_m3 9 rfl) rfl
theorem q596 : (Jvm.Cond.fieldLink "Quillplate" (114 : Nat) "Quillplate$Value" "list" "Ljava/util/ArrayList;") ∈ lw_all := lw_g (lw_at lw_m3 12 rfl) rfl
theorem q658 : (Jvm.Cond.fieldLink "Quillplate" (328 : Nat) "Quillplate$Run" "out" "Ljava/lang/StringBuilder;") ∈ lw_all := lw_g (lw_at lw_m3 74 rfl) rfl
theorem q663 : (Jvm.Cond.fieldLink "Quillplate" (339 : Nat) "Quillplate$Run" "steps" "I") ∈ lw_all := lw_g (lw_at lw_m3 79 rfl) rfl
theorem q672 : (Jvm.Cond.fieldLink "Quillplate" (342 : Nat) "Quillplate$Run" "renewed" "I") ∈ lw_all := lw_g (lw_at lw_m3 88 rfl) rfl
theorem q674 : (Jvm.Cond.fieldLink "Quillplate" (345 : Nat) "Quillplate$Run" "reused" "I") ∈ lw_all := lw_g (lw_at lw_m3 90 rfl) rfl
theorem q682 : (Jvm.Cond.fieldLink "Quillplate" (331 : Nat) "Quillplate$Run" "places" "Ljava/util/ArrayList;") ∈ lw_all := lw_g (lw_at lw_m3 98 rfl) rfl
theorem q721 : (Jvm.Cond.fieldLink "Quillplate" (170 : Nat) "Quillplate" "draft" "[C") ∈ lw_all := lw_g (lw_at lw_m3 137 rfl) rfl
theorem q722 : (Jvm.Cond.fieldLink "Quillplate" (248 : Nat) "Quillplate" "drafted" "I") ∈ lw_all := lw_g (lw_at lw_m3 138 rfl) rfl
theorem q724 : (Jvm.Cond.fieldLink "Quillplate" (176 : Nat) "Quillplate" "templates" "[LQuillplate$Template;") ∈ lw_all := lw_g (lw_at lw_m3 140 rfl) rfl
theorem q726 : (Jvm.Cond.fieldLink "Quillplate" (180 : Nat) "Quillplate" "data" "[LQuillplate$Value;") ∈ lw_all := lw_g (lw_at lw_m3 142 rfl) rfl
theorem q727 : (Jvm.Cond.fieldLink "Quillplate" (187 : Nat) "Quillplate" "parts" "Ljava/util/LinkedList;") ∈ lw_all := lw_g (lw_at lw_m3 143 rfl) rfl
theorem q729 : (Jvm.Cond.fieldLink "Quillplate" (191 : Nat) "Quillplate" "out" "Ljava/lang/String;") ∈ lw_all := lw_g (lw_at lw_m3 145 rfl) rfl
theorem q730 : (Jvm.Cond.fieldLink "Quillplate" (194 : Nat) "Quillplate" "before" "Ljava/lang/String;") ∈ lw_all := lw_g (lw_at lw_m3 146 rfl) rfl
theorem q731 : (Jvm.Cond.fieldLink "Quillplate" (202 : Nat) "Quillplate" "latest" "LQuillplate$Run;") ∈ lw_all := lw_g (lw_at lw_m3 147 rfl) rfl
theorem q732 : (Jvm.Cond.fieldLink "Quillplate" (318 : Nat) "Quillplate" "error" "I") ∈ lw_all := lw_g (lw_at lw_m3 148 rfl) rfl
theorem q733 : (Jvm.Cond.laysFinal "Quillplate" "Quillplate" "draft" "[C") ∈ lw_all := lw_g (lw_at lw_m3 149 rfl) rfl
theorem q734 : (Jvm.Cond.soleField "Quillplate" "draft") ∈ lw_all := lw_g (lw_at lw_m3 150 rfl) rfl
theorem q735 : (Jvm.Cond.lays "Quillplate" "Quillplate" "drafted" "I") ∈ lw_all := lw_g (lw_at lw_m3 151 rfl) rfl
theorem q736 : (Jvm.Cond.soleField "Quillplate" "drafted") ∈ lw_all := lw_g (lw_at lw_m3 152 rfl) rfl
theorem q737 : (Jvm.Cond.laysFinal "Quillplate" "Quillplate" "templates" "[LQuillplate$Template;") ∈ lw_all := lw_g (lw_at lw_m3 153 rfl) rfl
theorem q738 : (Jvm.Cond.soleField "Quillplate" "templates") ∈ lw_all := lw_g (lw_at lw_m3 154 rfl) rfl
theorem q739 : (Jvm.Cond.laysFinal "Quillplate" "Quillplate" "data" "[LQuillplate$Value;") ∈ lw_all := lw_g (lw_at lw_m3 155 rfl) rfl
theorem q740 : (Jvm.Cond.soleField "Quillplate" "data") ∈ lw_all := lw_g (lw_at lw_m3 156 rfl) rfl
theorem q741 : (Jvm.Cond.laysFinal "Quillplate" "Quillplate" "parts" "Ljava/util/LinkedList;") ∈ lw_all := lw_g (lw_at lw_m3 157 rfl) rfl
theorem q742 : (Jvm.Cond.soleField "Quillplate" "parts") ∈ lw_all := lw_g (lw_at lw_m3 158 rfl) rfl
theorem q743 : (Jvm.Cond.lays "Quillplate" "Quillplate" "out" "Ljava/lang/String;") ∈ lw_all := lw_g (lw_at lw_m3 159 rfl) rfl
theorem q744 : (Jvm.Cond.soleField "Quillplate" "out") ∈ lw_all := lw_g (lw_at lw_m3 160 rfl) rfl
theorem q745 : (Jvm.Cond.lays "Quillplate" "Quillplate" "before" "Ljava/lang/String;") ∈ lw_all := lw_g (lw_at lw_m3 161 rfl) rfl
theorem q746 : (Jvm.Cond.soleField "Quillplate" "before") ∈ lw_all := lw_g (lw_at lw_m3 162 rfl) rfl
theorem q747 : (Jvm.Cond.lays "Quillplate" "Quillplate" "latest" "LQuillplate$Run;") ∈ lw_all := lw_g (lw_at lw_m3 163 rfl) rfl
theorem q748 : (Jvm.Cond.soleField "Quillplate" "latest") ∈ lw_all := lw_g (lw_at lw_m3 164 rfl) rfl
theorem q749 : (Jvm.Cond.lays "Quillplate" "Quillplate" "error" "I") ∈ lw_all := lw_g (lw_at lw_m3 165 rfl) rfl
theorem q750 : (Jvm.Cond.soleField "Quillplate" "error") ∈ lw_all := lw_g (lw_at lw_m3 166 rfl) rfl
theorem q751 : (Jvm.Cond.superclass "Quillplate" "java/lang/Object") ∈ lw_all := lw_g (lw_at lw_m3 167 rfl) rfl
theorem q753 : (Jvm.Cond.instanceMethod ({ cls := "Quillplate", name := "clear", desc := "()I" } : Jvm.MethodName)) ∈ lw_all := lw_g (lw_at lw_m3 169 rfl) rfl
theorem q754 : (Jvm.Cond.selects "Quillplate" ({ cls := "Quillplate", name := "clear", desc := "()I" } : Jvm.MethodName) ({ cls := "Quillplate", name := "clear", desc := "()I" } : Jvm.MethodName)) ∈ lw_all := lw_g (lw_at lw_m3 170 rfl) rfl
theorem q755 : (Jvm.Cond.code ({ cls := "Quillplate", name := "clear", desc := "()I" } : Jvm.MethodName) prog_1_method_24_code (2 : Nat) (Option.some Jvm.ClassFile.FieldType.int)) ∈ lw_all := lw_g (lw_at lw_m3 171 rfl) rfl
theorem q757 : (Jvm.Cond.instanceMethod ({ cls := "Quillplate", name := "fault", desc := "()I" } : Jvm.MethodName)) ∈ lw_all := lw_g (lw_at lw_m3 173 rfl) rfl
theorem q758 : (Jvm.Cond.selects "Quillplate" ({ cls := "Quillplate", name := "fault", desc := "()I" } : Jvm.MethodName) ({ cls := "Quillplate", name := "fault", desc := "()I" } : Jvm.MethodName)) ∈ lw_all := lw_g (lw_at lw_m3 174 rfl) rfl
theorem q759 : (Jvm.Cond.codeWith ({ cls := "Quillplate", name := "fault", desc := "()I" } : Jvm.MethodName) prog_1_method_26_code (2 : Nat) (Option.some Jvm.ClassFile.FieldType.int) [((0 : Nat), (27 : Nat), (28 : Nat), (260 : Nat))]) ∈ lw_all := lw_g (lw_at lw_m3 175 rfl) rfl
theorem q760 : (Jvm.Cond.classLink "Quillplate" (260 : Nat) "Quillplate$FaultException") ∈ lw_all := lw_g (lw_at lw_m3 176 rfl) rfl
theorem q761 : (Jvm.Cond.classLink "Quillplate" (251 : Nat) "Quillplate$Reader") ∈ lw_all := lw_g (lw_at lw_m3 177 rfl) rfl
theorem q763 : (Jvm.Cond.methodLink "Quillplate" (253 : Nat) ({ cls := "Quillplate$Reader", name := "<init>", desc := "([CII)V" } : Jvm.MethodName)) ∈ lw_all := lw_g (lw_at lw_m3 179 rfl) rfl
theorem q783 : (Jvm.Cond.fieldLink "Quillplate" (268 : Nat) "Quillplate$Template" "marks" "I") ∈ lw_all := lw_g (lw_at lw_m3 199 rfl) rfl
theorem q843 : (Jvm.Cond.methodLink "Quillplate" (256 : Nat) ({ cls := "Quillplate$Reader", name := "read", desc := "()LQuillplate$Template;" } : Jvm.MethodName)) ∈ lw_all := lw_g (lw_at lw_m4 19 rfl) rfl
theorem q909 : (Jvm.Cond.static ({ cls := "Quillplate", name := "behind", desc := "(CI)I" } : Jvm.MethodName)) ∈ lw_all := lw_g (lw_at lw_m4 85 rfl) rfl
theorem q910 : (Jvm.Cond.code ({ cls := "Quillplate", name := "behind", desc := "(CI)I" } : Jvm.MethodName) prog_1_method_14_code (2 : Nat) (Option.some Jvm.ClassFile.FieldType.int)) ∈ lw_all := lw_g (lw_at lw_m4 86 rfl) rfl
theorem q941 : (Jvm.Cond.selects "Quillplate" ({ cls := "java/lang/Object", name := "getClass", desc := "()Ljava/lang/Class;" } : Jvm.MethodName) ({ cls := "java/lang/Object", name := "getClass", desc := "()Ljava/lang/Class;" } : Jvm.MethodName)) ∈ lw_all := lw_g (lw_at lw_m4 117 rfl) rfl
theorem q1020 : (Jvm.Cond.fieldLink "Quillplate" (271 : Nat) "Quillplate$FaultException" "at" "I") ∈ lw_all := lw_g (lw_at lw_m4 196 rfl) rfl
theorem q1101 : (Jvm.Cond.static ({ cls := "Quillplate", name := "isIn", desc := "(CCC)Z" } : Jvm.MethodName)) ∈ lw_all := lw_g (lw_at lw_m5 37 rfl) rfl
theorem q1102 : (Jvm.Cond.code ({ cls := "Quillplate", name := "isIn", desc := "(CCC)Z" } : Jvm.MethodName) prog_1_method_2_code (3 : Nat) (Option.some Jvm.ClassFile.FieldType.boolean)) ∈ lw_all := lw_g (lw_at lw_m5 38 rfl) rfl
theorem q1153 : (Jvm.Cond.static ({ cls := "Quillplate", name := "isLetterOrDigit", desc := "(C)Z" } : Jvm.MethodName)) ∈ lw_all := lw_g (lw_at lw_m5 89 rfl) rfl
theorem q1154 : (Jvm.Cond.code ({ cls := "Quillplate", name := "isLetterOrDigit", desc := "(C)Z" } : Jvm.MethodName) prog_1_method_3_code (1 : Nat) (Option.some Jvm.ClassFile.FieldType.boolean)) ∈ lw_all := lw_g (lw_at lw_m5 90 rfl) rfl
theorem q1155 : (Jvm.Cond.methodLink "Quillplate" (7 : Nat) ({ cls := "Quillplate", name := "isIn", desc := "(CCC)Z" } : Jvm.MethodName)) ∈ lw_all := lw_g (lw_at lw_m5 91 rfl) rfl
theorem q1369 : (Jvm.Cond.instanceMethod ({ cls := "Quillplate", name := "error", desc := "()I" } : Jvm.MethodName)) ∈ lw_all := lw_g (lw_at lw_m6 65 rfl) rfl
theorem q1370 : (Jvm.Cond.selects "Quillplate" ({ cls := "Quillplate", name := "error", desc := "()I" } : Jvm.MethodName) ({ cls := "Quillplate", name := "error", desc := "()I" } : Jvm.MethodName)) ∈ lw_all := lw_g (lw_at lw_m6 66 rfl) rfl
theorem q1371 : (Jvm.Cond.code ({ cls := "Quillplate", name := "error", desc := "()I" } : Jvm.MethodName) prog_1_method_40_code (1 : Nat) (Option.some Jvm.ClassFile.FieldType.int)) ∈ lw_all := lw_g (lw_at lw_m6 67 rfl) rfl
theorem q1373 : (Jvm.Cond.instanceMethod ({ cls := "Quillplate", name := "steps", desc := "()I" } : Jvm.MethodName)) ∈ lw_all := lw_g (lw_at lw_m6 69 rfl) rfl
theorem q1374 : (Jvm.Cond.selects "Quillplate" ({ cls := "Quillplate", name := "steps", desc := "()I" } : Jvm.MethodName) ({ cls := "Quillplate", name := "steps", desc := "()I" } : Jvm.MethodName)) ∈ lw_all := lw_g (lw_at lw_m6 70 rfl) rfl
theorem q1375 : (Jvm.Cond.code ({ cls := "Quillplate", name := "steps", desc := "()I" } : Jvm.MethodName) prog_1_method_42_code (1 : Nat) (Option.some Jvm.ClassFile.FieldType.int)) ∈ lw_all := lw_g (lw_at lw_m6 71 rfl) rfl
theorem q1377 : (Jvm.Cond.instanceMethod ({ cls := "Quillplate", name := "renewed", desc := "()I" } : Jvm.MethodName)) ∈ lw_all := lw_g (lw_at lw_m6 73 rfl) rfl
theorem q1378 : (Jvm.Cond.selects "Quillplate" ({ cls := "Quillplate", name := "renewed", desc := "()I" } : Jvm.MethodName) ({ cls := "Quillplate", name := "renewed", desc := "()I" } : Jvm.MethodName)) ∈ lw_all := lw_g (lw_at lw_m6 74 rfl) rfl
theorem q1379 : (Jvm.Cond.code ({ cls := "Quillplate", name := "renewed", desc := "()I" } : Jvm.MethodName) prog_1_method_43_code (1 : Nat) (Option.some Jvm.ClassFile.FieldType.int)) ∈ lw_all := lw_g (lw_at lw_m6 75 rfl) rfl
theorem q1381 : (Jvm.Cond.instanceMethod ({ cls := "Quillplate", name := "reused", desc := "()I" } : Jvm.MethodName)) ∈ lw_all := lw_g (lw_at lw_m6 77 rfl) rfl
theorem q1382 : (Jvm.Cond.selects "Quillplate" ({ cls := "Quillplate", name := "reused", desc := "()I" } : Jvm.MethodName) ({ cls := "Quillplate", name := "reused", desc := "()I" } : Jvm.MethodName)) ∈ lw_all := lw_g (lw_at lw_m6 78 rfl) rfl
theorem q1383 : (Jvm.Cond.code ({ cls := "Quillplate", name := "reused", desc := "()I" } : Jvm.MethodName) prog_1_method_44_code (1 : Nat) (Option.some Jvm.ClassFile.FieldType.int)) ∈ lw_all := lw_g (lw_at lw_m6 79 rfl) rfl
theorem q1385 : (Jvm.Cond.instanceMethod ({ cls := "Quillplate", name := "parts", desc := "()I" } : Jvm.MethodName)) ∈ lw_all := lw_g (lw_at lw_m6 81 rfl) rfl
theorem q1386 : (Jvm.Cond.selects "Quillplate" ({ cls := "Quillplate", name := "parts", desc := "()I" } : Jvm.MethodName) ({ cls := "Quillplate", name := "parts", desc := "()I" } : Jvm.MethodName)) ∈ lw_all := lw_g (lw_at lw_m6 82 rfl) rfl
theorem q1387 : (Jvm.Cond.code ({ cls := "Quillplate", name := "parts", desc := "()I" } : Jvm.MethodName) prog_1_method_45_code (1 : Nat) (Option.some Jvm.ClassFile.FieldType.int)) ∈ lw_all := lw_g (lw_at lw_m6 83 rfl) rfl
theorem q1388 : (Jvm.Cond.methodLink "Quillplate" (348 : Nat) ({ cls := "java/util/LinkedList", name := "size", desc := "()I" } : Jvm.MethodName)) ∈ lw_all := lw_g (lw_at lw_m6 84 rfl) rfl
theorem q1393 : (Jvm.Cond.instanceMethod ({ cls := "Quillplate", name := "length", desc := "()I" } : Jvm.MethodName)) ∈ lw_all := lw_g (lw_at lw_m6 89 rfl) rfl
theorem q1394 : (Jvm.Cond.selects "Quillplate" ({ cls := "Quillplate", name := "length", desc := "()I" } : Jvm.MethodName) ({ cls := "Quillplate", name := "length", desc := "()I" } : Jvm.MethodName)) ∈ lw_all := lw_g (lw_at lw_m6 90 rfl) rfl
theorem q1395 : (Jvm.Cond.code ({ cls := "Quillplate", name := "length", desc := "()I" } : Jvm.MethodName) prog_1_method_46_code (1 : Nat) (Option.some Jvm.ClassFile.FieldType.int)) ∈ lw_all := lw_g (lw_at lw_m6 91 rfl) rfl
theorem q1396 : (Jvm.Cond.methodLink "Quillplate" (67 : Nat) ({ cls := "java/lang/String", name := "length", desc := "()I" } : Jvm.MethodName)) ∈ lw_all := lw_g (lw_at lw_m6 92 rfl) rfl
theorem q1398 : (Jvm.Cond.instanceMethod ({ cls := "Quillplate", name := "sum", desc := "()I" } : Jvm.MethodName)) ∈ lw_all := lw_g (lw_at lw_m6 94 rfl) rfl
theorem q1399 : (Jvm.Cond.selects "Quillplate" ({ cls := "Quillplate", name := "sum", desc := "()I" } : Jvm.MethodName) ({ cls := "Quillplate", name := "sum", desc := "()I" } : Jvm.MethodName)) ∈ lw_all := lw_g (lw_at lw_m6 95 rfl) rfl
theorem q1400 : (Jvm.Cond.code ({ cls := "Quillplate", name := "sum", desc := "()I" } : Jvm.MethodName) prog_1_method_49_code (1 : Nat) (Option.some Jvm.ClassFile.FieldType.int)) ∈ lw_all := lw_g (lw_at lw_m6 96 rfl) rfl
theorem q1401 : (Jvm.Cond.methodLink "Quillplate" (349 : Nat) ({ cls := "Quillplate", name := "sumOf", desc := "(Ljava/lang/String;)I" } : Jvm.MethodName)) ∈ lw_all := lw_g (lw_at lw_m6 97 rfl) rfl
theorem q1402 : (Jvm.Cond.static ({ cls := "Quillplate", name := "sumOf", desc := "(Ljava/lang/String;)I" } : Jvm.MethodName)) ∈ lw_all := lw_g (lw_at lw_m6 98 rfl) rfl
theorem q1403 : (Jvm.Cond.code ({ cls := "Quillplate", name := "sumOf", desc := "(Ljava/lang/String;)I" } : Jvm.MethodName) prog_1_method_48_code (3 : Nat) (Option.some Jvm.ClassFile.FieldType.int)) ∈ lw_all := lw_g (lw_at lw_m6 99 rfl) rfl
theorem q1404 : (Jvm.Cond.methodLink "Quillplate" (79 : Nat) ({ cls := "java/lang/String", name := "charAt", desc := "(I)C" } : Jvm.MethodName)) ∈ lw_all := lw_g (lw_at lw_m6 100 rfl) rfl
theorem q1406 : (Jvm.Cond.instanceMethod ({ cls := "Quillplate", name := "same", desc := "()I" } : Jvm.MethodName)) ∈ lw_all := lw_g (lw_at lw_m6 102 rfl) rfl
theorem q1407 : (Jvm.Cond.selects "Quillplate" ({ cls := "Quillplate", name := "same", desc := "()I" } : Jvm.MethodName) ({ cls := "Quillplate", name := "same", desc := "()I" } : Jvm.MethodName)) ∈ lw_all := lw_g (lw_at lw_m6 103 rfl) rfl
theorem q1408 : (Jvm.Cond.code ({ cls := "Quillplate", name := "same", desc := "()I" } : Jvm.MethodName) prog_1_method_50_code (3 : Nat) (Option.some Jvm.ClassFile.FieldType.int)) ∈ lw_all := lw_g (lw_at lw_m6 104 rfl) rfl
theorem q1409 : (Jvm.Cond.methodLink "Quillplate" (73 : Nat) ({ cls := "java/lang/Math", name := "min", desc := "(II)I" } : Jvm.MethodName)) ∈ lw_all := lw_g (lw_at lw_m6 105 rfl) rfl
theorem q1411 : (Jvm.Cond.instanceMethod ({ cls := "Quillplate", name := "gone", desc := "()I" } : Jvm.MethodName)) ∈ lw_all := lw_g (lw_at lw_m6 107 rfl) rfl
theorem q1412 : (Jvm.Cond.selects "Quillplate" ({ cls := "Quillplate", name := "gone", desc := "()I" } : Jvm.MethodName) ({ cls := "Quillplate", name := "gone", desc := "()I" } : Jvm.MethodName)) ∈ lw_all := lw_g (lw_at lw_m6 108 rfl) rfl
theorem q1413 : (Jvm.Cond.code ({ cls := "Quillplate", name := "gone", desc := "()I" } : Jvm.MethodName) prog_1_method_52_code (1 : Nat) (Option.some Jvm.ClassFile.FieldType.int)) ∈ lw_all := lw_g (lw_at lw_m6 109 rfl) rfl
theorem q1414 : (Jvm.Cond.methodLink "Quillplate" (353 : Nat) ({ cls := "Quillplate", name := "same", desc := "()I" } : Jvm.MethodName)) ∈ lw_all := lw_g (lw_at lw_m6 110 rfl) rfl
theorem q1415 : (Jvm.Cond.methodLink "Quillplate" (356 : Nat) ({ cls := "Quillplate", name := "sameAtEnd", desc := "()I" } : Jvm.MethodName)) ∈ lw_all := lw_g (lw_at lw_m6 111 rfl) rfl
theorem q1416 : (Jvm.Cond.privateMethod ({ cls := "Quillplate", name := "sameAtEnd", desc := "()I" } : Jvm.MethodName)) ∈ lw_tbl := lw_at lw_m6 112 rfl
theorem q1417 : (Jvm.Cond.instanceMethod ({ cls := "Quillplate", name := "sameAtEnd", desc := "()I" } : Jvm.MethodName)) ∈ lw_all := lw_g (lw_at lw_m6 113 rfl) rfl
theorem q1418 : (Jvm.Cond.code ({ cls := "Quillplate", name := "sameAtEnd", desc := "()I" } : Jvm.MethodName) prog_1_method_51_code (3 : Nat) (Option.some Jvm.ClassFile.FieldType.int)) ∈ lw_all := lw_g (lw_at lw_m6 114 rfl) rfl
theorem q1420 : (Jvm.Cond.instanceMethod ({ cls := "Quillplate", name := "come", desc := "()I" } : Jvm.MethodName)) ∈ lw_all := lw_g (lw_at lw_m6 116 rfl) rfl
theorem q1421 : (Jvm.Cond.selects "Quillplate" ({ cls := "Quillplate", name := "come", desc := "()I" } : Jvm.MethodName) ({ cls := "Quillplate", name := "come", desc := "()I" } : Jvm.MethodName)) ∈ lw_all := lw_g (lw_at lw_m6 117 rfl) rfl
theorem q1422 : (Jvm.Cond.code ({ cls := "Quillplate", name := "come", desc := "()I" } : Jvm.MethodName) prog_1_method_53_code (1 : Nat) (Option.some Jvm.ClassFile.FieldType.int)) ∈ lw_all := lw_g (lw_at lw_m6 118 rfl) rfl
theorem q1429 : (Jvm.Cond.instanceMethod ({ cls := "Quillplate", name := "sign", desc := "(C)I" } : Jvm.MethodName)) ∈ lw_all := lw_g (lw_at lw_m6 125 rfl) rfl
theorem q1430 : (Jvm.Cond.selects "Quillplate" ({ cls := "Quillplate", name := "sign", desc := "(C)I" } : Jvm.MethodName) ({ cls := "Quillplate", name := "sign", desc := "(C)I" } : Jvm.MethodName)) ∈ lw_all := lw_g (lw_at lw_m6 126 rfl) rfl
theorem q1431 : (Jvm.Cond.code ({ cls := "Quillplate", name := "sign", desc := "(C)I" } : Jvm.MethodName) prog_1_method_23_code (2 : Nat) (Option.some Jvm.ClassFile.FieldType.int)) ∈ lw_all := lw_g (lw_at lw_m6 127 rfl) rfl
theorem q1432 : (Jvm.Cond.methodLink "Quillplate" (155 : Nat) ({ cls := "Quillplate", name := "isLetterOrDigit", desc := "(C)Z" } : Jvm.MethodName)) ∈ lw_all := lw_g (lw_at lw_m6 128 rfl) rfl
theorem q1433 : (Jvm.Cond.methodLink "Quillplate" (242 : Nat) ({ cls := "Quillplate", name := "isOther", desc := "(C)Z" } : Jvm.MethodName)) ∈ lw_all := lw_g (lw_at lw_m6 129 rfl) rfl
theorem q1434 : (Jvm.Cond.static ({ cls := "Quillplate", name := "isOther", desc := "(C)Z" } : Jvm.MethodName)) ∈ lw_all := lw_g (lw_at lw_m6 130 rfl) rfl
theorem q1435 : (Jvm.Cond.code ({ cls := "Quillplate", name := "isOther", desc := "(C)Z" } : Jvm.MethodName) prog_1_method_22_code (1 : Nat) (Option.some Jvm.ClassFile.FieldType.boolean)) ∈ lw_all := lw_g (lw_at lw_m6 131 rfl) rfl
theorem q1436 : (Jvm.Cond.methodLink "Quillplate" (245 : Nat) ({ cls := "Quillplate", name := "checkArgument", desc := "(Z)V" } : Jvm.MethodName)) ∈ lw_all := lw_g (lw_at lw_m6 132 rfl) rfl
theorem q1437 : (Jvm.Cond.static ({ cls := "Quillplate", name := "checkArgument", desc := "(Z)V" } : Jvm.MethodName)) ∈ lw_all := lw_g (lw_at lw_m6 133 rfl) rfl
theorem q1438 : (Jvm.Cond.code ({ cls := "Quillplate", name := "checkArgument", desc := "(Z)V" } : Jvm.MethodName) prog_1_method_19_code (1 : Nat) (Option.none : Option Jvm.ClassFile.FieldType)) ∈ lw_all := lw_g (lw_at lw_m6 134 rfl) rfl
theorem q1439 : (Jvm.Cond.classLink "Quillplate" (228 : Nat) "java/lang/IllegalArgumentException") ∈ lw_all := lw_g (lw_at lw_m6 135 rfl) rfl
theorem q1440 : (Jvm.Cond.methodLink "Quillplate" (230 : Nat) ({ cls := "java/lang/IllegalArgumentException", name := "<init>", desc := "()V" } : Jvm.MethodName)) ∈ lw_all := lw_g (lw_at lw_m6 136 rfl) rfl
theorem q1450 : (Jvm.Cond.methodLink "Quillplate" (238 : Nat) ({ cls := "Quillplate", name := "checkState", desc := "(Z)V" } : Jvm.MethodName)) ∈ lw_all := lw_g (lw_at lw_m6 146 rfl) rfl
theorem q1451 : (Jvm.Cond.static ({ cls := "Quillplate", name := "checkState", desc := "(Z)V" } : Jvm.MethodName)) ∈ lw_all := lw_g (lw_at lw_m6 147 rfl) rfl
theorem q1452 : (Jvm.Cond.code ({ cls := "Quillplate", name := "checkState", desc := "(Z)V" } : Jvm.MethodName) prog_1_method_18_code (1 : Nat) (Option.none : Option Jvm.ClassFile.FieldType)) ∈ lw_all := lw_g (lw_at lw_m6 148 rfl) rfl
theorem q1453 : (Jvm.Cond.classLink "Quillplate" (225 : Nat) "java/lang/IllegalStateException") ∈ lw_all := lw_g (lw_at lw_m6 149 rfl) rfl
theorem q1462 : (Jvm.Cond.methodLink "Quillplate" (227 : Nat) ({ cls := "java/lang/IllegalStateException", name := "<init>", desc := "()V" } : Jvm.MethodName)) ∈ lw_all := lw_g (lw_at lw_m6 158 rfl) rfl
theorem q1491 : (Jvm.Cond.instanceMethod ({ cls := "Quillplate", name := "tell", desc := "(I)I" } : Jvm.MethodName)) ∈ lw_all := lw_g (lw_at lw_m6 187 rfl) rfl
theorem q1492 : (Jvm.Cond.selects "Quillplate" ({ cls := "Quillplate", name := "tell", desc := "(I)I" } : Jvm.MethodName) ({ cls := "Quillplate", name := "tell", desc := "(I)I" } : Jvm.MethodName)) ∈ lw_all := lw_g (lw_at lw_m6 188 rfl) rfl
theorem q1493 : (Jvm.Cond.codeWith ({ cls := "Quillplate", name := "tell", desc := "(I)I" } : Jvm.MethodName) prog_1_method_25_code (3 : Nat) (Option.some Jvm.ClassFile.FieldType.int) [((6 : Nat), (31 : Nat), (34 : Nat), (260 : Nat))]) ∈ lw_all := lw_g (lw_at lw_m6 189 rfl) rfl
theorem q1494 : (Jvm.Cond.methodLink "Quillplate" (234 : Nat) ({ cls := "Quillplate", name := "checkIndex", desc := "(II)V" } : Jvm.MethodName)) ∈ lw_all := lw_g (lw_at lw_m6 190 rfl) rfl
theorem q1495 : (Jvm.Cond.static ({ cls := "Quillplate", name := "checkIndex", desc := "(II)V" } : Jvm.MethodName)) ∈ lw_all := lw_g (lw_at lw_m6 191 rfl) rfl
theorem q1496 : (Jvm.Cond.code ({ cls := "Quillplate", name := "checkIndex", desc := "(II)V" } : Jvm.MethodName) prog_1_method_20_code (2 : Nat) (Option.none : Option Jvm.ClassFile.FieldType)) ∈ lw_all := lw_g (lw_at lw_m6 192 rfl) rfl
theorem q1497 : (Jvm.Cond.classLink "Quillplate" (231 : Nat) "java/lang/IndexOutOfBoundsException") ∈ lw_all := lw_g (lw_at lw_m6 193 rfl) rfl
theorem q1506 : (Jvm.Cond.methodLink "Quillplate" (233 : Nat) ({ cls := "java/lang/IndexOutOfBoundsException", name := "<init>", desc := "()V" } : Jvm.MethodName)) ∈ lw_all := lw_g (lw_at lw_m6 202 rfl) rfl
theorem q1512 : (Jvm.Cond.methodLink "Quillplate" (262 : Nat) ({ cls := "java/lang/IllegalStateException", name := "<init>", desc := "(Ljava/lang/String;Ljava/lang/Throwable;)V" } : Jvm.MethodName)) ∈ lw_all := lw_g (lw_at lw_m6 208 rfl) rfl
theorem q1524 : (Jvm.Cond.methodLink "Quillplate" (265 : Nat) ({ cls := "java/util/LinkedList", name := "clear", desc := "()V" } : Jvm.MethodName)) ∈ lw_all := lw_g (lw_at lw_m6 220 rfl) rfl
theorem q1532 : (Jvm.Cond.instanceMethod ({ cls := "Quillplate", name := "number", desc := "(II)I" } : Jvm.MethodName)) ∈ lw_all := lw_g (lw_at lw_m6 228 rfl) rfl
theorem q1533 : (Jvm.Cond.selects "Quillplate" ({ cls := "Quillplate", name := "number", desc := "(II)I" } : Jvm.MethodName) ({ cls := "Quillplate", name := "number", desc := "(II)I" } : Jvm.MethodName)) ∈ lw_all := lw_g (lw_at lw_m6 229 rfl) rfl
theorem q1534 : (Jvm.Cond.code ({ cls := "Quillplate", name := "number", desc := "(II)I" } : Jvm.MethodName) prog_1_method_31_code (3 : Nat) (Option.some Jvm.ClassFile.FieldType.int)) ∈ lw_all := lw_g (lw_at lw_m6 230 rfl) rfl
theorem q1535 : (Jvm.Cond.methodLink "Quillplate" (293 : Nat) ({ cls := "Quillplate", name := "isNumber", desc := "(I)Z" } : Jvm.MethodName)) ∈ lw_all := lw_g (lw_at lw_m6 231 rfl) rfl
theorem q1536 : (Jvm.Cond.static ({ cls := "Quillplate", name := "isNumber", desc := "(I)Z" } : Jvm.MethodName)) ∈ lw_all := lw_g (lw_at lw_m6 232 rfl) rfl
theorem q1537 : (Jvm.Cond.code ({ cls := "Quillplate", name := "isNumber", desc := "(I)Z" } : Jvm.MethodName) prog_1_method_30_code (1 : Nat) (Option.some Jvm.ClassFile.FieldType.boolean)) ∈ lw_all := lw_g (lw_at lw_m6 233 rfl) rfl
theorem q1538 : (Jvm.Cond.methodLink "Quillplate" (296 : Nat) ({ cls := "Quillplate", name := "numberOf", desc := "(I)LQuillplate$Value;" } : Jvm.MethodName)) ∈ lw_all := lw_g (lw_at lw_m6 234 rfl) rfl
theorem q1539 : (Jvm.Cond.static ({ cls := "Quillplate", name := "numberOf", desc := "(I)LQuillplate$Value;" } : Jvm.MethodName)) ∈ lw_all := lw_g (lw_at lw_m6 235 rfl) rfl
theorem q1540 : (Jvm.Cond.code ({ cls := "Quillplate", name := "numberOf", desc := "(I)LQuillplate$Value;" } : Jvm.MethodName) prog_1_method_28_code (1 : Nat) (Option.some (Jvm.ClassFile.FieldType.object "Quillplate$Value"))) ∈ lw_all := lw_g (lw_at lw_m6 236 rfl) rfl
theorem q1541 : (Jvm.Cond.fieldLink "Quillplate" (36 : Nat) "Quillplate$Sort" "NUMBER" "LQuillplate$Sort;") ∈ lw_all := lw_g (lw_at lw_m6 237 rfl) rfl
theorem q1542 : (Jvm.Cond.methodLink "Quillplate" (286 : Nat) ({ cls := "java/lang/String", name := "valueOf", desc := "(I)Ljava/lang/String;" } : Jvm.MethodName)) ∈ lw_all := lw_g (lw_at lw_m6 238 rfl) rfl
theorem q1543 : (Jvm.Cond.methodLinkNest "Quillplate" (290 : Nat) ({ cls := "Quillplate$Value", name := "<init>", desc := "(LQuillplate$Sort;ILjava/lang/String;Z)V" } : Jvm.MethodName) "Quillplate") ∈ lw_tbl := lw_at lw_m6 239 rfl
theorem q1544 : (Jvm.Cond.methodLink "Quillplate" (299 : Nat) ({ cls := "Quillplate", name := "set", desc := "(ILQuillplate$Value;)I" } : Jvm.MethodName)) ∈ lw_all := lw_g (lw_at lw_m7 0 rfl) rfl
theorem q1545 : (Jvm.Cond.privateMethod ({ cls := "Quillplate", name := "set", desc := "(ILQuillplate$Value;)I" } : Jvm.MethodName)) ∈ lw_tbl := lw_at lw_m7 1 rfl
theorem q1546 : (Jvm.Cond.instanceMethod ({ cls := "Quillplate", name := "set", desc := "(ILQuillplate$Value;)I" } : Jvm.MethodName)) ∈ lw_all := lw_g (lw_at lw_m7 2 rfl) rfl
theorem q1547 : (Jvm.Cond.code ({ cls := "Quillplate", name := "set", desc := "(ILQuillplate$Value;)I" } : Jvm.MethodName) prog_1_method_27_code (6 : Nat) (Option.some Jvm.ClassFile.FieldType.int)) ∈ lw_all := lw_g (lw_at lw_m7 3 rfl) rfl
theorem q1548 : (Jvm.Cond.methodLink "Quillplate" (206 : Nat) ({ cls := "java/util/LinkedList", name := "iterator", desc := "()Ljava/util/Iterator;" } : Jvm.MethodName)) ∈ lw_all := lw_g (lw_at lw_m7 4 rfl) rfl
theorem q1656 : (Jvm.Cond.interfaceEntry "Quillplate" (210 : Nat)) ∈ lw_tbl := lw_at lw_m7 112 rfl
theorem q1657 : (Jvm.Cond.methodLink "Quillplate" (210 : Nat) ({ cls := "java/util/Iterator", name := "hasNext", desc := "()Z" } : Jvm.MethodName)) ∈ lw_all := lw_g (lw_at lw_m7 113 rfl) rfl
theorem q1694 : (Jvm.Cond.interfaceEntry "Quillplate" (216 : Nat)) ∈ lw_tbl := lw_at lw_m7 150 rfl
theorem q1695 : (Jvm.Cond.methodLink "Quillplate" (216 : Nat) ({ cls := "java/util/Iterator", name := "next", desc := "()Ljava/lang/Object;" } : Jvm.MethodName)) ∈ lw_all := lw_g (lw_at lw_m7 151 rfl) rfl
theorem q1853 : (Jvm.Cond.classLink "Quillplate" (220 : Nat) "Quillplate$Kept") ∈ lw_all := lw_g (lw_at lw_m8 69 rfl) rfl
theorem q1854 : (Jvm.Cond.methodLink "Quillplate" (278 : Nat) ({ cls := "java/util/BitSet", name := "get", desc := "(I)Z" } : Jvm.MethodName)) ∈ lw_all := lw_g (lw_at lw_m8 70 rfl) rfl
theorem q1872 : (Jvm.Cond.interfaceEntry "Quillplate" (283 : Nat)) ∈ lw_tbl := lw_at lw_m8 88 rfl
theorem q1873 : (Jvm.Cond.methodLink "Quillplate" (283 : Nat) ({ cls := "java/util/Iterator", name := "remove", desc := "()V" } : Jvm.MethodName)) ∈ lw_all := lw_g (lw_at lw_m8 89 rfl) rfl
theorem q1945 : (Jvm.Cond.instanceMethod ({ cls := "Quillplate", name := "text", desc := "(I)I" } : Jvm.MethodName)) ∈ lw_all := lw_g (lw_at lw_m8 161 rfl) rfl
theorem q1946 : (Jvm.Cond.selects "Quillplate" ({ cls := "Quillplate", name := "text", desc := "(I)I" } : Jvm.MethodName) ({ cls := "Quillplate", name := "text", desc := "(I)I" } : Jvm.MethodName)) ∈ lw_all := lw_g (lw_at lw_m8 162 rfl) rfl
theorem q1947 : (Jvm.Cond.code ({ cls := "Quillplate", name := "text", desc := "(I)I" } : Jvm.MethodName) prog_1_method_32_code (3 : Nat) (Option.some Jvm.ClassFile.FieldType.int)) ∈ lw_all := lw_g (lw_at lw_m8 163 rfl) rfl
theorem q1948 : (Jvm.Cond.methodLink "Quillplate" (303 : Nat) ({ cls := "Quillplate", name := "drafted", desc := "()LQuillplate$Value;" } : Jvm.MethodName)) ∈ lw_all := lw_g (lw_at lw_m8 164 rfl) rfl
theorem q1949 : (Jvm.Cond.privateMethod ({ cls := "Quillplate", name := "drafted", desc := "()LQuillplate$Value;" } : Jvm.MethodName)) ∈ lw_tbl := lw_at lw_m8 165 rfl
theorem q1950 : (Jvm.Cond.instanceMethod ({ cls := "Quillplate", name := "drafted", desc := "()LQuillplate$Value;" } : Jvm.MethodName)) ∈ lw_all := lw_g (lw_at lw_m8 166 rfl) rfl
theorem q1951 : (Jvm.Cond.code ({ cls := "Quillplate", name := "drafted", desc := "()LQuillplate$Value;" } : Jvm.MethodName) prog_1_method_29_code (3 : Nat) (Option.some (Jvm.ClassFile.FieldType.object "Quillplate$Value"))) ∈ lw_all := lw_g (lw_at lw_m8 167 rfl) rfl
theorem q1952 : (Jvm.Cond.classLink "Quillplate" (43 : Nat) "java/lang/StringBuilder") ∈ lw_all := lw_g (lw_at lw_m8 168 rfl) rfl
theorem q1953 : (Jvm.Cond.methodLink "Quillplate" (45 : Nat) ({ cls := "java/lang/StringBuilder", name := "<init>", desc := "()V" } : Jvm.MethodName)) ∈ lw_all := lw_g (lw_at lw_m8 169 rfl) rfl
theorem q1954 : (Jvm.Cond.methodLink "Quillplate" (111 : Nat) ({ cls := "java/lang/StringBuilder", name := "append", desc := "(C)Ljava/lang/StringBuilder;" } : Jvm.MethodName)) ∈ lw_all := lw_g (lw_at lw_m8 170 rfl) rfl
theorem q1955 : (Jvm.Cond.fieldLink "Quillplate" (86 : Nat) "Quillplate$Sort" "TEXT" "LQuillplate$Sort;") ∈ lw_all := lw_g (lw_at lw_m8 171 rfl) rfl
theorem q1956 : (Jvm.Cond.methodLink "Quillplate" (56 : Nat) ({ cls := "java/lang/StringBuilder", name := "toString", desc := "()Ljava/lang/String;" } : Jvm.MethodName)) ∈ lw_all := lw_g (lw_at lw_m8 172 rfl) rfl
theorem q1961 : (Jvm.Cond.instanceMethod ({ cls := "Quillplate", name := "list", desc := "(I)I" } : Jvm.MethodName)) ∈ lw_all := lw_g (lw_at lw_m8 177 rfl) rfl
theorem q1962 : (Jvm.Cond.selects "Quillplate" ({ cls := "Quillplate", name := "list", desc := "(I)I" } : Jvm.MethodName) ({ cls := "Quillplate", name := "list", desc := "(I)I" } : Jvm.MethodName)) ∈ lw_all := lw_g (lw_at lw_m8 178 rfl) rfl
theorem q1963 : (Jvm.Cond.code ({ cls := "Quillplate", name := "list", desc := "(I)I" } : Jvm.MethodName) prog_1_method_33_code (2 : Nat) (Option.some Jvm.ClassFile.FieldType.int)) ∈ lw_all := lw_g (lw_at lw_m8 179 rfl) rfl
theorem q1964 : (Jvm.Cond.methodLink "Quillplate" (131 : Nat) ({ cls := "Quillplate$Value", name := "list", desc := "()LQuillplate$Value;" } : Jvm.MethodName)) ∈ lw_all := lw_g (lw_at lw_m8 180 rfl) rfl
theorem q1973 : (Jvm.Cond.instanceMethod ({ cls := "Quillplate", name := "addNumber", desc := "(II)I" } : Jvm.MethodName)) ∈ lw_all := lw_g (lw_at lw_m8 189 rfl) rfl
theorem q1974 : (Jvm.Cond.selects "Quillplate" ({ cls := "Quillplate", name := "addNumber", desc := "(II)I" } : Jvm.MethodName) ({ cls := "Quillplate", name := "addNumber", desc := "(II)I" } : Jvm.MethodName)) ∈ lw_all := lw_g (lw_at lw_m8 190 rfl) rfl
theorem q1975 : (Jvm.Cond.code ({ cls := "Quillplate", name := "addNumber", desc := "(II)I" } : Jvm.MethodName) prog_1_method_36_code (3 : Nat) (Option.some Jvm.ClassFile.FieldType.int)) ∈ lw_all := lw_g (lw_at lw_m8 191 rfl) rfl
theorem q1976 : (Jvm.Cond.methodLink "Quillplate" (309 : Nat) ({ cls := "Quillplate", name := "hasRoom", desc := "(I)Z" } : Jvm.MethodName)) ∈ lw_all := lw_g (lw_at lw_m8 192 rfl) rfl
theorem q1977 : (Jvm.Cond.privateMethod ({ cls := "Quillplate", name := "hasRoom", desc := "(I)Z" } : Jvm.MethodName)) ∈ lw_tbl := lw_at lw_m8 193 rfl
theorem q1978 : (Jvm.Cond.instanceMethod ({ cls := "Quillplate", name := "hasRoom", desc := "(I)Z" } : Jvm.MethodName)) ∈ lw_all := lw_g (lw_at lw_m8 194 rfl) rfl
theorem q1979 : (Jvm.Cond.code ({ cls := "Quillplate", name := "hasRoom", desc := "(I)Z" } : Jvm.MethodName) prog_1_method_35_code (2 : Nat) (Option.some Jvm.ClassFile.FieldType.boolean)) ∈ lw_all := lw_g (lw_at lw_m8 195 rfl) rfl
theorem q1980 : (Jvm.Cond.fieldLink "Quillplate" (19 : Nat) "Quillplate$Sort" "LIST" "LQuillplate$Sort;") ∈ lw_all := lw_g (lw_at lw_m8 196 rfl) rfl
theorem q1981 : (Jvm.Cond.methodLink "Quillplate" (25 : Nat) ({ cls := "Quillplate$Value", name := "is", desc := "(LQuillplate$Sort;)Z" } : Jvm.MethodName)) ∈ lw_all := lw_g (lw_at lw_m8 197 rfl) rfl
theorem q1985 : (Jvm.Cond.methodLink "Quillplate" (118 : Nat) ({ cls := "java/util/ArrayList", name := "size", desc := "()I" } : Jvm.MethodName)) ∈ lw_all := lw_g (lw_at lw_m8 201 rfl) rfl
theorem q1986 : (Jvm.Cond.methodLink "Quillplate" (312 : Nat) ({ cls := "Quillplate", name := "add", desc := "(ILQuillplate$Value;)I" } : Jvm.MethodName)) ∈ lw_all := lw_g (lw_at lw_m8 202 rfl) rfl
theorem q1987 : (Jvm.Cond.privateMethod ({ cls := "Quillplate", name := "add", desc := "(ILQuillplate$Value;)I" } : Jvm.MethodName)) ∈ lw_tbl := lw_at lw_m8 203 rfl
theorem q1988 : (Jvm.Cond.instanceMethod ({ cls := "Quillplate", name := "add", desc := "(ILQuillplate$Value;)I" } : Jvm.MethodName)) ∈ lw_all := lw_g (lw_at lw_m8 204 rfl) rfl
theorem q1989 : (Jvm.Cond.code ({ cls := "Quillplate", name := "add", desc := "(ILQuillplate$Value;)I" } : Jvm.MethodName) prog_1_method_34_code (4 : Nat) (Option.some Jvm.ClassFile.FieldType.int)) ∈ lw_all := lw_g (lw_at lw_m8 205 rfl) rfl
theorem q1990 : (Jvm.Cond.methodLink "Quillplate" (305 : Nat) ({ cls := "java/util/ArrayList", name := "addAll", desc := "(Ljava/util/Collection;)Z" } : Jvm.MethodName)) ∈ lw_all := lw_g (lw_at lw_m8 206 rfl) rfl
theorem q1991 : (Jvm.Cond.methodLink "Quillplate" (134 : Nat) ({ cls := "java/util/ArrayList", name := "add", desc := "(Ljava/lang/Object;)Z" } : Jvm.MethodName)) ∈ lw_all := lw_g (lw_at lw_m8 207 rfl) rfl
theorem q1996 : (Jvm.Cond.instanceMethod ({ cls := "Quillplate", name := "addText", desc := "(I)I" } : Jvm.MethodName)) ∈ lw_all := lw_g (lw_at lw_m8 212 rfl) rfl
theorem q1997 : (Jvm.Cond.selects "Quillplate" ({ cls := "Quillplate", name := "addText", desc := "(I)I" } : Jvm.MethodName) ({ cls := "Quillplate", name := "addText", desc := "(I)I" } : Jvm.MethodName)) ∈ lw_all := lw_g (lw_at lw_m8 213 rfl) rfl
theorem q1998 : (Jvm.Cond.code ({ cls := "Quillplate", name := "addText", desc := "(I)I" } : Jvm.MethodName) prog_1_method_37_code (2 : Nat) (Option.some Jvm.ClassFile.FieldType.int)) ∈ lw_all := lw_g (lw_at lw_m8 214 rfl) rfl
theorem q2003 : (Jvm.Cond.instanceMethod ({ cls := "Quillplate", name := "unset", desc := "(I)Z" } : Jvm.MethodName)) ∈ lw_all := lw_g (lw_at lw_m8 219 rfl) rfl
theorem q2004 : (Jvm.Cond.selects "Quillplate" ({ cls := "Quillplate", name := "unset", desc := "(I)Z" } : Jvm.MethodName) ({ cls := "Quillplate", name := "unset", desc := "(I)Z" } : Jvm.MethodName)) ∈ lw_all := lw_g (lw_at lw_m8 220 rfl) rfl
theorem q2005 : (Jvm.Cond.code ({ cls := "Quillplate", name := "unset", desc := "(I)Z" } : Jvm.MethodName) prog_1_method_38_code (3 : Nat) (Option.some Jvm.ClassFile.FieldType.boolean)) ∈ lw_all := lw_g (lw_at lw_m8 221 rfl) rfl
theorem q2010 : (Jvm.Cond.instanceMethod ({ cls := "Quillplate", name := "render", desc := "(I)I" } : Jvm.MethodName)) ∈ lw_all := lw_g (lw_at lw_m8 226 rfl) rfl
theorem q2011 : (Jvm.Cond.selects "Quillplate" ({ cls := "Quillplate", name := "render", desc := "(I)I" } : Jvm.MethodName) ({ cls := "Quillplate", name := "render", desc := "(I)I" } : Jvm.MethodName)) ∈ lw_all := lw_g (lw_at lw_m8 227 rfl) rfl
theorem q2012 : (Jvm.Cond.codeWith ({ cls := "Quillplate", name := "render", desc := "(I)I" } : Jvm.MethodName) prog_1_method_39_code (4 : Nat) (Option.some Jvm.ClassFile.FieldType.int) [((24 : Nat), (32 : Nat), (35 : Nat), (1 : Nat))]) ∈ lw_all := lw_g (lw_at lw_m8 228 rfl) rfl
theorem q2013 : (Jvm.Cond.classLink "Quillplate" (1 : Nat) "Quillplate$FailureException") ∈ lw_all := lw_g (lw_at lw_m8 229 rfl) rfl
theorem q2014 : (Jvm.Cond.methodLink "Quillplate" (314 : Nat) ({ cls := "Quillplate", name := "find", desc := "(I)LQuillplate$Template;" } : Jvm.MethodName)) ∈ lw_all := lw_g (lw_at lw_m8 230 rfl) rfl
theorem q2015 : (Jvm.Cond.privateMethod ({ cls := "Quillplate", name := "find", desc := "(I)LQuillplate$Template;" } : Jvm.MethodName)) ∈ lw_tbl := lw_at lw_m8 231 rfl
theorem q2016 : (Jvm.Cond.instanceMethod ({ cls := "Quillplate", name := "find", desc := "(I)LQuillplate$Template;" } : Jvm.MethodName)) ∈ lw_all := lw_g (lw_at lw_m8 232 rfl) rfl
theorem q2017 : (Jvm.Cond.code ({ cls := "Quillplate", name := "find", desc := "(I)LQuillplate$Template;" } : Jvm.MethodName) prog_1_method_21_code (2 : Nat) (Option.some (Jvm.ClassFile.FieldType.object "Quillplate$Template"))) ∈ lw_all := lw_g (lw_at lw_m8 233 rfl) rfl
theorem q2018 : (Jvm.Cond.methodLink "Quillplate" (321 : Nat) ({ cls := "Quillplate$Run", name := "renderAny", desc := "(LQuillplate$Template;)V" } : Jvm.MethodName)) ∈ lw_all := lw_g (lw_at lw_m8 234 rfl) rfl
theorem q2073 : (Jvm.Cond.fieldLink "Quillplate" (325 : Nat) "Quillplate$FailureException" "code" "I") ∈ lw_all := lw_g (lw_at lw_m9 49 rfl) rfl
theorem q2090 : (Jvm.Cond.static ({ cls := "Quillplate", name := "check", desc := "(ZI)V" } : Jvm.MethodName)) ∈ lw_all := lw_g (lw_at lw_m9 66 rfl) rfl
theorem q2091 : (Jvm.Cond.code ({ cls := "Quillplate", name := "check", desc := "(ZI)V" } : Jvm.MethodName) prog_1_method_1_code (2 : Nat) (Option.none : Option Jvm.ClassFile.FieldType)) ∈ lw_all := lw_g (lw_at lw_m9 67 rfl) rfl
theorem q2092 : (Jvm.Cond.methodLink "Quillplate" (3 : Nat) ({ cls := "Quillplate$FailureException", name := "<init>", desc := "(I)V" } : Jvm.MethodName)) ∈ lw_all := lw_g (lw_at lw_m9 68 rfl) rfl
theorem q2112 : (Jvm.Cond.static ({ cls := "Quillplate", name := "closed", desc := "(Ljava/util/ArrayList;I)I" } : Jvm.MethodName)) ∈ lw_all := lw_g (lw_at lw_m9 88 rfl) rfl
theorem q2113 : (Jvm.Cond.code ({ cls := "Quillplate", name := "closed", desc := "(Ljava/util/ArrayList;I)I" } : Jvm.MethodName) prog_1_method_13_code (2 : Nat) (Option.some Jvm.ClassFile.FieldType.int)) ∈ lw_all := lw_g (lw_at lw_m9 89 rfl) rfl
theorem q2114 : (Jvm.Cond.methodLink "Quillplate" (151 : Nat) ({ cls := "Quillplate", name := "endsAll", desc := "(Ljava/util/ArrayList;I)I" } : Jvm.MethodName)) ∈ lw_all := lw_g (lw_at lw_m9 90 rfl) rfl
theorem q2115 : (Jvm.Cond.static ({ cls := "Quillplate", name := "endsAll", desc := "(Ljava/util/ArrayList;I)I" } : Jvm.MethodName)) ∈ lw_all := lw_g (lw_at lw_m9 91 rfl) rfl
theorem q2116 : (Jvm.Cond.code ({ cls := "Quillplate", name := "endsAll", desc := "(Ljava/util/ArrayList;I)I" } : Jvm.MethodName) prog_1_method_12_code (4 : Nat) (Option.some Jvm.ClassFile.FieldType.int)) ∈ lw_all := lw_g (lw_at lw_m9 92 rfl) rfl
theorem q2117 : (Jvm.Cond.methodLink "Quillplate" (127 : Nat) ({ cls := "java/util/ArrayList", name := "get", desc := "(I)Ljava/lang/Object;" } : Jvm.MethodName)) ∈ lw_all := lw_g (lw_at lw_m9 93 rfl) rfl
theorem q2118 : (Jvm.Cond.classLink "Quillplate" (145 : Nat) "Quillplate$Item") ∈ lw_all := lw_g (lw_at lw_m9 94 rfl) rfl
theorem q2119 : (Jvm.Cond.methodLink "Quillplate" (147 : Nat) ({ cls := "Quillplate$Item", name := "ends", desc := "(I)I" } : Jvm.MethodName)) ∈ lw_all := lw_g (lw_at lw_m9 95 rfl) rfl
theorem q2236 : (Jvm.Cond.static ({ cls := "Quillplate", name := "add", desc := "(LQuillplate$Value;LQuillplate$Value;)LQuillplate$Value;" } : Jvm.MethodName)) ∈ lw_all := lw_g (lw_at lw_m9 212 rfl) rfl
theorem q2237 : (Jvm.Cond.code ({ cls := "Quillplate", name := "add", desc := "(LQuillplate$Value;LQuillplate$Value;)LQuillplate$Value;" } : Jvm.MethodName) prog_1_method_5_code (2 : Nat) (Option.some (Jvm.ClassFile.FieldType.object "Quillplate$Value"))) ∈ lw_all := lw_g (lw_at lw_m9 213 rfl) rfl
theorem q2238 : (Jvm.Cond.methodLink "Quillplate" (29 : Nat) ({ cls := "Quillplate", name := "check", desc := "(ZI)V" } : Jvm.MethodName)) ∈ lw_all := lw_g (lw_at lw_m9 214 rfl) rfl
theorem q2239 : (Jvm.Cond.fieldLink "Quillplate" (33 : Nat) "Quillplate$Sort" "NOTHING" "LQuillplate$Sort;") ∈ lw_all := lw_g (lw_at lw_m9 215 rfl) rfl
theorem q2240 : (Jvm.Cond.methodLink "Quillplate" (13 : Nat) ({ cls := "Quillplate$Value", name := "of", desc := "(I)LQuillplate$Value;" } : Jvm.MethodName)) ∈ lw_all := lw_g (lw_at lw_m9 216 rfl) rfl
theorem q2246 : (Jvm.Cond.methodLink "Quillplate" (52 : Nat) ({ cls := "java/lang/StringBuilder", name := "append", desc := "(Ljava/lang/String;)Ljava/lang/StringBuilder;" } : Jvm.MethodName)) ∈ lw_all := lw_g (lw_at lw_m9 222 rfl) rfl
theorem q2247 : (Jvm.Cond.methodLink "Quillplate" (64 : Nat) ({ cls := "Quillplate$Value", name := "of", desc := "(Ljava/lang/String;Z)LQuillplate$Value;" } : Jvm.MethodName)) ∈ lw_all := lw_g (lw_at lw_m9 223 rfl) rfl
theorem q2268 : (Jvm.Cond.static ({ cls := "Quillplate", name := "truth", desc := "(Z)LQuillplate$Value;" } : Jvm.MethodName)) ∈ lw_all := lw_g (lw_at lw_m10 4 rfl) rfl
theorem q2269 : (Jvm.Cond.code ({ cls := "Quillplate", name := "truth", desc := "(Z)LQuillplate$Value;" } : Jvm.MethodName) prog_1_method_4_code (1 : Nat) (Option.some (Jvm.ClassFile.FieldType.object "Quillplate$Value"))) ∈ lw_all := lw_g (lw_at lw_m10 5 rfl) rfl
theorem q2271 : (Jvm.Cond.static ({ cls := "Quillplate", name := "less", desc := "(LQuillplate$Value;LQuillplate$Value;)LQuillplate$Value;" } : Jvm.MethodName)) ∈ lw_all := lw_g (lw_at lw_m10 7 rfl) rfl
theorem q2272 : (Jvm.Cond.code ({ cls := "Quillplate", name := "less", desc := "(LQuillplate$Value;LQuillplate$Value;)LQuillplate$Value;" } : Jvm.MethodName) prog_1_method_7_code (2 : Nat) (Option.some (Jvm.ClassFile.FieldType.object "Quillplate$Value"))) ∈ lw_all := lw_g (lw_at lw_m10 8 rfl) rfl
theorem q2273 : (Jvm.Cond.methodLink "Quillplate" (89 : Nat) ({ cls := "Quillplate", name := "compare", desc := "(Ljava/lang/String;Ljava/lang/String;)I" } : Jvm.MethodName)) ∈ lw_all := lw_g (lw_at lw_m10 9 rfl) rfl
theorem q2274 : (Jvm.Cond.static ({ cls := "Quillplate", name := "compare", desc := "(Ljava/lang/String;Ljava/lang/String;)I" } : Jvm.MethodName)) ∈ lw_all := lw_g (lw_at lw_m10 10 rfl) rfl
theorem q2275 : (Jvm.Cond.code ({ cls := "Quillplate", name := "compare", desc := "(Ljava/lang/String;Ljava/lang/String;)I" } : Jvm.MethodName) prog_1_method_6_code (4 : Nat) (Option.some Jvm.ClassFile.FieldType.int)) ∈ lw_all := lw_g (lw_at lw_m10 11 rfl) rfl
theorem q2276 : (Jvm.Cond.methodLink "Quillplate" (93 : Nat) ({ cls := "Quillplate", name := "truth", desc := "(Z)LQuillplate$Value;" } : Jvm.MethodName)) ∈ lw_all := lw_g (lw_at lw_m10 12 rfl) rfl
theorem q2296 : (Jvm.Cond.static ({ cls := "Quillplate", name := "filtered", desc := "(CLQuillplate$Value;)LQuillplate$Value;" } : Jvm.MethodName)) ∈ lw_all := lw_g (lw_at lw_m10 32 rfl) rfl
theorem q2297 : (Jvm.Cond.code ({ cls := "Quillplate", name := "filtered", desc := "(CLQuillplate$Value;)LQuillplate$Value;" } : Jvm.MethodName) prog_1_method_8_code (5 : Nat) (Option.some (Jvm.ClassFile.FieldType.object "Quillplate$Value"))) ∈ lw_all := lw_g (lw_at lw_m10 33 rfl) rfl
theorem q2298 : (Jvm.Cond.static ({ cls := "Quillplate", name := "lambda$filtered$0", desc := "(LQuillplate$Value;)LQuillplate$Value;" } : Jvm.MethodName)) ∈ lw_all := lw_g (lw_at lw_m10 34 rfl) rfl
theorem q2299 : (Jvm.Cond.code ({ cls := "Quillplate", name := "lambda$filtered$0", desc := "(LQuillplate$Value;)LQuillplate$Value;" } : Jvm.MethodName) prog_1_method_59_code (1 : Nat) (Option.some (Jvm.ClassFile.FieldType.object "Quillplate$Value"))) ∈ lw_all := lw_g (lw_at lw_m10 35 rfl) rfl
theorem q2300 : (Jvm.Cond.static ({ cls := "Quillplate", name := "lambda$filtered$1", desc := "(CLQuillplate$Value;)LQuillplate$Value;" } : Jvm.MethodName)) ∈ lw_all := lw_g (lw_at lw_m10 36 rfl) rfl
theorem q2301 : (Jvm.Cond.code ({ cls := "Quillplate", name := "lambda$filtered$1", desc := "(CLQuillplate$Value;)LQuillplate$Value;" } : Jvm.MethodName) prog_1_method_58_code (2 : Nat) (Option.some (Jvm.ClassFile.FieldType.object "Quillplate$Value"))) ∈ lw_all := lw_g (lw_at lw_m10 37 rfl) rfl
theorem q2302 : (Jvm.Cond.methodLink "Quillplate" (366 : Nat) ({ cls := "Quillplate", name := "cased", desc := "(Ljava/lang/String;Z)Ljava/lang/String;" } : Jvm.MethodName)) ∈ lw_all := lw_g (lw_at lw_m10 38 rfl) rfl
theorem q2303 : (Jvm.Cond.static ({ cls := "Quillplate", name := "cased", desc := "(Ljava/lang/String;Z)Ljava/lang/String;" } : Jvm.MethodName)) ∈ lw_all := lw_g (lw_at lw_m10 39 rfl) rfl
theorem q2304 : (Jvm.Cond.code ({ cls := "Quillplate", name := "cased", desc := "(Ljava/lang/String;Z)Ljava/lang/String;" } : Jvm.MethodName) prog_1_method_9_code (6 : Nat) (Option.some (Jvm.ClassFile.FieldType.object "java/lang/String"))) ∈ lw_all := lw_g (lw_at lw_m10 40 rfl) rfl
theorem q2305 : (Jvm.Cond.static ({ cls := "Quillplate", name := "lambda$filtered$2", desc := "(LQuillplate$Value;)LQuillplate$Value;" } : Jvm.MethodName)) ∈ lw_all := lw_g (lw_at lw_m10 41 rfl) rfl
theorem q2306 : (Jvm.Cond.code ({ cls := "Quillplate", name := "lambda$filtered$2", desc := "(LQuillplate$Value;)LQuillplate$Value;" } : Jvm.MethodName) prog_1_method_57_code (1 : Nat) (Option.some (Jvm.ClassFile.FieldType.object "Quillplate$Value"))) ∈ lw_all := lw_g (lw_at lw_m10 42 rfl) rfl
theorem q2307 : (Jvm.Cond.static ({ cls := "Quillplate", name := "lambda$filtered$3", desc := "(LQuillplate$Value;)LQuillplate$Value;" } : Jvm.MethodName)) ∈ lw_all := lw_g (lw_at lw_m10 43 rfl) rfl
theorem q2308 : (Jvm.Cond.code ({ cls := "Quillplate", name := "lambda$filtered$3", desc := "(LQuillplate$Value;)LQuillplate$Value;" } : Jvm.MethodName) prog_1_method_56_code (1 : Nat) (Option.some (Jvm.ClassFile.FieldType.object "Quillplate$Value"))) ∈ lw_all := lw_g (lw_at lw_m10 44 rfl) rfl
theorem q2309 : (Jvm.Cond.methodLink "Quillplate" (362 : Nat) ({ cls := "Quillplate", name := "joined", desc := "(LQuillplate$Value;)Ljava/lang/String;" } : Jvm.MethodName)) ∈ lw_all := lw_g (lw_at lw_m10 45 rfl) rfl
theorem q2310 : (Jvm.Cond.static ({ cls := "Quillplate", name := "joined", desc := "(LQuillplate$Value;)Ljava/lang/String;" } : Jvm.MethodName)) ∈ lw_all := lw_g (lw_at lw_m10 46 rfl) rfl
theorem q2311 : (Jvm.Cond.code ({ cls := "Quillplate", name := "joined", desc := "(LQuillplate$Value;)Ljava/lang/String;" } : Jvm.MethodName) prog_1_method_10_code (3 : Nat) (Option.some (Jvm.ClassFile.FieldType.object "java/lang/String"))) ∈ lw_all := lw_g (lw_at lw_m10 47 rfl) rfl
theorem q2312 : (Jvm.Cond.stringRef "Quillplate" (125 : Nat) ",") ∈ lw_tbl := lw_at lw_m10 48 rfl
theorem q2313 : (Jvm.Cond.static ({ cls := "Quillplate", name := "lambda$filtered$4", desc := "(LQuillplate$Value;)LQuillplate$Value;" } : Jvm.MethodName)) ∈ lw_all := lw_g (lw_at lw_m10 49 rfl) rfl
theorem q2314 : (Jvm.Cond.code ({ cls := "Quillplate", name := "lambda$filtered$4", desc := "(LQuillplate$Value;)LQuillplate$Value;" } : Jvm.MethodName) prog_1_method_55_code (1 : Nat) (Option.some (Jvm.ClassFile.FieldType.object "Quillplate$Value"))) ∈ lw_all := lw_g (lw_at lw_m10 50 rfl) rfl
theorem q2315 : (Jvm.Cond.methodLink "Quillplate" (359 : Nat) ({ cls := "Quillplate", name := "backward", desc := "(LQuillplate$Value;)LQuillplate$Value;" } : Jvm.MethodName)) ∈ lw_all := lw_g (lw_at lw_m10 51 rfl) rfl
theorem q2316 : (Jvm.Cond.static ({ cls := "Quillplate", name := "backward", desc := "(LQuillplate$Value;)LQuillplate$Value;" } : Jvm.MethodName)) ∈ lw_all := lw_g (lw_at lw_m10 52 rfl) rfl
theorem q2317 : (Jvm.Cond.code ({ cls := "Quillplate", name := "backward", desc := "(LQuillplate$Value;)LQuillplate$Value;" } : Jvm.MethodName) prog_1_method_11_code (3 : Nat) (Option.some (Jvm.ClassFile.FieldType.object "Quillplate$Value"))) ∈ lw_all := lw_g (lw_at lw_m10 53 rfl) rfl
theorem q2318 : (Jvm.Cond.methodLink "Quillplate" (138 : Nat) ({ cls := "java/lang/StringBuilder", name := "<init>", desc := "(Ljava/lang/String;)V" } : Jvm.MethodName)) ∈ lw_all := lw_g (lw_at lw_m10 54 rfl) rfl
theorem q2329 : (Jvm.Cond.methodLink "Quillplate" (141 : Nat) ({ cls := "java/lang/StringBuilder", name := "reverse", desc := "()Ljava/lang/StringBuilder;" } : Jvm.MethodName)) ∈ lw_all := lw_g (lw_at lw_m10 65 rfl) rfl
theorem q2360 : (Jvm.Cond.interfaceEntry "Quillplate" (106 : Nat)) ∈ lw_tbl := lw_at lw_m10 96 rfl
theorem q2361 : (Jvm.Cond.methodLink "Quillplate" (106 : Nat) ({ cls := "Quillplate$Filter", name := "of", desc := "(LQuillplate$Value;)LQuillplate$Value;" } : Jvm.MethodName)) ∈ lw_all := lw_g (lw_at lw_m10 97 rfl) rfl
theorem q2377 : (Jvm.Cond.static ({ cls := "Quillplate", name := "escaped", desc := "(LQuillplate$Value;I)Ljava/lang/String;" } : Jvm.MethodName)) ∈ lw_all := lw_g (lw_at lw_m10 113 rfl) rfl
theorem q2378 : (Jvm.Cond.code ({ cls := "Quillplate", name := "escaped", desc := "(LQuillplate$Value;I)Ljava/lang/String;" } : Jvm.MethodName) prog_1_method_15_code (8 : Nat) (Option.some (Jvm.ClassFile.FieldType.object "java/lang/String"))) ∈ lw_all := lw_g (lw_at lw_m10 114 rfl) rfl
theorem q2379 : (Jvm.Cond.stringRef "Quillplate" (159 : Nat) "&a;") ∈ lw_tbl := lw_at lw_m10 115 rfl
theorem q2380 : (Jvm.Cond.stringRef "Quillplate" (161 : Nat) "&l;") ∈ lw_tbl := lw_at lw_m10 116 rfl
theorem q2381 : (Jvm.Cond.stringRef "Quillplate" (163 : Nat) "&g;") ∈ lw_tbl := lw_at lw_m10 117 rfl
theorem q2382 : (Jvm.Cond.stringRef "Quillplate" (165 : Nat) "&q;") ∈ lw_tbl := lw_at lw_m10 118 rfl
theorem q2429 : (Jvm.Cond.privateMethod ({ cls := "Quillplate", name := "findKept", desc := "(III)LQuillplate$Kept;" } : Jvm.MethodName)) ∈ lw_tbl := lw_at lw_m10 165 rfl
theorem q2430 : (Jvm.Cond.instanceMethod ({ cls := "Quillplate", name := "findKept", desc := "(III)LQuillplate$Kept;" } : Jvm.MethodName)) ∈ lw_all := lw_g (lw_at lw_m10 166 rfl) rfl
theorem q2431 : (Jvm.Cond.code ({ cls := "Quillplate", name := "findKept", desc := "(III)LQuillplate$Kept;" } : Jvm.MethodName) prog_1_method_17_code (7 : Nat) (Option.some (Jvm.ClassFile.FieldType.object "Quillplate$Kept"))) ∈ lw_all := lw_g (lw_at lw_m10 167 rfl) rfl
theorem q2432 : (Jvm.Cond.methodLink "Quillplate" (222 : Nat) ({ cls := "Quillplate$Kept", name := "is", desc := "(III)Z" } : Jvm.MethodName)) ∈ lw_all := lw_g (lw_at lw_m10 168 rfl) rfl
theorem q2452 : (Jvm.Cond.selects "Quillplate" ({ cls := "java/lang/Object", name := "equals", desc := "(Ljava/lang/Object;)Z" } : Jvm.MethodName) ({ cls := "java/lang/Object", name := "equals", desc := "(Ljava/lang/Object;)Z" } : Jvm.MethodName)) ∈ lw_all := lw_g (lw_at lw_m10 188 rfl) rfl
theorem q2531 : (Jvm.Cond.fieldLink "Quillplate" (274 : Nat) "Quillplate$Kept" "reads" "Ljava/util/BitSet;") ∈ lw_all := lw_g (lw_at lw_m11 27 rfl) rfl
theorem q2583 : (Jvm.Cond.instanceMethod ({ cls := "Quillplate", name := "errorPlace", desc := "(I)I" } : Jvm.MethodName)) ∈ lw_all := lw_g (lw_at lw_m11 79 rfl) rfl
theorem q2584 : (Jvm.Cond.selects "Quillplate" ({ cls := "Quillplate", name := "errorPlace", desc := "(I)I" } : Jvm.MethodName) ({ cls := "Quillplate", name := "errorPlace", desc := "(I)I" } : Jvm.MethodName)) ∈ lw_all := lw_g (lw_at lw_m11 80 rfl) rfl
theorem q2585 : (Jvm.Cond.code ({ cls := "Quillplate", name := "errorPlace", desc := "(I)I" } : Jvm.MethodName) prog_1_method_41_code (2 : Nat) (Option.some Jvm.ClassFile.FieldType.int)) ∈ lw_all := lw_g (lw_at lw_m11 81 rfl) rfl
theorem q2586 : (Jvm.Cond.classLink "Quillplate" (334 : Nat) "java/lang/Integer") ∈ lw_all := lw_g (lw_at lw_m11 82 rfl) rfl
theorem q2587 : (Jvm.Cond.methodLink "Quillplate" (336 : Nat) ({ cls := "java/lang/Integer", name := "intValue", desc := "()I" } : Jvm.MethodName)) ∈ lw_all := lw_g (lw_at lw_m11 83 rfl) rfl
theorem q2592 : (Jvm.Cond.instanceMethod ({ cls := "Quillplate", name := "outSign", desc := "(I)C" } : Jvm.MethodName)) ∈ lw_all := lw_g (lw_at lw_m11 88 rfl) rfl
theorem q2593 : (Jvm.Cond.selects "Quillplate" ({ cls := "Quillplate", name := "outSign", desc := "(I)C" } : Jvm.MethodName) ({ cls := "Quillplate", name := "outSign", desc := "(I)C" } : Jvm.MethodName)) ∈ lw_all := lw_g (lw_at lw_m11 89 rfl) rfl
theorem q2594 : (Jvm.Cond.code ({ cls := "Quillplate", name := "outSign", desc := "(I)C" } : Jvm.MethodName) prog_1_method_47_code (2 : Nat) (Option.some Jvm.ClassFile.FieldType.char)) ∈ lw_all := lw_g (lw_at lw_m11 90 rfl) rfl
theorem q2599 : (Jvm.Cond.instanceMethod ({ cls := "Quillplate", name := "sumAnew", desc := "(I)I" } : Jvm.MethodName)) ∈ lw_all := lw_g (lw_at lw_m11 95 rfl) rfl
theorem q2600 : (Jvm.Cond.selects "Quillplate" ({ cls := "Quillplate", name := "sumAnew", desc := "(I)I" } : Jvm.MethodName) ({ cls := "Quillplate", name := "sumAnew", desc := "(I)I" } : Jvm.MethodName)) ∈ lw_all := lw_g (lw_at lw_m11 96 rfl) rfl
theorem q2601 : (Jvm.Cond.codeWith ({ cls := "Quillplate", name := "sumAnew", desc := "(I)I" } : Jvm.MethodName) prog_1_method_54_code (5 : Nat) (Option.some Jvm.ClassFile.FieldType.int) [((16 : Nat), (21 : Nat), (24 : Nat), (1 : Nat))]) ∈ lw_all := lw_g (lw_at lw_m11 97 rfl) rfl
theorem q3830 : (Jvm.Cond.castable "Quillplate" "java/lang/Object") ∈ lw_tbl := lw_at lw_m16 126 rfl
theorem in_X1 : ∀ w ∈ wsX10, w ∈ lw_all := lw_in wsX10 [733, 735, 737, 739, 741, 743, 745, 747, 749] (by decide +kernel) (by decide +kernel)
def RX2 : String := "Quillplate$Run"
def TX2 : u_T := fun k => match k with
  | 0 => ("Quillplate$Run", "out", "Ljava/lang/StringBuilder;", true)
  | 1 => ("Quillplate$Run", "where", "I", false)
  | 2 => ("Quillplate$Run", "steps", "I", false)
  | 3 => ("Quillplate$Run", "item", "LQuillplate$Value;", false)
  | 4 => ("Quillplate$Run", "count", "LQuillplate$Value;", false)
  | 5 => ("Quillplate$Run", "param", "LQuillplate$Value;", false)
  | 6 => ("Quillplate$Run", "reads", "Ljava/util/BitSet;", false)
  | 7 => ("Quillplate$Run", "keeps", "Z", true)
  | 8 => ("Quillplate$Run", "renewed", "I", false)
  | 9 => ("Quillplate$Run", "reused", "I", false)
  | 10 => ("Quillplate$Run", "row", "Ljava/util/ArrayList;", false)
  | 11 => ("Quillplate$Run", "body", "I", false)
  | 12 => ("Quillplate$Run", "block", "I", false)
  | 13 => ("Quillplate$Run", "blockOf", "I", false)
  | 14 => ("Quillplate$Run", "depth", "I", false)
  | 15 => ("Quillplate$Run", "leads", "Ljava/util/ArrayDeque;", true)
  | 16 => ("Quillplate$Run", "places", "Ljava/util/ArrayList;", false)
  | _ => ("Quillplate$Run", "this$0", "LQuillplate;", true)
def tyX2 : Nat → FieldType := fun k => match k with
  | 0 => .object "java/lang/StringBuilder"
  | 1 => .int
  | 2 => .int
  | 3 => .object "Quillplate$Value"
  | 4 => .object "Quillplate$Value"
  | 5 => .object "Quillplate$Value"
  | 6 => .object "java/util/BitSet"
  | 7 => .boolean
  | 8 => .int
  | 9 => .int
  | 10 => .object "java/util/ArrayList"
  | 11 => .int
  | 12 => .int
  | 13 => .int
  | 14 => .int
  | 15 => .object "java/util/ArrayDeque"
  | 16 => .object "java/util/ArrayList"
  | _ => .object "Quillplate"
abbrev wsX20 : List Cond := u_ws RX2 TX2 18
theorem nmX2 : ∀ a, a < 18 → ∀ b, b < 18 → a ≠ b → (TX2 a).2.1 ≠ (TX2 b).2.1 := by decide +kernel
theorem tyX2_ok : ∀ k, k < 18 → parseFieldDescriptor (TX2 k).2.2.1 = some (tyX2 k) := by decide +kernel
abbrev cX2_init : ByteArray := prog_19_method_1_code
def yX2_init : MethodName := ⟨RX2, "<init>", "(LQuillplate;Z)V"⟩
abbrev cX2_renderAny : ByteArray := prog_19_method_8_code
def yX2_renderAny : MethodName := ⟨RX2, "renderAny", "(LQuillplate$Template;)V"⟩
abbrev cX2_rowOf : ByteArray := prog_19_method_7_code
def yX2_rowOf : MethodName := ⟨RX2, "rowOf", "(LQuillplate$Template;)Ljava/util/ArrayList;"⟩
abbrev cX2_errorAt : ByteArray := prog_19_method_4_code
def yX2_errorAt : MethodName := ⟨RX2, "errorAt", "(I)V"⟩
abbrev cX2_renderAll : ByteArray := prog_19_method_5_code
def yX2_renderAll : MethodName := ⟨RX2, "renderAll", "(Ljava/util/ArrayList;)V"⟩
abbrev cX2_step : ByteArray := prog_19_method_3_code
def yX2_step : MethodName := ⟨RX2, "step", "()V"⟩
abbrev cX2_renderBlock : ByteArray := prog_19_method_12_code
def yX2_renderBlock : MethodName := ⟨RX2, "renderBlock", "(II)V"⟩
abbrev cX2_blockFrom : ByteArray := prog_19_method_10_code
def yX2_blockFrom : MethodName := ⟨RX2, "blockFrom", "(II)I"⟩
abbrev cX2_renderIn : ByteArray := prog_19_method_11_code
def yX2_renderIn : MethodName := ⟨RX2, "renderIn", "(IIILjava/util/ArrayList;)V"⟩
abbrev cX2_mark : ByteArray := prog_19_method_9_code
def yX2_mark : MethodName := ⟨RX2, "mark", "(I)I"⟩
abbrev cX2_lead : ByteArray := prog_19_method_6_code
def yX2_lead : MethodName := ⟨RX2, "lead", "(ILjava/util/ArrayList;)V"⟩
abbrev cX2_read : ByteArray := prog_19_method_2_code
def yX2_read : MethodName := ⟨RX2, "read", "(C)LQuillplate$Value;"⟩
abbrev cX2_renderAbove : ByteArray := prog_19_method_14_code
def yX2_renderAbove : MethodName := ⟨RX2, "renderAbove", "(I)V"⟩
abbrev cX2_goDeeper : ByteArray := prog_19_method_13_code
def yX2_goDeeper : MethodName := ⟨RX2, "goDeeper", "()V"⟩
abbrev cX2_renderOther : ByteArray := prog_19_method_16_code
def yX2_renderOther : MethodName := ⟨RX2, "renderOther", "(II)V"⟩
abbrev cX2_call : ByteArray := prog_19_method_15_code
def yX2_call : MethodName := ⟨RX2, "call", "(IILQuillplate$Expression;)V"⟩
abbrev cX2_renderPart : ByteArray := prog_19_method_17_code
def yX2_renderPart : MethodName := ⟨RX2, "renderPart", "(ILjava/util/ArrayList;)V"⟩
theorem q110 : (Jvm.Cond.initialized "Quillplate$Run") ∈ lw_all := lw_g (lw_at lw_m1 6 rfl) rfl
theorem q229 : (Jvm.Cond.instantiable "Quillplate$Run" (18 : Nat)) ∈ lw_all := lw_g (lw_at lw_m1 125 rfl) rfl
theorem q231 : (Jvm.Cond.instanceMethod ({ cls := "Quillplate$Run", name := "<init>", desc := "(LQuillplate;Z)V" } : Jvm.MethodName)) ∈ lw_all := lw_g (lw_at lw_m1 127 rfl) rfl
theorem q232 : (Jvm.Cond.code ({ cls := "Quillplate$Run", name := "<init>", desc := "(LQuillplate;Z)V" } : Jvm.MethodName) prog_19_method_1_code (3 : Nat) (Option.none : Option Jvm.ClassFile.FieldType)) ∈ lw_all := lw_g (lw_at lw_m1 128 rfl) rfl
theorem q233 : (Jvm.Cond.methodLink "Quillplate$Run" (9 : Nat) ({ cls := "java/lang/Object", name := "<init>", desc := "()V" } : Jvm.MethodName)) ∈ lw_all := lw_g (lw_at lw_m1 129 rfl) rfl
theorem q234 : (Jvm.Cond.classLink "Quillplate$Run" (15 : Nat) "java/lang/StringBuilder") ∈ lw_all := lw_g (lw_at lw_m1 130 rfl) rfl
theorem q236 : (Jvm.Cond.methodLink "Quillplate$Run" (17 : Nat) ({ cls := "java/lang/StringBuilder", name := "<init>", desc := "()V" } : Jvm.MethodName)) ∈ lw_all := lw_g (lw_at lw_m1 132 rfl) rfl
theorem q266 : (Jvm.Cond.methodLink "Quillplate$Run" (26 : Nat) ({ cls := "Quillplate$Value", name := "nothing", desc := "()LQuillplate$Value;" } : Jvm.MethodName)) ∈ lw_all := lw_g (lw_at lw_m1 162 rfl) rfl
theorem q608 : (Jvm.Cond.classLink "Quillplate$Run" (42 : Nat) "java/util/BitSet") ∈ lw_all := lw_g (lw_at lw_m3 24 rfl) rfl
theorem q610 : (Jvm.Cond.methodLink "Quillplate$Run" (44 : Nat) ({ cls := "java/util/BitSet", name := "<init>", desc := "()V" } : Jvm.MethodName)) ∈ lw_all := lw_g (lw_at lw_m3 26 rfl) rfl
theorem q632 : (Jvm.Cond.classLink "Quillplate$Run" (49 : Nat) "java/util/ArrayList") ∈ lw_all := lw_g (lw_at lw_m3 48 rfl) rfl
theorem q633 : (Jvm.Cond.methodLink "Quillplate$Run" (51 : Nat) ({ cls := "java/util/ArrayList", name := "<init>", desc := "()V" } : Jvm.MethodName)) ∈ lw_all := lw_g (lw_at lw_m3 49 rfl) rfl
theorem q638 : (Jvm.Cond.classLink "Quillplate$Run" (59 : Nat) "java/util/ArrayDeque") ∈ lw_all := lw_g (lw_at lw_m3 54 rfl) rfl
theorem q640 : (Jvm.Cond.methodLink "Quillplate$Run" (61 : Nat) ({ cls := "java/util/ArrayDeque", name := "<init>", desc := "()V" } : Jvm.MethodName)) ∈ lw_all := lw_g (lw_at lw_m3 56 rfl) rfl
theorem q655 : (Jvm.Cond.fieldLink "Quillplate$Run" (18 : Nat) "Quillplate$Run" "out" "Ljava/lang/StringBuilder;") ∈ lw_all := lw_g (lw_at lw_m3 71 rfl) rfl
theorem q659 : (Jvm.Cond.fieldLink "Quillplate$Run" (22 : Nat) "Quillplate$Run" "where" "I") ∈ lw_all := lw_g (lw_at lw_m3 75 rfl) rfl
theorem q662 : (Jvm.Cond.fieldLink "Quillplate$Run" (78 : Nat) "Quillplate$Run" "steps" "I") ∈ lw_all := lw_g (lw_at lw_m3 78 rfl) rfl
theorem q664 : (Jvm.Cond.fieldLink "Quillplate$Run" (32 : Nat) "Quillplate$Run" "item" "LQuillplate$Value;") ∈ lw_all := lw_g (lw_at lw_m3 80 rfl) rfl
theorem q666 : (Jvm.Cond.fieldLink "Quillplate$Run" (36 : Nat) "Quillplate$Run" "count" "LQuillplate$Value;") ∈ lw_all := lw_g (lw_at lw_m3 82 rfl) rfl
theorem q668 : (Jvm.Cond.fieldLink "Quillplate$Run" (39 : Nat) "Quillplate$Run" "param" "LQuillplate$Value;") ∈ lw_all := lw_g (lw_at lw_m3 84 rfl) rfl
theorem q669 : (Jvm.Cond.fieldLink "Quillplate$Run" (45 : Nat) "Quillplate$Run" "reads" "Ljava/util/BitSet;") ∈ lw_all := lw_g (lw_at lw_m3 85 rfl) rfl
theorem q670 : (Jvm.Cond.fieldLink "Quillplate$Run" (66 : Nat) "Quillplate$Run" "keeps" "Z") ∈ lw_all := lw_g (lw_at lw_m3 86 rfl) rfl
theorem q671 : (Jvm.Cond.fieldLink "Quillplate$Run" (259 : Nat) "Quillplate$Run" "renewed" "I") ∈ lw_all := lw_g (lw_at lw_m3 87 rfl) rfl
theorem q673 : (Jvm.Cond.fieldLink "Quillplate$Run" (223 : Nat) "Quillplate$Run" "reused" "I") ∈ lw_all := lw_g (lw_at lw_m3 89 rfl) rfl
theorem q675 : (Jvm.Cond.fieldLink "Quillplate$Run" (52 : Nat) "Quillplate$Run" "row" "Ljava/util/ArrayList;") ∈ lw_all := lw_g (lw_at lw_m3 91 rfl) rfl
theorem q676 : (Jvm.Cond.fieldLink "Quillplate$Run" (112 : Nat) "Quillplate$Run" "body" "I") ∈ lw_all := lw_g (lw_at lw_m3 92 rfl) rfl
theorem q677 : (Jvm.Cond.fieldLink "Quillplate$Run" (56 : Nat) "Quillplate$Run" "block" "I") ∈ lw_all := lw_g (lw_at lw_m3 93 rfl) rfl
theorem q678 : (Jvm.Cond.fieldLink "Quillplate$Run" (178 : Nat) "Quillplate$Run" "blockOf" "I") ∈ lw_all := lw_g (lw_at lw_m3 94 rfl) rfl
theorem q679 : (Jvm.Cond.fieldLink "Quillplate$Run" (198 : Nat) "Quillplate$Run" "depth" "I") ∈ lw_all := lw_g (lw_at lw_m3 95 rfl) rfl
theorem q680 : (Jvm.Cond.fieldLink "Quillplate$Run" (62 : Nat) "Quillplate$Run" "leads" "Ljava/util/ArrayDeque;") ∈ lw_all := lw_g (lw_at lw_m3 96 rfl) rfl
theorem q681 : (Jvm.Cond.fieldLink "Quillplate$Run" (85 : Nat) "Quillplate$Run" "places" "Ljava/util/ArrayList;") ∈ lw_all := lw_g (lw_at lw_m3 97 rfl) rfl
theorem q683 : (Jvm.Cond.fieldLink "Quillplate$Run" (3 : Nat) "Quillplate$Run" "this$0" "LQuillplate;") ∈ lw_all := lw_g (lw_at lw_m3 99 rfl) rfl
theorem q684 : (Jvm.Cond.laysFinal "Quillplate$Run" "Quillplate$Run" "out" "Ljava/lang/StringBuilder;") ∈ lw_all := lw_g (lw_at lw_m3 100 rfl) rfl
theorem q685 : (Jvm.Cond.soleField "Quillplate$Run" "out") ∈ lw_all := lw_g (lw_at lw_m3 101 rfl) rfl
theorem q686 : (Jvm.Cond.lays "Quillplate$Run" "Quillplate$Run" "where" "I") ∈ lw_all := lw_g (lw_at lw_m3 102 rfl) rfl
theorem q687 : (Jvm.Cond.soleField "Quillplate$Run" "where") ∈ lw_all := lw_g (lw_at lw_m3 103 rfl) rfl
theorem q688 : (Jvm.Cond.lays "Quillplate$Run" "Quillplate$Run" "steps" "I") ∈ lw_all := lw_g (lw_at lw_m3 104 rfl) rfl
theorem q689 : (Jvm.Cond.soleField "Quillplate$Run" "steps") ∈ lw_all := lw_g (lw_at lw_m3 105 rfl) rfl
theorem q690 : (Jvm.Cond.lays "Quillplate$Run" "Quillplate$Run" "item" "LQuillplate$Value;") ∈ lw_all := lw_g (lw_at lw_m3 106 rfl) rfl
theorem q691 : (Jvm.Cond.soleField "Quillplate$Run" "item") ∈ lw_all := lw_g (lw_at lw_m3 107 rfl) rfl
theorem q692 : (Jvm.Cond.lays "Quillplate$Run" "Quillplate$Run" "count" "LQuillplate$Value;") ∈ lw_all := lw_g (lw_at lw_m3 108 rfl) rfl
theorem q693 : (Jvm.Cond.soleField "Quillplate$Run" "count") ∈ lw_all := lw_g (lw_at lw_m3 109 rfl) rfl
theorem q694 : (Jvm.Cond.lays "Quillplate$Run" "Quillplate$Run" "param" "LQuillplate$Value;") ∈ lw_all := lw_g (lw_at lw_m3 110 rfl) rfl
theorem q695 : (Jvm.Cond.soleField "Quillplate$Run" "param") ∈ lw_all := lw_g (lw_at lw_m3 111 rfl) rfl
theorem q696 : (Jvm.Cond.lays "Quillplate$Run" "Quillplate$Run" "reads" "Ljava/util/BitSet;") ∈ lw_all := lw_g (lw_at lw_m3 112 rfl) rfl
theorem q697 : (Jvm.Cond.soleField "Quillplate$Run" "reads") ∈ lw_all := lw_g (lw_at lw_m3 113 rfl) rfl
theorem q698 : (Jvm.Cond.laysFinal "Quillplate$Run" "Quillplate$Run" "keeps" "Z") ∈ lw_all := lw_g (lw_at lw_m3 114 rfl) rfl
theorem q699 : (Jvm.Cond.soleField "Quillplate$Run" "keeps") ∈ lw_all := lw_g (lw_at lw_m3 115 rfl) rfl
theorem q700 : (Jvm.Cond.lays "Quillplate$Run" "Quillplate$Run" "renewed" "I") ∈ lw_all := lw_g (lw_at lw_m3 116 rfl) rfl
theorem q701 : (Jvm.Cond.soleField "Quillplate$Run" "renewed") ∈ lw_all := lw_g (lw_at lw_m3 117 rfl) rfl
theorem q702 : (Jvm.Cond.lays "Quillplate$Run" "Quillplate$Run" "reused" "I") ∈ lw_all := lw_g (lw_at lw_m3 118 rfl) rfl
theorem q703 : (Jvm.Cond.soleField "Quillplate$Run" "reused") ∈ lw_all := lw_g (lw_at lw_m3 119 rfl) rfl
theorem q704 : (Jvm.Cond.lays "Quillplate$Run" "Quillplate$Run" "row" "Ljava/util/ArrayList;") ∈ lw_all := lw_g (lw_at lw_m3 120 rfl) rfl
theorem q705 : (Jvm.Cond.soleField "Quillplate$Run" "row") ∈ lw_all := lw_g (lw_at lw_m3 121 rfl) rfl
theorem q706 : (Jvm.Cond.lays "Quillplate$Run" "Quillplate$Run" "body" "I") ∈ lw_all := lw_g (lw_at lw_m3 122 rfl) rfl
theorem q707 : (Jvm.Cond.soleField "Quillplate$Run" "body") ∈ lw_all := lw_g (lw_at lw_m3 123 rfl) rfl
theorem q708 : (Jvm.Cond.lays "Quillplate$Run" "Quillplate$Run" "block" "I") ∈ lw_all := lw_g (lw_at lw_m3 124 rfl) rfl
theorem q709 : (Jvm.Cond.soleField "Quillplate$Run" "block") ∈ lw_all := lw_g (lw_at lw_m3 125 rfl) rfl
theorem q710 : (Jvm.Cond.lays "Quillplate$Run" "Quillplate$Run" "blockOf" "I") ∈ lw_all := lw_g (lw_at lw_m3 126 rfl) rfl
theorem q711 : (Jvm.Cond.soleField "Quillplate$Run" "blockOf") ∈ lw_all := lw_g (lw_at lw_m3 127 rfl) rfl
theorem q712 : (Jvm.Cond.lays "Quillplate$Run" "Quillplate$Run" "depth" "I") ∈ lw_all := lw_g (lw_at lw_m3 128 rfl) rfl
theorem q713 : (Jvm.Cond.soleField "Quillplate$Run" "depth") ∈ lw_all := lw_g (lw_at lw_m3 129 rfl) rfl
theorem q714 : (Jvm.Cond.laysFinal "Quillplate$Run" "Quillplate$Run" "leads" "Ljava/util/ArrayDeque;") ∈ lw_all := lw_g (lw_at lw_m3 130 rfl) rfl
theorem q715 : (Jvm.Cond.soleField "Quillplate$Run" "leads") ∈ lw_all := lw_g (lw_at lw_m3 131 rfl) rfl
theorem q716 : (Jvm.Cond.lays "Quillplate$Run" "Quillplate$Run" "places" "Ljava/util/ArrayList;") ∈ lw_all := lw_g (lw_at lw_m3 132 rfl) rfl
theorem q717 : (Jvm.Cond.soleField "Quillplate$Run" "places") ∈ lw_all := lw_g (lw_at lw_m3 133 rfl) rfl
theorem q718 : (Jvm.Cond.laysFinal "Quillplate$Run" "Quillplate$Run" "this$0" "LQuillplate;") ∈ lw_all := lw_g (lw_at lw_m3 134 rfl) rfl
theorem q719 : (Jvm.Cond.soleField "Quillplate$Run" "this$0") ∈ lw_all := lw_g (lw_at lw_m3 135 rfl) rfl
theorem q720 : (Jvm.Cond.superclass "Quillplate$Run" "java/lang/Object") ∈ lw_all := lw_g (lw_at lw_m3 136 rfl) rfl
theorem q723 : (Jvm.Cond.fieldLinkNest "Quillplate$Run" (150 : Nat) "Quillplate" "templates" "[LQuillplate$Template;" "Quillplate") ∈ lw_tbl := lw_at lw_m3 139 rfl
theorem q725 : (Jvm.Cond.fieldLinkNest "Quillplate$Run" (74 : Nat) "Quillplate" "data" "[LQuillplate$Value;" "Quillplate") ∈ lw_tbl := lw_at lw_m3 141 rfl
theorem q728 : (Jvm.Cond.fieldLinkNest "Quillplate$Run" (239 : Nat) "Quillplate" "parts" "Ljava/util/LinkedList;" "Quillplate") ∈ lw_tbl := lw_at lw_m3 144 rfl
theorem q778 : (Jvm.Cond.fieldLink "Quillplate$Run" (117 : Nat) "Quillplate$Template" "number" "I") ∈ lw_all := lw_g (lw_at lw_m3 194 rfl) rfl
theorem q780 : (Jvm.Cond.fieldLink "Quillplate$Run" (147 : Nat) "Quillplate$Template" "above" "I") ∈ lw_all := lw_g (lw_at lw_m3 196 rfl) rfl
theorem q786 : (Jvm.Cond.fieldLink "Quillplate$Run" (160 : Nat) "Quillplate$Template" "items" "Ljava/util/ArrayList;") ∈ lw_all := lw_g (lw_at lw_m3 202 rfl) rfl
theorem q788 : (Jvm.Cond.fieldLink "Quillplate$Run" (166 : Nat) "Quillplate$Template" "blocks" "[LQuillplate$Block;") ∈ lw_all := lw_g (lw_at lw_m3 204 rfl) rfl
theorem q792 : (Jvm.Cond.fieldLink "Quillplate$Run" (204 : Nat) "Quillplate$Template" "macros" "[LQuillplate$Block;") ∈ lw_all := lw_g (lw_at lw_m3 208 rfl) rfl
theorem q876 : (Jvm.Cond.fieldLink "Quillplate$Run" (120 : Nat) "Quillplate$Item" "at" "I") ∈ lw_all := lw_g (lw_at lw_m4 52 rfl) rfl
theorem q956 : (Jvm.Cond.selects "Quillplate$Run" ({ cls := "java/lang/Object", name := "getClass", desc := "()Ljava/lang/Class;" } : Jvm.MethodName) ({ cls := "java/lang/Object", name := "getClass", desc := "()Ljava/lang/Class;" } : Jvm.MethodName)) ∈ lw_all := lw_g (lw_at lw_m4 132 rfl) rfl
theorem q1269 : (Jvm.Cond.fieldLink "Quillplate$Run" (189 : Nat) "Quillplate$Block" "in" "Ljava/util/ArrayList;") ∈ lw_all := lw_g (lw_at lw_m5 205 rfl) rfl
theorem q2019 : (Jvm.Cond.instanceMethod ({ cls := "Quillplate$Run", name := "renderAny", desc := "(LQuillplate$Template;)V" } : Jvm.MethodName)) ∈ lw_all := lw_g (lw_at lw_m8 235 rfl) rfl
theorem q2020 : (Jvm.Cond.selects "Quillplate$Run" ({ cls := "Quillplate$Run", name := "renderAny", desc := "(LQuillplate$Template;)V" } : Jvm.MethodName) ({ cls := "Quillplate$Run", name := "renderAny", desc := "(LQuillplate$Template;)V" } : Jvm.MethodName)) ∈ lw_all := lw_g (lw_at lw_m8 236 rfl) rfl
theorem q2021 : (Jvm.Cond.code ({ cls := "Quillplate$Run", name := "renderAny", desc := "(LQuillplate$Template;)V" } : Jvm.MethodName) prog_19_method_8_code (2 : Nat) (Option.none : Option Jvm.ClassFile.FieldType)) ∈ lw_all := lw_g (lw_at lw_m8 237 rfl) rfl
theorem q2022 : (Jvm.Cond.methodLink "Quillplate$Run" (156 : Nat) ({ cls := "Quillplate$Run", name := "rowOf", desc := "(LQuillplate$Template;)Ljava/util/ArrayList;" } : Jvm.MethodName)) ∈ lw_all := lw_g (lw_at lw_m8 238 rfl) rfl
theorem q2023 : (Jvm.Cond.privateMethod ({ cls := "Quillplate$Run", name := "rowOf", desc := "(LQuillplate$Template;)Ljava/util/ArrayList;" } : Jvm.MethodName)) ∈ lw_tbl := lw_at lw_m8 239 rfl
theorem q2024 : (Jvm.Cond.instanceMethod ({ cls := "Quillplate$Run", name := "rowOf", desc := "(LQuillplate$Template;)Ljava/util/ArrayList;" } : Jvm.MethodName)) ∈ lw_all := lw_g (lw_at lw_m9 0 rfl) rfl
theorem q2025 : (Jvm.Cond.code ({ cls := "Quillplate$Run", name := "rowOf", desc := "(LQuillplate$Template;)Ljava/util/ArrayList;" } : Jvm.MethodName) prog_19_method_7_code (5 : Nat) (Option.some (Jvm.ClassFile.FieldType.object "java/util/ArrayList"))) ∈ lw_all := lw_g (lw_at lw_m9 1 rfl) rfl
theorem q2026 : (Jvm.Cond.methodLink "Quillplate$Run" (94 : Nat) ({ cls := "java/util/ArrayList", name := "add", desc := "(Ljava/lang/Object;)Z" } : Jvm.MethodName)) ∈ lw_all := lw_g (lw_at lw_m9 2 rfl) rfl
theorem q2027 : (Jvm.Cond.methodLink "Quillplate$Run" (102 : Nat) ({ cls := "java/util/ArrayList", name := "size", desc := "()I" } : Jvm.MethodName)) ∈ lw_all := lw_g (lw_at lw_m9 3 rfl) rfl
theorem q2028 : (Jvm.Cond.methodLink "Quillplate$Run" (132 : Nat) ({ cls := "Quillplate$Run", name := "errorAt", desc := "(I)V" } : Jvm.MethodName)) ∈ lw_all := lw_g (lw_at lw_m9 4 rfl) rfl
theorem q2029 : (Jvm.Cond.privateMethod ({ cls := "Quillplate$Run", name := "errorAt", desc := "(I)V" } : Jvm.MethodName)) ∈ lw_tbl := lw_at lw_m9 5 rfl
theorem q2030 : (Jvm.Cond.instanceMethod ({ cls := "Quillplate$Run", name := "errorAt", desc := "(I)V" } : Jvm.MethodName)) ∈ lw_all := lw_g (lw_at lw_m9 6 rfl) rfl
theorem q2031 : (Jvm.Cond.code ({ cls := "Quillplate$Run", name := "errorAt", desc := "(I)V" } : Jvm.MethodName) prog_19_method_4_code (2 : Nat) (Option.none : Option Jvm.ClassFile.FieldType)) ∈ lw_all := lw_g (lw_at lw_m9 7 rfl) rfl
theorem q2032 : (Jvm.Cond.methodLink "Quillplate$Run" (88 : Nat) ({ cls := "java/lang/Integer", name := "valueOf", desc := "(I)Ljava/lang/Integer;" } : Jvm.MethodName)) ∈ lw_all := lw_g (lw_at lw_m9 8 rfl) rfl
theorem q2052 : (Jvm.Cond.methodLink "Quillplate$Run" (98 : Nat) ({ cls := "java/util/ArrayList", name := "addAll", desc := "(Ljava/util/Collection;)Z" } : Jvm.MethodName)) ∈ lw_all := lw_g (lw_at lw_m9 28 rfl) rfl
theorem q2053 : (Jvm.Cond.classLink "Quillplate$Run" (130 : Nat) "Quillplate$FailureException") ∈ lw_all := lw_g (lw_at lw_m9 29 rfl) rfl
theorem q2062 : (Jvm.Cond.methodLink "Quillplate$Run" (154 : Nat) ({ cls := "Quillplate$FailureException", name := "<init>", desc := "(I)V" } : Jvm.MethodName)) ∈ lw_all := lw_g (lw_at lw_m9 38 rfl) rfl
theorem q2078 : (Jvm.Cond.methodLink "Quillplate$Run" (106 : Nat) ({ cls := "java/util/ArrayList", name := "get", desc := "(I)Ljava/lang/Object;" } : Jvm.MethodName)) ∈ lw_all := lw_g (lw_at lw_m9 54 rfl) rfl
theorem q2079 : (Jvm.Cond.classLink "Quillplate$Run" (115 : Nat) "Quillplate$Template") ∈ lw_all := lw_g (lw_at lw_m9 55 rfl) rfl
theorem q2080 : (Jvm.Cond.methodLink "Quillplate$Run" (139 : Nat) ({ cls := "Quillplate$Run", name := "renderAll", desc := "(Ljava/util/ArrayList;)V" } : Jvm.MethodName)) ∈ lw_all := lw_g (lw_at lw_m9 56 rfl) rfl
theorem q2081 : (Jvm.Cond.instanceMethod ({ cls := "Quillplate$Run", name := "renderAll", desc := "(Ljava/util/ArrayList;)V" } : Jvm.MethodName)) ∈ lw_all := lw_g (lw_at lw_m9 57 rfl) rfl
theorem q2082 : (Jvm.Cond.selects "Quillplate$Run" ({ cls := "Quillplate$Run", name := "renderAll", desc := "(Ljava/util/ArrayList;)V" } : Jvm.MethodName) ({ cls := "Quillplate$Run", name := "renderAll", desc := "(Ljava/util/ArrayList;)V" } : Jvm.MethodName)) ∈ lw_all := lw_g (lw_at lw_m9 58 rfl) rfl
theorem q2083 : (Jvm.Cond.codeWith ({ cls := "Quillplate$Run", name := "renderAll", desc := "(Ljava/util/ArrayList;)V" } : Jvm.MethodName) prog_19_method_5_code (6 : Nat) (Option.none : Option Jvm.ClassFile.FieldType) [((47 : Nat), (64 : Nat), (67 : Nat), (130 : Nat))]) ∈ lw_all := lw_g (lw_at lw_m9 59 rfl) rfl
theorem q2084 : (Jvm.Cond.classLink "Quillplate$Run" (110 : Nat) "Quillplate$Item") ∈ lw_all := lw_g (lw_at lw_m9 60 rfl) rfl
theorem q2085 : (Jvm.Cond.methodLink "Quillplate$Run" (123 : Nat) ({ cls := "Quillplate$Run", name := "step", desc := "()V" } : Jvm.MethodName)) ∈ lw_all := lw_g (lw_at lw_m9 61 rfl) rfl
theorem q2086 : (Jvm.Cond.instanceMethod ({ cls := "Quillplate$Run", name := "step", desc := "()V" } : Jvm.MethodName)) ∈ lw_all := lw_g (lw_at lw_m9 62 rfl) rfl
theorem q2087 : (Jvm.Cond.selects "Quillplate$Run" ({ cls := "Quillplate$Run", name := "step", desc := "()V" } : Jvm.MethodName) ({ cls := "Quillplate$Run", name := "step", desc := "()V" } : Jvm.MethodName)) ∈ lw_all := lw_g (lw_at lw_m9 63 rfl) rfl
theorem q2088 : (Jvm.Cond.code ({ cls := "Quillplate$Run", name := "step", desc := "()V" } : Jvm.MethodName) prog_19_method_3_code (1 : Nat) (Option.none : Option Jvm.ClassFile.FieldType)) ∈ lw_all := lw_g (lw_at lw_m9 64 rfl) rfl
theorem q2089 : (Jvm.Cond.methodLinkNest "Quillplate$Run" (81 : Nat) ({ cls := "Quillplate", name := "check", desc := "(ZI)V" } : Jvm.MethodName) "Quillplate") ∈ lw_tbl := lw_at lw_m9 65 rfl
theorem q2093 : (Jvm.Cond.methodLink "Quillplate$Run" (126 : Nat) ({ cls := "Quillplate$Item", name := "render", desc := "(LQuillplate$Run;)V" } : Jvm.MethodName)) ∈ lw_all := lw_g (lw_at lw_m9 69 rfl) rfl
theorem q2100 : (Jvm.Cond.instanceMethod ({ cls := "Quillplate$Run", name := "renderBlock", desc := "(II)V" } : Jvm.MethodName)) ∈ lw_all := lw_g (lw_at lw_m9 76 rfl) rfl
theorem q2101 : (Jvm.Cond.selects "Quillplate$Run" ({ cls := "Quillplate$Run", name := "renderBlock", desc := "(II)V" } : Jvm.MethodName) ({ cls := "Quillplate$Run", name := "renderBlock", desc := "(II)V" } : Jvm.MethodName)) ∈ lw_all := lw_g (lw_at lw_m9 77 rfl) rfl
theorem q2102 : (Jvm.Cond.code ({ cls := "Quillplate$Run", name := "renderBlock", desc := "(II)V" } : Jvm.MethodName) prog_19_method_12_code (4 : Nat) (Option.none : Option Jvm.ClassFile.FieldType)) ∈ lw_all := lw_g (lw_at lw_m9 78 rfl) rfl
theorem q2103 : (Jvm.Cond.methodLink "Quillplate$Run" (185 : Nat) ({ cls := "Quillplate$Run", name := "blockFrom", desc := "(II)I" } : Jvm.MethodName)) ∈ lw_all := lw_g (lw_at lw_m9 79 rfl) rfl
theorem q2104 : (Jvm.Cond.privateMethod ({ cls := "Quillplate$Run", name := "blockFrom", desc := "(II)I" } : Jvm.MethodName)) ∈ lw_tbl := lw_at lw_m9 80 rfl
theorem q2105 : (Jvm.Cond.instanceMethod ({ cls := "Quillplate$Run", name := "blockFrom", desc := "(II)I" } : Jvm.MethodName)) ∈ lw_all := lw_g (lw_at lw_m9 81 rfl) rfl
theorem q2106 : (Jvm.Cond.code ({ cls := "Quillplate$Run", name := "blockFrom", desc := "(II)I" } : Jvm.MethodName) prog_19_method_10_code (4 : Nat) (Option.some Jvm.ClassFile.FieldType.int)) ∈ lw_all := lw_g (lw_at lw_m9 82 rfl) rfl
theorem q2107 : (Jvm.Cond.methodLink "Quillplate$Run" (194 : Nat) ({ cls := "Quillplate$Run", name := "renderIn", desc := "(IIILjava/util/ArrayList;)V" } : Jvm.MethodName)) ∈ lw_all := lw_g (lw_at lw_m9 83 rfl) rfl
theorem q2108 : (Jvm.Cond.privateMethod ({ cls := "Quillplate$Run", name := "renderIn", desc := "(IIILjava/util/ArrayList;)V" } : Jvm.MethodName)) ∈ lw_tbl := lw_at lw_m9 84 rfl
theorem q2109 : (Jvm.Cond.instanceMethod ({ cls := "Quillplate$Run", name := "renderIn", desc := "(IIILjava/util/ArrayList;)V" } : Jvm.MethodName)) ∈ lw_all := lw_g (lw_at lw_m9 85 rfl) rfl
theorem q2110 : (Jvm.Cond.code ({ cls := "Quillplate$Run", name := "renderIn", desc := "(IIILjava/util/ArrayList;)V" } : Jvm.MethodName) prog_19_method_11_code (9 : Nat) (Option.none : Option Jvm.ClassFile.FieldType)) ∈ lw_all := lw_g (lw_at lw_m9 86 rfl) rfl
theorem q2111 : (Jvm.Cond.methodLinkNest "Quillplate$Run" (170 : Nat) ({ cls := "Quillplate", name := "closed", desc := "(Ljava/util/ArrayList;I)I" } : Jvm.MethodName) "Quillplate") ∈ lw_tbl := lw_at lw_m9 87 rfl
theorem q2147 : (Jvm.Cond.methodLink "Quillplate$Run" (174 : Nat) ({ cls := "Quillplate$Run", name := "mark", desc := "(I)I" } : Jvm.MethodName)) ∈ lw_all := lw_g (lw_at lw_m9 123 rfl) rfl
theorem q2148 : (Jvm.Cond.privateMethod ({ cls := "Quillplate$Run", name := "mark", desc := "(I)I" } : Jvm.MethodName)) ∈ lw_tbl := lw_at lw_m9 124 rfl
theorem q2149 : (Jvm.Cond.instanceMethod ({ cls := "Quillplate$Run", name := "mark", desc := "(I)I" } : Jvm.MethodName)) ∈ lw_all := lw_g (lw_at lw_m9 125 rfl) rfl
theorem q2150 : (Jvm.Cond.code ({ cls := "Quillplate$Run", name := "mark", desc := "(I)I" } : Jvm.MethodName) prog_19_method_9_code (2 : Nat) (Option.some Jvm.ClassFile.FieldType.int)) ∈ lw_all := lw_g (lw_at lw_m9 126 rfl) rfl
theorem q2151 : (Jvm.Cond.methodLink "Quillplate$Run" (181 : Nat) ({ cls := "Quillplate$Run", name := "lead", desc := "(ILjava/util/ArrayList;)V" } : Jvm.MethodName)) ∈ lw_all := lw_g (lw_at lw_m9 127 rfl) rfl
theorem q2152 : (Jvm.Cond.privateMethod ({ cls := "Quillplate$Run", name := "lead", desc := "(ILjava/util/ArrayList;)V" } : Jvm.MethodName)) ∈ lw_tbl := lw_at lw_m9 128 rfl
theorem q2153 : (Jvm.Cond.instanceMethod ({ cls := "Quillplate$Run", name := "lead", desc := "(ILjava/util/ArrayList;)V" } : Jvm.MethodName)) ∈ lw_all := lw_g (lw_at lw_m9 129 rfl) rfl
theorem q2154 : (Jvm.Cond.code ({ cls := "Quillplate$Run", name := "lead", desc := "(ILjava/util/ArrayList;)V" } : Jvm.MethodName) prog_19_method_6_code (3 : Nat) (Option.none : Option Jvm.ClassFile.FieldType)) ∈ lw_all := lw_g (lw_at lw_m9 130 rfl) rfl
theorem q2155 : (Jvm.Cond.methodLink "Quillplate$Run" (135 : Nat) ({ cls := "java/util/ArrayDeque", name := "addFirst", desc := "(Ljava/lang/Object;)V" } : Jvm.MethodName)) ∈ lw_all := lw_g (lw_at lw_m9 131 rfl) rfl
theorem q2179 : (Jvm.Cond.methodLink "Quillplate$Run" (143 : Nat) ({ cls := "java/util/ArrayDeque", name := "removeFirst", desc := "()Ljava/lang/Object;" } : Jvm.MethodName)) ∈ lw_all := lw_g (lw_at lw_m9 155 rfl) rfl
theorem q2208 : (Jvm.Cond.instanceMethod ({ cls := "Quillplate$Run", name := "read", desc := "(C)LQuillplate$Value;" } : Jvm.MethodName)) ∈ lw_all := lw_g (lw_at lw_m9 184 rfl) rfl
theorem q2209 : (Jvm.Cond.selects "Quillplate$Run" ({ cls := "Quillplate$Run", name := "read", desc := "(C)LQuillplate$Value;" } : Jvm.MethodName) ({ cls := "Quillplate$Run", name := "read", desc := "(C)LQuillplate$Value;" } : Jvm.MethodName)) ∈ lw_all := lw_g (lw_at lw_m9 185 rfl) rfl
theorem q2210 : (Jvm.Cond.code ({ cls := "Quillplate$Run", name := "read", desc := "(C)LQuillplate$Value;" } : Jvm.MethodName) prog_19_method_2_code (2 : Nat) (Option.some (Jvm.ClassFile.FieldType.object "Quillplate$Value"))) ∈ lw_all := lw_g (lw_at lw_m9 186 rfl) rfl
theorem q2211 : (Jvm.Cond.methodLink "Quillplate$Run" (70 : Nat) ({ cls := "java/util/BitSet", name := "set", desc := "(I)V" } : Jvm.MethodName)) ∈ lw_all := lw_g (lw_at lw_m9 187 rfl) rfl
theorem q2389 : (Jvm.Cond.instanceMethod ({ cls := "Quillplate$Run", name := "renderAbove", desc := "(I)V" } : Jvm.MethodName)) ∈ lw_all := lw_g (lw_at lw_m10 125 rfl) rfl
theorem q2390 : (Jvm.Cond.selects "Quillplate$Run" ({ cls := "Quillplate$Run", name := "renderAbove", desc := "(I)V" } : Jvm.MethodName) ({ cls := "Quillplate$Run", name := "renderAbove", desc := "(I)V" } : Jvm.MethodName)) ∈ lw_all := lw_g (lw_at lw_m10 126 rfl) rfl
theorem q2391 : (Jvm.Cond.code ({ cls := "Quillplate$Run", name := "renderAbove", desc := "(I)V" } : Jvm.MethodName) prog_19_method_14_code (3 : Nat) (Option.none : Option Jvm.ClassFile.FieldType)) ∈ lw_all := lw_g (lw_at lw_m10 127 rfl) rfl
theorem q2392 : (Jvm.Cond.methodLink "Quillplate$Run" (201 : Nat) ({ cls := "Quillplate$Run", name := "goDeeper", desc := "()V" } : Jvm.MethodName)) ∈ lw_all := lw_g (lw_at lw_m10 128 rfl) rfl
theorem q2393 : (Jvm.Cond.privateMethod ({ cls := "Quillplate$Run", name := "goDeeper", desc := "()V" } : Jvm.MethodName)) ∈ lw_tbl := lw_at lw_m10 129 rfl
theorem q2394 : (Jvm.Cond.instanceMethod ({ cls := "Quillplate$Run", name := "goDeeper", desc := "()V" } : Jvm.MethodName)) ∈ lw_all := lw_g (lw_at lw_m10 130 rfl) rfl
theorem q2395 : (Jvm.Cond.code ({ cls := "Quillplate$Run", name := "goDeeper", desc := "()V" } : Jvm.MethodName) prog_19_method_13_code (1 : Nat) (Option.none : Option Jvm.ClassFile.FieldType)) ∈ lw_all := lw_g (lw_at lw_m10 131 rfl) rfl
theorem q2397 : (Jvm.Cond.instanceMethod ({ cls := "Quillplate$Run", name := "renderOther", desc := "(II)V" } : Jvm.MethodName)) ∈ lw_all := lw_g (lw_at lw_m10 133 rfl) rfl
theorem q2398 : (Jvm.Cond.selects "Quillplate$Run" ({ cls := "Quillplate$Run", name := "renderOther", desc := "(II)V" } : Jvm.MethodName) ({ cls := "Quillplate$Run", name := "renderOther", desc := "(II)V" } : Jvm.MethodName)) ∈ lw_all := lw_g (lw_at lw_m10 134 rfl) rfl
theorem q2399 : (Jvm.Cond.code ({ cls := "Quillplate$Run", name := "renderOther", desc := "(II)V" } : Jvm.MethodName) prog_19_method_16_code (9 : Nat) (Option.none : Option Jvm.ClassFile.FieldType)) ∈ lw_all := lw_g (lw_at lw_m10 135 rfl) rfl
theorem q2400 : (Jvm.Cond.methodLinkNest "Quillplate$Run" (213 : Nat) ({ cls := "Quillplate", name := "endsAll", desc := "(Ljava/util/ArrayList;I)I" } : Jvm.MethodName) "Quillplate") ∈ lw_tbl := lw_at lw_m10 136 rfl
theorem q2402 : (Jvm.Cond.instanceMethod ({ cls := "Quillplate$Run", name := "call", desc := "(IILQuillplate$Expression;)V" } : Jvm.MethodName)) ∈ lw_all := lw_g (lw_at lw_m10 138 rfl) rfl
theorem q2403 : (Jvm.Cond.selects "Quillplate$Run" ({ cls := "Quillplate$Run", name := "call", desc := "(IILQuillplate$Expression;)V" } : Jvm.MethodName) ({ cls := "Quillplate$Run", name := "call", desc := "(IILQuillplate$Expression;)V" } : Jvm.MethodName)) ∈ lw_all := lw_g (lw_at lw_m10 139 rfl) rfl
theorem q2404 : (Jvm.Cond.code ({ cls := "Quillplate$Run", name := "call", desc := "(IILQuillplate$Expression;)V" } : Jvm.MethodName) prog_19_method_15_code (9 : Nat) (Option.none : Option Jvm.ClassFile.FieldType)) ∈ lw_all := lw_g (lw_at lw_m10 140 rfl) rfl
theorem q2405 : (Jvm.Cond.methodLink "Quillplate$Run" (207 : Nat) ({ cls := "Quillplate$Expression", name := "of", desc := "(LQuillplate$Run;)LQuillplate$Value;" } : Jvm.MethodName)) ∈ lw_all := lw_g (lw_at lw_m10 141 rfl) rfl
theorem q2425 : (Jvm.Cond.instanceMethod ({ cls := "Quillplate$Run", name := "renderPart", desc := "(ILjava/util/ArrayList;)V" } : Jvm.MethodName)) ∈ lw_all := lw_g (lw_at lw_m10 161 rfl) rfl
theorem q2426 : (Jvm.Cond.selects "Quillplate$Run" ({ cls := "Quillplate$Run", name := "renderPart", desc := "(ILjava/util/ArrayList;)V" } : Jvm.MethodName) ({ cls := "Quillplate$Run", name := "renderPart", desc := "(ILjava/util/ArrayList;)V" } : Jvm.MethodName)) ∈ lw_all := lw_g (lw_at lw_m10 162 rfl) rfl
theorem q2427 : (Jvm.Cond.code ({ cls := "Quillplate$Run", name := "renderPart", desc := "(ILjava/util/ArrayList;)V" } : Jvm.MethodName) prog_19_method_17_code (8 : Nat) (Option.none : Option Jvm.ClassFile.FieldType)) ∈ lw_all := lw_g (lw_at lw_m10 163 rfl) rfl
theorem q2428 : (Jvm.Cond.methodLinkNest "Quillplate$Run" (216 : Nat) ({ cls := "Quillplate", name := "findKept", desc := "(III)LQuillplate$Kept;" } : Jvm.MethodName) "Quillplate") ∈ lw_tbl := lw_at lw_m10 164 rfl
theorem q2436 : (Jvm.Cond.methodLink "Quillplate$Run" (230 : Nat) ({ cls := "java/lang/StringBuilder", name := "append", desc := "(Ljava/lang/String;)Ljava/lang/StringBuilder;" } : Jvm.MethodName)) ∈ lw_all := lw_g (lw_at lw_m10 172 rfl) rfl
theorem q2437 : (Jvm.Cond.methodLink "Quillplate$Run" (163 : Nat) ({ cls := "java/lang/StringBuilder", name := "length", desc := "()I" } : Jvm.MethodName)) ∈ lw_all := lw_g (lw_at lw_m10 173 rfl) rfl
theorem q2438 : (Jvm.Cond.methodLink "Quillplate$Run" (235 : Nat) ({ cls := "java/util/BitSet", name := "or", desc := "(Ljava/util/BitSet;)V" } : Jvm.MethodName)) ∈ lw_all := lw_g (lw_at lw_m10 174 rfl) rfl
theorem q2444 : (Jvm.Cond.methodLink "Quillplate$Run" (243 : Nat) ({ cls := "java/util/LinkedList", name := "remove", desc := "(Ljava/lang/Object;)Z" } : Jvm.MethodName)) ∈ lw_all := lw_g (lw_at lw_m10 180 rfl) rfl
theorem q2467 : (Jvm.Cond.selects "Quillplate$Run" ({ cls := "java/lang/Object", name := "equals", desc := "(Ljava/lang/Object;)Z" } : Jvm.MethodName) ({ cls := "java/lang/Object", name := "equals", desc := "(Ljava/lang/Object;)Z" } : Jvm.MethodName)) ∈ lw_all := lw_g (lw_at lw_m10 203 rfl) rfl
theorem q2496 : (Jvm.Cond.methodLink "Quillplate$Run" (248 : Nat) ({ cls := "java/util/BitSet", name := "get", desc := "(I)Z" } : Jvm.MethodName)) ∈ lw_all := lw_g (lw_at lw_m10 232 rfl) rfl
theorem q2497 : (Jvm.Cond.classLink "Quillplate$Run" (221 : Nat) "Quillplate$Kept") ∈ lw_all := lw_g (lw_at lw_m10 233 rfl) rfl
theorem q2499 : (Jvm.Cond.methodLink "Quillplate$Run" (251 : Nat) ({ cls := "java/lang/StringBuilder", name := "substring", desc := "(I)Ljava/lang/String;" } : Jvm.MethodName)) ∈ lw_all := lw_g (lw_at lw_m10 235 rfl) rfl
theorem q2518 : (Jvm.Cond.methodLink "Quillplate$Run" (255 : Nat) ({ cls := "Quillplate$Kept", name := "<init>", desc := "(IIIILjava/lang/String;Ljava/util/BitSet;)V" } : Jvm.MethodName)) ∈ lw_all := lw_g (lw_at lw_m11 14 rfl) rfl
theorem q2526 : (Jvm.Cond.fieldLink "Quillplate$Run" (220 : Nat) "Quillplate$Kept" "where" "I") ∈ lw_all := lw_g (lw_at lw_m11 22 rfl) rfl
theorem q2528 : (Jvm.Cond.fieldLink "Quillplate$Run" (226 : Nat) "Quillplate$Kept" "text" "Ljava/lang/String;") ∈ lw_all := lw_g (lw_at lw_m11 24 rfl) rfl
theorem q2530 : (Jvm.Cond.fieldLink "Quillplate$Run" (234 : Nat) "Quillplate$Kept" "reads" "Ljava/util/BitSet;") ∈ lw_all := lw_g (lw_at lw_m11 26 rfl) rfl
theorem q2545 : (Jvm.Cond.methodLink "Quillplate$Run" (258 : Nat) ({ cls := "java/util/LinkedList", name := "add", desc := "(Ljava/lang/Object;)Z" } : Jvm.MethodName)) ∈ lw_all := lw_g (lw_at lw_m11 41 rfl) rfl
theorem q3832 : (Jvm.Cond.castable "Quillplate$Run" "java/lang/Object") ∈ lw_tbl := lw_at lw_m16 128 rfl
theorem in_X2 : ∀ w ∈ wsX20, w ∈ lw_all := lw_in wsX20 [684, 686, 688, 690, 692, 694, 696, 698, 700, 702, 704, 706, 708, 710, 712, 714, 716, 718] (by decide +kernel) (by decide +kernel)
def RX3 : String := "Quillplate$Value"
def TX3 : u_T := fun k => match k with
  | 0 => ("Quillplate$Value", "sort", "LQuillplate$Sort;", true)
  | 1 => ("Quillplate$Value", "number", "I", true)
  | 2 => ("Quillplate$Value", "text", "Ljava/lang/String;", true)
  | 3 => ("Quillplate$Value", "isSafe", "Z", true)
  | _ => ("Quillplate$Value", "list", "Ljava/util/ArrayList;", true)
def tyX3 : Nat → FieldType := fun k => match k with
  | 0 => .object "Quillplate$Sort"
  | 1 => .int
  | 2 => .object "java/lang/String"
  | 3 => .boolean
  | _ => .object "java/util/ArrayList"
abbrev wsX30 : List Cond := u_ws RX3 TX3 5
theorem nmX3 : ∀ a, a < 5 → ∀ b, b < 5 → a ≠ b → (TX3 a).2.1 ≠ (TX3 b).2.1 := by decide +kernel
theorem tyX3_ok : ∀ k, k < 5 → parseFieldDescriptor (TX3 k).2.2.1 = some (tyX3 k) := by decide +kernel
abbrev cX3_nothing : ByteArray := prog_22_method_2_code
def yX3_nothing : MethodName := ⟨RX3, "nothing", "()LQuillplate$Value;"⟩
abbrev cX3_init : ByteArray := prog_22_method_1_code
def yX3_init : MethodName := ⟨RX3, "<init>", "(LQuillplate$Sort;ILjava/lang/String;Z)V"⟩
abbrev cX3_list : ByteArray := prog_22_method_5_code
def yX3_list : MethodName := ⟨RX3, "list", "()LQuillplate$Value;"⟩
abbrev cX3_is : ByteArray := prog_22_method_6_code
def yX3_is : MethodName := ⟨RX3, "is", "(LQuillplate$Sort;)Z"⟩
abbrev cX3_of : ByteArray := prog_22_method_3_code
def yX3_of : MethodName := ⟨RX3, "of", "(I)LQuillplate$Value;"⟩
abbrev cX3_of_2 : ByteArray := prog_22_method_4_code
def yX3_of_2 : MethodName := ⟨RX3, "of", "(Ljava/lang/String;Z)LQuillplate$Value;"⟩
abbrev cX3_isSame : ByteArray := prog_22_method_8_code
def yX3_isSame : MethodName := ⟨RX3, "isSame", "(LQuillplate$Value;)Z"⟩
abbrev cX3_at : ByteArray := prog_22_method_9_code
def yX3_at : MethodName := ⟨RX3, "at", "(I)LQuillplate$Value;"⟩
abbrev cX3_isTrue : ByteArray := prog_22_method_7_code
def yX3_isTrue : MethodName := ⟨RX3, "isTrue", "()Z"⟩
theorem q115 : (Jvm.Cond.initialized "Quillplate$Value") ∈ lw_all := lw_g (lw_at lw_m1 11 rfl) rfl
theorem q267 : (Jvm.Cond.static ({ cls := "Quillplate$Value", name := "nothing", desc := "()LQuillplate$Value;" } : Jvm.MethodName)) ∈ lw_all := lw_g (lw_at lw_m1 163 rfl) rfl
theorem q268 : (Jvm.Cond.code ({ cls := "Quillplate$Value", name := "nothing", desc := "()LQuillplate$Value;" } : Jvm.MethodName) prog_22_method_2_code (0 : Nat) (Option.some (Jvm.ClassFile.FieldType.object "Quillplate$Value"))) ∈ lw_all := lw_g (lw_at lw_m1 164 rfl) rfl
theorem q269 : (Jvm.Cond.classLink "Quillplate$Value" (15 : Nat) "Quillplate$Value") ∈ lw_all := lw_g (lw_at lw_m1 165 rfl) rfl
theorem q270 : (Jvm.Cond.instantiable "Quillplate$Value" (5 : Nat)) ∈ lw_all := lw_g (lw_at lw_m1 166 rfl) rfl
theorem q271 : (Jvm.Cond.fieldLink "Quillplate$Value" (36 : Nat) "Quillplate$Sort" "NOTHING" "LQuillplate$Sort;") ∈ lw_all := lw_g (lw_at lw_m1 167 rfl) rfl
theorem q273 : (Jvm.Cond.stringRef "Quillplate$Value" (41 : Nat) "") ∈ lw_tbl := lw_at lw_m1 169 rfl
theorem q274 : (Jvm.Cond.methodLink "Quillplate$Value" (43 : Nat) ({ cls := "Quillplate$Value", name := "<init>", desc := "(LQuillplate$Sort;ILjava/lang/String;Z)V" } : Jvm.MethodName)) ∈ lw_all := lw_g (lw_at lw_m1 170 rfl) rfl
theorem q275 : (Jvm.Cond.instanceMethod ({ cls := "Quillplate$Value", name := "<init>", desc := "(LQuillplate$Sort;ILjava/lang/String;Z)V" } : Jvm.MethodName)) ∈ lw_all := lw_g (lw_at lw_m1 171 rfl) rfl
theorem q276 : (Jvm.Cond.code ({ cls := "Quillplate$Value", name := "<init>", desc := "(LQuillplate$Sort;ILjava/lang/String;Z)V" } : Jvm.MethodName) prog_22_method_1_code (5 : Nat) (Option.none : Option Jvm.ClassFile.FieldType)) ∈ lw_all := lw_g (lw_at lw_m1 172 rfl) rfl
theorem q277 : (Jvm.Cond.methodLink "Quillplate$Value" (3 : Nat) ({ cls := "java/lang/Object", name := "<init>", desc := "()V" } : Jvm.MethodName)) ∈ lw_all := lw_g (lw_at lw_m1 173 rfl) rfl
theorem q278 : (Jvm.Cond.classLink "Quillplate$Value" (9 : Nat) "java/util/ArrayList") ∈ lw_all := lw_g (lw_at lw_m1 174 rfl) rfl
theorem q280 : (Jvm.Cond.methodLink "Quillplate$Value" (11 : Nat) ({ cls := "java/util/ArrayList", name := "<init>", desc := "(I)V" } : Jvm.MethodName)) ∈ lw_all := lw_g (lw_at lw_m1 176 rfl) rfl
theorem q586 : (Jvm.Cond.fieldLink "Quillplate$Value" (20 : Nat) "Quillplate$Value" "sort" "LQuillplate$Sort;") ∈ lw_all := lw_g (lw_at lw_m3 2 rfl) rfl
theorem q588 : (Jvm.Cond.fieldLink "Quillplate$Value" (24 : Nat) "Quillplate$Value" "number" "I") ∈ lw_all := lw_g (lw_at lw_m3 4 rfl) rfl
theorem q590 : (Jvm.Cond.fieldLink "Quillplate$Value" (28 : Nat) "Quillplate$Value" "text" "Ljava/lang/String;") ∈ lw_all := lw_g (lw_at lw_m3 6 rfl) rfl
theorem q592 : (Jvm.Cond.fieldLink "Quillplate$Value" (32 : Nat) "Quillplate$Value" "isSafe" "Z") ∈ lw_all := lw_g (lw_at lw_m3 8 rfl) rfl
theorem q594 : (Jvm.Cond.fieldLink "Quillplate$Value" (14 : Nat) "Quillplate$Value" "list" "Ljava/util/ArrayList;") ∈ lw_all := lw_g (lw_at lw_m3 10 rfl) rfl
theorem q597 : (Jvm.Cond.laysFinal "Quillplate$Value" "Quillplate$Value" "sort" "LQuillplate$Sort;") ∈ lw_all := lw_g (lw_at lw_m3 13 rfl) rfl
theorem q598 : (Jvm.Cond.soleField "Quillplate$Value" "sort") ∈ lw_all := lw_g (lw_at lw_m3 14 rfl) rfl
theorem q599 : (Jvm.Cond.laysFinal "Quillplate$Value" "Quillplate$Value" "number" "I") ∈ lw_all := lw_g (lw_at lw_m3 15 rfl) rfl
theorem q600 : (Jvm.Cond.soleField "Quillplate$Value" "number") ∈ lw_all := lw_g (lw_at lw_m3 16 rfl) rfl
theorem q601 : (Jvm.Cond.laysFinal "Quillplate$Value" "Quillplate$Value" "text" "Ljava/lang/String;") ∈ lw_all := lw_g (lw_at lw_m3 17 rfl) rfl
theorem q602 : (Jvm.Cond.soleField "Quillplate$Value" "text") ∈ lw_all := lw_g (lw_at lw_m3 18 rfl) rfl
theorem q603 : (Jvm.Cond.laysFinal "Quillplate$Value" "Quillplate$Value" "isSafe" "Z") ∈ lw_all := lw_g (lw_at lw_m3 19 rfl) rfl
theorem q604 : (Jvm.Cond.soleField "Quillplate$Value" "isSafe") ∈ lw_all := lw_g (lw_at lw_m3 20 rfl) rfl
theorem q605 : (Jvm.Cond.laysFinal "Quillplate$Value" "Quillplate$Value" "list" "Ljava/util/ArrayList;") ∈ lw_all := lw_g (lw_at lw_m3 21 rfl) rfl
theorem q606 : (Jvm.Cond.soleField "Quillplate$Value" "list") ∈ lw_all := lw_g (lw_at lw_m3 22 rfl) rfl
theorem q607 : (Jvm.Cond.superclass "Quillplate$Value" "java/lang/Object") ∈ lw_all := lw_g (lw_at lw_m3 23 rfl) rfl
theorem q959 : (Jvm.Cond.selects "Quillplate$Value" ({ cls := "java/lang/Object", name := "getClass", desc := "()Ljava/lang/Class;" } : Jvm.MethodName) ({ cls := "java/lang/Object", name := "getClass", desc := "()Ljava/lang/Class;" } : Jvm.MethodName)) ∈ lw_all := lw_g (lw_at lw_m4 135 rfl) rfl
theorem q1965 : (Jvm.Cond.static ({ cls := "Quillplate$Value", name := "list", desc := "()LQuillplate$Value;" } : Jvm.MethodName)) ∈ lw_all := lw_g (lw_at lw_m8 181 rfl) rfl
theorem q1966 : (Jvm.Cond.code ({ cls := "Quillplate$Value", name := "list", desc := "()LQuillplate$Value;" } : Jvm.MethodName) prog_22_method_5_code (0 : Nat) (Option.some (Jvm.ClassFile.FieldType.object "Quillplate$Value"))) ∈ lw_all := lw_g (lw_at lw_m8 182 rfl) rfl
theorem q1967 : (Jvm.Cond.fieldLink "Quillplate$Value" (66 : Nat) "Quillplate$Sort" "LIST" "LQuillplate$Sort;") ∈ lw_all := lw_g (lw_at lw_m8 183 rfl) rfl
theorem q1982 : (Jvm.Cond.instanceMethod ({ cls := "Quillplate$Value", name := "is", desc := "(LQuillplate$Sort;)Z" } : Jvm.MethodName)) ∈ lw_all := lw_g (lw_at lw_m8 198 rfl) rfl
theorem q1983 : (Jvm.Cond.selects "Quillplate$Value" ({ cls := "Quillplate$Value", name := "is", desc := "(LQuillplate$Sort;)Z" } : Jvm.MethodName) ({ cls := "Quillplate$Value", name := "is", desc := "(LQuillplate$Sort;)Z" } : Jvm.MethodName)) ∈ lw_all := lw_g (lw_at lw_m8 199 rfl) rfl
theorem q1984 : (Jvm.Cond.code ({ cls := "Quillplate$Value", name := "is", desc := "(LQuillplate$Sort;)Z" } : Jvm.MethodName) prog_22_method_6_code (2 : Nat) (Option.some Jvm.ClassFile.FieldType.boolean)) ∈ lw_all := lw_g (lw_at lw_m8 200 rfl) rfl
theorem q2241 : (Jvm.Cond.static ({ cls := "Quillplate$Value", name := "of", desc := "(I)LQuillplate$Value;" } : Jvm.MethodName)) ∈ lw_all := lw_g (lw_at lw_m9 217 rfl) rfl
theorem q2242 : (Jvm.Cond.code ({ cls := "Quillplate$Value", name := "of", desc := "(I)LQuillplate$Value;" } : Jvm.MethodName) prog_22_method_3_code (1 : Nat) (Option.some (Jvm.ClassFile.FieldType.object "Quillplate$Value"))) ∈ lw_all := lw_g (lw_at lw_m9 218 rfl) rfl
theorem q2243 : (Jvm.Cond.methodLinkNest "Quillplate$Value" (46 : Nat) ({ cls := "Quillplate", name := "check", desc := "(ZI)V" } : Jvm.MethodName) "Quillplate") ∈ lw_tbl := lw_at lw_m9 219 rfl
theorem q2244 : (Jvm.Cond.fieldLink "Quillplate$Value" (50 : Nat) "Quillplate$Sort" "NUMBER" "LQuillplate$Sort;") ∈ lw_all := lw_g (lw_at lw_m9 220 rfl) rfl
theorem q2245 : (Jvm.Cond.methodLink "Quillplate$Value" (53 : Nat) ({ cls := "java/lang/String", name := "valueOf", desc := "(I)Ljava/lang/String;" } : Jvm.MethodName)) ∈ lw_all := lw_g (lw_at lw_m9 221 rfl) rfl
theorem q2248 : (Jvm.Cond.static ({ cls := "Quillplate$Value", name := "of", desc := "(Ljava/lang/String;Z)LQuillplate$Value;" } : Jvm.MethodName)) ∈ lw_all := lw_g (lw_at lw_m9 224 rfl) rfl
theorem q2249 : (Jvm.Cond.code ({ cls := "Quillplate$Value", name := "of", desc := "(Ljava/lang/String;Z)LQuillplate$Value;" } : Jvm.MethodName) prog_22_method_4_code (2 : Nat) (Option.some (Jvm.ClassFile.FieldType.object "Quillplate$Value"))) ∈ lw_all := lw_g (lw_at lw_m9 225 rfl) rfl
theorem q2250 : (Jvm.Cond.methodLink "Quillplate$Value" (59 : Nat) ({ cls := "java/lang/String", name := "length", desc := "()I" } : Jvm.MethodName)) ∈ lw_all := lw_g (lw_at lw_m9 226 rfl) rfl
theorem q2251 : (Jvm.Cond.fieldLink "Quillplate$Value" (63 : Nat) "Quillplate$Sort" "TEXT" "LQuillplate$Sort;") ∈ lw_all := lw_g (lw_at lw_m9 227 rfl) rfl
theorem q2253 : (Jvm.Cond.instanceMethod ({ cls := "Quillplate$Value", name := "isSame", desc := "(LQuillplate$Value;)Z" } : Jvm.MethodName)) ∈ lw_all := lw_g (lw_at lw_m9 229 rfl) rfl
theorem q2254 : (Jvm.Cond.selects "Quillplate$Value" ({ cls := "Quillplate$Value", name := "isSame", desc := "(LQuillplate$Value;)Z" } : Jvm.MethodName) ({ cls := "Quillplate$Value", name := "isSame", desc := "(LQuillplate$Value;)Z" } : Jvm.MethodName)) ∈ lw_all := lw_g (lw_at lw_m9 230 rfl) rfl
theorem q2255 : (Jvm.Cond.code ({ cls := "Quillplate$Value", name := "isSame", desc := "(LQuillplate$Value;)Z" } : Jvm.MethodName) prog_22_method_8_code (4 : Nat) (Option.some Jvm.ClassFile.FieldType.boolean)) ∈ lw_all := lw_g (lw_at lw_m9 231 rfl) rfl
theorem q2256 : (Jvm.Cond.methodLink "Quillplate$Value" (78 : Nat) ({ cls := "java/lang/String", name := "equals", desc := "(Ljava/lang/Object;)Z" } : Jvm.MethodName)) ∈ lw_all := lw_g (lw_at lw_m9 232 rfl) rfl
theorem q2264 : (Jvm.Cond.methodLink "Quillplate$Value" (82 : Nat) ({ cls := "java/util/ArrayList", name := "size", desc := "()I" } : Jvm.MethodName)) ∈ lw_all := lw_g (lw_at lw_m10 0 rfl) rfl
theorem q2265 : (Jvm.Cond.methodLink "Quillplate$Value" (85 : Nat) ({ cls := "java/util/ArrayList", name := "get", desc := "(I)Ljava/lang/Object;" } : Jvm.MethodName)) ∈ lw_all := lw_g (lw_at lw_m10 1 rfl) rfl
theorem q2266 : (Jvm.Cond.methodLink "Quillplate$Value" (89 : Nat) ({ cls := "Quillplate$Value", name := "isSame", desc := "(LQuillplate$Value;)Z" } : Jvm.MethodName)) ∈ lw_all := lw_g (lw_at lw_m10 2 rfl) rfl
theorem q2278 : (Jvm.Cond.instanceMethod ({ cls := "Quillplate$Value", name := "at", desc := "(I)LQuillplate$Value;" } : Jvm.MethodName)) ∈ lw_all := lw_g (lw_at lw_m10 14 rfl) rfl
theorem q2279 : (Jvm.Cond.selects "Quillplate$Value" ({ cls := "Quillplate$Value", name := "at", desc := "(I)LQuillplate$Value;" } : Jvm.MethodName) ({ cls := "Quillplate$Value", name := "at", desc := "(I)LQuillplate$Value;" } : Jvm.MethodName)) ∈ lw_all := lw_g (lw_at lw_m10 15 rfl) rfl
theorem q2280 : (Jvm.Cond.code ({ cls := "Quillplate$Value", name := "at", desc := "(I)LQuillplate$Value;" } : Jvm.MethodName) prog_22_method_9_code (2 : Nat) (Option.some (Jvm.ClassFile.FieldType.object "Quillplate$Value"))) ∈ lw_all := lw_g (lw_at lw_m10 16 rfl) rfl
theorem q2281 : (Jvm.Cond.methodLink "Quillplate$Value" (93 : Nat) ({ cls := "Quillplate$Value", name := "nothing", desc := "()LQuillplate$Value;" } : Jvm.MethodName)) ∈ lw_all := lw_g (lw_at lw_m10 17 rfl) rfl
theorem q2283 : (Jvm.Cond.instanceMethod ({ cls := "Quillplate$Value", name := "isTrue", desc := "()Z" } : Jvm.MethodName)) ∈ lw_all := lw_g (lw_at lw_m10 19 rfl) rfl
theorem q2284 : (Jvm.Cond.selects "Quillplate$Value" ({ cls := "Quillplate$Value", name := "isTrue", desc := "()Z" } : Jvm.MethodName) ({ cls := "Quillplate$Value", name := "isTrue", desc := "()Z" } : Jvm.MethodName)) ∈ lw_all := lw_g (lw_at lw_m10 20 rfl) rfl
theorem q2285 : (Jvm.Cond.code ({ cls := "Quillplate$Value", name := "isTrue", desc := "()Z" } : Jvm.MethodName) prog_22_method_7_code (1 : Nat) (Option.some Jvm.ClassFile.FieldType.boolean)) ∈ lw_all := lw_g (lw_at lw_m10 21 rfl) rfl
theorem q2286 : (Jvm.Cond.methodLink "Quillplate$Value" (69 : Nat) ({ cls := "Quillplate$Value", name := "is", desc := "(LQuillplate$Sort;)Z" } : Jvm.MethodName)) ∈ lw_all := lw_g (lw_at lw_m10 22 rfl) rfl
theorem q2287 : (Jvm.Cond.methodLink "Quillplate$Value" (73 : Nat) ({ cls := "java/lang/String", name := "isEmpty", desc := "()Z" } : Jvm.MethodName)) ∈ lw_all := lw_g (lw_at lw_m10 23 rfl) rfl
theorem q2288 : (Jvm.Cond.methodLink "Quillplate$Value" (77 : Nat) ({ cls := "java/util/ArrayList", name := "isEmpty", desc := "()Z" } : Jvm.MethodName)) ∈ lw_all := lw_g (lw_at lw_m10 24 rfl) rfl
theorem q2472 : (Jvm.Cond.selects "Quillplate$Value" ({ cls := "java/lang/Object", name := "equals", desc := "(Ljava/lang/Object;)Z" } : Jvm.MethodName) ({ cls := "java/lang/Object", name := "equals", desc := "(Ljava/lang/Object;)Z" } : Jvm.MethodName)) ∈ lw_all := lw_g (lw_at lw_m10 208 rfl) rfl
theorem q3826 : (Jvm.Cond.castable "Quillplate$Value" "java/lang/Object") ∈ lw_tbl := lw_at lw_m16 122 rfl
theorem in_X3 : ∀ w ∈ wsX30, w ∈ lw_all := lw_in wsX30 [597, 599, 601, 603, 605] (by decide +kernel) (by decide +kernel)
def RX4 : String := "QuillplateModel"
def TX4 : u_T := fun k => match k with
  | 0 => ("QuillplateModel", "thrown", "I", false)
  | 1 => ("QuillplateModel", "draft", "Ljava/lang/String;", false)
  | 2 => ("QuillplateModel", "templates", "[LQuillplateModel$Template;", true)
  | 3 => ("QuillplateModel", "data", "[LQuillplateModel$Value;", true)
  | 4 => ("QuillplateModel", "kept", "Ljava/util/List;", true)
  | 5 => ("QuillplateModel", "latest", "LQuillplateModel$Rendering;", false)
  | 6 => ("QuillplateModel", "out", "Ljava/lang/String;", false)
  | _ => ("QuillplateModel", "ahead", "Ljava/lang/String;", false)
def tyX4 : Nat → FieldType := fun k => match k with
  | 0 => .int
  | 1 => .object "java/lang/String"
  | 2 => .array (.object "QuillplateModel$Template")
  | 3 => .array (.object "QuillplateModel$Value")
  | 4 => .object "java/util/List"
  | 5 => .object "QuillplateModel$Rendering"
  | 6 => .object "java/lang/String"
  | _ => .object "java/lang/String"
abbrev wsX40 : List Cond := u_ws RX4 TX4 8
theorem nmX4 : ∀ a, a < 8 → ∀ b, b < 8 → a ≠ b → (TX4 a).2.1 ≠ (TX4 b).2.1 := by decide +kernel
theorem tyX4_ok : ∀ k, k < 8 → parseFieldDescriptor (TX4 k).2.2.1 = some (tyX4 k) := by decide +kernel
abbrev cX4_init : ByteArray := prog_25_method_14_code
def yX4_init : MethodName := ⟨RX4, "<init>", "()V"⟩
abbrev cX4_thrown : ByteArray := prog_25_method_15_code
def yX4_thrown : MethodName := ⟨RX4, "thrown", "()I"⟩
abbrev cX4_sign : ByteArray := prog_25_method_17_code
def yX4_sign : MethodName := ⟨RX4, "sign", "(C)I"⟩
abbrev cX4_isSmall : ByteArray := prog_25_method_2_code
def yX4_isSmall : MethodName := ⟨RX4, "isSmall", "(C)Z"⟩
abbrev cX4_isCapital : ByteArray := prog_25_method_3_code
def yX4_isCapital : MethodName := ⟨RX4, "isCapital", "(C)Z"⟩
abbrev cX4_isDigit : ByteArray := prog_25_method_1_code
def yX4_isDigit : MethodName := ⟨RX4, "isDigit", "(C)Z"⟩
abbrev cX4_clear : ByteArray := prog_25_method_19_code
def yX4_clear : MethodName := ⟨RX4, "clear", "()I"⟩
abbrev cX4_drafted : ByteArray := prog_25_method_18_code
def yX4_drafted : MethodName := ⟨RX4, "drafted", "()Ljava/lang/String;"⟩
abbrev cX4_tell : ByteArray := prog_25_method_20_code
def yX4_tell : MethodName := ⟨RX4, "tell", "(I)I"⟩
abbrev cX4_in : ByteArray := prog_25_method_16_code
def yX4_in : MethodName := ⟨RX4, "in", "(III)Z"⟩
abbrev cX4_faultOf : ByteArray := prog_25_method_21_code
def yX4_faultOf : MethodName := ⟨RX4, "faultOf", "()I"⟩
abbrev cX4_isQuoted : ByteArray := prog_25_method_4_code
def yX4_isQuoted : MethodName := ⟨RX4, "isQuoted", "(C)Z"⟩
abbrev cX4_moved : ByteArray := prog_25_method_5_code
def yX4_moved : MethodName := ⟨RX4, "moved", "(IC)I"⟩
abbrev cX4_fault : ByteArray := prog_25_method_22_code
def yX4_fault : MethodName := ⟨RX4, "fault", "()I"⟩
abbrev cX4_number : ByteArray := prog_25_method_26_code
def yX4_number : MethodName := ⟨RX4, "number", "(II)I"⟩
abbrev cX4_isName : ByteArray := prog_25_method_23_code
def yX4_isName : MethodName := ⟨RX4, "isName", "(I)Z"⟩
abbrev cX4_told : ByteArray := prog_25_method_25_code
def yX4_told : MethodName := ⟨RX4, "told", "(ILQuillplateModel$Value;)I"⟩
abbrev cX4_drops : ByteArray := prog_25_method_24_code
def yX4_drops : MethodName := ⟨RX4, "drops", "(I)V"⟩
abbrev cX4_text : ByteArray := prog_25_method_27_code
def yX4_text : MethodName := ⟨RX4, "text", "(I)I"⟩
abbrev cX4_list : ByteArray := prog_25_method_28_code
def yX4_list : MethodName := ⟨RX4, "list", "(I)I"⟩
abbrev cX4_addNumber : ByteArray := prog_25_method_31_code
def yX4_addNumber : MethodName := ⟨RX4, "addNumber", "(II)I"⟩
abbrev cX4_hasRoom : ByteArray := prog_25_method_29_code
def yX4_hasRoom : MethodName := ⟨RX4, "hasRoom", "(I)Z"⟩
abbrev cX4_adds : ByteArray := prog_25_method_30_code
def yX4_adds : MethodName := ⟨RX4, "adds", "(ILQuillplateModel$Value;)I"⟩
abbrev cX4_addText : ByteArray := prog_25_method_32_code
def yX4_addText : MethodName := ⟨RX4, "addText", "(I)I"⟩
abbrev cX4_unset : ByteArray := prog_25_method_33_code
def yX4_unset : MethodName := ⟨RX4, "unset", "(I)Z"⟩
abbrev cX4_render : ByteArray := prog_25_method_36_code
def yX4_render : MethodName := ⟨RX4, "render", "(I)I"⟩
abbrev cX4_refused : ByteArray := prog_25_method_35_code
def yX4_refused : MethodName := ⟨RX4, "refused", "(I)I"⟩
abbrev cX4_changed : ByteArray := prog_25_method_7_code
def yX4_changed : MethodName := ⟨RX4, "changed", "(LQuillplateModel$Value;C)LQuillplateModel$Value;"⟩
abbrev cX4_textOf : ByteArray := prog_25_method_8_code
def yX4_textOf : MethodName := ⟨RX4, "textOf", "(LQuillplateModel$Value;)Ljava/lang/String;"⟩
abbrev cX4_cased : ByteArray := prog_25_method_9_code
def yX4_cased : MethodName := ⟨RX4, "cased", "(Ljava/lang/String;Z)Ljava/lang/String;"⟩
abbrev cX4_joined : ByteArray := prog_25_method_10_code
def yX4_joined : MethodName := ⟨RX4, "joined", "(LQuillplateModel$Value;)LQuillplateModel$Value;"⟩
abbrev cX4_backward : ByteArray := prog_25_method_11_code
def yX4_backward : MethodName := ⟨RX4, "backward", "(LQuillplateModel$Value;)LQuillplateModel$Value;"⟩
abbrev cX4_sum : ByteArray := prog_25_method_6_code
def yX4_sum : MethodName := ⟨RX4, "sum", "(LQuillplateModel$Value;LQuillplateModel$Value;)LQuillplateModel$Value;"⟩
abbrev cX4_fits : ByteArray := prog_25_method_13_code
def yX4_fits : MethodName := ⟨RX4, "fits", "(LQuillplateModel$Template;III)Z"⟩
abbrev cX4_leads : ByteArray := prog_25_method_12_code
def yX4_leads : MethodName := ⟨RX4, "leads", "(LQuillplateModel$Template;III)I"⟩
abbrev cX4_keptOf : ByteArray := prog_25_method_34_code
def yX4_keptOf : MethodName := ⟨RX4, "keptOf", "(III)LQuillplateModel$Kept;"⟩
abbrev cX4_error : ByteArray := prog_25_method_37_code
def yX4_error : MethodName := ⟨RX4, "error", "()I"⟩
abbrev cX4_errorPlace : ByteArray := prog_25_method_38_code
def yX4_errorPlace : MethodName := ⟨RX4, "errorPlace", "(I)I"⟩
abbrev cX4_steps : ByteArray := prog_25_method_39_code
def yX4_steps : MethodName := ⟨RX4, "steps", "()I"⟩
abbrev cX4_renewed : ByteArray := prog_25_method_40_code
def yX4_renewed : MethodName := ⟨RX4, "renewed", "()I"⟩
abbrev cX4_reused : ByteArray := prog_25_method_41_code
def yX4_reused : MethodName := ⟨RX4, "reused", "()I"⟩
abbrev cX4_parts : ByteArray := prog_25_method_42_code
def yX4_parts : MethodName := ⟨RX4, "parts", "()I"⟩
abbrev cX4_length : ByteArray := prog_25_method_43_code
def yX4_length : MethodName := ⟨RX4, "length", "()I"⟩
abbrev cX4_outSign : ByteArray := prog_25_method_44_code
def yX4_outSign : MethodName := ⟨RX4, "outSign", "(I)C"⟩
abbrev cX4_sum_2 : ByteArray := prog_25_method_46_code
def yX4_sum_2 : MethodName := ⟨RX4, "sum", "()I"⟩
abbrev cX4_sumOf : ByteArray := prog_25_method_45_code
def yX4_sumOf : MethodName := ⟨RX4, "sumOf", "(Ljava/lang/CharSequence;)I"⟩
abbrev cX4_same : ByteArray := prog_25_method_49_code
def yX4_same : MethodName := ⟨RX4, "same", "()I"⟩
abbrev cX4_sameOf : ByteArray := prog_25_method_47_code
def yX4_sameOf : MethodName := ⟨RX4, "sameOf", "()I"⟩
abbrev cX4_gone : ByteArray := prog_25_method_50_code
def yX4_gone : MethodName := ⟨RX4, "gone", "()I"⟩
abbrev cX4_endOf : ByteArray := prog_25_method_48_code
def yX4_endOf : MethodName := ⟨RX4, "endOf", "()I"⟩
abbrev cX4_come : ByteArray := prog_25_method_51_code
def yX4_come : MethodName := ⟨RX4, "come", "()I"⟩
abbrev cX4_sumAnew : ByteArray := prog_25_method_52_code
def yX4_sumAnew : MethodName := ⟨RX4, "sumAnew", "(I)I"⟩
theorem q133 : (Jvm.Cond.initialized "QuillplateModel") ∈ lw_all := lw_g (lw_at lw_m1 29 rfl) rfl
theorem q961 : (Jvm.Cond.selects "QuillplateModel" ({ cls := "java/lang/Object", name := "getClass", desc := "()Ljava/lang/Class;" } : Jvm.MethodName) ({ cls := "java/lang/Object", name := "getClass", desc := "()Ljava/lang/Class;" } : Jvm.MethodName)) ∈ lw_all := lw_g (lw_at lw_m4 137 rfl) rfl
theorem q2474 : (Jvm.Cond.selects "QuillplateModel" ({ cls := "java/lang/Object", name := "equals", desc := "(Ljava/lang/Object;)Z" } : Jvm.MethodName) ({ cls := "java/lang/Object", name := "equals", desc := "(Ljava/lang/Object;)Z" } : Jvm.MethodName)) ∈ lw_all := lw_g (lw_at lw_m10 210 rfl) rfl
theorem q2603 : (Jvm.Cond.instantiable "QuillplateModel" (8 : Nat)) ∈ lw_all := lw_g (lw_at lw_m11 99 rfl) rfl
theorem q2605 : (Jvm.Cond.instanceMethod ({ cls := "QuillplateModel", name := "<init>", desc := "()V" } : Jvm.MethodName)) ∈ lw_all := lw_g (lw_at lw_m11 101 rfl) rfl
theorem q2606 : (Jvm.Cond.code ({ cls := "QuillplateModel", name := "<init>", desc := "()V" } : Jvm.MethodName) prog_25_method_14_code (1 : Nat) (Option.none : Option Jvm.ClassFile.FieldType)) ∈ lw_all := lw_g (lw_at lw_m11 102 rfl) rfl
theorem q2607 : (Jvm.Cond.methodLink "QuillplateModel" (149 : Nat) ({ cls := "java/lang/Object", name := "<init>", desc := "()V" } : Jvm.MethodName)) ∈ lw_all := lw_g (lw_at lw_m11 103 rfl) rfl
theorem q2608 : (Jvm.Cond.stringRef "QuillplateModel" (98 : Nat) "") ∈ lw_tbl := lw_at lw_m11 104 rfl
theorem q2609 : (Jvm.Cond.classLink "QuillplateModel" (122 : Nat) "QuillplateModel$Template") ∈ lw_all := lw_g (lw_at lw_m11 105 rfl) rfl
theorem q2611 : (Jvm.Cond.classLink "QuillplateModel" (14 : Nat) "QuillplateModel$Value") ∈ lw_all := lw_g (lw_at lw_m11 107 rfl) rfl
theorem q2613 : (Jvm.Cond.classLink "QuillplateModel" (104 : Nat) "java/util/ArrayList") ∈ lw_all := lw_g (lw_at lw_m11 109 rfl) rfl
theorem q2614 : (Jvm.Cond.methodLink "QuillplateModel" (106 : Nat) ({ cls := "java/util/ArrayList", name := "<init>", desc := "()V" } : Jvm.MethodName)) ∈ lw_all := lw_g (lw_at lw_m11 110 rfl) rfl
theorem q2615 : (Jvm.Cond.fieldLink "QuillplateModel" (172 : Nat) "QuillplateModel" "thrown" "I") ∈ lw_all := lw_g (lw_at lw_m11 111 rfl) rfl
theorem q2616 : (Jvm.Cond.fieldLink "QuillplateModel" (152 : Nat) "QuillplateModel" "draft" "Ljava/lang/String;") ∈ lw_all := lw_g (lw_at lw_m11 112 rfl) rfl
theorem q2618 : (Jvm.Cond.fieldLink "QuillplateModel" (155 : Nat) "QuillplateModel" "templates" "[LQuillplateModel$Template;") ∈ lw_all := lw_g (lw_at lw_m11 114 rfl) rfl
theorem q2619 : (Jvm.Cond.fieldLink "QuillplateModel" (159 : Nat) "QuillplateModel" "data" "[LQuillplateModel$Value;") ∈ lw_all := lw_g (lw_at lw_m11 115 rfl) rfl
theorem q2621 : (Jvm.Cond.fieldLink "QuillplateModel" (163 : Nat) "QuillplateModel" "kept" "Ljava/util/List;") ∈ lw_all := lw_g (lw_at lw_m11 117 rfl) rfl
theorem q2623 : (Jvm.Cond.fieldLink "QuillplateModel" (269 : Nat) "QuillplateModel" "latest" "LQuillplateModel$Rendering;") ∈ lw_all := lw_g (lw_at lw_m11 119 rfl) rfl
theorem q2624 : (Jvm.Cond.fieldLink "QuillplateModel" (166 : Nat) "QuillplateModel" "out" "Ljava/lang/String;") ∈ lw_all := lw_g (lw_at lw_m11 120 rfl) rfl
theorem q2625 : (Jvm.Cond.fieldLink "QuillplateModel" (169 : Nat) "QuillplateModel" "ahead" "Ljava/lang/String;") ∈ lw_all := lw_g (lw_at lw_m11 121 rfl) rfl
theorem q2626 : (Jvm.Cond.lays "QuillplateModel" "QuillplateModel" "thrown" "I") ∈ lw_all := lw_g (lw_at lw_m11 122 rfl) rfl
theorem q2627 : (Jvm.Cond.soleField "QuillplateModel" "thrown") ∈ lw_all := lw_g (lw_at lw_m11 123 rfl) rfl
theorem q2628 : (Jvm.Cond.lays "QuillplateModel" "QuillplateModel" "draft" "Ljava/lang/String;") ∈ lw_all := lw_g (lw_at lw_m11 124 rfl) rfl
theorem q2629 : (Jvm.Cond.soleField "QuillplateModel" "draft") ∈ lw_all := lw_g (lw_at lw_m11 125 rfl) rfl
theorem q2630 : (Jvm.Cond.laysFinal "QuillplateModel" "QuillplateModel" "templates" "[LQuillplateModel$Template;") ∈ lw_all := lw_g (lw_at lw_m11 126 rfl) rfl
theorem q2631 : (Jvm.Cond.soleField "QuillplateModel" "templates") ∈ lw_all := lw_g (lw_at lw_m11 127 rfl) rfl
theorem q2632 : (Jvm.Cond.laysFinal "QuillplateModel" "QuillplateModel" "data" "[LQuillplateModel$Value;") ∈ lw_all := lw_g (lw_at lw_m11 128 rfl) rfl
theorem q2633 : (Jvm.Cond.soleField "QuillplateModel" "data") ∈ lw_all := lw_g (lw_at lw_m11 129 rfl) rfl
theorem q2634 : (Jvm.Cond.laysFinal "QuillplateModel" "QuillplateModel" "kept" "Ljava/util/List;") ∈ lw_all := lw_g (lw_at lw_m11 130 rfl) rfl
theorem q2635 : (Jvm.Cond.soleField "QuillplateModel" "kept") ∈ lw_all := lw_g (lw_at lw_m11 131 rfl) rfl
theorem q2636 : (Jvm.Cond.lays "QuillplateModel" "QuillplateModel" "latest" "LQuillplateModel$Rendering;") ∈ lw_all := lw_g (lw_at lw_m11 132 rfl) rfl
theorem q2637 : (Jvm.Cond.soleField "QuillplateModel" "latest") ∈ lw_all := lw_g (lw_at lw_m11 133 rfl) rfl
theorem q2638 : (Jvm.Cond.lays "QuillplateModel" "QuillplateModel" "out" "Ljava/lang/String;") ∈ lw_all := lw_g (lw_at lw_m11 134 rfl) rfl
theorem q2639 : (Jvm.Cond.soleField "QuillplateModel" "out") ∈ lw_all := lw_g (lw_at lw_m11 135 rfl) rfl
theorem q2640 : (Jvm.Cond.lays "QuillplateModel" "QuillplateModel" "ahead" "Ljava/lang/String;") ∈ lw_all := lw_g (lw_at lw_m11 136 rfl) rfl
theorem q2641 : (Jvm.Cond.soleField "QuillplateModel" "ahead") ∈ lw_all := lw_g (lw_at lw_m11 137 rfl) rfl
theorem q2642 : (Jvm.Cond.superclass "QuillplateModel" "java/lang/Object") ∈ lw_all := lw_g (lw_at lw_m11 138 rfl) rfl
theorem q2644 : (Jvm.Cond.instanceMethod ({ cls := "QuillplateModel", name := "thrown", desc := "()I" } : Jvm.MethodName)) ∈ lw_all := lw_g (lw_at lw_m11 140 rfl) rfl
theorem q2645 : (Jvm.Cond.selects "QuillplateModel" ({ cls := "QuillplateModel", name := "thrown", desc := "()I" } : Jvm.MethodName) ({ cls := "QuillplateModel", name := "thrown", desc := "()I" } : Jvm.MethodName)) ∈ lw_all := lw_g (lw_at lw_m11 141 rfl) rfl
theorem q2646 : (Jvm.Cond.code ({ cls := "QuillplateModel", name := "thrown", desc := "()I" } : Jvm.MethodName) prog_25_method_15_code (1 : Nat) (Option.some Jvm.ClassFile.FieldType.int)) ∈ lw_all := lw_g (lw_at lw_m11 142 rfl) rfl
theorem q2648 : (Jvm.Cond.instanceMethod ({ cls := "QuillplateModel", name := "sign", desc := "(C)I" } : Jvm.MethodName)) ∈ lw_all := lw_g (lw_at lw_m11 144 rfl) rfl
theorem q2649 : (Jvm.Cond.selects "QuillplateModel" ({ cls := "QuillplateModel", name := "sign", desc := "(C)I" } : Jvm.MethodName) ({ cls := "QuillplateModel", name := "sign", desc := "(C)I" } : Jvm.MethodName)) ∈ lw_all := lw_g (lw_at lw_m11 145 rfl) rfl
theorem q2650 : (Jvm.Cond.code ({ cls := "QuillplateModel", name := "sign", desc := "(C)I" } : Jvm.MethodName) prog_25_method_17_code (3 : Nat) (Option.some Jvm.ClassFile.FieldType.int)) ∈ lw_all := lw_g (lw_at lw_m11 146 rfl) rfl
theorem q2651 : (Jvm.Cond.methodLink "QuillplateModel" (1 : Nat) ({ cls := "QuillplateModel", name := "isSmall", desc := "(C)Z" } : Jvm.MethodName)) ∈ lw_all := lw_g (lw_at lw_m11 147 rfl) rfl
theorem q2652 : (Jvm.Cond.static ({ cls := "QuillplateModel", name := "isSmall", desc := "(C)Z" } : Jvm.MethodName)) ∈ lw_all := lw_g (lw_at lw_m11 148 rfl) rfl
theorem q2653 : (Jvm.Cond.code ({ cls := "QuillplateModel", name := "isSmall", desc := "(C)Z" } : Jvm.MethodName) prog_25_method_2_code (1 : Nat) (Option.some Jvm.ClassFile.FieldType.boolean)) ∈ lw_all := lw_g (lw_at lw_m11 149 rfl) rfl
theorem q2654 : (Jvm.Cond.methodLink "QuillplateModel" (7 : Nat) ({ cls := "QuillplateModel", name := "isCapital", desc := "(C)Z" } : Jvm.MethodName)) ∈ lw_all := lw_g (lw_at lw_m11 150 rfl) rfl
theorem q2655 : (Jvm.Cond.static ({ cls := "QuillplateModel", name := "isCapital", desc := "(C)Z" } : Jvm.MethodName)) ∈ lw_all := lw_g (lw_at lw_m11 151 rfl) rfl
theorem q2656 : (Jvm.Cond.code ({ cls := "QuillplateModel", name := "isCapital", desc := "(C)Z" } : Jvm.MethodName) prog_25_method_3_code (1 : Nat) (Option.some Jvm.ClassFile.FieldType.boolean)) ∈ lw_all := lw_g (lw_at lw_m11 152 rfl) rfl
theorem q2657 : (Jvm.Cond.methodLink "QuillplateModel" (10 : Nat) ({ cls := "QuillplateModel", name := "isDigit", desc := "(C)Z" } : Jvm.MethodName)) ∈ lw_all := lw_g (lw_at lw_m11 153 rfl) rfl
theorem q2658 : (Jvm.Cond.static ({ cls := "QuillplateModel", name := "isDigit", desc := "(C)Z" } : Jvm.MethodName)) ∈ lw_all := lw_g (lw_at lw_m11 154 rfl) rfl
theorem q2659 : (Jvm.Cond.code ({ cls := "QuillplateModel", name := "isDigit", desc := "(C)Z" } : Jvm.MethodName) prog_25_method_1_code (1 : Nat) (Option.some Jvm.ClassFile.FieldType.boolean)) ∈ lw_all := lw_g (lw_at lw_m11 155 rfl) rfl
theorem q2660 : (Jvm.Cond.stringRef "QuillplateModel" (175 : Nat) " <>\"&=/'+|:!?*#^$@.,()-{}") ∈ lw_tbl := lw_at lw_m11 156 rfl
theorem q2661 : (Jvm.Cond.methodLink "QuillplateModel" (177 : Nat) ({ cls := "java/lang/String", name := "indexOf", desc := "(I)I" } : Jvm.MethodName)) ∈ lw_all := lw_g (lw_at lw_m11 157 rfl) rfl
theorem q2705 : (Jvm.Cond.methodLink "QuillplateModel" (68 : Nat) ({ cls := "java/lang/String", name := "length", desc := "()I" } : Jvm.MethodName)) ∈ lw_all := lw_g (lw_at lw_m11 201 rfl) rfl
theorem q2706 : (Jvm.Cond.classLink "QuillplateModel" (26 : Nat) "java/lang/StringBuilder") ∈ lw_all := lw_g (lw_at lw_m11 202 rfl) rfl
theorem q2707 : (Jvm.Cond.methodLink "QuillplateModel" (28 : Nat) ({ cls := "java/lang/StringBuilder", name := "<init>", desc := "()V" } : Jvm.MethodName)) ∈ lw_all := lw_g (lw_at lw_m11 203 rfl) rfl
theorem q2708 : (Jvm.Cond.methodLink "QuillplateModel" (36 : Nat) ({ cls := "java/lang/StringBuilder", name := "append", desc := "(Ljava/lang/String;)Ljava/lang/StringBuilder;" } : Jvm.MethodName)) ∈ lw_all := lw_g (lw_at lw_m11 204 rfl) rfl
theorem q2709 : (Jvm.Cond.methodLink "QuillplateModel" (93 : Nat) ({ cls := "java/lang/StringBuilder", name := "append", desc := "(C)Ljava/lang/StringBuilder;" } : Jvm.MethodName)) ∈ lw_all := lw_g (lw_at lw_m11 205 rfl) rfl
theorem q2710 : (Jvm.Cond.methodLink "QuillplateModel" (40 : Nat) ({ cls := "java/lang/StringBuilder", name := "toString", desc := "()Ljava/lang/String;" } : Jvm.MethodName)) ∈ lw_all := lw_g (lw_at lw_m11 206 rfl) rfl
theorem q2712 : (Jvm.Cond.instanceMethod ({ cls := "QuillplateModel", name := "clear", desc := "()I" } : Jvm.MethodName)) ∈ lw_all := lw_g (lw_at lw_m11 208 rfl) rfl
theorem q2713 : (Jvm.Cond.selects "QuillplateModel" ({ cls := "QuillplateModel", name := "clear", desc := "()I" } : Jvm.MethodName) ({ cls := "QuillplateModel", name := "clear", desc := "()I" } : Jvm.MethodName)) ∈ lw_all := lw_g (lw_at lw_m11 209 rfl) rfl
theorem q2714 : (Jvm.Cond.code ({ cls := "QuillplateModel", name := "clear", desc := "()I" } : Jvm.MethodName) prog_25_method_19_code (1 : Nat) (Option.some Jvm.ClassFile.FieldType.int)) ∈ lw_all := lw_g (lw_at lw_m11 210 rfl) rfl
theorem q2715 : (Jvm.Cond.methodLink "QuillplateModel" (181 : Nat) ({ cls := "QuillplateModel", name := "drafted", desc := "()Ljava/lang/String;" } : Jvm.MethodName)) ∈ lw_all := lw_g (lw_at lw_m11 211 rfl) rfl
theorem q2716 : (Jvm.Cond.privateMethod ({ cls := "QuillplateModel", name := "drafted", desc := "()Ljava/lang/String;" } : Jvm.MethodName)) ∈ lw_tbl := lw_at lw_m11 212 rfl
theorem q2717 : (Jvm.Cond.instanceMethod ({ cls := "QuillplateModel", name := "drafted", desc := "()Ljava/lang/String;" } : Jvm.MethodName)) ∈ lw_all := lw_g (lw_at lw_m11 213 rfl) rfl
theorem q2718 : (Jvm.Cond.code ({ cls := "QuillplateModel", name := "drafted", desc := "()Ljava/lang/String;" } : Jvm.MethodName) prog_25_method_18_code (2 : Nat) (Option.some (Jvm.ClassFile.FieldType.object "java/lang/String"))) ∈ lw_all := lw_g (lw_at lw_m11 214 rfl) rfl
theorem q2720 : (Jvm.Cond.instanceMethod ({ cls := "QuillplateModel", name := "tell", desc := "(I)I" } : Jvm.MethodName)) ∈ lw_all := lw_g (lw_at lw_m11 216 rfl) rfl
theorem q2721 : (Jvm.Cond.selects "QuillplateModel" ({ cls := "QuillplateModel", name := "tell", desc := "(I)I" } : Jvm.MethodName) ({ cls := "QuillplateModel", name := "tell", desc := "(I)I" } : Jvm.MethodName)) ∈ lw_all := lw_g (lw_at lw_m11 217 rfl) rfl
theorem q2722 : (Jvm.Cond.code ({ cls := "QuillplateModel", name := "tell", desc := "(I)I" } : Jvm.MethodName) prog_25_method_20_code (2 : Nat) (Option.some Jvm.ClassFile.FieldType.int)) ∈ lw_all := lw_g (lw_at lw_m11 218 rfl) rfl
theorem q2723 : (Jvm.Cond.methodLink "QuillplateModel" (184 : Nat) ({ cls := "QuillplateModel", name := "in", desc := "(III)Z" } : Jvm.MethodName)) ∈ lw_all := lw_g (lw_at lw_m11 219 rfl) rfl
theorem q2724 : (Jvm.Cond.static ({ cls := "QuillplateModel", name := "in", desc := "(III)Z" } : Jvm.MethodName)) ∈ lw_all := lw_g (lw_at lw_m11 220 rfl) rfl
theorem q2725 : (Jvm.Cond.code ({ cls := "QuillplateModel", name := "in", desc := "(III)Z" } : Jvm.MethodName) prog_25_method_16_code (3 : Nat) (Option.some Jvm.ClassFile.FieldType.boolean)) ∈ lw_all := lw_g (lw_at lw_m11 221 rfl) rfl
theorem q2726 : (Jvm.Cond.methodLink "QuillplateModel" (188 : Nat) ({ cls := "QuillplateModel", name := "faultOf", desc := "()I" } : Jvm.MethodName)) ∈ lw_all := lw_g (lw_at lw_m11 222 rfl) rfl
theorem q2727 : (Jvm.Cond.privateMethod ({ cls := "QuillplateModel", name := "faultOf", desc := "()I" } : Jvm.MethodName)) ∈ lw_tbl := lw_at lw_m11 223 rfl
theorem q2728 : (Jvm.Cond.instanceMethod ({ cls := "QuillplateModel", name := "faultOf", desc := "()I" } : Jvm.MethodName)) ∈ lw_all := lw_g (lw_at lw_m11 224 rfl) rfl
theorem q2729 : (Jvm.Cond.codeWith ({ cls := "QuillplateModel", name := "faultOf", desc := "()I" } : Jvm.MethodName) prog_25_method_21_code (2 : Nat) (Option.some Jvm.ClassFile.FieldType.int) [((0 : Nat), (16 : Nat), (17 : Nat), (80 : Nat))]) ∈ lw_all := lw_g (lw_at lw_m11 225 rfl) rfl
theorem q2730 : (Jvm.Cond.classLink "QuillplateModel" (80 : Nat) "QuillplateModel$Slip") ∈ lw_all := lw_g (lw_at lw_m11 226 rfl) rfl
theorem q2731 : (Jvm.Cond.classLink "QuillplateModel" (191 : Nat) "QuillplateModel$Reader") ∈ lw_all := lw_g (lw_at lw_m11 227 rfl) rfl
theorem q2733 : (Jvm.Cond.methodLink "QuillplateModel" (193 : Nat) ({ cls := "QuillplateModel$Reader", name := "<init>", desc := "(Ljava/lang/String;)V" } : Jvm.MethodName)) ∈ lw_all := lw_g (lw_at lw_m11 229 rfl) rfl
theorem q2764 : (Jvm.Cond.fieldLinkNest "QuillplateModel" (121 : Nat) "QuillplateModel$Template" "signs" "[C" "QuillplateModel") ∈ lw_tbl := lw_at lw_m12 20 rfl
theorem q2768 : (Jvm.Cond.fieldLinkNest "QuillplateModel" (131 : Nat) "QuillplateModel$Template" "closes" "[I" "QuillplateModel") ∈ lw_tbl := lw_at lw_m12 24 rfl
theorem q2772 : (Jvm.Cond.fieldLinkNest "QuillplateModel" (135 : Nat) "QuillplateModel$Template" "others" "[I" "QuillplateModel") ∈ lw_tbl := lw_at lw_m12 28 rfl
theorem q2776 : (Jvm.Cond.fieldLinkNest "QuillplateModel" (138 : Nat) "QuillplateModel$Template" "ends" "[I" "QuillplateModel") ∈ lw_tbl := lw_at lw_m12 32 rfl
theorem q2787 : (Jvm.Cond.fieldLinkNest "QuillplateModel" (201 : Nat) "QuillplateModel$Template" "marks" "I" "QuillplateModel") ∈ lw_tbl := lw_at lw_m12 43 rfl
theorem q2829 : (Jvm.Cond.methodLink "QuillplateModel" (194 : Nat) ({ cls := "QuillplateModel$Reader", name := "all", desc := "()LQuillplateModel$Template;" } : Jvm.MethodName)) ∈ lw_all := lw_g (lw_at lw_m12 85 rfl) rfl
theorem q2864 : (Jvm.Cond.fieldLinkNest "QuillplateModel" (204 : Nat) "QuillplateModel$Slip" "what" "I" "QuillplateModel") ∈ lw_tbl := lw_at lw_m12 120 rfl
theorem q2944 : (Jvm.Cond.static ({ cls := "QuillplateModel", name := "isQuoted", desc := "(C)Z" } : Jvm.MethodName)) ∈ lw_all := lw_g (lw_at lw_m12 200 rfl) rfl
theorem q2945 : (Jvm.Cond.code ({ cls := "QuillplateModel", name := "isQuoted", desc := "(C)Z" } : Jvm.MethodName) prog_25_method_4_code (1 : Nat) (Option.some Jvm.ClassFile.FieldType.boolean)) ∈ lw_all := lw_g (lw_at lw_m12 201 rfl) rfl
theorem q3056 : (Jvm.Cond.static ({ cls := "QuillplateModel", name := "moved", desc := "(IC)I" } : Jvm.MethodName)) ∈ lw_all := lw_g (lw_at lw_m13 72 rfl) rfl
theorem q3057 : (Jvm.Cond.code ({ cls := "QuillplateModel", name := "moved", desc := "(IC)I" } : Jvm.MethodName) prog_25_method_5_code (2 : Nat) (Option.some Jvm.ClassFile.FieldType.int)) ∈ lw_all := lw_g (lw_at lw_m13 73 rfl) rfl
theorem q3062 : (Jvm.Cond.interfaceEntry "QuillplateModel" (198 : Nat)) ∈ lw_tbl := lw_at lw_m13 78 rfl
theorem q3063 : (Jvm.Cond.methodLink "QuillplateModel" (198 : Nat) ({ cls := "java/util/List", name := "clear", desc := "()V" } : Jvm.MethodName)) ∈ lw_all := lw_g (lw_at lw_m13 79 rfl) rfl
theorem q3080 : (Jvm.Cond.instanceMethod ({ cls := "QuillplateModel", name := "fault", desc := "()I" } : Jvm.MethodName)) ∈ lw_all := lw_g (lw_at lw_m13 96 rfl) rfl
theorem q3081 : (Jvm.Cond.selects "QuillplateModel" ({ cls := "QuillplateModel", name := "fault", desc := "()I" } : Jvm.MethodName) ({ cls := "QuillplateModel", name := "fault", desc := "()I" } : Jvm.MethodName)) ∈ lw_all := lw_g (lw_at lw_m13 97 rfl) rfl
theorem q3082 : (Jvm.Cond.code ({ cls := "QuillplateModel", name := "fault", desc := "()I" } : Jvm.MethodName) prog_25_method_22_code (1 : Nat) (Option.some Jvm.ClassFile.FieldType.int)) ∈ lw_all := lw_g (lw_at lw_m13 98 rfl) rfl
theorem q3084 : (Jvm.Cond.instanceMethod ({ cls := "QuillplateModel", name := "number", desc := "(II)I" } : Jvm.MethodName)) ∈ lw_all := lw_g (lw_at lw_m13 100 rfl) rfl
theorem q3085 : (Jvm.Cond.selects "QuillplateModel" ({ cls := "QuillplateModel", name := "number", desc := "(II)I" } : Jvm.MethodName) ({ cls := "QuillplateModel", name := "number", desc := "(II)I" } : Jvm.MethodName)) ∈ lw_all := lw_g (lw_at lw_m13 101 rfl) rfl
theorem q3086 : (Jvm.Cond.code ({ cls := "QuillplateModel", name := "number", desc := "(II)I" } : Jvm.MethodName) prog_25_method_26_code (3 : Nat) (Option.some Jvm.ClassFile.FieldType.int)) ∈ lw_all := lw_g (lw_at lw_m13 102 rfl) rfl
theorem q3087 : (Jvm.Cond.methodLink "QuillplateModel" (218 : Nat) ({ cls := "QuillplateModel", name := "isName", desc := "(I)Z" } : Jvm.MethodName)) ∈ lw_all := lw_g (lw_at lw_m13 103 rfl) rfl
theorem q3088 : (Jvm.Cond.static ({ cls := "QuillplateModel", name := "isName", desc := "(I)Z" } : Jvm.MethodName)) ∈ lw_all := lw_g (lw_at lw_m13 104 rfl) rfl
theorem q3089 : (Jvm.Cond.code ({ cls := "QuillplateModel", name := "isName", desc := "(I)Z" } : Jvm.MethodName) prog_25_method_23_code (1 : Nat) (Option.some Jvm.ClassFile.FieldType.boolean)) ∈ lw_all := lw_g (lw_at lw_m13 105 rfl) rfl
theorem q3090 : (Jvm.Cond.methodLink "QuillplateModel" (22 : Nat) ({ cls := "QuillplateModel$Value", name := "of", desc := "(I)LQuillplateModel$Value;" } : Jvm.MethodName)) ∈ lw_all := lw_g (lw_at lw_m13 106 rfl) rfl
theorem q3108 : (Jvm.Cond.fieldLinkNest "QuillplateModel" (13 : Nat) "QuillplateModel$Value" "kind" "I" "QuillplateModel") ∈ lw_tbl := lw_at lw_m13 124 rfl
theorem q3111 : (Jvm.Cond.fieldLinkNest "QuillplateModel" (19 : Nat) "QuillplateModel$Value" "number" "I" "QuillplateModel") ∈ lw_tbl := lw_at lw_m13 127 rfl
theorem q3114 : (Jvm.Cond.fieldLinkNest "QuillplateModel" (85 : Nat) "QuillplateModel$Value" "text" "Ljava/lang/String;" "QuillplateModel") ∈ lw_tbl := lw_at lw_m13 130 rfl
theorem q3117 : (Jvm.Cond.fieldLinkNest "QuillplateModel" (43 : Nat) "QuillplateModel$Value" "isSafe" "Z" "QuillplateModel") ∈ lw_tbl := lw_at lw_m13 133 rfl
theorem q3120 : (Jvm.Cond.fieldLinkNest "QuillplateModel" (58 : Nat) "QuillplateModel$Value" "list" "Ljava/util/List;" "QuillplateModel") ∈ lw_tbl := lw_at lw_m13 136 rfl
theorem q3133 : (Jvm.Cond.methodLink "QuillplateModel" (222 : Nat) ({ cls := "QuillplateModel", name := "told", desc := "(ILQuillplateModel$Value;)I" } : Jvm.MethodName)) ∈ lw_all := lw_g (lw_at lw_m13 149 rfl) rfl
theorem q3134 : (Jvm.Cond.privateMethod ({ cls := "QuillplateModel", name := "told", desc := "(ILQuillplateModel$Value;)I" } : Jvm.MethodName)) ∈ lw_tbl := lw_at lw_m13 150 rfl
theorem q3135 : (Jvm.Cond.instanceMethod ({ cls := "QuillplateModel", name := "told", desc := "(ILQuillplateModel$Value;)I" } : Jvm.MethodName)) ∈ lw_all := lw_g (lw_at lw_m13 151 rfl) rfl
theorem q3136 : (Jvm.Cond.code ({ cls := "QuillplateModel", name := "told", desc := "(ILQuillplateModel$Value;)I" } : Jvm.MethodName) prog_25_method_25_code (8 : Nat) (Option.some Jvm.ClassFile.FieldType.int)) ∈ lw_all := lw_g (lw_at lw_m13 152 rfl) rfl
theorem q3137 : (Jvm.Cond.methodLink "QuillplateModel" (215 : Nat) ({ cls := "QuillplateModel", name := "drops", desc := "(I)V" } : Jvm.MethodName)) ∈ lw_all := lw_g (lw_at lw_m13 153 rfl) rfl
theorem q3138 : (Jvm.Cond.privateMethod ({ cls := "QuillplateModel", name := "drops", desc := "(I)V" } : Jvm.MethodName)) ∈ lw_tbl := lw_at lw_m13 154 rfl
theorem q3139 : (Jvm.Cond.instanceMethod ({ cls := "QuillplateModel", name := "drops", desc := "(I)V" } : Jvm.MethodName)) ∈ lw_all := lw_g (lw_at lw_m13 155 rfl) rfl
theorem q3140 : (Jvm.Cond.code ({ cls := "QuillplateModel", name := "drops", desc := "(I)V" } : Jvm.MethodName) prog_25_method_24_code (3 : Nat) (Option.none : Option Jvm.ClassFile.FieldType)) ∈ lw_all := lw_g (lw_at lw_m13 156 rfl) rfl
theorem q3141 : (Jvm.Cond.interfaceEntry "QuillplateModel" (62 : Nat)) ∈ lw_tbl := lw_at lw_m13 157 rfl
theorem q3142 : (Jvm.Cond.methodLink "QuillplateModel" (62 : Nat) ({ cls := "java/util/List", name := "size", desc := "()I" } : Jvm.MethodName)) ∈ lw_all := lw_g (lw_at lw_m13 158 rfl) rfl
theorem q3143 : (Jvm.Cond.interfaceEntry "QuillplateModel" (100 : Nat)) ∈ lw_tbl := lw_at lw_m13 159 rfl
theorem q3144 : (Jvm.Cond.methodLink "QuillplateModel" (100 : Nat) ({ cls := "java/util/List", name := "get", desc := "(I)Ljava/lang/Object;" } : Jvm.MethodName)) ∈ lw_all := lw_g (lw_at lw_m13 160 rfl) rfl
theorem q3145 : (Jvm.Cond.classLink "QuillplateModel" (207 : Nat) "QuillplateModel$Kept") ∈ lw_all := lw_g (lw_at lw_m13 161 rfl) rfl
theorem q3146 : (Jvm.Cond.interfaceEntry "QuillplateModel" (212 : Nat)) ∈ lw_tbl := lw_at lw_m13 162 rfl
theorem q3147 : (Jvm.Cond.methodLink "QuillplateModel" (212 : Nat) ({ cls := "java/util/List", name := "remove", desc := "(I)Ljava/lang/Object;" } : Jvm.MethodName)) ∈ lw_all := lw_g (lw_at lw_m13 163 rfl) rfl
theorem q3149 : (Jvm.Cond.instanceMethod ({ cls := "QuillplateModel", name := "text", desc := "(I)I" } : Jvm.MethodName)) ∈ lw_all := lw_g (lw_at lw_m13 165 rfl) rfl
theorem q3150 : (Jvm.Cond.selects "QuillplateModel" ({ cls := "QuillplateModel", name := "text", desc := "(I)I" } : Jvm.MethodName) ({ cls := "QuillplateModel", name := "text", desc := "(I)I" } : Jvm.MethodName)) ∈ lw_all := lw_g (lw_at lw_m13 166 rfl) rfl
theorem q3151 : (Jvm.Cond.code ({ cls := "QuillplateModel", name := "text", desc := "(I)I" } : Jvm.MethodName) prog_25_method_27_code (3 : Nat) (Option.some Jvm.ClassFile.FieldType.int)) ∈ lw_all := lw_g (lw_at lw_m13 167 rfl) rfl
theorem q3152 : (Jvm.Cond.methodLink "QuillplateModel" (47 : Nat) ({ cls := "QuillplateModel$Value", name := "of", desc := "(Ljava/lang/String;Z)LQuillplateModel$Value;" } : Jvm.MethodName)) ∈ lw_all := lw_g (lw_at lw_m13 168 rfl) rfl
theorem q3157 : (Jvm.Cond.instanceMethod ({ cls := "QuillplateModel", name := "list", desc := "(I)I" } : Jvm.MethodName)) ∈ lw_all := lw_g (lw_at lw_m13 173 rfl) rfl
theorem q3158 : (Jvm.Cond.selects "QuillplateModel" ({ cls := "QuillplateModel", name := "list", desc := "(I)I" } : Jvm.MethodName) ({ cls := "QuillplateModel", name := "list", desc := "(I)I" } : Jvm.MethodName)) ∈ lw_all := lw_g (lw_at lw_m13 174 rfl) rfl
theorem q3159 : (Jvm.Cond.code ({ cls := "QuillplateModel", name := "list", desc := "(I)I" } : Jvm.MethodName) prog_25_method_28_code (2 : Nat) (Option.some Jvm.ClassFile.FieldType.int)) ∈ lw_all := lw_g (lw_at lw_m13 175 rfl) rfl
theorem q3160 : (Jvm.Cond.methodLink "QuillplateModel" (226 : Nat) ({ cls := "java/util/List", name := "of", desc := "()Ljava/util/List;" } : Jvm.MethodName)) ∈ lw_all := lw_g (lw_at lw_m13 176 rfl) rfl
theorem q3161 : (Jvm.Cond.methodLink "QuillplateModel" (111 : Nat) ({ cls := "QuillplateModel$Value", name := "of", desc := "(Ljava/util/List;)LQuillplateModel$Value;" } : Jvm.MethodName)) ∈ lw_all := lw_g (lw_at lw_m13 177 rfl) rfl
theorem q3165 : (Jvm.Cond.instanceMethod ({ cls := "QuillplateModel", name := "addNumber", desc := "(II)I" } : Jvm.MethodName)) ∈ lw_all := lw_g (lw_at lw_m13 181 rfl) rfl
theorem q3166 : (Jvm.Cond.selects "QuillplateModel" ({ cls := "QuillplateModel", name := "addNumber", desc := "(II)I" } : Jvm.MethodName) ({ cls := "QuillplateModel", name := "addNumber", desc := "(II)I" } : Jvm.MethodName)) ∈ lw_all := lw_g (lw_at lw_m13 182 rfl) rfl
theorem q3167 : (Jvm.Cond.code ({ cls := "QuillplateModel", name := "addNumber", desc := "(II)I" } : Jvm.MethodName) prog_25_method_31_code (3 : Nat) (Option.some Jvm.ClassFile.FieldType.int)) ∈ lw_all := lw_g (lw_at lw_m13 183 rfl) rfl
theorem q3168 : (Jvm.Cond.methodLink "QuillplateModel" (232 : Nat) ({ cls := "QuillplateModel", name := "hasRoom", desc := "(I)Z" } : Jvm.MethodName)) ∈ lw_all := lw_g (lw_at lw_m13 184 rfl) rfl
theorem q3169 : (Jvm.Cond.privateMethod ({ cls := "QuillplateModel", name := "hasRoom", desc := "(I)Z" } : Jvm.MethodName)) ∈ lw_tbl := lw_at lw_m13 185 rfl
theorem q3170 : (Jvm.Cond.instanceMethod ({ cls := "QuillplateModel", name := "hasRoom", desc := "(I)Z" } : Jvm.MethodName)) ∈ lw_all := lw_g (lw_at lw_m13 186 rfl) rfl
theorem q3171 : (Jvm.Cond.code ({ cls := "QuillplateModel", name := "hasRoom", desc := "(I)Z" } : Jvm.MethodName) prog_25_method_29_code (2 : Nat) (Option.some Jvm.ClassFile.FieldType.boolean)) ∈ lw_all := lw_g (lw_at lw_m13 187 rfl) rfl
theorem q3172 : (Jvm.Cond.methodLink "QuillplateModel" (235 : Nat) ({ cls := "QuillplateModel", name := "adds", desc := "(ILQuillplateModel$Value;)I" } : Jvm.MethodName)) ∈ lw_all := lw_g (lw_at lw_m13 188 rfl) rfl
theorem q3173 : (Jvm.Cond.privateMethod ({ cls := "QuillplateModel", name := "adds", desc := "(ILQuillplateModel$Value;)I" } : Jvm.MethodName)) ∈ lw_tbl := lw_at lw_m13 189 rfl
theorem q3174 : (Jvm.Cond.instanceMethod ({ cls := "QuillplateModel", name := "adds", desc := "(ILQuillplateModel$Value;)I" } : Jvm.MethodName)) ∈ lw_all := lw_g (lw_at lw_m13 190 rfl) rfl
theorem q3175 : (Jvm.Cond.code ({ cls := "QuillplateModel", name := "adds", desc := "(ILQuillplateModel$Value;)I" } : Jvm.MethodName) prog_25_method_30_code (4 : Nat) (Option.some Jvm.ClassFile.FieldType.int)) ∈ lw_all := lw_g (lw_at lw_m13 191 rfl) rfl
theorem q3176 : (Jvm.Cond.methodLink "QuillplateModel" (229 : Nat) ({ cls := "java/util/ArrayList", name := "<init>", desc := "(Ljava/util/Collection;)V" } : Jvm.MethodName)) ∈ lw_all := lw_g (lw_at lw_m13 192 rfl) rfl
theorem q3191 : (Jvm.Cond.interfaceEntry "QuillplateModel" (107 : Nat)) ∈ lw_tbl := lw_at lw_m13 207 rfl
theorem q3192 : (Jvm.Cond.methodLink "QuillplateModel" (107 : Nat) ({ cls := "java/util/List", name := "add", desc := "(Ljava/lang/Object;)Z" } : Jvm.MethodName)) ∈ lw_all := lw_g (lw_at lw_m13 208 rfl) rfl
theorem q3194 : (Jvm.Cond.instanceMethod ({ cls := "QuillplateModel", name := "addText", desc := "(I)I" } : Jvm.MethodName)) ∈ lw_all := lw_g (lw_at lw_m13 210 rfl) rfl
theorem q3195 : (Jvm.Cond.selects "QuillplateModel" ({ cls := "QuillplateModel", name := "addText", desc := "(I)I" } : Jvm.MethodName) ({ cls := "QuillplateModel", name := "addText", desc := "(I)I" } : Jvm.MethodName)) ∈ lw_all := lw_g (lw_at lw_m13 211 rfl) rfl
theorem q3196 : (Jvm.Cond.code ({ cls := "QuillplateModel", name := "addText", desc := "(I)I" } : Jvm.MethodName) prog_25_method_32_code (2 : Nat) (Option.some Jvm.ClassFile.FieldType.int)) ∈ lw_all := lw_g (lw_at lw_m13 212 rfl) rfl
theorem q3198 : (Jvm.Cond.instanceMethod ({ cls := "QuillplateModel", name := "unset", desc := "(I)Z" } : Jvm.MethodName)) ∈ lw_all := lw_g (lw_at lw_m13 214 rfl) rfl
theorem q3199 : (Jvm.Cond.selects "QuillplateModel" ({ cls := "QuillplateModel", name := "unset", desc := "(I)Z" } : Jvm.MethodName) ({ cls := "QuillplateModel", name := "unset", desc := "(I)Z" } : Jvm.MethodName)) ∈ lw_all := lw_g (lw_at lw_m13 215 rfl) rfl
theorem q3200 : (Jvm.Cond.code ({ cls := "QuillplateModel", name := "unset", desc := "(I)Z" } : Jvm.MethodName) prog_25_method_33_code (2 : Nat) (Option.some Jvm.ClassFile.FieldType.boolean)) ∈ lw_all := lw_g (lw_at lw_m13 216 rfl) rfl
theorem q3202 : (Jvm.Cond.instanceMethod ({ cls := "QuillplateModel", name := "render", desc := "(I)I" } : Jvm.MethodName)) ∈ lw_all := lw_g (lw_at lw_m13 218 rfl) rfl
theorem q3203 : (Jvm.Cond.selects "QuillplateModel" ({ cls := "QuillplateModel", name := "render", desc := "(I)I" } : Jvm.MethodName) ({ cls := "QuillplateModel", name := "render", desc := "(I)I" } : Jvm.MethodName)) ∈ lw_all := lw_g (lw_at lw_m13 219 rfl) rfl
theorem q3204 : (Jvm.Cond.code ({ cls := "QuillplateModel", name := "render", desc := "(I)I" } : Jvm.MethodName) prog_25_method_36_code (2 : Nat) (Option.some Jvm.ClassFile.FieldType.int)) ∈ lw_all := lw_g (lw_at lw_m13 220 rfl) rfl
theorem q3205 : (Jvm.Cond.methodLink "QuillplateModel" (261 : Nat) ({ cls := "QuillplateModel", name := "refused", desc := "(I)I" } : Jvm.MethodName)) ∈ lw_all := lw_g (lw_at lw_m13 221 rfl) rfl
theorem q3206 : (Jvm.Cond.privateMethod ({ cls := "QuillplateModel", name := "refused", desc := "(I)I" } : Jvm.MethodName)) ∈ lw_tbl := lw_at lw_m13 222 rfl
theorem q3207 : (Jvm.Cond.instanceMethod ({ cls := "QuillplateModel", name := "refused", desc := "(I)I" } : Jvm.MethodName)) ∈ lw_all := lw_g (lw_at lw_m13 223 rfl) rfl
theorem q3208 : (Jvm.Cond.code ({ cls := "QuillplateModel", name := "refused", desc := "(I)I" } : Jvm.MethodName) prog_25_method_35_code (2 : Nat) (Option.some Jvm.ClassFile.FieldType.int)) ∈ lw_all := lw_g (lw_at lw_m13 224 rfl) rfl
theorem q3209 : (Jvm.Cond.classLink "QuillplateModel" (264 : Nat) "QuillplateModel$Rendering") ∈ lw_all := lw_g (lw_at lw_m13 225 rfl) rfl
theorem q3211 : (Jvm.Cond.methodLink "QuillplateModel" (266 : Nat) ({ cls := "QuillplateModel$Rendering", name := "<init>", desc := "(LQuillplateModel;Z)V" } : Jvm.MethodName)) ∈ lw_all := lw_g (lw_at lw_m13 227 rfl) rfl
theorem q3224 : (Jvm.Cond.fieldLinkNest "QuillplateModel" (275 : Nat) "QuillplateModel$Rendering" "made" "Ljava/lang/StringBuilder;" "QuillplateModel") ∈ lw_tbl := lw_at lw_m14 0 rfl
theorem q3227 : (Jvm.Cond.fieldLinkNest "QuillplateModel" (290 : Nat) "QuillplateModel$Rendering" "steps" "I" "QuillplateModel") ∈ lw_tbl := lw_at lw_m14 3 rfl
theorem q3229 : (Jvm.Cond.fieldLinkNest "QuillplateModel" (293 : Nat) "QuillplateModel$Rendering" "renewed" "I" "QuillplateModel") ∈ lw_tbl := lw_at lw_m14 5 rfl
theorem q3231 : (Jvm.Cond.fieldLinkNest "QuillplateModel" (296 : Nat) "QuillplateModel$Rendering" "reused" "I" "QuillplateModel") ∈ lw_tbl := lw_at lw_m14 7 rfl
theorem q3239 : (Jvm.Cond.fieldLinkNest "QuillplateModel" (279 : Nat) "QuillplateModel$Rendering" "error" "I" "QuillplateModel") ∈ lw_tbl := lw_at lw_m14 15 rfl
theorem q3241 : (Jvm.Cond.fieldLinkNest "QuillplateModel" (282 : Nat) "QuillplateModel$Rendering" "places" "Ljava/util/List;" "QuillplateModel") ∈ lw_tbl := lw_at lw_m14 17 rfl
theorem q3280 : (Jvm.Cond.methodLink "QuillplateModel" (273 : Nat) ({ cls := "QuillplateModel$Rendering", name := "all", desc := "(I)Z" } : Jvm.MethodName)) ∈ lw_all := lw_g (lw_at lw_m14 56 rfl) rfl
theorem q3375 : (Jvm.Cond.static ({ cls := "QuillplateModel", name := "changed", desc := "(LQuillplateModel$Value;C)LQuillplateModel$Value;" } : Jvm.MethodName)) ∈ lw_all := lw_g (lw_at lw_m14 151 rfl) rfl
theorem q3376 : (Jvm.Cond.code ({ cls := "QuillplateModel", name := "changed", desc := "(LQuillplateModel$Value;C)LQuillplateModel$Value;" } : Jvm.MethodName) prog_25_method_7_code (2 : Nat) (Option.some (Jvm.ClassFile.FieldType.object "QuillplateModel$Value"))) ∈ lw_all := lw_g (lw_at lw_m14 152 rfl) rfl
theorem q3377 : (Jvm.Cond.methodLink "QuillplateModel" (50 : Nat) ({ cls := "QuillplateModel", name := "textOf", desc := "(LQuillplateModel$Value;)Ljava/lang/String;" } : Jvm.MethodName)) ∈ lw_all := lw_g (lw_at lw_m14 153 rfl) rfl
theorem q3378 : (Jvm.Cond.static ({ cls := "QuillplateModel", name := "textOf", desc := "(LQuillplateModel$Value;)Ljava/lang/String;" } : Jvm.MethodName)) ∈ lw_all := lw_g (lw_at lw_m14 154 rfl) rfl
theorem q3379 : (Jvm.Cond.code ({ cls := "QuillplateModel", name := "textOf", desc := "(LQuillplateModel$Value;)Ljava/lang/String;" } : Jvm.MethodName) prog_25_method_8_code (1 : Nat) (Option.some (Jvm.ClassFile.FieldType.object "java/lang/String"))) ∈ lw_all := lw_g (lw_at lw_m14 155 rfl) rfl
theorem q3380 : (Jvm.Cond.methodLink "QuillplateModel" (82 : Nat) ({ cls := "QuillplateModel$Slip", name := "<init>", desc := "(I)V" } : Jvm.MethodName)) ∈ lw_all := lw_g (lw_at lw_m14 156 rfl) rfl
theorem q3381 : (Jvm.Cond.methodLink "QuillplateModel" (54 : Nat) ({ cls := "QuillplateModel", name := "cased", desc := "(Ljava/lang/String;Z)Ljava/lang/String;" } : Jvm.MethodName)) ∈ lw_all := lw_g (lw_at lw_m14 157 rfl) rfl
theorem q3382 : (Jvm.Cond.static ({ cls := "QuillplateModel", name := "cased", desc := "(Ljava/lang/String;Z)Ljava/lang/String;" } : Jvm.MethodName)) ∈ lw_all := lw_g (lw_at lw_m14 158 rfl) rfl
theorem q3383 : (Jvm.Cond.code ({ cls := "QuillplateModel", name := "cased", desc := "(Ljava/lang/String;Z)Ljava/lang/String;" } : Jvm.MethodName) prog_25_method_9_code (5 : Nat) (Option.some (Jvm.ClassFile.FieldType.object "java/lang/String"))) ∈ lw_all := lw_g (lw_at lw_m14 159 rfl) rfl
theorem q3384 : (Jvm.Cond.methodLink "QuillplateModel" (89 : Nat) ({ cls := "java/lang/String", name := "charAt", desc := "(I)C" } : Jvm.MethodName)) ∈ lw_all := lw_g (lw_at lw_m14 160 rfl) rfl
theorem q3385 : (Jvm.Cond.methodLink "QuillplateModel" (32 : Nat) ({ cls := "QuillplateModel$Value", name := "said", desc := "()Ljava/lang/String;" } : Jvm.MethodName)) ∈ lw_all := lw_g (lw_at lw_m14 161 rfl) rfl
theorem q3390 : (Jvm.Cond.methodLink "QuillplateModel" (73 : Nat) ({ cls := "QuillplateModel", name := "joined", desc := "(LQuillplateModel$Value;)LQuillplateModel$Value;" } : Jvm.MethodName)) ∈ lw_all := lw_g (lw_at lw_m14 166 rfl) rfl
theorem q3391 : (Jvm.Cond.static ({ cls := "QuillplateModel", name := "joined", desc := "(LQuillplateModel$Value;)LQuillplateModel$Value;" } : Jvm.MethodName)) ∈ lw_all := lw_g (lw_at lw_m14 167 rfl) rfl
theorem q3392 : (Jvm.Cond.code ({ cls := "QuillplateModel", name := "joined", desc := "(LQuillplateModel$Value;)LQuillplateModel$Value;" } : Jvm.MethodName) prog_25_method_10_code (3 : Nat) (Option.some (Jvm.ClassFile.FieldType.object "QuillplateModel$Value"))) ∈ lw_all := lw_g (lw_at lw_m14 168 rfl) rfl
theorem q3393 : (Jvm.Cond.stringRef "QuillplateModel" (96 : Nat) ",") ∈ lw_tbl := lw_at lw_m14 169 rfl
theorem q3394 : (Jvm.Cond.methodLink "QuillplateModel" (77 : Nat) ({ cls := "QuillplateModel", name := "backward", desc := "(LQuillplateModel$Value;)LQuillplateModel$Value;" } : Jvm.MethodName)) ∈ lw_all := lw_g (lw_at lw_m14 170 rfl) rfl
theorem q3395 : (Jvm.Cond.static ({ cls := "QuillplateModel", name := "backward", desc := "(LQuillplateModel$Value;)LQuillplateModel$Value;" } : Jvm.MethodName)) ∈ lw_all := lw_g (lw_at lw_m14 171 rfl) rfl
theorem q3396 : (Jvm.Cond.code ({ cls := "QuillplateModel", name := "backward", desc := "(LQuillplateModel$Value;)LQuillplateModel$Value;" } : Jvm.MethodName) prog_25_method_11_code (3 : Nat) (Option.some (Jvm.ClassFile.FieldType.object "QuillplateModel$Value"))) ∈ lw_all := lw_g (lw_at lw_m14 172 rfl) rfl
theorem q3397 : (Jvm.Cond.methodLink "QuillplateModel" (114 : Nat) ({ cls := "java/lang/StringBuilder", name := "<init>", desc := "(Ljava/lang/String;)V" } : Jvm.MethodName)) ∈ lw_all := lw_g (lw_at lw_m14 173 rfl) rfl
theorem q3398 : (Jvm.Cond.methodLink "QuillplateModel" (117 : Nat) ({ cls := "java/lang/StringBuilder", name := "reverse", desc := "()Ljava/lang/StringBuilder;" } : Jvm.MethodName)) ∈ lw_all := lw_g (lw_at lw_m14 174 rfl) rfl
theorem q3400 : (Jvm.Cond.static ({ cls := "QuillplateModel", name := "sum", desc := "(LQuillplateModel$Value;LQuillplateModel$Value;)LQuillplateModel$Value;" } : Jvm.MethodName)) ∈ lw_all := lw_g (lw_at lw_m14 176 rfl) rfl
theorem q3401 : (Jvm.Cond.code ({ cls := "QuillplateModel", name := "sum", desc := "(LQuillplateModel$Value;LQuillplateModel$Value;)LQuillplateModel$Value;" } : Jvm.MethodName) prog_25_method_6_code (2 : Nat) (Option.some (Jvm.ClassFile.FieldType.object "QuillplateModel$Value"))) ∈ lw_all := lw_g (lw_at lw_m14 177 rfl) rfl
theorem q3575 : (Jvm.Cond.static ({ cls := "QuillplateModel", name := "fits", desc := "(LQuillplateModel$Template;III)Z" } : Jvm.MethodName)) ∈ lw_all := lw_g (lw_at lw_m15 111 rfl) rfl
theorem q3576 : (Jvm.Cond.code ({ cls := "QuillplateModel", name := "fits", desc := "(LQuillplateModel$Template;III)Z" } : Jvm.MethodName) prog_25_method_13_code (4 : Nat) (Option.some Jvm.ClassFile.FieldType.boolean)) ∈ lw_all := lw_g (lw_at lw_m15 112 rfl) rfl
theorem q3577 : (Jvm.Cond.methodLink "QuillplateModel" (145 : Nat) ({ cls := "QuillplateModel", name := "leads", desc := "(LQuillplateModel$Template;III)I" } : Jvm.MethodName)) ∈ lw_all := lw_g (lw_at lw_m15 113 rfl) rfl
theorem q3578 : (Jvm.Cond.static ({ cls := "QuillplateModel", name := "leads", desc := "(LQuillplateModel$Template;III)I" } : Jvm.MethodName)) ∈ lw_all := lw_g (lw_at lw_m15 114 rfl) rfl
theorem q3579 : (Jvm.Cond.code ({ cls := "QuillplateModel", name := "leads", desc := "(LQuillplateModel$Template;III)I" } : Jvm.MethodName) prog_25_method_12_code (12 : Nat) (Option.some Jvm.ClassFile.FieldType.int)) ∈ lw_all := lw_g (lw_at lw_m15 115 rfl) rfl
theorem q3580 : (Jvm.Cond.methodLink "QuillplateModel" (127 : Nat) ({ cls := "QuillplateModel", name := "moved", desc := "(IC)I" } : Jvm.MethodName)) ∈ lw_all := lw_g (lw_at lw_m15 116 rfl) rfl
theorem q3581 : (Jvm.Cond.methodLink "QuillplateModel" (141 : Nat) ({ cls := "QuillplateModel", name := "fits", desc := "(LQuillplateModel$Template;III)Z" } : Jvm.MethodName)) ∈ lw_all := lw_g (lw_at lw_m15 117 rfl) rfl
theorem q3589 : (Jvm.Cond.privateMethod ({ cls := "QuillplateModel", name := "keptOf", desc := "(III)LQuillplateModel$Kept;" } : Jvm.MethodName)) ∈ lw_tbl := lw_at lw_m15 125 rfl
theorem q3590 : (Jvm.Cond.instanceMethod ({ cls := "QuillplateModel", name := "keptOf", desc := "(III)LQuillplateModel$Kept;" } : Jvm.MethodName)) ∈ lw_all := lw_g (lw_at lw_m15 126 rfl) rfl
theorem q3591 : (Jvm.Cond.code ({ cls := "QuillplateModel", name := "keptOf", desc := "(III)LQuillplateModel$Kept;" } : Jvm.MethodName) prog_25_method_34_code (7 : Nat) (Option.some (Jvm.ClassFile.FieldType.object "QuillplateModel$Kept"))) ∈ lw_all := lw_g (lw_at lw_m15 127 rfl) rfl
theorem q3592 : (Jvm.Cond.interfaceEntry "QuillplateModel" (238 : Nat)) ∈ lw_tbl := lw_at lw_m15 128 rfl
theorem q3593 : (Jvm.Cond.methodLink "QuillplateModel" (238 : Nat) ({ cls := "java/util/List", name := "iterator", desc := "()Ljava/util/Iterator;" } : Jvm.MethodName)) ∈ lw_all := lw_g (lw_at lw_m15 129 rfl) rfl
theorem q3594 : (Jvm.Cond.interfaceEntry "QuillplateModel" (242 : Nat)) ∈ lw_tbl := lw_at lw_m15 130 rfl
theorem q3595 : (Jvm.Cond.methodLink "QuillplateModel" (242 : Nat) ({ cls := "java/util/Iterator", name := "hasNext", desc := "()Z" } : Jvm.MethodName)) ∈ lw_all := lw_g (lw_at lw_m15 131 rfl) rfl
theorem q3596 : (Jvm.Cond.interfaceEntry "QuillplateModel" (248 : Nat)) ∈ lw_tbl := lw_at lw_m15 132 rfl
theorem q3597 : (Jvm.Cond.methodLink "QuillplateModel" (248 : Nat) ({ cls := "java/util/Iterator", name := "next", desc := "()Ljava/lang/Object;" } : Jvm.MethodName)) ∈ lw_all := lw_g (lw_at lw_m15 133 rfl) rfl
theorem q3630 : (Jvm.Cond.fieldLinkNest "QuillplateModel" (252 : Nat) "QuillplateModel$Kept" "template" "I" "QuillplateModel") ∈ lw_tbl := lw_at lw_m15 166 rfl
theorem q3632 : (Jvm.Cond.fieldLinkNest "QuillplateModel" (255 : Nat) "QuillplateModel$Kept" "from" "I" "QuillplateModel") ∈ lw_tbl := lw_at lw_m15 168 rfl
theorem q3634 : (Jvm.Cond.fieldLinkNest "QuillplateModel" (258 : Nat) "QuillplateModel$Kept" "first" "I" "QuillplateModel") ∈ lw_tbl := lw_at lw_m15 170 rfl
theorem q3641 : (Jvm.Cond.fieldLinkNest "QuillplateModel" (209 : Nat) "QuillplateModel$Kept" "reads" "I" "QuillplateModel") ∈ lw_tbl := lw_at lw_m15 177 rfl
theorem q3695 : (Jvm.Cond.instanceMethod ({ cls := "QuillplateModel", name := "error", desc := "()I" } : Jvm.MethodName)) ∈ lw_all := lw_g (lw_at lw_m15 231 rfl) rfl
theorem q3696 : (Jvm.Cond.selects "QuillplateModel" ({ cls := "QuillplateModel", name := "error", desc := "()I" } : Jvm.MethodName) ({ cls := "QuillplateModel", name := "error", desc := "()I" } : Jvm.MethodName)) ∈ lw_all := lw_g (lw_at lw_m15 232 rfl) rfl
theorem q3697 : (Jvm.Cond.code ({ cls := "QuillplateModel", name := "error", desc := "()I" } : Jvm.MethodName) prog_25_method_37_code (1 : Nat) (Option.some Jvm.ClassFile.FieldType.int)) ∈ lw_all := lw_g (lw_at lw_m15 233 rfl) rfl
theorem q3699 : (Jvm.Cond.instanceMethod ({ cls := "QuillplateModel", name := "errorPlace", desc := "(I)I" } : Jvm.MethodName)) ∈ lw_all := lw_g (lw_at lw_m15 235 rfl) rfl
theorem q3700 : (Jvm.Cond.selects "QuillplateModel" ({ cls := "QuillplateModel", name := "errorPlace", desc := "(I)I" } : Jvm.MethodName) ({ cls := "QuillplateModel", name := "errorPlace", desc := "(I)I" } : Jvm.MethodName)) ∈ lw_all := lw_g (lw_at lw_m15 236 rfl) rfl
theorem q3701 : (Jvm.Cond.code ({ cls := "QuillplateModel", name := "errorPlace", desc := "(I)I" } : Jvm.MethodName) prog_25_method_38_code (2 : Nat) (Option.some Jvm.ClassFile.FieldType.int)) ∈ lw_all := lw_g (lw_at lw_m15 237 rfl) rfl
theorem q3702 : (Jvm.Cond.classLink "QuillplateModel" (285 : Nat) "java/lang/Integer") ∈ lw_all := lw_g (lw_at lw_m15 238 rfl) rfl
theorem q3703 : (Jvm.Cond.methodLink "QuillplateModel" (287 : Nat) ({ cls := "java/lang/Integer", name := "intValue", desc := "()I" } : Jvm.MethodName)) ∈ lw_all := lw_g (lw_at lw_m15 239 rfl) rfl
theorem q3705 : (Jvm.Cond.instanceMethod ({ cls := "QuillplateModel", name := "steps", desc := "()I" } : Jvm.MethodName)) ∈ lw_all := lw_g (lw_at lw_m16 1 rfl) rfl
theorem q3706 : (Jvm.Cond.selects "QuillplateModel" ({ cls := "QuillplateModel", name := "steps", desc := "()I" } : Jvm.MethodName) ({ cls := "QuillplateModel", name := "steps", desc := "()I" } : Jvm.MethodName)) ∈ lw_all := lw_g (lw_at lw_m16 2 rfl) rfl
theorem q3707 : (Jvm.Cond.code ({ cls := "QuillplateModel", name := "steps", desc := "()I" } : Jvm.MethodName) prog_25_method_39_code (1 : Nat) (Option.some Jvm.ClassFile.FieldType.int)) ∈ lw_all := lw_g (lw_at lw_m16 3 rfl) rfl
theorem q3709 : (Jvm.Cond.instanceMethod ({ cls := "QuillplateModel", name := "renewed", desc := "()I" } : Jvm.MethodName)) ∈ lw_all := lw_g (lw_at lw_m16 5 rfl) rfl
theorem q3710 : (Jvm.Cond.selects "QuillplateModel" ({ cls := "QuillplateModel", name := "renewed", desc := "()I" } : Jvm.MethodName) ({ cls := "QuillplateModel", name := "renewed", desc := "()I" } : Jvm.MethodName)) ∈ lw_all := lw_g (lw_at lw_m16 6 rfl) rfl
theorem q3711 : (Jvm.Cond.code ({ cls := "QuillplateModel", name := "renewed", desc := "()I" } : Jvm.MethodName) prog_25_method_40_code (1 : Nat) (Option.some Jvm.ClassFile.FieldType.int)) ∈ lw_all := lw_g (lw_at lw_m16 7 rfl) rfl
theorem q3713 : (Jvm.Cond.instanceMethod ({ cls := "QuillplateModel", name := "reused", desc := "()I" } : Jvm.MethodName)) ∈ lw_all := lw_g (lw_at lw_m16 9 rfl) rfl
theorem q3714 : (Jvm.Cond.selects "QuillplateModel" ({ cls := "QuillplateModel", name := "reused", desc := "()I" } : Jvm.MethodName) ({ cls := "QuillplateModel", name := "reused", desc := "()I" } : Jvm.MethodName)) ∈ lw_all := lw_g (lw_at lw_m16 10 rfl) rfl
theorem q3715 : (Jvm.Cond.code ({ cls := "QuillplateModel", name := "reused", desc := "()I" } : Jvm.MethodName) prog_25_method_41_code (1 : Nat) (Option.some Jvm.ClassFile.FieldType.int)) ∈ lw_all := lw_g (lw_at lw_m16 11 rfl) rfl
theorem q3717 : (Jvm.Cond.instanceMethod ({ cls := "QuillplateModel", name := "parts", desc := "()I" } : Jvm.MethodName)) ∈ lw_all := lw_g (lw_at lw_m16 13 rfl) rfl
theorem q3718 : (Jvm.Cond.selects "QuillplateModel" ({ cls := "QuillplateModel", name := "parts", desc := "()I" } : Jvm.MethodName) ({ cls := "QuillplateModel", name := "parts", desc := "()I" } : Jvm.MethodName)) ∈ lw_all := lw_g (lw_at lw_m16 14 rfl) rfl
theorem q3719 : (Jvm.Cond.code ({ cls := "QuillplateModel", name := "parts", desc := "()I" } : Jvm.MethodName) prog_25_method_42_code (1 : Nat) (Option.some Jvm.ClassFile.FieldType.int)) ∈ lw_all := lw_g (lw_at lw_m16 15 rfl) rfl
theorem q3721 : (Jvm.Cond.instanceMethod ({ cls := "QuillplateModel", name := "length", desc := "()I" } : Jvm.MethodName)) ∈ lw_all := lw_g (lw_at lw_m16 17 rfl) rfl
theorem q3722 : (Jvm.Cond.selects "QuillplateModel" ({ cls := "QuillplateModel", name := "length", desc := "()I" } : Jvm.MethodName) ({ cls := "QuillplateModel", name := "length", desc := "()I" } : Jvm.MethodName)) ∈ lw_all := lw_g (lw_at lw_m16 18 rfl) rfl
theorem q3723 : (Jvm.Cond.code ({ cls := "QuillplateModel", name := "length", desc := "()I" } : Jvm.MethodName) prog_25_method_43_code (1 : Nat) (Option.some Jvm.ClassFile.FieldType.int)) ∈ lw_all := lw_g (lw_at lw_m16 19 rfl) rfl
theorem q3725 : (Jvm.Cond.instanceMethod ({ cls := "QuillplateModel", name := "outSign", desc := "(I)C" } : Jvm.MethodName)) ∈ lw_all := lw_g (lw_at lw_m16 21 rfl) rfl
theorem q3726 : (Jvm.Cond.selects "QuillplateModel" ({ cls := "QuillplateModel", name := "outSign", desc := "(I)C" } : Jvm.MethodName) ({ cls := "QuillplateModel", name := "outSign", desc := "(I)C" } : Jvm.MethodName)) ∈ lw_all := lw_g (lw_at lw_m16 22 rfl) rfl
theorem q3727 : (Jvm.Cond.code ({ cls := "QuillplateModel", name := "outSign", desc := "(I)C" } : Jvm.MethodName) prog_25_method_44_code (2 : Nat) (Option.some Jvm.ClassFile.FieldType.char)) ∈ lw_all := lw_g (lw_at lw_m16 23 rfl) rfl
theorem q3729 : (Jvm.Cond.instanceMethod ({ cls := "QuillplateModel", name := "sum", desc := "()I" } : Jvm.MethodName)) ∈ lw_all := lw_g (lw_at lw_m16 25 rfl) rfl
theorem q3730 : (Jvm.Cond.selects "QuillplateModel" ({ cls := "QuillplateModel", name := "sum", desc := "()I" } : Jvm.MethodName) ({ cls := "QuillplateModel", name := "sum", desc := "()I" } : Jvm.MethodName)) ∈ lw_all := lw_g (lw_at lw_m16 26 rfl) rfl
theorem q3731 : (Jvm.Cond.code ({ cls := "QuillplateModel", name := "sum", desc := "()I" } : Jvm.MethodName) prog_25_method_46_code (1 : Nat) (Option.some Jvm.ClassFile.FieldType.int)) ∈ lw_all := lw_g (lw_at lw_m16 27 rfl) rfl
theorem q3732 : (Jvm.Cond.methodLink "QuillplateModel" (303 : Nat) ({ cls := "QuillplateModel", name := "sumOf", desc := "(Ljava/lang/CharSequence;)I" } : Jvm.MethodName)) ∈ lw_all := lw_g (lw_at lw_m16 28 rfl) rfl
theorem q3733 : (Jvm.Cond.static ({ cls := "QuillplateModel", name := "sumOf", desc := "(Ljava/lang/CharSequence;)I" } : Jvm.MethodName)) ∈ lw_all := lw_g (lw_at lw_m16 29 rfl) rfl
theorem q3734 : (Jvm.Cond.code ({ cls := "QuillplateModel", name := "sumOf", desc := "(Ljava/lang/CharSequence;)I" } : Jvm.MethodName) prog_25_method_45_code (3 : Nat) (Option.some Jvm.ClassFile.FieldType.int)) ∈ lw_all := lw_g (lw_at lw_m16 30 rfl) rfl
theorem q3735 : (Jvm.Cond.interfaceEntry "QuillplateModel" (299 : Nat)) ∈ lw_tbl := lw_at lw_m16 31 rfl
theorem q3736 : (Jvm.Cond.methodLink "QuillplateModel" (299 : Nat) ({ cls := "java/lang/CharSequence", name := "length", desc := "()I" } : Jvm.MethodName)) ∈ lw_all := lw_g (lw_at lw_m16 32 rfl) rfl
theorem q3747 : (Jvm.Cond.interfaceEntry "QuillplateModel" (302 : Nat)) ∈ lw_tbl := lw_at lw_m16 43 rfl
theorem q3748 : (Jvm.Cond.methodLink "QuillplateModel" (302 : Nat) ({ cls := "java/lang/CharSequence", name := "charAt", desc := "(I)C" } : Jvm.MethodName)) ∈ lw_all := lw_g (lw_at lw_m16 44 rfl) rfl
theorem q3766 : (Jvm.Cond.instanceMethod ({ cls := "QuillplateModel", name := "same", desc := "()I" } : Jvm.MethodName)) ∈ lw_all := lw_g (lw_at lw_m16 62 rfl) rfl
theorem q3767 : (Jvm.Cond.selects "QuillplateModel" ({ cls := "QuillplateModel", name := "same", desc := "()I" } : Jvm.MethodName) ({ cls := "QuillplateModel", name := "same", desc := "()I" } : Jvm.MethodName)) ∈ lw_all := lw_g (lw_at lw_m16 63 rfl) rfl
theorem q3768 : (Jvm.Cond.code ({ cls := "QuillplateModel", name := "same", desc := "()I" } : Jvm.MethodName) prog_25_method_49_code (1 : Nat) (Option.some Jvm.ClassFile.FieldType.int)) ∈ lw_all := lw_g (lw_at lw_m16 64 rfl) rfl
theorem q3769 : (Jvm.Cond.methodLink "QuillplateModel" (307 : Nat) ({ cls := "QuillplateModel", name := "sameOf", desc := "()I" } : Jvm.MethodName)) ∈ lw_all := lw_g (lw_at lw_m16 65 rfl) rfl
theorem q3770 : (Jvm.Cond.privateMethod ({ cls := "QuillplateModel", name := "sameOf", desc := "()I" } : Jvm.MethodName)) ∈ lw_tbl := lw_at lw_m16 66 rfl
theorem q3771 : (Jvm.Cond.instanceMethod ({ cls := "QuillplateModel", name := "sameOf", desc := "()I" } : Jvm.MethodName)) ∈ lw_all := lw_g (lw_at lw_m16 67 rfl) rfl
theorem q3772 : (Jvm.Cond.code ({ cls := "QuillplateModel", name := "sameOf", desc := "()I" } : Jvm.MethodName) prog_25_method_47_code (2 : Nat) (Option.some Jvm.ClassFile.FieldType.int)) ∈ lw_all := lw_g (lw_at lw_m16 68 rfl) rfl
theorem q3774 : (Jvm.Cond.instanceMethod ({ cls := "QuillplateModel", name := "gone", desc := "()I" } : Jvm.MethodName)) ∈ lw_all := lw_g (lw_at lw_m16 70 rfl) rfl
theorem q3775 : (Jvm.Cond.selects "QuillplateModel" ({ cls := "QuillplateModel", name := "gone", desc := "()I" } : Jvm.MethodName) ({ cls := "QuillplateModel", name := "gone", desc := "()I" } : Jvm.MethodName)) ∈ lw_all := lw_g (lw_at lw_m16 71 rfl) rfl
theorem q3776 : (Jvm.Cond.code ({ cls := "QuillplateModel", name := "gone", desc := "()I" } : Jvm.MethodName) prog_25_method_50_code (1 : Nat) (Option.some Jvm.ClassFile.FieldType.int)) ∈ lw_all := lw_g (lw_at lw_m16 72 rfl) rfl
theorem q3777 : (Jvm.Cond.methodLink "QuillplateModel" (310 : Nat) ({ cls := "QuillplateModel", name := "endOf", desc := "()I" } : Jvm.MethodName)) ∈ lw_all := lw_g (lw_at lw_m16 73 rfl) rfl
theorem q3778 : (Jvm.Cond.privateMethod ({ cls := "QuillplateModel", name := "endOf", desc := "()I" } : Jvm.MethodName)) ∈ lw_tbl := lw_at lw_m16 74 rfl
theorem q3779 : (Jvm.Cond.instanceMethod ({ cls := "QuillplateModel", name := "endOf", desc := "()I" } : Jvm.MethodName)) ∈ lw_all := lw_g (lw_at lw_m16 75 rfl) rfl
theorem q3780 : (Jvm.Cond.code ({ cls := "QuillplateModel", name := "endOf", desc := "()I" } : Jvm.MethodName) prog_25_method_48_code (3 : Nat) (Option.some Jvm.ClassFile.FieldType.int)) ∈ lw_all := lw_g (lw_at lw_m16 76 rfl) rfl
theorem q3782 : (Jvm.Cond.instanceMethod ({ cls := "QuillplateModel", name := "come", desc := "()I" } : Jvm.MethodName)) ∈ lw_all := lw_g (lw_at lw_m16 78 rfl) rfl
theorem q3783 : (Jvm.Cond.selects "QuillplateModel" ({ cls := "QuillplateModel", name := "come", desc := "()I" } : Jvm.MethodName) ({ cls := "QuillplateModel", name := "come", desc := "()I" } : Jvm.MethodName)) ∈ lw_all := lw_g (lw_at lw_m16 79 rfl) rfl
theorem q3784 : (Jvm.Cond.code ({ cls := "QuillplateModel", name := "come", desc := "()I" } : Jvm.MethodName) prog_25_method_51_code (1 : Nat) (Option.some Jvm.ClassFile.FieldType.int)) ∈ lw_all := lw_g (lw_at lw_m16 80 rfl) rfl
theorem q3786 : (Jvm.Cond.instanceMethod ({ cls := "QuillplateModel", name := "sumAnew", desc := "(I)I" } : Jvm.MethodName)) ∈ lw_all := lw_g (lw_at lw_m16 82 rfl) rfl
theorem q3787 : (Jvm.Cond.selects "QuillplateModel" ({ cls := "QuillplateModel", name := "sumAnew", desc := "(I)I" } : Jvm.MethodName) ({ cls := "QuillplateModel", name := "sumAnew", desc := "(I)I" } : Jvm.MethodName)) ∈ lw_all := lw_g (lw_at lw_m16 83 rfl) rfl
theorem q3788 : (Jvm.Cond.code ({ cls := "QuillplateModel", name := "sumAnew", desc := "(I)I" } : Jvm.MethodName) prog_25_method_52_code (3 : Nat) (Option.some Jvm.ClassFile.FieldType.int)) ∈ lw_all := lw_g (lw_at lw_m16 84 rfl) rfl
theorem q3840 : (Jvm.Cond.castable "QuillplateModel" "java/lang/Object") ∈ lw_tbl := lw_at lw_m16 136 rfl
theorem in_X4 : ∀ w ∈ wsX40, w ∈ lw_all := lw_in wsX40 [2626, 2628, 2630, 2632, 2634, 2636, 2638, 2640] (by decide +kernel) (by decide +kernel)
def RX5 : String := "Quillplate$Reader"
def TX5 : u_T := fun k => match k with
  | 0 => ("Quillplate$Reader", "signs", "[C", true)
  | 1 => ("Quillplate$Reader", "size", "I", true)
  | 2 => ("Quillplate$Reader", "made", "LQuillplate$Template;", true)
  | 3 => ("Quillplate$Reader", "at", "I", false)
  | 4 => ("Quillplate$Reader", "where", "I", false)
  | 5 => ("Quillplate$Reader", "depth", "I", false)
  | 6 => ("Quillplate$Reader", "loops", "I", false)
  | 7 => ("Quillplate$Reader", "macros", "I", false)
  | 8 => ("Quillplate$Reader", "inBlocks", "I", false)
  | 9 => ("Quillplate$Reader", "parts", "I", false)
  | 10 => ("Quillplate$Reader", "trims", "Z", false)
  | _ => ("Quillplate$Reader", "doing", "I", false)
def tyX5 : Nat → FieldType := fun k => match k with
  | 0 => .array .char
  | 1 => .int
  | 2 => .object "Quillplate$Template"
  | 3 => .int
  | 4 => .int
  | 5 => .int
  | 6 => .int
  | 7 => .int
  | 8 => .int
  | 9 => .int
  | 10 => .boolean
  | _ => .int
abbrev wsX50 : List Cond := u_ws RX5 TX5 12
theorem nmX5 : ∀ a, a < 12 → ∀ b, b < 12 → a ≠ b → (TX5 a).2.1 ≠ (TX5 b).2.1 := by decide +kernel
theorem tyX5_ok : ∀ k, k < 12 → parseFieldDescriptor (TX5 k).2.2.1 = some (tyX5 k) := by decide +kernel
abbrev cX5_init : ByteArray := prog_18_method_1_code
def yX5_init : MethodName := ⟨RX5, "<init>", "([CII)V"⟩
abbrev cX5_read : ByteArray := prog_18_method_2_code
def yX5_read : MethodName := ⟨RX5, "read", "()LQuillplate$Template;"⟩
abbrev cX5_items : ByteArray := prog_18_method_8_code
def yX5_items : MethodName := ⟨RX5, "items", "()Ljava/util/ArrayList;"⟩
abbrev cX5_here : ByteArray := prog_18_method_4_code
def yX5_here : MethodName := ⟨RX5, "here", "()C"⟩
abbrev cX5_addText : ByteArray := prog_18_method_9_code
def yX5_addText : MethodName := ⟨RX5, "addText", "(Ljava/util/ArrayList;LQuillplate$Written;)V"⟩
abbrev cX5_check : ByteArray := prog_18_method_3_code
def yX5_check : MethodName := ⟨RX5, "check", "(Z)V"⟩
abbrev cX5_trimmed : ByteArray := prog_18_method_10_code
def yX5_trimmed : MethodName := ⟨RX5, "trimmed", "(Ljava/lang/String;)Ljava/lang/String;"⟩
abbrev cX5_mark : ByteArray := prog_18_method_11_code
def yX5_mark : MethodName := ⟨RX5, "mark", "()LQuillplate$Item;"⟩
abbrev cX5_choice : ByteArray := prog_18_method_17_code
def yX5_choice : MethodName := ⟨RX5, "choice", "(I)LQuillplate$Item;"⟩
abbrev cX5_whole : ByteArray := prog_18_method_21_code
def yX5_whole : MethodName := ⟨RX5, "whole", "()LQuillplate$Expression;"⟩
abbrev cX5_expression : ByteArray := prog_18_method_23_code
def yX5_expression : MethodName := ⟨RX5, "expression", "()LQuillplate$Expression;"⟩
abbrev cX5_sum : ByteArray := prog_18_method_24_code
def yX5_sum : MethodName := ⟨RX5, "sum", "()LQuillplate$Expression;"⟩
abbrev cX5_term : ByteArray := prog_18_method_25_code
def yX5_term : MethodName := ⟨RX5, "term", "()LQuillplate$Expression;"⟩
abbrev cX5_element : ByteArray := prog_18_method_26_code
def yX5_element : MethodName := ⟨RX5, "element", "()LQuillplate$Expression;"⟩
abbrev cX5_atom : ByteArray := prog_18_method_27_code
def yX5_atom : MethodName := ⟨RX5, "atom", "()LQuillplate$Expression;"⟩
abbrev cX5_does : ByteArray := prog_18_method_22_code
def yX5_does : MethodName := ⟨RX5, "does", "(C)Z"⟩
abbrev cX5_takes : ByteArray := prog_18_method_5_code
def yX5_takes : MethodName := ⟨RX5, "takes", "(C)Z"⟩
abbrev cX5_needs : ByteArray := prog_18_method_6_code
def yX5_needs : MethodName := ⟨RX5, "needs", "(C)V"⟩
abbrev cX5_text : ByteArray := prog_18_method_28_code
def yX5_text : MethodName := ⟨RX5, "text", "()LQuillplate$Expression;"⟩
abbrev cX5_letter : ByteArray := prog_18_method_7_code
def yX5_letter : MethodName := ⟨RX5, "letter", "(CC)I"⟩
abbrev cX5_part : ByteArray := prog_18_method_14_code
def yX5_part : MethodName := ⟨RX5, "part", "()Ljava/util/ArrayList;"⟩
abbrev cX5_other : ByteArray := prog_18_method_16_code
def yX5_other : MethodName := ⟨RX5, "other", "()Ljava/util/ArrayList;"⟩
abbrev cX5_endMark : ByteArray := prog_18_method_15_code
def yX5_endMark : MethodName := ⟨RX5, "endMark", "()V"⟩
abbrev cX5_loop : ByteArray := prog_18_method_18_code
def yX5_loop : MethodName := ⟨RX5, "loop", "(I)LQuillplate$Item;"⟩
abbrev cX5_hasRoom : ByteArray := prog_18_method_12_code
def yX5_hasRoom : MethodName := ⟨RX5, "hasRoom", "([LQuillplate$Block;)Z"⟩
abbrev cX5_block : ByteArray := prog_18_method_19_code
def yX5_block : MethodName := ⟨RX5, "block", "(I)LQuillplate$Item;"⟩
abbrev cX5_macro : ByteArray := prog_18_method_20_code
def yX5_macro : MethodName := ⟨RX5, "macro", "(I)LQuillplate$Item;"⟩
abbrev cX5_closed : ByteArray := prog_18_method_13_code
def yX5_closed : MethodName := ⟨RX5, "closed", "(LQuillplate$Item;)LQuillplate$Item;"⟩
theorem q138 : (Jvm.Cond.initialized "Quillplate$Reader") ∈ lw_all := lw_g (lw_at lw_m1 34 rfl) rfl
theorem q762 : (Jvm.Cond.instantiable "Quillplate$Reader" (12 : Nat)) ∈ lw_all := lw_g (lw_at lw_m3 178 rfl) rfl
theorem q764 : (Jvm.Cond.instanceMethod ({ cls := "Quillplate$Reader", name := "<init>", desc := "([CII)V" } : Jvm.MethodName)) ∈ lw_all := lw_g (lw_at lw_m3 180 rfl) rfl
theorem q765 : (Jvm.Cond.code ({ cls := "Quillplate$Reader", name := "<init>", desc := "([CII)V" } : Jvm.MethodName) prog_18_method_1_code (4 : Nat) (Option.none : Option Jvm.ClassFile.FieldType)) ∈ lw_all := lw_g (lw_at lw_m3 181 rfl) rfl
theorem q766 : (Jvm.Cond.methodLink "Quillplate$Reader" (3 : Nat) ({ cls := "java/lang/Object", name := "<init>", desc := "()V" } : Jvm.MethodName)) ∈ lw_all := lw_g (lw_at lw_m3 182 rfl) rfl
theorem q767 : (Jvm.Cond.classLink "Quillplate$Reader" (22 : Nat) "Quillplate$Template") ∈ lw_all := lw_g (lw_at lw_m3 183 rfl) rfl
theorem q769 : (Jvm.Cond.methodLink "Quillplate$Reader" (24 : Nat) ({ cls := "Quillplate$Template", name := "<init>", desc := "(I)V" } : Jvm.MethodName)) ∈ lw_all := lw_g (lw_at lw_m3 185 rfl) rfl
theorem q781 : (Jvm.Cond.fieldLink "Quillplate$Reader" (187 : Nat) "Quillplate$Template" "above" "I") ∈ lw_all := lw_g (lw_at lw_m3 197 rfl) rfl
theorem q782 : (Jvm.Cond.fieldLink "Quillplate$Reader" (133 : Nat) "Quillplate$Template" "marks" "I") ∈ lw_all := lw_g (lw_at lw_m3 198 rfl) rfl
theorem q785 : (Jvm.Cond.fieldLink "Quillplate$Reader" (35 : Nat) "Quillplate$Template" "items" "Ljava/util/ArrayList;") ∈ lw_all := lw_g (lw_at lw_m3 201 rfl) rfl
theorem q789 : (Jvm.Cond.fieldLink "Quillplate$Reader" (143 : Nat) "Quillplate$Template" "blocks" "[LQuillplate$Block;") ∈ lw_all := lw_g (lw_at lw_m3 205 rfl) rfl
theorem q791 : (Jvm.Cond.fieldLink "Quillplate$Reader" (154 : Nat) "Quillplate$Template" "macros" "[LQuillplate$Block;") ∈ lw_all := lw_g (lw_at lw_m3 207 rfl) rfl
theorem q806 : (Jvm.Cond.fieldLink "Quillplate$Reader" (15 : Nat) "Quillplate$Reader" "signs" "[C") ∈ lw_all := lw_g (lw_at lw_m3 222 rfl) rfl
theorem q807 : (Jvm.Cond.fieldLink "Quillplate$Reader" (19 : Nat) "Quillplate$Reader" "size" "I") ∈ lw_all := lw_g (lw_at lw_m3 223 rfl) rfl
theorem q808 : (Jvm.Cond.fieldLink "Quillplate$Reader" (27 : Nat) "Quillplate$Reader" "made" "LQuillplate$Template;") ∈ lw_all := lw_g (lw_at lw_m3 224 rfl) rfl
theorem q809 : (Jvm.Cond.fieldLink "Quillplate$Reader" (38 : Nat) "Quillplate$Reader" "at" "I") ∈ lw_all := lw_g (lw_at lw_m3 225 rfl) rfl
theorem q810 : (Jvm.Cond.fieldLink "Quillplate$Reader" (9 : Nat) "Quillplate$Reader" "where" "I") ∈ lw_all := lw_g (lw_at lw_m3 226 rfl) rfl
theorem q811 : (Jvm.Cond.fieldLink "Quillplate$Reader" (100 : Nat) "Quillplate$Reader" "depth" "I") ∈ lw_all := lw_g (lw_at lw_m3 227 rfl) rfl
theorem q812 : (Jvm.Cond.fieldLink "Quillplate$Reader" (160 : Nat) "Quillplate$Reader" "loops" "I") ∈ lw_all := lw_g (lw_at lw_m3 228 rfl) rfl
theorem q813 : (Jvm.Cond.fieldLink "Quillplate$Reader" (163 : Nat) "Quillplate$Reader" "macros" "I") ∈ lw_all := lw_g (lw_at lw_m3 229 rfl) rfl
theorem q814 : (Jvm.Cond.fieldLink "Quillplate$Reader" (199 : Nat) "Quillplate$Reader" "inBlocks" "I") ∈ lw_all := lw_g (lw_at lw_m3 230 rfl) rfl
theorem q815 : (Jvm.Cond.fieldLink "Quillplate$Reader" (165 : Nat) "Quillplate$Reader" "parts" "I") ∈ lw_all := lw_g (lw_at lw_m3 231 rfl) rfl
theorem q816 : (Jvm.Cond.fieldLink "Quillplate$Reader" (70 : Nat) "Quillplate$Reader" "trims" "Z") ∈ lw_all := lw_g (lw_at lw_m3 232 rfl) rfl
theorem q817 : (Jvm.Cond.fieldLink "Quillplate$Reader" (234 : Nat) "Quillplate$Reader" "doing" "I") ∈ lw_all := lw_g (lw_at lw_m3 233 rfl) rfl
theorem q818 : (Jvm.Cond.laysFinal "Quillplate$Reader" "Quillplate$Reader" "signs" "[C") ∈ lw_all := lw_g (lw_at lw_m3 234 rfl) rfl
theorem q819 : (Jvm.Cond.soleField "Quillplate$Reader" "signs") ∈ lw_all := lw_g (lw_at lw_m3 235 rfl) rfl
theorem q820 : (Jvm.Cond.laysFinal "Quillplate$Reader" "Quillplate$Reader" "size" "I") ∈ lw_all := lw_g (lw_at lw_m3 236 rfl) rfl
theorem q821 : (Jvm.Cond.soleField "Quillplate$Reader" "size") ∈ lw_all := lw_g (lw_at lw_m3 237 rfl) rfl
theorem q822 : (Jvm.Cond.laysFinal "Quillplate$Reader" "Quillplate$Reader" "made" "LQuillplate$Template;") ∈ lw_all := lw_g (lw_at lw_m3 238 rfl) rfl
theorem q823 : (Jvm.Cond.soleField "Quillplate$Reader" "made") ∈ lw_all := lw_g (lw_at lw_m3 239 rfl) rfl
theorem q824 : (Jvm.Cond.lays "Quillplate$Reader" "Quillplate$Reader" "at" "I") ∈ lw_all := lw_g (lw_at lw_m4 0 rfl) rfl
theorem q825 : (Jvm.Cond.soleField "Quillplate$Reader" "at") ∈ lw_all := lw_g (lw_at lw_m4 1 rfl) rfl
theorem q826 : (Jvm.Cond.lays "Quillplate$Reader" "Quillplate$Reader" "where" "I") ∈ lw_all := lw_g (lw_at lw_m4 2 rfl) rfl
theorem q827 : (Jvm.Cond.soleField "Quillplate$Reader" "where") ∈ lw_all := lw_g (lw_at lw_m4 3 rfl) rfl
theorem q828 : (Jvm.Cond.lays "Quillplate$Reader" "Quillplate$Reader" "depth" "I") ∈ lw_all := lw_g (lw_at lw_m4 4 rfl) rfl
theorem q829 : (Jvm.Cond.soleField "Quillplate$Reader" "depth") ∈ lw_all := lw_g (lw_at lw_m4 5 rfl) rfl
theorem q830 : (Jvm.Cond.lays "Quillplate$Reader" "Quillplate$Reader" "loops" "I") ∈ lw_all := lw_g (lw_at lw_m4 6 rfl) rfl
theorem q831 : (Jvm.Cond.soleField "Quillplate$Reader" "loops") ∈ lw_all := lw_g (lw_at lw_m4 7 rfl) rfl
theorem q832 : (Jvm.Cond.lays "Quillplate$Reader" "Quillplate$Reader" "macros" "I") ∈ lw_all := lw_g (lw_at lw_m4 8 rfl) rfl
theorem q833 : (Jvm.Cond.soleField "Quillplate$Reader" "macros") ∈ lw_all := lw_g (lw_at lw_m4 9 rfl) rfl
theorem q834 : (Jvm.Cond.lays "Quillplate$Reader" "Quillplate$Reader" "inBlocks" "I") ∈ lw_all := lw_g (lw_at lw_m4 10 rfl) rfl
theorem q835 : (Jvm.Cond.soleField "Quillplate$Reader" "inBlocks") ∈ lw_all := lw_g (lw_at lw_m4 11 rfl) rfl
theorem q836 : (Jvm.Cond.lays "Quillplate$Reader" "Quillplate$Reader" "parts" "I") ∈ lw_all := lw_g (lw_at lw_m4 12 rfl) rfl
theorem q837 : (Jvm.Cond.soleField "Quillplate$Reader" "parts") ∈ lw_all := lw_g (lw_at lw_m4 13 rfl) rfl
theorem q838 : (Jvm.Cond.lays "Quillplate$Reader" "Quillplate$Reader" "trims" "Z") ∈ lw_all := lw_g (lw_at lw_m4 14 rfl) rfl
theorem q839 : (Jvm.Cond.soleField "Quillplate$Reader" "trims") ∈ lw_all := lw_g (lw_at lw_m4 15 rfl) rfl
theorem q840 : (Jvm.Cond.lays "Quillplate$Reader" "Quillplate$Reader" "doing" "I") ∈ lw_all := lw_g (lw_at lw_m4 16 rfl) rfl
theorem q841 : (Jvm.Cond.soleField "Quillplate$Reader" "doing") ∈ lw_all := lw_g (lw_at lw_m4 17 rfl) rfl
theorem q842 : (Jvm.Cond.superclass "Quillplate$Reader" "java/lang/Object") ∈ lw_all := lw_g (lw_at lw_m4 18 rfl) rfl
theorem q844 : (Jvm.Cond.instanceMethod ({ cls := "Quillplate$Reader", name := "read", desc := "()LQuillplate$Template;" } : Jvm.MethodName)) ∈ lw_all := lw_g (lw_at lw_m4 20 rfl) rfl
theorem q845 : (Jvm.Cond.selects "Quillplate$Reader" ({ cls := "Quillplate$Reader", name := "read", desc := "()LQuillplate$Template;" } : Jvm.MethodName) ({ cls := "Quillplate$Reader", name := "read", desc := "()LQuillplate$Template;" } : Jvm.MethodName)) ∈ lw_all := lw_g (lw_at lw_m4 21 rfl) rfl
theorem q846 : (Jvm.Cond.code ({ cls := "Quillplate$Reader", name := "read", desc := "()LQuillplate$Template;" } : Jvm.MethodName) prog_18_method_2_code (1 : Nat) (Option.some (Jvm.ClassFile.FieldType.object "Quillplate$Template"))) ∈ lw_all := lw_g (lw_at lw_m4 22 rfl) rfl
theorem q847 : (Jvm.Cond.methodLink "Quillplate$Reader" (31 : Nat) ({ cls := "Quillplate$Reader", name := "items", desc := "()Ljava/util/ArrayList;" } : Jvm.MethodName)) ∈ lw_all := lw_g (lw_at lw_m4 23 rfl) rfl
theorem q848 : (Jvm.Cond.privateMethod ({ cls := "Quillplate$Reader", name := "items", desc := "()Ljava/util/ArrayList;" } : Jvm.MethodName)) ∈ lw_tbl := lw_at lw_m4 24 rfl
theorem q849 : (Jvm.Cond.instanceMethod ({ cls := "Quillplate$Reader", name := "items", desc := "()Ljava/util/ArrayList;" } : Jvm.MethodName)) ∈ lw_all := lw_g (lw_at lw_m4 25 rfl) rfl
theorem q850 : (Jvm.Cond.code ({ cls := "Quillplate$Reader", name := "items", desc := "()Ljava/util/ArrayList;" } : Jvm.MethodName) prog_18_method_8_code (4 : Nat) (Option.some (Jvm.ClassFile.FieldType.object "java/util/ArrayList"))) ∈ lw_all := lw_g (lw_at lw_m4 26 rfl) rfl
theorem q851 : (Jvm.Cond.classLink "Quillplate$Reader" (60 : Nat) "java/util/ArrayList") ∈ lw_all := lw_g (lw_at lw_m4 27 rfl) rfl
theorem q852 : (Jvm.Cond.methodLink "Quillplate$Reader" (62 : Nat) ({ cls := "java/util/ArrayList", name := "<init>", desc := "()V" } : Jvm.MethodName)) ∈ lw_all := lw_g (lw_at lw_m4 28 rfl) rfl
theorem q853 : (Jvm.Cond.methodLink "Quillplate$Reader" (48 : Nat) ({ cls := "Quillplate$Reader", name := "here", desc := "()C" } : Jvm.MethodName)) ∈ lw_all := lw_g (lw_at lw_m4 29 rfl) rfl
theorem q854 : (Jvm.Cond.privateMethod ({ cls := "Quillplate$Reader", name := "here", desc := "()C" } : Jvm.MethodName)) ∈ lw_tbl := lw_at lw_m4 30 rfl
theorem q855 : (Jvm.Cond.instanceMethod ({ cls := "Quillplate$Reader", name := "here", desc := "()C" } : Jvm.MethodName)) ∈ lw_all := lw_g (lw_at lw_m4 31 rfl) rfl
theorem q856 : (Jvm.Cond.code ({ cls := "Quillplate$Reader", name := "here", desc := "()C" } : Jvm.MethodName) prog_18_method_4_code (1 : Nat) (Option.some Jvm.ClassFile.FieldType.char)) ∈ lw_all := lw_g (lw_at lw_m4 32 rfl) rfl
theorem q857 : (Jvm.Cond.classLink "Quillplate$Reader" (63 : Nat) "Quillplate$Written") ∈ lw_all := lw_g (lw_at lw_m4 33 rfl) rfl
theorem q859 : (Jvm.Cond.stringRef "Quillplate$Reader" (65 : Nat) "") ∈ lw_tbl := lw_at lw_m4 35 rfl
theorem q860 : (Jvm.Cond.methodLink "Quillplate$Reader" (67 : Nat) ({ cls := "Quillplate$Written", name := "<init>", desc := "(Ljava/lang/String;)V" } : Jvm.MethodName)) ∈ lw_all := lw_g (lw_at lw_m4 36 rfl) rfl
theorem q868 : (Jvm.Cond.fieldLink "Quillplate$Reader" (74 : Nat) "Quillplate$Written" "text" "Ljava/lang/String;") ∈ lw_all := lw_g (lw_at lw_m4 44 rfl) rfl
theorem q882 : (Jvm.Cond.classLink "Quillplate$Reader" (78 : Nat) "java/lang/StringBuilder") ∈ lw_all := lw_g (lw_at lw_m4 58 rfl) rfl
theorem q883 : (Jvm.Cond.methodLink "Quillplate$Reader" (80 : Nat) ({ cls := "java/lang/StringBuilder", name := "<init>", desc := "()V" } : Jvm.MethodName)) ∈ lw_all := lw_g (lw_at lw_m4 59 rfl) rfl
theorem q884 : (Jvm.Cond.methodLink "Quillplate$Reader" (81 : Nat) ({ cls := "java/lang/StringBuilder", name := "append", desc := "(Ljava/lang/String;)Ljava/lang/StringBuilder;" } : Jvm.MethodName)) ∈ lw_all := lw_g (lw_at lw_m4 60 rfl) rfl
theorem q885 : (Jvm.Cond.methodLink "Quillplate$Reader" (85 : Nat) ({ cls := "java/lang/StringBuilder", name := "append", desc := "(C)Ljava/lang/StringBuilder;" } : Jvm.MethodName)) ∈ lw_all := lw_g (lw_at lw_m4 61 rfl) rfl
theorem q907 : (Jvm.Cond.methodLink "Quillplate$Reader" (88 : Nat) ({ cls := "java/lang/StringBuilder", name := "toString", desc := "()Ljava/lang/String;" } : Jvm.MethodName)) ∈ lw_all := lw_g (lw_at lw_m4 83 rfl) rfl
theorem q908 : (Jvm.Cond.methodLinkNest "Quillplate$Reader" (92 : Nat) ({ cls := "Quillplate", name := "behind", desc := "(CI)I" } : Jvm.MethodName) "Quillplate") ∈ lw_tbl := lw_at lw_m4 84 rfl
theorem q911 : (Jvm.Cond.methodLink "Quillplate$Reader" (96 : Nat) ({ cls := "Quillplate$Reader", name := "addText", desc := "(Ljava/util/ArrayList;LQuillplate$Written;)V" } : Jvm.MethodName)) ∈ lw_all := lw_g (lw_at lw_m4 87 rfl) rfl
theorem q912 : (Jvm.Cond.static ({ cls := "Quillplate$Reader", name := "addText", desc := "(Ljava/util/ArrayList;LQuillplate$Written;)V" } : Jvm.MethodName)) ∈ lw_all := lw_g (lw_at lw_m4 88 rfl) rfl
theorem q913 : (Jvm.Cond.code ({ cls := "Quillplate$Reader", name := "addText", desc := "(Ljava/util/ArrayList;LQuillplate$Written;)V" } : Jvm.MethodName) prog_18_method_9_code (2 : Nat) (Option.none : Option Jvm.ClassFile.FieldType)) ∈ lw_all := lw_g (lw_at lw_m4 89 rfl) rfl
theorem q914 : (Jvm.Cond.methodLink "Quillplate$Reader" (115 : Nat) ({ cls := "java/lang/String", name := "isEmpty", desc := "()Z" } : Jvm.MethodName)) ∈ lw_all := lw_g (lw_at lw_m4 90 rfl) rfl
theorem q918 : (Jvm.Cond.methodLink "Quillplate$Reader" (111 : Nat) ({ cls := "java/util/ArrayList", name := "add", desc := "(Ljava/lang/Object;)Z" } : Jvm.MethodName)) ∈ lw_all := lw_g (lw_at lw_m4 94 rfl) rfl
theorem q955 : (Jvm.Cond.selects "Quillplate$Reader" ({ cls := "java/lang/Object", name := "getClass", desc := "()Ljava/lang/Class;" } : Jvm.MethodName) ({ cls := "java/lang/Object", name := "getClass", desc := "()Ljava/lang/Class;" } : Jvm.MethodName)) ∈ lw_all := lw_g (lw_at lw_m4 131 rfl) rfl
theorem q996 : (Jvm.Cond.methodLink "Quillplate$Reader" (41 : Nat) ({ cls := "Quillplate$Reader", name := "check", desc := "(Z)V" } : Jvm.MethodName)) ∈ lw_all := lw_g (lw_at lw_m4 172 rfl) rfl
theorem q997 : (Jvm.Cond.privateMethod ({ cls := "Quillplate$Reader", name := "check", desc := "(Z)V" } : Jvm.MethodName)) ∈ lw_tbl := lw_at lw_m4 173 rfl
theorem q998 : (Jvm.Cond.instanceMethod ({ cls := "Quillplate$Reader", name := "check", desc := "(Z)V" } : Jvm.MethodName)) ∈ lw_all := lw_g (lw_at lw_m4 174 rfl) rfl
theorem q999 : (Jvm.Cond.code ({ cls := "Quillplate$Reader", name := "check", desc := "(Z)V" } : Jvm.MethodName) prog_18_method_3_code (2 : Nat) (Option.none : Option Jvm.ClassFile.FieldType)) ∈ lw_all := lw_g (lw_at lw_m4 175 rfl) rfl
theorem q1000 : (Jvm.Cond.classLink "Quillplate$Reader" (45 : Nat) "Quillplate$FaultException") ∈ lw_all := lw_g (lw_at lw_m4 176 rfl) rfl
theorem q1009 : (Jvm.Cond.methodLink "Quillplate$Reader" (47 : Nat) ({ cls := "Quillplate$FaultException", name := "<init>", desc := "(I)V" } : Jvm.MethodName)) ∈ lw_all := lw_g (lw_at lw_m4 185 rfl) rfl
theorem q1025 : (Jvm.Cond.methodLink "Quillplate$Reader" (103 : Nat) ({ cls := "Quillplate$Reader", name := "trimmed", desc := "(Ljava/lang/String;)Ljava/lang/String;" } : Jvm.MethodName)) ∈ lw_all := lw_g (lw_at lw_m4 201 rfl) rfl
theorem q1026 : (Jvm.Cond.static ({ cls := "Quillplate$Reader", name := "trimmed", desc := "(Ljava/lang/String;)Ljava/lang/String;" } : Jvm.MethodName)) ∈ lw_all := lw_g (lw_at lw_m4 202 rfl) rfl
theorem q1027 : (Jvm.Cond.code ({ cls := "Quillplate$Reader", name := "trimmed", desc := "(Ljava/lang/String;)Ljava/lang/String;" } : Jvm.MethodName) prog_18_method_10_code (2 : Nat) (Option.some (Jvm.ClassFile.FieldType.object "java/lang/String"))) ∈ lw_all := lw_g (lw_at lw_m4 203 rfl) rfl
theorem q1028 : (Jvm.Cond.methodLink "Quillplate$Reader" (121 : Nat) ({ cls := "java/lang/String", name := "length", desc := "()I" } : Jvm.MethodName)) ∈ lw_all := lw_g (lw_at lw_m4 204 rfl) rfl
theorem q1029 : (Jvm.Cond.methodLink "Quillplate$Reader" (125 : Nat) ({ cls := "java/lang/String", name := "charAt", desc := "(I)C" } : Jvm.MethodName)) ∈ lw_all := lw_g (lw_at lw_m4 205 rfl) rfl
theorem q1044 : (Jvm.Cond.methodLink "Quillplate$Reader" (129 : Nat) ({ cls := "java/lang/String", name := "substring", desc := "(II)Ljava/lang/String;" } : Jvm.MethodName)) ∈ lw_all := lw_g (lw_at lw_m4 220 rfl) rfl
theorem q1068 : (Jvm.Cond.methodLink "Quillplate$Reader" (107 : Nat) ({ cls := "Quillplate$Reader", name := "mark", desc := "()LQuillplate$Item;" } : Jvm.MethodName)) ∈ lw_all := lw_g (lw_at lw_m5 4 rfl) rfl
theorem q1069 : (Jvm.Cond.privateMethod ({ cls := "Quillplate$Reader", name := "mark", desc := "()LQuillplate$Item;" } : Jvm.MethodName)) ∈ lw_tbl := lw_at lw_m5 5 rfl
theorem q1070 : (Jvm.Cond.instanceMethod ({ cls := "Quillplate$Reader", name := "mark", desc := "()LQuillplate$Item;" } : Jvm.MethodName)) ∈ lw_all := lw_g (lw_at lw_m5 6 rfl) rfl
theorem q1071 : (Jvm.Cond.code ({ cls := "Quillplate$Reader", name := "mark", desc := "()LQuillplate$Item;" } : Jvm.MethodName) prog_18_method_11_code (5 : Nat) (Option.some (Jvm.ClassFile.FieldType.object "Quillplate$Item"))) ∈ lw_all := lw_g (lw_at lw_m5 7 rfl) rfl
theorem q1072 : (Jvm.Cond.methodLink "Quillplate$Reader" (136 : Nat) ({ cls := "Quillplate$Reader", name := "choice", desc := "(I)LQuillplate$Item;" } : Jvm.MethodName)) ∈ lw_all := lw_g (lw_at lw_m5 8 rfl) rfl
theorem q1073 : (Jvm.Cond.privateMethod ({ cls := "Quillplate$Reader", name := "choice", desc := "(I)LQuillplate$Item;" } : Jvm.MethodName)) ∈ lw_tbl := lw_at lw_m5 9 rfl
theorem q1074 : (Jvm.Cond.instanceMethod ({ cls := "Quillplate$Reader", name := "choice", desc := "(I)LQuillplate$Item;" } : Jvm.MethodName)) ∈ lw_all := lw_g (lw_at lw_m5 10 rfl) rfl
theorem q1075 : (Jvm.Cond.code ({ cls := "Quillplate$Reader", name := "choice", desc := "(I)LQuillplate$Item;" } : Jvm.MethodName) prog_18_method_17_code (4 : Nat) (Option.some (Jvm.ClassFile.FieldType.object "Quillplate$Item"))) ∈ lw_all := lw_g (lw_at lw_m5 11 rfl) rfl
theorem q1076 : (Jvm.Cond.methodLink "Quillplate$Reader" (202 : Nat) ({ cls := "Quillplate$Reader", name := "whole", desc := "()LQuillplate$Expression;" } : Jvm.MethodName)) ∈ lw_all := lw_g (lw_at lw_m5 12 rfl) rfl
theorem q1077 : (Jvm.Cond.privateMethod ({ cls := "Quillplate$Reader", name := "whole", desc := "()LQuillplate$Expression;" } : Jvm.MethodName)) ∈ lw_tbl := lw_at lw_m5 13 rfl
theorem q1078 : (Jvm.Cond.instanceMethod ({ cls := "Quillplate$Reader", name := "whole", desc := "()LQuillplate$Expression;" } : Jvm.MethodName)) ∈ lw_all := lw_g (lw_at lw_m5 14 rfl) rfl
theorem q1079 : (Jvm.Cond.code ({ cls := "Quillplate$Reader", name := "whole", desc := "()LQuillplate$Expression;" } : Jvm.MethodName) prog_18_method_21_code (1 : Nat) (Option.some (Jvm.ClassFile.FieldType.object "Quillplate$Expression"))) ∈ lw_all := lw_g (lw_at lw_m5 15 rfl) rfl
theorem q1080 : (Jvm.Cond.methodLink "Quillplate$Reader" (237 : Nat) ({ cls := "Quillplate$Reader", name := "expression", desc := "()LQuillplate$Expression;" } : Jvm.MethodName)) ∈ lw_all := lw_g (lw_at lw_m5 16 rfl) rfl
theorem q1081 : (Jvm.Cond.privateMethod ({ cls := "Quillplate$Reader", name := "expression", desc := "()LQuillplate$Expression;" } : Jvm.MethodName)) ∈ lw_tbl := lw_at lw_m5 17 rfl
theorem q1082 : (Jvm.Cond.instanceMethod ({ cls := "Quillplate$Reader", name := "expression", desc := "()LQuillplate$Expression;" } : Jvm.MethodName)) ∈ lw_all := lw_g (lw_at lw_m5 18 rfl) rfl
theorem q1083 : (Jvm.Cond.code ({ cls := "Quillplate$Reader", name := "expression", desc := "()LQuillplate$Expression;" } : Jvm.MethodName) prog_18_method_23_code (3 : Nat) (Option.some (Jvm.ClassFile.FieldType.object "Quillplate$Expression"))) ∈ lw_all := lw_g (lw_at lw_m5 19 rfl) rfl
theorem q1084 : (Jvm.Cond.methodLink "Quillplate$Reader" (240 : Nat) ({ cls := "Quillplate$Reader", name := "sum", desc := "()LQuillplate$Expression;" } : Jvm.MethodName)) ∈ lw_all := lw_g (lw_at lw_m5 20 rfl) rfl
theorem q1085 : (Jvm.Cond.privateMethod ({ cls := "Quillplate$Reader", name := "sum", desc := "()LQuillplate$Expression;" } : Jvm.MethodName)) ∈ lw_tbl := lw_at lw_m5 21 rfl
theorem q1086 : (Jvm.Cond.instanceMethod ({ cls := "Quillplate$Reader", name := "sum", desc := "()LQuillplate$Expression;" } : Jvm.MethodName)) ∈ lw_all := lw_g (lw_at lw_m5 22 rfl) rfl
theorem q1087 : (Jvm.Cond.code ({ cls := "Quillplate$Reader", name := "sum", desc := "()LQuillplate$Expression;" } : Jvm.MethodName) prog_18_method_24_code (2 : Nat) (Option.some (Jvm.ClassFile.FieldType.object "Quillplate$Expression"))) ∈ lw_all := lw_g (lw_at lw_m5 23 rfl) rfl
theorem q1088 : (Jvm.Cond.methodLink "Quillplate$Reader" (251 : Nat) ({ cls := "Quillplate$Reader", name := "term", desc := "()LQuillplate$Expression;" } : Jvm.MethodName)) ∈ lw_all := lw_g (lw_at lw_m5 24 rfl) rfl
theorem q1089 : (Jvm.Cond.privateMethod ({ cls := "Quillplate$Reader", name := "term", desc := "()LQuillplate$Expression;" } : Jvm.MethodName)) ∈ lw_tbl := lw_at lw_m5 25 rfl
theorem q1090 : (Jvm.Cond.instanceMethod ({ cls := "Quillplate$Reader", name := "term", desc := "()LQuillplate$Expression;" } : Jvm.MethodName)) ∈ lw_all := lw_g (lw_at lw_m5 26 rfl) rfl
theorem q1091 : (Jvm.Cond.code ({ cls := "Quillplate$Reader", name := "term", desc := "()LQuillplate$Expression;" } : Jvm.MethodName) prog_18_method_25_code (3 : Nat) (Option.some (Jvm.ClassFile.FieldType.object "Quillplate$Expression"))) ∈ lw_all := lw_g (lw_at lw_m5 27 rfl) rfl
theorem q1092 : (Jvm.Cond.methodLink "Quillplate$Reader" (254 : Nat) ({ cls := "Quillplate$Reader", name := "element", desc := "()LQuillplate$Expression;" } : Jvm.MethodName)) ∈ lw_all := lw_g (lw_at lw_m5 28 rfl) rfl
theorem q1093 : (Jvm.Cond.privateMethod ({ cls := "Quillplate$Reader", name := "element", desc := "()LQuillplate$Expression;" } : Jvm.MethodName)) ∈ lw_tbl := lw_at lw_m5 29 rfl
theorem q1094 : (Jvm.Cond.instanceMethod ({ cls := "Quillplate$Reader", name := "element", desc := "()LQuillplate$Expression;" } : Jvm.MethodName)) ∈ lw_all := lw_g (lw_at lw_m5 30 rfl) rfl
theorem q1095 : (Jvm.Cond.code ({ cls := "Quillplate$Reader", name := "element", desc := "()LQuillplate$Expression;" } : Jvm.MethodName) prog_18_method_26_code (2 : Nat) (Option.some (Jvm.ClassFile.FieldType.object "Quillplate$Expression"))) ∈ lw_all := lw_g (lw_at lw_m5 31 rfl) rfl
theorem q1096 : (Jvm.Cond.methodLink "Quillplate$Reader" (262 : Nat) ({ cls := "Quillplate$Reader", name := "atom", desc := "()LQuillplate$Expression;" } : Jvm.MethodName)) ∈ lw_all := lw_g (lw_at lw_m5 32 rfl) rfl
theorem q1097 : (Jvm.Cond.privateMethod ({ cls := "Quillplate$Reader", name := "atom", desc := "()LQuillplate$Expression;" } : Jvm.MethodName)) ∈ lw_tbl := lw_at lw_m5 33 rfl
theorem q1098 : (Jvm.Cond.instanceMethod ({ cls := "Quillplate$Reader", name := "atom", desc := "()LQuillplate$Expression;" } : Jvm.MethodName)) ∈ lw_all := lw_g (lw_at lw_m5 34 rfl) rfl
theorem q1099 : (Jvm.Cond.code ({ cls := "Quillplate$Reader", name := "atom", desc := "()LQuillplate$Expression;" } : Jvm.MethodName) prog_18_method_27_code (4 : Nat) (Option.some (Jvm.ClassFile.FieldType.object "Quillplate$Expression"))) ∈ lw_all := lw_g (lw_at lw_m5 35 rfl) rfl
theorem q1100 : (Jvm.Cond.methodLinkNest "Quillplate$Reader" (56 : Nat) ({ cls := "Quillplate", name := "isIn", desc := "(CCC)Z" } : Jvm.MethodName) "Quillplate") ∈ lw_tbl := lw_at lw_m5 36 rfl
theorem q1103 : (Jvm.Cond.classLink "Quillplate$Reader" (265 : Nat) "Quillplate$Name") ∈ lw_all := lw_g (lw_at lw_m5 39 rfl) rfl
theorem q1105 : (Jvm.Cond.methodLink "Quillplate$Reader" (267 : Nat) ({ cls := "Quillplate$Name", name := "<init>", desc := "(C)V" } : Jvm.MethodName)) ∈ lw_all := lw_g (lw_at lw_m5 41 rfl) rfl
theorem q1116 : (Jvm.Cond.methodLink "Quillplate$Reader" (243 : Nat) ({ cls := "Quillplate$Reader", name := "does", desc := "(C)Z" } : Jvm.MethodName)) ∈ lw_all := lw_g (lw_at lw_m5 52 rfl) rfl
theorem q1117 : (Jvm.Cond.privateMethod ({ cls := "Quillplate$Reader", name := "does", desc := "(C)Z" } : Jvm.MethodName)) ∈ lw_tbl := lw_at lw_m5 53 rfl
theorem q1118 : (Jvm.Cond.instanceMethod ({ cls := "Quillplate$Reader", name := "does", desc := "(C)Z" } : Jvm.MethodName)) ∈ lw_all := lw_g (lw_at lw_m5 54 rfl) rfl
theorem q1119 : (Jvm.Cond.code ({ cls := "Quillplate$Reader", name := "does", desc := "(C)Z" } : Jvm.MethodName) prog_18_method_22_code (3 : Nat) (Option.some Jvm.ClassFile.FieldType.boolean)) ∈ lw_all := lw_g (lw_at lw_m5 55 rfl) rfl
theorem q1120 : (Jvm.Cond.classLink "Quillplate$Reader" (257 : Nat) "Quillplate$Changed") ∈ lw_all := lw_g (lw_at lw_m5 56 rfl) rfl
theorem q1122 : (Jvm.Cond.methodLink "Quillplate$Reader" (259 : Nat) ({ cls := "Quillplate$Changed", name := "<init>", desc := "(CLQuillplate$Expression;LQuillplate$Expression;I)V" } : Jvm.MethodName)) ∈ lw_all := lw_g (lw_at lw_m5 58 rfl) rfl
theorem q1139 : (Jvm.Cond.methodLink "Quillplate$Reader" (52 : Nat) ({ cls := "Quillplate$Reader", name := "takes", desc := "(C)Z" } : Jvm.MethodName)) ∈ lw_all := lw_g (lw_at lw_m5 75 rfl) rfl
theorem q1140 : (Jvm.Cond.privateMethod ({ cls := "Quillplate$Reader", name := "takes", desc := "(C)Z" } : Jvm.MethodName)) ∈ lw_tbl := lw_at lw_m5 76 rfl
theorem q1141 : (Jvm.Cond.instanceMethod ({ cls := "Quillplate$Reader", name := "takes", desc := "(C)Z" } : Jvm.MethodName)) ∈ lw_all := lw_g (lw_at lw_m5 77 rfl) rfl
theorem q1142 : (Jvm.Cond.code ({ cls := "Quillplate$Reader", name := "takes", desc := "(C)Z" } : Jvm.MethodName) prog_18_method_5_code (3 : Nat) (Option.some Jvm.ClassFile.FieldType.boolean)) ∈ lw_all := lw_g (lw_at lw_m5 78 rfl) rfl
theorem q1143 : (Jvm.Cond.methodLink "Quillplate$Reader" (168 : Nat) ({ cls := "Quillplate$Reader", name := "needs", desc := "(C)V" } : Jvm.MethodName)) ∈ lw_all := lw_g (lw_at lw_m5 79 rfl) rfl
theorem q1144 : (Jvm.Cond.privateMethod ({ cls := "Quillplate$Reader", name := "needs", desc := "(C)V" } : Jvm.MethodName)) ∈ lw_tbl := lw_at lw_m5 80 rfl
theorem q1145 : (Jvm.Cond.instanceMethod ({ cls := "Quillplate$Reader", name := "needs", desc := "(C)V" } : Jvm.MethodName)) ∈ lw_all := lw_g (lw_at lw_m5 81 rfl) rfl
theorem q1146 : (Jvm.Cond.code ({ cls := "Quillplate$Reader", name := "needs", desc := "(C)V" } : Jvm.MethodName) prog_18_method_6_code (2 : Nat) (Option.none : Option Jvm.ClassFile.FieldType)) ∈ lw_all := lw_g (lw_at lw_m5 82 rfl) rfl
theorem q1147 : (Jvm.Cond.methodLink "Quillplate$Reader" (269 : Nat) ({ cls := "Quillplate$Reader", name := "text", desc := "()LQuillplate$Expression;" } : Jvm.MethodName)) ∈ lw_all := lw_g (lw_at lw_m5 83 rfl) rfl
theorem q1148 : (Jvm.Cond.privateMethod ({ cls := "Quillplate$Reader", name := "text", desc := "()LQuillplate$Expression;" } : Jvm.MethodName)) ∈ lw_tbl := lw_at lw_m5 84 rfl
theorem q1149 : (Jvm.Cond.instanceMethod ({ cls := "Quillplate$Reader", name := "text", desc := "()LQuillplate$Expression;" } : Jvm.MethodName)) ∈ lw_all := lw_g (lw_at lw_m5 85 rfl) rfl
theorem q1150 : (Jvm.Cond.code ({ cls := "Quillplate$Reader", name := "text", desc := "()LQuillplate$Expression;" } : Jvm.MethodName) prog_18_method_28_code (2 : Nat) (Option.some (Jvm.ClassFile.FieldType.object "Quillplate$Expression"))) ∈ lw_all := lw_g (lw_at lw_m5 86 rfl) rfl
theorem q1151 : (Jvm.Cond.methodLink "Quillplate$Reader" (291 : Nat) ({ cls := "java/lang/StringBuilder", name := "length", desc := "()I" } : Jvm.MethodName)) ∈ lw_all := lw_g (lw_at lw_m5 87 rfl) rfl
theorem q1152 : (Jvm.Cond.methodLinkNest "Quillplate$Reader" (292 : Nat) ({ cls := "Quillplate", name := "isLetterOrDigit", desc := "(C)Z" } : Jvm.MethodName) "Quillplate") ∈ lw_tbl := lw_at lw_m5 88 rfl
theorem q1156 : (Jvm.Cond.classLink "Quillplate$Reader" (271 : Nat) "Quillplate$Literal") ∈ lw_all := lw_g (lw_at lw_m5 92 rfl) rfl
theorem q1158 : (Jvm.Cond.classLink "Quillplate$Reader" (273 : Nat) "Quillplate$Value") ∈ lw_all := lw_g (lw_at lw_m5 94 rfl) rfl
theorem q1159 : (Jvm.Cond.fieldLink "Quillplate$Reader" (295 : Nat) "Quillplate$Sort" "TEXT" "LQuillplate$Sort;") ∈ lw_all := lw_g (lw_at lw_m5 95 rfl) rfl
theorem q1161 : (Jvm.Cond.methodLinkNest "Quillplate$Reader" (285 : Nat) ({ cls := "Quillplate$Value", name := "<init>", desc := "(LQuillplate$Sort;ILjava/lang/String;Z)V" } : Jvm.MethodName) "Quillplate") ∈ lw_tbl := lw_at lw_m5 97 rfl
theorem q1162 : (Jvm.Cond.methodLink "Quillplate$Reader" (288 : Nat) ({ cls := "Quillplate$Literal", name := "<init>", desc := "(LQuillplate$Value;)V" } : Jvm.MethodName)) ∈ lw_all := lw_g (lw_at lw_m5 98 rfl) rfl
theorem q1170 : (Jvm.Cond.fieldLink "Quillplate$Reader" (275 : Nat) "Quillplate$Sort" "NUMBER" "LQuillplate$Sort;") ∈ lw_all := lw_g (lw_at lw_m5 106 rfl) rfl
theorem q1172 : (Jvm.Cond.methodLink "Quillplate$Reader" (281 : Nat) ({ cls := "java/lang/String", name := "valueOf", desc := "(I)Ljava/lang/String;" } : Jvm.MethodName)) ∈ lw_all := lw_g (lw_at lw_m5 108 rfl) rfl
theorem q1184 : (Jvm.Cond.methodLink "Quillplate$Reader" (183 : Nat) ({ cls := "Quillplate$Reader", name := "letter", desc := "(CC)I" } : Jvm.MethodName)) ∈ lw_all := lw_g (lw_at lw_m5 120 rfl) rfl
theorem q1185 : (Jvm.Cond.privateMethod ({ cls := "Quillplate$Reader", name := "letter", desc := "(CC)I" } : Jvm.MethodName)) ∈ lw_tbl := lw_at lw_m5 121 rfl
theorem q1186 : (Jvm.Cond.instanceMethod ({ cls := "Quillplate$Reader", name := "letter", desc := "(CC)I" } : Jvm.MethodName)) ∈ lw_all := lw_g (lw_at lw_m5 122 rfl) rfl
theorem q1187 : (Jvm.Cond.code ({ cls := "Quillplate$Reader", name := "letter", desc := "(CC)I" } : Jvm.MethodName) prog_18_method_7_code (3 : Nat) (Option.some Jvm.ClassFile.FieldType.int)) ∈ lw_all := lw_g (lw_at lw_m5 123 rfl) rfl
theorem q1188 : (Jvm.Cond.classLink "Quillplate$Reader" (246 : Nat) "Quillplate$Pair") ∈ lw_all := lw_g (lw_at lw_m5 124 rfl) rfl
theorem q1190 : (Jvm.Cond.methodLink "Quillplate$Reader" (248 : Nat) ({ cls := "Quillplate$Pair", name := "<init>", desc := "(CLQuillplate$Expression;LQuillplate$Expression;)V" } : Jvm.MethodName)) ∈ lw_all := lw_g (lw_at lw_m5 126 rfl) rfl
theorem q1204 : (Jvm.Cond.methodLink "Quillplate$Reader" (174 : Nat) ({ cls := "Quillplate$Reader", name := "part", desc := "()Ljava/util/ArrayList;" } : Jvm.MethodName)) ∈ lw_all := lw_g (lw_at lw_m5 140 rfl) rfl
theorem q1205 : (Jvm.Cond.privateMethod ({ cls := "Quillplate$Reader", name := "part", desc := "()Ljava/util/ArrayList;" } : Jvm.MethodName)) ∈ lw_tbl := lw_at lw_m5 141 rfl
theorem q1206 : (Jvm.Cond.instanceMethod ({ cls := "Quillplate$Reader", name := "part", desc := "()Ljava/util/ArrayList;" } : Jvm.MethodName)) ∈ lw_all := lw_g (lw_at lw_m5 142 rfl) rfl
theorem q1207 : (Jvm.Cond.code ({ cls := "Quillplate$Reader", name := "part", desc := "()Ljava/util/ArrayList;" } : Jvm.MethodName) prog_18_method_14_code (3 : Nat) (Option.some (Jvm.ClassFile.FieldType.object "java/util/ArrayList"))) ∈ lw_all := lw_g (lw_at lw_m5 143 rfl) rfl
theorem q1208 : (Jvm.Cond.classLink "Quillplate$Reader" (211 : Nat) "Quillplate$Choice") ∈ lw_all := lw_g (lw_at lw_m5 144 rfl) rfl
theorem q1210 : (Jvm.Cond.methodLink "Quillplate$Reader" (213 : Nat) ({ cls := "Quillplate$Reader", name := "other", desc := "()Ljava/util/ArrayList;" } : Jvm.MethodName)) ∈ lw_all := lw_g (lw_at lw_m5 146 rfl) rfl
theorem q1211 : (Jvm.Cond.privateMethod ({ cls := "Quillplate$Reader", name := "other", desc := "()Ljava/util/ArrayList;" } : Jvm.MethodName)) ∈ lw_tbl := lw_at lw_m5 147 rfl
theorem q1212 : (Jvm.Cond.instanceMethod ({ cls := "Quillplate$Reader", name := "other", desc := "()Ljava/util/ArrayList;" } : Jvm.MethodName)) ∈ lw_all := lw_g (lw_at lw_m5 148 rfl) rfl
theorem q1213 : (Jvm.Cond.code ({ cls := "Quillplate$Reader", name := "other", desc := "()Ljava/util/ArrayList;" } : Jvm.MethodName) prog_18_method_16_code (2 : Nat) (Option.some (Jvm.ClassFile.FieldType.object "java/util/ArrayList"))) ∈ lw_all := lw_g (lw_at lw_m5 149 rfl) rfl
theorem q1214 : (Jvm.Cond.methodLink "Quillplate$Reader" (180 : Nat) ({ cls := "Quillplate$Reader", name := "endMark", desc := "()V" } : Jvm.MethodName)) ∈ lw_all := lw_g (lw_at lw_m5 150 rfl) rfl
theorem q1215 : (Jvm.Cond.privateMethod ({ cls := "Quillplate$Reader", name := "endMark", desc := "()V" } : Jvm.MethodName)) ∈ lw_tbl := lw_at lw_m5 151 rfl
theorem q1216 : (Jvm.Cond.instanceMethod ({ cls := "Quillplate$Reader", name := "endMark", desc := "()V" } : Jvm.MethodName)) ∈ lw_all := lw_g (lw_at lw_m5 152 rfl) rfl
theorem q1217 : (Jvm.Cond.code ({ cls := "Quillplate$Reader", name := "endMark", desc := "()V" } : Jvm.MethodName) prog_18_method_15_code (1 : Nat) (Option.none : Option Jvm.ClassFile.FieldType)) ∈ lw_all := lw_g (lw_at lw_m5 153 rfl) rfl
theorem q1218 : (Jvm.Cond.methodLink "Quillplate$Reader" (216 : Nat) ({ cls := "Quillplate$Choice", name := "<init>", desc := "(ILQuillplate$Expression;Ljava/util/ArrayList;Ljava/util/ArrayList;)V" } : Jvm.MethodName)) ∈ lw_all := lw_g (lw_at lw_m5 154 rfl) rfl
theorem q1233 : (Jvm.Cond.methodLink "Quillplate$Reader" (140 : Nat) ({ cls := "Quillplate$Reader", name := "loop", desc := "(I)LQuillplate$Item;" } : Jvm.MethodName)) ∈ lw_all := lw_g (lw_at lw_m5 169 rfl) rfl
theorem q1234 : (Jvm.Cond.privateMethod ({ cls := "Quillplate$Reader", name := "loop", desc := "(I)LQuillplate$Item;" } : Jvm.MethodName)) ∈ lw_tbl := lw_at lw_m5 170 rfl
theorem q1235 : (Jvm.Cond.instanceMethod ({ cls := "Quillplate$Reader", name := "loop", desc := "(I)LQuillplate$Item;" } : Jvm.MethodName)) ∈ lw_all := lw_g (lw_at lw_m5 171 rfl) rfl
theorem q1236 : (Jvm.Cond.code ({ cls := "Quillplate$Reader", name := "loop", desc := "(I)LQuillplate$Item;" } : Jvm.MethodName) prog_18_method_18_code (5 : Nat) (Option.some (Jvm.ClassFile.FieldType.object "Quillplate$Item"))) ∈ lw_all := lw_g (lw_at lw_m5 172 rfl) rfl
theorem q1237 : (Jvm.Cond.classLink "Quillplate$Reader" (219 : Nat) "Quillplate$Loop") ∈ lw_all := lw_g (lw_at lw_m5 173 rfl) rfl
theorem q1239 : (Jvm.Cond.methodLink "Quillplate$Reader" (221 : Nat) ({ cls := "Quillplate$Loop", name := "<init>", desc := "(ILQuillplate$Expression;Ljava/util/ArrayList;Ljava/util/ArrayList;)V" } : Jvm.MethodName)) ∈ lw_all := lw_g (lw_at lw_m5 175 rfl) rfl
theorem q1254 : (Jvm.Cond.methodLink "Quillplate$Reader" (147 : Nat) ({ cls := "Quillplate$Reader", name := "hasRoom", desc := "([LQuillplate$Block;)Z" } : Jvm.MethodName)) ∈ lw_all := lw_g (lw_at lw_m5 190 rfl) rfl
theorem q1255 : (Jvm.Cond.static ({ cls := "Quillplate$Reader", name := "hasRoom", desc := "([LQuillplate$Block;)Z" } : Jvm.MethodName)) ∈ lw_all := lw_g (lw_at lw_m5 191 rfl) rfl
theorem q1256 : (Jvm.Cond.code ({ cls := "Quillplate$Reader", name := "hasRoom", desc := "([LQuillplate$Block;)Z" } : Jvm.MethodName) prog_18_method_12_code (3 : Nat) (Option.some Jvm.ClassFile.FieldType.boolean)) ∈ lw_all := lw_g (lw_at lw_m5 192 rfl) rfl
theorem q1257 : (Jvm.Cond.methodLink "Quillplate$Reader" (151 : Nat) ({ cls := "Quillplate$Reader", name := "block", desc := "(I)LQuillplate$Item;" } : Jvm.MethodName)) ∈ lw_all := lw_g (lw_at lw_m5 193 rfl) rfl
theorem q1258 : (Jvm.Cond.privateMethod ({ cls := "Quillplate$Reader", name := "block", desc := "(I)LQuillplate$Item;" } : Jvm.MethodName)) ∈ lw_tbl := lw_at lw_m5 194 rfl
theorem q1259 : (Jvm.Cond.instanceMethod ({ cls := "Quillplate$Reader", name := "block", desc := "(I)LQuillplate$Item;" } : Jvm.MethodName)) ∈ lw_all := lw_g (lw_at lw_m5 195 rfl) rfl
theorem q1260 : (Jvm.Cond.code ({ cls := "Quillplate$Reader", name := "block", desc := "(I)LQuillplate$Item;" } : Jvm.MethodName) prog_18_method_19_code (4 : Nat) (Option.some (Jvm.ClassFile.FieldType.object "Quillplate$Item"))) ∈ lw_all := lw_g (lw_at lw_m5 196 rfl) rfl
theorem q1261 : (Jvm.Cond.classLink "Quillplate$Reader" (222 : Nat) "Quillplate$Block") ∈ lw_all := lw_g (lw_at lw_m5 197 rfl) rfl
theorem q1263 : (Jvm.Cond.methodLink "Quillplate$Reader" (224 : Nat) ({ cls := "Quillplate$Block", name := "<init>", desc := "(IILjava/util/ArrayList;)V" } : Jvm.MethodName)) ∈ lw_all := lw_g (lw_at lw_m5 199 rfl) rfl
theorem q1270 : (Jvm.Cond.fieldLink "Quillplate$Reader" (227 : Nat) "Quillplate$Block" "in" "Ljava/util/ArrayList;") ∈ lw_all := lw_g (lw_at lw_m5 206 rfl) rfl
theorem q1277 : (Jvm.Cond.methodLink "Quillplate$Reader" (230 : Nat) ({ cls := "java/util/ArrayList", name := "addAll", desc := "(Ljava/util/Collection;)Z" } : Jvm.MethodName)) ∈ lw_all := lw_g (lw_at lw_m5 213 rfl) rfl
theorem q1321 : (Jvm.Cond.methodLink "Quillplate$Reader" (157 : Nat) ({ cls := "Quillplate$Reader", name := "macro", desc := "(I)LQuillplate$Item;" } : Jvm.MethodName)) ∈ lw_all := lw_g (lw_at lw_m6 17 rfl) rfl
theorem q1322 : (Jvm.Cond.privateMethod ({ cls := "Quillplate$Reader", name := "macro", desc := "(I)LQuillplate$Item;" } : Jvm.MethodName)) ∈ lw_tbl := lw_at lw_m6 18 rfl
theorem q1323 : (Jvm.Cond.instanceMethod ({ cls := "Quillplate$Reader", name := "macro", desc := "(I)LQuillplate$Item;" } : Jvm.MethodName)) ∈ lw_all := lw_g (lw_at lw_m6 19 rfl) rfl
theorem q1324 : (Jvm.Cond.code ({ cls := "Quillplate$Reader", name := "macro", desc := "(I)LQuillplate$Item;" } : Jvm.MethodName) prog_18_method_20_code (5 : Nat) (Option.some (Jvm.ClassFile.FieldType.object "Quillplate$Item"))) ∈ lw_all := lw_g (lw_at lw_m6 20 rfl) rfl
theorem q1325 : (Jvm.Cond.classLink "Quillplate$Reader" (190 : Nat) "Quillplate$Lead") ∈ lw_all := lw_g (lw_at lw_m6 21 rfl) rfl
theorem q1327 : (Jvm.Cond.methodLink "Quillplate$Reader" (192 : Nat) ({ cls := "Quillplate$Lead", name := "<init>", desc := "(ICILQuillplate$Expression;)V" } : Jvm.MethodName)) ∈ lw_all := lw_g (lw_at lw_m6 23 rfl) rfl
theorem q1342 : (Jvm.Cond.classLink "Quillplate$Reader" (172 : Nat) "Quillplate$Part") ∈ lw_all := lw_g (lw_at lw_m6 38 rfl) rfl
theorem q1344 : (Jvm.Cond.methodLink "Quillplate$Reader" (177 : Nat) ({ cls := "Quillplate$Part", name := "<init>", desc := "(ILjava/util/ArrayList;)V" } : Jvm.MethodName)) ∈ lw_all := lw_g (lw_at lw_m6 40 rfl) rfl
theorem q1353 : (Jvm.Cond.methodLink "Quillplate$Reader" (195 : Nat) ({ cls := "Quillplate$Reader", name := "closed", desc := "(LQuillplate$Item;)LQuillplate$Item;" } : Jvm.MethodName)) ∈ lw_all := lw_g (lw_at lw_m6 49 rfl) rfl
theorem q1354 : (Jvm.Cond.privateMethod ({ cls := "Quillplate$Reader", name := "closed", desc := "(LQuillplate$Item;)LQuillplate$Item;" } : Jvm.MethodName)) ∈ lw_tbl := lw_at lw_m6 50 rfl
theorem q1355 : (Jvm.Cond.instanceMethod ({ cls := "Quillplate$Reader", name := "closed", desc := "(LQuillplate$Item;)LQuillplate$Item;" } : Jvm.MethodName)) ∈ lw_all := lw_g (lw_at lw_m6 51 rfl) rfl
theorem q1356 : (Jvm.Cond.code ({ cls := "Quillplate$Reader", name := "closed", desc := "(LQuillplate$Item;)LQuillplate$Item;" } : Jvm.MethodName) prog_18_method_13_code (2 : Nat) (Option.some (Jvm.ClassFile.FieldType.object "Quillplate$Item"))) ∈ lw_all := lw_g (lw_at lw_m6 52 rfl) rfl
theorem q1357 : (Jvm.Cond.classLink "Quillplate$Reader" (206 : Nat) "Quillplate$Hole") ∈ lw_all := lw_g (lw_at lw_m6 53 rfl) rfl
theorem q1359 : (Jvm.Cond.methodLink "Quillplate$Reader" (208 : Nat) ({ cls := "Quillplate$Hole", name := "<init>", desc := "(ILQuillplate$Expression;)V" } : Jvm.MethodName)) ∈ lw_all := lw_g (lw_at lw_m6 55 rfl) rfl
theorem q2466 : (Jvm.Cond.selects "Quillplate$Reader" ({ cls := "java/lang/Object", name := "equals", desc := "(Ljava/lang/Object;)Z" } : Jvm.MethodName) ({ cls := "java/lang/Object", name := "equals", desc := "(Ljava/lang/Object;)Z" } : Jvm.MethodName)) ∈ lw_all := lw_g (lw_at lw_m10 202 rfl) rfl
theorem q3844 : (Jvm.Cond.castable "Quillplate$Reader" "java/lang/Object") ∈ lw_tbl := lw_at lw_m16 140 rfl
theorem in_X5 : ∀ w ∈ wsX50, w ∈ lw_all := lw_in wsX50 [818, 820, 822, 824, 826, 828, 830, 832, 834, 836, 838, 840] (by decide +kernel) (by decide +kernel)
def RX6 : String := "Quillplate$Template"
def TX6 : u_T := fun k => match k with
  | 0 => ("Quillplate$Template", "number", "I", true)
  | 1 => ("Quillplate$Template", "above", "I", false)
  | 2 => ("Quillplate$Template", "marks", "I", false)
  | 3 => ("Quillplate$Template", "items", "Ljava/util/ArrayList;", false)
  | 4 => ("Quillplate$Template", "blocks", "[LQuillplate$Block;", true)
  | _ => ("Quillplate$Template", "macros", "[LQuillplate$Block;", true)
def tyX6 : Nat → FieldType := fun k => match k with
  | 0 => .int
  | 1 => .int
  | 2 => .int
  | 3 => .object "java/util/ArrayList"
  | 4 => .array (.object "Quillplate$Block")
  | _ => .array (.object "Quillplate$Block")
abbrev wsX60 : List Cond := u_ws RX6 TX6 6
theorem nmX6 : ∀ a, a < 6 → ∀ b, b < 6 → a ≠ b → (TX6 a).2.1 ≠ (TX6 b).2.1 := by decide +kernel
theorem tyX6_ok : ∀ k, k < 6 → parseFieldDescriptor (TX6 k).2.2.1 = some (tyX6 k) := by decide +kernel
abbrev cX6_init : ByteArray := prog_21_method_1_code
def yX6_init : MethodName := ⟨RX6, "<init>", "(I)V"⟩
theorem q139 : (Jvm.Cond.initialized "Quillplate$Template") ∈ lw_all := lw_g (lw_at lw_m1 35 rfl) rfl
theorem q768 : (Jvm.Cond.instantiable "Quillplate$Template" (6 : Nat)) ∈ lw_all := lw_g (lw_at lw_m3 184 rfl) rfl
theorem q770 : (Jvm.Cond.instanceMethod ({ cls := "Quillplate$Template", name := "<init>", desc := "(I)V" } : Jvm.MethodName)) ∈ lw_all := lw_g (lw_at lw_m3 186 rfl) rfl
theorem q771 : (Jvm.Cond.code ({ cls := "Quillplate$Template", name := "<init>", desc := "(I)V" } : Jvm.MethodName) prog_21_method_1_code (2 : Nat) (Option.none : Option Jvm.ClassFile.FieldType)) ∈ lw_all := lw_g (lw_at lw_m3 187 rfl) rfl
theorem q772 : (Jvm.Cond.methodLink "Quillplate$Template" (3 : Nat) ({ cls := "java/lang/Object", name := "<init>", desc := "()V" } : Jvm.MethodName)) ∈ lw_all := lw_g (lw_at lw_m3 188 rfl) rfl
theorem q773 : (Jvm.Cond.classLink "Quillplate$Template" (15 : Nat) "java/util/ArrayList") ∈ lw_all := lw_g (lw_at lw_m3 189 rfl) rfl
theorem q774 : (Jvm.Cond.methodLink "Quillplate$Template" (17 : Nat) ({ cls := "java/util/ArrayList", name := "<init>", desc := "()V" } : Jvm.MethodName)) ∈ lw_all := lw_g (lw_at lw_m3 190 rfl) rfl
theorem q775 : (Jvm.Cond.classLink "Quillplate$Template" (22 : Nat) "Quillplate$Block") ∈ lw_all := lw_g (lw_at lw_m3 191 rfl) rfl
theorem q777 : (Jvm.Cond.fieldLink "Quillplate$Template" (31 : Nat) "Quillplate$Template" "number" "I") ∈ lw_all := lw_g (lw_at lw_m3 193 rfl) rfl
theorem q779 : (Jvm.Cond.fieldLink "Quillplate$Template" (9 : Nat) "Quillplate$Template" "above" "I") ∈ lw_all := lw_g (lw_at lw_m3 195 rfl) rfl
theorem q784 : (Jvm.Cond.fieldLink "Quillplate$Template" (18 : Nat) "Quillplate$Template" "items" "Ljava/util/ArrayList;") ∈ lw_all := lw_g (lw_at lw_m3 200 rfl) rfl
theorem q787 : (Jvm.Cond.fieldLink "Quillplate$Template" (24 : Nat) "Quillplate$Template" "blocks" "[LQuillplate$Block;") ∈ lw_all := lw_g (lw_at lw_m3 203 rfl) rfl
theorem q790 : (Jvm.Cond.fieldLink "Quillplate$Template" (28 : Nat) "Quillplate$Template" "macros" "[LQuillplate$Block;") ∈ lw_all := lw_g (lw_at lw_m3 206 rfl) rfl
theorem q793 : (Jvm.Cond.laysFinal "Quillplate$Template" "Quillplate$Template" "number" "I") ∈ lw_all := lw_g (lw_at lw_m3 209 rfl) rfl
theorem q794 : (Jvm.Cond.soleField "Quillplate$Template" "number") ∈ lw_all := lw_g (lw_at lw_m3 210 rfl) rfl
theorem q795 : (Jvm.Cond.lays "Quillplate$Template" "Quillplate$Template" "above" "I") ∈ lw_all := lw_g (lw_at lw_m3 211 rfl) rfl
theorem q796 : (Jvm.Cond.soleField "Quillplate$Template" "above") ∈ lw_all := lw_g (lw_at lw_m3 212 rfl) rfl
theorem q797 : (Jvm.Cond.lays "Quillplate$Template" "Quillplate$Template" "marks" "I") ∈ lw_all := lw_g (lw_at lw_m3 213 rfl) rfl
theorem q798 : (Jvm.Cond.soleField "Quillplate$Template" "marks") ∈ lw_all := lw_g (lw_at lw_m3 214 rfl) rfl
theorem q799 : (Jvm.Cond.lays "Quillplate$Template" "Quillplate$Template" "items" "Ljava/util/ArrayList;") ∈ lw_all := lw_g (lw_at lw_m3 215 rfl) rfl
theorem q800 : (Jvm.Cond.soleField "Quillplate$Template" "items") ∈ lw_all := lw_g (lw_at lw_m3 216 rfl) rfl
theorem q801 : (Jvm.Cond.laysFinal "Quillplate$Template" "Quillplate$Template" "blocks" "[LQuillplate$Block;") ∈ lw_all := lw_g (lw_at lw_m3 217 rfl) rfl
theorem q802 : (Jvm.Cond.soleField "Quillplate$Template" "blocks") ∈ lw_all := lw_g (lw_at lw_m3 218 rfl) rfl
theorem q803 : (Jvm.Cond.laysFinal "Quillplate$Template" "Quillplate$Template" "macros" "[LQuillplate$Block;") ∈ lw_all := lw_g (lw_at lw_m3 219 rfl) rfl
theorem q804 : (Jvm.Cond.soleField "Quillplate$Template" "macros") ∈ lw_all := lw_g (lw_at lw_m3 220 rfl) rfl
theorem q805 : (Jvm.Cond.superclass "Quillplate$Template" "java/lang/Object") ∈ lw_all := lw_g (lw_at lw_m3 221 rfl) rfl
theorem q958 : (Jvm.Cond.selects "Quillplate$Template" ({ cls := "java/lang/Object", name := "getClass", desc := "()Ljava/lang/Class;" } : Jvm.MethodName) ({ cls := "java/lang/Object", name := "getClass", desc := "()Ljava/lang/Class;" } : Jvm.MethodName)) ∈ lw_all := lw_g (lw_at lw_m4 134 rfl) rfl
theorem q2471 : (Jvm.Cond.selects "Quillplate$Template" ({ cls := "java/lang/Object", name := "equals", desc := "(Ljava/lang/Object;)Z" } : Jvm.MethodName) ({ cls := "java/lang/Object", name := "equals", desc := "(Ljava/lang/Object;)Z" } : Jvm.MethodName)) ∈ lw_all := lw_g (lw_at lw_m10 207 rfl) rfl
theorem q3825 : (Jvm.Cond.castable "Quillplate$Template" "java/lang/Object") ∈ lw_tbl := lw_at lw_m16 121 rfl
theorem in_X6 : ∀ w ∈ wsX60, w ∈ lw_all := lw_in wsX60 [793, 795, 797, 799, 801, 803] (by decide +kernel) (by decide +kernel)
def RX7 : String := "Quillplate$Item"
abbrev cX7_init : ByteArray := prog_10_method_1_code
def yX7_init : MethodName := ⟨RX7, "<init>", "(I)V"⟩
abbrev cX7_ends : ByteArray := prog_10_method_3_code
def yX7_ends : MethodName := ⟨RX7, "ends", "(I)I"⟩
theorem q140 : (Jvm.Cond.initialized "Quillplate$Item") ∈ lw_all := lw_g (lw_at lw_m1 36 rfl) rfl
theorem q864 : (Jvm.Cond.instanceMethod ({ cls := "Quillplate$Item", name := "<init>", desc := "(I)V" } : Jvm.MethodName)) ∈ lw_all := lw_g (lw_at lw_m4 40 rfl) rfl
theorem q865 : (Jvm.Cond.code ({ cls := "Quillplate$Item", name := "<init>", desc := "(I)V" } : Jvm.MethodName) prog_10_method_1_code (2 : Nat) (Option.none : Option Jvm.ClassFile.FieldType)) ∈ lw_all := lw_g (lw_at lw_m4 41 rfl) rfl
theorem q866 : (Jvm.Cond.methodLink "Quillplate$Item" (1 : Nat) ({ cls := "java/lang/Object", name := "<init>", desc := "()V" } : Jvm.MethodName)) ∈ lw_all := lw_g (lw_at lw_m4 42 rfl) rfl
theorem q869 : (Jvm.Cond.fieldLink "Quillplate$Item" (7 : Nat) "Quillplate$Item" "at" "I") ∈ lw_all := lw_g (lw_at lw_m4 45 rfl) rfl
theorem q880 : (Jvm.Cond.soleField "Quillplate$Item" "at") ∈ lw_all := lw_g (lw_at lw_m4 56 rfl) rfl
theorem q2094 : (Jvm.Cond.declares ({ cls := "Quillplate$Item", name := "render", desc := "(LQuillplate$Run;)V" } : Jvm.MethodName)) ∈ lw_tbl := lw_at lw_m9 70 rfl
theorem q2095 : (Jvm.Cond.sameMethod "Quillplate$Item" "Quillplate$Item" "render" "(LQuillplate$Run;)V") ∈ lw_all := lw_g (lw_at lw_m9 71 rfl) rfl
theorem q2120 : (Jvm.Cond.instanceMethod ({ cls := "Quillplate$Item", name := "ends", desc := "(I)I" } : Jvm.MethodName)) ∈ lw_all := lw_g (lw_at lw_m9 96 rfl) rfl
theorem q2121 : (Jvm.Cond.sameMethod "Quillplate$Item" "Quillplate$Item" "ends" "(I)I") ∈ lw_all := lw_g (lw_at lw_m9 97 rfl) rfl
theorem q2146 : (Jvm.Cond.code ({ cls := "Quillplate$Item", name := "ends", desc := "(I)I" } : Jvm.MethodName) prog_10_method_3_code (2 : Nat) (Option.some Jvm.ClassFile.FieldType.int)) ∈ lw_all := lw_g (lw_at lw_m9 122 rfl) rfl
def RX8 : String := "Quillplate$Written"
def TX8 : u_T := fun k => match k with
  | 0 => ("Quillplate$Item", "at", "I", true)
  | _ => ("Quillplate$Written", "text", "Ljava/lang/String;", false)
def tyX8 : Nat → FieldType := fun k => match k with
  | 0 => .int
  | _ => .object "java/lang/String"
abbrev wsX80 : List Cond := u_ws RX8 TX8 2
theorem nmX8 : ∀ a, a < 2 → ∀ b, b < 2 → a ≠ b → (TX8 a).2.1 ≠ (TX8 b).2.1 := by decide +kernel
theorem tyX8_ok : ∀ k, k < 2 → parseFieldDescriptor (TX8 k).2.2.1 = some (tyX8 k) := by decide +kernel
abbrev cX8_init : ByteArray := prog_23_method_1_code
def yX8_init : MethodName := ⟨RX8, "<init>", "(Ljava/lang/String;)V"⟩
abbrev cX8_ends : ByteArray := prog_23_method_3_code
def yX8_ends : MethodName := ⟨RX8, "ends", "(I)I"⟩
abbrev cX8_render : ByteArray := prog_23_method_2_code
def yX8_render : MethodName := ⟨RX8, "render", "(LQuillplate$Run;)V"⟩
theorem q141 : (Jvm.Cond.initialized "Quillplate$Written") ∈ lw_all := lw_g (lw_at lw_m1 37 rfl) rfl
theorem q656 : (Jvm.Cond.fieldLink "Quillplate$Written" (15 : Nat) "Quillplate$Run" "out" "Ljava/lang/StringBuilder;") ∈ lw_all := lw_g (lw_at lw_m3 72 rfl) rfl
theorem q660 : (Jvm.Cond.fieldLink "Quillplate$Written" (27 : Nat) "Quillplate$Run" "where" "I") ∈ lw_all := lw_g (lw_at lw_m3 76 rfl) rfl
theorem q858 : (Jvm.Cond.instantiable "Quillplate$Written" (2 : Nat)) ∈ lw_all := lw_g (lw_at lw_m4 34 rfl) rfl
theorem q861 : (Jvm.Cond.instanceMethod ({ cls := "Quillplate$Written", name := "<init>", desc := "(Ljava/lang/String;)V" } : Jvm.MethodName)) ∈ lw_all := lw_g (lw_at lw_m4 37 rfl) rfl
theorem q862 : (Jvm.Cond.code ({ cls := "Quillplate$Written", name := "<init>", desc := "(Ljava/lang/String;)V" } : Jvm.MethodName) prog_23_method_1_code (2 : Nat) (Option.none : Option Jvm.ClassFile.FieldType)) ∈ lw_all := lw_g (lw_at lw_m4 38 rfl) rfl
theorem q863 : (Jvm.Cond.methodLink "Quillplate$Written" (3 : Nat) ({ cls := "Quillplate$Item", name := "<init>", desc := "(I)V" } : Jvm.MethodName)) ∈ lw_all := lw_g (lw_at lw_m4 39 rfl) rfl
theorem q867 : (Jvm.Cond.fieldLink "Quillplate$Written" (9 : Nat) "Quillplate$Written" "text" "Ljava/lang/String;") ∈ lw_all := lw_g (lw_at lw_m4 43 rfl) rfl
theorem q877 : (Jvm.Cond.lays "Quillplate$Written" "Quillplate$Written" "text" "Ljava/lang/String;") ∈ lw_all := lw_g (lw_at lw_m4 53 rfl) rfl
theorem q878 : (Jvm.Cond.soleField "Quillplate$Written" "text") ∈ lw_all := lw_g (lw_at lw_m4 54 rfl) rfl
theorem q879 : (Jvm.Cond.laysFinal "Quillplate$Written" "Quillplate$Item" "at" "I") ∈ lw_all := lw_g (lw_at lw_m4 55 rfl) rfl
theorem q881 : (Jvm.Cond.superclass "Quillplate$Written" "Quillplate$Item") ∈ lw_all := lw_g (lw_at lw_m4 57 rfl) rfl
theorem q960 : (Jvm.Cond.selects "Quillplate$Written" ({ cls := "java/lang/Object", name := "getClass", desc := "()Ljava/lang/Class;" } : Jvm.MethodName) ({ cls := "java/lang/Object", name := "getClass", desc := "()Ljava/lang/Class;" } : Jvm.MethodName)) ∈ lw_all := lw_g (lw_at lw_m4 136 rfl) rfl
theorem q2140 : (Jvm.Cond.selects "Quillplate$Written" ({ cls := "Quillplate$Item", name := "ends", desc := "(I)I" } : Jvm.MethodName) ({ cls := "Quillplate$Written", name := "ends", desc := "(I)I" } : Jvm.MethodName)) ∈ lw_all := lw_g (lw_at lw_m9 116 rfl) rfl
theorem q2141 : (Jvm.Cond.instanceMethod ({ cls := "Quillplate$Written", name := "ends", desc := "(I)I" } : Jvm.MethodName)) ∈ lw_all := lw_g (lw_at lw_m9 117 rfl) rfl
theorem q2142 : (Jvm.Cond.code ({ cls := "Quillplate$Written", name := "ends", desc := "(I)I" } : Jvm.MethodName) prog_23_method_3_code (4 : Nat) (Option.some Jvm.ClassFile.FieldType.int)) ∈ lw_all := lw_g (lw_at lw_m9 118 rfl) rfl
theorem q2143 : (Jvm.Cond.methodLink "Quillplate$Written" (35 : Nat) ({ cls := "java/lang/String", name := "length", desc := "()I" } : Jvm.MethodName)) ∈ lw_all := lw_g (lw_at lw_m9 119 rfl) rfl
theorem q2144 : (Jvm.Cond.methodLink "Quillplate$Written" (41 : Nat) ({ cls := "java/lang/String", name := "charAt", desc := "(I)C" } : Jvm.MethodName)) ∈ lw_all := lw_g (lw_at lw_m9 120 rfl) rfl
theorem q2145 : (Jvm.Cond.methodLinkNest "Quillplate$Written" (45 : Nat) ({ cls := "Quillplate", name := "behind", desc := "(CI)I" } : Jvm.MethodName) "Quillplate") ∈ lw_tbl := lw_at lw_m9 121 rfl
theorem q2473 : (Jvm.Cond.selects "Quillplate$Written" ({ cls := "java/lang/Object", name := "equals", desc := "(Ljava/lang/Object;)Z" } : Jvm.MethodName) ({ cls := "java/lang/Object", name := "equals", desc := "(Ljava/lang/Object;)Z" } : Jvm.MethodName)) ∈ lw_all := lw_g (lw_at lw_m10 209 rfl) rfl
theorem q2574 : (Jvm.Cond.selects "Quillplate$Written" ({ cls := "Quillplate$Item", name := "render", desc := "(LQuillplate$Run;)V" } : Jvm.MethodName) ({ cls := "Quillplate$Written", name := "render", desc := "(LQuillplate$Run;)V" } : Jvm.MethodName)) ∈ lw_all := lw_g (lw_at lw_m11 70 rfl) rfl
theorem q2575 : (Jvm.Cond.instanceMethod ({ cls := "Quillplate$Written", name := "render", desc := "(LQuillplate$Run;)V" } : Jvm.MethodName)) ∈ lw_all := lw_g (lw_at lw_m11 71 rfl) rfl
theorem q2576 : (Jvm.Cond.code ({ cls := "Quillplate$Written", name := "render", desc := "(LQuillplate$Run;)V" } : Jvm.MethodName) prog_23_method_2_code (2 : Nat) (Option.none : Option Jvm.ClassFile.FieldType)) ∈ lw_all := lw_g (lw_at lw_m11 72 rfl) rfl
theorem q2577 : (Jvm.Cond.methodLink "Quillplate$Written" (21 : Nat) ({ cls := "java/lang/StringBuilder", name := "append", desc := "(Ljava/lang/String;)Ljava/lang/StringBuilder;" } : Jvm.MethodName)) ∈ lw_all := lw_g (lw_at lw_m11 73 rfl) rfl
theorem q2578 : (Jvm.Cond.methodLink "Quillplate$Written" (31 : Nat) ({ cls := "Quillplate$Written", name := "ends", desc := "(I)I" } : Jvm.MethodName)) ∈ lw_all := lw_g (lw_at lw_m11 74 rfl) rfl
theorem q3807 : (Jvm.Cond.selects "Quillplate$Written" ({ cls := "Quillplate$Written", name := "ends", desc := "(I)I" } : Jvm.MethodName) ({ cls := "Quillplate$Written", name := "ends", desc := "(I)I" } : Jvm.MethodName)) ∈ lw_all := lw_g (lw_at lw_m16 103 rfl) rfl
theorem q3824 : (Jvm.Cond.castable "Quillplate$Written" "Quillplate$Item") ∈ lw_tbl := lw_at lw_m16 120 rfl
theorem q3845 : (Jvm.Cond.castable "Quillplate$Written" "java/lang/Object") ∈ lw_tbl := lw_at lw_m16 141 rfl
theorem in_X8 : ∀ w ∈ wsX80, w ∈ lw_all := lw_in wsX80 [879, 877] (by decide +kernel) (by decide +kernel)
def RX9 : String := "Quillplate$FaultException"
def TX9 : u_T := fun k => match k with
  | 0 => ("java/lang/Throwable", "cause", "Ljava/lang/Throwable;", false)
  | 1 => ("java/lang/Throwable", "stackTrace", "[Ljava/lang/StackTraceElement;", false)
  | 2 => ("java/lang/Throwable", "suppressedExceptions", "Ljava/util/List;", false)
  | 3 => ("java/lang/Throwable", "detailMessage", "Ljava/lang/String;", false)
  | 4 => ("java/lang/Throwable", "backtrace", "Ljava/lang/Object;", false)
  | 5 => ("java/lang/Throwable", "depth", "I", false)
  | _ => ("Quillplate$FaultException", "at", "I", true)
def tyX9 : Nat → FieldType := fun k => match k with
  | 0 => .object "java/lang/Throwable"
  | 1 => .array (.object "java/lang/StackTraceElement")
  | 2 => .object "java/util/List"
  | 3 => .object "java/lang/String"
  | 4 => .object "java/lang/Object"
  | 5 => .int
  | _ => .int
abbrev wsX90 : List Cond := u_ws RX9 TX9 7
theorem nmX9 : ∀ a, a < 7 → ∀ b, b < 7 → a ≠ b → (TX9 a).2.1 ≠ (TX9 b).2.1 := by decide +kernel
theorem tyX9_ok : ∀ k, k < 7 → parseFieldDescriptor (TX9 k).2.2.1 = some (tyX9 k) := by decide +kernel
abbrev cX9_init : ByteArray := prog_7_method_1_code
def yX9_init : MethodName := ⟨RX9, "<init>", "(I)V"⟩
theorem q142 : (Jvm.Cond.initialized "Quillplate$FaultException") ∈ lw_all := lw_g (lw_at lw_m1 38 rfl) rfl
theorem q322 : (Jvm.Cond.selects "Quillplate$FaultException" ({ cls := "java/lang/Throwable", name := "fillInStackTrace", desc := "()Ljava/lang/Throwable;" } : Jvm.MethodName) ({ cls := "java/lang/Throwable", name := "fillInStackTrace", desc := "()Ljava/lang/Throwable;" } : Jvm.MethodName)) ∈ lw_all := lw_g (lw_at lw_m1 218 rfl) rfl
theorem q946 : (Jvm.Cond.selects "Quillplate$FaultException" ({ cls := "java/lang/Object", name := "getClass", desc := "()Ljava/lang/Class;" } : Jvm.MethodName) ({ cls := "java/lang/Object", name := "getClass", desc := "()Ljava/lang/Class;" } : Jvm.MethodName)) ∈ lw_all := lw_g (lw_at lw_m4 122 rfl) rfl
theorem q1001 : (Jvm.Cond.instantiable "Quillplate$FaultException" (7 : Nat)) ∈ lw_all := lw_g (lw_at lw_m4 177 rfl) rfl
theorem q1002 : (Jvm.Cond.castable "Quillplate$FaultException" "Quillplate$FaultException") ∈ lw_tbl := lw_at lw_m4 178 rfl
theorem q1003 : (Jvm.Cond.selects "Quillplate$FaultException" ({ cls := "java/lang/Throwable", name := "fillInStackTrace", desc := "(I)Ljava/lang/Throwable;" } : Jvm.MethodName) ({ cls := "java/lang/Throwable", name := "fillInStackTrace", desc := "(I)Ljava/lang/Throwable;" } : Jvm.MethodName)) ∈ lw_all := lw_g (lw_at lw_m4 179 rfl) rfl
theorem q1004 : (Jvm.Cond.lays "Quillplate$FaultException" "java/lang/Throwable" "cause" "Ljava/lang/Throwable;") ∈ lw_all := lw_g (lw_at lw_m4 180 rfl) rfl
theorem q1005 : (Jvm.Cond.lays "Quillplate$FaultException" "java/lang/Throwable" "stackTrace" "[Ljava/lang/StackTraceElement;") ∈ lw_all := lw_g (lw_at lw_m4 181 rfl) rfl
theorem q1006 : (Jvm.Cond.lays "Quillplate$FaultException" "java/lang/Throwable" "suppressedExceptions" "Ljava/util/List;") ∈ lw_all := lw_g (lw_at lw_m4 182 rfl) rfl
theorem q1007 : (Jvm.Cond.lays "Quillplate$FaultException" "java/lang/Throwable" "detailMessage" "Ljava/lang/String;") ∈ lw_all := lw_g (lw_at lw_m4 183 rfl) rfl
theorem q1008 : (Jvm.Cond.lays "Quillplate$FaultException" "java/lang/Throwable" "backtrace" "Ljava/lang/Object;") ∈ lw_all := lw_g (lw_at lw_m4 184 rfl) rfl
theorem q1010 : (Jvm.Cond.instanceMethod ({ cls := "Quillplate$FaultException", name := "<init>", desc := "(I)V" } : Jvm.MethodName)) ∈ lw_all := lw_g (lw_at lw_m4 186 rfl) rfl
theorem q1011 : (Jvm.Cond.code ({ cls := "Quillplate$FaultException", name := "<init>", desc := "(I)V" } : Jvm.MethodName) prog_7_method_1_code (2 : Nat) (Option.none : Option Jvm.ClassFile.FieldType)) ∈ lw_all := lw_g (lw_at lw_m4 187 rfl) rfl
theorem q1012 : (Jvm.Cond.classLink "Quillplate$FaultException" (1 : Nat) "java/lang/StringBuilder") ∈ lw_all := lw_g (lw_at lw_m4 188 rfl) rfl
theorem q1013 : (Jvm.Cond.methodLink "Quillplate$FaultException" (3 : Nat) ({ cls := "java/lang/StringBuilder", name := "<init>", desc := "()V" } : Jvm.MethodName)) ∈ lw_all := lw_g (lw_at lw_m4 189 rfl) rfl
theorem q1014 : (Jvm.Cond.stringRef "Quillplate$FaultException" (7 : Nat) "fault at ") ∈ lw_tbl := lw_at lw_m4 190 rfl
theorem q1015 : (Jvm.Cond.methodLink "Quillplate$FaultException" (9 : Nat) ({ cls := "java/lang/StringBuilder", name := "append", desc := "(Ljava/lang/String;)Ljava/lang/StringBuilder;" } : Jvm.MethodName)) ∈ lw_all := lw_g (lw_at lw_m4 191 rfl) rfl
theorem q1016 : (Jvm.Cond.methodLink "Quillplate$FaultException" (13 : Nat) ({ cls := "java/lang/StringBuilder", name := "append", desc := "(I)Ljava/lang/StringBuilder;" } : Jvm.MethodName)) ∈ lw_all := lw_g (lw_at lw_m4 192 rfl) rfl
theorem q1017 : (Jvm.Cond.methodLink "Quillplate$FaultException" (16 : Nat) ({ cls := "java/lang/StringBuilder", name := "toString", desc := "()Ljava/lang/String;" } : Jvm.MethodName)) ∈ lw_all := lw_g (lw_at lw_m4 193 rfl) rfl
theorem q1018 : (Jvm.Cond.methodLink "Quillplate$FaultException" (20 : Nat) ({ cls := "java/lang/Exception", name := "<init>", desc := "(Ljava/lang/String;)V" } : Jvm.MethodName)) ∈ lw_all := lw_g (lw_at lw_m4 194 rfl) rfl
theorem q1019 : (Jvm.Cond.fieldLink "Quillplate$FaultException" (25 : Nat) "Quillplate$FaultException" "at" "I") ∈ lw_all := lw_g (lw_at lw_m4 195 rfl) rfl
theorem q1021 : (Jvm.Cond.laysFinal "Quillplate$FaultException" "Quillplate$FaultException" "at" "I") ∈ lw_all := lw_g (lw_at lw_m4 197 rfl) rfl
theorem q1022 : (Jvm.Cond.soleField "Quillplate$FaultException" "at") ∈ lw_all := lw_g (lw_at lw_m4 198 rfl) rfl
theorem q1023 : (Jvm.Cond.lays "Quillplate$FaultException" "java/lang/Throwable" "depth" "I") ∈ lw_all := lw_g (lw_at lw_m4 199 rfl) rfl
theorem q1024 : (Jvm.Cond.superclass "Quillplate$FaultException" "java/lang/Exception") ∈ lw_all := lw_g (lw_at lw_m4 200 rfl) rfl
theorem q1759 : (Jvm.Cond.selects "Quillplate$FaultException" ({ cls := "java/lang/Throwable", name := "toString", desc := "()Ljava/lang/String;" } : Jvm.MethodName) ({ cls := "java/lang/Throwable", name := "toString", desc := "()Ljava/lang/String;" } : Jvm.MethodName)) ∈ lw_all := lw_g (lw_at lw_m7 215 rfl) rfl
theorem q1773 : (Jvm.Cond.selects "Quillplate$FaultException" ({ cls := "java/lang/Throwable", name := "getLocalizedMessage", desc := "()Ljava/lang/String;" } : Jvm.MethodName) ({ cls := "java/lang/Throwable", name := "getLocalizedMessage", desc := "()Ljava/lang/String;" } : Jvm.MethodName)) ∈ lw_all := lw_g (lw_at lw_m7 229 rfl) rfl
theorem q1786 : (Jvm.Cond.selects "Quillplate$FaultException" ({ cls := "java/lang/Throwable", name := "getMessage", desc := "()Ljava/lang/String;" } : Jvm.MethodName) ({ cls := "java/lang/Throwable", name := "getMessage", desc := "()Ljava/lang/String;" } : Jvm.MethodName)) ∈ lw_all := lw_g (lw_at lw_m8 2 rfl) rfl
theorem q2457 : (Jvm.Cond.selects "Quillplate$FaultException" ({ cls := "java/lang/Object", name := "equals", desc := "(Ljava/lang/Object;)Z" } : Jvm.MethodName) ({ cls := "java/lang/Object", name := "equals", desc := "(Ljava/lang/Object;)Z" } : Jvm.MethodName)) ∈ lw_all := lw_g (lw_at lw_m10 193 rfl) rfl
theorem q3846 : (Jvm.Cond.castable "Quillplate$FaultException" "java/lang/Object") ∈ lw_tbl := lw_at lw_m16 142 rfl
theorem in_X9 : ∀ w ∈ wsX90, w ∈ lw_all := lw_in wsX90 [1004, 1005, 1006, 1007, 1008, 1023, 1021] (by decide +kernel) (by decide +kernel)
def RX10 : String := "Quillplate$Expression"
abbrev cX10_init : ByteArray := prog_5_method_1_code
def yX10_init : MethodName := ⟨RX10, "<init>", "()V"⟩
theorem q143 : (Jvm.Cond.initialized "Quillplate$Expression") ∈ lw_all := lw_g (lw_at lw_m1 39 rfl) rfl
theorem q1109 : (Jvm.Cond.instanceMethod ({ cls := "Quillplate$Expression", name := "<init>", desc := "()V" } : Jvm.MethodName)) ∈ lw_all := lw_g (lw_at lw_m5 45 rfl) rfl
theorem q1110 : (Jvm.Cond.code ({ cls := "Quillplate$Expression", name := "<init>", desc := "()V" } : Jvm.MethodName) prog_5_method_1_code (1 : Nat) (Option.none : Option Jvm.ClassFile.FieldType)) ∈ lw_all := lw_g (lw_at lw_m5 46 rfl) rfl
theorem q1111 : (Jvm.Cond.methodLink "Quillplate$Expression" (1 : Nat) ({ cls := "java/lang/Object", name := "<init>", desc := "()V" } : Jvm.MethodName)) ∈ lw_all := lw_g (lw_at lw_m5 47 rfl) rfl
theorem q2197 : (Jvm.Cond.declares ({ cls := "Quillplate$Expression", name := "of", desc := "(LQuillplate$Run;)LQuillplate$Value;" } : Jvm.MethodName)) ∈ lw_tbl := lw_at lw_m9 173 rfl
theorem q2198 : (Jvm.Cond.sameMethod "Quillplate$Expression" "Quillplate$Expression" "of" "(LQuillplate$Run;)LQuillplate$Value;") ∈ lw_all := lw_g (lw_at lw_m9 174 rfl) rfl
def RX11 : String := "Quillplate$Name"
def TX11 : u_T := fun k => match k with
  | _ => ("Quillplate$Name", "name", "C", true)
def tyX11 : Nat → FieldType := fun k => match k with
  | _ => .char
abbrev wsX110 : List Cond := u_ws RX11 TX11 1
theorem nmX11 : ∀ a, a < 1 → ∀ b, b < 1 → a ≠ b → (TX11 a).2.1 ≠ (TX11 b).2.1 := by decide +kernel
theorem tyX11_ok : ∀ k, k < 1 → parseFieldDescriptor (TX11 k).2.2.1 = some (tyX11 k) := by decide +kernel
abbrev cX11_init : ByteArray := prog_15_method_1_code
def yX11_init : MethodName := ⟨RX11, "<init>", "(C)V"⟩
abbrev cX11_of : ByteArray := prog_15_method_2_code
def yX11_of : MethodName := ⟨RX11, "of", "(LQuillplate$Run;)LQuillplate$Value;"⟩
theorem q144 : (Jvm.Cond.initialized "Quillplate$Name") ∈ lw_all := lw_g (lw_at lw_m1 40 rfl) rfl
theorem q952 : (Jvm.Cond.selects "Quillplate$Name" ({ cls := "java/lang/Object", name := "getClass", desc := "()Ljava/lang/Class;" } : Jvm.MethodName) ({ cls := "java/lang/Object", name := "getClass", desc := "()Ljava/lang/Class;" } : Jvm.MethodName)) ∈ lw_all := lw_g (lw_at lw_m4 128 rfl) rfl
theorem q1104 : (Jvm.Cond.instantiable "Quillplate$Name" (1 : Nat)) ∈ lw_all := lw_g (lw_at lw_m5 40 rfl) rfl
theorem q1106 : (Jvm.Cond.instanceMethod ({ cls := "Quillplate$Name", name := "<init>", desc := "(C)V" } : Jvm.MethodName)) ∈ lw_all := lw_g (lw_at lw_m5 42 rfl) rfl
theorem q1107 : (Jvm.Cond.code ({ cls := "Quillplate$Name", name := "<init>", desc := "(C)V" } : Jvm.MethodName) prog_15_method_1_code (2 : Nat) (Option.none : Option Jvm.ClassFile.FieldType)) ∈ lw_all := lw_g (lw_at lw_m5 43 rfl) rfl
theorem q1108 : (Jvm.Cond.methodLinkNest "Quillplate$Name" (1 : Nat) ({ cls := "Quillplate$Expression", name := "<init>", desc := "()V" } : Jvm.MethodName) "Quillplate") ∈ lw_tbl := lw_at lw_m5 44 rfl
theorem q1112 : (Jvm.Cond.fieldLink "Quillplate$Name" (7 : Nat) "Quillplate$Name" "name" "C") ∈ lw_all := lw_g (lw_at lw_m5 48 rfl) rfl
theorem q1113 : (Jvm.Cond.laysFinal "Quillplate$Name" "Quillplate$Name" "name" "C") ∈ lw_all := lw_g (lw_at lw_m5 49 rfl) rfl
theorem q1114 : (Jvm.Cond.soleField "Quillplate$Name" "name") ∈ lw_all := lw_g (lw_at lw_m5 50 rfl) rfl
theorem q1115 : (Jvm.Cond.superclass "Quillplate$Name" "Quillplate$Expression") ∈ lw_all := lw_g (lw_at lw_m5 51 rfl) rfl
theorem q2205 : (Jvm.Cond.instanceMethod ({ cls := "Quillplate$Name", name := "of", desc := "(LQuillplate$Run;)LQuillplate$Value;" } : Jvm.MethodName)) ∈ lw_all := lw_g (lw_at lw_m9 181 rfl) rfl
theorem q2206 : (Jvm.Cond.code ({ cls := "Quillplate$Name", name := "of", desc := "(LQuillplate$Run;)LQuillplate$Value;" } : Jvm.MethodName) prog_15_method_2_code (2 : Nat) (Option.some (Jvm.ClassFile.FieldType.object "Quillplate$Value"))) ∈ lw_all := lw_g (lw_at lw_m9 182 rfl) rfl
theorem q2207 : (Jvm.Cond.methodLink "Quillplate$Name" (13 : Nat) ({ cls := "Quillplate$Run", name := "read", desc := "(C)LQuillplate$Value;" } : Jvm.MethodName)) ∈ lw_all := lw_g (lw_at lw_m9 183 rfl) rfl
theorem q2365 : (Jvm.Cond.selects "Quillplate$Name" ({ cls := "Quillplate$Expression", name := "of", desc := "(LQuillplate$Run;)LQuillplate$Value;" } : Jvm.MethodName) ({ cls := "Quillplate$Name", name := "of", desc := "(LQuillplate$Run;)LQuillplate$Value;" } : Jvm.MethodName)) ∈ lw_all := lw_g (lw_at lw_m10 101 rfl) rfl
theorem q2463 : (Jvm.Cond.selects "Quillplate$Name" ({ cls := "java/lang/Object", name := "equals", desc := "(Ljava/lang/Object;)Z" } : Jvm.MethodName) ({ cls := "java/lang/Object", name := "equals", desc := "(Ljava/lang/Object;)Z" } : Jvm.MethodName)) ∈ lw_all := lw_g (lw_at lw_m10 199 rfl) rfl
theorem q3847 : (Jvm.Cond.castable "Quillplate$Name" "java/lang/Object") ∈ lw_tbl := lw_at lw_m16 143 rfl
theorem in_X11 : ∀ w ∈ wsX110, w ∈ lw_all := lw_in wsX110 [1113] (by decide +kernel) (by decide +kernel)
def RX12 : String := "Quillplate$Changed"
def TX12 : u_T := fun k => match k with
  | 0 => ("Quillplate$Changed", "sign", "C", true)
  | 1 => ("Quillplate$Changed", "in", "LQuillplate$Expression;", true)
  | 2 => ("Quillplate$Changed", "instead", "LQuillplate$Expression;", true)
  | _ => ("Quillplate$Changed", "place", "I", true)
def tyX12 : Nat → FieldType := fun k => match k with
  | 0 => .char
  | 1 => .object "Quillplate$Expression"
  | 2 => .object "Quillplate$Expression"
  | _ => .int
abbrev wsX120 : List Cond := u_ws RX12 TX12 4
theorem nmX12 : ∀ a, a < 4 → ∀ b, b < 4 → a ≠ b → (TX12 a).2.1 ≠ (TX12 b).2.1 := by decide +kernel
theorem tyX12_ok : ∀ k, k < 4 → parseFieldDescriptor (TX12 k).2.2.1 = some (tyX12 k) := by decide +kernel
abbrev cX12_init : ByteArray := prog_3_method_1_code
def yX12_init : MethodName := ⟨RX12, "<init>", "(CLQuillplate$Expression;LQuillplate$Expression;I)V"⟩
abbrev cX12_of : ByteArray := prog_3_method_2_code
def yX12_of : MethodName := ⟨RX12, "of", "(LQuillplate$Run;)LQuillplate$Value;"⟩
theorem q145 : (Jvm.Cond.initialized "Quillplate$Changed") ∈ lw_all := lw_g (lw_at lw_m1 41 rfl) rfl
theorem q943 : (Jvm.Cond.selects "Quillplate$Changed" ({ cls := "java/lang/Object", name := "getClass", desc := "()Ljava/lang/Class;" } : Jvm.MethodName) ({ cls := "java/lang/Object", name := "getClass", desc := "()Ljava/lang/Class;" } : Jvm.MethodName)) ∈ lw_all := lw_g (lw_at lw_m4 119 rfl) rfl
theorem q1121 : (Jvm.Cond.instantiable "Quillplate$Changed" (4 : Nat)) ∈ lw_all := lw_g (lw_at lw_m5 57 rfl) rfl
theorem q1123 : (Jvm.Cond.instanceMethod ({ cls := "Quillplate$Changed", name := "<init>", desc := "(CLQuillplate$Expression;LQuillplate$Expression;I)V" } : Jvm.MethodName)) ∈ lw_all := lw_g (lw_at lw_m5 59 rfl) rfl
theorem q1124 : (Jvm.Cond.code ({ cls := "Quillplate$Changed", name := "<init>", desc := "(CLQuillplate$Expression;LQuillplate$Expression;I)V" } : Jvm.MethodName) prog_3_method_1_code (5 : Nat) (Option.none : Option Jvm.ClassFile.FieldType)) ∈ lw_all := lw_g (lw_at lw_m5 60 rfl) rfl
theorem q1125 : (Jvm.Cond.methodLinkNest "Quillplate$Changed" (1 : Nat) ({ cls := "Quillplate$Expression", name := "<init>", desc := "()V" } : Jvm.MethodName) "Quillplate") ∈ lw_tbl := lw_at lw_m5 61 rfl
theorem q1126 : (Jvm.Cond.fieldLink "Quillplate$Changed" (7 : Nat) "Quillplate$Changed" "sign" "C") ∈ lw_all := lw_g (lw_at lw_m5 62 rfl) rfl
theorem q1127 : (Jvm.Cond.fieldLink "Quillplate$Changed" (13 : Nat) "Quillplate$Changed" "in" "LQuillplate$Expression;") ∈ lw_all := lw_g (lw_at lw_m5 63 rfl) rfl
theorem q1128 : (Jvm.Cond.fieldLink "Quillplate$Changed" (17 : Nat) "Quillplate$Changed" "instead" "LQuillplate$Expression;") ∈ lw_all := lw_g (lw_at lw_m5 64 rfl) rfl
theorem q1129 : (Jvm.Cond.fieldLink "Quillplate$Changed" (20 : Nat) "Quillplate$Changed" "place" "I") ∈ lw_all := lw_g (lw_at lw_m5 65 rfl) rfl
theorem q1130 : (Jvm.Cond.laysFinal "Quillplate$Changed" "Quillplate$Changed" "sign" "C") ∈ lw_all := lw_g (lw_at lw_m5 66 rfl) rfl
theorem q1131 : (Jvm.Cond.soleField "Quillplate$Changed" "sign") ∈ lw_all := lw_g (lw_at lw_m5 67 rfl) rfl
theorem q1132 : (Jvm.Cond.laysFinal "Quillplate$Changed" "Quillplate$Changed" "in" "LQuillplate$Expression;") ∈ lw_all := lw_g (lw_at lw_m5 68 rfl) rfl
theorem q1133 : (Jvm.Cond.soleField "Quillplate$Changed" "in") ∈ lw_all := lw_g (lw_at lw_m5 69 rfl) rfl
theorem q1134 : (Jvm.Cond.laysFinal "Quillplate$Changed" "Quillplate$Changed" "instead" "LQuillplate$Expression;") ∈ lw_all := lw_g (lw_at lw_m5 70 rfl) rfl
theorem q1135 : (Jvm.Cond.soleField "Quillplate$Changed" "instead") ∈ lw_all := lw_g (lw_at lw_m5 71 rfl) rfl
theorem q1136 : (Jvm.Cond.laysFinal "Quillplate$Changed" "Quillplate$Changed" "place" "I") ∈ lw_all := lw_g (lw_at lw_m5 72 rfl) rfl
theorem q1137 : (Jvm.Cond.soleField "Quillplate$Changed" "place") ∈ lw_all := lw_g (lw_at lw_m5 73 rfl) rfl
theorem q1138 : (Jvm.Cond.superclass "Quillplate$Changed" "Quillplate$Expression") ∈ lw_all := lw_g (lw_at lw_m5 74 rfl) rfl
theorem q2199 : (Jvm.Cond.selects "Quillplate$Changed" ({ cls := "Quillplate$Expression", name := "of", desc := "(LQuillplate$Run;)LQuillplate$Value;" } : Jvm.MethodName) ({ cls := "Quillplate$Changed", name := "of", desc := "(LQuillplate$Run;)LQuillplate$Value;" } : Jvm.MethodName)) ∈ lw_all := lw_g (lw_at lw_m9 175 rfl) rfl
theorem q2200 : (Jvm.Cond.instanceMethod ({ cls := "Quillplate$Changed", name := "of", desc := "(LQuillplate$Run;)LQuillplate$Value;" } : Jvm.MethodName)) ∈ lw_all := lw_g (lw_at lw_m9 176 rfl) rfl
theorem q2201 : (Jvm.Cond.code ({ cls := "Quillplate$Changed", name := "of", desc := "(LQuillplate$Run;)LQuillplate$Value;" } : Jvm.MethodName) prog_3_method_2_code (3 : Nat) (Option.some (Jvm.ClassFile.FieldType.object "Quillplate$Value"))) ∈ lw_all := lw_g (lw_at lw_m9 177 rfl) rfl
theorem q2202 : (Jvm.Cond.methodLink "Quillplate$Changed" (24 : Nat) ({ cls := "Quillplate$Expression", name := "of", desc := "(LQuillplate$Run;)LQuillplate$Value;" } : Jvm.MethodName)) ∈ lw_all := lw_g (lw_at lw_m9 178 rfl) rfl
theorem q2277 : (Jvm.Cond.methodLink "Quillplate$Changed" (28 : Nat) ({ cls := "Quillplate$Value", name := "at", desc := "(I)LQuillplate$Value;" } : Jvm.MethodName)) ∈ lw_all := lw_g (lw_at lw_m10 13 rfl) rfl
theorem q2282 : (Jvm.Cond.methodLink "Quillplate$Changed" (34 : Nat) ({ cls := "Quillplate$Value", name := "isTrue", desc := "()Z" } : Jvm.MethodName)) ∈ lw_all := lw_g (lw_at lw_m10 18 rfl) rfl
theorem q2292 : (Jvm.Cond.methodLinkNest "Quillplate$Changed" (38 : Nat) ({ cls := "Quillplate", name := "truth", desc := "(Z)LQuillplate$Value;" } : Jvm.MethodName) "Quillplate") ∈ lw_tbl := lw_at lw_m10 28 rfl
theorem q2293 : (Jvm.Cond.fieldLink "Quillplate$Changed" (44 : Nat) "Quillplate$Sort" "NOTHING" "LQuillplate$Sort;") ∈ lw_all := lw_g (lw_at lw_m10 29 rfl) rfl
theorem q2294 : (Jvm.Cond.methodLink "Quillplate$Changed" (50 : Nat) ({ cls := "Quillplate$Value", name := "is", desc := "(LQuillplate$Sort;)Z" } : Jvm.MethodName)) ∈ lw_all := lw_g (lw_at lw_m10 30 rfl) rfl
theorem q2295 : (Jvm.Cond.methodLinkNest "Quillplate$Changed" (54 : Nat) ({ cls := "Quillplate", name := "filtered", desc := "(CLQuillplate$Value;)LQuillplate$Value;" } : Jvm.MethodName) "Quillplate") ∈ lw_tbl := lw_at lw_m10 31 rfl
theorem q2454 : (Jvm.Cond.selects "Quillplate$Changed" ({ cls := "java/lang/Object", name := "equals", desc := "(Ljava/lang/Object;)Z" } : Jvm.MethodName) ({ cls := "java/lang/Object", name := "equals", desc := "(Ljava/lang/Object;)Z" } : Jvm.MethodName)) ∈ lw_all := lw_g (lw_at lw_m10 190 rfl) rfl
theorem q3848 : (Jvm.Cond.castable "Quillplate$Changed" "java/lang/Object") ∈ lw_tbl := lw_at lw_m16 144 rfl
theorem in_X12 : ∀ w ∈ wsX120, w ∈ lw_all := lw_in wsX120 [1130, 1132, 1134, 1136] (by decide +kernel) (by decide +kernel)
def RX13 : String := "Quillplate$Literal"
def TX13 : u_T := fun k => match k with
  | _ => ("Quillplate$Literal", "value", "LQuillplate$Value;", true)
def tyX13 : Nat → FieldType := fun k => match k with
  | _ => .object "Quillplate$Value"
abbrev wsX130 : List Cond := u_ws RX13 TX13 1
theorem nmX13 : ∀ a, a < 1 → ∀ b, b < 1 → a ≠ b → (TX13 a).2.1 ≠ (TX13 b).2.1 := by decide +kernel
theorem tyX13_ok : ∀ k, k < 1 → parseFieldDescriptor (TX13 k).2.2.1 = some (tyX13 k) := by decide +kernel
abbrev cX13_init : ByteArray := prog_13_method_1_code
def yX13_init : MethodName := ⟨RX13, "<init>", "(LQuillplate$Value;)V"⟩
abbrev cX13_of : ByteArray := prog_13_method_2_code
def yX13_of : MethodName := ⟨RX13, "of", "(LQuillplate$Run;)LQuillplate$Value;"⟩
theorem q146 : (Jvm.Cond.initialized "Quillplate$Literal") ∈ lw_all := lw_g (lw_at lw_m1 42 rfl) rfl
theorem q950 : (Jvm.Cond.selects "Quillplate$Literal" ({ cls := "java/lang/Object", name := "getClass", desc := "()Ljava/lang/Class;" } : Jvm.MethodName) ({ cls := "java/lang/Object", name := "getClass", desc := "()Ljava/lang/Class;" } : Jvm.MethodName)) ∈ lw_all := lw_g (lw_at lw_m4 126 rfl) rfl
theorem q1157 : (Jvm.Cond.instantiable "Quillplate$Literal" (1 : Nat)) ∈ lw_all := lw_g (lw_at lw_m5 93 rfl) rfl
theorem q1163 : (Jvm.Cond.instanceMethod ({ cls := "Quillplate$Literal", name := "<init>", desc := "(LQuillplate$Value;)V" } : Jvm.MethodName)) ∈ lw_all := lw_g (lw_at lw_m5 99 rfl) rfl
theorem q1164 : (Jvm.Cond.code ({ cls := "Quillplate$Literal", name := "<init>", desc := "(LQuillplate$Value;)V" } : Jvm.MethodName) prog_13_method_1_code (2 : Nat) (Option.none : Option Jvm.ClassFile.FieldType)) ∈ lw_all := lw_g (lw_at lw_m5 100 rfl) rfl
theorem q1165 : (Jvm.Cond.methodLinkNest "Quillplate$Literal" (1 : Nat) ({ cls := "Quillplate$Expression", name := "<init>", desc := "()V" } : Jvm.MethodName) "Quillplate") ∈ lw_tbl := lw_at lw_m5 101 rfl
theorem q1166 : (Jvm.Cond.fieldLink "Quillplate$Literal" (7 : Nat) "Quillplate$Literal" "value" "LQuillplate$Value;") ∈ lw_all := lw_g (lw_at lw_m5 102 rfl) rfl
theorem q1167 : (Jvm.Cond.laysFinal "Quillplate$Literal" "Quillplate$Literal" "value" "LQuillplate$Value;") ∈ lw_all := lw_g (lw_at lw_m5 103 rfl) rfl
theorem q1168 : (Jvm.Cond.soleField "Quillplate$Literal" "value") ∈ lw_all := lw_g (lw_at lw_m5 104 rfl) rfl
theorem q1169 : (Jvm.Cond.superclass "Quillplate$Literal" "Quillplate$Expression") ∈ lw_all := lw_g (lw_at lw_m5 105 rfl) rfl
theorem q2203 : (Jvm.Cond.instanceMethod ({ cls := "Quillplate$Literal", name := "of", desc := "(LQuillplate$Run;)LQuillplate$Value;" } : Jvm.MethodName)) ∈ lw_all := lw_g (lw_at lw_m9 179 rfl) rfl
theorem q2204 : (Jvm.Cond.code ({ cls := "Quillplate$Literal", name := "of", desc := "(LQuillplate$Run;)LQuillplate$Value;" } : Jvm.MethodName) prog_13_method_2_code (2 : Nat) (Option.some (Jvm.ClassFile.FieldType.object "Quillplate$Value"))) ∈ lw_all := lw_g (lw_at lw_m9 180 rfl) rfl
theorem q2364 : (Jvm.Cond.selects "Quillplate$Literal" ({ cls := "Quillplate$Expression", name := "of", desc := "(LQuillplate$Run;)LQuillplate$Value;" } : Jvm.MethodName) ({ cls := "Quillplate$Literal", name := "of", desc := "(LQuillplate$Run;)LQuillplate$Value;" } : Jvm.MethodName)) ∈ lw_all := lw_g (lw_at lw_m10 100 rfl) rfl
theorem q2461 : (Jvm.Cond.selects "Quillplate$Literal" ({ cls := "java/lang/Object", name := "equals", desc := "(Ljava/lang/Object;)Z" } : Jvm.MethodName) ({ cls := "java/lang/Object", name := "equals", desc := "(Ljava/lang/Object;)Z" } : Jvm.MethodName)) ∈ lw_all := lw_g (lw_at lw_m10 197 rfl) rfl
theorem q3849 : (Jvm.Cond.castable "Quillplate$Literal" "java/lang/Object") ∈ lw_tbl := lw_at lw_m16 145 rfl
theorem in_X13 : ∀ w ∈ wsX130, w ∈ lw_all := lw_in wsX130 [1167] (by decide +kernel) (by decide +kernel)
def RX14 : String := "Quillplate$Pair"
def TX14 : u_T := fun k => match k with
  | 0 => ("Quillplate$Pair", "sign", "C", true)
  | 1 => ("Quillplate$Pair", "one", "LQuillplate$Expression;", true)
  | _ => ("Quillplate$Pair", "other", "LQuillplate$Expression;", true)
def tyX14 : Nat → FieldType := fun k => match k with
  | 0 => .char
  | 1 => .object "Quillplate$Expression"
  | _ => .object "Quillplate$Expression"
abbrev wsX140 : List Cond := u_ws RX14 TX14 3
theorem nmX14 : ∀ a, a < 3 → ∀ b, b < 3 → a ≠ b → (TX14 a).2.1 ≠ (TX14 b).2.1 := by decide +kernel
theorem tyX14_ok : ∀ k, k < 3 → parseFieldDescriptor (TX14 k).2.2.1 = some (tyX14 k) := by decide +kernel
abbrev cX14_init : ByteArray := prog_16_method_1_code
def yX14_init : MethodName := ⟨RX14, "<init>", "(CLQuillplate$Expression;LQuillplate$Expression;)V"⟩
abbrev cX14_of : ByteArray := prog_16_method_2_code
def yX14_of : MethodName := ⟨RX14, "of", "(LQuillplate$Run;)LQuillplate$Value;"⟩
theorem q147 : (Jvm.Cond.initialized "Quillplate$Pair") ∈ lw_all := lw_g (lw_at lw_m1 43 rfl) rfl
theorem q953 : (Jvm.Cond.selects "Quillplate$Pair" ({ cls := "java/lang/Object", name := "getClass", desc := "()Ljava/lang/Class;" } : Jvm.MethodName) ({ cls := "java/lang/Object", name := "getClass", desc := "()Ljava/lang/Class;" } : Jvm.MethodName)) ∈ lw_all := lw_g (lw_at lw_m4 129 rfl) rfl
theorem q1189 : (Jvm.Cond.instantiable "Quillplate$Pair" (3 : Nat)) ∈ lw_all := lw_g (lw_at lw_m5 125 rfl) rfl
theorem q1191 : (Jvm.Cond.instanceMethod ({ cls := "Quillplate$Pair", name := "<init>", desc := "(CLQuillplate$Expression;LQuillplate$Expression;)V" } : Jvm.MethodName)) ∈ lw_all := lw_g (lw_at lw_m5 127 rfl) rfl
theorem q1192 : (Jvm.Cond.code ({ cls := "Quillplate$Pair", name := "<init>", desc := "(CLQuillplate$Expression;LQuillplate$Expression;)V" } : Jvm.MethodName) prog_16_method_1_code (4 : Nat) (Option.none : Option Jvm.ClassFile.FieldType)) ∈ lw_all := lw_g (lw_at lw_m5 128 rfl) rfl
theorem q1193 : (Jvm.Cond.methodLinkNest "Quillplate$Pair" (1 : Nat) ({ cls := "Quillplate$Expression", name := "<init>", desc := "()V" } : Jvm.MethodName) "Quillplate") ∈ lw_tbl := lw_at lw_m5 129 rfl
theorem q1194 : (Jvm.Cond.fieldLink "Quillplate$Pair" (7 : Nat) "Quillplate$Pair" "sign" "C") ∈ lw_all := lw_g (lw_at lw_m5 130 rfl) rfl
theorem q1195 : (Jvm.Cond.fieldLink "Quillplate$Pair" (13 : Nat) "Quillplate$Pair" "one" "LQuillplate$Expression;") ∈ lw_all := lw_g (lw_at lw_m5 131 rfl) rfl
theorem q1196 : (Jvm.Cond.fieldLink "Quillplate$Pair" (17 : Nat) "Quillplate$Pair" "other" "LQuillplate$Expression;") ∈ lw_all := lw_g (lw_at lw_m5 132 rfl) rfl
theorem q1197 : (Jvm.Cond.laysFinal "Quillplate$Pair" "Quillplate$Pair" "sign" "C") ∈ lw_all := lw_g (lw_at lw_m5 133 rfl) rfl
theorem q1198 : (Jvm.Cond.soleField "Quillplate$Pair" "sign") ∈ lw_all := lw_g (lw_at lw_m5 134 rfl) rfl
theorem q1199 : (Jvm.Cond.laysFinal "Quillplate$Pair" "Quillplate$Pair" "one" "LQuillplate$Expression;") ∈ lw_all := lw_g (lw_at lw_m5 135 rfl) rfl
theorem q1200 : (Jvm.Cond.soleField "Quillplate$Pair" "one") ∈ lw_all := lw_g (lw_at lw_m5 136 rfl) rfl
theorem q1201 : (Jvm.Cond.laysFinal "Quillplate$Pair" "Quillplate$Pair" "other" "LQuillplate$Expression;") ∈ lw_all := lw_g (lw_at lw_m5 137 rfl) rfl
theorem q1202 : (Jvm.Cond.soleField "Quillplate$Pair" "other") ∈ lw_all := lw_g (lw_at lw_m5 138 rfl) rfl
theorem q1203 : (Jvm.Cond.superclass "Quillplate$Pair" "Quillplate$Expression") ∈ lw_all := lw_g (lw_at lw_m5 139 rfl) rfl
theorem q2232 : (Jvm.Cond.instanceMethod ({ cls := "Quillplate$Pair", name := "of", desc := "(LQuillplate$Run;)LQuillplate$Value;" } : Jvm.MethodName)) ∈ lw_all := lw_g (lw_at lw_m9 208 rfl) rfl
theorem q2233 : (Jvm.Cond.code ({ cls := "Quillplate$Pair", name := "of", desc := "(LQuillplate$Run;)LQuillplate$Value;" } : Jvm.MethodName) prog_16_method_2_code (4 : Nat) (Option.some (Jvm.ClassFile.FieldType.object "Quillplate$Value"))) ∈ lw_all := lw_g (lw_at lw_m9 209 rfl) rfl
theorem q2234 : (Jvm.Cond.methodLink "Quillplate$Pair" (20 : Nat) ({ cls := "Quillplate$Expression", name := "of", desc := "(LQuillplate$Run;)LQuillplate$Value;" } : Jvm.MethodName)) ∈ lw_all := lw_g (lw_at lw_m9 210 rfl) rfl
theorem q2235 : (Jvm.Cond.methodLinkNest "Quillplate$Pair" (24 : Nat) ({ cls := "Quillplate", name := "add", desc := "(LQuillplate$Value;LQuillplate$Value;)LQuillplate$Value;" } : Jvm.MethodName) "Quillplate") ∈ lw_tbl := lw_at lw_m9 211 rfl
theorem q2252 : (Jvm.Cond.methodLink "Quillplate$Pair" (30 : Nat) ({ cls := "Quillplate$Value", name := "isSame", desc := "(LQuillplate$Value;)Z" } : Jvm.MethodName)) ∈ lw_all := lw_g (lw_at lw_m9 228 rfl) rfl
theorem q2267 : (Jvm.Cond.methodLinkNest "Quillplate$Pair" (36 : Nat) ({ cls := "Quillplate", name := "truth", desc := "(Z)LQuillplate$Value;" } : Jvm.MethodName) "Quillplate") ∈ lw_tbl := lw_at lw_m10 3 rfl
theorem q2270 : (Jvm.Cond.methodLinkNest "Quillplate$Pair" (40 : Nat) ({ cls := "Quillplate", name := "less", desc := "(LQuillplate$Value;LQuillplate$Value;)LQuillplate$Value;" } : Jvm.MethodName) "Quillplate") ∈ lw_tbl := lw_at lw_m10 6 rfl
theorem q2366 : (Jvm.Cond.selects "Quillplate$Pair" ({ cls := "Quillplate$Expression", name := "of", desc := "(LQuillplate$Run;)LQuillplate$Value;" } : Jvm.MethodName) ({ cls := "Quillplate$Pair", name := "of", desc := "(LQuillplate$Run;)LQuillplate$Value;" } : Jvm.MethodName)) ∈ lw_all := lw_g (lw_at lw_m10 102 rfl) rfl
theorem q2464 : (Jvm.Cond.selects "Quillplate$Pair" ({ cls := "java/lang/Object", name := "equals", desc := "(Ljava/lang/Object;)Z" } : Jvm.MethodName) ({ cls := "java/lang/Object", name := "equals", desc := "(Ljava/lang/Object;)Z" } : Jvm.MethodName)) ∈ lw_all := lw_g (lw_at lw_m10 200 rfl) rfl
theorem q3850 : (Jvm.Cond.castable "Quillplate$Pair" "java/lang/Object") ∈ lw_tbl := lw_at lw_m16 146 rfl
theorem in_X14 : ∀ w ∈ wsX140, w ∈ lw_all := lw_in wsX140 [1197, 1199, 1201] (by decide +kernel) (by decide +kernel)
def RX15 : String := "Quillplate$Choice"
def TX15 : u_T := fun k => match k with
  | 0 => ("Quillplate$Item", "at", "I", true)
  | 1 => ("Quillplate$Choice", "test", "LQuillplate$Expression;", true)
  | 2 => ("Quillplate$Choice", "yes", "Ljava/util/ArrayList;", true)
  | _ => ("Quillplate$Choice", "no", "Ljava/util/ArrayList;", true)
def tyX15 : Nat → FieldType := fun k => match k with
  | 0 => .int
  | 1 => .object "Quillplate$Expression"
  | 2 => .object "java/util/ArrayList"
  | _ => .object "java/util/ArrayList"
abbrev wsX150 : List Cond := u_ws RX15 TX15 4
theorem nmX15 : ∀ a, a < 4 → ∀ b, b < 4 → a ≠ b → (TX15 a).2.1 ≠ (TX15 b).2.1 := by decide +kernel
theorem tyX15_ok : ∀ k, k < 4 → parseFieldDescriptor (TX15 k).2.2.1 = some (tyX15 k) := by decide +kernel
abbrev cX15_init : ByteArray := prog_4_method_1_code
def yX15_init : MethodName := ⟨RX15, "<init>", "(ILQuillplate$Expression;Ljava/util/ArrayList;Ljava/util/ArrayList;)V"⟩
abbrev cX15_ends : ByteArray := prog_4_method_3_code
def yX15_ends : MethodName := ⟨RX15, "ends", "(I)I"⟩
abbrev cX15_render : ByteArray := prog_4_method_2_code
def yX15_render : MethodName := ⟨RX15, "render", "(LQuillplate$Run;)V"⟩
theorem q148 : (Jvm.Cond.initialized "Quillplate$Choice") ∈ lw_all := lw_g (lw_at lw_m1 44 rfl) rfl
theorem q944 : (Jvm.Cond.selects "Quillplate$Choice" ({ cls := "java/lang/Object", name := "getClass", desc := "()Ljava/lang/Class;" } : Jvm.MethodName) ({ cls := "java/lang/Object", name := "getClass", desc := "()Ljava/lang/Class;" } : Jvm.MethodName)) ∈ lw_all := lw_g (lw_at lw_m4 120 rfl) rfl
theorem q1209 : (Jvm.Cond.instantiable "Quillplate$Choice" (4 : Nat)) ∈ lw_all := lw_g (lw_at lw_m5 145 rfl) rfl
theorem q1219 : (Jvm.Cond.instanceMethod ({ cls := "Quillplate$Choice", name := "<init>", desc := "(ILQuillplate$Expression;Ljava/util/ArrayList;Ljava/util/ArrayList;)V" } : Jvm.MethodName)) ∈ lw_all := lw_g (lw_at lw_m5 155 rfl) rfl
theorem q1220 : (Jvm.Cond.code ({ cls := "Quillplate$Choice", name := "<init>", desc := "(ILQuillplate$Expression;Ljava/util/ArrayList;Ljava/util/ArrayList;)V" } : Jvm.MethodName) prog_4_method_1_code (5 : Nat) (Option.none : Option Jvm.ClassFile.FieldType)) ∈ lw_all := lw_g (lw_at lw_m5 156 rfl) rfl
theorem q1221 : (Jvm.Cond.methodLink "Quillplate$Choice" (3 : Nat) ({ cls := "Quillplate$Item", name := "<init>", desc := "(I)V" } : Jvm.MethodName)) ∈ lw_all := lw_g (lw_at lw_m5 157 rfl) rfl
theorem q1222 : (Jvm.Cond.fieldLink "Quillplate$Choice" (9 : Nat) "Quillplate$Choice" "test" "LQuillplate$Expression;") ∈ lw_all := lw_g (lw_at lw_m5 158 rfl) rfl
theorem q1223 : (Jvm.Cond.fieldLink "Quillplate$Choice" (15 : Nat) "Quillplate$Choice" "yes" "Ljava/util/ArrayList;") ∈ lw_all := lw_g (lw_at lw_m5 159 rfl) rfl
theorem q1224 : (Jvm.Cond.fieldLink "Quillplate$Choice" (19 : Nat) "Quillplate$Choice" "no" "Ljava/util/ArrayList;") ∈ lw_all := lw_g (lw_at lw_m5 160 rfl) rfl
theorem q1225 : (Jvm.Cond.laysFinal "Quillplate$Choice" "Quillplate$Choice" "test" "LQuillplate$Expression;") ∈ lw_all := lw_g (lw_at lw_m5 161 rfl) rfl
theorem q1226 : (Jvm.Cond.soleField "Quillplate$Choice" "test") ∈ lw_all := lw_g (lw_at lw_m5 162 rfl) rfl
theorem q1227 : (Jvm.Cond.laysFinal "Quillplate$Choice" "Quillplate$Choice" "yes" "Ljava/util/ArrayList;") ∈ lw_all := lw_g (lw_at lw_m5 163 rfl) rfl
theorem q1228 : (Jvm.Cond.soleField "Quillplate$Choice" "yes") ∈ lw_all := lw_g (lw_at lw_m5 164 rfl) rfl
theorem q1229 : (Jvm.Cond.laysFinal "Quillplate$Choice" "Quillplate$Choice" "no" "Ljava/util/ArrayList;") ∈ lw_all := lw_g (lw_at lw_m5 165 rfl) rfl
theorem q1230 : (Jvm.Cond.soleField "Quillplate$Choice" "no") ∈ lw_all := lw_g (lw_at lw_m5 166 rfl) rfl
theorem q1231 : (Jvm.Cond.laysFinal "Quillplate$Choice" "Quillplate$Item" "at" "I") ∈ lw_all := lw_g (lw_at lw_m5 167 rfl) rfl
theorem q1232 : (Jvm.Cond.superclass "Quillplate$Choice" "Quillplate$Item") ∈ lw_all := lw_g (lw_at lw_m5 168 rfl) rfl
theorem q2126 : (Jvm.Cond.selects "Quillplate$Choice" ({ cls := "Quillplate$Item", name := "ends", desc := "(I)I" } : Jvm.MethodName) ({ cls := "Quillplate$Choice", name := "ends", desc := "(I)I" } : Jvm.MethodName)) ∈ lw_all := lw_g (lw_at lw_m9 102 rfl) rfl
theorem q2127 : (Jvm.Cond.instanceMethod ({ cls := "Quillplate$Choice", name := "ends", desc := "(I)I" } : Jvm.MethodName)) ∈ lw_all := lw_g (lw_at lw_m9 103 rfl) rfl
theorem q2128 : (Jvm.Cond.code ({ cls := "Quillplate$Choice", name := "ends", desc := "(I)I" } : Jvm.MethodName) prog_4_method_3_code (2 : Nat) (Option.some Jvm.ClassFile.FieldType.int)) ∈ lw_all := lw_g (lw_at lw_m9 104 rfl) rfl
theorem q2129 : (Jvm.Cond.methodLinkNest "Quillplate$Choice" (40 : Nat) ({ cls := "Quillplate", name := "closed", desc := "(Ljava/util/ArrayList;I)I" } : Jvm.MethodName) "Quillplate") ∈ lw_tbl := lw_at lw_m9 105 rfl
theorem q2193 : (Jvm.Cond.selects "Quillplate$Choice" ({ cls := "Quillplate$Item", name := "render", desc := "(LQuillplate$Run;)V" } : Jvm.MethodName) ({ cls := "Quillplate$Choice", name := "render", desc := "(LQuillplate$Run;)V" } : Jvm.MethodName)) ∈ lw_all := lw_g (lw_at lw_m9 169 rfl) rfl
theorem q2194 : (Jvm.Cond.instanceMethod ({ cls := "Quillplate$Choice", name := "render", desc := "(LQuillplate$Run;)V" } : Jvm.MethodName)) ∈ lw_all := lw_g (lw_at lw_m9 170 rfl) rfl
theorem q2195 : (Jvm.Cond.code ({ cls := "Quillplate$Choice", name := "render", desc := "(LQuillplate$Run;)V" } : Jvm.MethodName) prog_4_method_2_code (2 : Nat) (Option.none : Option Jvm.ClassFile.FieldType)) ∈ lw_all := lw_g (lw_at lw_m9 171 rfl) rfl
theorem q2196 : (Jvm.Cond.methodLink "Quillplate$Choice" (22 : Nat) ({ cls := "Quillplate$Expression", name := "of", desc := "(LQuillplate$Run;)LQuillplate$Value;" } : Jvm.MethodName)) ∈ lw_all := lw_g (lw_at lw_m9 172 rfl) rfl
theorem q2367 : (Jvm.Cond.methodLink "Quillplate$Choice" (28 : Nat) ({ cls := "Quillplate$Value", name := "isTrue", desc := "()Z" } : Jvm.MethodName)) ∈ lw_all := lw_g (lw_at lw_m10 103 rfl) rfl
theorem q2368 : (Jvm.Cond.methodLink "Quillplate$Choice" (34 : Nat) ({ cls := "Quillplate$Run", name := "renderAll", desc := "(Ljava/util/ArrayList;)V" } : Jvm.MethodName)) ∈ lw_all := lw_g (lw_at lw_m10 104 rfl) rfl
theorem q2455 : (Jvm.Cond.selects "Quillplate$Choice" ({ cls := "java/lang/Object", name := "equals", desc := "(Ljava/lang/Object;)Z" } : Jvm.MethodName) ({ cls := "java/lang/Object", name := "equals", desc := "(Ljava/lang/Object;)Z" } : Jvm.MethodName)) ∈ lw_all := lw_g (lw_at lw_m10 191 rfl) rfl
theorem q3819 : (Jvm.Cond.castable "Quillplate$Choice" "Quillplate$Item") ∈ lw_tbl := lw_at lw_m16 115 rfl
theorem q3851 : (Jvm.Cond.castable "Quillplate$Choice" "java/lang/Object") ∈ lw_tbl := lw_at lw_m16 147 rfl
theorem in_X15 : ∀ w ∈ wsX150, w ∈ lw_all := lw_in wsX150 [1231, 1225, 1227, 1229] (by decide +kernel) (by decide +kernel)
def RX16 : String := "Quillplate$Loop"
def TX16 : u_T := fun k => match k with
  | 0 => ("Quillplate$Item", "at", "I", true)
  | 1 => ("Quillplate$Loop", "list", "LQuillplate$Expression;", true)
  | 2 => ("Quillplate$Loop", "each", "Ljava/util/ArrayList;", true)
  | _ => ("Quillplate$Loop", "none", "Ljava/util/ArrayList;", true)
def tyX16 : Nat → FieldType := fun k => match k with
  | 0 => .int
  | 1 => .object "Quillplate$Expression"
  | 2 => .object "java/util/ArrayList"
  | _ => .object "java/util/ArrayList"
abbrev wsX160 : List Cond := u_ws RX16 TX16 4
theorem nmX16 : ∀ a, a < 4 → ∀ b, b < 4 → a ≠ b → (TX16 a).2.1 ≠ (TX16 b).2.1 := by decide +kernel
theorem tyX16_ok : ∀ k, k < 4 → parseFieldDescriptor (TX16 k).2.2.1 = some (tyX16 k) := by decide +kernel
abbrev cX16_init : ByteArray := prog_14_method_1_code
def yX16_init : MethodName := ⟨RX16, "<init>", "(ILQuillplate$Expression;Ljava/util/ArrayList;Ljava/util/ArrayList;)V"⟩
abbrev cX16_ends : ByteArray := prog_14_method_3_code
def yX16_ends : MethodName := ⟨RX16, "ends", "(I)I"⟩
abbrev cX16_render : ByteArray := prog_14_method_2_code
def yX16_render : MethodName := ⟨RX16, "render", "(LQuillplate$Run;)V"⟩
theorem q149 : (Jvm.Cond.initialized "Quillplate$Loop") ∈ lw_all := lw_g (lw_at lw_m1 45 rfl) rfl
theorem q595 : (Jvm.Cond.fieldLink "Quillplate$Loop" (56 : Nat) "Quillplate$Value" "list" "Ljava/util/ArrayList;") ∈ lw_all := lw_g (lw_at lw_m3 11 rfl) rfl
theorem q665 : (Jvm.Cond.fieldLink "Quillplate$Loop" (47 : Nat) "Quillplate$Run" "item" "LQuillplate$Value;") ∈ lw_all := lw_g (lw_at lw_m3 81 rfl) rfl
theorem q667 : (Jvm.Cond.fieldLink "Quillplate$Loop" (53 : Nat) "Quillplate$Run" "count" "LQuillplate$Value;") ∈ lw_all := lw_g (lw_at lw_m3 83 rfl) rfl
theorem q951 : (Jvm.Cond.selects "Quillplate$Loop" ({ cls := "java/lang/Object", name := "getClass", desc := "()Ljava/lang/Class;" } : Jvm.MethodName) ({ cls := "java/lang/Object", name := "getClass", desc := "()Ljava/lang/Class;" } : Jvm.MethodName)) ∈ lw_all := lw_g (lw_at lw_m4 127 rfl) rfl
theorem q1238 : (Jvm.Cond.instantiable "Quillplate$Loop" (4 : Nat)) ∈ lw_all := lw_g (lw_at lw_m5 174 rfl) rfl
theorem q1240 : (Jvm.Cond.instanceMethod ({ cls := "Quillplate$Loop", name := "<init>", desc := "(ILQuillplate$Expression;Ljava/util/ArrayList;Ljava/util/ArrayList;)V" } : Jvm.MethodName)) ∈ lw_all := lw_g (lw_at lw_m5 176 rfl) rfl
theorem q1241 : (Jvm.Cond.code ({ cls := "Quillplate$Loop", name := "<init>", desc := "(ILQuillplate$Expression;Ljava/util/ArrayList;Ljava/util/ArrayList;)V" } : Jvm.MethodName) prog_14_method_1_code (5 : Nat) (Option.none : Option Jvm.ClassFile.FieldType)) ∈ lw_all := lw_g (lw_at lw_m5 177 rfl) rfl
theorem q1242 : (Jvm.Cond.methodLink "Quillplate$Loop" (3 : Nat) ({ cls := "Quillplate$Item", name := "<init>", desc := "(I)V" } : Jvm.MethodName)) ∈ lw_all := lw_g (lw_at lw_m5 178 rfl) rfl
theorem q1243 : (Jvm.Cond.fieldLink "Quillplate$Loop" (9 : Nat) "Quillplate$Loop" "list" "LQuillplate$Expression;") ∈ lw_all := lw_g (lw_at lw_m5 179 rfl) rfl
theorem q1244 : (Jvm.Cond.fieldLink "Quillplate$Loop" (15 : Nat) "Quillplate$Loop" "each" "Ljava/util/ArrayList;") ∈ lw_all := lw_g (lw_at lw_m5 180 rfl) rfl
theorem q1245 : (Jvm.Cond.fieldLink "Quillplate$Loop" (19 : Nat) "Quillplate$Loop" "none" "Ljava/util/ArrayList;") ∈ lw_all := lw_g (lw_at lw_m5 181 rfl) rfl
theorem q1246 : (Jvm.Cond.laysFinal "Quillplate$Loop" "Quillplate$Loop" "list" "LQuillplate$Expression;") ∈ lw_all := lw_g (lw_at lw_m5 182 rfl) rfl
theorem q1247 : (Jvm.Cond.soleField "Quillplate$Loop" "list") ∈ lw_all := lw_g (lw_at lw_m5 183 rfl) rfl
theorem q1248 : (Jvm.Cond.laysFinal "Quillplate$Loop" "Quillplate$Loop" "each" "Ljava/util/ArrayList;") ∈ lw_all := lw_g (lw_at lw_m5 184 rfl) rfl
theorem q1249 : (Jvm.Cond.soleField "Quillplate$Loop" "each") ∈ lw_all := lw_g (lw_at lw_m5 185 rfl) rfl
theorem q1250 : (Jvm.Cond.laysFinal "Quillplate$Loop" "Quillplate$Loop" "none" "Ljava/util/ArrayList;") ∈ lw_all := lw_g (lw_at lw_m5 186 rfl) rfl
theorem q1251 : (Jvm.Cond.soleField "Quillplate$Loop" "none") ∈ lw_all := lw_g (lw_at lw_m5 187 rfl) rfl
theorem q1252 : (Jvm.Cond.laysFinal "Quillplate$Loop" "Quillplate$Item" "at" "I") ∈ lw_all := lw_g (lw_at lw_m5 188 rfl) rfl
theorem q1253 : (Jvm.Cond.superclass "Quillplate$Loop" "Quillplate$Item") ∈ lw_all := lw_g (lw_at lw_m5 189 rfl) rfl
theorem q2132 : (Jvm.Cond.selects "Quillplate$Loop" ({ cls := "Quillplate$Item", name := "ends", desc := "(I)I" } : Jvm.MethodName) ({ cls := "Quillplate$Loop", name := "ends", desc := "(I)I" } : Jvm.MethodName)) ∈ lw_all := lw_g (lw_at lw_m9 108 rfl) rfl
theorem q2133 : (Jvm.Cond.instanceMethod ({ cls := "Quillplate$Loop", name := "ends", desc := "(I)I" } : Jvm.MethodName)) ∈ lw_all := lw_g (lw_at lw_m9 109 rfl) rfl
theorem q2134 : (Jvm.Cond.code ({ cls := "Quillplate$Loop", name := "ends", desc := "(I)I" } : Jvm.MethodName) prog_14_method_3_code (2 : Nat) (Option.some Jvm.ClassFile.FieldType.int)) ∈ lw_all := lw_g (lw_at lw_m9 110 rfl) rfl
theorem q2135 : (Jvm.Cond.methodLinkNest "Quillplate$Loop" (83 : Nat) ({ cls := "Quillplate", name := "closed", desc := "(Ljava/util/ArrayList;I)I" } : Jvm.MethodName) "Quillplate") ∈ lw_tbl := lw_at lw_m9 111 rfl
theorem q2406 : (Jvm.Cond.selects "Quillplate$Loop" ({ cls := "Quillplate$Item", name := "render", desc := "(LQuillplate$Run;)V" } : Jvm.MethodName) ({ cls := "Quillplate$Loop", name := "render", desc := "(LQuillplate$Run;)V" } : Jvm.MethodName)) ∈ lw_all := lw_g (lw_at lw_m10 142 rfl) rfl
theorem q2407 : (Jvm.Cond.instanceMethod ({ cls := "Quillplate$Loop", name := "render", desc := "(LQuillplate$Run;)V" } : Jvm.MethodName)) ∈ lw_all := lw_g (lw_at lw_m10 143 rfl) rfl
theorem q2408 : (Jvm.Cond.code ({ cls := "Quillplate$Loop", name := "render", desc := "(LQuillplate$Run;)V" } : Jvm.MethodName) prog_14_method_2_code (6 : Nat) (Option.none : Option Jvm.ClassFile.FieldType)) ∈ lw_all := lw_g (lw_at lw_m10 144 rfl) rfl
theorem q2409 : (Jvm.Cond.methodLink "Quillplate$Loop" (22 : Nat) ({ cls := "Quillplate$Expression", name := "of", desc := "(LQuillplate$Run;)LQuillplate$Value;" } : Jvm.MethodName)) ∈ lw_all := lw_g (lw_at lw_m10 145 rfl) rfl
theorem q2410 : (Jvm.Cond.fieldLink "Quillplate$Loop" (28 : Nat) "Quillplate$Sort" "LIST" "LQuillplate$Sort;") ∈ lw_all := lw_g (lw_at lw_m10 146 rfl) rfl
theorem q2411 : (Jvm.Cond.methodLink "Quillplate$Loop" (34 : Nat) ({ cls := "Quillplate$Value", name := "is", desc := "(LQuillplate$Sort;)Z" } : Jvm.MethodName)) ∈ lw_all := lw_g (lw_at lw_m10 147 rfl) rfl
theorem q2412 : (Jvm.Cond.fieldLink "Quillplate$Loop" (40 : Nat) "Quillplate$Sort" "NOTHING" "LQuillplate$Sort;") ∈ lw_all := lw_g (lw_at lw_m10 148 rfl) rfl
theorem q2413 : (Jvm.Cond.methodLinkNest "Quillplate$Loop" (43 : Nat) ({ cls := "Quillplate", name := "check", desc := "(ZI)V" } : Jvm.MethodName) "Quillplate") ∈ lw_tbl := lw_at lw_m10 149 rfl
theorem q2414 : (Jvm.Cond.methodLink "Quillplate$Loop" (58 : Nat) ({ cls := "java/util/ArrayList", name := "size", desc := "()I" } : Jvm.MethodName)) ∈ lw_all := lw_g (lw_at lw_m10 150 rfl) rfl
theorem q2415 : (Jvm.Cond.methodLink "Quillplate$Loop" (64 : Nat) ({ cls := "Quillplate$Run", name := "step", desc := "()V" } : Jvm.MethodName)) ∈ lw_all := lw_g (lw_at lw_m10 151 rfl) rfl
theorem q2416 : (Jvm.Cond.methodLink "Quillplate$Loop" (68 : Nat) ({ cls := "java/util/ArrayList", name := "get", desc := "(I)Ljava/lang/Object;" } : Jvm.MethodName)) ∈ lw_all := lw_g (lw_at lw_m10 152 rfl) rfl
theorem q2417 : (Jvm.Cond.classLink "Quillplate$Loop" (35 : Nat) "Quillplate$Value") ∈ lw_all := lw_g (lw_at lw_m10 153 rfl) rfl
theorem q2418 : (Jvm.Cond.methodLink "Quillplate$Loop" (72 : Nat) ({ cls := "Quillplate$Value", name := "of", desc := "(I)LQuillplate$Value;" } : Jvm.MethodName)) ∈ lw_all := lw_g (lw_at lw_m10 154 rfl) rfl
theorem q2419 : (Jvm.Cond.methodLink "Quillplate$Loop" (75 : Nat) ({ cls := "Quillplate$Run", name := "renderAll", desc := "(Ljava/util/ArrayList;)V" } : Jvm.MethodName)) ∈ lw_all := lw_g (lw_at lw_m10 155 rfl) rfl
theorem q2420 : (Jvm.Cond.methodLink "Quillplate$Loop" (79 : Nat) ({ cls := "java/util/ArrayList", name := "isEmpty", desc := "()Z" } : Jvm.MethodName)) ∈ lw_all := lw_g (lw_at lw_m10 156 rfl) rfl
theorem q2462 : (Jvm.Cond.selects "Quillplate$Loop" ({ cls := "java/lang/Object", name := "equals", desc := "(Ljava/lang/Object;)Z" } : Jvm.MethodName) ({ cls := "java/lang/Object", name := "equals", desc := "(Ljava/lang/Object;)Z" } : Jvm.MethodName)) ∈ lw_all := lw_g (lw_at lw_m10 198 rfl) rfl
theorem q3822 : (Jvm.Cond.castable "Quillplate$Loop" "Quillplate$Item") ∈ lw_tbl := lw_at lw_m16 118 rfl
theorem q3852 : (Jvm.Cond.castable "Quillplate$Loop" "java/lang/Object") ∈ lw_tbl := lw_at lw_m16 148 rfl
theorem in_X16 : ∀ w ∈ wsX160, w ∈ lw_all := lw_in wsX160 [1252, 1246, 1248, 1250] (by decide +kernel) (by decide +kernel)
def RX17 : String := "Quillplate$Block"
def TX17 : u_T := fun k => match k with
  | 0 => ("Quillplate$Item", "at", "I", true)
  | 1 => ("Quillplate$Block", "name", "I", true)
  | _ => ("Quillplate$Block", "in", "Ljava/util/ArrayList;", true)
def tyX17 : Nat → FieldType := fun k => match k with
  | 0 => .int
  | 1 => .int
  | _ => .object "java/util/ArrayList"
abbrev wsX170 : List Cond := u_ws RX17 TX17 3
theorem nmX17 : ∀ a, a < 3 → ∀ b, b < 3 → a ≠ b → (TX17 a).2.1 ≠ (TX17 b).2.1 := by decide +kernel
theorem tyX17_ok : ∀ k, k < 3 → parseFieldDescriptor (TX17 k).2.2.1 = some (tyX17 k) := by decide +kernel
abbrev cX17_init : ByteArray := prog_2_method_1_code
def yX17_init : MethodName := ⟨RX17, "<init>", "(IILjava/util/ArrayList;)V"⟩
abbrev cX17_render : ByteArray := prog_2_method_2_code
def yX17_render : MethodName := ⟨RX17, "render", "(LQuillplate$Run;)V"⟩
abbrev cX17_ends : ByteArray := prog_2_method_3_code
def yX17_ends : MethodName := ⟨RX17, "ends", "(I)I"⟩
theorem q150 : (Jvm.Cond.initialized "Quillplate$Block") ∈ lw_all := lw_g (lw_at lw_m1 46 rfl) rfl
theorem q870 : (Jvm.Cond.fieldLink "Quillplate$Block" (17 : Nat) "Quillplate$Block" "at" "I") ∈ lw_all := lw_g (lw_at lw_m4 46 rfl) rfl
theorem q871 : (Jvm.Cond.sameField "Quillplate$Block" "Quillplate$Item" "at" "I") ∈ lw_all := lw_g (lw_at lw_m4 47 rfl) rfl
theorem q942 : (Jvm.Cond.selects "Quillplate$Block" ({ cls := "java/lang/Object", name := "getClass", desc := "()Ljava/lang/Class;" } : Jvm.MethodName) ({ cls := "java/lang/Object", name := "getClass", desc := "()Ljava/lang/Class;" } : Jvm.MethodName)) ∈ lw_all := lw_g (lw_at lw_m4 118 rfl) rfl
theorem q1262 : (Jvm.Cond.instantiable "Quillplate$Block" (3 : Nat)) ∈ lw_all := lw_g (lw_at lw_m5 198 rfl) rfl
theorem q1264 : (Jvm.Cond.instanceMethod ({ cls := "Quillplate$Block", name := "<init>", desc := "(IILjava/util/ArrayList;)V" } : Jvm.MethodName)) ∈ lw_all := lw_g (lw_at lw_m5 200 rfl) rfl
theorem q1265 : (Jvm.Cond.code ({ cls := "Quillplate$Block", name := "<init>", desc := "(IILjava/util/ArrayList;)V" } : Jvm.MethodName) prog_2_method_1_code (4 : Nat) (Option.none : Option Jvm.ClassFile.FieldType)) ∈ lw_all := lw_g (lw_at lw_m5 201 rfl) rfl
theorem q1266 : (Jvm.Cond.methodLink "Quillplate$Block" (1 : Nat) ({ cls := "Quillplate$Item", name := "<init>", desc := "(I)V" } : Jvm.MethodName)) ∈ lw_all := lw_g (lw_at lw_m5 202 rfl) rfl
theorem q1267 : (Jvm.Cond.fieldLink "Quillplate$Block" (7 : Nat) "Quillplate$Block" "name" "I") ∈ lw_all := lw_g (lw_at lw_m5 203 rfl) rfl
theorem q1268 : (Jvm.Cond.fieldLink "Quillplate$Block" (13 : Nat) "Quillplate$Block" "in" "Ljava/util/ArrayList;") ∈ lw_all := lw_g (lw_at lw_m5 204 rfl) rfl
theorem q1271 : (Jvm.Cond.laysFinal "Quillplate$Block" "Quillplate$Block" "name" "I") ∈ lw_all := lw_g (lw_at lw_m5 207 rfl) rfl
theorem q1272 : (Jvm.Cond.soleField "Quillplate$Block" "name") ∈ lw_all := lw_g (lw_at lw_m5 208 rfl) rfl
theorem q1273 : (Jvm.Cond.laysFinal "Quillplate$Block" "Quillplate$Block" "in" "Ljava/util/ArrayList;") ∈ lw_all := lw_g (lw_at lw_m5 209 rfl) rfl
theorem q1274 : (Jvm.Cond.soleField "Quillplate$Block" "in") ∈ lw_all := lw_g (lw_at lw_m5 210 rfl) rfl
theorem q1275 : (Jvm.Cond.laysFinal "Quillplate$Block" "Quillplate$Item" "at" "I") ∈ lw_all := lw_g (lw_at lw_m5 211 rfl) rfl
theorem q1276 : (Jvm.Cond.superclass "Quillplate$Block" "Quillplate$Item") ∈ lw_all := lw_g (lw_at lw_m5 212 rfl) rfl
theorem q2096 : (Jvm.Cond.selects "Quillplate$Block" ({ cls := "Quillplate$Item", name := "render", desc := "(LQuillplate$Run;)V" } : Jvm.MethodName) ({ cls := "Quillplate$Block", name := "render", desc := "(LQuillplate$Run;)V" } : Jvm.MethodName)) ∈ lw_all := lw_g (lw_at lw_m9 72 rfl) rfl
theorem q2097 : (Jvm.Cond.instanceMethod ({ cls := "Quillplate$Block", name := "render", desc := "(LQuillplate$Run;)V" } : Jvm.MethodName)) ∈ lw_all := lw_g (lw_at lw_m9 73 rfl) rfl
theorem q2098 : (Jvm.Cond.code ({ cls := "Quillplate$Block", name := "render", desc := "(LQuillplate$Run;)V" } : Jvm.MethodName) prog_2_method_2_code (2 : Nat) (Option.none : Option Jvm.ClassFile.FieldType)) ∈ lw_all := lw_g (lw_at lw_m9 74 rfl) rfl
theorem q2099 : (Jvm.Cond.methodLink "Quillplate$Block" (20 : Nat) ({ cls := "Quillplate$Run", name := "renderBlock", desc := "(II)V" } : Jvm.MethodName)) ∈ lw_all := lw_g (lw_at lw_m9 75 rfl) rfl
theorem q2122 : (Jvm.Cond.selects "Quillplate$Block" ({ cls := "Quillplate$Item", name := "ends", desc := "(I)I" } : Jvm.MethodName) ({ cls := "Quillplate$Block", name := "ends", desc := "(I)I" } : Jvm.MethodName)) ∈ lw_all := lw_g (lw_at lw_m9 98 rfl) rfl
theorem q2123 : (Jvm.Cond.instanceMethod ({ cls := "Quillplate$Block", name := "ends", desc := "(I)I" } : Jvm.MethodName)) ∈ lw_all := lw_g (lw_at lw_m9 99 rfl) rfl
theorem q2124 : (Jvm.Cond.code ({ cls := "Quillplate$Block", name := "ends", desc := "(I)I" } : Jvm.MethodName) prog_2_method_3_code (2 : Nat) (Option.some Jvm.ClassFile.FieldType.int)) ∈ lw_all := lw_g (lw_at lw_m9 100 rfl) rfl
theorem q2125 : (Jvm.Cond.methodLinkNest "Quillplate$Block" (26 : Nat) ({ cls := "Quillplate", name := "closed", desc := "(Ljava/util/ArrayList;I)I" } : Jvm.MethodName) "Quillplate") ∈ lw_tbl := lw_at lw_m9 101 rfl
theorem q2453 : (Jvm.Cond.selects "Quillplate$Block" ({ cls := "java/lang/Object", name := "equals", desc := "(Ljava/lang/Object;)Z" } : Jvm.MethodName) ({ cls := "java/lang/Object", name := "equals", desc := "(Ljava/lang/Object;)Z" } : Jvm.MethodName)) ∈ lw_all := lw_g (lw_at lw_m10 189 rfl) rfl
theorem q3818 : (Jvm.Cond.castable "Quillplate$Block" "Quillplate$Item") ∈ lw_tbl := lw_at lw_m16 114 rfl
theorem q3827 : (Jvm.Cond.castable "Quillplate$Block" "java/lang/Object") ∈ lw_tbl := lw_at lw_m16 123 rfl
theorem in_X17 : ∀ w ∈ wsX170, w ∈ lw_all := lw_in wsX170 [1275, 1271, 1273] (by decide +kernel) (by decide +kernel)
def RX18 : String := "Quillplate$Lead"
def TX18 : u_T := fun k => match k with
  | 0 => ("Quillplate$Item", "at", "I", true)
  | 1 => ("Quillplate$Lead", "sign", "C", true)
  | 2 => ("Quillplate$Lead", "which", "I", true)
  | _ => ("Quillplate$Lead", "value", "LQuillplate$Expression;", true)
def tyX18 : Nat → FieldType := fun k => match k with
  | 0 => .int
  | 1 => .char
  | 2 => .int
  | _ => .object "Quillplate$Expression"
abbrev wsX180 : List Cond := u_ws RX18 TX18 4
theorem nmX18 : ∀ a, a < 4 → ∀ b, b < 4 → a ≠ b → (TX18 a).2.1 ≠ (TX18 b).2.1 := by decide +kernel
theorem tyX18_ok : ∀ k, k < 4 → parseFieldDescriptor (TX18 k).2.2.1 = some (tyX18 k) := by decide +kernel
abbrev cX18_init : ByteArray := prog_12_method_1_code
def yX18_init : MethodName := ⟨RX18, "<init>", "(ICILQuillplate$Expression;)V"⟩
abbrev cX18_render : ByteArray := prog_12_method_2_code
def yX18_render : MethodName := ⟨RX18, "render", "(LQuillplate$Run;)V"⟩
theorem q151 : (Jvm.Cond.initialized "Quillplate$Lead") ∈ lw_all := lw_g (lw_at lw_m1 47 rfl) rfl
theorem q874 : (Jvm.Cond.fieldLink "Quillplate$Lead" (21 : Nat) "Quillplate$Lead" "at" "I") ∈ lw_all := lw_g (lw_at lw_m4 50 rfl) rfl
theorem q875 : (Jvm.Cond.sameField "Quillplate$Lead" "Quillplate$Item" "at" "I") ∈ lw_all := lw_g (lw_at lw_m4 51 rfl) rfl
theorem q949 : (Jvm.Cond.selects "Quillplate$Lead" ({ cls := "java/lang/Object", name := "getClass", desc := "()Ljava/lang/Class;" } : Jvm.MethodName) ({ cls := "java/lang/Object", name := "getClass", desc := "()Ljava/lang/Class;" } : Jvm.MethodName)) ∈ lw_all := lw_g (lw_at lw_m4 125 rfl) rfl
theorem q1326 : (Jvm.Cond.instantiable "Quillplate$Lead" (4 : Nat)) ∈ lw_all := lw_g (lw_at lw_m6 22 rfl) rfl
theorem q1328 : (Jvm.Cond.instanceMethod ({ cls := "Quillplate$Lead", name := "<init>", desc := "(ICILQuillplate$Expression;)V" } : Jvm.MethodName)) ∈ lw_all := lw_g (lw_at lw_m6 24 rfl) rfl
theorem q1329 : (Jvm.Cond.code ({ cls := "Quillplate$Lead", name := "<init>", desc := "(ICILQuillplate$Expression;)V" } : Jvm.MethodName) prog_12_method_1_code (5 : Nat) (Option.none : Option Jvm.ClassFile.FieldType)) ∈ lw_all := lw_g (lw_at lw_m6 25 rfl) rfl
theorem q1330 : (Jvm.Cond.methodLink "Quillplate$Lead" (1 : Nat) ({ cls := "Quillplate$Item", name := "<init>", desc := "(I)V" } : Jvm.MethodName)) ∈ lw_all := lw_g (lw_at lw_m6 26 rfl) rfl
theorem q1331 : (Jvm.Cond.fieldLink "Quillplate$Lead" (7 : Nat) "Quillplate$Lead" "sign" "C") ∈ lw_all := lw_g (lw_at lw_m6 27 rfl) rfl
theorem q1332 : (Jvm.Cond.fieldLink "Quillplate$Lead" (13 : Nat) "Quillplate$Lead" "which" "I") ∈ lw_all := lw_g (lw_at lw_m6 28 rfl) rfl
theorem q1333 : (Jvm.Cond.fieldLink "Quillplate$Lead" (17 : Nat) "Quillplate$Lead" "value" "LQuillplate$Expression;") ∈ lw_all := lw_g (lw_at lw_m6 29 rfl) rfl
theorem q1334 : (Jvm.Cond.laysFinal "Quillplate$Lead" "Quillplate$Lead" "sign" "C") ∈ lw_all := lw_g (lw_at lw_m6 30 rfl) rfl
theorem q1335 : (Jvm.Cond.soleField "Quillplate$Lead" "sign") ∈ lw_all := lw_g (lw_at lw_m6 31 rfl) rfl
theorem q1336 : (Jvm.Cond.laysFinal "Quillplate$Lead" "Quillplate$Lead" "which" "I") ∈ lw_all := lw_g (lw_at lw_m6 32 rfl) rfl
theorem q1337 : (Jvm.Cond.soleField "Quillplate$Lead" "which") ∈ lw_all := lw_g (lw_at lw_m6 33 rfl) rfl
theorem q1338 : (Jvm.Cond.laysFinal "Quillplate$Lead" "Quillplate$Lead" "value" "LQuillplate$Expression;") ∈ lw_all := lw_g (lw_at lw_m6 34 rfl) rfl
theorem q1339 : (Jvm.Cond.soleField "Quillplate$Lead" "value") ∈ lw_all := lw_g (lw_at lw_m6 35 rfl) rfl
theorem q1340 : (Jvm.Cond.laysFinal "Quillplate$Lead" "Quillplate$Item" "at" "I") ∈ lw_all := lw_g (lw_at lw_m6 36 rfl) rfl
theorem q1341 : (Jvm.Cond.superclass "Quillplate$Lead" "Quillplate$Item") ∈ lw_all := lw_g (lw_at lw_m6 37 rfl) rfl
theorem q2131 : (Jvm.Cond.selects "Quillplate$Lead" ({ cls := "Quillplate$Item", name := "ends", desc := "(I)I" } : Jvm.MethodName) ({ cls := "Quillplate$Item", name := "ends", desc := "(I)I" } : Jvm.MethodName)) ∈ lw_all := lw_g (lw_at lw_m9 107 rfl) rfl
theorem q2385 : (Jvm.Cond.selects "Quillplate$Lead" ({ cls := "Quillplate$Item", name := "render", desc := "(LQuillplate$Run;)V" } : Jvm.MethodName) ({ cls := "Quillplate$Lead", name := "render", desc := "(LQuillplate$Run;)V" } : Jvm.MethodName)) ∈ lw_all := lw_g (lw_at lw_m10 121 rfl) rfl
theorem q2386 : (Jvm.Cond.instanceMethod ({ cls := "Quillplate$Lead", name := "render", desc := "(LQuillplate$Run;)V" } : Jvm.MethodName)) ∈ lw_all := lw_g (lw_at lw_m10 122 rfl) rfl
theorem q2387 : (Jvm.Cond.code ({ cls := "Quillplate$Lead", name := "render", desc := "(LQuillplate$Run;)V" } : Jvm.MethodName) prog_12_method_2_code (2 : Nat) (Option.none : Option Jvm.ClassFile.FieldType)) ∈ lw_all := lw_g (lw_at lw_m10 123 rfl) rfl
theorem q2388 : (Jvm.Cond.methodLink "Quillplate$Lead" (24 : Nat) ({ cls := "Quillplate$Run", name := "renderAbove", desc := "(I)V" } : Jvm.MethodName)) ∈ lw_all := lw_g (lw_at lw_m10 124 rfl) rfl
theorem q2396 : (Jvm.Cond.methodLink "Quillplate$Lead" (29 : Nat) ({ cls := "Quillplate$Run", name := "renderOther", desc := "(II)V" } : Jvm.MethodName)) ∈ lw_all := lw_g (lw_at lw_m10 132 rfl) rfl
theorem q2401 : (Jvm.Cond.methodLink "Quillplate$Lead" (33 : Nat) ({ cls := "Quillplate$Run", name := "call", desc := "(IILQuillplate$Expression;)V" } : Jvm.MethodName)) ∈ lw_all := lw_g (lw_at lw_m10 137 rfl) rfl
theorem q2460 : (Jvm.Cond.selects "Quillplate$Lead" ({ cls := "java/lang/Object", name := "equals", desc := "(Ljava/lang/Object;)Z" } : Jvm.MethodName) ({ cls := "java/lang/Object", name := "equals", desc := "(Ljava/lang/Object;)Z" } : Jvm.MethodName)) ∈ lw_all := lw_g (lw_at lw_m10 196 rfl) rfl
theorem q3821 : (Jvm.Cond.castable "Quillplate$Lead" "Quillplate$Item") ∈ lw_tbl := lw_at lw_m16 117 rfl
theorem q3853 : (Jvm.Cond.castable "Quillplate$Lead" "java/lang/Object") ∈ lw_tbl := lw_at lw_m16 149 rfl
theorem in_X18 : ∀ w ∈ wsX180, w ∈ lw_all := lw_in wsX180 [1340, 1334, 1336, 1338] (by decide +kernel) (by decide +kernel)
def RX19 : String := "Quillplate$Part"
def TX19 : u_T := fun k => match k with
  | 0 => ("Quillplate$Item", "at", "I", true)
  | _ => ("Quillplate$Part", "in", "Ljava/util/ArrayList;", true)
def tyX19 : Nat → FieldType := fun k => match k with
  | 0 => .int
  | _ => .object "java/util/ArrayList"
abbrev wsX190 : List Cond := u_ws RX19 TX19 2
theorem nmX19 : ∀ a, a < 2 → ∀ b, b < 2 → a ≠ b → (TX19 a).2.1 ≠ (TX19 b).2.1 := by decide +kernel
theorem tyX19_ok : ∀ k, k < 2 → parseFieldDescriptor (TX19 k).2.2.1 = some (tyX19 k) := by decide +kernel
abbrev cX19_init : ByteArray := prog_17_method_1_code
def yX19_init : MethodName := ⟨RX19, "<init>", "(ILjava/util/ArrayList;)V"⟩
abbrev cX19_ends : ByteArray := prog_17_method_3_code
def yX19_ends : MethodName := ⟨RX19, "ends", "(I)I"⟩
abbrev cX19_render : ByteArray := prog_17_method_2_code
def yX19_render : MethodName := ⟨RX19, "render", "(LQuillplate$Run;)V"⟩
theorem q152 : (Jvm.Cond.initialized "Quillplate$Part") ∈ lw_all := lw_g (lw_at lw_m1 48 rfl) rfl
theorem q872 : (Jvm.Cond.fieldLink "Quillplate$Part" (13 : Nat) "Quillplate$Part" "at" "I") ∈ lw_all := lw_g (lw_at lw_m4 48 rfl) rfl
theorem q873 : (Jvm.Cond.sameField "Quillplate$Part" "Quillplate$Item" "at" "I") ∈ lw_all := lw_g (lw_at lw_m4 49 rfl) rfl
theorem q954 : (Jvm.Cond.selects "Quillplate$Part" ({ cls := "java/lang/Object", name := "getClass", desc := "()Ljava/lang/Class;" } : Jvm.MethodName) ({ cls := "java/lang/Object", name := "getClass", desc := "()Ljava/lang/Class;" } : Jvm.MethodName)) ∈ lw_all := lw_g (lw_at lw_m4 130 rfl) rfl
theorem q1343 : (Jvm.Cond.instantiable "Quillplate$Part" (2 : Nat)) ∈ lw_all := lw_g (lw_at lw_m6 39 rfl) rfl
theorem q1345 : (Jvm.Cond.instanceMethod ({ cls := "Quillplate$Part", name := "<init>", desc := "(ILjava/util/ArrayList;)V" } : Jvm.MethodName)) ∈ lw_all := lw_g (lw_at lw_m6 41 rfl) rfl
theorem q1346 : (Jvm.Cond.code ({ cls := "Quillplate$Part", name := "<init>", desc := "(ILjava/util/ArrayList;)V" } : Jvm.MethodName) prog_17_method_1_code (3 : Nat) (Option.none : Option Jvm.ClassFile.FieldType)) ∈ lw_all := lw_g (lw_at lw_m6 42 rfl) rfl
theorem q1347 : (Jvm.Cond.methodLink "Quillplate$Part" (1 : Nat) ({ cls := "Quillplate$Item", name := "<init>", desc := "(I)V" } : Jvm.MethodName)) ∈ lw_all := lw_g (lw_at lw_m6 43 rfl) rfl
theorem q1348 : (Jvm.Cond.fieldLink "Quillplate$Part" (7 : Nat) "Quillplate$Part" "in" "Ljava/util/ArrayList;") ∈ lw_all := lw_g (lw_at lw_m6 44 rfl) rfl
theorem q1349 : (Jvm.Cond.laysFinal "Quillplate$Part" "Quillplate$Part" "in" "Ljava/util/ArrayList;") ∈ lw_all := lw_g (lw_at lw_m6 45 rfl) rfl
theorem q1350 : (Jvm.Cond.soleField "Quillplate$Part" "in") ∈ lw_all := lw_g (lw_at lw_m6 46 rfl) rfl
theorem q1351 : (Jvm.Cond.laysFinal "Quillplate$Part" "Quillplate$Item" "at" "I") ∈ lw_all := lw_g (lw_at lw_m6 47 rfl) rfl
theorem q1352 : (Jvm.Cond.superclass "Quillplate$Part" "Quillplate$Item") ∈ lw_all := lw_g (lw_at lw_m6 48 rfl) rfl
theorem q2136 : (Jvm.Cond.selects "Quillplate$Part" ({ cls := "Quillplate$Item", name := "ends", desc := "(I)I" } : Jvm.MethodName) ({ cls := "Quillplate$Part", name := "ends", desc := "(I)I" } : Jvm.MethodName)) ∈ lw_all := lw_g (lw_at lw_m9 112 rfl) rfl
theorem q2137 : (Jvm.Cond.instanceMethod ({ cls := "Quillplate$Part", name := "ends", desc := "(I)I" } : Jvm.MethodName)) ∈ lw_all := lw_g (lw_at lw_m9 113 rfl) rfl
theorem q2138 : (Jvm.Cond.code ({ cls := "Quillplate$Part", name := "ends", desc := "(I)I" } : Jvm.MethodName) prog_17_method_3_code (2 : Nat) (Option.some Jvm.ClassFile.FieldType.int)) ∈ lw_all := lw_g (lw_at lw_m9 114 rfl) rfl
theorem q2139 : (Jvm.Cond.methodLinkNest "Quillplate$Part" (23 : Nat) ({ cls := "Quillplate", name := "closed", desc := "(Ljava/util/ArrayList;I)I" } : Jvm.MethodName) "Quillplate") ∈ lw_tbl := lw_at lw_m9 115 rfl
theorem q2421 : (Jvm.Cond.selects "Quillplate$Part" ({ cls := "Quillplate$Item", name := "render", desc := "(LQuillplate$Run;)V" } : Jvm.MethodName) ({ cls := "Quillplate$Part", name := "render", desc := "(LQuillplate$Run;)V" } : Jvm.MethodName)) ∈ lw_all := lw_g (lw_at lw_m10 157 rfl) rfl
theorem q2422 : (Jvm.Cond.instanceMethod ({ cls := "Quillplate$Part", name := "render", desc := "(LQuillplate$Run;)V" } : Jvm.MethodName)) ∈ lw_all := lw_g (lw_at lw_m10 158 rfl) rfl
theorem q2423 : (Jvm.Cond.code ({ cls := "Quillplate$Part", name := "render", desc := "(LQuillplate$Run;)V" } : Jvm.MethodName) prog_17_method_2_code (2 : Nat) (Option.none : Option Jvm.ClassFile.FieldType)) ∈ lw_all := lw_g (lw_at lw_m10 159 rfl) rfl
theorem q2424 : (Jvm.Cond.methodLink "Quillplate$Part" (17 : Nat) ({ cls := "Quillplate$Run", name := "renderPart", desc := "(ILjava/util/ArrayList;)V" } : Jvm.MethodName)) ∈ lw_all := lw_g (lw_at lw_m10 160 rfl) rfl
theorem q2465 : (Jvm.Cond.selects "Quillplate$Part" ({ cls := "java/lang/Object", name := "equals", desc := "(Ljava/lang/Object;)Z" } : Jvm.MethodName) ({ cls := "java/lang/Object", name := "equals", desc := "(Ljava/lang/Object;)Z" } : Jvm.MethodName)) ∈ lw_all := lw_g (lw_at lw_m10 201 rfl) rfl
theorem q3823 : (Jvm.Cond.castable "Quillplate$Part" "Quillplate$Item") ∈ lw_tbl := lw_at lw_m16 119 rfl
theorem q3854 : (Jvm.Cond.castable "Quillplate$Part" "java/lang/Object") ∈ lw_tbl := lw_at lw_m16 150 rfl
theorem in_X19 : ∀ w ∈ wsX190, w ∈ lw_all := lw_in wsX190 [1351, 1349] (by decide +kernel) (by decide +kernel)
def RX20 : String := "Quillplate$Hole"
def TX20 : u_T := fun k => match k with
  | 0 => ("Quillplate$Item", "at", "I", true)
  | _ => ("Quillplate$Hole", "value", "LQuillplate$Expression;", true)
def tyX20 : Nat → FieldType := fun k => match k with
  | 0 => .int
  | _ => .object "Quillplate$Expression"
abbrev wsX200 : List Cond := u_ws RX20 TX20 2
theorem nmX20 : ∀ a, a < 2 → ∀ b, b < 2 → a ≠ b → (TX20 a).2.1 ≠ (TX20 b).2.1 := by decide +kernel
theorem tyX20_ok : ∀ k, k < 2 → parseFieldDescriptor (TX20 k).2.2.1 = some (tyX20 k) := by decide +kernel
abbrev cX20_init : ByteArray := prog_9_method_1_code
def yX20_init : MethodName := ⟨RX20, "<init>", "(ILQuillplate$Expression;)V"⟩
abbrev cX20_render : ByteArray := prog_9_method_2_code
def yX20_render : MethodName := ⟨RX20, "render", "(LQuillplate$Run;)V"⟩
theorem q153 : (Jvm.Cond.initialized "Quillplate$Hole") ∈ lw_all := lw_g (lw_at lw_m1 49 rfl) rfl
theorem q657 : (Jvm.Cond.fieldLink "Quillplate$Hole" (37 : Nat) "Quillplate$Run" "out" "Ljava/lang/StringBuilder;") ∈ lw_all := lw_g (lw_at lw_m3 73 rfl) rfl
theorem q661 : (Jvm.Cond.fieldLink "Quillplate$Hole" (43 : Nat) "Quillplate$Run" "where" "I") ∈ lw_all := lw_g (lw_at lw_m3 77 rfl) rfl
theorem q947 : (Jvm.Cond.selects "Quillplate$Hole" ({ cls := "java/lang/Object", name := "getClass", desc := "()Ljava/lang/Class;" } : Jvm.MethodName) ({ cls := "java/lang/Object", name := "getClass", desc := "()Ljava/lang/Class;" } : Jvm.MethodName)) ∈ lw_all := lw_g (lw_at lw_m4 123 rfl) rfl
theorem q1358 : (Jvm.Cond.instantiable "Quillplate$Hole" (2 : Nat)) ∈ lw_all := lw_g (lw_at lw_m6 54 rfl) rfl
theorem q1360 : (Jvm.Cond.instanceMethod ({ cls := "Quillplate$Hole", name := "<init>", desc := "(ILQuillplate$Expression;)V" } : Jvm.MethodName)) ∈ lw_all := lw_g (lw_at lw_m6 56 rfl) rfl
theorem q1361 : (Jvm.Cond.code ({ cls := "Quillplate$Hole", name := "<init>", desc := "(ILQuillplate$Expression;)V" } : Jvm.MethodName) prog_9_method_1_code (3 : Nat) (Option.none : Option Jvm.ClassFile.FieldType)) ∈ lw_all := lw_g (lw_at lw_m6 57 rfl) rfl
theorem q1362 : (Jvm.Cond.methodLink "Quillplate$Hole" (3 : Nat) ({ cls := "Quillplate$Item", name := "<init>", desc := "(I)V" } : Jvm.MethodName)) ∈ lw_all := lw_g (lw_at lw_m6 58 rfl) rfl
theorem q1363 : (Jvm.Cond.fieldLink "Quillplate$Hole" (9 : Nat) "Quillplate$Hole" "value" "LQuillplate$Expression;") ∈ lw_all := lw_g (lw_at lw_m6 59 rfl) rfl
theorem q1364 : (Jvm.Cond.laysFinal "Quillplate$Hole" "Quillplate$Hole" "value" "LQuillplate$Expression;") ∈ lw_all := lw_g (lw_at lw_m6 60 rfl) rfl
theorem q1365 : (Jvm.Cond.soleField "Quillplate$Hole" "value") ∈ lw_all := lw_g (lw_at lw_m6 61 rfl) rfl
theorem q1366 : (Jvm.Cond.laysFinal "Quillplate$Hole" "Quillplate$Item" "at" "I") ∈ lw_all := lw_g (lw_at lw_m6 62 rfl) rfl
theorem q1367 : (Jvm.Cond.superclass "Quillplate$Hole" "Quillplate$Item") ∈ lw_all := lw_g (lw_at lw_m6 63 rfl) rfl
theorem q2130 : (Jvm.Cond.selects "Quillplate$Hole" ({ cls := "Quillplate$Item", name := "ends", desc := "(I)I" } : Jvm.MethodName) ({ cls := "Quillplate$Item", name := "ends", desc := "(I)I" } : Jvm.MethodName)) ∈ lw_all := lw_g (lw_at lw_m9 106 rfl) rfl
theorem q2369 : (Jvm.Cond.selects "Quillplate$Hole" ({ cls := "Quillplate$Item", name := "render", desc := "(LQuillplate$Run;)V" } : Jvm.MethodName) ({ cls := "Quillplate$Hole", name := "render", desc := "(LQuillplate$Run;)V" } : Jvm.MethodName)) ∈ lw_all := lw_g (lw_at lw_m10 105 rfl) rfl
theorem q2370 : (Jvm.Cond.instanceMethod ({ cls := "Quillplate$Hole", name := "render", desc := "(LQuillplate$Run;)V" } : Jvm.MethodName)) ∈ lw_all := lw_g (lw_at lw_m10 106 rfl) rfl
theorem q2371 : (Jvm.Cond.code ({ cls := "Quillplate$Hole", name := "render", desc := "(LQuillplate$Run;)V" } : Jvm.MethodName) prog_9_method_2_code (3 : Nat) (Option.none : Option Jvm.ClassFile.FieldType)) ∈ lw_all := lw_g (lw_at lw_m10 107 rfl) rfl
theorem q2372 : (Jvm.Cond.methodLink "Quillplate$Hole" (15 : Nat) ({ cls := "Quillplate$Expression", name := "of", desc := "(LQuillplate$Run;)LQuillplate$Value;" } : Jvm.MethodName)) ∈ lw_all := lw_g (lw_at lw_m10 108 rfl) rfl
theorem q2373 : (Jvm.Cond.fieldLink "Quillplate$Hole" (21 : Nat) "Quillplate$Sort" "LIST" "LQuillplate$Sort;") ∈ lw_all := lw_g (lw_at lw_m10 109 rfl) rfl
theorem q2374 : (Jvm.Cond.methodLink "Quillplate$Hole" (27 : Nat) ({ cls := "Quillplate$Value", name := "is", desc := "(LQuillplate$Sort;)Z" } : Jvm.MethodName)) ∈ lw_all := lw_g (lw_at lw_m10 110 rfl) rfl
theorem q2375 : (Jvm.Cond.methodLinkNest "Quillplate$Hole" (33 : Nat) ({ cls := "Quillplate", name := "check", desc := "(ZI)V" } : Jvm.MethodName) "Quillplate") ∈ lw_tbl := lw_at lw_m10 111 rfl
theorem q2376 : (Jvm.Cond.methodLinkNest "Quillplate$Hole" (47 : Nat) ({ cls := "Quillplate", name := "escaped", desc := "(LQuillplate$Value;I)Ljava/lang/String;" } : Jvm.MethodName) "Quillplate") ∈ lw_tbl := lw_at lw_m10 112 rfl
theorem q2383 : (Jvm.Cond.methodLink "Quillplate$Hole" (51 : Nat) ({ cls := "java/lang/StringBuilder", name := "append", desc := "(Ljava/lang/String;)Ljava/lang/StringBuilder;" } : Jvm.MethodName)) ∈ lw_all := lw_g (lw_at lw_m10 119 rfl) rfl
theorem q2384 : (Jvm.Cond.methodLink "Quillplate$Hole" (57 : Nat) ({ cls := "java/lang/StringBuilder", name := "length", desc := "()I" } : Jvm.MethodName)) ∈ lw_all := lw_g (lw_at lw_m10 120 rfl) rfl
theorem q2458 : (Jvm.Cond.selects "Quillplate$Hole" ({ cls := "java/lang/Object", name := "equals", desc := "(Ljava/lang/Object;)Z" } : Jvm.MethodName) ({ cls := "java/lang/Object", name := "equals", desc := "(Ljava/lang/Object;)Z" } : Jvm.MethodName)) ∈ lw_all := lw_g (lw_at lw_m10 194 rfl) rfl
theorem q3820 : (Jvm.Cond.castable "Quillplate$Hole" "Quillplate$Item") ∈ lw_tbl := lw_at lw_m16 116 rfl
theorem q3855 : (Jvm.Cond.castable "Quillplate$Hole" "java/lang/Object") ∈ lw_tbl := lw_at lw_m16 151 rfl
theorem in_X20 : ∀ w ∈ wsX200, w ∈ lw_all := lw_in wsX200 [1366, 1364] (by decide +kernel) (by decide +kernel)
def RX21 : String := "QuillplateModel$Reader"
def TX21 : u_T := fun k => match k with
  | 0 => ("QuillplateModel$Reader", "its", "LQuillplateModel$Template;", true)
  | 1 => ("QuillplateModel$Reader", "signs", "[C", true)
  | 2 => ("QuillplateModel$Reader", "at", "I", false)
  | 3 => ("QuillplateModel$Reader", "place", "I", false)
  | 4 => ("QuillplateModel$Reader", "acts", "I", false)
  | 5 => ("QuillplateModel$Reader", "open", "Ljava/util/List;", true)
  | _ => ("QuillplateModel$Reader", "places", "Ljava/util/List;", true)
def tyX21 : Nat → FieldType := fun k => match k with
  | 0 => .object "QuillplateModel$Template"
  | 1 => .array .char
  | 2 => .int
  | 3 => .int
  | 4 => .int
  | 5 => .object "java/util/List"
  | _ => .object "java/util/List"
abbrev wsX210 : List Cond := u_ws RX21 TX21 7
theorem nmX21 : ∀ a, a < 7 → ∀ b, b < 7 → a ≠ b → (TX21 a).2.1 ≠ (TX21 b).2.1 := by decide +kernel
theorem tyX21_ok : ∀ k, k < 7 → parseFieldDescriptor (TX21 k).2.2.1 = some (tyX21 k) := by decide +kernel
abbrev cX21_init : ByteArray := prog_27_method_1_code
def yX21_init : MethodName := ⟨RX21, "<init>", "(Ljava/lang/String;)V"⟩
abbrev cX21_all : ByteArray := prog_27_method_7_code
def yX21_all : MethodName := ⟨RX21, "all", "()LQuillplateModel$Template;"⟩
abbrev cX21_mark : ByteArray := prog_27_method_9_code
def yX21_mark : MethodName := ⟨RX21, "mark", "()V"⟩
abbrev cX21_now : ByteArray := prog_27_method_2_code
def yX21_now : MethodName := ⟨RX21, "now", "()C"⟩
abbrev cX21_whole : ByteArray := prog_27_method_12_code
def yX21_whole : MethodName := ⟨RX21, "whole", "()V"⟩
abbrev cX21_expression : ByteArray := prog_27_method_14_code
def yX21_expression : MethodName := ⟨RX21, "expression", "()V"⟩
abbrev cX21_sum : ByteArray := prog_27_method_15_code
def yX21_sum : MethodName := ⟨RX21, "sum", "()V"⟩
abbrev cX21_filtered : ByteArray := prog_27_method_16_code
def yX21_filtered : MethodName := ⟨RX21, "filtered", "()V"⟩
abbrev cX21_part : ByteArray := prog_27_method_17_code
def yX21_part : MethodName := ⟨RX21, "part", "()V"⟩
abbrev cX21_take : ByteArray := prog_27_method_5_code
def yX21_take : MethodName := ⟨RX21, "take", "(C)V"⟩
abbrev cX21_want : ByteArray := prog_27_method_4_code
def yX21_want : MethodName := ⟨RX21, "want", "(Z)V"⟩
abbrev cX21_act : ByteArray := prog_27_method_13_code
def yX21_act : MethodName := ⟨RX21, "act", "()V"⟩
abbrev cX21_isNow : ByteArray := prog_27_method_3_code
def yX21_isNow : MethodName := ⟨RX21, "isNow", "(C)Z"⟩
abbrev cX21_digit : ByteArray := prog_27_method_11_code
def yX21_digit : MethodName := ⟨RX21, "digit", "()V"⟩
abbrev cX21_begins : ByteArray := prog_27_method_8_code
def yX21_begins : MethodName := ⟨RX21, "begins", "(I)V"⟩
abbrev cX21_name : ByteArray := prog_27_method_10_code
def yX21_name : MethodName := ⟨RX21, "name", "([IIZ)V"⟩
abbrev cX21_isWithin : ByteArray := prog_27_method_6_code
def yX21_isWithin : MethodName := ⟨RX21, "isWithin", "(Ljava/lang/String;)Z"⟩
abbrev cX21_leaveOut : ByteArray := prog_27_method_18_code
def yX21_leaveOut : MethodName := ⟨RX21, "leaveOut", "()V"⟩
theorem q154 : (Jvm.Cond.initialized "QuillplateModel$Reader") ∈ lw_all := lw_g (lw_at lw_m1 50 rfl) rfl
theorem q963 : (Jvm.Cond.selects "QuillplateModel$Reader" ({ cls := "java/lang/Object", name := "getClass", desc := "()Ljava/lang/Class;" } : Jvm.MethodName) ({ cls := "java/lang/Object", name := "getClass", desc := "()Ljava/lang/Class;" } : Jvm.MethodName)) ∈ lw_all := lw_g (lw_at lw_m4 139 rfl) rfl
theorem q2476 : (Jvm.Cond.selects "QuillplateModel$Reader" ({ cls := "java/lang/Object", name := "equals", desc := "(Ljava/lang/Object;)Z" } : Jvm.MethodName) ({ cls := "java/lang/Object", name := "equals", desc := "(Ljava/lang/Object;)Z" } : Jvm.MethodName)) ∈ lw_all := lw_g (lw_at lw_m10 212 rfl) rfl
theorem q2732 : (Jvm.Cond.instantiable "QuillplateModel$Reader" (7 : Nat)) ∈ lw_all := lw_g (lw_at lw_m11 228 rfl) rfl
theorem q2734 : (Jvm.Cond.instanceMethod ({ cls := "QuillplateModel$Reader", name := "<init>", desc := "(Ljava/lang/String;)V" } : Jvm.MethodName)) ∈ lw_all := lw_g (lw_at lw_m11 230 rfl) rfl
theorem q2735 : (Jvm.Cond.code ({ cls := "QuillplateModel$Reader", name := "<init>", desc := "(Ljava/lang/String;)V" } : Jvm.MethodName) prog_27_method_1_code (2 : Nat) (Option.none : Option Jvm.ClassFile.FieldType)) ∈ lw_all := lw_g (lw_at lw_m11 231 rfl) rfl
theorem q2736 : (Jvm.Cond.methodLink "QuillplateModel$Reader" (3 : Nat) ({ cls := "java/lang/Object", name := "<init>", desc := "()V" } : Jvm.MethodName)) ∈ lw_all := lw_g (lw_at lw_m11 232 rfl) rfl
theorem q2737 : (Jvm.Cond.classLink "QuillplateModel$Reader" (15 : Nat) "java/util/ArrayList") ∈ lw_all := lw_g (lw_at lw_m11 233 rfl) rfl
theorem q2738 : (Jvm.Cond.methodLink "QuillplateModel$Reader" (17 : Nat) ({ cls := "java/util/ArrayList", name := "<init>", desc := "()V" } : Jvm.MethodName)) ∈ lw_all := lw_g (lw_at lw_m11 234 rfl) rfl
theorem q2739 : (Jvm.Cond.classLink "QuillplateModel$Reader" (25 : Nat) "QuillplateModel$Template") ∈ lw_all := lw_g (lw_at lw_m11 235 rfl) rfl
theorem q2741 : (Jvm.Cond.methodLink "QuillplateModel$Reader" (27 : Nat) ({ cls := "QuillplateModel$Template", name := "<init>", desc := "(Ljava/lang/String;)V" } : Jvm.MethodName)) ∈ lw_all := lw_g (lw_at lw_m11 237 rfl) rfl
theorem q2762 : (Jvm.Cond.fieldLinkNest "QuillplateModel$Reader" (34 : Nat) "QuillplateModel$Template" "signs" "[C" "QuillplateModel") ∈ lw_tbl := lw_at lw_m12 18 rfl
theorem q2767 : (Jvm.Cond.fieldLinkNest "QuillplateModel$Reader" (161 : Nat) "QuillplateModel$Template" "closes" "[I" "QuillplateModel") ∈ lw_tbl := lw_at lw_m12 23 rfl
theorem q2770 : (Jvm.Cond.fieldLinkNest "QuillplateModel$Reader" (104 : Nat) "QuillplateModel$Template" "others" "[I" "QuillplateModel") ∈ lw_tbl := lw_at lw_m12 26 rfl
theorem q2775 : (Jvm.Cond.fieldLinkNest "QuillplateModel$Reader" (151 : Nat) "QuillplateModel$Template" "ends" "[I" "QuillplateModel") ∈ lw_tbl := lw_at lw_m12 31 rfl
theorem q2779 : (Jvm.Cond.fieldLinkNest "QuillplateModel$Reader" (192 : Nat) "QuillplateModel$Template" "isLeftOut" "[Z" "QuillplateModel") ∈ lw_tbl := lw_at lw_m12 35 rfl
theorem q2781 : (Jvm.Cond.fieldLinkNest "QuillplateModel$Reader" (124 : Nat) "QuillplateModel$Template" "blocks" "[I" "QuillplateModel") ∈ lw_tbl := lw_at lw_m12 37 rfl
theorem q2784 : (Jvm.Cond.fieldLinkNest "QuillplateModel$Reader" (131 : Nat) "QuillplateModel$Template" "macros" "[I" "QuillplateModel") ∈ lw_tbl := lw_at lw_m12 40 rfl
theorem q2786 : (Jvm.Cond.fieldLinkNest "QuillplateModel$Reader" (115 : Nat) "QuillplateModel$Template" "marks" "I" "QuillplateModel") ∈ lw_tbl := lw_at lw_m12 42 rfl
theorem q2807 : (Jvm.Cond.fieldLink "QuillplateModel$Reader" (30 : Nat) "QuillplateModel$Reader" "its" "LQuillplateModel$Template;") ∈ lw_all := lw_g (lw_at lw_m12 63 rfl) rfl
theorem q2808 : (Jvm.Cond.fieldLink "QuillplateModel$Reader" (38 : Nat) "QuillplateModel$Reader" "signs" "[C") ∈ lw_all := lw_g (lw_at lw_m12 64 rfl) rfl
theorem q2809 : (Jvm.Cond.fieldLink "QuillplateModel$Reader" (39 : Nat) "QuillplateModel$Reader" "at" "I") ∈ lw_all := lw_g (lw_at lw_m12 65 rfl) rfl
theorem q2810 : (Jvm.Cond.fieldLink "QuillplateModel$Reader" (9 : Nat) "QuillplateModel$Reader" "place" "I") ∈ lw_all := lw_g (lw_at lw_m12 66 rfl) rfl
theorem q2811 : (Jvm.Cond.fieldLink "QuillplateModel$Reader" (164 : Nat) "QuillplateModel$Reader" "acts" "I") ∈ lw_all := lw_g (lw_at lw_m12 67 rfl) rfl
theorem q2812 : (Jvm.Cond.fieldLink "QuillplateModel$Reader" (18 : Nat) "QuillplateModel$Reader" "open" "Ljava/util/List;") ∈ lw_all := lw_g (lw_at lw_m12 68 rfl) rfl
theorem q2813 : (Jvm.Cond.fieldLink "QuillplateModel$Reader" (22 : Nat) "QuillplateModel$Reader" "places" "Ljava/util/List;") ∈ lw_all := lw_g (lw_at lw_m12 69 rfl) rfl
theorem q2814 : (Jvm.Cond.laysFinal "QuillplateModel$Reader" "QuillplateModel$Reader" "its" "LQuillplateModel$Template;") ∈ lw_all := lw_g (lw_at lw_m12 70 rfl) rfl
theorem q2815 : (Jvm.Cond.soleField "QuillplateModel$Reader" "its") ∈ lw_all := lw_g (lw_at lw_m12 71 rfl) rfl
theorem q2816 : (Jvm.Cond.laysFinal "QuillplateModel$Reader" "QuillplateModel$Reader" "signs" "[C") ∈ lw_all := lw_g (lw_at lw_m12 72 rfl) rfl
theorem q2817 : (Jvm.Cond.soleField "QuillplateModel$Reader" "signs") ∈ lw_all := lw_g (lw_at lw_m12 73 rfl) rfl
theorem q2818 : (Jvm.Cond.lays "QuillplateModel$Reader" "QuillplateModel$Reader" "at" "I") ∈ lw_all := lw_g (lw_at lw_m12 74 rfl) rfl
theorem q2819 : (Jvm.Cond.soleField "QuillplateModel$Reader" "at") ∈ lw_all := lw_g (lw_at lw_m12 75 rfl) rfl
theorem q2820 : (Jvm.Cond.lays "QuillplateModel$Reader" "QuillplateModel$Reader" "place" "I") ∈ lw_all := lw_g (lw_at lw_m12 76 rfl) rfl
theorem q2821 : (Jvm.Cond.soleField "QuillplateModel$Reader" "place") ∈ lw_all := lw_g (lw_at lw_m12 77 rfl) rfl
theorem q2822 : (Jvm.Cond.lays "QuillplateModel$Reader" "QuillplateModel$Reader" "acts" "I") ∈ lw_all := lw_g (lw_at lw_m12 78 rfl) rfl
theorem q2823 : (Jvm.Cond.soleField "QuillplateModel$Reader" "acts") ∈ lw_all := lw_g (lw_at lw_m12 79 rfl) rfl
theorem q2824 : (Jvm.Cond.laysFinal "QuillplateModel$Reader" "QuillplateModel$Reader" "open" "Ljava/util/List;") ∈ lw_all := lw_g (lw_at lw_m12 80 rfl) rfl
theorem q2825 : (Jvm.Cond.soleField "QuillplateModel$Reader" "open") ∈ lw_all := lw_g (lw_at lw_m12 81 rfl) rfl
theorem q2826 : (Jvm.Cond.laysFinal "QuillplateModel$Reader" "QuillplateModel$Reader" "places" "Ljava/util/List;") ∈ lw_all := lw_g (lw_at lw_m12 82 rfl) rfl
theorem q2827 : (Jvm.Cond.soleField "QuillplateModel$Reader" "places") ∈ lw_all := lw_g (lw_at lw_m12 83 rfl) rfl
theorem q2828 : (Jvm.Cond.superclass "QuillplateModel$Reader" "java/lang/Object") ∈ lw_all := lw_g (lw_at lw_m12 84 rfl) rfl
theorem q2830 : (Jvm.Cond.instanceMethod ({ cls := "QuillplateModel$Reader", name := "all", desc := "()LQuillplateModel$Template;" } : Jvm.MethodName)) ∈ lw_all := lw_g (lw_at lw_m12 86 rfl) rfl
theorem q2831 : (Jvm.Cond.selects "QuillplateModel$Reader" ({ cls := "QuillplateModel$Reader", name := "all", desc := "()LQuillplateModel$Template;" } : Jvm.MethodName) ({ cls := "QuillplateModel$Reader", name := "all", desc := "()LQuillplateModel$Template;" } : Jvm.MethodName)) ∈ lw_all := lw_g (lw_at lw_m12 87 rfl) rfl
theorem q2832 : (Jvm.Cond.code ({ cls := "QuillplateModel$Reader", name := "all", desc := "()LQuillplateModel$Template;" } : Jvm.MethodName) prog_27_method_7_code (1 : Nat) (Option.some (Jvm.ClassFile.FieldType.object "QuillplateModel$Template"))) ∈ lw_all := lw_g (lw_at lw_m12 88 rfl) rfl
theorem q2833 : (Jvm.Cond.methodLink "QuillplateModel$Reader" (83 : Nat) ({ cls := "QuillplateModel$Reader", name := "mark", desc := "()V" } : Jvm.MethodName)) ∈ lw_all := lw_g (lw_at lw_m12 89 rfl) rfl
theorem q2834 : (Jvm.Cond.privateMethod ({ cls := "QuillplateModel$Reader", name := "mark", desc := "()V" } : Jvm.MethodName)) ∈ lw_tbl := lw_at lw_m12 90 rfl
theorem q2835 : (Jvm.Cond.instanceMethod ({ cls := "QuillplateModel$Reader", name := "mark", desc := "()V" } : Jvm.MethodName)) ∈ lw_all := lw_g (lw_at lw_m12 91 rfl) rfl
theorem q2836 : (Jvm.Cond.code ({ cls := "QuillplateModel$Reader", name := "mark", desc := "()V" } : Jvm.MethodName) prog_27_method_9_code (5 : Nat) (Option.none : Option Jvm.ClassFile.FieldType)) ∈ lw_all := lw_g (lw_at lw_m12 92 rfl) rfl
theorem q2837 : (Jvm.Cond.methodLink "QuillplateModel$Reader" (47 : Nat) ({ cls := "QuillplateModel$Reader", name := "now", desc := "()C" } : Jvm.MethodName)) ∈ lw_all := lw_g (lw_at lw_m12 93 rfl) rfl
theorem q2838 : (Jvm.Cond.privateMethod ({ cls := "QuillplateModel$Reader", name := "now", desc := "()C" } : Jvm.MethodName)) ∈ lw_tbl := lw_at lw_m12 94 rfl
theorem q2839 : (Jvm.Cond.instanceMethod ({ cls := "QuillplateModel$Reader", name := "now", desc := "()C" } : Jvm.MethodName)) ∈ lw_all := lw_g (lw_at lw_m12 95 rfl) rfl
theorem q2840 : (Jvm.Cond.code ({ cls := "QuillplateModel$Reader", name := "now", desc := "()C" } : Jvm.MethodName) prog_27_method_2_code (1 : Nat) (Option.some Jvm.ClassFile.FieldType.char)) ∈ lw_all := lw_g (lw_at lw_m12 96 rfl) rfl
theorem q2841 : (Jvm.Cond.classLink "QuillplateModel$Reader" (42 : Nat) "QuillplateModel$Slip") ∈ lw_all := lw_g (lw_at lw_m12 97 rfl) rfl
theorem q2850 : (Jvm.Cond.methodLink "QuillplateModel$Reader" (44 : Nat) ({ cls := "QuillplateModel$Slip", name := "<init>", desc := "(I)V" } : Jvm.MethodName)) ∈ lw_all := lw_g (lw_at lw_m12 106 rfl) rfl
theorem q2869 : (Jvm.Cond.interfaceEntry "QuillplateModel$Reader" (90 : Nat)) ∈ lw_tbl := lw_at lw_m12 125 rfl
theorem q2870 : (Jvm.Cond.methodLink "QuillplateModel$Reader" (90 : Nat) ({ cls := "java/util/List", name := "isEmpty", desc := "()Z" } : Jvm.MethodName)) ∈ lw_all := lw_g (lw_at lw_m12 126 rfl) rfl
theorem q2894 : (Jvm.Cond.interfaceEntry "QuillplateModel$Reader" (108 : Nat)) ∈ lw_tbl := lw_at lw_m12 150 rfl
theorem q2895 : (Jvm.Cond.methodLink "QuillplateModel$Reader" (108 : Nat) ({ cls := "java/util/List", name := "size", desc := "()I" } : Jvm.MethodName)) ∈ lw_all := lw_g (lw_at lw_m12 151 rfl) rfl
theorem q2907 : (Jvm.Cond.interfaceEntry "QuillplateModel$Reader" (111 : Nat)) ∈ lw_tbl := lw_at lw_m12 163 rfl
theorem q2908 : (Jvm.Cond.methodLink "QuillplateModel$Reader" (111 : Nat) ({ cls := "java/util/List", name := "get", desc := "(I)Ljava/lang/Object;" } : Jvm.MethodName)) ∈ lw_all := lw_g (lw_at lw_m12 164 rfl) rfl
theorem q2909 : (Jvm.Cond.classLink "QuillplateModel$Reader" (71 : Nat) "java/lang/Integer") ∈ lw_all := lw_g (lw_at lw_m12 165 rfl) rfl
theorem q2910 : (Jvm.Cond.methodLink "QuillplateModel$Reader" (73 : Nat) ({ cls := "java/lang/Integer", name := "intValue", desc := "()I" } : Jvm.MethodName)) ∈ lw_all := lw_g (lw_at lw_m12 166 rfl) rfl
theorem q2911 : (Jvm.Cond.methodLink "QuillplateModel$Reader" (118 : Nat) ({ cls := "QuillplateModel$Reader", name := "whole", desc := "()V" } : Jvm.MethodName)) ∈ lw_all := lw_g (lw_at lw_m12 167 rfl) rfl
theorem q2912 : (Jvm.Cond.privateMethod ({ cls := "QuillplateModel$Reader", name := "whole", desc := "()V" } : Jvm.MethodName)) ∈ lw_tbl := lw_at lw_m12 168 rfl
theorem q2913 : (Jvm.Cond.instanceMethod ({ cls := "QuillplateModel$Reader", name := "whole", desc := "()V" } : Jvm.MethodName)) ∈ lw_all := lw_g (lw_at lw_m12 169 rfl) rfl
theorem q2914 : (Jvm.Cond.code ({ cls := "QuillplateModel$Reader", name := "whole", desc := "()V" } : Jvm.MethodName) prog_27_method_12_code (1 : Nat) (Option.none : Option Jvm.ClassFile.FieldType)) ∈ lw_all := lw_g (lw_at lw_m12 170 rfl) rfl
theorem q2915 : (Jvm.Cond.methodLink "QuillplateModel$Reader" (167 : Nat) ({ cls := "QuillplateModel$Reader", name := "expression", desc := "()V" } : Jvm.MethodName)) ∈ lw_all := lw_g (lw_at lw_m12 171 rfl) rfl
theorem q2916 : (Jvm.Cond.privateMethod ({ cls := "QuillplateModel$Reader", name := "expression", desc := "()V" } : Jvm.MethodName)) ∈ lw_tbl := lw_at lw_m12 172 rfl
theorem q2917 : (Jvm.Cond.instanceMethod ({ cls := "QuillplateModel$Reader", name := "expression", desc := "()V" } : Jvm.MethodName)) ∈ lw_all := lw_g (lw_at lw_m12 173 rfl) rfl
theorem q2918 : (Jvm.Cond.code ({ cls := "QuillplateModel$Reader", name := "expression", desc := "()V" } : Jvm.MethodName) prog_27_method_14_code (1 : Nat) (Option.none : Option Jvm.ClassFile.FieldType)) ∈ lw_all := lw_g (lw_at lw_m12 174 rfl) rfl
theorem q2919 : (Jvm.Cond.methodLink "QuillplateModel$Reader" (170 : Nat) ({ cls := "QuillplateModel$Reader", name := "sum", desc := "()V" } : Jvm.MethodName)) ∈ lw_all := lw_g (lw_at lw_m12 175 rfl) rfl
theorem q2920 : (Jvm.Cond.privateMethod ({ cls := "QuillplateModel$Reader", name := "sum", desc := "()V" } : Jvm.MethodName)) ∈ lw_tbl := lw_at lw_m12 176 rfl
theorem q2921 : (Jvm.Cond.instanceMethod ({ cls := "QuillplateModel$Reader", name := "sum", desc := "()V" } : Jvm.MethodName)) ∈ lw_all := lw_g (lw_at lw_m12 177 rfl) rfl
theorem q2922 : (Jvm.Cond.code ({ cls := "QuillplateModel$Reader", name := "sum", desc := "()V" } : Jvm.MethodName) prog_27_method_15_code (1 : Nat) (Option.none : Option Jvm.ClassFile.FieldType)) ∈ lw_all := lw_g (lw_at lw_m12 178 rfl) rfl
theorem q2923 : (Jvm.Cond.methodLink "QuillplateModel$Reader" (176 : Nat) ({ cls := "QuillplateModel$Reader", name := "filtered", desc := "()V" } : Jvm.MethodName)) ∈ lw_all := lw_g (lw_at lw_m12 179 rfl) rfl
theorem q2924 : (Jvm.Cond.privateMethod ({ cls := "QuillplateModel$Reader", name := "filtered", desc := "()V" } : Jvm.MethodName)) ∈ lw_tbl := lw_at lw_m12 180 rfl
theorem q2925 : (Jvm.Cond.instanceMethod ({ cls := "QuillplateModel$Reader", name := "filtered", desc := "()V" } : Jvm.MethodName)) ∈ lw_all := lw_g (lw_at lw_m12 181 rfl) rfl
theorem q2926 : (Jvm.Cond.code ({ cls := "QuillplateModel$Reader", name := "filtered", desc := "()V" } : Jvm.MethodName) prog_27_method_16_code (1 : Nat) (Option.none : Option Jvm.ClassFile.FieldType)) ∈ lw_all := lw_g (lw_at lw_m12 182 rfl) rfl
theorem q2927 : (Jvm.Cond.methodLink "QuillplateModel$Reader" (179 : Nat) ({ cls := "QuillplateModel$Reader", name := "part", desc := "()V" } : Jvm.MethodName)) ∈ lw_all := lw_g (lw_at lw_m12 183 rfl) rfl
theorem q2928 : (Jvm.Cond.privateMethod ({ cls := "QuillplateModel$Reader", name := "part", desc := "()V" } : Jvm.MethodName)) ∈ lw_tbl := lw_at lw_m12 184 rfl
theorem q2929 : (Jvm.Cond.instanceMethod ({ cls := "QuillplateModel$Reader", name := "part", desc := "()V" } : Jvm.MethodName)) ∈ lw_all := lw_g (lw_at lw_m12 185 rfl) rfl
theorem q2930 : (Jvm.Cond.code ({ cls := "QuillplateModel$Reader", name := "part", desc := "()V" } : Jvm.MethodName) prog_27_method_17_code (3 : Nat) (Option.none : Option Jvm.ClassFile.FieldType)) ∈ lw_all := lw_g (lw_at lw_m12 186 rfl) rfl
theorem q2931 : (Jvm.Cond.methodLink "QuillplateModel$Reader" (157 : Nat) ({ cls := "QuillplateModel$Reader", name := "take", desc := "(C)V" } : Jvm.MethodName)) ∈ lw_all := lw_g (lw_at lw_m12 187 rfl) rfl
theorem q2932 : (Jvm.Cond.privateMethod ({ cls := "QuillplateModel$Reader", name := "take", desc := "(C)V" } : Jvm.MethodName)) ∈ lw_tbl := lw_at lw_m12 188 rfl
theorem q2933 : (Jvm.Cond.instanceMethod ({ cls := "QuillplateModel$Reader", name := "take", desc := "(C)V" } : Jvm.MethodName)) ∈ lw_all := lw_g (lw_at lw_m12 189 rfl) rfl
theorem q2934 : (Jvm.Cond.code ({ cls := "QuillplateModel$Reader", name := "take", desc := "(C)V" } : Jvm.MethodName) prog_27_method_5_code (2 : Nat) (Option.none : Option Jvm.ClassFile.FieldType)) ∈ lw_all := lw_g (lw_at lw_m12 190 rfl) rfl
theorem q2935 : (Jvm.Cond.methodLink "QuillplateModel$Reader" (51 : Nat) ({ cls := "QuillplateModel$Reader", name := "want", desc := "(Z)V" } : Jvm.MethodName)) ∈ lw_all := lw_g (lw_at lw_m12 191 rfl) rfl
theorem q2936 : (Jvm.Cond.privateMethod ({ cls := "QuillplateModel$Reader", name := "want", desc := "(Z)V" } : Jvm.MethodName)) ∈ lw_tbl := lw_at lw_m12 192 rfl
theorem q2937 : (Jvm.Cond.instanceMethod ({ cls := "QuillplateModel$Reader", name := "want", desc := "(Z)V" } : Jvm.MethodName)) ∈ lw_all := lw_g (lw_at lw_m12 193 rfl) rfl
theorem q2938 : (Jvm.Cond.code ({ cls := "QuillplateModel$Reader", name := "want", desc := "(Z)V" } : Jvm.MethodName) prog_27_method_4_code (2 : Nat) (Option.none : Option Jvm.ClassFile.FieldType)) ∈ lw_all := lw_g (lw_at lw_m12 194 rfl) rfl
theorem q2939 : (Jvm.Cond.methodLink "QuillplateModel$Reader" (173 : Nat) ({ cls := "QuillplateModel$Reader", name := "act", desc := "()V" } : Jvm.MethodName)) ∈ lw_all := lw_g (lw_at lw_m12 195 rfl) rfl
theorem q2940 : (Jvm.Cond.privateMethod ({ cls := "QuillplateModel$Reader", name := "act", desc := "()V" } : Jvm.MethodName)) ∈ lw_tbl := lw_at lw_m12 196 rfl
theorem q2941 : (Jvm.Cond.instanceMethod ({ cls := "QuillplateModel$Reader", name := "act", desc := "()V" } : Jvm.MethodName)) ∈ lw_all := lw_g (lw_at lw_m12 197 rfl) rfl
theorem q2942 : (Jvm.Cond.code ({ cls := "QuillplateModel$Reader", name := "act", desc := "()V" } : Jvm.MethodName) prog_27_method_13_code (1 : Nat) (Option.none : Option Jvm.ClassFile.FieldType)) ∈ lw_all := lw_g (lw_at lw_m12 198 rfl) rfl
theorem q2943 : (Jvm.Cond.methodLinkNest "QuillplateModel$Reader" (184 : Nat) ({ cls := "QuillplateModel", name := "isQuoted", desc := "(C)Z" } : Jvm.MethodName) "QuillplateModel") ∈ lw_tbl := lw_at lw_m12 199 rfl
theorem q2946 : (Jvm.Cond.methodLinkNest "QuillplateModel$Reader" (187 : Nat) ({ cls := "QuillplateModel", name := "isDigit", desc := "(C)Z" } : Jvm.MethodName) "QuillplateModel") ∈ lw_tbl := lw_at lw_m12 202 rfl
theorem q2947 : (Jvm.Cond.stringRef "QuillplateModel$Reader" (190 : Nat) "abcdefghinp") ∈ lw_tbl := lw_at lw_m12 203 rfl
theorem q2948 : (Jvm.Cond.methodLink "QuillplateModel$Reader" (77 : Nat) ({ cls := "java/lang/String", name := "indexOf", desc := "(I)I" } : Jvm.MethodName)) ∈ lw_all := lw_g (lw_at lw_m12 204 rfl) rfl
theorem q2949 : (Jvm.Cond.methodLink "QuillplateModel$Reader" (147 : Nat) ({ cls := "QuillplateModel$Reader", name := "isNow", desc := "(C)Z" } : Jvm.MethodName)) ∈ lw_all := lw_g (lw_at lw_m12 205 rfl) rfl
theorem q2950 : (Jvm.Cond.privateMethod ({ cls := "QuillplateModel$Reader", name := "isNow", desc := "(C)Z" } : Jvm.MethodName)) ∈ lw_tbl := lw_at lw_m12 206 rfl
theorem q2951 : (Jvm.Cond.instanceMethod ({ cls := "QuillplateModel$Reader", name := "isNow", desc := "(C)Z" } : Jvm.MethodName)) ∈ lw_all := lw_g (lw_at lw_m12 207 rfl) rfl
theorem q2952 : (Jvm.Cond.code ({ cls := "QuillplateModel$Reader", name := "isNow", desc := "(C)Z" } : Jvm.MethodName) prog_27_method_3_code (2 : Nat) (Option.some Jvm.ClassFile.FieldType.boolean)) ∈ lw_all := lw_g (lw_at lw_m12 208 rfl) rfl
theorem q2953 : (Jvm.Cond.methodLink "QuillplateModel$Reader" (142 : Nat) ({ cls := "QuillplateModel$Reader", name := "digit", desc := "()V" } : Jvm.MethodName)) ∈ lw_all := lw_g (lw_at lw_m12 209 rfl) rfl
theorem q2954 : (Jvm.Cond.privateMethod ({ cls := "QuillplateModel$Reader", name := "digit", desc := "()V" } : Jvm.MethodName)) ∈ lw_tbl := lw_at lw_m12 210 rfl
theorem q2955 : (Jvm.Cond.instanceMethod ({ cls := "QuillplateModel$Reader", name := "digit", desc := "()V" } : Jvm.MethodName)) ∈ lw_all := lw_g (lw_at lw_m12 211 rfl) rfl
theorem q2956 : (Jvm.Cond.code ({ cls := "QuillplateModel$Reader", name := "digit", desc := "()V" } : Jvm.MethodName) prog_27_method_11_code (1 : Nat) (Option.none : Option Jvm.ClassFile.FieldType)) ∈ lw_all := lw_g (lw_at lw_m12 212 rfl) rfl
theorem q2957 : (Jvm.Cond.stringRef "QuillplateModel$Reader" (182 : Nat) "ULCSJRD") ∈ lw_tbl := lw_at lw_m12 213 rfl
theorem q2958 : (Jvm.Cond.methodLink "QuillplateModel$Reader" (121 : Nat) ({ cls := "QuillplateModel$Reader", name := "begins", desc := "(I)V" } : Jvm.MethodName)) ∈ lw_all := lw_g (lw_at lw_m12 214 rfl) rfl
theorem q2959 : (Jvm.Cond.privateMethod ({ cls := "QuillplateModel$Reader", name := "begins", desc := "(I)V" } : Jvm.MethodName)) ∈ lw_tbl := lw_at lw_m12 215 rfl
theorem q2960 : (Jvm.Cond.instanceMethod ({ cls := "QuillplateModel$Reader", name := "begins", desc := "(I)V" } : Jvm.MethodName)) ∈ lw_all := lw_g (lw_at lw_m12 216 rfl) rfl
theorem q2961 : (Jvm.Cond.code ({ cls := "QuillplateModel$Reader", name := "begins", desc := "(I)V" } : Jvm.MethodName) prog_27_method_8_code (2 : Nat) (Option.none : Option Jvm.ClassFile.FieldType)) ∈ lw_all := lw_g (lw_at lw_m12 217 rfl) rfl
theorem q2962 : (Jvm.Cond.methodLink "QuillplateModel$Reader" (96 : Nat) ({ cls := "java/lang/Integer", name := "valueOf", desc := "(I)Ljava/lang/Integer;" } : Jvm.MethodName)) ∈ lw_all := lw_g (lw_at lw_m12 218 rfl) rfl
theorem q2963 : (Jvm.Cond.interfaceEntry "QuillplateModel$Reader" (100 : Nat)) ∈ lw_tbl := lw_at lw_m12 219 rfl
theorem q2964 : (Jvm.Cond.methodLink "QuillplateModel$Reader" (100 : Nat) ({ cls := "java/util/List", name := "add", desc := "(Ljava/lang/Object;)Z" } : Jvm.MethodName)) ∈ lw_all := lw_g (lw_at lw_m12 220 rfl) rfl
theorem q2978 : (Jvm.Cond.methodLink "QuillplateModel$Reader" (127 : Nat) ({ cls := "QuillplateModel$Reader", name := "name", desc := "([IIZ)V" } : Jvm.MethodName)) ∈ lw_all := lw_g (lw_at lw_m12 234 rfl) rfl
theorem q2979 : (Jvm.Cond.privateMethod ({ cls := "QuillplateModel$Reader", name := "name", desc := "([IIZ)V" } : Jvm.MethodName)) ∈ lw_tbl := lw_at lw_m12 235 rfl
theorem q2980 : (Jvm.Cond.instanceMethod ({ cls := "QuillplateModel$Reader", name := "name", desc := "([IIZ)V" } : Jvm.MethodName)) ∈ lw_all := lw_g (lw_at lw_m12 236 rfl) rfl
theorem q2981 : (Jvm.Cond.code ({ cls := "QuillplateModel$Reader", name := "name", desc := "([IIZ)V" } : Jvm.MethodName) prog_27_method_10_code (6 : Nat) (Option.none : Option Jvm.ClassFile.FieldType)) ∈ lw_all := lw_g (lw_at lw_m12 237 rfl) rfl
theorem q2982 : (Jvm.Cond.stringRef "QuillplateModel$Reader" (145 : Nat) "ABCDEF") ∈ lw_tbl := lw_at lw_m12 238 rfl
theorem q2983 : (Jvm.Cond.stringRef "QuillplateModel$Reader" (134 : Nat) "*$=") ∈ lw_tbl := lw_at lw_m12 239 rfl
theorem q2984 : (Jvm.Cond.methodLink "QuillplateModel$Reader" (136 : Nat) ({ cls := "QuillplateModel$Reader", name := "isWithin", desc := "(Ljava/lang/String;)Z" } : Jvm.MethodName)) ∈ lw_all := lw_g (lw_at lw_m13 0 rfl) rfl
theorem q2985 : (Jvm.Cond.privateMethod ({ cls := "QuillplateModel$Reader", name := "isWithin", desc := "(Ljava/lang/String;)Z" } : Jvm.MethodName)) ∈ lw_tbl := lw_at lw_m13 1 rfl
theorem q2986 : (Jvm.Cond.instanceMethod ({ cls := "QuillplateModel$Reader", name := "isWithin", desc := "(Ljava/lang/String;)Z" } : Jvm.MethodName)) ∈ lw_all := lw_g (lw_at lw_m13 2 rfl) rfl
theorem q2987 : (Jvm.Cond.code ({ cls := "QuillplateModel$Reader", name := "isWithin", desc := "(Ljava/lang/String;)Z" } : Jvm.MethodName) prog_27_method_6_code (5 : Nat) (Option.some Jvm.ClassFile.FieldType.boolean)) ∈ lw_all := lw_g (lw_at lw_m13 3 rfl) rfl
theorem q2988 : (Jvm.Cond.interfaceEntry "QuillplateModel$Reader" (55 : Nat)) ∈ lw_tbl := lw_at lw_m13 4 rfl
theorem q2989 : (Jvm.Cond.methodLink "QuillplateModel$Reader" (55 : Nat) ({ cls := "java/util/List", name := "iterator", desc := "()Ljava/util/Iterator;" } : Jvm.MethodName)) ∈ lw_all := lw_g (lw_at lw_m13 5 rfl) rfl
theorem q3035 : (Jvm.Cond.interfaceEntry "QuillplateModel$Reader" (61 : Nat)) ∈ lw_tbl := lw_at lw_m13 51 rfl
theorem q3036 : (Jvm.Cond.methodLink "QuillplateModel$Reader" (61 : Nat) ({ cls := "java/util/Iterator", name := "hasNext", desc := "()Z" } : Jvm.MethodName)) ∈ lw_all := lw_g (lw_at lw_m13 52 rfl) rfl
theorem q3037 : (Jvm.Cond.interfaceEntry "QuillplateModel$Reader" (67 : Nat)) ∈ lw_tbl := lw_at lw_m13 53 rfl
theorem q3038 : (Jvm.Cond.methodLink "QuillplateModel$Reader" (67 : Nat) ({ cls := "java/util/Iterator", name := "next", desc := "()Ljava/lang/Object;" } : Jvm.MethodName)) ∈ lw_all := lw_g (lw_at lw_m13 54 rfl) rfl
theorem q3039 : (Jvm.Cond.stringRef "QuillplateModel$Reader" (140 : Nat) "#") ∈ lw_tbl := lw_at lw_m13 55 rfl
theorem q3040 : (Jvm.Cond.interfaceEntry "QuillplateModel$Reader" (154 : Nat)) ∈ lw_tbl := lw_at lw_m13 56 rfl
theorem q3041 : (Jvm.Cond.methodLink "QuillplateModel$Reader" (154 : Nat) ({ cls := "java/util/List", name := "remove", desc := "(I)Ljava/lang/Object;" } : Jvm.MethodName)) ∈ lw_all := lw_g (lw_at lw_m13 57 rfl) rfl
theorem q3055 : (Jvm.Cond.methodLinkNest "QuillplateModel$Reader" (86 : Nat) ({ cls := "QuillplateModel", name := "moved", desc := "(IC)I" } : Jvm.MethodName) "QuillplateModel") ∈ lw_tbl := lw_at lw_m13 71 rfl
theorem q3058 : (Jvm.Cond.methodLink "QuillplateModel$Reader" (93 : Nat) ({ cls := "QuillplateModel$Reader", name := "leaveOut", desc := "()V" } : Jvm.MethodName)) ∈ lw_all := lw_g (lw_at lw_m13 74 rfl) rfl
theorem q3059 : (Jvm.Cond.privateMethod ({ cls := "QuillplateModel$Reader", name := "leaveOut", desc := "()V" } : Jvm.MethodName)) ∈ lw_tbl := lw_at lw_m13 75 rfl
theorem q3060 : (Jvm.Cond.instanceMethod ({ cls := "QuillplateModel$Reader", name := "leaveOut", desc := "()V" } : Jvm.MethodName)) ∈ lw_all := lw_g (lw_at lw_m13 76 rfl) rfl
theorem q3061 : (Jvm.Cond.code ({ cls := "QuillplateModel$Reader", name := "leaveOut", desc := "()V" } : Jvm.MethodName) prog_27_method_18_code (4 : Nat) (Option.none : Option Jvm.ClassFile.FieldType)) ∈ lw_all := lw_g (lw_at lw_m13 77 rfl) rfl
theorem q3856 : (Jvm.Cond.castable "QuillplateModel$Reader" "java/lang/Object") ∈ lw_tbl := lw_at lw_m16 152 rfl
theorem in_X21 : ∀ w ∈ wsX210, w ∈ lw_all := lw_in wsX210 [2814, 2816, 2818, 2820, 2822, 2824, 2826] (by decide +kernel) (by decide +kernel)
def RX22 : String := "QuillplateModel$Template"
def TX22 : u_T := fun k => match k with
  | 0 => ("QuillplateModel$Template", "signs", "[C", true)
  | 1 => ("QuillplateModel$Template", "closes", "[I", true)
  | 2 => ("QuillplateModel$Template", "others", "[I", true)
  | 3 => ("QuillplateModel$Template", "ends", "[I", true)
  | 4 => ("QuillplateModel$Template", "isLeftOut", "[Z", true)
  | 5 => ("QuillplateModel$Template", "blocks", "[I", true)
  | 6 => ("QuillplateModel$Template", "macros", "[I", true)
  | _ => ("QuillplateModel$Template", "marks", "I", false)
def tyX22 : Nat → FieldType := fun k => match k with
  | 0 => .array .char
  | 1 => .array .int
  | 2 => .array .int
  | 3 => .array .int
  | 4 => .array .boolean
  | 5 => .array .int
  | 6 => .array .int
  | _ => .int
abbrev wsX220 : List Cond := u_ws RX22 TX22 8
theorem nmX22 : ∀ a, a < 8 → ∀ b, b < 8 → a ≠ b → (TX22 a).2.1 ≠ (TX22 b).2.1 := by decide +kernel
theorem tyX22_ok : ∀ k, k < 8 → parseFieldDescriptor (TX22 k).2.2.1 = some (tyX22 k) := by decide +kernel
abbrev cX22_init : ByteArray := prog_30_method_1_code
def yX22_init : MethodName := ⟨RX22, "<init>", "(Ljava/lang/String;)V"⟩
abbrev cX22_above : ByteArray := prog_30_method_2_code
def yX22_above : MethodName := ⟨RX22, "above", "()I"⟩
theorem q155 : (Jvm.Cond.initialized "QuillplateModel$Template") ∈ lw_all := lw_g (lw_at lw_m1 51 rfl) rfl
theorem q966 : (Jvm.Cond.selects "QuillplateModel$Template" ({ cls := "java/lang/Object", name := "getClass", desc := "()Ljava/lang/Class;" } : Jvm.MethodName) ({ cls := "java/lang/Object", name := "getClass", desc := "()Ljava/lang/Class;" } : Jvm.MethodName)) ∈ lw_all := lw_g (lw_at lw_m4 142 rfl) rfl
theorem q2479 : (Jvm.Cond.selects "QuillplateModel$Template" ({ cls := "java/lang/Object", name := "equals", desc := "(Ljava/lang/Object;)Z" } : Jvm.MethodName) ({ cls := "java/lang/Object", name := "equals", desc := "(Ljava/lang/Object;)Z" } : Jvm.MethodName)) ∈ lw_all := lw_g (lw_at lw_m10 215 rfl) rfl
theorem q2740 : (Jvm.Cond.instantiable "QuillplateModel$Template" (8 : Nat)) ∈ lw_all := lw_g (lw_at lw_m11 236 rfl) rfl
theorem q2742 : (Jvm.Cond.instanceMethod ({ cls := "QuillplateModel$Template", name := "<init>", desc := "(Ljava/lang/String;)V" } : Jvm.MethodName)) ∈ lw_all := lw_g (lw_at lw_m11 238 rfl) rfl
theorem q2743 : (Jvm.Cond.code ({ cls := "QuillplateModel$Template", name := "<init>", desc := "(Ljava/lang/String;)V" } : Jvm.MethodName) prog_30_method_1_code (3 : Nat) (Option.none : Option Jvm.ClassFile.FieldType)) ∈ lw_all := lw_g (lw_at lw_m11 239 rfl) rfl
theorem q2744 : (Jvm.Cond.methodLink "QuillplateModel$Template" (3 : Nat) ({ cls := "java/lang/Object", name := "<init>", desc := "()V" } : Jvm.MethodName)) ∈ lw_all := lw_g (lw_at lw_m12 0 rfl) rfl
theorem q2745 : (Jvm.Cond.methodLink "QuillplateModel$Template" (18 : Nat) ({ cls := "java/lang/String", name := "toCharArray", desc := "()[C" } : Jvm.MethodName)) ∈ lw_all := lw_g (lw_at lw_m12 1 rfl) rfl
theorem q2761 : (Jvm.Cond.fieldLink "QuillplateModel$Template" (24 : Nat) "QuillplateModel$Template" "signs" "[C") ∈ lw_all := lw_g (lw_at lw_m12 17 rfl) rfl
theorem q2765 : (Jvm.Cond.fieldLink "QuillplateModel$Template" (28 : Nat) "QuillplateModel$Template" "closes" "[I") ∈ lw_all := lw_g (lw_at lw_m12 21 rfl) rfl
theorem q2769 : (Jvm.Cond.fieldLink "QuillplateModel$Template" (31 : Nat) "QuillplateModel$Template" "others" "[I") ∈ lw_all := lw_g (lw_at lw_m12 25 rfl) rfl
theorem q2773 : (Jvm.Cond.fieldLink "QuillplateModel$Template" (34 : Nat) "QuillplateModel$Template" "ends" "[I") ∈ lw_all := lw_g (lw_at lw_m12 29 rfl) rfl
theorem q2777 : (Jvm.Cond.fieldLink "QuillplateModel$Template" (37 : Nat) "QuillplateModel$Template" "isLeftOut" "[Z") ∈ lw_all := lw_g (lw_at lw_m12 33 rfl) rfl
theorem q2780 : (Jvm.Cond.fieldLink "QuillplateModel$Template" (9 : Nat) "QuillplateModel$Template" "blocks" "[I") ∈ lw_all := lw_g (lw_at lw_m12 36 rfl) rfl
theorem q2783 : (Jvm.Cond.fieldLink "QuillplateModel$Template" (15 : Nat) "QuillplateModel$Template" "macros" "[I") ∈ lw_all := lw_g (lw_at lw_m12 39 rfl) rfl
theorem q2788 : (Jvm.Cond.laysFinal "QuillplateModel$Template" "QuillplateModel$Template" "signs" "[C") ∈ lw_all := lw_g (lw_at lw_m12 44 rfl) rfl
theorem q2789 : (Jvm.Cond.soleField "QuillplateModel$Template" "signs") ∈ lw_all := lw_g (lw_at lw_m12 45 rfl) rfl
theorem q2790 : (Jvm.Cond.laysFinal "QuillplateModel$Template" "QuillplateModel$Template" "closes" "[I") ∈ lw_all := lw_g (lw_at lw_m12 46 rfl) rfl
theorem q2791 : (Jvm.Cond.soleField "QuillplateModel$Template" "closes") ∈ lw_all := lw_g (lw_at lw_m12 47 rfl) rfl
theorem q2792 : (Jvm.Cond.laysFinal "QuillplateModel$Template" "QuillplateModel$Template" "others" "[I") ∈ lw_all := lw_g (lw_at lw_m12 48 rfl) rfl
theorem q2793 : (Jvm.Cond.soleField "QuillplateModel$Template" "others") ∈ lw_all := lw_g (lw_at lw_m12 49 rfl) rfl
theorem q2794 : (Jvm.Cond.laysFinal "QuillplateModel$Template" "QuillplateModel$Template" "ends" "[I") ∈ lw_all := lw_g (lw_at lw_m12 50 rfl) rfl
theorem q2795 : (Jvm.Cond.soleField "QuillplateModel$Template" "ends") ∈ lw_all := lw_g (lw_at lw_m12 51 rfl) rfl
theorem q2796 : (Jvm.Cond.laysFinal "QuillplateModel$Template" "QuillplateModel$Template" "isLeftOut" "[Z") ∈ lw_all := lw_g (lw_at lw_m12 52 rfl) rfl
theorem q2797 : (Jvm.Cond.soleField "QuillplateModel$Template" "isLeftOut") ∈ lw_all := lw_g (lw_at lw_m12 53 rfl) rfl
theorem q2798 : (Jvm.Cond.laysFinal "QuillplateModel$Template" "QuillplateModel$Template" "blocks" "[I") ∈ lw_all := lw_g (lw_at lw_m12 54 rfl) rfl
theorem q2799 : (Jvm.Cond.soleField "QuillplateModel$Template" "blocks") ∈ lw_all := lw_g (lw_at lw_m12 55 rfl) rfl
theorem q2800 : (Jvm.Cond.laysFinal "QuillplateModel$Template" "QuillplateModel$Template" "macros" "[I") ∈ lw_all := lw_g (lw_at lw_m12 56 rfl) rfl
theorem q2801 : (Jvm.Cond.soleField "QuillplateModel$Template" "macros") ∈ lw_all := lw_g (lw_at lw_m12 57 rfl) rfl
theorem q2802 : (Jvm.Cond.lays "QuillplateModel$Template" "QuillplateModel$Template" "marks" "I") ∈ lw_all := lw_g (lw_at lw_m12 58 rfl) rfl
theorem q2803 : (Jvm.Cond.soleField "QuillplateModel$Template" "marks") ∈ lw_all := lw_g (lw_at lw_m12 59 rfl) rfl
theorem q2804 : (Jvm.Cond.superclass "QuillplateModel$Template" "java/lang/Object") ∈ lw_all := lw_g (lw_at lw_m12 60 rfl) rfl
theorem q3290 : (Jvm.Cond.instanceMethod ({ cls := "QuillplateModel$Template", name := "above", desc := "()I" } : Jvm.MethodName)) ∈ lw_all := lw_g (lw_at lw_m14 66 rfl) rfl
theorem q3291 : (Jvm.Cond.selects "QuillplateModel$Template" ({ cls := "QuillplateModel$Template", name := "above", desc := "()I" } : Jvm.MethodName) ({ cls := "QuillplateModel$Template", name := "above", desc := "()I" } : Jvm.MethodName)) ∈ lw_all := lw_g (lw_at lw_m14 67 rfl) rfl
theorem q3292 : (Jvm.Cond.code ({ cls := "QuillplateModel$Template", name := "above", desc := "()I" } : Jvm.MethodName) prog_30_method_2_code (1 : Nat) (Option.some Jvm.ClassFile.FieldType.int)) ∈ lw_all := lw_g (lw_at lw_m14 68 rfl) rfl
theorem q3828 : (Jvm.Cond.castable "QuillplateModel$Template" "java/lang/Object") ∈ lw_tbl := lw_at lw_m16 124 rfl
theorem in_X22 : ∀ w ∈ wsX220, w ∈ lw_all := lw_in wsX220 [2788, 2790, 2792, 2794, 2796, 2798, 2800, 2802] (by decide +kernel) (by decide +kernel)
def RX23 : String := "QuillplateModel$Slip"
def TX23 : u_T := fun k => match k with
  | 0 => ("java/lang/Throwable", "cause", "Ljava/lang/Throwable;", false)
  | 1 => ("java/lang/Throwable", "stackTrace", "[Ljava/lang/StackTraceElement;", false)
  | 2 => ("java/lang/Throwable", "suppressedExceptions", "Ljava/util/List;", false)
  | 3 => ("java/lang/Throwable", "detailMessage", "Ljava/lang/String;", false)
  | 4 => ("java/lang/Throwable", "backtrace", "Ljava/lang/Object;", false)
  | 5 => ("java/lang/Throwable", "depth", "I", false)
  | _ => ("QuillplateModel$Slip", "what", "I", true)
def tyX23 : Nat → FieldType := fun k => match k with
  | 0 => .object "java/lang/Throwable"
  | 1 => .array (.object "java/lang/StackTraceElement")
  | 2 => .object "java/util/List"
  | 3 => .object "java/lang/String"
  | 4 => .object "java/lang/Object"
  | 5 => .int
  | _ => .int
abbrev wsX230 : List Cond := u_ws RX23 TX23 7
theorem nmX23 : ∀ a, a < 7 → ∀ b, b < 7 → a ≠ b → (TX23 a).2.1 ≠ (TX23 b).2.1 := by decide +kernel
theorem tyX23_ok : ∀ k, k < 7 → parseFieldDescriptor (TX23 k).2.2.1 = some (tyX23 k) := by decide +kernel
abbrev cX23_init : ByteArray := prog_29_method_1_code
def yX23_init : MethodName := ⟨RX23, "<init>", "(I)V"⟩
theorem q156 : (Jvm.Cond.initialized "QuillplateModel$Slip") ∈ lw_all := lw_g (lw_at lw_m1 52 rfl) rfl
theorem q323 : (Jvm.Cond.selects "QuillplateModel$Slip" ({ cls := "java/lang/Throwable", name := "fillInStackTrace", desc := "()Ljava/lang/Throwable;" } : Jvm.MethodName) ({ cls := "java/lang/Throwable", name := "fillInStackTrace", desc := "()Ljava/lang/Throwable;" } : Jvm.MethodName)) ∈ lw_all := lw_g (lw_at lw_m1 219 rfl) rfl
theorem q965 : (Jvm.Cond.selects "QuillplateModel$Slip" ({ cls := "java/lang/Object", name := "getClass", desc := "()Ljava/lang/Class;" } : Jvm.MethodName) ({ cls := "java/lang/Object", name := "getClass", desc := "()Ljava/lang/Class;" } : Jvm.MethodName)) ∈ lw_all := lw_g (lw_at lw_m4 141 rfl) rfl
theorem q1760 : (Jvm.Cond.selects "QuillplateModel$Slip" ({ cls := "java/lang/Throwable", name := "toString", desc := "()Ljava/lang/String;" } : Jvm.MethodName) ({ cls := "java/lang/Throwable", name := "toString", desc := "()Ljava/lang/String;" } : Jvm.MethodName)) ∈ lw_all := lw_g (lw_at lw_m7 216 rfl) rfl
theorem q1774 : (Jvm.Cond.selects "QuillplateModel$Slip" ({ cls := "java/lang/Throwable", name := "getLocalizedMessage", desc := "()Ljava/lang/String;" } : Jvm.MethodName) ({ cls := "java/lang/Throwable", name := "getLocalizedMessage", desc := "()Ljava/lang/String;" } : Jvm.MethodName)) ∈ lw_all := lw_g (lw_at lw_m7 230 rfl) rfl
theorem q1787 : (Jvm.Cond.selects "QuillplateModel$Slip" ({ cls := "java/lang/Throwable", name := "getMessage", desc := "()Ljava/lang/String;" } : Jvm.MethodName) ({ cls := "java/lang/Throwable", name := "getMessage", desc := "()Ljava/lang/String;" } : Jvm.MethodName)) ∈ lw_all := lw_g (lw_at lw_m8 3 rfl) rfl
theorem q2478 : (Jvm.Cond.selects "QuillplateModel$Slip" ({ cls := "java/lang/Object", name := "equals", desc := "(Ljava/lang/Object;)Z" } : Jvm.MethodName) ({ cls := "java/lang/Object", name := "equals", desc := "(Ljava/lang/Object;)Z" } : Jvm.MethodName)) ∈ lw_all := lw_g (lw_at lw_m10 214 rfl) rfl
theorem q2842 : (Jvm.Cond.instantiable "QuillplateModel$Slip" (7 : Nat)) ∈ lw_all := lw_g (lw_at lw_m12 98 rfl) rfl
theorem q2843 : (Jvm.Cond.castable "QuillplateModel$Slip" "QuillplateModel$Slip") ∈ lw_tbl := lw_at lw_m12 99 rfl
theorem q2844 : (Jvm.Cond.selects "QuillplateModel$Slip" ({ cls := "java/lang/Throwable", name := "fillInStackTrace", desc := "(I)Ljava/lang/Throwable;" } : Jvm.MethodName) ({ cls := "java/lang/Throwable", name := "fillInStackTrace", desc := "(I)Ljava/lang/Throwable;" } : Jvm.MethodName)) ∈ lw_all := lw_g (lw_at lw_m12 100 rfl) rfl
theorem q2845 : (Jvm.Cond.lays "QuillplateModel$Slip" "java/lang/Throwable" "cause" "Ljava/lang/Throwable;") ∈ lw_all := lw_g (lw_at lw_m12 101 rfl) rfl
theorem q2846 : (Jvm.Cond.lays "QuillplateModel$Slip" "java/lang/Throwable" "stackTrace" "[Ljava/lang/StackTraceElement;") ∈ lw_all := lw_g (lw_at lw_m12 102 rfl) rfl
theorem q2847 : (Jvm.Cond.lays "QuillplateModel$Slip" "java/lang/Throwable" "suppressedExceptions" "Ljava/util/List;") ∈ lw_all := lw_g (lw_at lw_m12 103 rfl) rfl
theorem q2848 : (Jvm.Cond.lays "QuillplateModel$Slip" "java/lang/Throwable" "detailMessage" "Ljava/lang/String;") ∈ lw_all := lw_g (lw_at lw_m12 104 rfl) rfl
theorem q2849 : (Jvm.Cond.lays "QuillplateModel$Slip" "java/lang/Throwable" "backtrace" "Ljava/lang/Object;") ∈ lw_all := lw_g (lw_at lw_m12 105 rfl) rfl
theorem q2851 : (Jvm.Cond.instanceMethod ({ cls := "QuillplateModel$Slip", name := "<init>", desc := "(I)V" } : Jvm.MethodName)) ∈ lw_all := lw_g (lw_at lw_m12 107 rfl) rfl
theorem q2852 : (Jvm.Cond.code ({ cls := "QuillplateModel$Slip", name := "<init>", desc := "(I)V" } : Jvm.MethodName) prog_29_method_1_code (2 : Nat) (Option.none : Option Jvm.ClassFile.FieldType)) ∈ lw_all := lw_g (lw_at lw_m12 108 rfl) rfl
theorem q2853 : (Jvm.Cond.methodLink "QuillplateModel$Slip" (1 : Nat) ({ cls := "java/lang/RuntimeException", name := "<init>", desc := "(Ljava/lang/String;Ljava/lang/Throwable;ZZ)V" } : Jvm.MethodName)) ∈ lw_all := lw_g (lw_at lw_m12 109 rfl) rfl
theorem q2862 : (Jvm.Cond.fieldLink "QuillplateModel$Slip" (7 : Nat) "QuillplateModel$Slip" "what" "I") ∈ lw_all := lw_g (lw_at lw_m12 118 rfl) rfl
theorem q2865 : (Jvm.Cond.laysFinal "QuillplateModel$Slip" "QuillplateModel$Slip" "what" "I") ∈ lw_all := lw_g (lw_at lw_m12 121 rfl) rfl
theorem q2866 : (Jvm.Cond.soleField "QuillplateModel$Slip" "what") ∈ lw_all := lw_g (lw_at lw_m12 122 rfl) rfl
theorem q2867 : (Jvm.Cond.lays "QuillplateModel$Slip" "java/lang/Throwable" "depth" "I") ∈ lw_all := lw_g (lw_at lw_m12 123 rfl) rfl
theorem q2868 : (Jvm.Cond.superclass "QuillplateModel$Slip" "java/lang/RuntimeException") ∈ lw_all := lw_g (lw_at lw_m12 124 rfl) rfl
theorem q3857 : (Jvm.Cond.castable "QuillplateModel$Slip" "java/lang/Object") ∈ lw_tbl := lw_at lw_m16 153 rfl
theorem in_X23 : ∀ w ∈ wsX230, w ∈ lw_all := lw_in wsX230 [2845, 2846, 2847, 2848, 2849, 2867, 2865] (by decide +kernel) (by decide +kernel)
def RX24 : String := "QuillplateModel$Value"
def TX24 : u_T := fun k => match k with
  | 0 => ("QuillplateModel$Value", "kind", "I", true)
  | 1 => ("QuillplateModel$Value", "number", "I", true)
  | 2 => ("QuillplateModel$Value", "text", "Ljava/lang/String;", true)
  | 3 => ("QuillplateModel$Value", "isSafe", "Z", true)
  | _ => ("QuillplateModel$Value", "list", "Ljava/util/List;", true)
def tyX24 : Nat → FieldType := fun k => match k with
  | 0 => .int
  | 1 => .int
  | 2 => .object "java/lang/String"
  | 3 => .boolean
  | _ => .object "java/util/List"
abbrev wsX240 : List Cond := u_ws RX24 TX24 5
theorem nmX24 : ∀ a, a < 5 → ∀ b, b < 5 → a ≠ b → (TX24 a).2.1 ≠ (TX24 b).2.1 := by decide +kernel
theorem tyX24_ok : ∀ k, k < 5 → parseFieldDescriptor (TX24 k).2.2.1 = some (tyX24 k) := by decide +kernel
abbrev cX24_of : ByteArray := prog_31_method_3_code
def yX24_of : MethodName := ⟨RX24, "of", "(I)LQuillplateModel$Value;"⟩
abbrev cX24_init : ByteArray := prog_31_method_1_code
def yX24_init : MethodName := ⟨RX24, "<init>", "(IILjava/lang/String;ZLjava/util/List;)V"⟩
abbrev cX24_of_2 : ByteArray := prog_31_method_4_code
def yX24_of_2 : MethodName := ⟨RX24, "of", "(Ljava/lang/String;Z)LQuillplateModel$Value;"⟩
abbrev cX24_of_3 : ByteArray := prog_31_method_5_code
def yX24_of_3 : MethodName := ⟨RX24, "of", "(Ljava/util/List;)LQuillplateModel$Value;"⟩
abbrev cX24_none : ByteArray := prog_31_method_2_code
def yX24_none : MethodName := ⟨RX24, "none", "()LQuillplateModel$Value;"⟩
abbrev cX24_isTrue : ByteArray := prog_31_method_6_code
def yX24_isTrue : MethodName := ⟨RX24, "isTrue", "()Z"⟩
abbrev cX24_said : ByteArray := prog_31_method_7_code
def yX24_said : MethodName := ⟨RX24, "said", "()Ljava/lang/String;"⟩
abbrev cX24_isAlike : ByteArray := prog_31_method_8_code
def yX24_isAlike : MethodName := ⟨RX24, "isAlike", "(LQuillplateModel$Value;)Z"⟩
theorem q168 : (Jvm.Cond.initialized "QuillplateModel$Value") ∈ lw_all := lw_g (lw_at lw_m1 64 rfl) rfl
theorem q967 : (Jvm.Cond.selects "QuillplateModel$Value" ({ cls := "java/lang/Object", name := "getClass", desc := "()Ljava/lang/Class;" } : Jvm.MethodName) ({ cls := "java/lang/Object", name := "getClass", desc := "()Ljava/lang/Class;" } : Jvm.MethodName)) ∈ lw_all := lw_g (lw_at lw_m4 143 rfl) rfl
theorem q2480 : (Jvm.Cond.selects "QuillplateModel$Value" ({ cls := "java/lang/Object", name := "equals", desc := "(Ljava/lang/Object;)Z" } : Jvm.MethodName) ({ cls := "java/lang/Object", name := "equals", desc := "(Ljava/lang/Object;)Z" } : Jvm.MethodName)) ∈ lw_all := lw_g (lw_at lw_m10 216 rfl) rfl
theorem q3091 : (Jvm.Cond.static ({ cls := "QuillplateModel$Value", name := "of", desc := "(I)LQuillplateModel$Value;" } : Jvm.MethodName)) ∈ lw_all := lw_g (lw_at lw_m13 107 rfl) rfl
theorem q3092 : (Jvm.Cond.code ({ cls := "QuillplateModel$Value", name := "of", desc := "(I)LQuillplateModel$Value;" } : Jvm.MethodName) prog_31_method_3_code (1 : Nat) (Option.some (Jvm.ClassFile.FieldType.object "QuillplateModel$Value"))) ∈ lw_all := lw_g (lw_at lw_m13 108 rfl) rfl
theorem q3093 : (Jvm.Cond.classLink "QuillplateModel$Value" (41 : Nat) "QuillplateModel$Slip") ∈ lw_all := lw_g (lw_at lw_m13 109 rfl) rfl
theorem q3094 : (Jvm.Cond.methodLink "QuillplateModel$Value" (43 : Nat) ({ cls := "QuillplateModel$Slip", name := "<init>", desc := "(I)V" } : Jvm.MethodName)) ∈ lw_all := lw_g (lw_at lw_m13 110 rfl) rfl
theorem q3095 : (Jvm.Cond.classLink "QuillplateModel$Value" (10 : Nat) "QuillplateModel$Value") ∈ lw_all := lw_g (lw_at lw_m13 111 rfl) rfl
theorem q3096 : (Jvm.Cond.instantiable "QuillplateModel$Value" (5 : Nat)) ∈ lw_all := lw_g (lw_at lw_m13 112 rfl) rfl
theorem q3097 : (Jvm.Cond.stringRef "QuillplateModel$Value" (30 : Nat) "") ∈ lw_tbl := lw_at lw_m13 113 rfl
theorem q3098 : (Jvm.Cond.methodLink "QuillplateModel$Value" (32 : Nat) ({ cls := "java/util/List", name := "of", desc := "()Ljava/util/List;" } : Jvm.MethodName)) ∈ lw_all := lw_g (lw_at lw_m13 114 rfl) rfl
theorem q3103 : (Jvm.Cond.methodLink "QuillplateModel$Value" (38 : Nat) ({ cls := "QuillplateModel$Value", name := "<init>", desc := "(IILjava/lang/String;ZLjava/util/List;)V" } : Jvm.MethodName)) ∈ lw_all := lw_g (lw_at lw_m13 119 rfl) rfl
theorem q3104 : (Jvm.Cond.instanceMethod ({ cls := "QuillplateModel$Value", name := "<init>", desc := "(IILjava/lang/String;ZLjava/util/List;)V" } : Jvm.MethodName)) ∈ lw_all := lw_g (lw_at lw_m13 120 rfl) rfl
theorem q3105 : (Jvm.Cond.code ({ cls := "QuillplateModel$Value", name := "<init>", desc := "(IILjava/lang/String;ZLjava/util/List;)V" } : Jvm.MethodName) prog_31_method_1_code (6 : Nat) (Option.none : Option Jvm.ClassFile.FieldType)) ∈ lw_all := lw_g (lw_at lw_m13 121 rfl) rfl
theorem q3106 : (Jvm.Cond.methodLink "QuillplateModel$Value" (3 : Nat) ({ cls := "java/lang/Object", name := "<init>", desc := "()V" } : Jvm.MethodName)) ∈ lw_all := lw_g (lw_at lw_m13 122 rfl) rfl
theorem q3107 : (Jvm.Cond.fieldLink "QuillplateModel$Value" (9 : Nat) "QuillplateModel$Value" "kind" "I") ∈ lw_all := lw_g (lw_at lw_m13 123 rfl) rfl
theorem q3110 : (Jvm.Cond.fieldLink "QuillplateModel$Value" (15 : Nat) "QuillplateModel$Value" "number" "I") ∈ lw_all := lw_g (lw_at lw_m13 126 rfl) rfl
theorem q3113 : (Jvm.Cond.fieldLink "QuillplateModel$Value" (18 : Nat) "QuillplateModel$Value" "text" "Ljava/lang/String;") ∈ lw_all := lw_g (lw_at lw_m13 129 rfl) rfl
theorem q3116 : (Jvm.Cond.fieldLink "QuillplateModel$Value" (22 : Nat) "QuillplateModel$Value" "isSafe" "Z") ∈ lw_all := lw_g (lw_at lw_m13 132 rfl) rfl
theorem q3119 : (Jvm.Cond.fieldLink "QuillplateModel$Value" (26 : Nat) "QuillplateModel$Value" "list" "Ljava/util/List;") ∈ lw_all := lw_g (lw_at lw_m13 135 rfl) rfl
theorem q3122 : (Jvm.Cond.laysFinal "QuillplateModel$Value" "QuillplateModel$Value" "kind" "I") ∈ lw_all := lw_g (lw_at lw_m13 138 rfl) rfl
theorem q3123 : (Jvm.Cond.soleField "QuillplateModel$Value" "kind") ∈ lw_all := lw_g (lw_at lw_m13 139 rfl) rfl
theorem q3124 : (Jvm.Cond.laysFinal "QuillplateModel$Value" "QuillplateModel$Value" "number" "I") ∈ lw_all := lw_g (lw_at lw_m13 140 rfl) rfl
theorem q3125 : (Jvm.Cond.soleField "QuillplateModel$Value" "number") ∈ lw_all := lw_g (lw_at lw_m13 141 rfl) rfl
theorem q3126 : (Jvm.Cond.laysFinal "QuillplateModel$Value" "QuillplateModel$Value" "text" "Ljava/lang/String;") ∈ lw_all := lw_g (lw_at lw_m13 142 rfl) rfl
theorem q3127 : (Jvm.Cond.soleField "QuillplateModel$Value" "text") ∈ lw_all := lw_g (lw_at lw_m13 143 rfl) rfl
theorem q3128 : (Jvm.Cond.laysFinal "QuillplateModel$Value" "QuillplateModel$Value" "isSafe" "Z") ∈ lw_all := lw_g (lw_at lw_m13 144 rfl) rfl
theorem q3129 : (Jvm.Cond.soleField "QuillplateModel$Value" "isSafe") ∈ lw_all := lw_g (lw_at lw_m13 145 rfl) rfl
theorem q3130 : (Jvm.Cond.laysFinal "QuillplateModel$Value" "QuillplateModel$Value" "list" "Ljava/util/List;") ∈ lw_all := lw_g (lw_at lw_m13 146 rfl) rfl
theorem q3131 : (Jvm.Cond.soleField "QuillplateModel$Value" "list") ∈ lw_all := lw_g (lw_at lw_m13 147 rfl) rfl
theorem q3132 : (Jvm.Cond.superclass "QuillplateModel$Value" "java/lang/Object") ∈ lw_all := lw_g (lw_at lw_m13 148 rfl) rfl
theorem q3153 : (Jvm.Cond.static ({ cls := "QuillplateModel$Value", name := "of", desc := "(Ljava/lang/String;Z)LQuillplateModel$Value;" } : Jvm.MethodName)) ∈ lw_all := lw_g (lw_at lw_m13 169 rfl) rfl
theorem q3154 : (Jvm.Cond.code ({ cls := "QuillplateModel$Value", name := "of", desc := "(Ljava/lang/String;Z)LQuillplateModel$Value;" } : Jvm.MethodName) prog_31_method_4_code (2 : Nat) (Option.some (Jvm.ClassFile.FieldType.object "QuillplateModel$Value"))) ∈ lw_all := lw_g (lw_at lw_m13 170 rfl) rfl
theorem q3155 : (Jvm.Cond.methodLink "QuillplateModel$Value" (46 : Nat) ({ cls := "java/lang/String", name := "length", desc := "()I" } : Jvm.MethodName)) ∈ lw_all := lw_g (lw_at lw_m13 171 rfl) rfl
theorem q3162 : (Jvm.Cond.static ({ cls := "QuillplateModel$Value", name := "of", desc := "(Ljava/util/List;)LQuillplateModel$Value;" } : Jvm.MethodName)) ∈ lw_all := lw_g (lw_at lw_m13 178 rfl) rfl
theorem q3163 : (Jvm.Cond.code ({ cls := "QuillplateModel$Value", name := "of", desc := "(Ljava/util/List;)LQuillplateModel$Value;" } : Jvm.MethodName) prog_31_method_5_code (1 : Nat) (Option.some (Jvm.ClassFile.FieldType.object "QuillplateModel$Value"))) ∈ lw_all := lw_g (lw_at lw_m13 179 rfl) rfl
theorem q3220 : (Jvm.Cond.static ({ cls := "QuillplateModel$Value", name := "none", desc := "()LQuillplateModel$Value;" } : Jvm.MethodName)) ∈ lw_all := lw_g (lw_at lw_m13 236 rfl) rfl
theorem q3221 : (Jvm.Cond.code ({ cls := "QuillplateModel$Value", name := "none", desc := "()LQuillplateModel$Value;" } : Jvm.MethodName) prog_31_method_2_code (0 : Nat) (Option.some (Jvm.ClassFile.FieldType.object "QuillplateModel$Value"))) ∈ lw_all := lw_g (lw_at lw_m13 237 rfl) rfl
theorem q3340 : (Jvm.Cond.instanceMethod ({ cls := "QuillplateModel$Value", name := "isTrue", desc := "()Z" } : Jvm.MethodName)) ∈ lw_all := lw_g (lw_at lw_m14 116 rfl) rfl
theorem q3341 : (Jvm.Cond.selects "QuillplateModel$Value" ({ cls := "QuillplateModel$Value", name := "isTrue", desc := "()Z" } : Jvm.MethodName) ({ cls := "QuillplateModel$Value", name := "isTrue", desc := "()Z" } : Jvm.MethodName)) ∈ lw_all := lw_g (lw_at lw_m14 117 rfl) rfl
theorem q3342 : (Jvm.Cond.code ({ cls := "QuillplateModel$Value", name := "isTrue", desc := "()Z" } : Jvm.MethodName) prog_31_method_6_code (1 : Nat) (Option.some Jvm.ClassFile.FieldType.boolean)) ∈ lw_all := lw_g (lw_at lw_m14 118 rfl) rfl
theorem q3343 : (Jvm.Cond.methodLink "QuillplateModel$Value" (52 : Nat) ({ cls := "java/lang/String", name := "isEmpty", desc := "()Z" } : Jvm.MethodName)) ∈ lw_all := lw_g (lw_at lw_m14 119 rfl) rfl
theorem q3344 : (Jvm.Cond.interfaceEntry "QuillplateModel$Value" (56 : Nat)) ∈ lw_tbl := lw_at lw_m14 120 rfl
theorem q3345 : (Jvm.Cond.methodLink "QuillplateModel$Value" (56 : Nat) ({ cls := "java/util/List", name := "isEmpty", desc := "()Z" } : Jvm.MethodName)) ∈ lw_all := lw_g (lw_at lw_m14 121 rfl) rfl
theorem q3386 : (Jvm.Cond.instanceMethod ({ cls := "QuillplateModel$Value", name := "said", desc := "()Ljava/lang/String;" } : Jvm.MethodName)) ∈ lw_all := lw_g (lw_at lw_m14 162 rfl) rfl
theorem q3387 : (Jvm.Cond.selects "QuillplateModel$Value" ({ cls := "QuillplateModel$Value", name := "said", desc := "()Ljava/lang/String;" } : Jvm.MethodName) ({ cls := "QuillplateModel$Value", name := "said", desc := "()Ljava/lang/String;" } : Jvm.MethodName)) ∈ lw_all := lw_g (lw_at lw_m14 163 rfl) rfl
theorem q3388 : (Jvm.Cond.code ({ cls := "QuillplateModel$Value", name := "said", desc := "()Ljava/lang/String;" } : Jvm.MethodName) prog_31_method_7_code (1 : Nat) (Option.some (Jvm.ClassFile.FieldType.object "java/lang/String"))) ∈ lw_all := lw_g (lw_at lw_m14 164 rfl) rfl
theorem q3389 : (Jvm.Cond.methodLink "QuillplateModel$Value" (57 : Nat) ({ cls := "java/lang/Integer", name := "toString", desc := "(I)Ljava/lang/String;" } : Jvm.MethodName)) ∈ lw_all := lw_g (lw_at lw_m14 165 rfl) rfl
theorem q3403 : (Jvm.Cond.instanceMethod ({ cls := "QuillplateModel$Value", name := "isAlike", desc := "(LQuillplateModel$Value;)Z" } : Jvm.MethodName)) ∈ lw_all := lw_g (lw_at lw_m14 179 rfl) rfl
theorem q3404 : (Jvm.Cond.selects "QuillplateModel$Value" ({ cls := "QuillplateModel$Value", name := "isAlike", desc := "(LQuillplateModel$Value;)Z" } : Jvm.MethodName) ({ cls := "QuillplateModel$Value", name := "isAlike", desc := "(LQuillplateModel$Value;)Z" } : Jvm.MethodName)) ∈ lw_all := lw_g (lw_at lw_m14 180 rfl) rfl
theorem q3405 : (Jvm.Cond.code ({ cls := "QuillplateModel$Value", name := "isAlike", desc := "(LQuillplateModel$Value;)Z" } : Jvm.MethodName) prog_31_method_8_code (4 : Nat) (Option.some Jvm.ClassFile.FieldType.boolean)) ∈ lw_all := lw_g (lw_at lw_m14 181 rfl) rfl
theorem q3406 : (Jvm.Cond.methodLink "QuillplateModel$Value" (63 : Nat) ({ cls := "java/lang/String", name := "equals", desc := "(Ljava/lang/Object;)Z" } : Jvm.MethodName)) ∈ lw_all := lw_g (lw_at lw_m14 182 rfl) rfl
theorem q3407 : (Jvm.Cond.interfaceEntry "QuillplateModel$Value" (67 : Nat)) ∈ lw_tbl := lw_at lw_m14 183 rfl
theorem q3408 : (Jvm.Cond.methodLink "QuillplateModel$Value" (67 : Nat) ({ cls := "java/util/List", name := "size", desc := "()I" } : Jvm.MethodName)) ∈ lw_all := lw_g (lw_at lw_m14 184 rfl) rfl
theorem q3409 : (Jvm.Cond.interfaceEntry "QuillplateModel$Value" (70 : Nat)) ∈ lw_tbl := lw_at lw_m14 185 rfl
theorem q3410 : (Jvm.Cond.methodLink "QuillplateModel$Value" (70 : Nat) ({ cls := "java/util/List", name := "get", desc := "(I)Ljava/lang/Object;" } : Jvm.MethodName)) ∈ lw_all := lw_g (lw_at lw_m14 186 rfl) rfl
theorem q3411 : (Jvm.Cond.methodLink "QuillplateModel$Value" (74 : Nat) ({ cls := "QuillplateModel$Value", name := "isAlike", desc := "(LQuillplateModel$Value;)Z" } : Jvm.MethodName)) ∈ lw_all := lw_g (lw_at lw_m14 187 rfl) rfl
theorem q3829 : (Jvm.Cond.castable "QuillplateModel$Value" "java/lang/Object") ∈ lw_tbl := lw_at lw_m16 125 rfl
theorem in_X24 : ∀ w ∈ wsX240, w ∈ lw_all := lw_in wsX240 [3122, 3124, 3126, 3128, 3130] (by decide +kernel) (by decide +kernel)
def RX25 : String := "Quillplate$FailureException"
def TX25 : u_T := fun k => match k with
  | 0 => ("java/lang/Throwable", "cause", "Ljava/lang/Throwable;", false)
  | 1 => ("java/lang/Throwable", "stackTrace", "[Ljava/lang/StackTraceElement;", false)
  | 2 => ("java/lang/Throwable", "suppressedExceptions", "Ljava/util/List;", false)
  | 3 => ("java/lang/Throwable", "detailMessage", "Ljava/lang/String;", false)
  | 4 => ("java/lang/Throwable", "backtrace", "Ljava/lang/Object;", false)
  | 5 => ("java/lang/Throwable", "depth", "I", false)
  | _ => ("Quillplate$FailureException", "code", "I", true)
def tyX25 : Nat → FieldType := fun k => match k with
  | 0 => .object "java/lang/Throwable"
  | 1 => .array (.object "java/lang/StackTraceElement")
  | 2 => .object "java/util/List"
  | 3 => .object "java/lang/String"
  | 4 => .object "java/lang/Object"
  | 5 => .int
  | _ => .int
abbrev wsX250 : List Cond := u_ws RX25 TX25 7
theorem nmX25 : ∀ a, a < 7 → ∀ b, b < 7 → a ≠ b → (TX25 a).2.1 ≠ (TX25 b).2.1 := by decide +kernel
theorem tyX25_ok : ∀ k, k < 7 → parseFieldDescriptor (TX25 k).2.2.1 = some (tyX25 k) := by decide +kernel
abbrev cX25_init : ByteArray := prog_6_method_1_code
def yX25_init : MethodName := ⟨RX25, "<init>", "(I)V"⟩
theorem q171 : (Jvm.Cond.initialized "Quillplate$FailureException") ∈ lw_all := lw_g (lw_at lw_m1 67 rfl) rfl
theorem q321 : (Jvm.Cond.selects "Quillplate$FailureException" ({ cls := "java/lang/Throwable", name := "fillInStackTrace", desc := "()Ljava/lang/Throwable;" } : Jvm.MethodName) ({ cls := "java/lang/Throwable", name := "fillInStackTrace", desc := "()Ljava/lang/Throwable;" } : Jvm.MethodName)) ∈ lw_all := lw_g (lw_at lw_m1 217 rfl) rfl
theorem q945 : (Jvm.Cond.selects "Quillplate$FailureException" ({ cls := "java/lang/Object", name := "getClass", desc := "()Ljava/lang/Class;" } : Jvm.MethodName) ({ cls := "java/lang/Object", name := "getClass", desc := "()Ljava/lang/Class;" } : Jvm.MethodName)) ∈ lw_all := lw_g (lw_at lw_m4 121 rfl) rfl
theorem q1758 : (Jvm.Cond.selects "Quillplate$FailureException" ({ cls := "java/lang/Throwable", name := "toString", desc := "()Ljava/lang/String;" } : Jvm.MethodName) ({ cls := "java/lang/Throwable", name := "toString", desc := "()Ljava/lang/String;" } : Jvm.MethodName)) ∈ lw_all := lw_g (lw_at lw_m7 214 rfl) rfl
theorem q1772 : (Jvm.Cond.selects "Quillplate$FailureException" ({ cls := "java/lang/Throwable", name := "getLocalizedMessage", desc := "()Ljava/lang/String;" } : Jvm.MethodName) ({ cls := "java/lang/Throwable", name := "getLocalizedMessage", desc := "()Ljava/lang/String;" } : Jvm.MethodName)) ∈ lw_all := lw_g (lw_at lw_m7 228 rfl) rfl
theorem q1785 : (Jvm.Cond.selects "Quillplate$FailureException" ({ cls := "java/lang/Throwable", name := "getMessage", desc := "()Ljava/lang/String;" } : Jvm.MethodName) ({ cls := "java/lang/Throwable", name := "getMessage", desc := "()Ljava/lang/String;" } : Jvm.MethodName)) ∈ lw_all := lw_g (lw_at lw_m8 1 rfl) rfl
theorem q2054 : (Jvm.Cond.instantiable "Quillplate$FailureException" (7 : Nat)) ∈ lw_all := lw_g (lw_at lw_m9 30 rfl) rfl
theorem q2055 : (Jvm.Cond.castable "Quillplate$FailureException" "Quillplate$FailureException") ∈ lw_tbl := lw_at lw_m9 31 rfl
theorem q2056 : (Jvm.Cond.selects "Quillplate$FailureException" ({ cls := "java/lang/Throwable", name := "fillInStackTrace", desc := "(I)Ljava/lang/Throwable;" } : Jvm.MethodName) ({ cls := "java/lang/Throwable", name := "fillInStackTrace", desc := "(I)Ljava/lang/Throwable;" } : Jvm.MethodName)) ∈ lw_all := lw_g (lw_at lw_m9 32 rfl) rfl
theorem q2057 : (Jvm.Cond.lays "Quillplate$FailureException" "java/lang/Throwable" "cause" "Ljava/lang/Throwable;") ∈ lw_all := lw_g (lw_at lw_m9 33 rfl) rfl
theorem q2058 : (Jvm.Cond.lays "Quillplate$FailureException" "java/lang/Throwable" "stackTrace" "[Ljava/lang/StackTraceElement;") ∈ lw_all := lw_g (lw_at lw_m9 34 rfl) rfl
theorem q2059 : (Jvm.Cond.lays "Quillplate$FailureException" "java/lang/Throwable" "suppressedExceptions" "Ljava/util/List;") ∈ lw_all := lw_g (lw_at lw_m9 35 rfl) rfl
theorem q2060 : (Jvm.Cond.lays "Quillplate$FailureException" "java/lang/Throwable" "detailMessage" "Ljava/lang/String;") ∈ lw_all := lw_g (lw_at lw_m9 36 rfl) rfl
theorem q2061 : (Jvm.Cond.lays "Quillplate$FailureException" "java/lang/Throwable" "backtrace" "Ljava/lang/Object;") ∈ lw_all := lw_g (lw_at lw_m9 37 rfl) rfl
theorem q2063 : (Jvm.Cond.instanceMethod ({ cls := "Quillplate$FailureException", name := "<init>", desc := "(I)V" } : Jvm.MethodName)) ∈ lw_all := lw_g (lw_at lw_m9 39 rfl) rfl
theorem q2064 : (Jvm.Cond.code ({ cls := "Quillplate$FailureException", name := "<init>", desc := "(I)V" } : Jvm.MethodName) prog_6_method_1_code (2 : Nat) (Option.none : Option Jvm.ClassFile.FieldType)) ∈ lw_all := lw_g (lw_at lw_m9 40 rfl) rfl
theorem q2065 : (Jvm.Cond.classLink "Quillplate$FailureException" (1 : Nat) "java/lang/StringBuilder") ∈ lw_all := lw_g (lw_at lw_m9 41 rfl) rfl
theorem q2066 : (Jvm.Cond.methodLink "Quillplate$FailureException" (3 : Nat) ({ cls := "java/lang/StringBuilder", name := "<init>", desc := "()V" } : Jvm.MethodName)) ∈ lw_all := lw_g (lw_at lw_m9 42 rfl) rfl
theorem q2067 : (Jvm.Cond.stringRef "Quillplate$FailureException" (7 : Nat) "error ") ∈ lw_tbl := lw_at lw_m9 43 rfl
theorem q2068 : (Jvm.Cond.methodLink "Quillplate$FailureException" (9 : Nat) ({ cls := "java/lang/StringBuilder", name := "append", desc := "(Ljava/lang/String;)Ljava/lang/StringBuilder;" } : Jvm.MethodName)) ∈ lw_all := lw_g (lw_at lw_m9 44 rfl) rfl
theorem q2069 : (Jvm.Cond.methodLink "Quillplate$FailureException" (13 : Nat) ({ cls := "java/lang/StringBuilder", name := "append", desc := "(I)Ljava/lang/StringBuilder;" } : Jvm.MethodName)) ∈ lw_all := lw_g (lw_at lw_m9 45 rfl) rfl
theorem q2070 : (Jvm.Cond.methodLink "Quillplate$FailureException" (16 : Nat) ({ cls := "java/lang/StringBuilder", name := "toString", desc := "()Ljava/lang/String;" } : Jvm.MethodName)) ∈ lw_all := lw_g (lw_at lw_m9 46 rfl) rfl
theorem q2071 : (Jvm.Cond.methodLink "Quillplate$FailureException" (20 : Nat) ({ cls := "java/lang/Exception", name := "<init>", desc := "(Ljava/lang/String;)V" } : Jvm.MethodName)) ∈ lw_all := lw_g (lw_at lw_m9 47 rfl) rfl
theorem q2072 : (Jvm.Cond.fieldLink "Quillplate$FailureException" (25 : Nat) "Quillplate$FailureException" "code" "I") ∈ lw_all := lw_g (lw_at lw_m9 48 rfl) rfl
theorem q2074 : (Jvm.Cond.laysFinal "Quillplate$FailureException" "Quillplate$FailureException" "code" "I") ∈ lw_all := lw_g (lw_at lw_m9 50 rfl) rfl
theorem q2075 : (Jvm.Cond.soleField "Quillplate$FailureException" "code") ∈ lw_all := lw_g (lw_at lw_m9 51 rfl) rfl
theorem q2076 : (Jvm.Cond.lays "Quillplate$FailureException" "java/lang/Throwable" "depth" "I") ∈ lw_all := lw_g (lw_at lw_m9 52 rfl) rfl
theorem q2077 : (Jvm.Cond.superclass "Quillplate$FailureException" "java/lang/Exception") ∈ lw_all := lw_g (lw_at lw_m9 53 rfl) rfl
theorem q2456 : (Jvm.Cond.selects "Quillplate$FailureException" ({ cls := "java/lang/Object", name := "equals", desc := "(Ljava/lang/Object;)Z" } : Jvm.MethodName) ({ cls := "java/lang/Object", name := "equals", desc := "(Ljava/lang/Object;)Z" } : Jvm.MethodName)) ∈ lw_all := lw_g (lw_at lw_m10 192 rfl) rfl
theorem q3867 : (Jvm.Cond.castable "Quillplate$FailureException" "java/lang/Object") ∈ lw_tbl := lw_at lw_m16 163 rfl
theorem in_X25 : ∀ w ∈ wsX250, w ∈ lw_all := lw_in wsX250 [2057, 2058, 2059, 2060, 2061, 2076, 2074] (by decide +kernel) (by decide +kernel)
def RX26 : String := "Quillplate$Kept"
def TX26 : u_T := fun k => match k with
  | 0 => ("Quillplate$Kept", "template", "I", true)
  | 1 => ("Quillplate$Kept", "at", "I", true)
  | 2 => ("Quillplate$Kept", "first", "I", true)
  | 3 => ("Quillplate$Kept", "where", "I", true)
  | 4 => ("Quillplate$Kept", "text", "Ljava/lang/String;", true)
  | _ => ("Quillplate$Kept", "reads", "Ljava/util/BitSet;", true)
def tyX26 : Nat → FieldType := fun k => match k with
  | 0 => .int
  | 1 => .int
  | 2 => .int
  | 3 => .int
  | 4 => .object "java/lang/String"
  | _ => .object "java/util/BitSet"
abbrev wsX260 : List Cond := u_ws RX26 TX26 6
theorem nmX26 : ∀ a, a < 6 → ∀ b, b < 6 → a ≠ b → (TX26 a).2.1 ≠ (TX26 b).2.1 := by decide +kernel
theorem tyX26_ok : ∀ k, k < 6 → parseFieldDescriptor (TX26 k).2.2.1 = some (tyX26 k) := by decide +kernel
abbrev cX26_is : ByteArray := prog_11_method_2_code
def yX26_is : MethodName := ⟨RX26, "is", "(III)Z"⟩
abbrev cX26_init : ByteArray := prog_11_method_1_code
def yX26_init : MethodName := ⟨RX26, "<init>", "(IIIILjava/lang/String;Ljava/util/BitSet;)V"⟩
theorem q172 : (Jvm.Cond.initialized "Quillplate$Kept") ∈ lw_all := lw_g (lw_at lw_m1 68 rfl) rfl
theorem q948 : (Jvm.Cond.selects "Quillplate$Kept" ({ cls := "java/lang/Object", name := "getClass", desc := "()Ljava/lang/Class;" } : Jvm.MethodName) ({ cls := "java/lang/Object", name := "getClass", desc := "()Ljava/lang/Class;" } : Jvm.MethodName)) ∈ lw_all := lw_g (lw_at lw_m4 124 rfl) rfl
theorem q2433 : (Jvm.Cond.instanceMethod ({ cls := "Quillplate$Kept", name := "is", desc := "(III)Z" } : Jvm.MethodName)) ∈ lw_all := lw_g (lw_at lw_m10 169 rfl) rfl
theorem q2434 : (Jvm.Cond.selects "Quillplate$Kept" ({ cls := "Quillplate$Kept", name := "is", desc := "(III)Z" } : Jvm.MethodName) ({ cls := "Quillplate$Kept", name := "is", desc := "(III)Z" } : Jvm.MethodName)) ∈ lw_all := lw_g (lw_at lw_m10 170 rfl) rfl
theorem q2435 : (Jvm.Cond.code ({ cls := "Quillplate$Kept", name := "is", desc := "(III)Z" } : Jvm.MethodName) prog_11_method_2_code (4 : Nat) (Option.some Jvm.ClassFile.FieldType.boolean)) ∈ lw_all := lw_g (lw_at lw_m10 171 rfl) rfl
theorem q2459 : (Jvm.Cond.selects "Quillplate$Kept" ({ cls := "java/lang/Object", name := "equals", desc := "(Ljava/lang/Object;)Z" } : Jvm.MethodName) ({ cls := "java/lang/Object", name := "equals", desc := "(Ljava/lang/Object;)Z" } : Jvm.MethodName)) ∈ lw_all := lw_g (lw_at lw_m10 195 rfl) rfl
theorem q2498 : (Jvm.Cond.instantiable "Quillplate$Kept" (6 : Nat)) ∈ lw_all := lw_g (lw_at lw_m10 234 rfl) rfl
theorem q2519 : (Jvm.Cond.instanceMethod ({ cls := "Quillplate$Kept", name := "<init>", desc := "(IIIILjava/lang/String;Ljava/util/BitSet;)V" } : Jvm.MethodName)) ∈ lw_all := lw_g (lw_at lw_m11 15 rfl) rfl
theorem q2520 : (Jvm.Cond.code ({ cls := "Quillplate$Kept", name := "<init>", desc := "(IIIILjava/lang/String;Ljava/util/BitSet;)V" } : Jvm.MethodName) prog_11_method_1_code (7 : Nat) (Option.none : Option Jvm.ClassFile.FieldType)) ∈ lw_all := lw_g (lw_at lw_m11 16 rfl) rfl
theorem q2521 : (Jvm.Cond.methodLink "Quillplate$Kept" (1 : Nat) ({ cls := "java/lang/Object", name := "<init>", desc := "()V" } : Jvm.MethodName)) ∈ lw_all := lw_g (lw_at lw_m11 17 rfl) rfl
theorem q2522 : (Jvm.Cond.fieldLink "Quillplate$Kept" (7 : Nat) "Quillplate$Kept" "template" "I") ∈ lw_all := lw_g (lw_at lw_m11 18 rfl) rfl
theorem q2523 : (Jvm.Cond.fieldLink "Quillplate$Kept" (13 : Nat) "Quillplate$Kept" "at" "I") ∈ lw_all := lw_g (lw_at lw_m11 19 rfl) rfl
theorem q2524 : (Jvm.Cond.fieldLink "Quillplate$Kept" (16 : Nat) "Quillplate$Kept" "first" "I") ∈ lw_all := lw_g (lw_at lw_m11 20 rfl) rfl
theorem q2525 : (Jvm.Cond.fieldLink "Quillplate$Kept" (19 : Nat) "Quillplate$Kept" "where" "I") ∈ lw_all := lw_g (lw_at lw_m11 21 rfl) rfl
theorem q2527 : (Jvm.Cond.fieldLink "Quillplate$Kept" (22 : Nat) "Quillplate$Kept" "text" "Ljava/lang/String;") ∈ lw_all := lw_g (lw_at lw_m11 23 rfl) rfl
theorem q2529 : (Jvm.Cond.fieldLink "Quillplate$Kept" (26 : Nat) "Quillplate$Kept" "reads" "Ljava/util/BitSet;") ∈ lw_all := lw_g (lw_at lw_m11 25 rfl) rfl
theorem q2532 : (Jvm.Cond.laysFinal "Quillplate$Kept" "Quillplate$Kept" "template" "I") ∈ lw_all := lw_g (lw_at lw_m11 28 rfl) rfl
theorem q2533 : (Jvm.Cond.soleField "Quillplate$Kept" "template") ∈ lw_all := lw_g (lw_at lw_m11 29 rfl) rfl
theorem q2534 : (Jvm.Cond.laysFinal "Quillplate$Kept" "Quillplate$Kept" "at" "I") ∈ lw_all := lw_g (lw_at lw_m11 30 rfl) rfl
theorem q2535 : (Jvm.Cond.soleField "Quillplate$Kept" "at") ∈ lw_all := lw_g (lw_at lw_m11 31 rfl) rfl
theorem q2536 : (Jvm.Cond.laysFinal "Quillplate$Kept" "Quillplate$Kept" "first" "I") ∈ lw_all := lw_g (lw_at lw_m11 32 rfl) rfl
theorem q2537 : (Jvm.Cond.soleField "Quillplate$Kept" "first") ∈ lw_all := lw_g (lw_at lw_m11 33 rfl) rfl
theorem q2538 : (Jvm.Cond.laysFinal "Quillplate$Kept" "Quillplate$Kept" "where" "I") ∈ lw_all := lw_g (lw_at lw_m11 34 rfl) rfl
theorem q2539 : (Jvm.Cond.soleField "Quillplate$Kept" "where") ∈ lw_all := lw_g (lw_at lw_m11 35 rfl) rfl
theorem q2540 : (Jvm.Cond.laysFinal "Quillplate$Kept" "Quillplate$Kept" "text" "Ljava/lang/String;") ∈ lw_all := lw_g (lw_at lw_m11 36 rfl) rfl
theorem q2541 : (Jvm.Cond.soleField "Quillplate$Kept" "text") ∈ lw_all := lw_g (lw_at lw_m11 37 rfl) rfl
theorem q2542 : (Jvm.Cond.laysFinal "Quillplate$Kept" "Quillplate$Kept" "reads" "Ljava/util/BitSet;") ∈ lw_all := lw_g (lw_at lw_m11 38 rfl) rfl
theorem q2543 : (Jvm.Cond.soleField "Quillplate$Kept" "reads") ∈ lw_all := lw_g (lw_at lw_m11 39 rfl) rfl
theorem q2544 : (Jvm.Cond.superclass "Quillplate$Kept" "java/lang/Object") ∈ lw_all := lw_g (lw_at lw_m11 40 rfl) rfl
theorem q3868 : (Jvm.Cond.castable "Quillplate$Kept" "java/lang/Object") ∈ lw_tbl := lw_at lw_m16 164 rfl
theorem in_X26 : ∀ w ∈ wsX260, w ∈ lw_all := lw_in wsX260 [2532, 2534, 2536, 2538, 2540, 2542] (by decide +kernel) (by decide +kernel)
def RX27 : String := "QuillplateModel$Rendering"
def TX27 : u_T := fun k => match k with
  | 0 => ("QuillplateModel$Rendering", "keeps", "Z", true)
  | 1 => ("QuillplateModel$Rendering", "made", "Ljava/lang/StringBuilder;", true)
  | 2 => ("QuillplateModel$Rendering", "ways", "Ljava/util/List;", true)
  | 3 => ("QuillplateModel$Rendering", "steps", "I", false)
  | 4 => ("QuillplateModel$Rendering", "renewed", "I", false)
  | 5 => ("QuillplateModel$Rendering", "reused", "I", false)
  | 6 => ("QuillplateModel$Rendering", "place", "I", false)
  | 7 => ("QuillplateModel$Rendering", "inside", "I", false)
  | 8 => ("QuillplateModel$Rendering", "reads", "I", false)
  | 9 => ("QuillplateModel$Rendering", "element", "LQuillplateModel$Value;", false)
  | 10 => ("QuillplateModel$Rendering", "number", "LQuillplateModel$Value;", false)
  | 11 => ("QuillplateModel$Rendering", "given", "LQuillplateModel$Value;", false)
  | 12 => ("QuillplateModel$Rendering", "error", "I", false)
  | 13 => ("QuillplateModel$Rendering", "places", "Ljava/util/List;", true)
  | 14 => ("QuillplateModel$Rendering", "signs", "[C", false)
  | 15 => ("QuillplateModel$Rendering", "at", "I", false)
  | _ => ("QuillplateModel$Rendering", "this$0", "LQuillplateModel;", true)
def tyX27 : Nat → FieldType := fun k => match k with
  | 0 => .boolean
  | 1 => .object "java/lang/StringBuilder"
  | 2 => .object "java/util/List"
  | 3 => .int
  | 4 => .int
  | 5 => .int
  | 6 => .int
  | 7 => .int
  | 8 => .int
  | 9 => .object "QuillplateModel$Value"
  | 10 => .object "QuillplateModel$Value"
  | 11 => .object "QuillplateModel$Value"
  | 12 => .int
  | 13 => .object "java/util/List"
  | 14 => .array .char
  | 15 => .int
  | _ => .object "QuillplateModel"
abbrev wsX270 : List Cond := u_ws RX27 TX27 17
theorem nmX27 : ∀ a, a < 17 → ∀ b, b < 17 → a ≠ b → (TX27 a).2.1 ≠ (TX27 b).2.1 := by decide +kernel
theorem tyX27_ok : ∀ k, k < 17 → parseFieldDescriptor (TX27 k).2.2.1 = some (tyX27 k) := by decide +kernel
abbrev cX27_init : ByteArray := prog_28_method_1_code
def yX27_init : MethodName := ⟨RX27, "<init>", "(LQuillplateModel;Z)V"⟩
abbrev cX27_all : ByteArray := prog_28_method_2_code
def yX27_all : MethodName := ⟨RX27, "all", "(I)Z"⟩
abbrev cX27_rowOf : ByteArray := prog_28_method_4_code
def yX27_rowOf : MethodName := ⟨RX27, "rowOf", "(I)[I"⟩
abbrev cX27_fails : ByteArray := prog_28_method_3_code
def yX27_fails : MethodName := ⟨RX27, "fails", "(III)V"⟩
abbrev cX27_span : ByteArray := prog_28_method_7_code
def yX27_span : MethodName := ⟨RX27, "span", "([IIII)V"⟩
abbrev cX27_mark : ByteArray := prog_28_method_8_code
def yX27_mark : MethodName := ⟨RX27, "mark", "([III)I"⟩
abbrev cX27_step : ByteArray := prog_28_method_5_code
def yX27_step : MethodName := ⟨RX27, "step", "(II)V"⟩
abbrev cX27_value : ByteArray := prog_28_method_19_code
def yX27_value : MethodName := ⟨RX27, "value", "(LQuillplateModel$Template;III)LQuillplateModel$Value;"⟩
abbrev cX27_compared : ByteArray := prog_28_method_20_code
def yX27_compared : MethodName := ⟨RX27, "compared", "(Z)LQuillplateModel$Value;"⟩
abbrev cX27_added : ByteArray := prog_28_method_21_code
def yX27_added : MethodName := ⟨RX27, "added", "(Z)LQuillplateModel$Value;"⟩
abbrev cX27_filtered : ByteArray := prog_28_method_22_code
def yX27_filtered : MethodName := ⟨RX27, "filtered", "(Z)LQuillplateModel$Value;"⟩
abbrev cX27_held : ByteArray := prog_28_method_23_code
def yX27_held : MethodName := ⟨RX27, "held", "(Z)LQuillplateModel$Value;"⟩
abbrev cX27_named : ByteArray := prog_28_method_24_code
def yX27_named : MethodName := ⟨RX27, "named", "(C)LQuillplateModel$Value;"⟩
abbrev cX27_branch : ByteArray := prog_28_method_9_code
def yX27_branch : MethodName := ⟨RX27, "branch", "([IIIZ)V"⟩
abbrev cX27_loop : ByteArray := prog_28_method_10_code
def yX27_loop : MethodName := ⟨RX27, "loop", "([III)V"⟩
abbrev cX27_block : ByteArray := prog_28_method_12_code
def yX27_block : MethodName := ⟨RX27, "block", "([IIIIIZ)V"⟩
abbrev cX27_enters : ByteArray := prog_28_method_13_code
def yX27_enters : MethodName := ⟨RX27, "enters", "(II)V"⟩
abbrev cX27_fit : ByteArray := prog_28_method_14_code
def yX27_fit : MethodName := ⟨RX27, "fit", "(LQuillplateModel$Template;IIII)V"⟩
abbrev cX27_part : ByteArray := prog_28_method_17_code
def yX27_part : MethodName := ⟨RX27, "part", "([III)V"⟩
abbrev cX27_longs : ByteArray := prog_28_method_6_code
def yX27_longs : MethodName := ⟨RX27, "longs", "(II)V"⟩
abbrev cX27_blockAround : ByteArray := prog_28_method_11_code
def yX27_blockAround : MethodName := ⟨RX27, "blockAround", "(LQuillplateModel$Template;I)I"⟩
abbrev cX27_stand : ByteArray := prog_28_method_15_code
def yX27_stand : MethodName := ⟨RX27, "stand", "(III)V"⟩
abbrev cX27_call : ByteArray := prog_28_method_16_code
def yX27_call : MethodName := ⟨RX27, "call", "([III)V"⟩
abbrev cX27_hole : ByteArray := prog_28_method_18_code
def yX27_hole : MethodName := ⟨RX27, "hole", "(LQuillplateModel$Template;II)V"⟩
theorem q173 : (Jvm.Cond.initialized "QuillplateModel$Rendering") ∈ lw_all := lw_g (lw_at lw_m1 69 rfl) rfl
theorem q964 : (Jvm.Cond.selects "QuillplateModel$Rendering" ({ cls := "java/lang/Object", name := "getClass", desc := "()Ljava/lang/Class;" } : Jvm.MethodName) ({ cls := "java/lang/Object", name := "getClass", desc := "()Ljava/lang/Class;" } : Jvm.MethodName)) ∈ lw_all := lw_g (lw_at lw_m4 140 rfl) rfl
theorem q2477 : (Jvm.Cond.selects "QuillplateModel$Rendering" ({ cls := "java/lang/Object", name := "equals", desc := "(Ljava/lang/Object;)Z" } : Jvm.MethodName) ({ cls := "java/lang/Object", name := "equals", desc := "(Ljava/lang/Object;)Z" } : Jvm.MethodName)) ∈ lw_all := lw_g (lw_at lw_m10 213 rfl) rfl
theorem q2617 : (Jvm.Cond.fieldLinkNest "QuillplateModel$Rendering" (60 : Nat) "QuillplateModel" "templates" "[LQuillplateModel$Template;" "QuillplateModel") ∈ lw_tbl := lw_at lw_m11 113 rfl
theorem q2620 : (Jvm.Cond.fieldLinkNest "QuillplateModel$Rendering" (358 : Nat) "QuillplateModel" "data" "[LQuillplateModel$Value;" "QuillplateModel") ∈ lw_tbl := lw_at lw_m11 116 rfl
theorem q2622 : (Jvm.Cond.fieldLinkNest "QuillplateModel$Rendering" (259 : Nat) "QuillplateModel" "kept" "Ljava/util/List;" "QuillplateModel") ∈ lw_tbl := lw_at lw_m11 118 rfl
theorem q2763 : (Jvm.Cond.fieldLinkNest "QuillplateModel$Rendering" (64 : Nat) "QuillplateModel$Template" "signs" "[C" "QuillplateModel") ∈ lw_tbl := lw_at lw_m12 19 rfl
theorem q2766 : (Jvm.Cond.fieldLinkNest "QuillplateModel$Rendering" (144 : Nat) "QuillplateModel$Template" "closes" "[I" "QuillplateModel") ∈ lw_tbl := lw_at lw_m12 22 rfl
theorem q2771 : (Jvm.Cond.fieldLinkNest "QuillplateModel$Rendering" (196 : Nat) "QuillplateModel$Template" "others" "[I" "QuillplateModel") ∈ lw_tbl := lw_at lw_m12 27 rfl
theorem q2774 : (Jvm.Cond.fieldLinkNest "QuillplateModel$Rendering" (148 : Nat) "QuillplateModel$Template" "ends" "[I" "QuillplateModel") ∈ lw_tbl := lw_at lw_m12 30 rfl
theorem q2778 : (Jvm.Cond.fieldLinkNest "QuillplateModel$Rendering" (128 : Nat) "QuillplateModel$Template" "isLeftOut" "[Z" "QuillplateModel") ∈ lw_tbl := lw_at lw_m12 34 rfl
theorem q2782 : (Jvm.Cond.fieldLinkNest "QuillplateModel$Rendering" (212 : Nat) "QuillplateModel$Template" "blocks" "[I" "QuillplateModel") ∈ lw_tbl := lw_at lw_m12 38 rfl
theorem q2785 : (Jvm.Cond.fieldLinkNest "QuillplateModel$Rendering" (232 : Nat) "QuillplateModel$Template" "macros" "[I" "QuillplateModel") ∈ lw_tbl := lw_at lw_m12 41 rfl
theorem q2863 : (Jvm.Cond.fieldLinkNest "QuillplateModel$Rendering" (84 : Nat) "QuillplateModel$Slip" "what" "I" "QuillplateModel") ∈ lw_tbl := lw_at lw_m12 119 rfl
theorem q3109 : (Jvm.Cond.fieldLinkNest "QuillplateModel$Rendering" (199 : Nat) "QuillplateModel$Value" "kind" "I" "QuillplateModel") ∈ lw_tbl := lw_at lw_m13 125 rfl
theorem q3112 : (Jvm.Cond.fieldLinkNest "QuillplateModel$Rendering" (324 : Nat) "QuillplateModel$Value" "number" "I" "QuillplateModel") ∈ lw_tbl := lw_at lw_m13 128 rfl
theorem q3115 : (Jvm.Cond.fieldLinkNest "QuillplateModel$Rendering" (326 : Nat) "QuillplateModel$Value" "text" "Ljava/lang/String;" "QuillplateModel") ∈ lw_tbl := lw_at lw_m13 131 rfl
theorem q3118 : (Jvm.Cond.fieldLinkNest "QuillplateModel$Rendering" (302 : Nat) "QuillplateModel$Value" "isSafe" "Z" "QuillplateModel") ∈ lw_tbl := lw_at lw_m13 134 rfl
theorem q3121 : (Jvm.Cond.fieldLinkNest "QuillplateModel$Rendering" (202 : Nat) "QuillplateModel$Value" "list" "Ljava/util/List;" "QuillplateModel") ∈ lw_tbl := lw_at lw_m13 137 rfl
theorem q3210 : (Jvm.Cond.instantiable "QuillplateModel$Rendering" (17 : Nat)) ∈ lw_all := lw_g (lw_at lw_m13 226 rfl) rfl
theorem q3212 : (Jvm.Cond.instanceMethod ({ cls := "QuillplateModel$Rendering", name := "<init>", desc := "(LQuillplateModel;Z)V" } : Jvm.MethodName)) ∈ lw_all := lw_g (lw_at lw_m13 228 rfl) rfl
theorem q3213 : (Jvm.Cond.code ({ cls := "QuillplateModel$Rendering", name := "<init>", desc := "(LQuillplateModel;Z)V" } : Jvm.MethodName) prog_28_method_1_code (3 : Nat) (Option.none : Option Jvm.ClassFile.FieldType)) ∈ lw_all := lw_g (lw_at lw_m13 229 rfl) rfl
theorem q3214 : (Jvm.Cond.methodLink "QuillplateModel$Rendering" (9 : Nat) ({ cls := "java/lang/Object", name := "<init>", desc := "()V" } : Jvm.MethodName)) ∈ lw_all := lw_g (lw_at lw_m13 230 rfl) rfl
theorem q3215 : (Jvm.Cond.classLink "QuillplateModel$Rendering" (15 : Nat) "java/lang/StringBuilder") ∈ lw_all := lw_g (lw_at lw_m13 231 rfl) rfl
theorem q3216 : (Jvm.Cond.methodLink "QuillplateModel$Rendering" (17 : Nat) ({ cls := "java/lang/StringBuilder", name := "<init>", desc := "()V" } : Jvm.MethodName)) ∈ lw_all := lw_g (lw_at lw_m13 232 rfl) rfl
theorem q3217 : (Jvm.Cond.classLink "QuillplateModel$Rendering" (22 : Nat) "java/util/ArrayList") ∈ lw_all := lw_g (lw_at lw_m13 233 rfl) rfl
theorem q3218 : (Jvm.Cond.methodLink "QuillplateModel$Rendering" (24 : Nat) ({ cls := "java/util/ArrayList", name := "<init>", desc := "()V" } : Jvm.MethodName)) ∈ lw_all := lw_g (lw_at lw_m13 234 rfl) rfl
theorem q3219 : (Jvm.Cond.methodLink "QuillplateModel$Rendering" (33 : Nat) ({ cls := "QuillplateModel$Value", name := "none", desc := "()LQuillplateModel$Value;" } : Jvm.MethodName)) ∈ lw_all := lw_g (lw_at lw_m13 235 rfl) rfl
theorem q3222 : (Jvm.Cond.fieldLink "QuillplateModel$Rendering" (52 : Nat) "QuillplateModel$Rendering" "keeps" "Z") ∈ lw_all := lw_g (lw_at lw_m13 238 rfl) rfl
theorem q3223 : (Jvm.Cond.fieldLink "QuillplateModel$Rendering" (18 : Nat) "QuillplateModel$Rendering" "made" "Ljava/lang/StringBuilder;") ∈ lw_all := lw_g (lw_at lw_m13 239 rfl) rfl
theorem q3225 : (Jvm.Cond.fieldLink "QuillplateModel$Rendering" (25 : Nat) "QuillplateModel$Rendering" "ways" "Ljava/util/List;") ∈ lw_all := lw_g (lw_at lw_m14 1 rfl) rfl
theorem q3226 : (Jvm.Cond.fieldLink "QuillplateModel$Rendering" (121 : Nat) "QuillplateModel$Rendering" "steps" "I") ∈ lw_all := lw_g (lw_at lw_m14 2 rfl) rfl
theorem q3228 : (Jvm.Cond.fieldLink "QuillplateModel$Rendering" (271 : Nat) "QuillplateModel$Rendering" "renewed" "I") ∈ lw_all := lw_g (lw_at lw_m14 4 rfl) rfl
theorem q3230 : (Jvm.Cond.fieldLink "QuillplateModel$Rendering" (253 : Nat) "QuillplateModel$Rendering" "reused" "I") ∈ lw_all := lw_g (lw_at lw_m14 6 rfl) rfl
theorem q3232 : (Jvm.Cond.fieldLink "QuillplateModel$Rendering" (29 : Nat) "QuillplateModel$Rendering" "place" "I") ∈ lw_all := lw_g (lw_at lw_m14 8 rfl) rfl
theorem q3233 : (Jvm.Cond.fieldLink "QuillplateModel$Rendering" (225 : Nat) "QuillplateModel$Rendering" "inside" "I") ∈ lw_all := lw_g (lw_at lw_m14 9 rfl) rfl
theorem q3234 : (Jvm.Cond.fieldLink "QuillplateModel$Rendering" (249 : Nat) "QuillplateModel$Rendering" "reads" "I") ∈ lw_all := lw_g (lw_at lw_m14 10 rfl) rfl
theorem q3235 : (Jvm.Cond.fieldLink "QuillplateModel$Rendering" (39 : Nat) "QuillplateModel$Rendering" "element" "LQuillplateModel$Value;") ∈ lw_all := lw_g (lw_at lw_m14 11 rfl) rfl
theorem q3236 : (Jvm.Cond.fieldLink "QuillplateModel$Rendering" (43 : Nat) "QuillplateModel$Rendering" "number" "LQuillplateModel$Value;") ∈ lw_all := lw_g (lw_at lw_m14 12 rfl) rfl
theorem q3237 : (Jvm.Cond.fieldLink "QuillplateModel$Rendering" (46 : Nat) "QuillplateModel$Rendering" "given" "LQuillplateModel$Value;") ∈ lw_all := lw_g (lw_at lw_m14 13 rfl) rfl
theorem q3238 : (Jvm.Cond.fieldLink "QuillplateModel$Rendering" (87 : Nat) "QuillplateModel$Rendering" "error" "I") ∈ lw_all := lw_g (lw_at lw_m14 14 rfl) rfl
theorem q3240 : (Jvm.Cond.fieldLink "QuillplateModel$Rendering" (49 : Nat) "QuillplateModel$Rendering" "places" "Ljava/util/List;") ∈ lw_all := lw_g (lw_at lw_m14 16 rfl) rfl
theorem q3242 : (Jvm.Cond.fieldLink "QuillplateModel$Rendering" (309 : Nat) "QuillplateModel$Rendering" "signs" "[C") ∈ lw_all := lw_g (lw_at lw_m14 18 rfl) rfl
theorem q3243 : (Jvm.Cond.fieldLink "QuillplateModel$Rendering" (310 : Nat) "QuillplateModel$Rendering" "at" "I") ∈ lw_all := lw_g (lw_at lw_m14 19 rfl) rfl
theorem q3244 : (Jvm.Cond.fieldLink "QuillplateModel$Rendering" (3 : Nat) "QuillplateModel$Rendering" "this$0" "LQuillplateModel;") ∈ lw_all := lw_g (lw_at lw_m14 20 rfl) rfl
theorem q3245 : (Jvm.Cond.laysFinal "QuillplateModel$Rendering" "QuillplateModel$Rendering" "keeps" "Z") ∈ lw_all := lw_g (lw_at lw_m14 21 rfl) rfl
theorem q3246 : (Jvm.Cond.soleField "QuillplateModel$Rendering" "keeps") ∈ lw_all := lw_g (lw_at lw_m14 22 rfl) rfl
theorem q3247 : (Jvm.Cond.laysFinal "QuillplateModel$Rendering" "QuillplateModel$Rendering" "made" "Ljava/lang/StringBuilder;") ∈ lw_all := lw_g (lw_at lw_m14 23 rfl) rfl
theorem q3248 : (Jvm.Cond.soleField "QuillplateModel$Rendering" "made") ∈ lw_all := lw_g (lw_at lw_m14 24 rfl) rfl
theorem q3249 : (Jvm.Cond.laysFinal "QuillplateModel$Rendering" "QuillplateModel$Rendering" "ways" "Ljava/util/List;") ∈ lw_all := lw_g (lw_at lw_m14 25 rfl) rfl
theorem q3250 : (Jvm.Cond.soleField "QuillplateModel$Rendering" "ways") ∈ lw_all := lw_g (lw_at lw_m14 26 rfl) rfl
theorem q3251 : (Jvm.Cond.lays "QuillplateModel$Rendering" "QuillplateModel$Rendering" "steps" "I") ∈ lw_all := lw_g (lw_at lw_m14 27 rfl) rfl
theorem q3252 : (Jvm.Cond.soleField "QuillplateModel$Rendering" "steps") ∈ lw_all := lw_g (lw_at lw_m14 28 rfl) rfl
theorem q3253 : (Jvm.Cond.lays "QuillplateModel$Rendering" "QuillplateModel$Rendering" "renewed" "I") ∈ lw_all := lw_g (lw_at lw_m14 29 rfl) rfl
theorem q3254 : (Jvm.Cond.soleField "QuillplateModel$Rendering" "renewed") ∈ lw_all := lw_g (lw_at lw_m14 30 rfl) rfl
theorem q3255 : (Jvm.Cond.lays "QuillplateModel$Rendering" "QuillplateModel$Rendering" "reused" "I") ∈ lw_all := lw_g (lw_at lw_m14 31 rfl) rfl
theorem q3256 : (Jvm.Cond.soleField "QuillplateModel$Rendering" "reused") ∈ lw_all := lw_g (lw_at lw_m14 32 rfl) rfl
theorem q3257 : (Jvm.Cond.lays "QuillplateModel$Rendering" "QuillplateModel$Rendering" "place" "I") ∈ lw_all := lw_g (lw_at lw_m14 33 rfl) rfl
theorem q3258 : (Jvm.Cond.soleField "QuillplateModel$Rendering" "place") ∈ lw_all := lw_g (lw_at lw_m14 34 rfl) rfl
theorem q3259 : (Jvm.Cond.lays "QuillplateModel$Rendering" "QuillplateModel$Rendering" "inside" "I") ∈ lw_all := lw_g (lw_at lw_m14 35 rfl) rfl
theorem q3260 : (Jvm.Cond.soleField "QuillplateModel$Rendering" "inside") ∈ lw_all := lw_g (lw_at lw_m14 36 rfl) rfl
theorem q3261 : (Jvm.Cond.lays "QuillplateModel$Rendering" "QuillplateModel$Rendering" "reads" "I") ∈ lw_all := lw_g (lw_at lw_m14 37 rfl) rfl
theorem q3262 : (Jvm.Cond.soleField "QuillplateModel$Rendering" "reads") ∈ lw_all := lw_g (lw_at lw_m14 38 rfl) rfl
theorem q3263 : (Jvm.Cond.lays "QuillplateModel$Rendering" "QuillplateModel$Rendering" "element" "LQuillplateModel$Value;") ∈ lw_all := lw_g (lw_at lw_m14 39 rfl) rfl
theorem q3264 : (Jvm.Cond.soleField "QuillplateModel$Rendering" "element") ∈ lw_all := lw_g (lw_at lw_m14 40 rfl) rfl
theorem q3265 : (Jvm.Cond.lays "QuillplateModel$Rendering" "QuillplateModel$Rendering" "number" "LQuillplateModel$Value;") ∈ lw_all := lw_g (lw_at lw_m14 41 rfl) rfl
theorem q3266 : (Jvm.Cond.soleField "QuillplateModel$Rendering" "number") ∈ lw_all := lw_g (lw_at lw_m14 42 rfl) rfl
theorem q3267 : (Jvm.Cond.lays "QuillplateModel$Rendering" "QuillplateModel$Rendering" "given" "LQuillplateModel$Value;") ∈ lw_all := lw_g (lw_at lw_m14 43 rfl) rfl
theorem q3268 : (Jvm.Cond.soleField "QuillplateModel$Rendering" "given") ∈ lw_all := lw_g (lw_at lw_m14 44 rfl) rfl
theorem q3269 : (Jvm.Cond.lays "QuillplateModel$Rendering" "QuillplateModel$Rendering" "error" "I") ∈ lw_all := lw_g (lw_at lw_m14 45 rfl) rfl
theorem q3270 : (Jvm.Cond.soleField "QuillplateModel$Rendering" "error") ∈ lw_all := lw_g (lw_at lw_m14 46 rfl) rfl
theorem q3271 : (Jvm.Cond.laysFinal "QuillplateModel$Rendering" "QuillplateModel$Rendering" "places" "Ljava/util/List;") ∈ lw_all := lw_g (lw_at lw_m14 47 rfl) rfl
theorem q3272 : (Jvm.Cond.soleField "QuillplateModel$Rendering" "places") ∈ lw_all := lw_g (lw_at lw_m14 48 rfl) rfl
theorem q3273 : (Jvm.Cond.lays "QuillplateModel$Rendering" "QuillplateModel$Rendering" "signs" "[C") ∈ lw_all := lw_g (lw_at lw_m14 49 rfl) rfl
theorem q3274 : (Jvm.Cond.soleField "QuillplateModel$Rendering" "signs") ∈ lw_all := lw_g (lw_at lw_m14 50 rfl) rfl
theorem q3275 : (Jvm.Cond.lays "QuillplateModel$Rendering" "QuillplateModel$Rendering" "at" "I") ∈ lw_all := lw_g (lw_at lw_m14 51 rfl) rfl
theorem q3276 : (Jvm.Cond.soleField "QuillplateModel$Rendering" "at") ∈ lw_all := lw_g (lw_at lw_m14 52 rfl) rfl
theorem q3277 : (Jvm.Cond.laysFinal "QuillplateModel$Rendering" "QuillplateModel$Rendering" "this$0" "LQuillplateModel;") ∈ lw_all := lw_g (lw_at lw_m14 53 rfl) rfl
theorem q3278 : (Jvm.Cond.soleField "QuillplateModel$Rendering" "this$0") ∈ lw_all := lw_g (lw_at lw_m14 54 rfl) rfl
theorem q3279 : (Jvm.Cond.superclass "QuillplateModel$Rendering" "java/lang/Object") ∈ lw_all := lw_g (lw_at lw_m14 55 rfl) rfl
theorem q3281 : (Jvm.Cond.instanceMethod ({ cls := "QuillplateModel$Rendering", name := "all", desc := "(I)Z" } : Jvm.MethodName)) ∈ lw_all := lw_g (lw_at lw_m14 57 rfl) rfl
theorem q3282 : (Jvm.Cond.selects "QuillplateModel$Rendering" ({ cls := "QuillplateModel$Rendering", name := "all", desc := "(I)Z" } : Jvm.MethodName) ({ cls := "QuillplateModel$Rendering", name := "all", desc := "(I)Z" } : Jvm.MethodName)) ∈ lw_all := lw_g (lw_at lw_m14 58 rfl) rfl
theorem q3283 : (Jvm.Cond.codeWith ({ cls := "QuillplateModel$Rendering", name := "all", desc := "(I)Z" } : Jvm.MethodName) prog_28_method_2_code (4 : Nat) (Option.some Jvm.ClassFile.FieldType.boolean) [((0 : Nat), (57 : Nat), (58 : Nat), (82 : Nat))]) ∈ lw_all := lw_g (lw_at lw_m14 59 rfl) rfl
theorem q3284 : (Jvm.Cond.classLink "QuillplateModel$Rendering" (82 : Nat) "QuillplateModel$Slip") ∈ lw_all := lw_g (lw_at lw_m14 60 rfl) rfl
theorem q3285 : (Jvm.Cond.methodLink "QuillplateModel$Rendering" (56 : Nat) ({ cls := "QuillplateModel$Rendering", name := "rowOf", desc := "(I)[I" } : Jvm.MethodName)) ∈ lw_all := lw_g (lw_at lw_m14 61 rfl) rfl
theorem q3286 : (Jvm.Cond.privateMethod ({ cls := "QuillplateModel$Rendering", name := "rowOf", desc := "(I)[I" } : Jvm.MethodName)) ∈ lw_tbl := lw_at lw_m14 62 rfl
theorem q3287 : (Jvm.Cond.instanceMethod ({ cls := "QuillplateModel$Rendering", name := "rowOf", desc := "(I)[I" } : Jvm.MethodName)) ∈ lw_all := lw_g (lw_at lw_m14 63 rfl) rfl
theorem q3288 : (Jvm.Cond.code ({ cls := "QuillplateModel$Rendering", name := "rowOf", desc := "(I)[I" } : Jvm.MethodName) prog_28_method_4_code (6 : Nat) (Option.some (Jvm.ClassFile.FieldType.array Jvm.ClassFile.FieldType.int))) ∈ lw_all := lw_g (lw_at lw_m14 64 rfl) rfl
theorem q3289 : (Jvm.Cond.methodLink "QuillplateModel$Rendering" (112 : Nat) ({ cls := "QuillplateModel$Template", name := "above", desc := "()I" } : Jvm.MethodName)) ∈ lw_all := lw_g (lw_at lw_m14 65 rfl) rfl
theorem q3293 : (Jvm.Cond.methodLink "QuillplateModel$Rendering" (78 : Nat) ({ cls := "QuillplateModel$Rendering", name := "fails", desc := "(III)V" } : Jvm.MethodName)) ∈ lw_all := lw_g (lw_at lw_m14 69 rfl) rfl
theorem q3294 : (Jvm.Cond.privateMethod ({ cls := "QuillplateModel$Rendering", name := "fails", desc := "(III)V" } : Jvm.MethodName)) ∈ lw_tbl := lw_at lw_m14 70 rfl
theorem q3295 : (Jvm.Cond.instanceMethod ({ cls := "QuillplateModel$Rendering", name := "fails", desc := "(III)V" } : Jvm.MethodName)) ∈ lw_all := lw_g (lw_at lw_m14 71 rfl) rfl
theorem q3296 : (Jvm.Cond.code ({ cls := "QuillplateModel$Rendering", name := "fails", desc := "(III)V" } : Jvm.MethodName) prog_28_method_3_code (5 : Nat) (Option.none : Option Jvm.ClassFile.FieldType)) ∈ lw_all := lw_g (lw_at lw_m14 72 rfl) rfl
theorem q3297 : (Jvm.Cond.methodLink "QuillplateModel$Rendering" (90 : Nat) ({ cls := "java/lang/Integer", name := "valueOf", desc := "(I)Ljava/lang/Integer;" } : Jvm.MethodName)) ∈ lw_all := lw_g (lw_at lw_m14 73 rfl) rfl
theorem q3298 : (Jvm.Cond.interfaceEntry "QuillplateModel$Rendering" (96 : Nat)) ∈ lw_tbl := lw_at lw_m14 74 rfl
theorem q3299 : (Jvm.Cond.methodLink "QuillplateModel$Rendering" (96 : Nat) ({ cls := "java/util/List", name := "add", desc := "(Ljava/lang/Object;)Z" } : Jvm.MethodName)) ∈ lw_all := lw_g (lw_at lw_m14 75 rfl) rfl
theorem q3300 : (Jvm.Cond.interfaceEntry "QuillplateModel$Rendering" (102 : Nat)) ∈ lw_tbl := lw_at lw_m14 76 rfl
theorem q3301 : (Jvm.Cond.methodLink "QuillplateModel$Rendering" (102 : Nat) ({ cls := "java/util/List", name := "size", desc := "()I" } : Jvm.MethodName)) ∈ lw_all := lw_g (lw_at lw_m14 77 rfl) rfl
theorem q3302 : (Jvm.Cond.interfaceEntry "QuillplateModel$Rendering" (105 : Nat)) ∈ lw_tbl := lw_at lw_m14 78 rfl
theorem q3303 : (Jvm.Cond.methodLink "QuillplateModel$Rendering" (105 : Nat) ({ cls := "java/util/List", name := "get", desc := "(I)Ljava/lang/Object;" } : Jvm.MethodName)) ∈ lw_all := lw_g (lw_at lw_m14 79 rfl) rfl
theorem q3304 : (Jvm.Cond.classLink "QuillplateModel$Rendering" (91 : Nat) "java/lang/Integer") ∈ lw_all := lw_g (lw_at lw_m14 80 rfl) rfl
theorem q3305 : (Jvm.Cond.methodLink "QuillplateModel$Rendering" (109 : Nat) ({ cls := "QuillplateModel$Slip", name := "<init>", desc := "(I)V" } : Jvm.MethodName)) ∈ lw_all := lw_g (lw_at lw_m14 81 rfl) rfl
theorem q3306 : (Jvm.Cond.methodLink "QuillplateModel$Rendering" (115 : Nat) ({ cls := "java/lang/System", name := "arraycopy", desc := "(Ljava/lang/Object;ILjava/lang/Object;II)V" } : Jvm.MethodName)) ∈ lw_all := lw_g (lw_at lw_m14 82 rfl) rfl
theorem q3307 : (Jvm.Cond.methodLink "QuillplateModel$Rendering" (70 : Nat) ({ cls := "QuillplateModel$Rendering", name := "span", desc := "([IIII)V" } : Jvm.MethodName)) ∈ lw_all := lw_g (lw_at lw_m14 83 rfl) rfl
theorem q3308 : (Jvm.Cond.privateMethod ({ cls := "QuillplateModel$Rendering", name := "span", desc := "([IIII)V" } : Jvm.MethodName)) ∈ lw_tbl := lw_at lw_m14 84 rfl
theorem q3309 : (Jvm.Cond.instanceMethod ({ cls := "QuillplateModel$Rendering", name := "span", desc := "([IIII)V" } : Jvm.MethodName)) ∈ lw_all := lw_g (lw_at lw_m14 85 rfl) rfl
theorem q3310 : (Jvm.Cond.code ({ cls := "QuillplateModel$Rendering", name := "span", desc := "([IIII)V" } : Jvm.MethodName) prog_28_method_7_code (7 : Nat) (Option.none : Option Jvm.ClassFile.FieldType)) ∈ lw_all := lw_g (lw_at lw_m14 86 rfl) rfl
theorem q3311 : (Jvm.Cond.methodLink "QuillplateModel$Rendering" (124 : Nat) ({ cls := "QuillplateModel$Rendering", name := "mark", desc := "([III)I" } : Jvm.MethodName)) ∈ lw_all := lw_g (lw_at lw_m14 87 rfl) rfl
theorem q3312 : (Jvm.Cond.privateMethod ({ cls := "QuillplateModel$Rendering", name := "mark", desc := "([III)I" } : Jvm.MethodName)) ∈ lw_tbl := lw_at lw_m14 88 rfl
theorem q3313 : (Jvm.Cond.instanceMethod ({ cls := "QuillplateModel$Rendering", name := "mark", desc := "([III)I" } : Jvm.MethodName)) ∈ lw_all := lw_g (lw_at lw_m14 89 rfl) rfl
theorem q3314 : (Jvm.Cond.code ({ cls := "QuillplateModel$Rendering", name := "mark", desc := "([III)I" } : Jvm.MethodName) prog_28_method_8_code (8 : Nat) (Option.some Jvm.ClassFile.FieldType.int)) ∈ lw_all := lw_g (lw_at lw_m14 90 rfl) rfl
theorem q3315 : (Jvm.Cond.methodLink "QuillplateModel$Rendering" (140 : Nat) ({ cls := "QuillplateModel$Rendering", name := "step", desc := "(II)V" } : Jvm.MethodName)) ∈ lw_all := lw_g (lw_at lw_m14 91 rfl) rfl
theorem q3316 : (Jvm.Cond.privateMethod ({ cls := "QuillplateModel$Rendering", name := "step", desc := "(II)V" } : Jvm.MethodName)) ∈ lw_tbl := lw_at lw_m14 92 rfl
theorem q3317 : (Jvm.Cond.instanceMethod ({ cls := "QuillplateModel$Rendering", name := "step", desc := "(II)V" } : Jvm.MethodName)) ∈ lw_all := lw_g (lw_at lw_m14 93 rfl) rfl
theorem q3318 : (Jvm.Cond.code ({ cls := "QuillplateModel$Rendering", name := "step", desc := "(II)V" } : Jvm.MethodName) prog_28_method_5_code (3 : Nat) (Option.none : Option Jvm.ClassFile.FieldType)) ∈ lw_all := lw_g (lw_at lw_m14 94 rfl) rfl
theorem q3319 : (Jvm.Cond.methodLink "QuillplateModel$Rendering" (151 : Nat) ({ cls := "QuillplateModel$Rendering", name := "value", desc := "(LQuillplateModel$Template;III)LQuillplateModel$Value;" } : Jvm.MethodName)) ∈ lw_all := lw_g (lw_at lw_m14 95 rfl) rfl
theorem q3320 : (Jvm.Cond.privateMethod ({ cls := "QuillplateModel$Rendering", name := "value", desc := "(LQuillplateModel$Template;III)LQuillplateModel$Value;" } : Jvm.MethodName)) ∈ lw_tbl := lw_at lw_m14 96 rfl
theorem q3321 : (Jvm.Cond.instanceMethod ({ cls := "QuillplateModel$Rendering", name := "value", desc := "(LQuillplateModel$Template;III)LQuillplateModel$Value;" } : Jvm.MethodName)) ∈ lw_all := lw_g (lw_at lw_m14 97 rfl) rfl
theorem q3322 : (Jvm.Cond.codeWith ({ cls := "QuillplateModel$Rendering", name := "value", desc := "(LQuillplateModel$Template;III)LQuillplateModel$Value;" } : Jvm.MethodName) prog_28_method_19_code (6 : Nat) (Option.some (Jvm.ClassFile.FieldType.object "QuillplateModel$Value")) [((14 : Nat), (19 : Nat), (20 : Nat), (82 : Nat))]) ∈ lw_all := lw_g (lw_at lw_m14 98 rfl) rfl
theorem q3323 : (Jvm.Cond.methodLink "QuillplateModel$Rendering" (313 : Nat) ({ cls := "QuillplateModel$Rendering", name := "compared", desc := "(Z)LQuillplateModel$Value;" } : Jvm.MethodName)) ∈ lw_all := lw_g (lw_at lw_m14 99 rfl) rfl
theorem q3324 : (Jvm.Cond.privateMethod ({ cls := "QuillplateModel$Rendering", name := "compared", desc := "(Z)LQuillplateModel$Value;" } : Jvm.MethodName)) ∈ lw_tbl := lw_at lw_m14 100 rfl
theorem q3325 : (Jvm.Cond.instanceMethod ({ cls := "QuillplateModel$Rendering", name := "compared", desc := "(Z)LQuillplateModel$Value;" } : Jvm.MethodName)) ∈ lw_all := lw_g (lw_at lw_m14 101 rfl) rfl
theorem q3326 : (Jvm.Cond.code ({ cls := "QuillplateModel$Rendering", name := "compared", desc := "(Z)LQuillplateModel$Value;" } : Jvm.MethodName) prog_28_method_20_code (5 : Nat) (Option.some (Jvm.ClassFile.FieldType.object "QuillplateModel$Value"))) ∈ lw_all := lw_g (lw_at lw_m14 102 rfl) rfl
theorem q3327 : (Jvm.Cond.methodLink "QuillplateModel$Rendering" (317 : Nat) ({ cls := "QuillplateModel$Rendering", name := "added", desc := "(Z)LQuillplateModel$Value;" } : Jvm.MethodName)) ∈ lw_all := lw_g (lw_at lw_m14 103 rfl) rfl
theorem q3328 : (Jvm.Cond.privateMethod ({ cls := "QuillplateModel$Rendering", name := "added", desc := "(Z)LQuillplateModel$Value;" } : Jvm.MethodName)) ∈ lw_tbl := lw_at lw_m14 104 rfl
theorem q3329 : (Jvm.Cond.instanceMethod ({ cls := "QuillplateModel$Rendering", name := "added", desc := "(Z)LQuillplateModel$Value;" } : Jvm.MethodName)) ∈ lw_all := lw_g (lw_at lw_m14 105 rfl) rfl
theorem q3330 : (Jvm.Cond.code ({ cls := "QuillplateModel$Rendering", name := "added", desc := "(Z)LQuillplateModel$Value;" } : Jvm.MethodName) prog_28_method_21_code (4 : Nat) (Option.some (Jvm.ClassFile.FieldType.object "QuillplateModel$Value"))) ∈ lw_all := lw_g (lw_at lw_m14 106 rfl) rfl
theorem q3331 : (Jvm.Cond.methodLink "QuillplateModel$Rendering" (331 : Nat) ({ cls := "QuillplateModel$Rendering", name := "filtered", desc := "(Z)LQuillplateModel$Value;" } : Jvm.MethodName)) ∈ lw_all := lw_g (lw_at lw_m14 107 rfl) rfl
theorem q3332 : (Jvm.Cond.privateMethod ({ cls := "QuillplateModel$Rendering", name := "filtered", desc := "(Z)LQuillplateModel$Value;" } : Jvm.MethodName)) ∈ lw_tbl := lw_at lw_m14 108 rfl
theorem q3333 : (Jvm.Cond.instanceMethod ({ cls := "QuillplateModel$Rendering", name := "filtered", desc := "(Z)LQuillplateModel$Value;" } : Jvm.MethodName)) ∈ lw_all := lw_g (lw_at lw_m14 109 rfl) rfl
theorem q3334 : (Jvm.Cond.code ({ cls := "QuillplateModel$Rendering", name := "filtered", desc := "(Z)LQuillplateModel$Value;" } : Jvm.MethodName) prog_28_method_22_code (6 : Nat) (Option.some (Jvm.ClassFile.FieldType.object "QuillplateModel$Value"))) ∈ lw_all := lw_g (lw_at lw_m14 110 rfl) rfl
theorem q3335 : (Jvm.Cond.methodLink "QuillplateModel$Rendering" (338 : Nat) ({ cls := "QuillplateModel$Rendering", name := "held", desc := "(Z)LQuillplateModel$Value;" } : Jvm.MethodName)) ∈ lw_all := lw_g (lw_at lw_m14 111 rfl) rfl
theorem q3336 : (Jvm.Cond.privateMethod ({ cls := "QuillplateModel$Rendering", name := "held", desc := "(Z)LQuillplateModel$Value;" } : Jvm.MethodName)) ∈ lw_tbl := lw_at lw_m14 112 rfl
theorem q3337 : (Jvm.Cond.instanceMethod ({ cls := "QuillplateModel$Rendering", name := "held", desc := "(Z)LQuillplateModel$Value;" } : Jvm.MethodName)) ∈ lw_all := lw_g (lw_at lw_m14 113 rfl) rfl
theorem q3338 : (Jvm.Cond.code ({ cls := "QuillplateModel$Rendering", name := "held", desc := "(Z)LQuillplateModel$Value;" } : Jvm.MethodName) prog_28_method_23_code (5 : Nat) (Option.some (Jvm.ClassFile.FieldType.object "QuillplateModel$Value"))) ∈ lw_all := lw_g (lw_at lw_m14 114 rfl) rfl
theorem q3339 : (Jvm.Cond.methodLink "QuillplateModel$Rendering" (155 : Nat) ({ cls := "QuillplateModel$Value", name := "isTrue", desc := "()Z" } : Jvm.MethodName)) ∈ lw_all := lw_g (lw_at lw_m14 115 rfl) rfl
theorem q3346 : (Jvm.Cond.methodLink "QuillplateModel$Rendering" (205 : Nat) ({ cls := "QuillplateModel$Value", name := "of", desc := "(I)LQuillplateModel$Value;" } : Jvm.MethodName)) ∈ lw_all := lw_g (lw_at lw_m14 122 rfl) rfl
theorem q3347 : (Jvm.Cond.methodLink "QuillplateModel$Rendering" (345 : Nat) ({ cls := "java/lang/StringBuilder", name := "append", desc := "([CII)Ljava/lang/StringBuilder;" } : Jvm.MethodName)) ∈ lw_all := lw_g (lw_at lw_m14 123 rfl) rfl
theorem q3366 : (Jvm.Cond.methodLink "QuillplateModel$Rendering" (348 : Nat) ({ cls := "java/lang/StringBuilder", name := "toString", desc := "()Ljava/lang/String;" } : Jvm.MethodName)) ∈ lw_all := lw_g (lw_at lw_m14 142 rfl) rfl
theorem q3367 : (Jvm.Cond.methodLink "QuillplateModel$Rendering" (351 : Nat) ({ cls := "QuillplateModel$Value", name := "of", desc := "(Ljava/lang/String;Z)LQuillplateModel$Value;" } : Jvm.MethodName)) ∈ lw_all := lw_g (lw_at lw_m14 143 rfl) rfl
theorem q3368 : (Jvm.Cond.methodLinkNest "QuillplateModel$Rendering" (290 : Nat) ({ cls := "QuillplateModel", name := "isDigit", desc := "(C)Z" } : Jvm.MethodName) "QuillplateModel") ∈ lw_tbl := lw_at lw_m14 144 rfl
theorem q3369 : (Jvm.Cond.methodLink "QuillplateModel$Rendering" (354 : Nat) ({ cls := "QuillplateModel$Rendering", name := "named", desc := "(C)LQuillplateModel$Value;" } : Jvm.MethodName)) ∈ lw_all := lw_g (lw_at lw_m14 145 rfl) rfl
theorem q3370 : (Jvm.Cond.privateMethod ({ cls := "QuillplateModel$Rendering", name := "named", desc := "(C)LQuillplateModel$Value;" } : Jvm.MethodName)) ∈ lw_tbl := lw_at lw_m14 146 rfl
theorem q3371 : (Jvm.Cond.instanceMethod ({ cls := "QuillplateModel$Rendering", name := "named", desc := "(C)LQuillplateModel$Value;" } : Jvm.MethodName)) ∈ lw_all := lw_g (lw_at lw_m14 147 rfl) rfl
theorem q3372 : (Jvm.Cond.code ({ cls := "QuillplateModel$Rendering", name := "named", desc := "(C)LQuillplateModel$Value;" } : Jvm.MethodName) prog_28_method_24_code (2 : Nat) (Option.some (Jvm.ClassFile.FieldType.object "QuillplateModel$Value"))) ∈ lw_all := lw_g (lw_at lw_m14 148 rfl) rfl
theorem q3373 : (Jvm.Cond.classLink "QuillplateModel$Rendering" (34 : Nat) "QuillplateModel$Value") ∈ lw_all := lw_g (lw_at lw_m14 149 rfl) rfl
theorem q3374 : (Jvm.Cond.methodLinkNest "QuillplateModel$Rendering" (341 : Nat) ({ cls := "QuillplateModel", name := "changed", desc := "(LQuillplateModel$Value;C)LQuillplateModel$Value;" } : Jvm.MethodName) "QuillplateModel") ∈ lw_tbl := lw_at lw_m14 150 rfl
theorem q3399 : (Jvm.Cond.methodLinkNest "QuillplateModel$Rendering" (334 : Nat) ({ cls := "QuillplateModel", name := "sum", desc := "(LQuillplateModel$Value;LQuillplateModel$Value;)LQuillplateModel$Value;" } : Jvm.MethodName) "QuillplateModel") ∈ lw_tbl := lw_at lw_m14 175 rfl
theorem q3402 : (Jvm.Cond.methodLink "QuillplateModel$Rendering" (320 : Nat) ({ cls := "QuillplateModel$Value", name := "isAlike", desc := "(LQuillplateModel$Value;)Z" } : Jvm.MethodName)) ∈ lw_all := lw_g (lw_at lw_m14 178 rfl) rfl
theorem q3412 : (Jvm.Cond.methodLink "QuillplateModel$Rendering" (327 : Nat) ({ cls := "java/lang/String", name := "compareTo", desc := "(Ljava/lang/String;)I" } : Jvm.MethodName)) ∈ lw_all := lw_g (lw_at lw_m14 188 rfl) rfl
theorem q3550 : (Jvm.Cond.methodLink "QuillplateModel$Rendering" (159 : Nat) ({ cls := "QuillplateModel$Rendering", name := "branch", desc := "([IIIZ)V" } : Jvm.MethodName)) ∈ lw_all := lw_g (lw_at lw_m15 86 rfl) rfl
theorem q3551 : (Jvm.Cond.privateMethod ({ cls := "QuillplateModel$Rendering", name := "branch", desc := "([IIIZ)V" } : Jvm.MethodName)) ∈ lw_tbl := lw_at lw_m15 87 rfl
theorem q3552 : (Jvm.Cond.instanceMethod ({ cls := "QuillplateModel$Rendering", name := "branch", desc := "([IIIZ)V" } : Jvm.MethodName)) ∈ lw_all := lw_g (lw_at lw_m15 88 rfl) rfl
theorem q3553 : (Jvm.Cond.code ({ cls := "QuillplateModel$Rendering", name := "branch", desc := "([IIIZ)V" } : Jvm.MethodName) prog_28_method_9_code (7 : Nat) (Option.none : Option Jvm.ClassFile.FieldType)) ∈ lw_all := lw_g (lw_at lw_m15 89 rfl) rfl
theorem q3554 : (Jvm.Cond.methodLink "QuillplateModel$Rendering" (163 : Nat) ({ cls := "QuillplateModel$Rendering", name := "loop", desc := "([III)V" } : Jvm.MethodName)) ∈ lw_all := lw_g (lw_at lw_m15 90 rfl) rfl
theorem q3555 : (Jvm.Cond.privateMethod ({ cls := "QuillplateModel$Rendering", name := "loop", desc := "([III)V" } : Jvm.MethodName)) ∈ lw_tbl := lw_at lw_m15 91 rfl
theorem q3556 : (Jvm.Cond.instanceMethod ({ cls := "QuillplateModel$Rendering", name := "loop", desc := "([III)V" } : Jvm.MethodName)) ∈ lw_all := lw_g (lw_at lw_m15 92 rfl) rfl
theorem q3557 : (Jvm.Cond.code ({ cls := "QuillplateModel$Rendering", name := "loop", desc := "([III)V" } : Jvm.MethodName) prog_28_method_10_code (9 : Nat) (Option.none : Option Jvm.ClassFile.FieldType)) ∈ lw_all := lw_g (lw_at lw_m15 93 rfl) rfl
theorem q3558 : (Jvm.Cond.interfaceEntry "QuillplateModel$Rendering" (209 : Nat)) ∈ lw_tbl := lw_at lw_m15 94 rfl
theorem q3559 : (Jvm.Cond.methodLink "QuillplateModel$Rendering" (209 : Nat) ({ cls := "java/util/List", name := "isEmpty", desc := "()Z" } : Jvm.MethodName)) ∈ lw_all := lw_g (lw_at lw_m15 95 rfl) rfl
theorem q3560 : (Jvm.Cond.stringRef "QuillplateModel$Rendering" (167 : Nat) "ABCDEF") ∈ lw_tbl := lw_at lw_m15 96 rfl
theorem q3561 : (Jvm.Cond.methodLink "QuillplateModel$Rendering" (169 : Nat) ({ cls := "java/lang/String", name := "indexOf", desc := "(I)I" } : Jvm.MethodName)) ∈ lw_all := lw_g (lw_at lw_m15 97 rfl) rfl
theorem q3562 : (Jvm.Cond.methodLink "QuillplateModel$Rendering" (175 : Nat) ({ cls := "QuillplateModel$Rendering", name := "block", desc := "([IIIIIZ)V" } : Jvm.MethodName)) ∈ lw_all := lw_g (lw_at lw_m15 98 rfl) rfl
theorem q3563 : (Jvm.Cond.privateMethod ({ cls := "QuillplateModel$Rendering", name := "block", desc := "([IIIIIZ)V" } : Jvm.MethodName)) ∈ lw_tbl := lw_at lw_m15 99 rfl
theorem q3564 : (Jvm.Cond.instanceMethod ({ cls := "QuillplateModel$Rendering", name := "block", desc := "([IIIIIZ)V" } : Jvm.MethodName)) ∈ lw_all := lw_g (lw_at lw_m15 100 rfl) rfl
theorem q3565 : (Jvm.Cond.code ({ cls := "QuillplateModel$Rendering", name := "block", desc := "([IIIIIZ)V" } : Jvm.MethodName) prog_28_method_12_code (10 : Nat) (Option.none : Option Jvm.ClassFile.FieldType)) ∈ lw_all := lw_g (lw_at lw_m15 101 rfl) rfl
theorem q3566 : (Jvm.Cond.methodLink "QuillplateModel$Rendering" (215 : Nat) ({ cls := "QuillplateModel$Rendering", name := "enters", desc := "(II)V" } : Jvm.MethodName)) ∈ lw_all := lw_g (lw_at lw_m15 102 rfl) rfl
theorem q3567 : (Jvm.Cond.privateMethod ({ cls := "QuillplateModel$Rendering", name := "enters", desc := "(II)V" } : Jvm.MethodName)) ∈ lw_tbl := lw_at lw_m15 103 rfl
theorem q3568 : (Jvm.Cond.instanceMethod ({ cls := "QuillplateModel$Rendering", name := "enters", desc := "(II)V" } : Jvm.MethodName)) ∈ lw_all := lw_g (lw_at lw_m15 104 rfl) rfl
theorem q3569 : (Jvm.Cond.code ({ cls := "QuillplateModel$Rendering", name := "enters", desc := "(II)V" } : Jvm.MethodName) prog_28_method_13_code (3 : Nat) (Option.none : Option Jvm.ClassFile.FieldType)) ∈ lw_all := lw_g (lw_at lw_m15 105 rfl) rfl
theorem q3570 : (Jvm.Cond.methodLink "QuillplateModel$Rendering" (218 : Nat) ({ cls := "QuillplateModel$Rendering", name := "fit", desc := "(LQuillplateModel$Template;IIII)V" } : Jvm.MethodName)) ∈ lw_all := lw_g (lw_at lw_m15 106 rfl) rfl
theorem q3571 : (Jvm.Cond.privateMethod ({ cls := "QuillplateModel$Rendering", name := "fit", desc := "(LQuillplateModel$Template;IIII)V" } : Jvm.MethodName)) ∈ lw_tbl := lw_at lw_m15 107 rfl
theorem q3572 : (Jvm.Cond.instanceMethod ({ cls := "QuillplateModel$Rendering", name := "fit", desc := "(LQuillplateModel$Template;IIII)V" } : Jvm.MethodName)) ∈ lw_all := lw_g (lw_at lw_m15 108 rfl) rfl
theorem q3573 : (Jvm.Cond.code ({ cls := "QuillplateModel$Rendering", name := "fit", desc := "(LQuillplateModel$Template;IIII)V" } : Jvm.MethodName) prog_28_method_14_code (6 : Nat) (Option.none : Option Jvm.ClassFile.FieldType)) ∈ lw_all := lw_g (lw_at lw_m15 109 rfl) rfl
theorem q3574 : (Jvm.Cond.methodLinkNest "QuillplateModel$Rendering" (228 : Nat) ({ cls := "QuillplateModel", name := "fits", desc := "(LQuillplateModel$Template;III)Z" } : Jvm.MethodName) "QuillplateModel") ∈ lw_tbl := lw_at lw_m15 110 rfl
theorem q3582 : (Jvm.Cond.interfaceEntry "QuillplateModel$Rendering" (222 : Nat)) ∈ lw_tbl := lw_at lw_m15 118 rfl
theorem q3583 : (Jvm.Cond.methodLink "QuillplateModel$Rendering" (222 : Nat) ({ cls := "java/util/List", name := "remove", desc := "(I)Ljava/lang/Object;" } : Jvm.MethodName)) ∈ lw_all := lw_g (lw_at lw_m15 119 rfl) rfl
theorem q3584 : (Jvm.Cond.methodLink "QuillplateModel$Rendering" (179 : Nat) ({ cls := "QuillplateModel$Rendering", name := "part", desc := "([III)V" } : Jvm.MethodName)) ∈ lw_all := lw_g (lw_at lw_m15 120 rfl) rfl
theorem q3585 : (Jvm.Cond.privateMethod ({ cls := "QuillplateModel$Rendering", name := "part", desc := "([III)V" } : Jvm.MethodName)) ∈ lw_tbl := lw_at lw_m15 121 rfl
theorem q3586 : (Jvm.Cond.instanceMethod ({ cls := "QuillplateModel$Rendering", name := "part", desc := "([III)V" } : Jvm.MethodName)) ∈ lw_all := lw_g (lw_at lw_m15 122 rfl) rfl
theorem q3587 : (Jvm.Cond.code ({ cls := "QuillplateModel$Rendering", name := "part", desc := "([III)V" } : Jvm.MethodName) prog_28_method_17_code (9 : Nat) (Option.none : Option Jvm.ClassFile.FieldType)) ∈ lw_all := lw_g (lw_at lw_m15 123 rfl) rfl
theorem q3588 : (Jvm.Cond.methodLinkNest "QuillplateModel$Rendering" (235 : Nat) ({ cls := "QuillplateModel", name := "keptOf", desc := "(III)LQuillplateModel$Kept;" } : Jvm.MethodName) "QuillplateModel") ∈ lw_tbl := lw_at lw_m15 124 rfl
theorem q3598 : (Jvm.Cond.methodLink "QuillplateModel$Rendering" (246 : Nat) ({ cls := "java/lang/StringBuilder", name := "append", desc := "(Ljava/lang/String;)Ljava/lang/StringBuilder;" } : Jvm.MethodName)) ∈ lw_all := lw_g (lw_at lw_m15 134 rfl) rfl
theorem q3599 : (Jvm.Cond.methodLink "QuillplateModel$Rendering" (256 : Nat) ({ cls := "QuillplateModel$Rendering", name := "longs", desc := "(II)V" } : Jvm.MethodName)) ∈ lw_all := lw_g (lw_at lw_m15 135 rfl) rfl
theorem q3600 : (Jvm.Cond.privateMethod ({ cls := "QuillplateModel$Rendering", name := "longs", desc := "(II)V" } : Jvm.MethodName)) ∈ lw_tbl := lw_at lw_m15 136 rfl
theorem q3601 : (Jvm.Cond.instanceMethod ({ cls := "QuillplateModel$Rendering", name := "longs", desc := "(II)V" } : Jvm.MethodName)) ∈ lw_all := lw_g (lw_at lw_m15 137 rfl) rfl
theorem q3602 : (Jvm.Cond.code ({ cls := "QuillplateModel$Rendering", name := "longs", desc := "(II)V" } : Jvm.MethodName) prog_28_method_6_code (3 : Nat) (Option.none : Option Jvm.ClassFile.FieldType)) ∈ lw_all := lw_g (lw_at lw_m15 138 rfl) rfl
theorem q3603 : (Jvm.Cond.methodLink "QuillplateModel$Rendering" (74 : Nat) ({ cls := "java/lang/StringBuilder", name := "length", desc := "()I" } : Jvm.MethodName)) ∈ lw_all := lw_g (lw_at lw_m15 139 rfl) rfl
theorem q3604 : (Jvm.Cond.interfaceEntry "QuillplateModel$Rendering" (262 : Nat)) ∈ lw_tbl := lw_at lw_m15 140 rfl
theorem q3605 : (Jvm.Cond.methodLink "QuillplateModel$Rendering" (262 : Nat) ({ cls := "java/util/List", name := "remove", desc := "(Ljava/lang/Object;)Z" } : Jvm.MethodName)) ∈ lw_all := lw_g (lw_at lw_m15 141 rfl) rfl
theorem q3622 : (Jvm.Cond.classLink "QuillplateModel$Rendering" (240 : Nat) "QuillplateModel$Kept") ∈ lw_all := lw_g (lw_at lw_m15 158 rfl) rfl
theorem q3624 : (Jvm.Cond.methodLink "QuillplateModel$Rendering" (264 : Nat) ({ cls := "java/lang/StringBuilder", name := "substring", desc := "(I)Ljava/lang/String;" } : Jvm.MethodName)) ∈ lw_all := lw_g (lw_at lw_m15 160 rfl) rfl
theorem q3625 : (Jvm.Cond.methodLink "QuillplateModel$Rendering" (268 : Nat) ({ cls := "QuillplateModel$Kept", name := "<init>", desc := "(IIIILjava/lang/String;I)V" } : Jvm.MethodName)) ∈ lw_all := lw_g (lw_at lw_m15 161 rfl) rfl
theorem q3636 : (Jvm.Cond.fieldLinkNest "QuillplateModel$Rendering" (239 : Nat) "QuillplateModel$Kept" "place" "I" "QuillplateModel") ∈ lw_tbl := lw_at lw_m15 172 rfl
theorem q3638 : (Jvm.Cond.fieldLinkNest "QuillplateModel$Rendering" (242 : Nat) "QuillplateModel$Kept" "text" "Ljava/lang/String;" "QuillplateModel") ∈ lw_tbl := lw_at lw_m15 174 rfl
theorem q3640 : (Jvm.Cond.fieldLinkNest "QuillplateModel$Rendering" (252 : Nat) "QuillplateModel$Kept" "reads" "I" "QuillplateModel") ∈ lw_tbl := lw_at lw_m15 176 rfl
theorem q3655 : (Jvm.Cond.methodLink "QuillplateModel$Rendering" (182 : Nat) ({ cls := "QuillplateModel$Rendering", name := "blockAround", desc := "(LQuillplateModel$Template;I)I" } : Jvm.MethodName)) ∈ lw_all := lw_g (lw_at lw_m15 191 rfl) rfl
theorem q3656 : (Jvm.Cond.privateMethod ({ cls := "QuillplateModel$Rendering", name := "blockAround", desc := "(LQuillplateModel$Template;I)I" } : Jvm.MethodName)) ∈ lw_tbl := lw_at lw_m15 192 rfl
theorem q3657 : (Jvm.Cond.instanceMethod ({ cls := "QuillplateModel$Rendering", name := "blockAround", desc := "(LQuillplateModel$Template;I)I" } : Jvm.MethodName)) ∈ lw_all := lw_g (lw_at lw_m15 193 rfl) rfl
theorem q3658 : (Jvm.Cond.code ({ cls := "QuillplateModel$Rendering", name := "blockAround", desc := "(LQuillplateModel$Template;I)I" } : Jvm.MethodName) prog_28_method_11_code (8 : Nat) (Option.some Jvm.ClassFile.FieldType.int)) ∈ lw_all := lw_g (lw_at lw_m15 194 rfl) rfl
theorem q3659 : (Jvm.Cond.methodLink "QuillplateModel$Rendering" (186 : Nat) ({ cls := "QuillplateModel$Rendering", name := "stand", desc := "(III)V" } : Jvm.MethodName)) ∈ lw_all := lw_g (lw_at lw_m15 195 rfl) rfl
theorem q3660 : (Jvm.Cond.privateMethod ({ cls := "QuillplateModel$Rendering", name := "stand", desc := "(III)V" } : Jvm.MethodName)) ∈ lw_tbl := lw_at lw_m15 196 rfl
theorem q3661 : (Jvm.Cond.instanceMethod ({ cls := "QuillplateModel$Rendering", name := "stand", desc := "(III)V" } : Jvm.MethodName)) ∈ lw_all := lw_g (lw_at lw_m15 197 rfl) rfl
theorem q3662 : (Jvm.Cond.code ({ cls := "QuillplateModel$Rendering", name := "stand", desc := "(III)V" } : Jvm.MethodName) prog_28_method_15_code (6 : Nat) (Option.none : Option Jvm.ClassFile.FieldType)) ∈ lw_all := lw_g (lw_at lw_m15 198 rfl) rfl
theorem q3663 : (Jvm.Cond.methodLink "QuillplateModel$Rendering" (189 : Nat) ({ cls := "QuillplateModel$Rendering", name := "call", desc := "([III)V" } : Jvm.MethodName)) ∈ lw_all := lw_g (lw_at lw_m15 199 rfl) rfl
theorem q3664 : (Jvm.Cond.privateMethod ({ cls := "QuillplateModel$Rendering", name := "call", desc := "([III)V" } : Jvm.MethodName)) ∈ lw_tbl := lw_at lw_m15 200 rfl
theorem q3665 : (Jvm.Cond.instanceMethod ({ cls := "QuillplateModel$Rendering", name := "call", desc := "([III)V" } : Jvm.MethodName)) ∈ lw_all := lw_g (lw_at lw_m15 201 rfl) rfl
theorem q3666 : (Jvm.Cond.code ({ cls := "QuillplateModel$Rendering", name := "call", desc := "([III)V" } : Jvm.MethodName) prog_28_method_16_code (14 : Nat) (Option.none : Option Jvm.ClassFile.FieldType)) ∈ lw_all := lw_g (lw_at lw_m15 202 rfl) rfl
theorem q3667 : (Jvm.Cond.methodLink "QuillplateModel$Rendering" (192 : Nat) ({ cls := "QuillplateModel$Rendering", name := "hole", desc := "(LQuillplateModel$Template;II)V" } : Jvm.MethodName)) ∈ lw_all := lw_g (lw_at lw_m15 203 rfl) rfl
theorem q3668 : (Jvm.Cond.privateMethod ({ cls := "QuillplateModel$Rendering", name := "hole", desc := "(LQuillplateModel$Template;II)V" } : Jvm.MethodName)) ∈ lw_tbl := lw_at lw_m15 204 rfl
theorem q3669 : (Jvm.Cond.instanceMethod ({ cls := "QuillplateModel$Rendering", name := "hole", desc := "(LQuillplateModel$Template;II)V" } : Jvm.MethodName)) ∈ lw_all := lw_g (lw_at lw_m15 205 rfl) rfl
theorem q3670 : (Jvm.Cond.code ({ cls := "QuillplateModel$Rendering", name := "hole", desc := "(LQuillplateModel$Template;II)V" } : Jvm.MethodName) prog_28_method_18_code (10 : Nat) (Option.none : Option Jvm.ClassFile.FieldType)) ∈ lw_all := lw_g (lw_at lw_m15 206 rfl) rfl
theorem q3671 : (Jvm.Cond.methodLink "QuillplateModel$Rendering" (274 : Nat) ({ cls := "QuillplateModel$Value", name := "said", desc := "()Ljava/lang/String;" } : Jvm.MethodName)) ∈ lw_all := lw_g (lw_at lw_m15 207 rfl) rfl
theorem q3672 : (Jvm.Cond.methodLink "QuillplateModel$Rendering" (278 : Nat) ({ cls := "java/lang/String", name := "length", desc := "()I" } : Jvm.MethodName)) ∈ lw_all := lw_g (lw_at lw_m15 208 rfl) rfl
theorem q3673 : (Jvm.Cond.methodLink "QuillplateModel$Rendering" (279 : Nat) ({ cls := "java/lang/String", name := "charAt", desc := "(I)C" } : Jvm.MethodName)) ∈ lw_all := lw_g (lw_at lw_m15 209 rfl) rfl
theorem q3674 : (Jvm.Cond.methodLinkNest "QuillplateModel$Rendering" (283 : Nat) ({ cls := "QuillplateModel", name := "isSmall", desc := "(C)Z" } : Jvm.MethodName) "QuillplateModel") ∈ lw_tbl := lw_at lw_m15 210 rfl
theorem q3675 : (Jvm.Cond.methodLinkNest "QuillplateModel$Rendering" (287 : Nat) ({ cls := "QuillplateModel", name := "isCapital", desc := "(C)Z" } : Jvm.MethodName) "QuillplateModel") ∈ lw_tbl := lw_at lw_m15 211 rfl
theorem q3676 : (Jvm.Cond.methodLink "QuillplateModel$Rendering" (293 : Nat) ({ cls := "java/lang/String", name := "valueOf", desc := "(C)Ljava/lang/String;" } : Jvm.MethodName)) ∈ lw_all := lw_g (lw_at lw_m15 212 rfl) rfl
theorem q3687 : (Jvm.Cond.stringRef "QuillplateModel$Rendering" (296 : Nat) "") ∈ lw_tbl := lw_at lw_m15 223 rfl
theorem q3688 : (Jvm.Cond.stringRef "QuillplateModel$Rendering" (298 : Nat) "&a;") ∈ lw_tbl := lw_at lw_m15 224 rfl
theorem q3689 : (Jvm.Cond.stringRef "QuillplateModel$Rendering" (300 : Nat) "&q;") ∈ lw_tbl := lw_at lw_m15 225 rfl
theorem q3690 : (Jvm.Cond.stringRef "QuillplateModel$Rendering" (305 : Nat) "&l;") ∈ lw_tbl := lw_at lw_m15 226 rfl
theorem q3691 : (Jvm.Cond.stringRef "QuillplateModel$Rendering" (307 : Nat) "&g;") ∈ lw_tbl := lw_at lw_m15 227 rfl
theorem q3692 : (Jvm.Cond.methodLink "QuillplateModel$Rendering" (132 : Nat) ({ cls := "java/lang/StringBuilder", name := "append", desc := "(C)Ljava/lang/StringBuilder;" } : Jvm.MethodName)) ∈ lw_all := lw_g (lw_at lw_m15 228 rfl) rfl
theorem q3693 : (Jvm.Cond.methodLinkNest "QuillplateModel$Rendering" (136 : Nat) ({ cls := "QuillplateModel", name := "moved", desc := "(IC)I" } : Jvm.MethodName) "QuillplateModel") ∈ lw_tbl := lw_at lw_m15 229 rfl
theorem q3869 : (Jvm.Cond.castable "QuillplateModel$Rendering" "java/lang/Object") ∈ lw_tbl := lw_at lw_m16 165 rfl
theorem in_X27 : ∀ w ∈ wsX270, w ∈ lw_all := lw_in wsX270 [3245, 3247, 3249, 3251, 3253, 3255, 3257, 3259, 3261, 3263, 3265, 3267, 3269, 3271, 3273, 3275, 3277] (by decide +kernel) (by decide +kernel)
def RX28 : String := "QuillplateModel$Kept"
def TX28 : u_T := fun k => match k with
  | 0 => ("QuillplateModel$Kept", "template", "I", true)
  | 1 => ("QuillplateModel$Kept", "from", "I", true)
  | 2 => ("QuillplateModel$Kept", "first", "I", true)
  | 3 => ("QuillplateModel$Kept", "place", "I", true)
  | 4 => ("QuillplateModel$Kept", "text", "Ljava/lang/String;", true)
  | _ => ("QuillplateModel$Kept", "reads", "I", true)
def tyX28 : Nat → FieldType := fun k => match k with
  | 0 => .int
  | 1 => .int
  | 2 => .int
  | 3 => .int
  | 4 => .object "java/lang/String"
  | _ => .int
abbrev wsX280 : List Cond := u_ws RX28 TX28 6
theorem nmX28 : ∀ a, a < 6 → ∀ b, b < 6 → a ≠ b → (TX28 a).2.1 ≠ (TX28 b).2.1 := by decide +kernel
theorem tyX28_ok : ∀ k, k < 6 → parseFieldDescriptor (TX28 k).2.2.1 = some (tyX28 k) := by decide +kernel
abbrev cX28_init : ByteArray := prog_26_method_1_code
def yX28_init : MethodName := ⟨RX28, "<init>", "(IIIILjava/lang/String;I)V"⟩
theorem q177 : (Jvm.Cond.initialized "QuillplateModel$Kept") ∈ lw_all := lw_g (lw_at lw_m1 73 rfl) rfl
theorem q962 : (Jvm.Cond.selects "QuillplateModel$Kept" ({ cls := "java/lang/Object", name := "getClass", desc := "()Ljava/lang/Class;" } : Jvm.MethodName) ({ cls := "java/lang/Object", name := "getClass", desc := "()Ljava/lang/Class;" } : Jvm.MethodName)) ∈ lw_all := lw_g (lw_at lw_m4 138 rfl) rfl
theorem q2475 : (Jvm.Cond.selects "QuillplateModel$Kept" ({ cls := "java/lang/Object", name := "equals", desc := "(Ljava/lang/Object;)Z" } : Jvm.MethodName) ({ cls := "java/lang/Object", name := "equals", desc := "(Ljava/lang/Object;)Z" } : Jvm.MethodName)) ∈ lw_all := lw_g (lw_at lw_m10 211 rfl) rfl
theorem q3623 : (Jvm.Cond.instantiable "QuillplateModel$Kept" (6 : Nat)) ∈ lw_all := lw_g (lw_at lw_m15 159 rfl) rfl
theorem q3626 : (Jvm.Cond.instanceMethod ({ cls := "QuillplateModel$Kept", name := "<init>", desc := "(IIIILjava/lang/String;I)V" } : Jvm.MethodName)) ∈ lw_all := lw_g (lw_at lw_m15 162 rfl) rfl
theorem q3627 : (Jvm.Cond.code ({ cls := "QuillplateModel$Kept", name := "<init>", desc := "(IIIILjava/lang/String;I)V" } : Jvm.MethodName) prog_26_method_1_code (7 : Nat) (Option.none : Option Jvm.ClassFile.FieldType)) ∈ lw_all := lw_g (lw_at lw_m15 163 rfl) rfl
theorem q3628 : (Jvm.Cond.methodLink "QuillplateModel$Kept" (1 : Nat) ({ cls := "java/lang/Object", name := "<init>", desc := "()V" } : Jvm.MethodName)) ∈ lw_all := lw_g (lw_at lw_m15 164 rfl) rfl
theorem q3629 : (Jvm.Cond.fieldLink "QuillplateModel$Kept" (7 : Nat) "QuillplateModel$Kept" "template" "I") ∈ lw_all := lw_g (lw_at lw_m15 165 rfl) rfl
theorem q3631 : (Jvm.Cond.fieldLink "QuillplateModel$Kept" (13 : Nat) "QuillplateModel$Kept" "from" "I") ∈ lw_all := lw_g (lw_at lw_m15 167 rfl) rfl
theorem q3633 : (Jvm.Cond.fieldLink "QuillplateModel$Kept" (16 : Nat) "QuillplateModel$Kept" "first" "I") ∈ lw_all := lw_g (lw_at lw_m15 169 rfl) rfl
theorem q3635 : (Jvm.Cond.fieldLink "QuillplateModel$Kept" (19 : Nat) "QuillplateModel$Kept" "place" "I") ∈ lw_all := lw_g (lw_at lw_m15 171 rfl) rfl
theorem q3637 : (Jvm.Cond.fieldLink "QuillplateModel$Kept" (22 : Nat) "QuillplateModel$Kept" "text" "Ljava/lang/String;") ∈ lw_all := lw_g (lw_at lw_m15 173 rfl) rfl
theorem q3639 : (Jvm.Cond.fieldLink "QuillplateModel$Kept" (26 : Nat) "QuillplateModel$Kept" "reads" "I") ∈ lw_all := lw_g (lw_at lw_m15 175 rfl) rfl
theorem q3642 : (Jvm.Cond.laysFinal "QuillplateModel$Kept" "QuillplateModel$Kept" "template" "I") ∈ lw_all := lw_g (lw_at lw_m15 178 rfl) rfl
theorem q3643 : (Jvm.Cond.soleField "QuillplateModel$Kept" "template") ∈ lw_all := lw_g (lw_at lw_m15 179 rfl) rfl
theorem q3644 : (Jvm.Cond.laysFinal "QuillplateModel$Kept" "QuillplateModel$Kept" "from" "I") ∈ lw_all := lw_g (lw_at lw_m15 180 rfl) rfl
theorem q3645 : (Jvm.Cond.soleField "QuillplateModel$Kept" "from") ∈ lw_all := lw_g (lw_at lw_m15 181 rfl) rfl
theorem q3646 : (Jvm.Cond.laysFinal "QuillplateModel$Kept" "QuillplateModel$Kept" "first" "I") ∈ lw_all := lw_g (lw_at lw_m15 182 rfl) rfl
theorem q3647 : (Jvm.Cond.soleField "QuillplateModel$Kept" "first") ∈ lw_all := lw_g (lw_at lw_m15 183 rfl) rfl
theorem q3648 : (Jvm.Cond.laysFinal "QuillplateModel$Kept" "QuillplateModel$Kept" "place" "I") ∈ lw_all := lw_g (lw_at lw_m15 184 rfl) rfl
theorem q3649 : (Jvm.Cond.soleField "QuillplateModel$Kept" "place") ∈ lw_all := lw_g (lw_at lw_m15 185 rfl) rfl
theorem q3650 : (Jvm.Cond.laysFinal "QuillplateModel$Kept" "QuillplateModel$Kept" "text" "Ljava/lang/String;") ∈ lw_all := lw_g (lw_at lw_m15 186 rfl) rfl
theorem q3651 : (Jvm.Cond.soleField "QuillplateModel$Kept" "text") ∈ lw_all := lw_g (lw_at lw_m15 187 rfl) rfl
theorem q3652 : (Jvm.Cond.laysFinal "QuillplateModel$Kept" "QuillplateModel$Kept" "reads" "I") ∈ lw_all := lw_g (lw_at lw_m15 188 rfl) rfl
theorem q3653 : (Jvm.Cond.soleField "QuillplateModel$Kept" "reads") ∈ lw_all := lw_g (lw_at lw_m15 189 rfl) rfl
theorem q3654 : (Jvm.Cond.superclass "QuillplateModel$Kept" "java/lang/Object") ∈ lw_all := lw_g (lw_at lw_m15 190 rfl) rfl
theorem q3872 : (Jvm.Cond.castable "QuillplateModel$Kept" "java/lang/Object") ∈ lw_tbl := lw_at lw_m16 168 rfl
theorem in_X28 : ∀ w ∈ wsX280, w ∈ lw_all := lw_in wsX280 [3642, 3644, 3646, 3648, 3650, 3652] (by decide +kernel) (by decide +kernel)
abbrev cL_law : ByteArray := code
theorem q2362 : (Jvm.Cond.interfaceMethod "Quillplate$Filter" "Quillplate$Filter" "of" "(LQuillplate$Value;)LQuillplate$Value;") ∈ lw_tbl := lw_at lw_m10 98 rfl
theorem q2363 : (Jvm.Cond.declares ({ cls := "Quillplate$Filter", name := "of", desc := "(LQuillplate$Value;)LQuillplate$Value;" } : Jvm.MethodName)) ∈ lw_tbl := lw_at lw_m10 99 rfl
theorem q117 : (Jvm.Cond.initialized "Quillplate$Sort") ∈ lw_all := lw_g (lw_at lw_m1 13 rfl) rfl
theorem q272 : (Jvm.Cond.laysStatic "Quillplate$Sort" "NOTHING" "LQuillplate$Sort;") ∈ lw_tbl := lw_at lw_m1 168 rfl
theorem q957 : (Jvm.Cond.selects "Quillplate$Sort" ({ cls := "java/lang/Object", name := "getClass", desc := "()Ljava/lang/Class;" } : Jvm.MethodName) ({ cls := "java/lang/Object", name := "getClass", desc := "()Ljava/lang/Class;" } : Jvm.MethodName)) ∈ lw_all := lw_g (lw_at lw_m4 133 rfl) rfl
theorem q1160 : (Jvm.Cond.laysStatic "Quillplate$Sort" "TEXT" "LQuillplate$Sort;") ∈ lw_tbl := lw_at lw_m5 96 rfl
theorem q1171 : (Jvm.Cond.laysStatic "Quillplate$Sort" "NUMBER" "LQuillplate$Sort;") ∈ lw_tbl := lw_at lw_m5 107 rfl
theorem q1968 : (Jvm.Cond.laysStatic "Quillplate$Sort" "LIST" "LQuillplate$Sort;") ∈ lw_tbl := lw_at lw_m8 184 rfl
theorem q2468 : (Jvm.Cond.selects "Quillplate$Sort" ({ cls := "java/lang/Object", name := "equals", desc := "(Ljava/lang/Object;)Z" } : Jvm.MethodName) ({ cls := "java/lang/Enum", name := "equals", desc := "(Ljava/lang/Object;)Z" } : Jvm.MethodName)) ∈ lw_all := lw_g (lw_at lw_m10 204 rfl) rfl
theorem q3834 : (Jvm.Cond.castable "Quillplate$Sort" "java/lang/Object") ∈ lw_tbl := lw_at lw_m16 130 rfl
theorem q372 : (Jvm.Cond.sameMethod "[B" "java/lang/Object" "clone" "()Ljava/lang/Object;") ∈ lw_all := lw_g (lw_at lw_m2 28 rfl) rfl
theorem q375 : (Jvm.Cond.selects "[B" ({ cls := "[B", name := "clone", desc := "()Ljava/lang/Object;" } : Jvm.MethodName) ({ cls := "java/lang/Object", name := "clone", desc := "()Ljava/lang/Object;" } : Jvm.MethodName)) ∈ lw_all := lw_g (lw_at lw_m2 31 rfl) rfl
theorem q376 : (Jvm.Cond.castable "[B" "java/lang/Cloneable") ∈ lw_tbl := lw_at lw_m2 32 rfl
theorem q3879 : (Jvm.Cond.castable "[B" "java/lang/Object") ∈ lw_tbl := lw_at lw_m16 175 rfl
theorem q3878 : (Jvm.Cond.castable "[C" "java/lang/Object") ∈ lw_tbl := lw_at lw_m16 174 rfl
theorem q3885 : (Jvm.Cond.castable "[I" "java/lang/Object") ∈ lw_tbl := lw_at lw_m16 181 rfl
theorem q2228 : (Jvm.Cond.sameMethod "[J" "java/lang/Object" "clone" "()Ljava/lang/Object;") ∈ lw_all := lw_g (lw_at lw_m9 204 rfl) rfl
theorem q2229 : (Jvm.Cond.selects "[J" ({ cls := "[J", name := "clone", desc := "()Ljava/lang/Object;" } : Jvm.MethodName) ({ cls := "java/lang/Object", name := "clone", desc := "()Ljava/lang/Object;" } : Jvm.MethodName)) ∈ lw_all := lw_g (lw_at lw_m9 205 rfl) rfl
theorem q2230 : (Jvm.Cond.castable "[J" "java/lang/Cloneable") ∈ lw_tbl := lw_at lw_m9 206 rfl
theorem q3881 : (Jvm.Cond.castable "[J" "java/lang/Object") ∈ lw_tbl := lw_at lw_m16 177 rfl
theorem q3883 : (Jvm.Cond.castable "[LQuillplateModel$Template;" "java/lang/Object") ∈ lw_tbl := lw_at lw_m16 179 rfl
theorem q3884 : (Jvm.Cond.castable "[LQuillplateModel$Value;" "java/lang/Object") ∈ lw_tbl := lw_at lw_m16 180 rfl
theorem q3882 : (Jvm.Cond.castable "[LQuillplate$Block;" "java/lang/Object") ∈ lw_tbl := lw_at lw_m16 178 rfl
theorem q3876 : (Jvm.Cond.castable "[LQuillplate$Template;" "java/lang/Object") ∈ lw_tbl := lw_at lw_m16 172 rfl
theorem q3877 : (Jvm.Cond.castable "[LQuillplate$Value;" "java/lang/Object") ∈ lw_tbl := lw_at lw_m16 173 rfl
theorem q3874 : (Jvm.Cond.sameMethod "[Ljava/lang/Object;" "java/lang/Object" "getClass" "()Ljava/lang/Class;") ∈ lw_all := lw_g (lw_at lw_m16 170 rfl) rfl
theorem q3875 : (Jvm.Cond.selects "[Ljava/lang/Object;" ({ cls := "java/lang/Object", name := "getClass", desc := "()Ljava/lang/Class;" } : Jvm.MethodName) ({ cls := "java/lang/Object", name := "getClass", desc := "()Ljava/lang/Class;" } : Jvm.MethodName)) ∈ lw_all := lw_g (lw_at lw_m16 171 rfl) rfl
theorem q3880 : (Jvm.Cond.castable "[Ljava/lang/Object;" "java/lang/Object") ∈ lw_tbl := lw_at lw_m16 176 rfl
theorem q3886 : (Jvm.Cond.castable "[Z" "java/lang/Object") ∈ lw_tbl := lw_at lw_m16 182 rfl
theorem q3737 : (Jvm.Cond.interfaceMethod "java/lang/CharSequence" "java/lang/CharSequence" "length" "()I") ∈ lw_tbl := lw_at lw_m16 33 rfl
theorem q3738 : (Jvm.Cond.declares ({ cls := "java/lang/CharSequence", name := "length", desc := "()I" } : Jvm.MethodName)) ∈ lw_tbl := lw_at lw_m16 34 rfl
theorem q3749 : (Jvm.Cond.interfaceMethod "java/lang/CharSequence" "java/lang/CharSequence" "charAt" "(I)C") ∈ lw_tbl := lw_at lw_m16 45 rfl
theorem q3750 : (Jvm.Cond.declares ({ cls := "java/lang/CharSequence", name := "charAt", desc := "(I)C" } : Jvm.MethodName)) ∈ lw_tbl := lw_at lw_m16 46 rfl
theorem q158 : (Jvm.Cond.initialized "java/lang/Integer$IntegerCache") ∈ lw_all := lw_g (lw_at lw_m1 54 rfl) rfl
theorem q2036 : (Jvm.Cond.laysStatic "java/lang/Integer$IntegerCache" "high" "I") ∈ lw_tbl := lw_at lw_m9 12 rfl
theorem q2038 : (Jvm.Cond.laysStatic "java/lang/Integer$IntegerCache" "cache" "[Ljava/lang/Integer;") ∈ lw_tbl := lw_at lw_m9 14 rfl
theorem q126 : (Jvm.Cond.initialized "java/lang/System") ∈ lw_all := lw_g (lw_at lw_m1 22 rfl) rfl
theorem q382 : (Jvm.Cond.static ({ cls := "java/lang/System", name := "arraycopy", desc := "(Ljava/lang/Object;ILjava/lang/Object;II)V" } : Jvm.MethodName)) ∈ lw_all := lw_g (lw_at lw_m2 38 rfl) rfl
theorem q383 : (Jvm.Cond.native ({ cls := "java/lang/System", name := "arraycopy", desc := "(Ljava/lang/Object;ILjava/lang/Object;II)V" } : Jvm.MethodName)) ∈ lw_all := lw_g (lw_at lw_m2 39 rfl) rfl
theorem q163 : (Jvm.Cond.initialized "java/util/AbstractList$ListItr") ∈ lw_all := lw_g (lw_at lw_m1 59 rfl) rfl
theorem q975 : (Jvm.Cond.selects "java/util/AbstractList$ListItr" ({ cls := "java/lang/Object", name := "getClass", desc := "()Ljava/lang/Class;" } : Jvm.MethodName) ({ cls := "java/lang/Object", name := "getClass", desc := "()Ljava/lang/Class;" } : Jvm.MethodName)) ∈ lw_all := lw_g (lw_at lw_m4 151 rfl) rfl
theorem q1660 : (Jvm.Cond.castable "java/util/AbstractList$ListItr" "java/util/Iterator") ∈ lw_tbl := lw_at lw_m7 116 rfl
theorem q1661 : (Jvm.Cond.selects "java/util/AbstractList$ListItr" ({ cls := "java/util/Iterator", name := "hasNext", desc := "()Z" } : Jvm.MethodName) ({ cls := "java/util/AbstractList$Itr", name := "hasNext", desc := "()Z" } : Jvm.MethodName)) ∈ lw_all := lw_g (lw_at lw_m7 117 rfl) rfl
theorem q1662 : (Jvm.Cond.unhidden "java/util/AbstractList$ListItr" "hasNext" "()Z") ∈ lw_tbl := lw_at lw_m7 118 rfl
theorem q1698 : (Jvm.Cond.selects "java/util/AbstractList$ListItr" ({ cls := "java/util/Iterator", name := "next", desc := "()Ljava/lang/Object;" } : Jvm.MethodName) ({ cls := "java/util/AbstractList$Itr", name := "next", desc := "()Ljava/lang/Object;" } : Jvm.MethodName)) ∈ lw_all := lw_g (lw_at lw_m7 154 rfl) rfl
theorem q1699 : (Jvm.Cond.unhidden "java/util/AbstractList$ListItr" "next" "()Ljava/lang/Object;") ∈ lw_tbl := lw_at lw_m7 155 rfl
theorem q1706 : (Jvm.Cond.selects "java/util/AbstractList$ListItr" ({ cls := "java/util/AbstractList$Itr", name := "checkForComodification", desc := "()V" } : Jvm.MethodName) ({ cls := "java/util/AbstractList$Itr", name := "checkForComodification", desc := "()V" } : Jvm.MethodName)) ∈ lw_all := lw_g (lw_at lw_m7 162 rfl) rfl
theorem q1876 : (Jvm.Cond.selects "java/util/AbstractList$ListItr" ({ cls := "java/util/Iterator", name := "remove", desc := "()V" } : Jvm.MethodName) ({ cls := "java/util/AbstractList$Itr", name := "remove", desc := "()V" } : Jvm.MethodName)) ∈ lw_all := lw_g (lw_at lw_m8 92 rfl) rfl
theorem q1877 : (Jvm.Cond.unhidden "java/util/AbstractList$ListItr" "remove" "()V") ∈ lw_tbl := lw_at lw_m8 93 rfl
theorem q3861 : (Jvm.Cond.castable "java/util/AbstractList$ListItr" "java/lang/Object") ∈ lw_tbl := lw_at lw_m16 157 rfl
theorem q3888 : (Jvm.Cond.fieldLink "java/util/AbstractList$ListItr" (1 : Nat) "java/util/AbstractList$ListItr" "this$0" "Ljava/util/AbstractList;") ∈ lw_all := lw_g (lw_at lw_m16 184 rfl) rfl
theorem q3893 : (Jvm.Cond.fieldLink "java/util/AbstractList$ListItr" (13 : Nat) "java/util/AbstractList$ListItr" "cursor" "I") ∈ lw_all := lw_g (lw_at lw_m16 189 rfl) rfl
theorem q3894 : (Jvm.Cond.sameField "java/util/AbstractList$ListItr" "java/util/AbstractList$Itr" "cursor" "I") ∈ lw_all := lw_g (lw_at lw_m16 190 rfl) rfl
theorem q1283 : (Jvm.Cond.interfaceMethod "java/util/Collection" "java/util/Collection" "toArray" "()[Ljava/lang/Object;") ∈ lw_tbl := lw_at lw_m5 219 rfl
theorem q1284 : (Jvm.Cond.declares ({ cls := "java/util/Collection", name := "toArray", desc := "()[Ljava/lang/Object;" } : Jvm.MethodName)) ∈ lw_tbl := lw_at lw_m5 220 rfl
theorem q3181 : (Jvm.Cond.interfaceMethod "java/util/Collection" "java/lang/Object" "getClass" "()Ljava/lang/Class;") ∈ lw_tbl := lw_at lw_m13 197 rfl
theorem q170 : (Jvm.Cond.initialized "java/util/ImmutableCollections") ∈ lw_all := lw_g (lw_at lw_m1 66 rfl) rfl
theorem q3102 : (Jvm.Cond.laysStatic "java/util/ImmutableCollections" "EMPTY_LIST" "Ljava/util/ImmutableCollections$ListN;") ∈ lw_tbl := lw_at lw_m13 118 rfl
theorem q1658 : (Jvm.Cond.interfaceMethod "java/util/Iterator" "java/util/Iterator" "hasNext" "()Z") ∈ lw_tbl := lw_at lw_m7 114 rfl
theorem q1659 : (Jvm.Cond.declares ({ cls := "java/util/Iterator", name := "hasNext", desc := "()Z" } : Jvm.MethodName)) ∈ lw_tbl := lw_at lw_m7 115 rfl
theorem q1696 : (Jvm.Cond.interfaceMethod "java/util/Iterator" "java/util/Iterator" "next" "()Ljava/lang/Object;") ∈ lw_tbl := lw_at lw_m7 152 rfl
theorem q1697 : (Jvm.Cond.declares ({ cls := "java/util/Iterator", name := "next", desc := "()Ljava/lang/Object;" } : Jvm.MethodName)) ∈ lw_tbl := lw_at lw_m7 153 rfl
theorem q1874 : (Jvm.Cond.interfaceMethod "java/util/Iterator" "java/util/Iterator" "remove" "()V") ∈ lw_tbl := lw_at lw_m8 90 rfl
theorem q1875 : (Jvm.Cond.declares ({ cls := "java/util/Iterator", name := "remove", desc := "()V" } : Jvm.MethodName)) ∈ lw_tbl := lw_at lw_m8 91 rfl
theorem q175 : (Jvm.Cond.initialized "jdk/internal/misc/UnsafeConstants") ∈ lw_all := lw_g (lw_at lw_m1 71 rfl) rfl
theorem q3462 : (Jvm.Cond.laysStatic "jdk/internal/misc/UnsafeConstants" "BIG_ENDIAN" "Z") ∈ lw_tbl := lw_at lw_m14 238 rfl
theorem q187 : (Jvm.Cond.arrayOver (Jvm.ClassFile.FieldType.object "Quillplate$Template")) ∈ lw_tbl := lw_at lw_m1 83 rfl
theorem q189 : (Jvm.Cond.arrayOver (Jvm.ClassFile.FieldType.object "Quillplate$Value")) ∈ lw_tbl := lw_at lw_m1 85 rfl
theorem q226 : (Jvm.Cond.arrayClass Jvm.ClassFile.FieldType.char) ∈ lw_all := lw_g (lw_at lw_m1 122 rfl) rfl
theorem q265 : (Jvm.Cond.arrayClass Jvm.ClassFile.FieldType.byte) ∈ lw_all := lw_g (lw_at lw_m1 161 rfl) rfl
theorem q285 : (Jvm.Cond.arrayOver (Jvm.ClassFile.FieldType.object "java/lang/Object")) ∈ lw_tbl := lw_at lw_m1 181 rfl
theorem q631 : (Jvm.Cond.arrayClass Jvm.ClassFile.FieldType.long) ∈ lw_all := lw_g (lw_at lw_m3 47 rfl) rfl
theorem q776 : (Jvm.Cond.arrayOver (Jvm.ClassFile.FieldType.object "Quillplate$Block")) ∈ lw_tbl := lw_at lw_m3 192 rfl
theorem q2610 : (Jvm.Cond.arrayOver (Jvm.ClassFile.FieldType.object "QuillplateModel$Template")) ∈ lw_tbl := lw_at lw_m11 106 rfl
theorem q2612 : (Jvm.Cond.arrayOver (Jvm.ClassFile.FieldType.object "QuillplateModel$Value")) ∈ lw_tbl := lw_at lw_m11 108 rfl
theorem q2805 : (Jvm.Cond.arrayClass Jvm.ClassFile.FieldType.int) ∈ lw_all := lw_g (lw_at lw_m12 61 rfl) rfl
theorem q2806 : (Jvm.Cond.arrayClass Jvm.ClassFile.FieldType.boolean) ∈ lw_all := lw_g (lw_at lw_m12 62 rfl) rfl
