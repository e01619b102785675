set_option maxRecDepth 100000
/-! java/util/AbstractCollection -/
def RJ0 : String := "java/util/AbstractCollection"
abbrev cJ0_init : ByteArray := prog_43_method_1_code
def yJ0_init : MethodName := ⟨RJ0, "<init>", "()V"⟩
theorem q112 : (Jvm.Cond.initialized "java/util/AbstractCollection") ∈ lw_all := lw_g (lw_at lw_m1 2 rfl) rfl
theorem q166 : (Jvm.Cond.instanceMethod ({ cls := "java/util/AbstractCollection", name := "<init>", desc := "()V" } : Jvm.MethodName)) ∈ lw_all := lw_g (lw_at lw_m1 56 rfl) rfl
theorem q167 : (Jvm.Cond.code ({ cls := "java/util/AbstractCollection", name := "<init>", desc := "()V" } : Jvm.MethodName) prog_43_method_1_code (1 : Nat) (Option.none : Option Jvm.ClassFile.FieldType)) ∈ lw_all := lw_g (lw_at lw_m1 57 rfl) rfl
theorem q168 : (Jvm.Cond.methodLink "java/util/AbstractCollection" (1 : Nat) ({ cls := "java/lang/Object", name := "<init>", desc := "()V" } : Jvm.MethodName)) ∈ lw_all := lw_g (lw_at lw_m1 58 rfl) rfl
/-! java/util/ArrayDeque -/
def RJ1 : String := "java/util/ArrayDeque"
def TJ1 : u_T := fun k => match k with
  | 0 => ("java/util/ArrayDeque", "elements", "[Ljava/lang/Object;", false)
  | 1 => ("java/util/ArrayDeque", "head", "I", false)
  | _ => ("java/util/ArrayDeque", "tail", "I", false)
def tyJ1 : Nat → FieldType := fun k => match k with
  | 0 => .array (.object "java/lang/Object")
  | 1 => .int
  | _ => .int
abbrev wsJ10 : List Cond := u_ws RJ1 TJ1 3
theorem nmJ1 : ∀ a, a < 3 → ∀ b, b < 3 → a ≠ b → (TJ1 a).2.1 ≠ (TJ1 b).2.1 := by decide +kernel
theorem tyJ1_ok : ∀ k, k < 3 → parseFieldDescriptor (TJ1 k).2.2.1 = some (tyJ1 k) := by decide +kernel
abbrev cJ1_init : ByteArray := prog_45_method_4_code
def yJ1_init : MethodName := ⟨RJ1, "<init>", "(I)V"⟩
abbrev cJ1_size : ByteArray := prog_45_method_37_code
def yJ1_size : MethodName := ⟨RJ1, "size", "()I"⟩
abbrev cJ1_sub : ByteArray := prog_45_method_9_code
def yJ1_sub : MethodName := ⟨RJ1, "sub", "(III)I"⟩
abbrev cJ1_clear : ByteArray := prog_45_method_53_code
def yJ1_clear : MethodName := ⟨RJ1, "clear", "()V"⟩
abbrev cJ1_circularClear : ByteArray := prog_45_method_54_code
def yJ1_circularClear : MethodName := ⟨RJ1, "circularClear", "([Ljava/lang/Object;II)V"⟩
abbrev cJ1_removeFirst : ByteArray := prog_45_method_18_code
def yJ1_removeFirst : MethodName := ⟨RJ1, "removeFirst", "()Ljava/lang/Object;"⟩
abbrev cJ1_pollFirst : ByteArray := prog_45_method_20_code
def yJ1_pollFirst : MethodName := ⟨RJ1, "pollFirst", "()Ljava/lang/Object;"⟩
abbrev cJ1_elementAt : ByteArray := prog_45_method_10_code
def yJ1_elementAt : MethodName := ⟨RJ1, "elementAt", "([Ljava/lang/Object;I)Ljava/lang/Object;"⟩
abbrev cJ1_inc : ByteArray := prog_45_method_6_code
def yJ1_inc : MethodName := ⟨RJ1, "inc", "(II)I"⟩
abbrev cJ1_addLast : ByteArray := prog_45_method_13_code
def yJ1_addLast : MethodName := ⟨RJ1, "addLast", "(Ljava/lang/Object;)V"⟩
abbrev cJ1_grow : ByteArray := prog_45_method_1_code
def yJ1_grow : MethodName := ⟨RJ1, "grow", "(I)V"⟩
abbrev cJ1_newCapacity : ByteArray := prog_45_method_2_code
def yJ1_newCapacity : MethodName := ⟨RJ1, "newCapacity", "(II)I"⟩
abbrev cJ1_isEmpty : ByteArray := prog_45_method_38_code
def yJ1_isEmpty : MethodName := ⟨RJ1, "isEmpty", "()Z"⟩
abbrev cJ1_removeLast : ByteArray := prog_45_method_19_code
def yJ1_removeLast : MethodName := ⟨RJ1, "removeLast", "()Ljava/lang/Object;"⟩
abbrev cJ1_pollLast : ByteArray := prog_45_method_21_code
def yJ1_pollLast : MethodName := ⟨RJ1, "pollLast", "()Ljava/lang/Object;"⟩
abbrev cJ1_dec : ByteArray := prog_45_method_7_code
def yJ1_dec : MethodName := ⟨RJ1, "dec", "(II)I"⟩
theorem q113 : (Jvm.Cond.initialized "java/util/ArrayDeque") ∈ lw_all := lw_g (lw_at lw_m1 3 rfl) rfl
theorem q161 : (Jvm.Cond.instantiable "java/util/ArrayDeque" (3 : Nat)) ∈ lw_all := lw_g (lw_at lw_m1 51 rfl) rfl
theorem q163 : (Jvm.Cond.instanceMethod ({ cls := "java/util/ArrayDeque", name := "<init>", desc := "(I)V" } : Jvm.MethodName)) ∈ lw_all := lw_g (lw_at lw_m1 53 rfl) rfl
theorem q164 : (Jvm.Cond.code ({ cls := "java/util/ArrayDeque", name := "<init>", desc := "(I)V" } : Jvm.MethodName) prog_45_method_4_code (2 : Nat) (Option.none : Option Jvm.ClassFile.FieldType)) ∈ lw_all := lw_g (lw_at lw_m1 54 rfl) rfl
theorem q165 : (Jvm.Cond.methodLink "java/util/ArrayDeque" (42 : Nat) ({ cls := "java/util/AbstractCollection", name := "<init>", desc := "()V" } : Jvm.MethodName)) ∈ lw_all := lw_g (lw_at lw_m1 55 rfl) rfl
theorem q169 : (Jvm.Cond.constant "java/util/ArrayDeque" (41 : Nat) (2147483647 : Int32)) ∈ lw_all := lw_g (lw_at lw_m1 59 rfl) rfl
theorem q170 : (Jvm.Cond.classLink "java/util/ArrayDeque" (47 : Nat) "java/lang/Object") ∈ lw_all := lw_g (lw_at lw_m1 60 rfl) rfl
theorem q172 : (Jvm.Cond.fieldLink "java/util/ArrayDeque" (3 : Nat) "java/util/ArrayDeque" "elements" "[Ljava/lang/Object;") ∈ lw_all := lw_g (lw_at lw_m1 62 rfl) rfl
theorem q173 : (Jvm.Cond.fieldLink "java/util/ArrayDeque" (24 : Nat) "java/util/ArrayDeque" "head" "I") ∈ lw_all := lw_g (lw_at lw_m1 63 rfl) rfl
theorem q174 : (Jvm.Cond.fieldLink "java/util/ArrayDeque" (20 : Nat) "java/util/ArrayDeque" "tail" "I") ∈ lw_all := lw_g (lw_at lw_m1 64 rfl) rfl
theorem q175 : (Jvm.Cond.lays "java/util/ArrayDeque" "java/util/ArrayDeque" "elements" "[Ljava/lang/Object;") ∈ lw_all := lw_g (lw_at lw_m1 65 rfl) rfl
theorem q176 : (Jvm.Cond.soleField "java/util/ArrayDeque" "elements") ∈ lw_all := lw_g (lw_at lw_m1 66 rfl) rfl
theorem q177 : (Jvm.Cond.lays "java/util/ArrayDeque" "java/util/ArrayDeque" "head" "I") ∈ lw_all := lw_g (lw_at lw_m1 67 rfl) rfl
theorem q178 : (Jvm.Cond.soleField "java/util/ArrayDeque" "head") ∈ lw_all := lw_g (lw_at lw_m1 68 rfl) rfl
theorem q179 : (Jvm.Cond.lays "java/util/ArrayDeque" "java/util/ArrayDeque" "tail" "I") ∈ lw_all := lw_g (lw_at lw_m1 69 rfl) rfl
theorem q180 : (Jvm.Cond.soleField "java/util/ArrayDeque" "tail") ∈ lw_all := lw_g (lw_at lw_m1 70 rfl) rfl
theorem q181 : (Jvm.Cond.superclass "java/util/ArrayDeque" "java/util/AbstractCollection") ∈ lw_all := lw_g (lw_at lw_m1 71 rfl) rfl
theorem q258 : (Jvm.Cond.castable "java/util/ArrayDeque" "java/util/Deque") ∈ lw_tbl := lw_at lw_m1 148 rfl
theorem q259 : (Jvm.Cond.selects "java/util/ArrayDeque" ({ cls := "java/util/Deque", name := "size", desc := "()I" } : Jvm.MethodName) ({ cls := "java/util/ArrayDeque", name := "size", desc := "()I" } : Jvm.MethodName)) ∈ lw_all := lw_g (lw_at lw_m1 149 rfl) rfl
theorem q260 : (Jvm.Cond.unhidden "java/util/ArrayDeque" "size" "()I") ∈ lw_tbl := lw_at lw_m1 150 rfl
theorem q261 : (Jvm.Cond.instanceMethod ({ cls := "java/util/ArrayDeque", name := "size", desc := "()I" } : Jvm.MethodName)) ∈ lw_all := lw_g (lw_at lw_m1 151 rfl) rfl
theorem q262 : (Jvm.Cond.publicMethod ({ cls := "java/util/ArrayDeque", name := "size", desc := "()I" } : Jvm.MethodName)) ∈ lw_tbl := lw_at lw_m1 152 rfl
theorem q263 : (Jvm.Cond.code ({ cls := "java/util/ArrayDeque", name := "size", desc := "()I" } : Jvm.MethodName) prog_45_method_37_code (1 : Nat) (Option.some Jvm.ClassFile.FieldType.int)) ∈ lw_all := lw_g (lw_at lw_m1 153 rfl) rfl
theorem q264 : (Jvm.Cond.methodLink "java/util/ArrayDeque" (127 : Nat) ({ cls := "java/util/ArrayDeque", name := "sub", desc := "(III)I" } : Jvm.MethodName)) ∈ lw_all := lw_g (lw_at lw_m1 154 rfl) rfl
theorem q265 : (Jvm.Cond.static ({ cls := "java/util/ArrayDeque", name := "sub", desc := "(III)I" } : Jvm.MethodName)) ∈ lw_all := lw_g (lw_at lw_m1 155 rfl) rfl
theorem q266 : (Jvm.Cond.code ({ cls := "java/util/ArrayDeque", name := "sub", desc := "(III)I" } : Jvm.MethodName) prog_45_method_9_code (3 : Nat) (Option.some Jvm.ClassFile.FieldType.int)) ∈ lw_all := lw_g (lw_at lw_m1 156 rfl) rfl
theorem q958 : (Jvm.Cond.selects "java/util/ArrayDeque" ({ cls := "java/lang/Object", name := "getClass", desc := "()Ljava/lang/Class;" } : Jvm.MethodName) ({ cls := "java/lang/Object", name := "getClass", desc := "()Ljava/lang/Class;" } : Jvm.MethodName)) ∈ lw_all := lw_g (lw_at lw_m4 128 rfl) rfl
theorem q1053 : (Jvm.Cond.selects "java/util/ArrayDeque" ({ cls := "java/util/Collection", name := "clear", desc := "()V" } : Jvm.MethodName) ({ cls := "java/util/ArrayDeque", name := "clear", desc := "()V" } : Jvm.MethodName)) ∈ lw_all := lw_g (lw_at lw_m4 223 rfl) rfl
theorem q1054 : (Jvm.Cond.unhidden "java/util/ArrayDeque" "clear" "()V") ∈ lw_tbl := lw_at lw_m4 224 rfl
theorem q1055 : (Jvm.Cond.instanceMethod ({ cls := "java/util/ArrayDeque", name := "clear", desc := "()V" } : Jvm.MethodName)) ∈ lw_all := lw_g (lw_at lw_m4 225 rfl) rfl
theorem q1056 : (Jvm.Cond.publicMethod ({ cls := "java/util/ArrayDeque", name := "clear", desc := "()V" } : Jvm.MethodName)) ∈ lw_tbl := lw_at lw_m4 226 rfl
theorem q1057 : (Jvm.Cond.code ({ cls := "java/util/ArrayDeque", name := "clear", desc := "()V" } : Jvm.MethodName) prog_45_method_53_code (1 : Nat) (Option.none : Option Jvm.ClassFile.FieldType)) ∈ lw_all := lw_g (lw_at lw_m4 227 rfl) rfl
theorem q1058 : (Jvm.Cond.methodLink "java/util/ArrayDeque" (181 : Nat) ({ cls := "java/util/ArrayDeque", name := "circularClear", desc := "([Ljava/lang/Object;II)V" } : Jvm.MethodName)) ∈ lw_all := lw_g (lw_at lw_m4 228 rfl) rfl
theorem q1059 : (Jvm.Cond.static ({ cls := "java/util/ArrayDeque", name := "circularClear", desc := "([Ljava/lang/Object;II)V" } : Jvm.MethodName)) ∈ lw_all := lw_g (lw_at lw_m4 229 rfl) rfl
theorem q1060 : (Jvm.Cond.code ({ cls := "java/util/ArrayDeque", name := "circularClear", desc := "([Ljava/lang/Object;II)V" } : Jvm.MethodName) prog_45_method_54_code (4 : Nat) (Option.none : Option Jvm.ClassFile.FieldType)) ∈ lw_all := lw_g (lw_at lw_m4 230 rfl) rfl
theorem q1611 : (Jvm.Cond.selects "java/util/ArrayDeque" ({ cls := "java/util/Deque", name := "removeFirst", desc := "()Ljava/lang/Object;" } : Jvm.MethodName) ({ cls := "java/util/ArrayDeque", name := "removeFirst", desc := "()Ljava/lang/Object;" } : Jvm.MethodName)) ∈ lw_all := lw_g (lw_at lw_m7 61 rfl) rfl
theorem q1612 : (Jvm.Cond.unhidden "java/util/ArrayDeque" "removeFirst" "()Ljava/lang/Object;") ∈ lw_tbl := lw_at lw_m7 62 rfl
theorem q1613 : (Jvm.Cond.instanceMethod ({ cls := "java/util/ArrayDeque", name := "removeFirst", desc := "()Ljava/lang/Object;" } : Jvm.MethodName)) ∈ lw_all := lw_g (lw_at lw_m7 63 rfl) rfl
theorem q1614 : (Jvm.Cond.publicMethod ({ cls := "java/util/ArrayDeque", name := "removeFirst", desc := "()Ljava/lang/Object;" } : Jvm.MethodName)) ∈ lw_tbl := lw_at lw_m7 64 rfl
theorem q1615 : (Jvm.Cond.code ({ cls := "java/util/ArrayDeque", name := "removeFirst", desc := "()Ljava/lang/Object;" } : Jvm.MethodName) prog_45_method_18_code (2 : Nat) (Option.some (Jvm.ClassFile.FieldType.object "java/lang/Object"))) ∈ lw_all := lw_g (lw_at lw_m7 65 rfl) rfl
theorem q1616 : (Jvm.Cond.methodLink "java/util/ArrayDeque" (93 : Nat) ({ cls := "java/util/ArrayDeque", name := "pollFirst", desc := "()Ljava/lang/Object;" } : Jvm.MethodName)) ∈ lw_all := lw_g (lw_at lw_m7 66 rfl) rfl
theorem q1617 : (Jvm.Cond.instanceMethod ({ cls := "java/util/ArrayDeque", name := "pollFirst", desc := "()Ljava/lang/Object;" } : Jvm.MethodName)) ∈ lw_all := lw_g (lw_at lw_m7 67 rfl) rfl
theorem q1618 : (Jvm.Cond.selects "java/util/ArrayDeque" ({ cls := "java/util/ArrayDeque", name := "pollFirst", desc := "()Ljava/lang/Object;" } : Jvm.MethodName) ({ cls := "java/util/ArrayDeque", name := "pollFirst", desc := "()Ljava/lang/Object;" } : Jvm.MethodName)) ∈ lw_all := lw_g (lw_at lw_m7 68 rfl) rfl
theorem q1619 : (Jvm.Cond.code ({ cls := "java/util/ArrayDeque", name := "pollFirst", desc := "()Ljava/lang/Object;" } : Jvm.MethodName) prog_45_method_20_code (4 : Nat) (Option.some (Jvm.ClassFile.FieldType.object "java/lang/Object"))) ∈ lw_all := lw_g (lw_at lw_m7 69 rfl) rfl
theorem q1620 : (Jvm.Cond.methodLink "java/util/ArrayDeque" (103 : Nat) ({ cls := "java/util/ArrayDeque", name := "elementAt", desc := "([Ljava/lang/Object;I)Ljava/lang/Object;" } : Jvm.MethodName)) ∈ lw_all := lw_g (lw_at lw_m7 70 rfl) rfl
theorem q1621 : (Jvm.Cond.static ({ cls := "java/util/ArrayDeque", name := "elementAt", desc := "([Ljava/lang/Object;I)Ljava/lang/Object;" } : Jvm.MethodName)) ∈ lw_all := lw_g (lw_at lw_m7 71 rfl) rfl
theorem q1622 : (Jvm.Cond.code ({ cls := "java/util/ArrayDeque", name := "elementAt", desc := "([Ljava/lang/Object;I)Ljava/lang/Object;" } : Jvm.MethodName) prog_45_method_10_code (2 : Nat) (Option.some (Jvm.ClassFile.FieldType.object "java/lang/Object"))) ∈ lw_all := lw_g (lw_at lw_m7 72 rfl) rfl
theorem q1623 : (Jvm.Cond.methodLink "java/util/ArrayDeque" (74 : Nat) ({ cls := "java/util/ArrayDeque", name := "inc", desc := "(II)I" } : Jvm.MethodName)) ∈ lw_all := lw_g (lw_at lw_m7 73 rfl) rfl
theorem q1624 : (Jvm.Cond.static ({ cls := "java/util/ArrayDeque", name := "inc", desc := "(II)I" } : Jvm.MethodName)) ∈ lw_all := lw_g (lw_at lw_m7 74 rfl) rfl
theorem q1625 : (Jvm.Cond.code ({ cls := "java/util/ArrayDeque", name := "inc", desc := "(II)I" } : Jvm.MethodName) prog_45_method_6_code (2 : Nat) (Option.some Jvm.ClassFile.FieldType.int)) ∈ lw_all := lw_g (lw_at lw_m7 75 rfl) rfl
theorem q1630 : (Jvm.Cond.selects "java/util/ArrayDeque" ({ cls := "java/util/Deque", name := "addLast", desc := "(Ljava/lang/Object;)V" } : Jvm.MethodName) ({ cls := "java/util/ArrayDeque", name := "addLast", desc := "(Ljava/lang/Object;)V" } : Jvm.MethodName)) ∈ lw_all := lw_g (lw_at lw_m7 80 rfl) rfl
theorem q1631 : (Jvm.Cond.unhidden "java/util/ArrayDeque" "addLast" "(Ljava/lang/Object;)V") ∈ lw_tbl := lw_at lw_m7 81 rfl
theorem q1632 : (Jvm.Cond.instanceMethod ({ cls := "java/util/ArrayDeque", name := "addLast", desc := "(Ljava/lang/Object;)V" } : Jvm.MethodName)) ∈ lw_all := lw_g (lw_at lw_m7 82 rfl) rfl
theorem q1633 : (Jvm.Cond.publicMethod ({ cls := "java/util/ArrayDeque", name := "addLast", desc := "(Ljava/lang/Object;)V" } : Jvm.MethodName)) ∈ lw_tbl := lw_at lw_m7 83 rfl
theorem q1634 : (Jvm.Cond.code ({ cls := "java/util/ArrayDeque", name := "addLast", desc := "(Ljava/lang/Object;)V" } : Jvm.MethodName) prog_45_method_13_code (3 : Nat) (Option.none : Option Jvm.ClassFile.FieldType)) ∈ lw_all := lw_g (lw_at lw_m7 84 rfl) rfl
theorem q1635 : (Jvm.Cond.methodLink "java/util/ArrayDeque" (71 : Nat) ({ cls := "java/util/ArrayDeque", name := "grow", desc := "(I)V" } : Jvm.MethodName)) ∈ lw_all := lw_g (lw_at lw_m7 85 rfl) rfl
theorem q1636 : (Jvm.Cond.privateMethod ({ cls := "java/util/ArrayDeque", name := "grow", desc := "(I)V" } : Jvm.MethodName)) ∈ lw_tbl := lw_at lw_m7 86 rfl
theorem q1637 : (Jvm.Cond.instanceMethod ({ cls := "java/util/ArrayDeque", name := "grow", desc := "(I)V" } : Jvm.MethodName)) ∈ lw_all := lw_g (lw_at lw_m7 87 rfl) rfl
theorem q1638 : (Jvm.Cond.code ({ cls := "java/util/ArrayDeque", name := "grow", desc := "(I)V" } : Jvm.MethodName) prog_45_method_1_code (9 : Nat) (Option.none : Option Jvm.ClassFile.FieldType)) ∈ lw_all := lw_g (lw_at lw_m7 88 rfl) rfl
theorem q1639 : (Jvm.Cond.constant "java/util/ArrayDeque" (9 : Nat) (2147483639 : Int32)) ∈ lw_all := lw_g (lw_at lw_m7 89 rfl) rfl
theorem q1640 : (Jvm.Cond.methodLink "java/util/ArrayDeque" (10 : Nat) ({ cls := "java/util/ArrayDeque", name := "newCapacity", desc := "(II)I" } : Jvm.MethodName)) ∈ lw_all := lw_g (lw_at lw_m7 90 rfl) rfl
theorem q1641 : (Jvm.Cond.privateMethod ({ cls := "java/util/ArrayDeque", name := "newCapacity", desc := "(II)I" } : Jvm.MethodName)) ∈ lw_tbl := lw_at lw_m7 91 rfl
theorem q1642 : (Jvm.Cond.instanceMethod ({ cls := "java/util/ArrayDeque", name := "newCapacity", desc := "(II)I" } : Jvm.MethodName)) ∈ lw_all := lw_g (lw_at lw_m7 92 rfl) rfl
theorem q1643 : (Jvm.Cond.code ({ cls := "java/util/ArrayDeque", name := "newCapacity", desc := "(II)I" } : Jvm.MethodName) prog_45_method_2_code (5 : Nat) (Option.some Jvm.ClassFile.FieldType.int)) ∈ lw_all := lw_g (lw_at lw_m7 93 rfl) rfl
theorem q1644 : (Jvm.Cond.classLink "java/util/ArrayDeque" (33 : Nat) "java/lang/IllegalStateException") ∈ lw_all := lw_g (lw_at lw_m7 94 rfl) rfl
theorem q1645 : (Jvm.Cond.stringRef "java/util/ArrayDeque" (35 : Nat) "Sorry, deque too big") ∈ lw_tbl := lw_at lw_m7 95 rfl
theorem q1646 : (Jvm.Cond.methodLink "java/util/ArrayDeque" (37 : Nat) ({ cls := "java/lang/IllegalStateException", name := "<init>", desc := "(Ljava/lang/String;)V" } : Jvm.MethodName)) ∈ lw_all := lw_g (lw_at lw_m7 96 rfl) rfl
theorem q1650 : (Jvm.Cond.methodLink "java/util/ArrayDeque" (14 : Nat) ({ cls := "java/util/Arrays", name := "copyOf", desc := "([Ljava/lang/Object;I)[Ljava/lang/Object;" } : Jvm.MethodName)) ∈ lw_all := lw_g (lw_at lw_m7 100 rfl) rfl
theorem q1651 : (Jvm.Cond.methodLink "java/util/ArrayDeque" (27 : Nat) ({ cls := "java/lang/System", name := "arraycopy", desc := "(Ljava/lang/Object;ILjava/lang/Object;II)V" } : Jvm.MethodName)) ∈ lw_all := lw_g (lw_at lw_m7 101 rfl) rfl
theorem q1781 : (Jvm.Cond.selects "java/util/ArrayDeque" ({ cls := "java/util/Collection", name := "isEmpty", desc := "()Z" } : Jvm.MethodName) ({ cls := "java/util/ArrayDeque", name := "isEmpty", desc := "()Z" } : Jvm.MethodName)) ∈ lw_all := lw_g (lw_at lw_m7 231 rfl) rfl
theorem q1782 : (Jvm.Cond.unhidden "java/util/ArrayDeque" "isEmpty" "()Z") ∈ lw_tbl := lw_at lw_m7 232 rfl
theorem q1783 : (Jvm.Cond.instanceMethod ({ cls := "java/util/ArrayDeque", name := "isEmpty", desc := "()Z" } : Jvm.MethodName)) ∈ lw_all := lw_g (lw_at lw_m7 233 rfl) rfl
theorem q1784 : (Jvm.Cond.publicMethod ({ cls := "java/util/ArrayDeque", name := "isEmpty", desc := "()Z" } : Jvm.MethodName)) ∈ lw_tbl := lw_at lw_m7 234 rfl
theorem q1785 : (Jvm.Cond.code ({ cls := "java/util/ArrayDeque", name := "isEmpty", desc := "()Z" } : Jvm.MethodName) prog_45_method_38_code (1 : Nat) (Option.some Jvm.ClassFile.FieldType.boolean)) ∈ lw_all := lw_g (lw_at lw_m7 235 rfl) rfl
theorem q1790 : (Jvm.Cond.selects "java/util/ArrayDeque" ({ cls := "java/util/Deque", name := "removeLast", desc := "()Ljava/lang/Object;" } : Jvm.MethodName) ({ cls := "java/util/ArrayDeque", name := "removeLast", desc := "()Ljava/lang/Object;" } : Jvm.MethodName)) ∈ lw_all := lw_g (lw_at lw_m8 0 rfl) rfl
theorem q1791 : (Jvm.Cond.unhidden "java/util/ArrayDeque" "removeLast" "()Ljava/lang/Object;") ∈ lw_tbl := lw_at lw_m8 1 rfl
theorem q1792 : (Jvm.Cond.instanceMethod ({ cls := "java/util/ArrayDeque", name := "removeLast", desc := "()Ljava/lang/Object;" } : Jvm.MethodName)) ∈ lw_all := lw_g (lw_at lw_m8 2 rfl) rfl
theorem q1793 : (Jvm.Cond.publicMethod ({ cls := "java/util/ArrayDeque", name := "removeLast", desc := "()Ljava/lang/Object;" } : Jvm.MethodName)) ∈ lw_tbl := lw_at lw_m8 3 rfl
theorem q1794 : (Jvm.Cond.code ({ cls := "java/util/ArrayDeque", name := "removeLast", desc := "()Ljava/lang/Object;" } : Jvm.MethodName) prog_45_method_19_code (2 : Nat) (Option.some (Jvm.ClassFile.FieldType.object "java/lang/Object"))) ∈ lw_all := lw_g (lw_at lw_m8 4 rfl) rfl
theorem q1795 : (Jvm.Cond.methodLink "java/util/ArrayDeque" (100 : Nat) ({ cls := "java/util/ArrayDeque", name := "pollLast", desc := "()Ljava/lang/Object;" } : Jvm.MethodName)) ∈ lw_all := lw_g (lw_at lw_m8 5 rfl) rfl
theorem q1796 : (Jvm.Cond.instanceMethod ({ cls := "java/util/ArrayDeque", name := "pollLast", desc := "()Ljava/lang/Object;" } : Jvm.MethodName)) ∈ lw_all := lw_g (lw_at lw_m8 6 rfl) rfl
theorem q1797 : (Jvm.Cond.selects "java/util/ArrayDeque" ({ cls := "java/util/ArrayDeque", name := "pollLast", desc := "()Ljava/lang/Object;" } : Jvm.MethodName) ({ cls := "java/util/ArrayDeque", name := "pollLast", desc := "()Ljava/lang/Object;" } : Jvm.MethodName)) ∈ lw_all := lw_g (lw_at lw_m8 7 rfl) rfl
theorem q1798 : (Jvm.Cond.code ({ cls := "java/util/ArrayDeque", name := "pollLast", desc := "()Ljava/lang/Object;" } : Jvm.MethodName) prog_45_method_21_code (4 : Nat) (Option.some (Jvm.ClassFile.FieldType.object "java/lang/Object"))) ∈ lw_all := lw_g (lw_at lw_m8 8 rfl) rfl
theorem q1799 : (Jvm.Cond.methodLink "java/util/ArrayDeque" (68 : Nat) ({ cls := "java/util/ArrayDeque", name := "dec", desc := "(II)I" } : Jvm.MethodName)) ∈ lw_all := lw_g (lw_at lw_m8 9 rfl) rfl
theorem q1800 : (Jvm.Cond.static ({ cls := "java/util/ArrayDeque", name := "dec", desc := "(II)I" } : Jvm.MethodName)) ∈ lw_all := lw_g (lw_at lw_m8 10 rfl) rfl
theorem q1801 : (Jvm.Cond.code ({ cls := "java/util/ArrayDeque", name := "dec", desc := "(II)I" } : Jvm.MethodName) prog_45_method_7_code (2 : Nat) (Option.some Jvm.ClassFile.FieldType.int)) ∈ lw_all := lw_g (lw_at lw_m8 11 rfl) rfl
theorem q2443 : (Jvm.Cond.castable "java/util/ArrayDeque" "java/lang/Object") ∈ lw_tbl := lw_at lw_m10 173 rfl
theorem in_J1 : ∀ w ∈ wsJ10, w ∈ lw_all := lw_in wsJ10 [175, 177, 179] (by decide +kernel) (by decide +kernel)
/-! java/lang/IllegalArgumentException -/
def RJ10 : String := "java/lang/IllegalArgumentException"
def TJ10 : u_T := fun k => match k with
  | 0 => ("java/lang/Throwable", "cause", "Ljava/lang/Throwable;", false)
  | 1 => ("java/lang/Throwable", "stackTrace", "[Ljava/lang/StackTraceElement;", false)
  | 2 => ("java/lang/Throwable", "suppressedExceptions", "Ljava/util/List;", false)
  | 3 => ("java/lang/Throwable", "detailMessage", "Ljava/lang/String;", false)
  | 4 => ("java/lang/Throwable", "backtrace", "Ljava/lang/Object;", false)
  | _ => ("java/lang/Throwable", "depth", "I", false)
def tyJ10 : Nat → FieldType := fun k => match k with
  | 0 => .object "java/lang/Throwable"
  | 1 => .array (.object "java/lang/StackTraceElement")
  | 2 => .object "java/util/List"
  | 3 => .object "java/lang/String"
  | 4 => .object "java/lang/Object"
  | _ => .int
abbrev wsJ100 : List Cond := u_ws RJ10 TJ10 6
theorem nmJ10 : ∀ a, a < 6 → ∀ b, b < 6 → a ≠ b → (TJ10 a).2.1 ≠ (TJ10 b).2.1 := by decide +kernel
theorem tyJ10_ok : ∀ k, k < 6 → parseFieldDescriptor (TJ10 k).2.2.1 = some (tyJ10 k) := by decide +kernel
abbrev cJ10_init : ByteArray := prog_27_method_2_code
def yJ10_init : MethodName := ⟨RJ10, "<init>", "(Ljava/lang/String;)V"⟩
abbrev cJ10_init_2 : ByteArray := prog_27_method_1_code
def yJ10_init_2 : MethodName := ⟨RJ10, "<init>", "()V"⟩
theorem q128 : (Jvm.Cond.initialized "java/lang/IllegalArgumentException") ∈ lw_all := lw_g (lw_at lw_m1 18 rfl) rfl
theorem q297 : (Jvm.Cond.selects "java/lang/IllegalArgumentException" ({ cls := "java/lang/Throwable", name := "fillInStackTrace", desc := "()Ljava/lang/Throwable;" } : Jvm.MethodName) ({ cls := "java/lang/Throwable", name := "fillInStackTrace", desc := "()Ljava/lang/Throwable;" } : Jvm.MethodName)) ∈ lw_all := lw_g (lw_at lw_m1 187 rfl) rfl
theorem q415 : (Jvm.Cond.instantiable "java/lang/IllegalArgumentException" (6 : Nat)) ∈ lw_all := lw_g (lw_at lw_m2 65 rfl) rfl
theorem q416 : (Jvm.Cond.castable "java/lang/IllegalArgumentException" "java/lang/IllegalArgumentException") ∈ lw_tbl := lw_at lw_m2 66 rfl
theorem q417 : (Jvm.Cond.selects "java/lang/IllegalArgumentException" ({ cls := "java/lang/Throwable", name := "fillInStackTrace", desc := "(I)Ljava/lang/Throwable;" } : Jvm.MethodName) ({ cls := "java/lang/Throwable", name := "fillInStackTrace", desc := "(I)Ljava/lang/Throwable;" } : Jvm.MethodName)) ∈ lw_all := lw_g (lw_at lw_m2 67 rfl) rfl
theorem q418 : (Jvm.Cond.lays "java/lang/IllegalArgumentException" "java/lang/Throwable" "cause" "Ljava/lang/Throwable;") ∈ lw_all := lw_g (lw_at lw_m2 68 rfl) rfl
theorem q419 : (Jvm.Cond.lays "java/lang/IllegalArgumentException" "java/lang/Throwable" "stackTrace" "[Ljava/lang/StackTraceElement;") ∈ lw_all := lw_g (lw_at lw_m2 69 rfl) rfl
theorem q420 : (Jvm.Cond.lays "java/lang/IllegalArgumentException" "java/lang/Throwable" "suppressedExceptions" "Ljava/util/List;") ∈ lw_all := lw_g (lw_at lw_m2 70 rfl) rfl
theorem q421 : (Jvm.Cond.lays "java/lang/IllegalArgumentException" "java/lang/Throwable" "detailMessage" "Ljava/lang/String;") ∈ lw_all := lw_g (lw_at lw_m2 71 rfl) rfl
theorem q422 : (Jvm.Cond.lays "java/lang/IllegalArgumentException" "java/lang/Throwable" "backtrace" "Ljava/lang/Object;") ∈ lw_all := lw_g (lw_at lw_m2 72 rfl) rfl
theorem q643 : (Jvm.Cond.instanceMethod ({ cls := "java/lang/IllegalArgumentException", name := "<init>", desc := "(Ljava/lang/String;)V" } : Jvm.MethodName)) ∈ lw_all := lw_g (lw_at lw_m3 53 rfl) rfl
theorem q644 : (Jvm.Cond.code ({ cls := "java/lang/IllegalArgumentException", name := "<init>", desc := "(Ljava/lang/String;)V" } : Jvm.MethodName) prog_27_method_2_code (2 : Nat) (Option.none : Option Jvm.ClassFile.FieldType)) ∈ lw_all := lw_g (lw_at lw_m3 54 rfl) rfl
theorem q645 : (Jvm.Cond.methodLink "java/lang/IllegalArgumentException" (7 : Nat) ({ cls := "java/lang/RuntimeException", name := "<init>", desc := "(Ljava/lang/String;)V" } : Jvm.MethodName)) ∈ lw_all := lw_g (lw_at lw_m3 55 rfl) rfl
theorem q646 : (Jvm.Cond.lays "java/lang/IllegalArgumentException" "java/lang/Throwable" "depth" "I") ∈ lw_all := lw_g (lw_at lw_m3 56 rfl) rfl
theorem q647 : (Jvm.Cond.superclass "java/lang/IllegalArgumentException" "java/lang/RuntimeException") ∈ lw_all := lw_g (lw_at lw_m3 57 rfl) rfl
theorem q953 : (Jvm.Cond.selects "java/lang/IllegalArgumentException" ({ cls := "java/lang/Object", name := "getClass", desc := "()Ljava/lang/Class;" } : Jvm.MethodName) ({ cls := "java/lang/Object", name := "getClass", desc := "()Ljava/lang/Class;" } : Jvm.MethodName)) ∈ lw_all := lw_g (lw_at lw_m4 123 rfl) rfl
theorem q1047 : (Jvm.Cond.instanceMethod ({ cls := "java/lang/IllegalArgumentException", name := "<init>", desc := "()V" } : Jvm.MethodName)) ∈ lw_all := lw_g (lw_at lw_m4 217 rfl) rfl
theorem q1048 : (Jvm.Cond.code ({ cls := "java/lang/IllegalArgumentException", name := "<init>", desc := "()V" } : Jvm.MethodName) prog_27_method_1_code (1 : Nat) (Option.none : Option Jvm.ClassFile.FieldType)) ∈ lw_all := lw_g (lw_at lw_m4 218 rfl) rfl
theorem q1049 : (Jvm.Cond.methodLink "java/lang/IllegalArgumentException" (1 : Nat) ({ cls := "java/lang/RuntimeException", name := "<init>", desc := "()V" } : Jvm.MethodName)) ∈ lw_all := lw_g (lw_at lw_m4 219 rfl) rfl
theorem q2451 : (Jvm.Cond.castable "java/lang/IllegalArgumentException" "java/lang/Object") ∈ lw_tbl := lw_at lw_m10 181 rfl
theorem in_J10 : ∀ w ∈ wsJ100, w ∈ lw_all := lw_in wsJ100 [418, 419, 420, 421, 422, 646] (by decide +kernel) (by decide +kernel)
/-! java/lang/AbstractStringBuilder -/
def RJ11 : String := "java/lang/AbstractStringBuilder"
abbrev cJ11_init : ByteArray := prog_19_method_2_code
def yJ11_init : MethodName := ⟨RJ11, "<init>", "(I)V"⟩
abbrev cJ11_append : ByteArray := prog_19_method_22_code
def yJ11_append : MethodName := ⟨RJ11, "append", "(Ljava/lang/String;)Ljava/lang/AbstractStringBuilder;"⟩
abbrev cJ11_appendNull : ByteArray := prog_19_method_26_code
def yJ11_appendNull : MethodName := ⟨RJ11, "appendNull", "()Ljava/lang/AbstractStringBuilder;"⟩
abbrev cJ11_ensureCapacityInternal : ByteArray := prog_19_method_9_code
def yJ11_ensureCapacityInternal : MethodName := ⟨RJ11, "ensureCapacityInternal", "(I)V"⟩
abbrev cJ11_newCapacity : ByteArray := prog_19_method_10_code
def yJ11_newCapacity : MethodName := ⟨RJ11, "newCapacity", "(I)I"⟩
abbrev cJ11_isLatin1 : ByteArray := prog_19_method_68_code
def yJ11_isLatin1 : MethodName := ⟨RJ11, "isLatin1", "()Z"⟩
abbrev cJ11_putStringAt : ByteArray := prog_19_method_73_code
def yJ11_putStringAt : MethodName := ⟨RJ11, "putStringAt", "(ILjava/lang/String;)V"⟩
abbrev cJ11_inflateIfNeededFor : ByteArray := prog_19_method_71_code
def yJ11_inflateIfNeededFor : MethodName := ⟨RJ11, "inflateIfNeededFor", "(Ljava/lang/String;)V"⟩
abbrev cJ11_inflate : ByteArray := prog_19_method_11_code
def yJ11_inflate : MethodName := ⟨RJ11, "inflate", "()V"⟩
abbrev cJ11_append_2 : ByteArray := prog_19_method_32_code
def yJ11_append_2 : MethodName := ⟨RJ11, "append", "(I)Ljava/lang/AbstractStringBuilder;"⟩
abbrev cJ11_getValue : ByteArray := prog_19_method_64_code
def yJ11_getValue : MethodName := ⟨RJ11, "getValue", "()[B"⟩
abbrev cJ11_length : ByteArray := prog_19_method_6_code
def yJ11_length : MethodName := ⟨RJ11, "length", "()I"⟩
abbrev cJ11_append_3 : ByteArray := prog_19_method_31_code
def yJ11_append_3 : MethodName := ⟨RJ11, "append", "(C)Ljava/lang/AbstractStringBuilder;"⟩
theorem q129 : (Jvm.Cond.initialized "java/lang/AbstractStringBuilder") ∈ lw_all := lw_g (lw_at lw_m1 19 rfl) rfl
theorem q429 : (Jvm.Cond.instanceMethod ({ cls := "java/lang/AbstractStringBuilder", name := "<init>", desc := "(I)V" } : Jvm.MethodName)) ∈ lw_all := lw_g (lw_at lw_m2 79 rfl) rfl
theorem q430 : (Jvm.Cond.code ({ cls := "java/lang/AbstractStringBuilder", name := "<init>", desc := "(I)V" } : Jvm.MethodName) prog_19_method_2_code (2 : Nat) (Option.none : Option Jvm.ClassFile.FieldType)) ∈ lw_all := lw_g (lw_at lw_m2 80 rfl) rfl
theorem q431 : (Jvm.Cond.methodLink "java/lang/AbstractStringBuilder" (3 : Nat) ({ cls := "java/lang/Object", name := "<init>", desc := "()V" } : Jvm.MethodName)) ∈ lw_all := lw_g (lw_at lw_m2 81 rfl) rfl
theorem q432 : (Jvm.Cond.fieldLink "java/lang/AbstractStringBuilder" (18 : Nat) "java/lang/String" "COMPACT_STRINGS" "Z") ∈ lw_all := lw_g (lw_at lw_m2 82 rfl) rfl
theorem q434 : (Jvm.Cond.methodLink "java/lang/AbstractStringBuilder" (26 : Nat) ({ cls := "java/lang/StringUTF16", name := "newBytesFor", desc := "(I)[B" } : Jvm.MethodName)) ∈ lw_all := lw_g (lw_at lw_m2 84 rfl) rfl
theorem q441 : (Jvm.Cond.fieldLink "java/lang/AbstractStringBuilder" (15 : Nat) "java/lang/AbstractStringBuilder" "value" "[B") ∈ lw_all := lw_g (lw_at lw_m2 91 rfl) rfl
theorem q442 : (Jvm.Cond.fieldLink "java/lang/AbstractStringBuilder" (22 : Nat) "java/lang/AbstractStringBuilder" "coder" "B") ∈ lw_all := lw_g (lw_at lw_m2 92 rfl) rfl
theorem q444 : (Jvm.Cond.fieldLink "java/lang/AbstractStringBuilder" (79 : Nat) "java/lang/AbstractStringBuilder" "count" "I") ∈ lw_all := lw_g (lw_at lw_m2 94 rfl) rfl
theorem q446 : (Jvm.Cond.soleField "java/lang/AbstractStringBuilder" "value") ∈ lw_all := lw_g (lw_at lw_m2 96 rfl) rfl
theorem q448 : (Jvm.Cond.soleField "java/lang/AbstractStringBuilder" "coder") ∈ lw_all := lw_g (lw_at lw_m2 98 rfl) rfl
theorem q450 : (Jvm.Cond.soleField "java/lang/AbstractStringBuilder" "maybeLatin1") ∈ lw_all := lw_g (lw_at lw_m2 100 rfl) rfl
theorem q452 : (Jvm.Cond.soleField "java/lang/AbstractStringBuilder" "count") ∈ lw_all := lw_g (lw_at lw_m2 102 rfl) rfl
theorem q460 : (Jvm.Cond.instanceMethod ({ cls := "java/lang/AbstractStringBuilder", name := "append", desc := "(Ljava/lang/String;)Ljava/lang/AbstractStringBuilder;" } : Jvm.MethodName)) ∈ lw_all := lw_g (lw_at lw_m2 110 rfl) rfl
theorem q461 : (Jvm.Cond.code ({ cls := "java/lang/AbstractStringBuilder", name := "append", desc := "(Ljava/lang/String;)Ljava/lang/AbstractStringBuilder;" } : Jvm.MethodName) prog_19_method_22_code (3 : Nat) (Option.some (Jvm.ClassFile.FieldType.object "java/lang/AbstractStringBuilder"))) ∈ lw_all := lw_g (lw_at lw_m2 111 rfl) rfl
theorem q462 : (Jvm.Cond.methodLink "java/lang/AbstractStringBuilder" (204 : Nat) ({ cls := "java/lang/AbstractStringBuilder", name := "appendNull", desc := "()Ljava/lang/AbstractStringBuilder;" } : Jvm.MethodName)) ∈ lw_all := lw_g (lw_at lw_m2 112 rfl) rfl
theorem q463 : (Jvm.Cond.privateMethod ({ cls := "java/lang/AbstractStringBuilder", name := "appendNull", desc := "()Ljava/lang/AbstractStringBuilder;" } : Jvm.MethodName)) ∈ lw_tbl := lw_at lw_m2 113 rfl
theorem q464 : (Jvm.Cond.instanceMethod ({ cls := "java/lang/AbstractStringBuilder", name := "appendNull", desc := "()Ljava/lang/AbstractStringBuilder;" } : Jvm.MethodName)) ∈ lw_all := lw_g (lw_at lw_m2 114 rfl) rfl
theorem q465 : (Jvm.Cond.code ({ cls := "java/lang/AbstractStringBuilder", name := "appendNull", desc := "()Ljava/lang/AbstractStringBuilder;" } : Jvm.MethodName) prog_19_method_26_code (3 : Nat) (Option.some (Jvm.ClassFile.FieldType.object "java/lang/AbstractStringBuilder"))) ∈ lw_all := lw_g (lw_at lw_m2 115 rfl) rfl
theorem q466 : (Jvm.Cond.methodLink "java/lang/AbstractStringBuilder" (100 : Nat) ({ cls := "java/lang/AbstractStringBuilder", name := "ensureCapacityInternal", desc := "(I)V" } : Jvm.MethodName)) ∈ lw_all := lw_g (lw_at lw_m2 116 rfl) rfl
theorem q467 : (Jvm.Cond.privateMethod ({ cls := "java/lang/AbstractStringBuilder", name := "ensureCapacityInternal", desc := "(I)V" } : Jvm.MethodName)) ∈ lw_tbl := lw_at lw_m2 117 rfl
theorem q468 : (Jvm.Cond.instanceMethod ({ cls := "java/lang/AbstractStringBuilder", name := "ensureCapacityInternal", desc := "(I)V" } : Jvm.MethodName)) ∈ lw_all := lw_g (lw_at lw_m2 118 rfl) rfl
theorem q469 : (Jvm.Cond.code ({ cls := "java/lang/AbstractStringBuilder", name := "ensureCapacityInternal", desc := "(I)V" } : Jvm.MethodName) prog_19_method_9_code (3 : Nat) (Option.none : Option Jvm.ClassFile.FieldType)) ∈ lw_all := lw_g (lw_at lw_m2 119 rfl) rfl
theorem q470 : (Jvm.Cond.methodLink "java/lang/AbstractStringBuilder" (104 : Nat) ({ cls := "java/lang/AbstractStringBuilder", name := "newCapacity", desc := "(I)I" } : Jvm.MethodName)) ∈ lw_all := lw_g (lw_at lw_m2 120 rfl) rfl
theorem q471 : (Jvm.Cond.privateMethod ({ cls := "java/lang/AbstractStringBuilder", name := "newCapacity", desc := "(I)I" } : Jvm.MethodName)) ∈ lw_tbl := lw_at lw_m2 121 rfl
theorem q472 : (Jvm.Cond.instanceMethod ({ cls := "java/lang/AbstractStringBuilder", name := "newCapacity", desc := "(I)I" } : Jvm.MethodName)) ∈ lw_all := lw_g (lw_at lw_m2 122 rfl) rfl
theorem q473 : (Jvm.Cond.code ({ cls := "java/lang/AbstractStringBuilder", name := "newCapacity", desc := "(I)I" } : Jvm.MethodName) prog_19_method_10_code (6 : Nat) (Option.some Jvm.ClassFile.FieldType.int)) ∈ lw_all := lw_g (lw_at lw_m2 123 rfl) rfl
theorem q474 : (Jvm.Cond.methodLink "java/lang/AbstractStringBuilder" (114 : Nat) ({ cls := "jdk/internal/util/ArraysSupport", name := "newLength", desc := "(III)I" } : Jvm.MethodName)) ∈ lw_all := lw_g (lw_at lw_m2 124 rfl) rfl
theorem q484 : (Jvm.Cond.constant "java/lang/AbstractStringBuilder" (39 : Nat) (2147483647 : Int32)) ∈ lw_all := lw_g (lw_at lw_m2 134 rfl) rfl
theorem q485 : (Jvm.Cond.methodLink "java/lang/AbstractStringBuilder" (108 : Nat) ({ cls := "java/util/Arrays", name := "copyOf", desc := "([BI)[B" } : Jvm.MethodName)) ∈ lw_all := lw_g (lw_at lw_m2 135 rfl) rfl
theorem q501 : (Jvm.Cond.methodLink "java/lang/AbstractStringBuilder" (83 : Nat) ({ cls := "java/lang/AbstractStringBuilder", name := "isLatin1", desc := "()Z" } : Jvm.MethodName)) ∈ lw_all := lw_g (lw_at lw_m2 151 rfl) rfl
theorem q502 : (Jvm.Cond.instanceMethod ({ cls := "java/lang/AbstractStringBuilder", name := "isLatin1", desc := "()Z" } : Jvm.MethodName)) ∈ lw_all := lw_g (lw_at lw_m2 152 rfl) rfl
theorem q503 : (Jvm.Cond.sameMethod "java/lang/AbstractStringBuilder" "java/lang/AbstractStringBuilder" "isLatin1" "()Z") ∈ lw_all := lw_g (lw_at lw_m2 153 rfl) rfl
theorem q505 : (Jvm.Cond.code ({ cls := "java/lang/AbstractStringBuilder", name := "isLatin1", desc := "()Z" } : Jvm.MethodName) prog_19_method_68_code (1 : Nat) (Option.some Jvm.ClassFile.FieldType.boolean)) ∈ lw_all := lw_g (lw_at lw_m2 155 rfl) rfl
theorem q506 : (Jvm.Cond.methodLink "java/lang/AbstractStringBuilder" (226 : Nat) ({ cls := "java/lang/StringUTF16", name := "putCharsAt", desc := "([BICCCC)I" } : Jvm.MethodName)) ∈ lw_all := lw_g (lw_at lw_m2 156 rfl) rfl
theorem q532 : (Jvm.Cond.methodLink "java/lang/AbstractStringBuilder" (32 : Nat) ({ cls := "java/lang/String", name := "length", desc := "()I" } : Jvm.MethodName)) ∈ lw_all := lw_g (lw_at lw_m2 182 rfl) rfl
theorem q541 : (Jvm.Cond.methodLink "java/lang/AbstractStringBuilder" (208 : Nat) ({ cls := "java/lang/AbstractStringBuilder", name := "putStringAt", desc := "(ILjava/lang/String;)V" } : Jvm.MethodName)) ∈ lw_all := lw_g (lw_at lw_m2 191 rfl) rfl
theorem q542 : (Jvm.Cond.privateMethod ({ cls := "java/lang/AbstractStringBuilder", name := "putStringAt", desc := "(ILjava/lang/String;)V" } : Jvm.MethodName)) ∈ lw_tbl := lw_at lw_m2 192 rfl
theorem q543 : (Jvm.Cond.instanceMethod ({ cls := "java/lang/AbstractStringBuilder", name := "putStringAt", desc := "(ILjava/lang/String;)V" } : Jvm.MethodName)) ∈ lw_all := lw_g (lw_at lw_m2 193 rfl) rfl
theorem q544 : (Jvm.Cond.code ({ cls := "java/lang/AbstractStringBuilder", name := "putStringAt", desc := "(ILjava/lang/String;)V" } : Jvm.MethodName) prog_19_method_73_code (3 : Nat) (Option.none : Option Jvm.ClassFile.FieldType)) ∈ lw_all := lw_g (lw_at lw_m2 194 rfl) rfl
theorem q545 : (Jvm.Cond.methodLink "java/lang/AbstractStringBuilder" (397 : Nat) ({ cls := "java/lang/AbstractStringBuilder", name := "inflateIfNeededFor", desc := "(Ljava/lang/String;)V" } : Jvm.MethodName)) ∈ lw_all := lw_g (lw_at lw_m2 195 rfl) rfl
theorem q546 : (Jvm.Cond.privateMethod ({ cls := "java/lang/AbstractStringBuilder", name := "inflateIfNeededFor", desc := "(Ljava/lang/String;)V" } : Jvm.MethodName)) ∈ lw_tbl := lw_at lw_m2 196 rfl
theorem q547 : (Jvm.Cond.instanceMethod ({ cls := "java/lang/AbstractStringBuilder", name := "inflateIfNeededFor", desc := "(Ljava/lang/String;)V" } : Jvm.MethodName)) ∈ lw_all := lw_g (lw_at lw_m2 197 rfl) rfl
theorem q548 : (Jvm.Cond.code ({ cls := "java/lang/AbstractStringBuilder", name := "inflateIfNeededFor", desc := "(Ljava/lang/String;)V" } : Jvm.MethodName) prog_19_method_71_code (2 : Nat) (Option.none : Option Jvm.ClassFile.FieldType)) ∈ lw_all := lw_g (lw_at lw_m2 198 rfl) rfl
theorem q549 : (Jvm.Cond.methodLink "java/lang/AbstractStringBuilder" (40 : Nat) ({ cls := "java/lang/String", name := "coder", desc := "()B" } : Jvm.MethodName)) ∈ lw_all := lw_g (lw_at lw_m2 199 rfl) rfl
theorem q550 : (Jvm.Cond.methodLink "java/lang/AbstractStringBuilder" (195 : Nat) ({ cls := "java/lang/AbstractStringBuilder", name := "inflate", desc := "()V" } : Jvm.MethodName)) ∈ lw_all := lw_g (lw_at lw_m2 200 rfl) rfl
theorem q551 : (Jvm.Cond.privateMethod ({ cls := "java/lang/AbstractStringBuilder", name := "inflate", desc := "()V" } : Jvm.MethodName)) ∈ lw_tbl := lw_at lw_m2 201 rfl
theorem q552 : (Jvm.Cond.instanceMethod ({ cls := "java/lang/AbstractStringBuilder", name := "inflate", desc := "()V" } : Jvm.MethodName)) ∈ lw_all := lw_g (lw_at lw_m2 202 rfl) rfl
theorem q553 : (Jvm.Cond.code ({ cls := "java/lang/AbstractStringBuilder", name := "inflate", desc := "()V" } : Jvm.MethodName) prog_19_method_11_code (2 : Nat) (Option.none : Option Jvm.ClassFile.FieldType)) ∈ lw_all := lw_g (lw_at lw_m2 203 rfl) rfl
theorem q554 : (Jvm.Cond.methodLink "java/lang/AbstractStringBuilder" (125 : Nat) ({ cls := "java/lang/StringLatin1", name := "inflate", desc := "([BI[BII)V" } : Jvm.MethodName)) ∈ lw_all := lw_g (lw_at lw_m2 204 rfl) rfl
theorem q569 : (Jvm.Cond.methodLink "java/lang/AbstractStringBuilder" (399 : Nat) ({ cls := "java/lang/String", name := "getBytes", desc := "([BIB)V" } : Jvm.MethodName)) ∈ lw_all := lw_g (lw_at lw_m2 219 rfl) rfl
theorem q580 : (Jvm.Cond.instanceMethod ({ cls := "java/lang/AbstractStringBuilder", name := "append", desc := "(I)Ljava/lang/AbstractStringBuilder;" } : Jvm.MethodName)) ∈ lw_all := lw_g (lw_at lw_m2 230 rfl) rfl
theorem q581 : (Jvm.Cond.code ({ cls := "java/lang/AbstractStringBuilder", name := "append", desc := "(I)Ljava/lang/AbstractStringBuilder;" } : Jvm.MethodName) prog_19_method_32_code (4 : Nat) (Option.some (Jvm.ClassFile.FieldType.object "java/lang/AbstractStringBuilder"))) ∈ lw_all := lw_g (lw_at lw_m2 231 rfl) rfl
theorem q582 : (Jvm.Cond.methodLink "java/lang/AbstractStringBuilder" (245 : Nat) ({ cls := "java/lang/Integer", name := "stringSize", desc := "(I)I" } : Jvm.MethodName)) ∈ lw_all := lw_g (lw_at lw_m2 232 rfl) rfl
theorem q585 : (Jvm.Cond.methodLink "java/lang/AbstractStringBuilder" (248 : Nat) ({ cls := "java/lang/Integer", name := "getChars", desc := "(II[B)I" } : Jvm.MethodName)) ∈ lw_all := lw_g (lw_at lw_m2 235 rfl) rfl
theorem q592 : (Jvm.Cond.methodLink "java/lang/AbstractStringBuilder" (251 : Nat) ({ cls := "java/lang/StringUTF16", name := "getChars", desc := "(III[B)I" } : Jvm.MethodName)) ∈ lw_all := lw_g (lw_at lw_m3 2 rfl) rfl
theorem q613 : (Jvm.Cond.instanceMethod ({ cls := "java/lang/AbstractStringBuilder", name := "getValue", desc := "()[B" } : Jvm.MethodName)) ∈ lw_all := lw_g (lw_at lw_m3 23 rfl) rfl
theorem q614 : (Jvm.Cond.sameMethod "java/lang/AbstractStringBuilder" "java/lang/AbstractStringBuilder" "getValue" "()[B") ∈ lw_all := lw_g (lw_at lw_m3 24 rfl) rfl
theorem q616 : (Jvm.Cond.code ({ cls := "java/lang/AbstractStringBuilder", name := "getValue", desc := "()[B" } : Jvm.MethodName) prog_19_method_64_code (1 : Nat) (Option.some (Jvm.ClassFile.FieldType.array Jvm.ClassFile.FieldType.byte))) ∈ lw_all := lw_g (lw_at lw_m3 26 rfl) rfl
theorem q618 : (Jvm.Cond.instanceMethod ({ cls := "java/lang/AbstractStringBuilder", name := "length", desc := "()I" } : Jvm.MethodName)) ∈ lw_all := lw_g (lw_at lw_m3 28 rfl) rfl
theorem q619 : (Jvm.Cond.sameMethod "java/lang/AbstractStringBuilder" "java/lang/AbstractStringBuilder" "length" "()I") ∈ lw_all := lw_g (lw_at lw_m3 29 rfl) rfl
theorem q624 : (Jvm.Cond.code ({ cls := "java/lang/AbstractStringBuilder", name := "length", desc := "()I" } : Jvm.MethodName) prog_19_method_6_code (1 : Nat) (Option.some Jvm.ClassFile.FieldType.int)) ∈ lw_all := lw_g (lw_at lw_m3 34 rfl) rfl
theorem q765 : (Jvm.Cond.instanceMethod ({ cls := "java/lang/AbstractStringBuilder", name := "append", desc := "(C)Ljava/lang/AbstractStringBuilder;" } : Jvm.MethodName)) ∈ lw_all := lw_g (lw_at lw_m3 175 rfl) rfl
theorem q766 : (Jvm.Cond.code ({ cls := "java/lang/AbstractStringBuilder", name := "append", desc := "(C)Ljava/lang/AbstractStringBuilder;" } : Jvm.MethodName) prog_19_method_31_code (2 : Nat) (Option.some (Jvm.ClassFile.FieldType.object "java/lang/AbstractStringBuilder"))) ∈ lw_all := lw_g (lw_at lw_m3 176 rfl) rfl
theorem q767 : (Jvm.Cond.methodLink "java/lang/AbstractStringBuilder" (191 : Nat) ({ cls := "java/lang/StringLatin1", name := "canEncode", desc := "(C)Z" } : Jvm.MethodName)) ∈ lw_all := lw_g (lw_at lw_m3 177 rfl) rfl
theorem q770 : (Jvm.Cond.methodLink "java/lang/AbstractStringBuilder" (197 : Nat) ({ cls := "java/lang/StringUTF16", name := "putCharSB", desc := "([BII)V" } : Jvm.MethodName)) ∈ lw_all := lw_g (lw_at lw_m3 180 rfl) rfl
theorem q2427 : (Jvm.Cond.sameMethod "java/lang/AbstractStringBuilder" "java/lang/AbstractStringBuilder" "append" "(Ljava/lang/String;)Ljava/lang/AbstractStringBuilder;") ∈ lw_all := lw_g (lw_at lw_m10 157 rfl) rfl
theorem q2428 : (Jvm.Cond.sameMethod "java/lang/AbstractStringBuilder" "java/lang/AbstractStringBuilder" "appendNull" "()Ljava/lang/AbstractStringBuilder;") ∈ lw_all := lw_g (lw_at lw_m10 158 rfl) rfl
theorem q2429 : (Jvm.Cond.sameMethod "java/lang/AbstractStringBuilder" "java/lang/AbstractStringBuilder" "ensureCapacityInternal" "(I)V") ∈ lw_all := lw_g (lw_at lw_m10 159 rfl) rfl
theorem q2430 : (Jvm.Cond.sameMethod "java/lang/AbstractStringBuilder" "java/lang/AbstractStringBuilder" "newCapacity" "(I)I") ∈ lw_all := lw_g (lw_at lw_m10 160 rfl) rfl
theorem q2431 : (Jvm.Cond.sameMethod "java/lang/AbstractStringBuilder" "java/lang/AbstractStringBuilder" "putStringAt" "(ILjava/lang/String;)V") ∈ lw_all := lw_g (lw_at lw_m10 161 rfl) rfl
theorem q2432 : (Jvm.Cond.sameMethod "java/lang/AbstractStringBuilder" "java/lang/AbstractStringBuilder" "inflateIfNeededFor" "(Ljava/lang/String;)V") ∈ lw_all := lw_g (lw_at lw_m10 162 rfl) rfl
theorem q2433 : (Jvm.Cond.sameMethod "java/lang/AbstractStringBuilder" "java/lang/AbstractStringBuilder" "inflate" "()V") ∈ lw_all := lw_g (lw_at lw_m10 163 rfl) rfl
theorem q2434 : (Jvm.Cond.sameMethod "java/lang/AbstractStringBuilder" "java/lang/AbstractStringBuilder" "append" "(I)Ljava/lang/AbstractStringBuilder;") ∈ lw_all := lw_g (lw_at lw_m10 164 rfl) rfl
theorem q2435 : (Jvm.Cond.sameMethod "java/lang/AbstractStringBuilder" "java/lang/AbstractStringBuilder" "append" "(C)Ljava/lang/AbstractStringBuilder;") ∈ lw_all := lw_g (lw_at lw_m10 165 rfl) rfl
/-! java/lang/StringBuilder -/
def RJ12 : String := "java/lang/StringBuilder"
def TJ12 : u_T := fun k => match k with
  | 0 => ("java/lang/AbstractStringBuilder", "value", "[B", false)
  | 1 => ("java/lang/AbstractStringBuilder", "coder", "B", false)
  | 2 => ("java/lang/AbstractStringBuilder", "maybeLatin1", "Z", false)
  | _ => ("java/lang/AbstractStringBuilder", "count", "I", false)
def tyJ12 : Nat → FieldType := fun k => match k with
  | 0 => .array .byte
  | 1 => .byte
  | 2 => .boolean
  | _ => .int
abbrev wsJ120 : List Cond := u_ws RJ12 TJ12 4
theorem nmJ12 : ∀ a, a < 4 → ∀ b, b < 4 → a ≠ b → (TJ12 a).2.1 ≠ (TJ12 b).2.1 := by decide +kernel
theorem tyJ12_ok : ∀ k, k < 4 → parseFieldDescriptor (TJ12 k).2.2.1 = some (tyJ12 k) := by decide +kernel
abbrev cJ12_init : ByteArray := prog_36_method_1_code
def yJ12_init : MethodName := ⟨RJ12, "<init>", "()V"⟩
abbrev cJ12_append : ByteArray := prog_36_method_7_code
def yJ12_append : MethodName := ⟨RJ12, "append", "(Ljava/lang/String;)Ljava/lang/StringBuilder;"⟩
abbrev cJ12_append_2 : ByteArray := prog_36_method_15_code
def yJ12_append_2 : MethodName := ⟨RJ12, "append", "(I)Ljava/lang/StringBuilder;"⟩
abbrev cJ12_toString : ByteArray := prog_36_method_42_code
def yJ12_toString : MethodName := ⟨RJ12, "toString", "()Ljava/lang/String;"⟩
abbrev cJ12_length : ByteArray := prog_36_method_93_code
def yJ12_length : MethodName := ⟨RJ12, "length", "()I"⟩
abbrev cJ12_init_2 : ByteArray := prog_36_method_2_code
def yJ12_init_2 : MethodName := ⟨RJ12, "<init>", "(I)V"⟩
abbrev cJ12_append_3 : ByteArray := prog_36_method_14_code
def yJ12_append_3 : MethodName := ⟨RJ12, "append", "(C)Ljava/lang/StringBuilder;"⟩
theorem q130 : (Jvm.Cond.initialized "java/lang/StringBuilder") ∈ lw_all := lw_g (lw_at lw_m1 20 rfl) rfl
theorem q424 : (Jvm.Cond.instantiable "java/lang/StringBuilder" (4 : Nat)) ∈ lw_all := lw_g (lw_at lw_m2 74 rfl) rfl
theorem q426 : (Jvm.Cond.instanceMethod ({ cls := "java/lang/StringBuilder", name := "<init>", desc := "()V" } : Jvm.MethodName)) ∈ lw_all := lw_g (lw_at lw_m2 76 rfl) rfl
theorem q427 : (Jvm.Cond.code ({ cls := "java/lang/StringBuilder", name := "<init>", desc := "()V" } : Jvm.MethodName) prog_36_method_1_code (1 : Nat) (Option.none : Option Jvm.ClassFile.FieldType)) ∈ lw_all := lw_g (lw_at lw_m2 77 rfl) rfl
theorem q428 : (Jvm.Cond.methodLink "java/lang/StringBuilder" (1 : Nat) ({ cls := "java/lang/AbstractStringBuilder", name := "<init>", desc := "(I)V" } : Jvm.MethodName)) ∈ lw_all := lw_g (lw_at lw_m2 78 rfl) rfl
theorem q445 : (Jvm.Cond.lays "java/lang/StringBuilder" "java/lang/AbstractStringBuilder" "value" "[B") ∈ lw_all := lw_g (lw_at lw_m2 95 rfl) rfl
theorem q447 : (Jvm.Cond.lays "java/lang/StringBuilder" "java/lang/AbstractStringBuilder" "coder" "B") ∈ lw_all := lw_g (lw_at lw_m2 97 rfl) rfl
theorem q449 : (Jvm.Cond.lays "java/lang/StringBuilder" "java/lang/AbstractStringBuilder" "maybeLatin1" "Z") ∈ lw_all := lw_g (lw_at lw_m2 99 rfl) rfl
theorem q451 : (Jvm.Cond.lays "java/lang/StringBuilder" "java/lang/AbstractStringBuilder" "count" "I") ∈ lw_all := lw_g (lw_at lw_m2 101 rfl) rfl
theorem q453 : (Jvm.Cond.superclass "java/lang/StringBuilder" "java/lang/AbstractStringBuilder") ∈ lw_all := lw_g (lw_at lw_m2 103 rfl) rfl
theorem q456 : (Jvm.Cond.instanceMethod ({ cls := "java/lang/StringBuilder", name := "append", desc := "(Ljava/lang/String;)Ljava/lang/StringBuilder;" } : Jvm.MethodName)) ∈ lw_all := lw_g (lw_at lw_m2 106 rfl) rfl
theorem q457 : (Jvm.Cond.selects "java/lang/StringBuilder" ({ cls := "java/lang/StringBuilder", name := "append", desc := "(Ljava/lang/String;)Ljava/lang/StringBuilder;" } : Jvm.MethodName) ({ cls := "java/lang/StringBuilder", name := "append", desc := "(Ljava/lang/String;)Ljava/lang/StringBuilder;" } : Jvm.MethodName)) ∈ lw_all := lw_g (lw_at lw_m2 107 rfl) rfl
theorem q458 : (Jvm.Cond.code ({ cls := "java/lang/StringBuilder", name := "append", desc := "(Ljava/lang/String;)Ljava/lang/StringBuilder;" } : Jvm.MethodName) prog_36_method_7_code (2 : Nat) (Option.some (Jvm.ClassFile.FieldType.object "java/lang/StringBuilder"))) ∈ lw_all := lw_g (lw_at lw_m2 108 rfl) rfl
theorem q459 : (Jvm.Cond.methodLink "java/lang/StringBuilder" (29 : Nat) ({ cls := "java/lang/AbstractStringBuilder", name := "append", desc := "(Ljava/lang/String;)Ljava/lang/AbstractStringBuilder;" } : Jvm.MethodName)) ∈ lw_all := lw_g (lw_at lw_m2 109 rfl) rfl
theorem q504 : (Jvm.Cond.selects "java/lang/StringBuilder" ({ cls := "java/lang/AbstractStringBuilder", name := "isLatin1", desc := "()Z" } : Jvm.MethodName) ({ cls := "java/lang/AbstractStringBuilder", name := "isLatin1", desc := "()Z" } : Jvm.MethodName)) ∈ lw_all := lw_g (lw_at lw_m2 154 rfl) rfl
theorem q576 : (Jvm.Cond.instanceMethod ({ cls := "java/lang/StringBuilder", name := "append", desc := "(I)Ljava/lang/StringBuilder;" } : Jvm.MethodName)) ∈ lw_all := lw_g (lw_at lw_m2 226 rfl) rfl
theorem q577 : (Jvm.Cond.selects "java/lang/StringBuilder" ({ cls := "java/lang/StringBuilder", name := "append", desc := "(I)Ljava/lang/StringBuilder;" } : Jvm.MethodName) ({ cls := "java/lang/StringBuilder", name := "append", desc := "(I)Ljava/lang/StringBuilder;" } : Jvm.MethodName)) ∈ lw_all := lw_g (lw_at lw_m2 227 rfl) rfl
theorem q578 : (Jvm.Cond.code ({ cls := "java/lang/StringBuilder", name := "append", desc := "(I)Ljava/lang/StringBuilder;" } : Jvm.MethodName) prog_36_method_15_code (2 : Nat) (Option.some (Jvm.ClassFile.FieldType.object "java/lang/StringBuilder"))) ∈ lw_all := lw_g (lw_at lw_m2 228 rfl) rfl
theorem q579 : (Jvm.Cond.methodLink "java/lang/StringBuilder" (53 : Nat) ({ cls := "java/lang/AbstractStringBuilder", name := "append", desc := "(I)Ljava/lang/AbstractStringBuilder;" } : Jvm.MethodName)) ∈ lw_all := lw_g (lw_at lw_m2 229 rfl) rfl
theorem q601 : (Jvm.Cond.instanceMethod ({ cls := "java/lang/StringBuilder", name := "toString", desc := "()Ljava/lang/String;" } : Jvm.MethodName)) ∈ lw_all := lw_g (lw_at lw_m3 11 rfl) rfl
theorem q602 : (Jvm.Cond.selects "java/lang/StringBuilder" ({ cls := "java/lang/StringBuilder", name := "toString", desc := "()Ljava/lang/String;" } : Jvm.MethodName) ({ cls := "java/lang/StringBuilder", name := "toString", desc := "()Ljava/lang/String;" } : Jvm.MethodName)) ∈ lw_all := lw_g (lw_at lw_m3 12 rfl) rfl
theorem q603 : (Jvm.Cond.code ({ cls := "java/lang/StringBuilder", name := "toString", desc := "()Ljava/lang/String;" } : Jvm.MethodName) prog_36_method_42_code (1 : Nat) (Option.some (Jvm.ClassFile.FieldType.object "java/lang/String"))) ∈ lw_all := lw_g (lw_at lw_m3 13 rfl) rfl
theorem q604 : (Jvm.Cond.classLink "java/lang/StringBuilder" (18 : Nat) "java/lang/String") ∈ lw_all := lw_g (lw_at lw_m3 14 rfl) rfl
theorem q605 : (Jvm.Cond.methodLink "java/lang/StringBuilder" (137 : Nat) ({ cls := "java/lang/String", name := "<init>", desc := "(Ljava/lang/StringBuilder;)V" } : Jvm.MethodName)) ∈ lw_all := lw_g (lw_at lw_m3 15 rfl) rfl
theorem q615 : (Jvm.Cond.selects "java/lang/StringBuilder" ({ cls := "java/lang/AbstractStringBuilder", name := "getValue", desc := "()[B" } : Jvm.MethodName) ({ cls := "java/lang/AbstractStringBuilder", name := "getValue", desc := "()[B" } : Jvm.MethodName)) ∈ lw_all := lw_g (lw_at lw_m3 25 rfl) rfl
theorem q620 : (Jvm.Cond.selects "java/lang/StringBuilder" ({ cls := "java/lang/AbstractStringBuilder", name := "length", desc := "()I" } : Jvm.MethodName) ({ cls := "java/lang/StringBuilder", name := "length", desc := "()I" } : Jvm.MethodName)) ∈ lw_all := lw_g (lw_at lw_m3 30 rfl) rfl
theorem q621 : (Jvm.Cond.instanceMethod ({ cls := "java/lang/StringBuilder", name := "length", desc := "()I" } : Jvm.MethodName)) ∈ lw_all := lw_g (lw_at lw_m3 31 rfl) rfl
theorem q622 : (Jvm.Cond.code ({ cls := "java/lang/StringBuilder", name := "length", desc := "()I" } : Jvm.MethodName) prog_36_method_93_code (1 : Nat) (Option.some Jvm.ClassFile.FieldType.int)) ∈ lw_all := lw_g (lw_at lw_m3 32 rfl) rfl
theorem q623 : (Jvm.Cond.methodLink "java/lang/StringBuilder" (343 : Nat) ({ cls := "java/lang/AbstractStringBuilder", name := "length", desc := "()I" } : Jvm.MethodName)) ∈ lw_all := lw_g (lw_at lw_m3 33 rfl) rfl
theorem q758 : (Jvm.Cond.instanceMethod ({ cls := "java/lang/StringBuilder", name := "<init>", desc := "(I)V" } : Jvm.MethodName)) ∈ lw_all := lw_g (lw_at lw_m3 168 rfl) rfl
theorem q759 : (Jvm.Cond.code ({ cls := "java/lang/StringBuilder", name := "<init>", desc := "(I)V" } : Jvm.MethodName) prog_36_method_2_code (2 : Nat) (Option.none : Option Jvm.ClassFile.FieldType)) ∈ lw_all := lw_g (lw_at lw_m3 169 rfl) rfl
theorem q761 : (Jvm.Cond.instanceMethod ({ cls := "java/lang/StringBuilder", name := "append", desc := "(C)Ljava/lang/StringBuilder;" } : Jvm.MethodName)) ∈ lw_all := lw_g (lw_at lw_m3 171 rfl) rfl
theorem q762 : (Jvm.Cond.selects "java/lang/StringBuilder" ({ cls := "java/lang/StringBuilder", name := "append", desc := "(C)Ljava/lang/StringBuilder;" } : Jvm.MethodName) ({ cls := "java/lang/StringBuilder", name := "append", desc := "(C)Ljava/lang/StringBuilder;" } : Jvm.MethodName)) ∈ lw_all := lw_g (lw_at lw_m3 172 rfl) rfl
theorem q763 : (Jvm.Cond.code ({ cls := "java/lang/StringBuilder", name := "append", desc := "(C)Ljava/lang/StringBuilder;" } : Jvm.MethodName) prog_36_method_14_code (2 : Nat) (Option.some (Jvm.ClassFile.FieldType.object "java/lang/StringBuilder"))) ∈ lw_all := lw_g (lw_at lw_m3 173 rfl) rfl
theorem q764 : (Jvm.Cond.methodLink "java/lang/StringBuilder" (50 : Nat) ({ cls := "java/lang/AbstractStringBuilder", name := "append", desc := "(C)Ljava/lang/AbstractStringBuilder;" } : Jvm.MethodName)) ∈ lw_all := lw_g (lw_at lw_m3 174 rfl) rfl
theorem q957 : (Jvm.Cond.selects "java/lang/StringBuilder" ({ cls := "java/lang/Object", name := "getClass", desc := "()Ljava/lang/Class;" } : Jvm.MethodName) ({ cls := "java/lang/Object", name := "getClass", desc := "()Ljava/lang/Class;" } : Jvm.MethodName)) ∈ lw_all := lw_g (lw_at lw_m4 127 rfl) rfl
theorem q2436 : (Jvm.Cond.selects "java/lang/StringBuilder" ({ cls := "java/lang/StringBuilder", name := "length", desc := "()I" } : Jvm.MethodName) ({ cls := "java/lang/StringBuilder", name := "length", desc := "()I" } : Jvm.MethodName)) ∈ lw_all := lw_g (lw_at lw_m10 166 rfl) rfl
theorem q2452 : (Jvm.Cond.castable "java/lang/StringBuilder" "java/lang/Object") ∈ lw_tbl := lw_at lw_m10 182 rfl
theorem in_J12 : ∀ w ∈ wsJ120, w ∈ lw_all := lw_in wsJ120 [445, 447, 449, 451] (by decide +kernel) (by decide +kernel)
/-! java/lang/StringUTF16 -/
def RJ13 : String := "java/lang/StringUTF16"
abbrev cJ13_newBytesFor : ByteArray := prog_38_method_2_code
def yJ13_newBytesFor : MethodName := ⟨RJ13, "newBytesFor", "(I)[B"⟩
abbrev cJ13_newBytesLength : ByteArray := prog_38_method_3_code
def yJ13_newBytesLength : MethodName := ⟨RJ13, "newBytesLength", "(I)I"⟩
abbrev cJ13_putCharsAt : ByteArray := prog_38_method_81_code
def yJ13_putCharsAt : MethodName := ⟨RJ13, "putCharsAt", "([BICCCC)I"⟩
abbrev cJ13_checkBoundsBeginEnd : ByteArray := prog_38_method_93_code
def yJ13_checkBoundsBeginEnd : MethodName := ⟨RJ13, "checkBoundsBeginEnd", "(II[B)V"⟩
abbrev cJ13_length : ByteArray := prog_38_method_6_code
def yJ13_length : MethodName := ⟨RJ13, "length", "([B)I"⟩
abbrev cJ13_putChar : ByteArray := prog_38_method_4_code
def yJ13_putChar : MethodName := ⟨RJ13, "putChar", "([BII)V"⟩
abbrev cJ13_inflate : ByteArray := prog_38_method_86_code
def yJ13_inflate : MethodName := ⟨RJ13, "inflate", "([BI[BII)V"⟩
abbrev cJ13_checkBoundsOffCount : ByteArray := prog_38_method_94_code
def yJ13_checkBoundsOffCount : MethodName := ⟨RJ13, "checkBoundsOffCount", "(II[B)V"⟩
abbrev cJ13_getChars : ByteArray := prog_38_method_77_code
def yJ13_getChars : MethodName := ⟨RJ13, "getChars", "(III[B)I"⟩
abbrev cJ13_getChars_2 : ByteArray := prog_38_method_89_code
def yJ13_getChars_2 : MethodName := ⟨RJ13, "getChars", "(II[B)I"⟩
abbrev cJ13_compress : ByteArray := prog_38_method_17_code
def yJ13_compress : MethodName := ⟨RJ13, "compress", "([BII)[B"⟩
abbrev cJ13_compress_2 : ByteArray := prog_38_method_22_code
def yJ13_compress_2 : MethodName := ⟨RJ13, "compress", "([BI[BII)I"⟩
abbrev cJ13_getChar : ByteArray := prog_38_method_5_code
def yJ13_getChar : MethodName := ⟨RJ13, "getChar", "([BI)C"⟩
abbrev cJ13_coderFromArrayLen : ByteArray := prog_38_method_15_code
def yJ13_coderFromArrayLen : MethodName := ⟨RJ13, "coderFromArrayLen", "([BI)B"⟩
abbrev cJ13_putCharSB : ByteArray := prog_38_method_71_code
def yJ13_putCharSB : MethodName := ⟨RJ13, "putCharSB", "([BII)V"⟩
abbrev cJ13_checkIndex : ByteArray := prog_38_method_91_code
def yJ13_checkIndex : MethodName := ⟨RJ13, "checkIndex", "(I[B)V"⟩
abbrev cJ13_charAt : ByteArray := prog_38_method_83_code
def yJ13_charAt : MethodName := ⟨RJ13, "charAt", "([BI)C"⟩
theorem q131 : (Jvm.Cond.initialized "java/lang/StringUTF16") ∈ lw_all := lw_g (lw_at lw_m1 21 rfl) rfl
theorem q435 : (Jvm.Cond.static ({ cls := "java/lang/StringUTF16", name := "newBytesFor", desc := "(I)[B" } : Jvm.MethodName)) ∈ lw_all := lw_g (lw_at lw_m2 85 rfl) rfl
theorem q436 : (Jvm.Cond.code ({ cls := "java/lang/StringUTF16", name := "newBytesFor", desc := "(I)[B" } : Jvm.MethodName) prog_38_method_2_code (1 : Nat) (Option.some (Jvm.ClassFile.FieldType.array Jvm.ClassFile.FieldType.byte))) ∈ lw_all := lw_g (lw_at lw_m2 86 rfl) rfl
theorem q437 : (Jvm.Cond.methodLink "java/lang/StringUTF16" (11 : Nat) ({ cls := "java/lang/StringUTF16", name := "newBytesLength", desc := "(I)I" } : Jvm.MethodName)) ∈ lw_all := lw_g (lw_at lw_m2 87 rfl) rfl
theorem q438 : (Jvm.Cond.static ({ cls := "java/lang/StringUTF16", name := "newBytesLength", desc := "(I)I" } : Jvm.MethodName)) ∈ lw_all := lw_g (lw_at lw_m2 88 rfl) rfl
theorem q439 : (Jvm.Cond.code ({ cls := "java/lang/StringUTF16", name := "newBytesLength", desc := "(I)I" } : Jvm.MethodName) prog_38_method_3_code (1 : Nat) (Option.some Jvm.ClassFile.FieldType.int)) ∈ lw_all := lw_g (lw_at lw_m2 89 rfl) rfl
theorem q440 : (Jvm.Cond.constant "java/lang/StringUTF16" (20 : Nat) (1073741823 : Int32)) ∈ lw_all := lw_g (lw_at lw_m2 90 rfl) rfl
theorem q507 : (Jvm.Cond.static ({ cls := "java/lang/StringUTF16", name := "putCharsAt", desc := "([BICCCC)I" } : Jvm.MethodName)) ∈ lw_all := lw_g (lw_at lw_m2 157 rfl) rfl
theorem q508 : (Jvm.Cond.code ({ cls := "java/lang/StringUTF16", name := "putCharsAt", desc := "([BICCCC)I" } : Jvm.MethodName) prog_38_method_81_code (7 : Nat) (Option.some Jvm.ClassFile.FieldType.int)) ∈ lw_all := lw_g (lw_at lw_m2 158 rfl) rfl
theorem q509 : (Jvm.Cond.methodLink "java/lang/StringUTF16" (96 : Nat) ({ cls := "java/lang/StringUTF16", name := "checkBoundsBeginEnd", desc := "(II[B)V" } : Jvm.MethodName)) ∈ lw_all := lw_g (lw_at lw_m2 159 rfl) rfl
theorem q510 : (Jvm.Cond.static ({ cls := "java/lang/StringUTF16", name := "checkBoundsBeginEnd", desc := "(II[B)V" } : Jvm.MethodName)) ∈ lw_all := lw_g (lw_at lw_m2 160 rfl) rfl
theorem q511 : (Jvm.Cond.code ({ cls := "java/lang/StringUTF16", name := "checkBoundsBeginEnd", desc := "(II[B)V" } : Jvm.MethodName) prog_38_method_93_code (3 : Nat) (Option.none : Option Jvm.ClassFile.FieldType)) ∈ lw_all := lw_g (lw_at lw_m2 161 rfl) rfl
theorem q512 : (Jvm.Cond.methodLink "java/lang/StringUTF16" (48 : Nat) ({ cls := "java/lang/StringUTF16", name := "length", desc := "([B)I" } : Jvm.MethodName)) ∈ lw_all := lw_g (lw_at lw_m2 162 rfl) rfl
theorem q513 : (Jvm.Cond.static ({ cls := "java/lang/StringUTF16", name := "length", desc := "([B)I" } : Jvm.MethodName)) ∈ lw_all := lw_g (lw_at lw_m2 163 rfl) rfl
theorem q514 : (Jvm.Cond.code ({ cls := "java/lang/StringUTF16", name := "length", desc := "([B)I" } : Jvm.MethodName) prog_38_method_6_code (1 : Nat) (Option.some Jvm.ClassFile.FieldType.int)) ∈ lw_all := lw_g (lw_at lw_m2 164 rfl) rfl
theorem q515 : (Jvm.Cond.methodLink "java/lang/StringUTF16" (241 : Nat) ({ cls := "java/lang/String", name := "checkBoundsBeginEnd", desc := "(III)V" } : Jvm.MethodName)) ∈ lw_all := lw_g (lw_at lw_m2 165 rfl) rfl
theorem q523 : (Jvm.Cond.methodLink "java/lang/StringUTF16" (111 : Nat) ({ cls := "java/lang/StringUTF16", name := "putChar", desc := "([BII)V" } : Jvm.MethodName)) ∈ lw_all := lw_g (lw_at lw_m2 173 rfl) rfl
theorem q524 : (Jvm.Cond.static ({ cls := "java/lang/StringUTF16", name := "putChar", desc := "([BII)V" } : Jvm.MethodName)) ∈ lw_all := lw_g (lw_at lw_m2 174 rfl) rfl
theorem q525 : (Jvm.Cond.code ({ cls := "java/lang/StringUTF16", name := "putChar", desc := "([BII)V" } : Jvm.MethodName) prog_38_method_4_code (3 : Nat) (Option.none : Option Jvm.ClassFile.FieldType)) ∈ lw_all := lw_g (lw_at lw_m2 175 rfl) rfl
theorem q526 : (Jvm.Cond.fieldLink "java/lang/StringUTF16" (44 : Nat) "java/lang/StringUTF16" "$assertionsDisabled" "Z") ∈ lw_all := lw_g (lw_at lw_m2 176 rfl) rfl
theorem q527 : (Jvm.Cond.laysStatic "java/lang/StringUTF16" "$assertionsDisabled" "Z") ∈ lw_tbl := lw_at lw_m2 177 rfl
theorem q528 : (Jvm.Cond.fieldLink "java/lang/StringUTF16" (59 : Nat) "java/lang/StringUTF16" "HI_BYTE_SHIFT" "I") ∈ lw_all := lw_g (lw_at lw_m2 178 rfl) rfl
theorem q529 : (Jvm.Cond.laysStatic "java/lang/StringUTF16" "HI_BYTE_SHIFT" "I") ∈ lw_tbl := lw_at lw_m2 179 rfl
theorem q530 : (Jvm.Cond.fieldLink "java/lang/StringUTF16" (63 : Nat) "java/lang/StringUTF16" "LO_BYTE_SHIFT" "I") ∈ lw_all := lw_g (lw_at lw_m2 180 rfl) rfl
theorem q531 : (Jvm.Cond.laysStatic "java/lang/StringUTF16" "LO_BYTE_SHIFT" "I") ∈ lw_tbl := lw_at lw_m2 181 rfl
theorem q558 : (Jvm.Cond.static ({ cls := "java/lang/StringUTF16", name := "inflate", desc := "([BI[BII)V" } : Jvm.MethodName)) ∈ lw_all := lw_g (lw_at lw_m2 208 rfl) rfl
theorem q559 : (Jvm.Cond.code ({ cls := "java/lang/StringUTF16", name := "inflate", desc := "([BI[BII)V" } : Jvm.MethodName) prog_38_method_86_code (6 : Nat) (Option.none : Option Jvm.ClassFile.FieldType)) ∈ lw_all := lw_g (lw_at lw_m2 209 rfl) rfl
theorem q560 : (Jvm.Cond.methodLink "java/lang/StringUTF16" (173 : Nat) ({ cls := "java/lang/StringUTF16", name := "checkBoundsOffCount", desc := "(II[B)V" } : Jvm.MethodName)) ∈ lw_all := lw_g (lw_at lw_m2 210 rfl) rfl
theorem q561 : (Jvm.Cond.static ({ cls := "java/lang/StringUTF16", name := "checkBoundsOffCount", desc := "(II[B)V" } : Jvm.MethodName)) ∈ lw_all := lw_g (lw_at lw_m2 211 rfl) rfl
theorem q562 : (Jvm.Cond.code ({ cls := "java/lang/StringUTF16", name := "checkBoundsOffCount", desc := "(II[B)V" } : Jvm.MethodName) prog_38_method_94_code (3 : Nat) (Option.none : Option Jvm.ClassFile.FieldType)) ∈ lw_all := lw_g (lw_at lw_m2 212 rfl) rfl
theorem q563 : (Jvm.Cond.methodLink "java/lang/StringUTF16" (419 : Nat) ({ cls := "java/lang/String", name := "checkBoundsOffCount", desc := "(III)I" } : Jvm.MethodName)) ∈ lw_all := lw_g (lw_at lw_m2 213 rfl) rfl
theorem q593 : (Jvm.Cond.static ({ cls := "java/lang/StringUTF16", name := "getChars", desc := "(III[B)I" } : Jvm.MethodName)) ∈ lw_all := lw_g (lw_at lw_m3 3 rfl) rfl
theorem q594 : (Jvm.Cond.code ({ cls := "java/lang/StringUTF16", name := "getChars", desc := "(III[B)I" } : Jvm.MethodName) prog_38_method_77_code (5 : Nat) (Option.some Jvm.ClassFile.FieldType.int)) ∈ lw_all := lw_g (lw_at lw_m3 4 rfl) rfl
theorem q595 : (Jvm.Cond.methodLink "java/lang/StringUTF16" (393 : Nat) ({ cls := "java/lang/StringUTF16", name := "getChars", desc := "(II[B)I" } : Jvm.MethodName)) ∈ lw_all := lw_g (lw_at lw_m3 5 rfl) rfl
theorem q596 : (Jvm.Cond.static ({ cls := "java/lang/StringUTF16", name := "getChars", desc := "(II[B)I" } : Jvm.MethodName)) ∈ lw_all := lw_g (lw_at lw_m3 6 rfl) rfl
theorem q597 : (Jvm.Cond.code ({ cls := "java/lang/StringUTF16", name := "getChars", desc := "(II[B)I" } : Jvm.MethodName) prog_38_method_89_code (7 : Nat) (Option.some Jvm.ClassFile.FieldType.int)) ∈ lw_all := lw_g (lw_at lw_m3 7 rfl) rfl
theorem q598 : (Jvm.Cond.fieldLink "java/lang/StringUTF16" (403 : Nat) "java/lang/Integer" "DigitOnes" "[B") ∈ lw_all := lw_g (lw_at lw_m3 8 rfl) rfl
theorem q599 : (Jvm.Cond.fieldLink "java/lang/StringUTF16" (407 : Nat) "java/lang/Integer" "DigitTens" "[B") ∈ lw_all := lw_g (lw_at lw_m3 9 rfl) rfl
theorem q649 : (Jvm.Cond.static ({ cls := "java/lang/StringUTF16", name := "compress", desc := "([BII)[B" } : Jvm.MethodName)) ∈ lw_all := lw_g (lw_at lw_m3 59 rfl) rfl
theorem q650 : (Jvm.Cond.code ({ cls := "java/lang/StringUTF16", name := "compress", desc := "([BII)[B" } : Jvm.MethodName) prog_38_method_17_code (6 : Nat) (Option.some (Jvm.ClassFile.FieldType.array Jvm.ClassFile.FieldType.byte))) ∈ lw_all := lw_g (lw_at lw_m3 60 rfl) rfl
theorem q651 : (Jvm.Cond.methodLink "java/lang/StringUTF16" (123 : Nat) ({ cls := "java/lang/StringUTF16", name := "compress", desc := "([BI[BII)I" } : Jvm.MethodName)) ∈ lw_all := lw_g (lw_at lw_m3 61 rfl) rfl
theorem q652 : (Jvm.Cond.static ({ cls := "java/lang/StringUTF16", name := "compress", desc := "([BI[BII)I" } : Jvm.MethodName)) ∈ lw_all := lw_g (lw_at lw_m3 62 rfl) rfl
theorem q653 : (Jvm.Cond.code ({ cls := "java/lang/StringUTF16", name := "compress", desc := "([BI[BII)I" } : Jvm.MethodName) prog_38_method_22_code (7 : Nat) (Option.some Jvm.ClassFile.FieldType.int)) ∈ lw_all := lw_g (lw_at lw_m3 63 rfl) rfl
theorem q654 : (Jvm.Cond.methodLink "java/lang/StringUTF16" (71 : Nat) ({ cls := "java/lang/StringUTF16", name := "getChar", desc := "([BI)C" } : Jvm.MethodName)) ∈ lw_all := lw_g (lw_at lw_m3 64 rfl) rfl
theorem q655 : (Jvm.Cond.static ({ cls := "java/lang/StringUTF16", name := "getChar", desc := "([BI)C" } : Jvm.MethodName)) ∈ lw_all := lw_g (lw_at lw_m3 65 rfl) rfl
theorem q656 : (Jvm.Cond.code ({ cls := "java/lang/StringUTF16", name := "getChar", desc := "([BI)C" } : Jvm.MethodName) prog_38_method_5_code (2 : Nat) (Option.some Jvm.ClassFile.FieldType.char)) ∈ lw_all := lw_g (lw_at lw_m3 66 rfl) rfl
theorem q657 : (Jvm.Cond.methodLink "java/lang/StringUTF16" (126 : Nat) ({ cls := "java/util/Arrays", name := "copyOfRange", desc := "([BII)[B" } : Jvm.MethodName)) ∈ lw_all := lw_g (lw_at lw_m3 67 rfl) rfl
theorem q659 : (Jvm.Cond.static ({ cls := "java/lang/StringUTF16", name := "coderFromArrayLen", desc := "([BI)B" } : Jvm.MethodName)) ∈ lw_all := lw_g (lw_at lw_m3 69 rfl) rfl
theorem q660 : (Jvm.Cond.code ({ cls := "java/lang/StringUTF16", name := "coderFromArrayLen", desc := "([BI)B" } : Jvm.MethodName) prog_38_method_15_code (2 : Nat) (Option.some Jvm.ClassFile.FieldType.byte)) ∈ lw_all := lw_g (lw_at lw_m3 70 rfl) rfl
theorem q771 : (Jvm.Cond.static ({ cls := "java/lang/StringUTF16", name := "putCharSB", desc := "([BII)V" } : Jvm.MethodName)) ∈ lw_all := lw_g (lw_at lw_m3 181 rfl) rfl
theorem q772 : (Jvm.Cond.code ({ cls := "java/lang/StringUTF16", name := "putCharSB", desc := "([BII)V" } : Jvm.MethodName) prog_38_method_71_code (3 : Nat) (Option.none : Option Jvm.ClassFile.FieldType)) ∈ lw_all := lw_g (lw_at lw_m3 182 rfl) rfl
theorem q773 : (Jvm.Cond.methodLink "java/lang/StringUTF16" (67 : Nat) ({ cls := "java/lang/StringUTF16", name := "checkIndex", desc := "(I[B)V" } : Jvm.MethodName)) ∈ lw_all := lw_g (lw_at lw_m3 183 rfl) rfl
theorem q774 : (Jvm.Cond.static ({ cls := "java/lang/StringUTF16", name := "checkIndex", desc := "(I[B)V" } : Jvm.MethodName)) ∈ lw_all := lw_g (lw_at lw_m3 184 rfl) rfl
theorem q775 : (Jvm.Cond.code ({ cls := "java/lang/StringUTF16", name := "checkIndex", desc := "(I[B)V" } : Jvm.MethodName) prog_38_method_91_code (2 : Nat) (Option.none : Option Jvm.ClassFile.FieldType)) ∈ lw_all := lw_g (lw_at lw_m3 185 rfl) rfl
theorem q776 : (Jvm.Cond.methodLink "java/lang/StringUTF16" (414 : Nat) ({ cls := "java/lang/String", name := "checkIndex", desc := "(II)V" } : Jvm.MethodName)) ∈ lw_all := lw_g (lw_at lw_m3 186 rfl) rfl
theorem q1191 : (Jvm.Cond.static ({ cls := "java/lang/StringUTF16", name := "charAt", desc := "([BI)C" } : Jvm.MethodName)) ∈ lw_all := lw_g (lw_at lw_m5 121 rfl) rfl
theorem q1192 : (Jvm.Cond.code ({ cls := "java/lang/StringUTF16", name := "charAt", desc := "([BI)C" } : Jvm.MethodName) prog_38_method_83_code (2 : Nat) (Option.some Jvm.ClassFile.FieldType.char)) ∈ lw_all := lw_g (lw_at lw_m5 122 rfl) rfl
/-! jdk/internal/util/ArraysSupport -/
def RJ14 : String := "jdk/internal/util/ArraysSupport"
abbrev cJ14_newLength : ByteArray := prog_55_method_27_code
def yJ14_newLength : MethodName := ⟨RJ14, "newLength", "(III)I"⟩
abbrev cJ14_hugeLength : ByteArray := prog_55_method_28_code
def yJ14_hugeLength : MethodName := ⟨RJ14, "hugeLength", "(II)I"⟩
theorem q132 : (Jvm.Cond.initialized "jdk/internal/util/ArraysSupport") ∈ lw_all := lw_g (lw_at lw_m1 22 rfl) rfl
theorem q475 : (Jvm.Cond.static ({ cls := "jdk/internal/util/ArraysSupport", name := "newLength", desc := "(III)I" } : Jvm.MethodName)) ∈ lw_all := lw_g (lw_at lw_m2 125 rfl) rfl
theorem q476 : (Jvm.Cond.code ({ cls := "jdk/internal/util/ArraysSupport", name := "newLength", desc := "(III)I" } : Jvm.MethodName) prog_55_method_27_code (4 : Nat) (Option.some Jvm.ClassFile.FieldType.int)) ∈ lw_all := lw_g (lw_at lw_m2 126 rfl) rfl
theorem q477 : (Jvm.Cond.methodLink "jdk/internal/util/ArraysSupport" (194 : Nat) ({ cls := "java/lang/Math", name := "max", desc := "(II)I" } : Jvm.MethodName)) ∈ lw_all := lw_g (lw_at lw_m2 127 rfl) rfl
theorem q480 : (Jvm.Cond.constant "jdk/internal/util/ArraysSupport" (200 : Nat) (2147483639 : Int32)) ∈ lw_all := lw_g (lw_at lw_m2 130 rfl) rfl
theorem q481 : (Jvm.Cond.methodLink "jdk/internal/util/ArraysSupport" (201 : Nat) ({ cls := "jdk/internal/util/ArraysSupport", name := "hugeLength", desc := "(II)I" } : Jvm.MethodName)) ∈ lw_all := lw_g (lw_at lw_m2 131 rfl) rfl
theorem q482 : (Jvm.Cond.static ({ cls := "jdk/internal/util/ArraysSupport", name := "hugeLength", desc := "(II)I" } : Jvm.MethodName)) ∈ lw_all := lw_g (lw_at lw_m2 132 rfl) rfl
theorem q483 : (Jvm.Cond.code ({ cls := "jdk/internal/util/ArraysSupport", name := "hugeLength", desc := "(II)I" } : Jvm.MethodName) prog_55_method_28_code (3 : Nat) (Option.some Jvm.ClassFile.FieldType.int)) ∈ lw_all := lw_g (lw_at lw_m2 133 rfl) rfl
/-! java/lang/Math -/
def RJ15 : String := "java/lang/Math"
abbrev cJ15_max : ByteArray := prog_32_method_65_code
def yJ15_max : MethodName := ⟨RJ15, "max", "(II)I"⟩
abbrev cJ15_min : ByteArray := prog_32_method_69_code
def yJ15_min : MethodName := ⟨RJ15, "min", "(II)I"⟩
abbrev cJ15_abs : ByteArray := prog_32_method_59_code
def yJ15_abs : MethodName := ⟨RJ15, "abs", "(I)I"⟩
theorem q133 : (Jvm.Cond.initialized "java/lang/Math") ∈ lw_all := lw_g (lw_at lw_m1 23 rfl) rfl
theorem q478 : (Jvm.Cond.static ({ cls := "java/lang/Math", name := "max", desc := "(II)I" } : Jvm.MethodName)) ∈ lw_all := lw_g (lw_at lw_m2 128 rfl) rfl
theorem q479 : (Jvm.Cond.code ({ cls := "java/lang/Math", name := "max", desc := "(II)I" } : Jvm.MethodName) prog_32_method_65_code (2 : Nat) (Option.some Jvm.ClassFile.FieldType.int)) ∈ lw_all := lw_g (lw_at lw_m2 129 rfl) rfl
theorem q496 : (Jvm.Cond.static ({ cls := "java/lang/Math", name := "min", desc := "(II)I" } : Jvm.MethodName)) ∈ lw_all := lw_g (lw_at lw_m2 146 rfl) rfl
theorem q497 : (Jvm.Cond.code ({ cls := "java/lang/Math", name := "min", desc := "(II)I" } : Jvm.MethodName) prog_32_method_69_code (2 : Nat) (Option.some Jvm.ClassFile.FieldType.int)) ∈ lw_all := lw_g (lw_at lw_m2 147 rfl) rfl
theorem q1284 : (Jvm.Cond.static ({ cls := "java/lang/Math", name := "abs", desc := "(I)I" } : Jvm.MethodName)) ∈ lw_all := lw_g (lw_at lw_m5 214 rfl) rfl
theorem q1285 : (Jvm.Cond.code ({ cls := "java/lang/Math", name := "abs", desc := "(I)I" } : Jvm.MethodName) prog_32_method_59_code (1 : Nat) (Option.some Jvm.ClassFile.FieldType.int)) ∈ lw_all := lw_g (lw_at lw_m5 215 rfl) rfl
/-! java/util/Arrays -/
def RJ16 : String := "java/util/Arrays"
abbrev cJ16_copyOf : ByteArray := prog_47_method_121_code
def yJ16_copyOf : MethodName := ⟨RJ16, "copyOf", "([BI)[B"⟩
abbrev cJ16_copyOfRange : ByteArray := prog_47_method_132_code
def yJ16_copyOfRange : MethodName := ⟨RJ16, "copyOfRange", "([BII)[B"⟩
abbrev cJ16_copyOfRangeByte : ByteArray := prog_47_method_133_code
def yJ16_copyOfRangeByte : MethodName := ⟨RJ16, "copyOfRangeByte", "([BII)[B"⟩
abbrev cJ16_checkLength : ByteArray := prog_47_method_131_code
def yJ16_checkLength : MethodName := ⟨RJ16, "checkLength", "(II)V"⟩
abbrev cJ16_copyOf_2 : ByteArray := prog_47_method_119_code
def yJ16_copyOf_2 : MethodName := ⟨RJ16, "copyOf", "([Ljava/lang/Object;I)[Ljava/lang/Object;"⟩
abbrev cJ16_copyOf_3 : ByteArray := prog_47_method_120_code
def yJ16_copyOf_3 : MethodName := ⟨RJ16, "copyOf", "([Ljava/lang/Object;ILjava/lang/Class;)[Ljava/lang/Object;"⟩
abbrev cJ16_fill : ByteArray := prog_47_method_117_code
def yJ16_fill : MethodName := ⟨RJ16, "fill", "([Ljava/lang/Object;Ljava/lang/Object;)V"⟩
abbrev cJ16_fill_2 : ByteArray := prog_47_method_103_code
def yJ16_fill_2 : MethodName := ⟨RJ16, "fill", "([II)V"⟩
theorem q134 : (Jvm.Cond.initialized "java/util/Arrays") ∈ lw_all := lw_g (lw_at lw_m1 24 rfl) rfl
theorem q486 : (Jvm.Cond.static ({ cls := "java/util/Arrays", name := "copyOf", desc := "([BI)[B" } : Jvm.MethodName)) ∈ lw_all := lw_g (lw_at lw_m2 136 rfl) rfl
theorem q487 : (Jvm.Cond.code ({ cls := "java/util/Arrays", name := "copyOf", desc := "([BI)[B" } : Jvm.MethodName) prog_47_method_121_code (3 : Nat) (Option.some (Jvm.ClassFile.FieldType.array Jvm.ClassFile.FieldType.byte))) ∈ lw_all := lw_g (lw_at lw_m2 137 rfl) rfl
theorem q488 : (Jvm.Cond.methodLink "java/util/Arrays" (310 : Nat) ({ cls := "[B", name := "clone", desc := "()Ljava/lang/Object;" } : Jvm.MethodName)) ∈ lw_all := lw_g (lw_at lw_m2 138 rfl) rfl
theorem q494 : (Jvm.Cond.classLink "java/util/Arrays" (311 : Nat) "[B") ∈ lw_all := lw_g (lw_at lw_m2 144 rfl) rfl
theorem q495 : (Jvm.Cond.methodLink "java/util/Arrays" (304 : Nat) ({ cls := "java/lang/Math", name := "min", desc := "(II)I" } : Jvm.MethodName)) ∈ lw_all := lw_g (lw_at lw_m2 145 rfl) rfl
theorem q498 : (Jvm.Cond.methodLink "java/util/Arrays" (150 : Nat) ({ cls := "java/lang/System", name := "arraycopy", desc := "(Ljava/lang/Object;ILjava/lang/Object;II)V" } : Jvm.MethodName)) ∈ lw_all := lw_g (lw_at lw_m2 148 rfl) rfl
theorem q627 : (Jvm.Cond.static ({ cls := "java/util/Arrays", name := "copyOfRange", desc := "([BII)[B" } : Jvm.MethodName)) ∈ lw_all := lw_g (lw_at lw_m3 37 rfl) rfl
theorem q628 : (Jvm.Cond.code ({ cls := "java/util/Arrays", name := "copyOfRange", desc := "([BII)[B" } : Jvm.MethodName) prog_47_method_132_code (3 : Nat) (Option.some (Jvm.ClassFile.FieldType.array Jvm.ClassFile.FieldType.byte))) ∈ lw_all := lw_g (lw_at lw_m3 38 rfl) rfl
theorem q629 : (Jvm.Cond.methodLink "java/util/Arrays" (339 : Nat) ({ cls := "java/util/Arrays", name := "copyOfRangeByte", desc := "([BII)[B" } : Jvm.MethodName)) ∈ lw_all := lw_g (lw_at lw_m3 39 rfl) rfl
theorem q630 : (Jvm.Cond.static ({ cls := "java/util/Arrays", name := "copyOfRangeByte", desc := "([BII)[B" } : Jvm.MethodName)) ∈ lw_all := lw_g (lw_at lw_m3 40 rfl) rfl
theorem q631 : (Jvm.Cond.code ({ cls := "java/util/Arrays", name := "copyOfRangeByte", desc := "([BII)[B" } : Jvm.MethodName) prog_47_method_133_code (5 : Nat) (Option.some (Jvm.ClassFile.FieldType.array Jvm.ClassFile.FieldType.byte))) ∈ lw_all := lw_g (lw_at lw_m3 41 rfl) rfl
theorem q632 : (Jvm.Cond.methodLink "java/util/Arrays" (343 : Nat) ({ cls := "java/util/Arrays", name := "checkLength", desc := "(II)V" } : Jvm.MethodName)) ∈ lw_all := lw_g (lw_at lw_m3 42 rfl) rfl
theorem q633 : (Jvm.Cond.static ({ cls := "java/util/Arrays", name := "checkLength", desc := "(II)V" } : Jvm.MethodName)) ∈ lw_all := lw_g (lw_at lw_m3 43 rfl) rfl
theorem q634 : (Jvm.Cond.code ({ cls := "java/util/Arrays", name := "checkLength", desc := "(II)V" } : Jvm.MethodName) prog_47_method_131_code (2 : Nat) (Option.none : Option Jvm.ClassFile.FieldType)) ∈ lw_all := lw_g (lw_at lw_m3 44 rfl) rfl
theorem q635 : (Jvm.Cond.classLink "java/util/Arrays" (43 : Nat) "java/lang/IllegalArgumentException") ∈ lw_all := lw_g (lw_at lw_m3 45 rfl) rfl
theorem q636 : (Jvm.Cond.classLink "java/util/Arrays" (45 : Nat) "java/lang/StringBuilder") ∈ lw_all := lw_g (lw_at lw_m3 46 rfl) rfl
theorem q637 : (Jvm.Cond.methodLink "java/util/Arrays" (47 : Nat) ({ cls := "java/lang/StringBuilder", name := "<init>", desc := "()V" } : Jvm.MethodName)) ∈ lw_all := lw_g (lw_at lw_m3 47 rfl) rfl
theorem q638 : (Jvm.Cond.methodLink "java/util/Arrays" (54 : Nat) ({ cls := "java/lang/StringBuilder", name := "append", desc := "(I)Ljava/lang/StringBuilder;" } : Jvm.MethodName)) ∈ lw_all := lw_g (lw_at lw_m3 48 rfl) rfl
theorem q639 : (Jvm.Cond.stringRef "java/util/Arrays" (337 : Nat) " > ") ∈ lw_tbl := lw_at lw_m3 49 rfl
theorem q640 : (Jvm.Cond.methodLink "java/util/Arrays" (50 : Nat) ({ cls := "java/lang/StringBuilder", name := "append", desc := "(Ljava/lang/String;)Ljava/lang/StringBuilder;" } : Jvm.MethodName)) ∈ lw_all := lw_g (lw_at lw_m3 50 rfl) rfl
theorem q641 : (Jvm.Cond.methodLink "java/util/Arrays" (61 : Nat) ({ cls := "java/lang/StringBuilder", name := "toString", desc := "()Ljava/lang/String;" } : Jvm.MethodName)) ∈ lw_all := lw_g (lw_at lw_m3 51 rfl) rfl
theorem q642 : (Jvm.Cond.methodLink "java/util/Arrays" (65 : Nat) ({ cls := "java/lang/IllegalArgumentException", name := "<init>", desc := "(Ljava/lang/String;)V" } : Jvm.MethodName)) ∈ lw_all := lw_g (lw_at lw_m3 52 rfl) rfl
theorem q933 : (Jvm.Cond.static ({ cls := "java/util/Arrays", name := "copyOf", desc := "([Ljava/lang/Object;I)[Ljava/lang/Object;" } : Jvm.MethodName)) ∈ lw_all := lw_g (lw_at lw_m4 103 rfl) rfl
theorem q934 : (Jvm.Cond.code ({ cls := "java/util/Arrays", name := "copyOf", desc := "([Ljava/lang/Object;I)[Ljava/lang/Object;" } : Jvm.MethodName) prog_47_method_119_code (2 : Nat) (Option.some (Jvm.ClassFile.FieldType.array (Jvm.ClassFile.FieldType.object "java/lang/Object")))) ∈ lw_all := lw_g (lw_at lw_m4 104 rfl) rfl
theorem q935 : (Jvm.Cond.methodLink "java/util/Arrays" (86 : Nat) ({ cls := "java/lang/Object", name := "getClass", desc := "()Ljava/lang/Class;" } : Jvm.MethodName)) ∈ lw_all := lw_g (lw_at lw_m4 105 rfl) rfl
theorem q961 : (Jvm.Cond.methodLink "java/util/Arrays" (300 : Nat) ({ cls := "java/util/Arrays", name := "copyOf", desc := "([Ljava/lang/Object;ILjava/lang/Class;)[Ljava/lang/Object;" } : Jvm.MethodName)) ∈ lw_all := lw_g (lw_at lw_m4 131 rfl) rfl
theorem q962 : (Jvm.Cond.static ({ cls := "java/util/Arrays", name := "copyOf", desc := "([Ljava/lang/Object;ILjava/lang/Class;)[Ljava/lang/Object;" } : Jvm.MethodName)) ∈ lw_all := lw_g (lw_at lw_m4 132 rfl) rfl
theorem q963 : (Jvm.Cond.code ({ cls := "java/util/Arrays", name := "copyOf", desc := "([Ljava/lang/Object;ILjava/lang/Class;)[Ljava/lang/Object;" } : Jvm.MethodName) prog_47_method_120_code (4 : Nat) (Option.some (Jvm.ClassFile.FieldType.array (Jvm.ClassFile.FieldType.object "java/lang/Object")))) ∈ lw_all := lw_g (lw_at lw_m4 133 rfl) rfl
theorem q964 : (Jvm.Cond.classLink "java/util/Arrays" (110 : Nat) "[Ljava/lang/Object;") ∈ lw_all := lw_g (lw_at lw_m4 134 rfl) rfl
theorem q965 : (Jvm.Cond.classLink "java/util/Arrays" (2 : Nat) "java/lang/Object") ∈ lw_all := lw_g (lw_at lw_m4 135 rfl) rfl
theorem q1062 : (Jvm.Cond.static ({ cls := "java/util/Arrays", name := "fill", desc := "([Ljava/lang/Object;Ljava/lang/Object;)V" } : Jvm.MethodName)) ∈ lw_all := lw_g (lw_at lw_m4 232 rfl) rfl
theorem q1063 : (Jvm.Cond.code ({ cls := "java/util/Arrays", name := "fill", desc := "([Ljava/lang/Object;Ljava/lang/Object;)V" } : Jvm.MethodName) prog_47_method_117_code (4 : Nat) (Option.none : Option Jvm.ClassFile.FieldType)) ∈ lw_all := lw_g (lw_at lw_m4 233 rfl) rfl
theorem q1116 : (Jvm.Cond.static ({ cls := "java/util/Arrays", name := "fill", desc := "([II)V" } : Jvm.MethodName)) ∈ lw_all := lw_g (lw_at lw_m5 46 rfl) rfl
theorem q1117 : (Jvm.Cond.code ({ cls := "java/util/Arrays", name := "fill", desc := "([II)V" } : Jvm.MethodName) prog_47_method_103_code (4 : Nat) (Option.none : Option Jvm.ClassFile.FieldType)) ∈ lw_all := lw_g (lw_at lw_m5 47 rfl) rfl
/-! jdk/internal/util/Preconditions -/
def RJ17 : String := "jdk/internal/util/Preconditions"
abbrev cJ17_checkFromToIndex : ByteArray := prog_56_method_12_code
def yJ17_checkFromToIndex : MethodName := ⟨RJ17, "checkFromToIndex", "(IIILjava/util/function/BiFunction;)I"⟩
abbrev cJ17_checkFromIndexSize : ByteArray := prog_56_method_13_code
def yJ17_checkFromIndexSize : MethodName := ⟨RJ17, "checkFromIndexSize", "(IIILjava/util/function/BiFunction;)I"⟩
abbrev cJ17_checkIndex : ByteArray := prog_56_method_11_code
def yJ17_checkIndex : MethodName := ⟨RJ17, "checkIndex", "(IILjava/util/function/BiFunction;)I"⟩
theorem q136 : (Jvm.Cond.initialized "jdk/internal/util/Preconditions") ∈ lw_all := lw_g (lw_at lw_m1 26 rfl) rfl
theorem q519 : (Jvm.Cond.laysStatic "jdk/internal/util/Preconditions" "SIOOBE_FORMATTER" "Ljava/util/function/BiFunction;") ∈ lw_tbl := lw_at lw_m2 169 rfl
theorem q521 : (Jvm.Cond.static ({ cls := "jdk/internal/util/Preconditions", name := "checkFromToIndex", desc := "(IIILjava/util/function/BiFunction;)I" } : Jvm.MethodName)) ∈ lw_all := lw_g (lw_at lw_m2 171 rfl) rfl
theorem q522 : (Jvm.Cond.code ({ cls := "jdk/internal/util/Preconditions", name := "checkFromToIndex", desc := "(IIILjava/util/function/BiFunction;)I" } : Jvm.MethodName) prog_56_method_12_code (4 : Nat) (Option.some Jvm.ClassFile.FieldType.int)) ∈ lw_all := lw_g (lw_at lw_m2 172 rfl) rfl
theorem q567 : (Jvm.Cond.static ({ cls := "jdk/internal/util/Preconditions", name := "checkFromIndexSize", desc := "(IIILjava/util/function/BiFunction;)I" } : Jvm.MethodName)) ∈ lw_all := lw_g (lw_at lw_m2 217 rfl) rfl
theorem q568 : (Jvm.Cond.code ({ cls := "jdk/internal/util/Preconditions", name := "checkFromIndexSize", desc := "(IIILjava/util/function/BiFunction;)I" } : Jvm.MethodName) prog_56_method_13_code (4 : Nat) (Option.some Jvm.ClassFile.FieldType.int)) ∈ lw_all := lw_g (lw_at lw_m2 218 rfl) rfl
theorem q780 : (Jvm.Cond.static ({ cls := "jdk/internal/util/Preconditions", name := "checkIndex", desc := "(IILjava/util/function/BiFunction;)I" } : Jvm.MethodName)) ∈ lw_all := lw_g (lw_at lw_m3 190 rfl) rfl
theorem q781 : (Jvm.Cond.code ({ cls := "jdk/internal/util/Preconditions", name := "checkIndex", desc := "(IILjava/util/function/BiFunction;)I" } : Jvm.MethodName) prog_56_method_11_code (3 : Nat) (Option.some Jvm.ClassFile.FieldType.int)) ∈ lw_all := lw_g (lw_at lw_m3 191 rfl) rfl
/-! java/lang/StringLatin1 -/
def RJ18 : String := "java/lang/StringLatin1"
abbrev cJ18_inflate : ByteArray := prog_37_method_50_code
def yJ18_inflate : MethodName := ⟨RJ18, "inflate", "([BI[BII)V"⟩
abbrev cJ18_canEncode : ByteArray := prog_37_method_3_code
def yJ18_canEncode : MethodName := ⟨RJ18, "canEncode", "(C)Z"⟩
abbrev cJ18_equals : ByteArray := prog_37_method_13_code
def yJ18_equals : MethodName := ⟨RJ18, "equals", "([B[B)Z"⟩
abbrev cJ18_charAt : ByteArray := prog_37_method_2_code
def yJ18_charAt : MethodName := ⟨RJ18, "charAt", "([BI)C"⟩
theorem q137 : (Jvm.Cond.initialized "java/lang/StringLatin1") ∈ lw_all := lw_g (lw_at lw_m1 27 rfl) rfl
theorem q555 : (Jvm.Cond.static ({ cls := "java/lang/StringLatin1", name := "inflate", desc := "([BI[BII)V" } : Jvm.MethodName)) ∈ lw_all := lw_g (lw_at lw_m2 205 rfl) rfl
theorem q556 : (Jvm.Cond.code ({ cls := "java/lang/StringLatin1", name := "inflate", desc := "([BI[BII)V" } : Jvm.MethodName) prog_37_method_50_code (5 : Nat) (Option.none : Option Jvm.ClassFile.FieldType)) ∈ lw_all := lw_g (lw_at lw_m2 206 rfl) rfl
theorem q557 : (Jvm.Cond.methodLink "java/lang/StringLatin1" (240 : Nat) ({ cls := "java/lang/StringUTF16", name := "inflate", desc := "([BI[BII)V" } : Jvm.MethodName)) ∈ lw_all := lw_g (lw_at lw_m2 207 rfl) rfl
theorem q768 : (Jvm.Cond.static ({ cls := "java/lang/StringLatin1", name := "canEncode", desc := "(C)Z" } : Jvm.MethodName)) ∈ lw_all := lw_g (lw_at lw_m3 178 rfl) rfl
theorem q769 : (Jvm.Cond.code ({ cls := "java/lang/StringLatin1", name := "canEncode", desc := "(C)Z" } : Jvm.MethodName) prog_37_method_3_code (1 : Nat) (Option.some Jvm.ClassFile.FieldType.boolean)) ∈ lw_all := lw_g (lw_at lw_m3 179 rfl) rfl
theorem q798 : (Jvm.Cond.static ({ cls := "java/lang/StringLatin1", name := "equals", desc := "([B[B)Z" } : Jvm.MethodName)) ∈ lw_all := lw_g (lw_at lw_m3 208 rfl) rfl
theorem q799 : (Jvm.Cond.code ({ cls := "java/lang/StringLatin1", name := "equals", desc := "([B[B)Z" } : Jvm.MethodName) prog_37_method_13_code (3 : Nat) (Option.some Jvm.ClassFile.FieldType.boolean)) ∈ lw_all := lw_g (lw_at lw_m3 209 rfl) rfl
theorem q1187 : (Jvm.Cond.static ({ cls := "java/lang/StringLatin1", name := "charAt", desc := "([BI)C" } : Jvm.MethodName)) ∈ lw_all := lw_g (lw_at lw_m5 117 rfl) rfl
theorem q1188 : (Jvm.Cond.code ({ cls := "java/lang/StringLatin1", name := "charAt", desc := "([BI)C" } : Jvm.MethodName) prog_37_method_2_code (2 : Nat) (Option.some Jvm.ClassFile.FieldType.char)) ∈ lw_all := lw_g (lw_at lw_m5 118 rfl) rfl
theorem q1189 : (Jvm.Cond.methodLink "java/lang/StringLatin1" (9 : Nat) ({ cls := "java/lang/String", name := "checkIndex", desc := "(II)V" } : Jvm.MethodName)) ∈ lw_all := lw_g (lw_at lw_m5 119 rfl) rfl
/-! java/lang/Integer -/
def RJ19 : String := "java/lang/Integer"
abbrev cJ19_stringSize : ByteArray := prog_30_method_13_code
def yJ19_stringSize : MethodName := ⟨RJ19, "stringSize", "(I)I"⟩
abbrev cJ19_getChars : ByteArray := prog_30_method_12_code
def yJ19_getChars : MethodName := ⟨RJ19, "getChars", "(II[B)I"⟩
abbrev cJ19_bitCount : ByteArray := prog_30_method_49_code
def yJ19_bitCount : MethodName := ⟨RJ19, "bitCount", "(I)I"⟩
theorem q139 : (Jvm.Cond.initialized "java/lang/Integer") ∈ lw_all := lw_g (lw_at lw_m1 29 rfl) rfl
theorem q583 : (Jvm.Cond.static ({ cls := "java/lang/Integer", name := "stringSize", desc := "(I)I" } : Jvm.MethodName)) ∈ lw_all := lw_g (lw_at lw_m2 233 rfl) rfl
theorem q584 : (Jvm.Cond.code ({ cls := "java/lang/Integer", name := "stringSize", desc := "(I)I" } : Jvm.MethodName) prog_30_method_13_code (4 : Nat) (Option.some Jvm.ClassFile.FieldType.int)) ∈ lw_all := lw_g (lw_at lw_m2 234 rfl) rfl
theorem q586 : (Jvm.Cond.static ({ cls := "java/lang/Integer", name := "getChars", desc := "(II[B)I" } : Jvm.MethodName)) ∈ lw_all := lw_g (lw_at lw_m2 236 rfl) rfl
theorem q587 : (Jvm.Cond.code ({ cls := "java/lang/Integer", name := "getChars", desc := "(II[B)I" } : Jvm.MethodName) prog_30_method_12_code (7 : Nat) (Option.some Jvm.ClassFile.FieldType.int)) ∈ lw_all := lw_g (lw_at lw_m2 237 rfl) rfl
theorem q588 : (Jvm.Cond.fieldLink "java/lang/Integer" (83 : Nat) "java/lang/Integer" "DigitOnes" "[B") ∈ lw_all := lw_g (lw_at lw_m2 238 rfl) rfl
theorem q589 : (Jvm.Cond.laysStatic "java/lang/Integer" "DigitOnes" "[B") ∈ lw_tbl := lw_at lw_m2 239 rfl
theorem q590 : (Jvm.Cond.fieldLink "java/lang/Integer" (87 : Nat) "java/lang/Integer" "DigitTens" "[B") ∈ lw_all := lw_g (lw_at lw_m3 0 rfl) rfl
theorem q591 : (Jvm.Cond.laysStatic "java/lang/Integer" "DigitTens" "[B") ∈ lw_tbl := lw_at lw_m3 1 rfl
theorem q1102 : (Jvm.Cond.static ({ cls := "java/lang/Integer", name := "bitCount", desc := "(I)I" } : Jvm.MethodName)) ∈ lw_all := lw_g (lw_at lw_m5 32 rfl) rfl
theorem q1103 : (Jvm.Cond.code ({ cls := "java/lang/Integer", name := "bitCount", desc := "(I)I" } : Jvm.MethodName) prog_30_method_49_code (1 : Nat) (Option.some Jvm.ClassFile.FieldType.int)) ∈ lw_all := lw_g (lw_at lw_m5 33 rfl) rfl
theorem q1104 : (Jvm.Cond.constant "java/lang/Integer" (265 : Nat) (1431655765 : Int32)) ∈ lw_all := lw_g (lw_at lw_m5 34 rfl) rfl
theorem q1105 : (Jvm.Cond.constant "java/lang/Integer" (266 : Nat) (858993459 : Int32)) ∈ lw_all := lw_g (lw_at lw_m5 35 rfl) rfl
theorem q1106 : (Jvm.Cond.constant "java/lang/Integer" (267 : Nat) (252645135 : Int32)) ∈ lw_all := lw_g (lw_at lw_m5 36 rfl) rfl
/-! java/lang/Throwable -/
def RJ2 : String := "java/lang/Throwable"
def TJ2 : u_T := fun k => match k with
  | 0 => ("java/lang/Throwable", "cause", "Ljava/lang/Throwable;", false)
  | 1 => ("java/lang/Throwable", "stackTrace", "[Ljava/lang/StackTraceElement;", false)
  | 2 => ("java/lang/Throwable", "suppressedExceptions", "Ljava/util/List;", false)
  | 3 => ("java/lang/Throwable", "detailMessage", "Ljava/lang/String;", false)
  | _ => ("java/lang/Throwable", "backtrace", "Ljava/lang/Object;", false)
def tyJ2 : Nat → FieldType := fun k => match k with
  | 0 => .object "java/lang/Throwable"
  | 1 => .array (.object "java/lang/StackTraceElement")
  | 2 => .object "java/util/List"
  | 3 => .object "java/lang/String"
  | _ => .object "java/lang/Object"
abbrev wsJ20 : List Cond := u_ws RJ2 TJ2 5
theorem nmJ2 : ∀ a, a < 5 → ∀ b, b < 5 → a ≠ b → (TJ2 a).2.1 ≠ (TJ2 b).2.1 := by decide +kernel
theorem tyJ2_ok : ∀ k, k < 5 → parseFieldDescriptor (TJ2 k).2.2.1 = some (tyJ2 k) := by decide +kernel
abbrev cJ2_init : ByteArray := prog_40_method_2_code
def yJ2_init : MethodName := ⟨RJ2, "<init>", "(Ljava/lang/String;)V"⟩
abbrev cJ2_init_2 : ByteArray := prog_40_method_1_code
def yJ2_init_2 : MethodName := ⟨RJ2, "<init>", "()V"⟩
abbrev cJ2_init_3 : ByteArray := prog_40_method_5_code
def yJ2_init_3 : MethodName := ⟨RJ2, "<init>", "(Ljava/lang/String;Ljava/lang/Throwable;ZZ)V"⟩
theorem q115 : (Jvm.Cond.initialized "java/lang/Throwable") ∈ lw_all := lw_g (lw_at lw_m1 5 rfl) rfl
theorem q284 : (Jvm.Cond.instanceMethod ({ cls := "java/lang/Throwable", name := "<init>", desc := "(Ljava/lang/String;)V" } : Jvm.MethodName)) ∈ lw_all := lw_g (lw_at lw_m1 174 rfl) rfl
theorem q285 : (Jvm.Cond.code ({ cls := "java/lang/Throwable", name := "<init>", desc := "(Ljava/lang/String;)V" } : Jvm.MethodName) prog_40_method_2_code (2 : Nat) (Option.none : Option Jvm.ClassFile.FieldType)) ∈ lw_all := lw_g (lw_at lw_m1 175 rfl) rfl
theorem q286 : (Jvm.Cond.methodLink "java/lang/Throwable" (1 : Nat) ({ cls := "java/lang/Object", name := "<init>", desc := "()V" } : Jvm.MethodName)) ∈ lw_all := lw_g (lw_at lw_m1 176 rfl) rfl
theorem q287 : (Jvm.Cond.fieldLink "java/lang/Throwable" (13 : Nat) "java/lang/Throwable" "UNASSIGNED_STACK" "[Ljava/lang/StackTraceElement;") ∈ lw_all := lw_g (lw_at lw_m1 177 rfl) rfl
theorem q288 : (Jvm.Cond.laysStatic "java/lang/Throwable" "UNASSIGNED_STACK" "[Ljava/lang/StackTraceElement;") ∈ lw_tbl := lw_at lw_m1 178 rfl
theorem q289 : (Jvm.Cond.fieldLink "java/lang/Throwable" (20 : Nat) "java/lang/Throwable" "SUPPRESSED_SENTINEL" "Ljava/util/List;") ∈ lw_all := lw_g (lw_at lw_m1 179 rfl) rfl
theorem q290 : (Jvm.Cond.laysStatic "java/lang/Throwable" "SUPPRESSED_SENTINEL" "Ljava/util/List;") ∈ lw_tbl := lw_at lw_m1 180 rfl
theorem q291 : (Jvm.Cond.methodLink "java/lang/Throwable" (27 : Nat) ({ cls := "java/lang/Throwable", name := "fillInStackTrace", desc := "()Ljava/lang/Throwable;" } : Jvm.MethodName)) ∈ lw_all := lw_g (lw_at lw_m1 181 rfl) rfl
theorem q292 : (Jvm.Cond.instanceMethod ({ cls := "java/lang/Throwable", name := "fillInStackTrace", desc := "()Ljava/lang/Throwable;" } : Jvm.MethodName)) ∈ lw_all := lw_g (lw_at lw_m1 182 rfl) rfl
theorem q293 : (Jvm.Cond.sameMethod "java/lang/Throwable" "java/lang/Throwable" "fillInStackTrace" "()Ljava/lang/Throwable;") ∈ lw_all := lw_g (lw_at lw_m1 183 rfl) rfl
theorem q300 : (Jvm.Cond.codeSync ({ cls := "java/lang/Throwable", name := "fillInStackTrace", desc := "()Ljava/lang/Throwable;" } : Jvm.MethodName) prog_40_method_18_code (1 : Nat) (Option.some (Jvm.ClassFile.FieldType.object "java/lang/Throwable"))) ∈ lw_all := lw_g (lw_at lw_m1 190 rfl) rfl
theorem q301 : (Jvm.Cond.methodLink "java/lang/Throwable" (202 : Nat) ({ cls := "java/lang/Throwable", name := "fillInStackTrace", desc := "(I)Ljava/lang/Throwable;" } : Jvm.MethodName)) ∈ lw_all := lw_g (lw_at lw_m1 191 rfl) rfl
theorem q302 : (Jvm.Cond.privateMethod ({ cls := "java/lang/Throwable", name := "fillInStackTrace", desc := "(I)Ljava/lang/Throwable;" } : Jvm.MethodName)) ∈ lw_tbl := lw_at lw_m1 192 rfl
theorem q303 : (Jvm.Cond.instanceMethod ({ cls := "java/lang/Throwable", name := "fillInStackTrace", desc := "(I)Ljava/lang/Throwable;" } : Jvm.MethodName)) ∈ lw_all := lw_g (lw_at lw_m1 193 rfl) rfl
theorem q304 : (Jvm.Cond.instantiable "java/lang/Throwable" (6 : Nat)) ∈ lw_all := lw_g (lw_at lw_m1 194 rfl) rfl
theorem q305 : (Jvm.Cond.native ({ cls := "java/lang/Throwable", name := "fillInStackTrace", desc := "(I)Ljava/lang/Throwable;" } : Jvm.MethodName)) ∈ lw_all := lw_g (lw_at lw_m1 195 rfl) rfl
theorem q306 : (Jvm.Cond.fieldLink "java/lang/Throwable" (198 : Nat) "java/lang/Throwable" "backtrace" "Ljava/lang/Object;") ∈ lw_all := lw_g (lw_at lw_m1 196 rfl) rfl
theorem q307 : (Jvm.Cond.fieldLink "java/lang/Throwable" (31 : Nat) "java/lang/Throwable" "detailMessage" "Ljava/lang/String;") ∈ lw_all := lw_g (lw_at lw_m1 197 rfl) rfl
theorem q308 : (Jvm.Cond.fieldLink "java/lang/Throwable" (7 : Nat) "java/lang/Throwable" "cause" "Ljava/lang/Throwable;") ∈ lw_all := lw_g (lw_at lw_m1 198 rfl) rfl
theorem q309 : (Jvm.Cond.fieldLink "java/lang/Throwable" (17 : Nat) "java/lang/Throwable" "stackTrace" "[Ljava/lang/StackTraceElement;") ∈ lw_all := lw_g (lw_at lw_m1 199 rfl) rfl
theorem q310 : (Jvm.Cond.fieldLink "java/lang/Throwable" (24 : Nat) "java/lang/Throwable" "suppressedExceptions" "Ljava/util/List;") ∈ lw_all := lw_g (lw_at lw_m1 200 rfl) rfl
theorem q312 : (Jvm.Cond.soleField "java/lang/Throwable" "backtrace") ∈ lw_all := lw_g (lw_at lw_m1 202 rfl) rfl
theorem q314 : (Jvm.Cond.soleField "java/lang/Throwable" "detailMessage") ∈ lw_all := lw_g (lw_at lw_m1 204 rfl) rfl
theorem q316 : (Jvm.Cond.soleField "java/lang/Throwable" "cause") ∈ lw_all := lw_g (lw_at lw_m1 206 rfl) rfl
theorem q318 : (Jvm.Cond.soleField "java/lang/Throwable" "stackTrace") ∈ lw_all := lw_g (lw_at lw_m1 208 rfl) rfl
theorem q320 : (Jvm.Cond.soleField "java/lang/Throwable" "depth") ∈ lw_all := lw_g (lw_at lw_m1 210 rfl) rfl
theorem q322 : (Jvm.Cond.soleField "java/lang/Throwable" "suppressedExceptions") ∈ lw_all := lw_g (lw_at lw_m1 212 rfl) rfl
theorem q331 : (Jvm.Cond.declares ({ cls := "java/lang/Throwable", name := "<init>", desc := "()V" } : Jvm.MethodName)) ∈ lw_tbl := lw_at lw_m1 221 rfl
theorem q332 : (Jvm.Cond.declares ({ cls := "java/lang/Throwable", name := "<init>", desc := "(Ljava/lang/String;)V" } : Jvm.MethodName)) ∈ lw_tbl := lw_at lw_m1 222 rfl
theorem q334 : (Jvm.Cond.lays "java/lang/Throwable" "java/lang/Throwable" "cause" "Ljava/lang/Throwable;") ∈ lw_all := lw_g (lw_at lw_m1 224 rfl) rfl
theorem q335 : (Jvm.Cond.lays "java/lang/Throwable" "java/lang/Throwable" "stackTrace" "[Ljava/lang/StackTraceElement;") ∈ lw_all := lw_g (lw_at lw_m1 225 rfl) rfl
theorem q336 : (Jvm.Cond.lays "java/lang/Throwable" "java/lang/Throwable" "suppressedExceptions" "Ljava/util/List;") ∈ lw_all := lw_g (lw_at lw_m1 226 rfl) rfl
theorem q337 : (Jvm.Cond.lays "java/lang/Throwable" "java/lang/Throwable" "detailMessage" "Ljava/lang/String;") ∈ lw_all := lw_g (lw_at lw_m1 227 rfl) rfl
theorem q338 : (Jvm.Cond.lays "java/lang/Throwable" "java/lang/Throwable" "backtrace" "Ljava/lang/Object;") ∈ lw_all := lw_g (lw_at lw_m1 228 rfl) rfl
theorem q339 : (Jvm.Cond.fieldLink "java/lang/Throwable" (198 : Nat) "java/lang/Throwable" "backtrace" "Ljava/lang/Object;") ∈ lw_all := lw_g (lw_at lw_m1 229 rfl) rfl
theorem q340 : (Jvm.Cond.superclass "java/lang/Throwable" "java/lang/Object") ∈ lw_all := lw_g (lw_at lw_m1 230 rfl) rfl
theorem q341 : (Jvm.Cond.instanceMethod ({ cls := "java/lang/Throwable", name := "<init>", desc := "()V" } : Jvm.MethodName)) ∈ lw_all := lw_g (lw_at lw_m1 231 rfl) rfl
theorem q342 : (Jvm.Cond.code ({ cls := "java/lang/Throwable", name := "<init>", desc := "()V" } : Jvm.MethodName) prog_40_method_1_code (1 : Nat) (Option.none : Option Jvm.ClassFile.FieldType)) ∈ lw_all := lw_g (lw_at lw_m1 232 rfl) rfl
theorem q820 : (Jvm.Cond.instanceMethod ({ cls := "java/lang/Throwable", name := "<init>", desc := "(Ljava/lang/String;Ljava/lang/Throwable;ZZ)V" } : Jvm.MethodName)) ∈ lw_all := lw_g (lw_at lw_m3 230 rfl) rfl
theorem q821 : (Jvm.Cond.code ({ cls := "java/lang/Throwable", name := "<init>", desc := "(Ljava/lang/String;Ljava/lang/Throwable;ZZ)V" } : Jvm.MethodName) prog_40_method_5_code (5 : Nat) (Option.none : Option Jvm.ClassFile.FieldType)) ∈ lw_all := lw_g (lw_at lw_m3 231 rfl) rfl
theorem q2426 : (Jvm.Cond.sameMethod "java/lang/Throwable" "java/lang/Throwable" "fillInStackTrace" "(I)Ljava/lang/Throwable;") ∈ lw_all := lw_g (lw_at lw_m10 156 rfl) rfl
theorem q2463 : (Jvm.Cond.castable "java/lang/Throwable" "java/lang/Object") ∈ lw_tbl := lw_at lw_m10 193 rfl
theorem in_J2 : ∀ w ∈ wsJ20, w ∈ lw_all := lw_in wsJ20 [334, 335, 336, 337, 338] (by decide +kernel) (by decide +kernel)
/-! java/util/Objects -/
def RJ20 : String := "java/util/Objects"
abbrev cJ20_checkIndex : ByteArray := prog_51_method_17_code
def yJ20_checkIndex : MethodName := ⟨RJ20, "checkIndex", "(II)I"⟩
theorem q141 : (Jvm.Cond.initialized "java/util/Objects") ∈ lw_all := lw_g (lw_at lw_m1 31 rfl) rfl
theorem q874 : (Jvm.Cond.static ({ cls := "java/util/Objects", name := "checkIndex", desc := "(II)I" } : Jvm.MethodName)) ∈ lw_all := lw_g (lw_at lw_m4 44 rfl) rfl
theorem q875 : (Jvm.Cond.code ({ cls := "java/util/Objects", name := "checkIndex", desc := "(II)I" } : Jvm.MethodName) prog_51_method_17_code (2 : Nat) (Option.some Jvm.ClassFile.FieldType.int)) ∈ lw_all := lw_g (lw_at lw_m4 45 rfl) rfl
theorem q876 : (Jvm.Cond.methodLink "java/util/Objects" (105 : Nat) ({ cls := "jdk/internal/util/Preconditions", name := "checkIndex", desc := "(IILjava/util/function/BiFunction;)I" } : Jvm.MethodName)) ∈ lw_all := lw_g (lw_at lw_m4 46 rfl) rfl
/-! java/lang/IllegalStateException -/
def RJ21 : String := "java/lang/IllegalStateException"
def TJ21 : u_T := fun k => match k with
  | 0 => ("java/lang/Throwable", "cause", "Ljava/lang/Throwable;", false)
  | 1 => ("java/lang/Throwable", "stackTrace", "[Ljava/lang/StackTraceElement;", false)
  | 2 => ("java/lang/Throwable", "suppressedExceptions", "Ljava/util/List;", false)
  | 3 => ("java/lang/Throwable", "detailMessage", "Ljava/lang/String;", false)
  | 4 => ("java/lang/Throwable", "backtrace", "Ljava/lang/Object;", false)
  | _ => ("java/lang/Throwable", "depth", "I", false)
def tyJ21 : Nat → FieldType := fun k => match k with
  | 0 => .object "java/lang/Throwable"
  | 1 => .array (.object "java/lang/StackTraceElement")
  | 2 => .object "java/util/List"
  | 3 => .object "java/lang/String"
  | 4 => .object "java/lang/Object"
  | _ => .int
abbrev wsJ210 : List Cond := u_ws RJ21 TJ21 6
theorem nmJ21 : ∀ a, a < 6 → ∀ b, b < 6 → a ≠ b → (TJ21 a).2.1 ≠ (TJ21 b).2.1 := by decide +kernel
theorem tyJ21_ok : ∀ k, k < 6 → parseFieldDescriptor (TJ21 k).2.2.1 = some (tyJ21 k) := by decide +kernel
abbrev cJ21_init : ByteArray := prog_28_method_1_code
def yJ21_init : MethodName := ⟨RJ21, "<init>", "()V"⟩
abbrev cJ21_init_2 : ByteArray := prog_28_method_2_code
def yJ21_init_2 : MethodName := ⟨RJ21, "<init>", "(Ljava/lang/String;)V"⟩
theorem q146 : (Jvm.Cond.initialized "java/lang/IllegalStateException") ∈ lw_all := lw_g (lw_at lw_m1 36 rfl) rfl
theorem q298 : (Jvm.Cond.selects "java/lang/IllegalStateException" ({ cls := "java/lang/Throwable", name := "fillInStackTrace", desc := "()Ljava/lang/Throwable;" } : Jvm.MethodName) ({ cls := "java/lang/Throwable", name := "fillInStackTrace", desc := "()Ljava/lang/Throwable;" } : Jvm.MethodName)) ∈ lw_all := lw_g (lw_at lw_m1 188 rfl) rfl
theorem q954 : (Jvm.Cond.selects "java/lang/IllegalStateException" ({ cls := "java/lang/Object", name := "getClass", desc := "()Ljava/lang/Class;" } : Jvm.MethodName) ({ cls := "java/lang/Object", name := "getClass", desc := "()Ljava/lang/Class;" } : Jvm.MethodName)) ∈ lw_all := lw_g (lw_at lw_m4 124 rfl) rfl
theorem q1078 : (Jvm.Cond.instantiable "java/lang/IllegalStateException" (6 : Nat)) ∈ lw_all := lw_g (lw_at lw_m5 8 rfl) rfl
theorem q1079 : (Jvm.Cond.castable "java/lang/IllegalStateException" "java/lang/IllegalStateException") ∈ lw_tbl := lw_at lw_m5 9 rfl
theorem q1080 : (Jvm.Cond.selects "java/lang/IllegalStateException" ({ cls := "java/lang/Throwable", name := "fillInStackTrace", desc := "(I)Ljava/lang/Throwable;" } : Jvm.MethodName) ({ cls := "java/lang/Throwable", name := "fillInStackTrace", desc := "(I)Ljava/lang/Throwable;" } : Jvm.MethodName)) ∈ lw_all := lw_g (lw_at lw_m5 10 rfl) rfl
theorem q1081 : (Jvm.Cond.lays "java/lang/IllegalStateException" "java/lang/Throwable" "cause" "Ljava/lang/Throwable;") ∈ lw_all := lw_g (lw_at lw_m5 11 rfl) rfl
theorem q1082 : (Jvm.Cond.lays "java/lang/IllegalStateException" "java/lang/Throwable" "stackTrace" "[Ljava/lang/StackTraceElement;") ∈ lw_all := lw_g (lw_at lw_m5 12 rfl) rfl
theorem q1083 : (Jvm.Cond.lays "java/lang/IllegalStateException" "java/lang/Throwable" "suppressedExceptions" "Ljava/util/List;") ∈ lw_all := lw_g (lw_at lw_m5 13 rfl) rfl
theorem q1084 : (Jvm.Cond.lays "java/lang/IllegalStateException" "java/lang/Throwable" "detailMessage" "Ljava/lang/String;") ∈ lw_all := lw_g (lw_at lw_m5 14 rfl) rfl
theorem q1085 : (Jvm.Cond.lays "java/lang/IllegalStateException" "java/lang/Throwable" "backtrace" "Ljava/lang/Object;") ∈ lw_all := lw_g (lw_at lw_m5 15 rfl) rfl
theorem q1087 : (Jvm.Cond.instanceMethod ({ cls := "java/lang/IllegalStateException", name := "<init>", desc := "()V" } : Jvm.MethodName)) ∈ lw_all := lw_g (lw_at lw_m5 17 rfl) rfl
theorem q1088 : (Jvm.Cond.code ({ cls := "java/lang/IllegalStateException", name := "<init>", desc := "()V" } : Jvm.MethodName) prog_28_method_1_code (1 : Nat) (Option.none : Option Jvm.ClassFile.FieldType)) ∈ lw_all := lw_g (lw_at lw_m5 18 rfl) rfl
theorem q1089 : (Jvm.Cond.methodLink "java/lang/IllegalStateException" (1 : Nat) ({ cls := "java/lang/RuntimeException", name := "<init>", desc := "()V" } : Jvm.MethodName)) ∈ lw_all := lw_g (lw_at lw_m5 19 rfl) rfl
theorem q1090 : (Jvm.Cond.lays "java/lang/IllegalStateException" "java/lang/Throwable" "depth" "I") ∈ lw_all := lw_g (lw_at lw_m5 20 rfl) rfl
theorem q1091 : (Jvm.Cond.superclass "java/lang/IllegalStateException" "java/lang/RuntimeException") ∈ lw_all := lw_g (lw_at lw_m5 21 rfl) rfl
theorem q1647 : (Jvm.Cond.instanceMethod ({ cls := "java/lang/IllegalStateException", name := "<init>", desc := "(Ljava/lang/String;)V" } : Jvm.MethodName)) ∈ lw_all := lw_g (lw_at lw_m7 97 rfl) rfl
theorem q1648 : (Jvm.Cond.code ({ cls := "java/lang/IllegalStateException", name := "<init>", desc := "(Ljava/lang/String;)V" } : Jvm.MethodName) prog_28_method_2_code (2 : Nat) (Option.none : Option Jvm.ClassFile.FieldType)) ∈ lw_all := lw_g (lw_at lw_m7 98 rfl) rfl
theorem q1649 : (Jvm.Cond.methodLink "java/lang/IllegalStateException" (7 : Nat) ({ cls := "java/lang/RuntimeException", name := "<init>", desc := "(Ljava/lang/String;)V" } : Jvm.MethodName)) ∈ lw_all := lw_g (lw_at lw_m7 99 rfl) rfl
theorem q2458 : (Jvm.Cond.castable "java/lang/IllegalStateException" "java/lang/Object") ∈ lw_tbl := lw_at lw_m10 188 rfl
theorem in_J21 : ∀ w ∈ wsJ210, w ∈ lw_all := lw_in wsJ210 [1081, 1082, 1083, 1084, 1085, 1090] (by decide +kernel) (by decide +kernel)
/-! java/lang/Object -/
def RJ22 : String := "java/lang/Object"
abbrev cJ22_init : ByteArray := object_method_1_code
def yJ22_init : MethodName := ⟨RJ22, "<init>", "()V"⟩
theorem q158 : (Jvm.Cond.instanceMethod ({ cls := "java/lang/Object", name := "<init>", desc := "()V" } : Jvm.MethodName)) ∈ lw_all := lw_g (lw_at lw_m1 48 rfl) rfl
theorem q159 : (Jvm.Cond.code ({ cls := "java/lang/Object", name := "<init>", desc := "()V" } : Jvm.MethodName) object_method_1_code (1 : Nat) (Option.none : Option Jvm.ClassFile.FieldType)) ∈ lw_all := lw_g (lw_at lw_m1 49 rfl) rfl
theorem q490 : (Jvm.Cond.native ({ cls := "java/lang/Object", name := "clone", desc := "()Ljava/lang/Object;" } : Jvm.MethodName)) ∈ lw_all := lw_g (lw_at lw_m2 140 rfl) rfl
theorem q491 : (Jvm.Cond.instanceMethod ({ cls := "java/lang/Object", name := "clone", desc := "()Ljava/lang/Object;" } : Jvm.MethodName)) ∈ lw_all := lw_g (lw_at lw_m2 141 rfl) rfl
theorem q936 : (Jvm.Cond.instanceMethod ({ cls := "java/lang/Object", name := "getClass", desc := "()Ljava/lang/Class;" } : Jvm.MethodName)) ∈ lw_all := lw_g (lw_at lw_m4 106 rfl) rfl
theorem q937 : (Jvm.Cond.sameMethod "java/lang/Object" "java/lang/Object" "getClass" "()Ljava/lang/Class;") ∈ lw_all := lw_g (lw_at lw_m4 107 rfl) rfl
theorem q960 : (Jvm.Cond.native ({ cls := "java/lang/Object", name := "getClass", desc := "()Ljava/lang/Class;" } : Jvm.MethodName)) ∈ lw_all := lw_g (lw_at lw_m4 130 rfl) rfl
theorem q2437 : (Jvm.Cond.initialized "java/lang/Object") ∈ lw_all := lw_g (lw_at lw_m10 167 rfl) rfl
theorem q2466 : (Jvm.Cond.declares ({ cls := "java/lang/Object", name := "getClass", desc := "()Ljava/lang/Class;" } : Jvm.MethodName)) ∈ lw_tbl := lw_at lw_m10 196 rfl
/-! java/lang/Exception -/
def RJ3 : String := "java/lang/Exception"
abbrev cJ3_init : ByteArray := prog_26_method_2_code
def yJ3_init : MethodName := ⟨RJ3, "<init>", "(Ljava/lang/String;)V"⟩
abbrev cJ3_init_2 : ByteArray := prog_26_method_1_code
def yJ3_init_2 : MethodName := ⟨RJ3, "<init>", "()V"⟩
abbrev cJ3_init_3 : ByteArray := prog_26_method_5_code
def yJ3_init_3 : MethodName := ⟨RJ3, "<init>", "(Ljava/lang/String;Ljava/lang/Throwable;ZZ)V"⟩
theorem q116 : (Jvm.Cond.initialized "java/lang/Exception") ∈ lw_all := lw_g (lw_at lw_m1 6 rfl) rfl
theorem q281 : (Jvm.Cond.instanceMethod ({ cls := "java/lang/Exception", name := "<init>", desc := "(Ljava/lang/String;)V" } : Jvm.MethodName)) ∈ lw_all := lw_g (lw_at lw_m1 171 rfl) rfl
theorem q282 : (Jvm.Cond.code ({ cls := "java/lang/Exception", name := "<init>", desc := "(Ljava/lang/String;)V" } : Jvm.MethodName) prog_26_method_2_code (2 : Nat) (Option.none : Option Jvm.ClassFile.FieldType)) ∈ lw_all := lw_g (lw_at lw_m1 172 rfl) rfl
theorem q283 : (Jvm.Cond.methodLink "java/lang/Exception" (7 : Nat) ({ cls := "java/lang/Throwable", name := "<init>", desc := "(Ljava/lang/String;)V" } : Jvm.MethodName)) ∈ lw_all := lw_g (lw_at lw_m1 173 rfl) rfl
theorem q329 : (Jvm.Cond.declares ({ cls := "java/lang/Exception", name := "<init>", desc := "()V" } : Jvm.MethodName)) ∈ lw_tbl := lw_at lw_m1 219 rfl
theorem q330 : (Jvm.Cond.declares ({ cls := "java/lang/Exception", name := "<init>", desc := "(Ljava/lang/String;)V" } : Jvm.MethodName)) ∈ lw_tbl := lw_at lw_m1 220 rfl
theorem q376 : (Jvm.Cond.instanceMethod ({ cls := "java/lang/Exception", name := "<init>", desc := "()V" } : Jvm.MethodName)) ∈ lw_all := lw_g (lw_at lw_m2 26 rfl) rfl
theorem q377 : (Jvm.Cond.code ({ cls := "java/lang/Exception", name := "<init>", desc := "()V" } : Jvm.MethodName) prog_26_method_1_code (1 : Nat) (Option.none : Option Jvm.ClassFile.FieldType)) ∈ lw_all := lw_g (lw_at lw_m2 27 rfl) rfl
theorem q378 : (Jvm.Cond.methodLink "java/lang/Exception" (1 : Nat) ({ cls := "java/lang/Throwable", name := "<init>", desc := "()V" } : Jvm.MethodName)) ∈ lw_all := lw_g (lw_at lw_m2 28 rfl) rfl
theorem q817 : (Jvm.Cond.instanceMethod ({ cls := "java/lang/Exception", name := "<init>", desc := "(Ljava/lang/String;Ljava/lang/Throwable;ZZ)V" } : Jvm.MethodName)) ∈ lw_all := lw_g (lw_at lw_m3 227 rfl) rfl
theorem q818 : (Jvm.Cond.code ({ cls := "java/lang/Exception", name := "<init>", desc := "(Ljava/lang/String;Ljava/lang/Throwable;ZZ)V" } : Jvm.MethodName) prog_26_method_5_code (5 : Nat) (Option.none : Option Jvm.ClassFile.FieldType)) ∈ lw_all := lw_g (lw_at lw_m3 228 rfl) rfl
theorem q819 : (Jvm.Cond.methodLink "java/lang/Exception" (16 : Nat) ({ cls := "java/lang/Throwable", name := "<init>", desc := "(Ljava/lang/String;Ljava/lang/Throwable;ZZ)V" } : Jvm.MethodName)) ∈ lw_all := lw_g (lw_at lw_m3 229 rfl) rfl
/-! java/lang/RuntimeException -/
def RJ4 : String := "java/lang/RuntimeException"
abbrev cJ4_init : ByteArray := prog_34_method_2_code
def yJ4_init : MethodName := ⟨RJ4, "<init>", "(Ljava/lang/String;)V"⟩
abbrev cJ4_init_2 : ByteArray := prog_34_method_1_code
def yJ4_init_2 : MethodName := ⟨RJ4, "<init>", "()V"⟩
theorem q117 : (Jvm.Cond.initialized "java/lang/RuntimeException") ∈ lw_all := lw_g (lw_at lw_m1 7 rfl) rfl
theorem q278 : (Jvm.Cond.instanceMethod ({ cls := "java/lang/RuntimeException", name := "<init>", desc := "(Ljava/lang/String;)V" } : Jvm.MethodName)) ∈ lw_all := lw_g (lw_at lw_m1 168 rfl) rfl
theorem q279 : (Jvm.Cond.code ({ cls := "java/lang/RuntimeException", name := "<init>", desc := "(Ljava/lang/String;)V" } : Jvm.MethodName) prog_34_method_2_code (2 : Nat) (Option.none : Option Jvm.ClassFile.FieldType)) ∈ lw_all := lw_g (lw_at lw_m1 169 rfl) rfl
theorem q280 : (Jvm.Cond.methodLink "java/lang/RuntimeException" (7 : Nat) ({ cls := "java/lang/Exception", name := "<init>", desc := "(Ljava/lang/String;)V" } : Jvm.MethodName)) ∈ lw_all := lw_g (lw_at lw_m1 170 rfl) rfl
theorem q327 : (Jvm.Cond.declares ({ cls := "java/lang/RuntimeException", name := "<init>", desc := "()V" } : Jvm.MethodName)) ∈ lw_tbl := lw_at lw_m1 217 rfl
theorem q328 : (Jvm.Cond.declares ({ cls := "java/lang/RuntimeException", name := "<init>", desc := "(Ljava/lang/String;)V" } : Jvm.MethodName)) ∈ lw_tbl := lw_at lw_m1 218 rfl
theorem q373 : (Jvm.Cond.instanceMethod ({ cls := "java/lang/RuntimeException", name := "<init>", desc := "()V" } : Jvm.MethodName)) ∈ lw_all := lw_g (lw_at lw_m2 23 rfl) rfl
theorem q374 : (Jvm.Cond.code ({ cls := "java/lang/RuntimeException", name := "<init>", desc := "()V" } : Jvm.MethodName) prog_34_method_1_code (1 : Nat) (Option.none : Option Jvm.ClassFile.FieldType)) ∈ lw_all := lw_g (lw_at lw_m2 24 rfl) rfl
theorem q375 : (Jvm.Cond.methodLink "java/lang/RuntimeException" (1 : Nat) ({ cls := "java/lang/Exception", name := "<init>", desc := "()V" } : Jvm.MethodName)) ∈ lw_all := lw_g (lw_at lw_m2 25 rfl) rfl
/-! java/lang/IndexOutOfBoundsException -/
def RJ5 : String := "java/lang/IndexOutOfBoundsException"
def TJ5 : u_T := fun k => match k with
  | 0 => ("java/lang/Throwable", "cause", "Ljava/lang/Throwable;", false)
  | 1 => ("java/lang/Throwable", "stackTrace", "[Ljava/lang/StackTraceElement;", false)
  | 2 => ("java/lang/Throwable", "suppressedExceptions", "Ljava/util/List;", false)
  | 3 => ("java/lang/Throwable", "detailMessage", "Ljava/lang/String;", false)
  | 4 => ("java/lang/Throwable", "backtrace", "Ljava/lang/Object;", false)
  | _ => ("java/lang/Throwable", "depth", "I", false)
def tyJ5 : Nat → FieldType := fun k => match k with
  | 0 => .object "java/lang/Throwable"
  | 1 => .array (.object "java/lang/StackTraceElement")
  | 2 => .object "java/util/List"
  | 3 => .object "java/lang/String"
  | 4 => .object "java/lang/Object"
  | _ => .int
abbrev wsJ50 : List Cond := u_ws RJ5 TJ5 6
theorem nmJ5 : ∀ a, a < 6 → ∀ b, b < 6 → a ≠ b → (TJ5 a).2.1 ≠ (TJ5 b).2.1 := by decide +kernel
theorem tyJ5_ok : ∀ k, k < 6 → parseFieldDescriptor (TJ5 k).2.2.1 = some (tyJ5 k) := by decide +kernel
abbrev cJ5_init : ByteArray := prog_29_method_2_code
def yJ5_init : MethodName := ⟨RJ5, "<init>", "(Ljava/lang/String;)V"⟩
abbrev cJ5_init_2 : ByteArray := prog_29_method_1_code
def yJ5_init_2 : MethodName := ⟨RJ5, "<init>", "()V"⟩
theorem q118 : (Jvm.Cond.initialized "java/lang/IndexOutOfBoundsException") ∈ lw_all := lw_g (lw_at lw_m1 8 rfl) rfl
theorem q275 : (Jvm.Cond.instanceMethod ({ cls := "java/lang/IndexOutOfBoundsException", name := "<init>", desc := "(Ljava/lang/String;)V" } : Jvm.MethodName)) ∈ lw_all := lw_g (lw_at lw_m1 165 rfl) rfl
theorem q276 : (Jvm.Cond.code ({ cls := "java/lang/IndexOutOfBoundsException", name := "<init>", desc := "(Ljava/lang/String;)V" } : Jvm.MethodName) prog_29_method_2_code (2 : Nat) (Option.none : Option Jvm.ClassFile.FieldType)) ∈ lw_all := lw_g (lw_at lw_m1 166 rfl) rfl
theorem q277 : (Jvm.Cond.methodLink "java/lang/IndexOutOfBoundsException" (7 : Nat) ({ cls := "java/lang/RuntimeException", name := "<init>", desc := "(Ljava/lang/String;)V" } : Jvm.MethodName)) ∈ lw_all := lw_g (lw_at lw_m1 167 rfl) rfl
theorem q299 : (Jvm.Cond.selects "java/lang/IndexOutOfBoundsException" ({ cls := "java/lang/Throwable", name := "fillInStackTrace", desc := "()Ljava/lang/Throwable;" } : Jvm.MethodName) ({ cls := "java/lang/Throwable", name := "fillInStackTrace", desc := "()Ljava/lang/Throwable;" } : Jvm.MethodName)) ∈ lw_all := lw_g (lw_at lw_m1 189 rfl) rfl
theorem q325 : (Jvm.Cond.declares ({ cls := "java/lang/IndexOutOfBoundsException", name := "<init>", desc := "()V" } : Jvm.MethodName)) ∈ lw_tbl := lw_at lw_m1 215 rfl
theorem q326 : (Jvm.Cond.declares ({ cls := "java/lang/IndexOutOfBoundsException", name := "<init>", desc := "(Ljava/lang/String;)V" } : Jvm.MethodName)) ∈ lw_tbl := lw_at lw_m1 216 rfl
theorem q361 : (Jvm.Cond.instantiable "java/lang/IndexOutOfBoundsException" (6 : Nat)) ∈ lw_all := lw_g (lw_at lw_m2 11 rfl) rfl
theorem q362 : (Jvm.Cond.castable "java/lang/IndexOutOfBoundsException" "java/lang/IndexOutOfBoundsException") ∈ lw_tbl := lw_at lw_m2 12 rfl
theorem q363 : (Jvm.Cond.selects "java/lang/IndexOutOfBoundsException" ({ cls := "java/lang/Throwable", name := "fillInStackTrace", desc := "(I)Ljava/lang/Throwable;" } : Jvm.MethodName) ({ cls := "java/lang/Throwable", name := "fillInStackTrace", desc := "(I)Ljava/lang/Throwable;" } : Jvm.MethodName)) ∈ lw_all := lw_g (lw_at lw_m2 13 rfl) rfl
theorem q364 : (Jvm.Cond.lays "java/lang/IndexOutOfBoundsException" "java/lang/Throwable" "cause" "Ljava/lang/Throwable;") ∈ lw_all := lw_g (lw_at lw_m2 14 rfl) rfl
theorem q365 : (Jvm.Cond.lays "java/lang/IndexOutOfBoundsException" "java/lang/Throwable" "stackTrace" "[Ljava/lang/StackTraceElement;") ∈ lw_all := lw_g (lw_at lw_m2 15 rfl) rfl
theorem q366 : (Jvm.Cond.lays "java/lang/IndexOutOfBoundsException" "java/lang/Throwable" "suppressedExceptions" "Ljava/util/List;") ∈ lw_all := lw_g (lw_at lw_m2 16 rfl) rfl
theorem q367 : (Jvm.Cond.lays "java/lang/IndexOutOfBoundsException" "java/lang/Throwable" "detailMessage" "Ljava/lang/String;") ∈ lw_all := lw_g (lw_at lw_m2 17 rfl) rfl
theorem q368 : (Jvm.Cond.lays "java/lang/IndexOutOfBoundsException" "java/lang/Throwable" "backtrace" "Ljava/lang/Object;") ∈ lw_all := lw_g (lw_at lw_m2 18 rfl) rfl
theorem q370 : (Jvm.Cond.instanceMethod ({ cls := "java/lang/IndexOutOfBoundsException", name := "<init>", desc := "()V" } : Jvm.MethodName)) ∈ lw_all := lw_g (lw_at lw_m2 20 rfl) rfl
theorem q371 : (Jvm.Cond.code ({ cls := "java/lang/IndexOutOfBoundsException", name := "<init>", desc := "()V" } : Jvm.MethodName) prog_29_method_1_code (1 : Nat) (Option.none : Option Jvm.ClassFile.FieldType)) ∈ lw_all := lw_g (lw_at lw_m2 21 rfl) rfl
theorem q372 : (Jvm.Cond.methodLink "java/lang/IndexOutOfBoundsException" (1 : Nat) ({ cls := "java/lang/RuntimeException", name := "<init>", desc := "()V" } : Jvm.MethodName)) ∈ lw_all := lw_g (lw_at lw_m2 22 rfl) rfl
theorem q379 : (Jvm.Cond.lays "java/lang/IndexOutOfBoundsException" "java/lang/Throwable" "depth" "I") ∈ lw_all := lw_g (lw_at lw_m2 29 rfl) rfl
theorem q380 : (Jvm.Cond.superclass "java/lang/IndexOutOfBoundsException" "java/lang/RuntimeException") ∈ lw_all := lw_g (lw_at lw_m2 30 rfl) rfl
theorem q955 : (Jvm.Cond.selects "java/lang/IndexOutOfBoundsException" ({ cls := "java/lang/Object", name := "getClass", desc := "()Ljava/lang/Class;" } : Jvm.MethodName) ({ cls := "java/lang/Object", name := "getClass", desc := "()Ljava/lang/Class;" } : Jvm.MethodName)) ∈ lw_all := lw_g (lw_at lw_m4 125 rfl) rfl
theorem q2446 : (Jvm.Cond.castable "java/lang/IndexOutOfBoundsException" "java/lang/Object") ∈ lw_tbl := lw_at lw_m10 176 rfl
theorem in_J5 : ∀ w ∈ wsJ50, w ∈ lw_all := lw_in wsJ50 [364, 365, 366, 367, 368, 379] (by decide +kernel) (by decide +kernel)
/-! java/lang/ArrayIndexOutOfBoundsException -/
def RJ6 : String := "java/lang/ArrayIndexOutOfBoundsException"
def TJ6 : u_T := fun k => match k with
  | 0 => ("java/lang/Throwable", "backtrace", "Ljava/lang/Object;", false)
  | 1 => ("java/lang/Throwable", "detailMessage", "Ljava/lang/String;", false)
  | 2 => ("java/lang/Throwable", "cause", "Ljava/lang/Throwable;", false)
  | 3 => ("java/lang/Throwable", "stackTrace", "[Ljava/lang/StackTraceElement;", false)
  | 4 => ("java/lang/Throwable", "depth", "I", false)
  | _ => ("java/lang/Throwable", "suppressedExceptions", "Ljava/util/List;", false)
def tyJ6 : Nat → FieldType := fun k => match k with
  | 0 => .object "java/lang/Object"
  | 1 => .object "java/lang/String"
  | 2 => .object "java/lang/Throwable"
  | 3 => .array (.object "java/lang/StackTraceElement")
  | 4 => .int
  | _ => .object "java/util/List"
abbrev wsJ60 : List Cond := u_ws RJ6 TJ6 6
theorem nmJ6 : ∀ a, a < 6 → ∀ b, b < 6 → a ≠ b → (TJ6 a).2.1 ≠ (TJ6 b).2.1 := by decide +kernel
theorem tyJ6_ok : ∀ k, k < 6 → parseFieldDescriptor (TJ6 k).2.2.1 = some (tyJ6 k) := by decide +kernel
abbrev cJ6_init : ByteArray := prog_21_method_2_code
def yJ6_init : MethodName := ⟨RJ6, "<init>", "(Ljava/lang/String;)V"⟩
theorem q119 : (Jvm.Cond.initialized "java/lang/ArrayIndexOutOfBoundsException") ∈ lw_all := lw_g (lw_at lw_m1 9 rfl) rfl
theorem q271 : (Jvm.Cond.instantiable "java/lang/ArrayIndexOutOfBoundsException" (6 : Nat)) ∈ lw_all := lw_g (lw_at lw_m1 161 rfl) rfl
theorem q272 : (Jvm.Cond.instanceMethod ({ cls := "java/lang/ArrayIndexOutOfBoundsException", name := "<init>", desc := "(Ljava/lang/String;)V" } : Jvm.MethodName)) ∈ lw_all := lw_g (lw_at lw_m1 162 rfl) rfl
theorem q273 : (Jvm.Cond.code ({ cls := "java/lang/ArrayIndexOutOfBoundsException", name := "<init>", desc := "(Ljava/lang/String;)V" } : Jvm.MethodName) prog_21_method_2_code (2 : Nat) (Option.none : Option Jvm.ClassFile.FieldType)) ∈ lw_all := lw_g (lw_at lw_m1 163 rfl) rfl
theorem q274 : (Jvm.Cond.methodLink "java/lang/ArrayIndexOutOfBoundsException" (7 : Nat) ({ cls := "java/lang/IndexOutOfBoundsException", name := "<init>", desc := "(Ljava/lang/String;)V" } : Jvm.MethodName)) ∈ lw_all := lw_g (lw_at lw_m1 164 rfl) rfl
theorem q296 : (Jvm.Cond.selects "java/lang/ArrayIndexOutOfBoundsException" ({ cls := "java/lang/Throwable", name := "fillInStackTrace", desc := "()Ljava/lang/Throwable;" } : Jvm.MethodName) ({ cls := "java/lang/Throwable", name := "fillInStackTrace", desc := "()Ljava/lang/Throwable;" } : Jvm.MethodName)) ∈ lw_all := lw_g (lw_at lw_m1 186 rfl) rfl
theorem q311 : (Jvm.Cond.lays "java/lang/ArrayIndexOutOfBoundsException" "java/lang/Throwable" "backtrace" "Ljava/lang/Object;") ∈ lw_all := lw_g (lw_at lw_m1 201 rfl) rfl
theorem q313 : (Jvm.Cond.lays "java/lang/ArrayIndexOutOfBoundsException" "java/lang/Throwable" "detailMessage" "Ljava/lang/String;") ∈ lw_all := lw_g (lw_at lw_m1 203 rfl) rfl
theorem q315 : (Jvm.Cond.lays "java/lang/ArrayIndexOutOfBoundsException" "java/lang/Throwable" "cause" "Ljava/lang/Throwable;") ∈ lw_all := lw_g (lw_at lw_m1 205 rfl) rfl
theorem q317 : (Jvm.Cond.lays "java/lang/ArrayIndexOutOfBoundsException" "java/lang/Throwable" "stackTrace" "[Ljava/lang/StackTraceElement;") ∈ lw_all := lw_g (lw_at lw_m1 207 rfl) rfl
theorem q319 : (Jvm.Cond.lays "java/lang/ArrayIndexOutOfBoundsException" "java/lang/Throwable" "depth" "I") ∈ lw_all := lw_g (lw_at lw_m1 209 rfl) rfl
theorem q321 : (Jvm.Cond.lays "java/lang/ArrayIndexOutOfBoundsException" "java/lang/Throwable" "suppressedExceptions" "Ljava/util/List;") ∈ lw_all := lw_g (lw_at lw_m1 211 rfl) rfl
theorem q323 : (Jvm.Cond.superclass "java/lang/ArrayIndexOutOfBoundsException" "java/lang/IndexOutOfBoundsException") ∈ lw_all := lw_g (lw_at lw_m1 213 rfl) rfl
theorem q324 : (Jvm.Cond.castable "java/lang/ArrayIndexOutOfBoundsException" "java/lang/ArrayIndexOutOfBoundsException") ∈ lw_tbl := lw_at lw_m1 214 rfl
theorem q333 : (Jvm.Cond.selects "java/lang/ArrayIndexOutOfBoundsException" ({ cls := "java/lang/Throwable", name := "fillInStackTrace", desc := "(I)Ljava/lang/Throwable;" } : Jvm.MethodName) ({ cls := "java/lang/Throwable", name := "fillInStackTrace", desc := "(I)Ljava/lang/Throwable;" } : Jvm.MethodName)) ∈ lw_all := lw_g (lw_at lw_m1 223 rfl) rfl
theorem q952 : (Jvm.Cond.selects "java/lang/ArrayIndexOutOfBoundsException" ({ cls := "java/lang/Object", name := "getClass", desc := "()Ljava/lang/Class;" } : Jvm.MethodName) ({ cls := "java/lang/Object", name := "getClass", desc := "()Ljava/lang/Class;" } : Jvm.MethodName)) ∈ lw_all := lw_g (lw_at lw_m4 122 rfl) rfl
theorem q2438 : (Jvm.Cond.castable "java/lang/ArrayIndexOutOfBoundsException" "java/lang/IndexOutOfBoundsException") ∈ lw_tbl := lw_at lw_m10 168 rfl
theorem q2445 : (Jvm.Cond.castable "java/lang/ArrayIndexOutOfBoundsException" "java/lang/Object") ∈ lw_tbl := lw_at lw_m10 175 rfl
theorem in_J6 : ∀ w ∈ wsJ60, w ∈ lw_all := lw_in wsJ60 [311, 313, 315, 317, 319, 321] (by decide +kernel) (by decide +kernel)
/-! java/lang/String -/
def RJ7 : String := "java/lang/String"
def TJ7 : u_T := fun k => match k with
  | 0 => ("java/lang/String", "value", "[B", true)
  | 1 => ("java/lang/String", "coder", "B", true)
  | 2 => ("java/lang/String", "hash", "I", false)
  | _ => ("java/lang/String", "hashIsZero", "Z", false)
def tyJ7 : Nat → FieldType := fun k => match k with
  | 0 => .array .byte
  | 1 => .byte
  | 2 => .int
  | _ => .boolean
abbrev wsJ70 : List Cond := u_ws RJ7 TJ7 4
theorem nmJ7 : ∀ a, a < 4 → ∀ b, b < 4 → a ≠ b → (TJ7 a).2.1 ≠ (TJ7 b).2.1 := by decide +kernel
theorem tyJ7_ok : ∀ k, k < 4 → parseFieldDescriptor (TJ7 k).2.2.1 = some (tyJ7 k) := by decide +kernel
abbrev cJ7_checkBoundsBeginEnd : ByteArray := prog_35_method_158_code
def yJ7_checkBoundsBeginEnd : MethodName := ⟨RJ7, "checkBoundsBeginEnd", "(III)V"⟩
abbrev cJ7_length : ByteArray := prog_35_method_54_code
def yJ7_length : MethodName := ⟨RJ7, "length", "()I"⟩
abbrev cJ7_coder : ByteArray := prog_35_method_152_code
def yJ7_coder : MethodName := ⟨RJ7, "coder", "()B"⟩
abbrev cJ7_checkBoundsOffCount : ByteArray := prog_35_method_157_code
def yJ7_checkBoundsOffCount : MethodName := ⟨RJ7, "checkBoundsOffCount", "(III)I"⟩
abbrev cJ7_getBytes : ByteArray := prog_35_method_147_code
def yJ7_getBytes : MethodName := ⟨RJ7, "getBytes", "([BIB)V"⟩
abbrev cJ7_init : ByteArray := prog_35_method_53_code
def yJ7_init : MethodName := ⟨RJ7, "<init>", "(Ljava/lang/StringBuilder;)V"⟩
abbrev cJ7_init_2 : ByteArray := prog_35_method_150_code
def yJ7_init_2 : MethodName := ⟨RJ7, "<init>", "(Ljava/lang/AbstractStringBuilder;Ljava/lang/Void;)V"⟩
abbrev cJ7_checkIndex : ByteArray := prog_35_method_155_code
def yJ7_checkIndex : MethodName := ⟨RJ7, "checkIndex", "(II)V"⟩
abbrev cJ7_equals : ByteArray := prog_35_method_66_code
def yJ7_equals : MethodName := ⟨RJ7, "equals", "(Ljava/lang/Object;)Z"⟩
abbrev cJ7_charAt : ByteArray := prog_35_method_56_code
def yJ7_charAt : MethodName := ⟨RJ7, "charAt", "(I)C"⟩
abbrev cJ7_isLatin1 : ByteArray := prog_35_method_154_code
def yJ7_isLatin1 : MethodName := ⟨RJ7, "isLatin1", "()Z"⟩
abbrev cJ7_isEmpty : ByteArray := prog_35_method_55_code
def yJ7_isEmpty : MethodName := ⟨RJ7, "isEmpty", "()Z"⟩
theorem q120 : (Jvm.Cond.initialized "java/lang/String") ∈ lw_all := lw_g (lw_at lw_m1 10 rfl) rfl
theorem q343 : (Jvm.Cond.instantiable "java/lang/String" (4 : Nat)) ∈ lw_all := lw_g (lw_at lw_m1 233 rfl) rfl
theorem q344 : (Jvm.Cond.laysFinal "java/lang/String" "java/lang/String" "value" "[B") ∈ lw_all := lw_g (lw_at lw_m1 234 rfl) rfl
theorem q345 : (Jvm.Cond.soleField "java/lang/String" "value") ∈ lw_all := lw_g (lw_at lw_m1 235 rfl) rfl
theorem q346 : (Jvm.Cond.laysFinal "java/lang/String" "java/lang/String" "coder" "B") ∈ lw_all := lw_g (lw_at lw_m1 236 rfl) rfl
theorem q347 : (Jvm.Cond.soleField "java/lang/String" "coder") ∈ lw_all := lw_g (lw_at lw_m1 237 rfl) rfl
theorem q433 : (Jvm.Cond.laysStatic "java/lang/String" "COMPACT_STRINGS" "Z") ∈ lw_tbl := lw_at lw_m2 83 rfl
theorem q443 : (Jvm.Cond.fieldLink "java/lang/String" (1048 : Nat) "java/lang/AbstractStringBuilder" "maybeLatin1" "Z") ∈ lw_all := lw_g (lw_at lw_m2 93 rfl) rfl
theorem q516 : (Jvm.Cond.static ({ cls := "java/lang/String", name := "checkBoundsBeginEnd", desc := "(III)V" } : Jvm.MethodName)) ∈ lw_all := lw_g (lw_at lw_m2 166 rfl) rfl
theorem q517 : (Jvm.Cond.code ({ cls := "java/lang/String", name := "checkBoundsBeginEnd", desc := "(III)V" } : Jvm.MethodName) prog_35_method_158_code (3 : Nat) (Option.none : Option Jvm.ClassFile.FieldType)) ∈ lw_all := lw_g (lw_at lw_m2 167 rfl) rfl
theorem q518 : (Jvm.Cond.fieldLink "java/lang/String" (1053 : Nat) "jdk/internal/util/Preconditions" "SIOOBE_FORMATTER" "Ljava/util/function/BiFunction;") ∈ lw_all := lw_g (lw_at lw_m2 168 rfl) rfl
theorem q520 : (Jvm.Cond.methodLink "java/lang/String" (1062 : Nat) ({ cls := "jdk/internal/util/Preconditions", name := "checkFromToIndex", desc := "(IIILjava/util/function/BiFunction;)I" } : Jvm.MethodName)) ∈ lw_all := lw_g (lw_at lw_m2 170 rfl) rfl
theorem q533 : (Jvm.Cond.instanceMethod ({ cls := "java/lang/String", name := "length", desc := "()I" } : Jvm.MethodName)) ∈ lw_all := lw_g (lw_at lw_m2 183 rfl) rfl
theorem q534 : (Jvm.Cond.selects "java/lang/String" ({ cls := "java/lang/String", name := "length", desc := "()I" } : Jvm.MethodName) ({ cls := "java/lang/String", name := "length", desc := "()I" } : Jvm.MethodName)) ∈ lw_all := lw_g (lw_at lw_m2 184 rfl) rfl
theorem q535 : (Jvm.Cond.code ({ cls := "java/lang/String", name := "length", desc := "()I" } : Jvm.MethodName) prog_35_method_54_code (1 : Nat) (Option.some Jvm.ClassFile.FieldType.int)) ∈ lw_all := lw_g (lw_at lw_m2 185 rfl) rfl
theorem q536 : (Jvm.Cond.methodLink "java/lang/String" (335 : Nat) ({ cls := "java/lang/String", name := "coder", desc := "()B" } : Jvm.MethodName)) ∈ lw_all := lw_g (lw_at lw_m2 186 rfl) rfl
theorem q537 : (Jvm.Cond.instanceMethod ({ cls := "java/lang/String", name := "coder", desc := "()B" } : Jvm.MethodName)) ∈ lw_all := lw_g (lw_at lw_m2 187 rfl) rfl
theorem q538 : (Jvm.Cond.selects "java/lang/String" ({ cls := "java/lang/String", name := "coder", desc := "()B" } : Jvm.MethodName) ({ cls := "java/lang/String", name := "coder", desc := "()B" } : Jvm.MethodName)) ∈ lw_all := lw_g (lw_at lw_m2 188 rfl) rfl
theorem q539 : (Jvm.Cond.code ({ cls := "java/lang/String", name := "coder", desc := "()B" } : Jvm.MethodName) prog_35_method_152_code (1 : Nat) (Option.some Jvm.ClassFile.FieldType.byte)) ∈ lw_all := lw_g (lw_at lw_m2 189 rfl) rfl
theorem q540 : (Jvm.Cond.fieldLink "java/lang/String" (38 : Nat) "java/lang/String" "COMPACT_STRINGS" "Z") ∈ lw_all := lw_g (lw_at lw_m2 190 rfl) rfl
theorem q564 : (Jvm.Cond.static ({ cls := "java/lang/String", name := "checkBoundsOffCount", desc := "(III)I" } : Jvm.MethodName)) ∈ lw_all := lw_g (lw_at lw_m2 214 rfl) rfl
theorem q565 : (Jvm.Cond.code ({ cls := "java/lang/String", name := "checkBoundsOffCount", desc := "(III)I" } : Jvm.MethodName) prog_35_method_157_code (3 : Nat) (Option.some Jvm.ClassFile.FieldType.int)) ∈ lw_all := lw_g (lw_at lw_m2 215 rfl) rfl
theorem q566 : (Jvm.Cond.methodLink "java/lang/String" (1065 : Nat) ({ cls := "jdk/internal/util/Preconditions", name := "checkFromIndexSize", desc := "(IIILjava/util/function/BiFunction;)I" } : Jvm.MethodName)) ∈ lw_all := lw_g (lw_at lw_m2 216 rfl) rfl
theorem q570 : (Jvm.Cond.instanceMethod ({ cls := "java/lang/String", name := "getBytes", desc := "([BIB)V" } : Jvm.MethodName)) ∈ lw_all := lw_g (lw_at lw_m2 220 rfl) rfl
theorem q571 : (Jvm.Cond.selects "java/lang/String" ({ cls := "java/lang/String", name := "getBytes", desc := "([BIB)V" } : Jvm.MethodName) ({ cls := "java/lang/String", name := "getBytes", desc := "([BIB)V" } : Jvm.MethodName)) ∈ lw_all := lw_g (lw_at lw_m2 221 rfl) rfl
theorem q572 : (Jvm.Cond.code ({ cls := "java/lang/String", name := "getBytes", desc := "([BIB)V" } : Jvm.MethodName) prog_35_method_147_code (4 : Nat) (Option.none : Option Jvm.ClassFile.FieldType)) ∈ lw_all := lw_g (lw_at lw_m2 222 rfl) rfl
theorem q573 : (Jvm.Cond.methodLink "java/lang/String" (212 : Nat) ({ cls := "java/lang/System", name := "arraycopy", desc := "(Ljava/lang/Object;ILjava/lang/Object;II)V" } : Jvm.MethodName)) ∈ lw_all := lw_g (lw_at lw_m2 223 rfl) rfl
theorem q574 : (Jvm.Cond.methodLink "java/lang/String" (106 : Nat) ({ cls := "java/lang/StringLatin1", name := "inflate", desc := "([BI[BII)V" } : Jvm.MethodName)) ∈ lw_all := lw_g (lw_at lw_m2 224 rfl) rfl
theorem q606 : (Jvm.Cond.instanceMethod ({ cls := "java/lang/String", name := "<init>", desc := "(Ljava/lang/StringBuilder;)V" } : Jvm.MethodName)) ∈ lw_all := lw_g (lw_at lw_m3 16 rfl) rfl
theorem q607 : (Jvm.Cond.code ({ cls := "java/lang/String", name := "<init>", desc := "(Ljava/lang/StringBuilder;)V" } : Jvm.MethodName) prog_35_method_53_code (2 : Nat) (Option.none : Option Jvm.ClassFile.FieldType)) ∈ lw_all := lw_g (lw_at lw_m3 17 rfl) rfl
theorem q608 : (Jvm.Cond.methodLink "java/lang/String" (489 : Nat) ({ cls := "java/lang/String", name := "<init>", desc := "(Ljava/lang/AbstractStringBuilder;Ljava/lang/Void;)V" } : Jvm.MethodName)) ∈ lw_all := lw_g (lw_at lw_m3 18 rfl) rfl
theorem q609 : (Jvm.Cond.instanceMethod ({ cls := "java/lang/String", name := "<init>", desc := "(Ljava/lang/AbstractStringBuilder;Ljava/lang/Void;)V" } : Jvm.MethodName)) ∈ lw_all := lw_g (lw_at lw_m3 19 rfl) rfl
theorem q610 : (Jvm.Cond.code ({ cls := "java/lang/String", name := "<init>", desc := "(Ljava/lang/AbstractStringBuilder;Ljava/lang/Void;)V" } : Jvm.MethodName) prog_35_method_150_code (5 : Nat) (Option.none : Option Jvm.ClassFile.FieldType)) ∈ lw_all := lw_g (lw_at lw_m3 20 rfl) rfl
theorem q611 : (Jvm.Cond.methodLink "java/lang/String" (1 : Nat) ({ cls := "java/lang/Object", name := "<init>", desc := "()V" } : Jvm.MethodName)) ∈ lw_all := lw_g (lw_at lw_m3 21 rfl) rfl
theorem q612 : (Jvm.Cond.methodLink "java/lang/String" (552 : Nat) ({ cls := "java/lang/AbstractStringBuilder", name := "getValue", desc := "()[B" } : Jvm.MethodName)) ∈ lw_all := lw_g (lw_at lw_m3 22 rfl) rfl
theorem q617 : (Jvm.Cond.methodLink "java/lang/String" (549 : Nat) ({ cls := "java/lang/AbstractStringBuilder", name := "length", desc := "()I" } : Jvm.MethodName)) ∈ lw_all := lw_g (lw_at lw_m3 27 rfl) rfl
theorem q625 : (Jvm.Cond.methodLink "java/lang/String" (1047 : Nat) ({ cls := "java/lang/AbstractStringBuilder", name := "isLatin1", desc := "()Z" } : Jvm.MethodName)) ∈ lw_all := lw_g (lw_at lw_m3 35 rfl) rfl
theorem q626 : (Jvm.Cond.methodLink "java/lang/String" (54 : Nat) ({ cls := "java/util/Arrays", name := "copyOfRange", desc := "([BII)[B" } : Jvm.MethodName)) ∈ lw_all := lw_g (lw_at lw_m3 36 rfl) rfl
theorem q648 : (Jvm.Cond.methodLink "java/lang/String" (1051 : Nat) ({ cls := "java/lang/StringUTF16", name := "compress", desc := "([BII)[B" } : Jvm.MethodName)) ∈ lw_all := lw_g (lw_at lw_m3 58 rfl) rfl
theorem q658 : (Jvm.Cond.methodLink "java/lang/String" (47 : Nat) ({ cls := "java/lang/StringUTF16", name := "coderFromArrayLen", desc := "([BI)B" } : Jvm.MethodName)) ∈ lw_all := lw_g (lw_at lw_m3 68 rfl) rfl
theorem q661 : (Jvm.Cond.fieldLink "java/lang/String" (9 : Nat) "java/lang/String" "value" "[B") ∈ lw_all := lw_g (lw_at lw_m3 71 rfl) rfl
theorem q662 : (Jvm.Cond.fieldLink "java/lang/String" (15 : Nat) "java/lang/String" "coder" "B") ∈ lw_all := lw_g (lw_at lw_m3 72 rfl) rfl
theorem q663 : (Jvm.Cond.lays "java/lang/String" "java/lang/String" "hash" "I") ∈ lw_all := lw_g (lw_at lw_m3 73 rfl) rfl
theorem q664 : (Jvm.Cond.soleField "java/lang/String" "hash") ∈ lw_all := lw_g (lw_at lw_m3 74 rfl) rfl
theorem q665 : (Jvm.Cond.lays "java/lang/String" "java/lang/String" "hashIsZero" "Z") ∈ lw_all := lw_g (lw_at lw_m3 75 rfl) rfl
theorem q666 : (Jvm.Cond.soleField "java/lang/String" "hashIsZero") ∈ lw_all := lw_g (lw_at lw_m3 76 rfl) rfl
theorem q667 : (Jvm.Cond.superclass "java/lang/String" "java/lang/Object") ∈ lw_all := lw_g (lw_at lw_m3 77 rfl) rfl
theorem q777 : (Jvm.Cond.static ({ cls := "java/lang/String", name := "checkIndex", desc := "(II)V" } : Jvm.MethodName)) ∈ lw_all := lw_g (lw_at lw_m3 187 rfl) rfl
theorem q778 : (Jvm.Cond.code ({ cls := "java/lang/String", name := "checkIndex", desc := "(II)V" } : Jvm.MethodName) prog_35_method_155_code (2 : Nat) (Option.none : Option Jvm.ClassFile.FieldType)) ∈ lw_all := lw_g (lw_at lw_m3 188 rfl) rfl
theorem q779 : (Jvm.Cond.methodLink "java/lang/String" (1059 : Nat) ({ cls := "jdk/internal/util/Preconditions", name := "checkIndex", desc := "(IILjava/util/function/BiFunction;)I" } : Jvm.MethodName)) ∈ lw_all := lw_g (lw_at lw_m3 189 rfl) rfl
theorem q793 : (Jvm.Cond.instanceMethod ({ cls := "java/lang/String", name := "equals", desc := "(Ljava/lang/Object;)Z" } : Jvm.MethodName)) ∈ lw_all := lw_g (lw_at lw_m3 203 rfl) rfl
theorem q794 : (Jvm.Cond.selects "java/lang/String" ({ cls := "java/lang/String", name := "equals", desc := "(Ljava/lang/Object;)Z" } : Jvm.MethodName) ({ cls := "java/lang/String", name := "equals", desc := "(Ljava/lang/Object;)Z" } : Jvm.MethodName)) ∈ lw_all := lw_g (lw_at lw_m3 204 rfl) rfl
theorem q795 : (Jvm.Cond.code ({ cls := "java/lang/String", name := "equals", desc := "(Ljava/lang/Object;)Z" } : Jvm.MethodName) prog_35_method_66_code (3 : Nat) (Option.some Jvm.ClassFile.FieldType.boolean)) ∈ lw_all := lw_g (lw_at lw_m3 205 rfl) rfl
theorem q796 : (Jvm.Cond.classLink "java/lang/String" (10 : Nat) "java/lang/String") ∈ lw_all := lw_g (lw_at lw_m3 206 rfl) rfl
theorem q797 : (Jvm.Cond.methodLink "java/lang/String" (541 : Nat) ({ cls := "java/lang/StringLatin1", name := "equals", desc := "([B[B)Z" } : Jvm.MethodName)) ∈ lw_all := lw_g (lw_at lw_m3 207 rfl) rfl
theorem q956 : (Jvm.Cond.selects "java/lang/String" ({ cls := "java/lang/Object", name := "getClass", desc := "()Ljava/lang/Class;" } : Jvm.MethodName) ({ cls := "java/lang/Object", name := "getClass", desc := "()Ljava/lang/Class;" } : Jvm.MethodName)) ∈ lw_all := lw_g (lw_at lw_m4 126 rfl) rfl
theorem q1179 : (Jvm.Cond.instanceMethod ({ cls := "java/lang/String", name := "charAt", desc := "(I)C" } : Jvm.MethodName)) ∈ lw_all := lw_g (lw_at lw_m5 109 rfl) rfl
theorem q1180 : (Jvm.Cond.selects "java/lang/String" ({ cls := "java/lang/String", name := "charAt", desc := "(I)C" } : Jvm.MethodName) ({ cls := "java/lang/String", name := "charAt", desc := "(I)C" } : Jvm.MethodName)) ∈ lw_all := lw_g (lw_at lw_m5 110 rfl) rfl
theorem q1181 : (Jvm.Cond.code ({ cls := "java/lang/String", name := "charAt", desc := "(I)C" } : Jvm.MethodName) prog_35_method_56_code (2 : Nat) (Option.some Jvm.ClassFile.FieldType.char)) ∈ lw_all := lw_g (lw_at lw_m5 111 rfl) rfl
theorem q1182 : (Jvm.Cond.methodLink "java/lang/String" (492 : Nat) ({ cls := "java/lang/String", name := "isLatin1", desc := "()Z" } : Jvm.MethodName)) ∈ lw_all := lw_g (lw_at lw_m5 112 rfl) rfl
theorem q1183 : (Jvm.Cond.instanceMethod ({ cls := "java/lang/String", name := "isLatin1", desc := "()Z" } : Jvm.MethodName)) ∈ lw_all := lw_g (lw_at lw_m5 113 rfl) rfl
theorem q1184 : (Jvm.Cond.selects "java/lang/String" ({ cls := "java/lang/String", name := "isLatin1", desc := "()Z" } : Jvm.MethodName) ({ cls := "java/lang/String", name := "isLatin1", desc := "()Z" } : Jvm.MethodName)) ∈ lw_all := lw_g (lw_at lw_m5 114 rfl) rfl
theorem q1185 : (Jvm.Cond.code ({ cls := "java/lang/String", name := "isLatin1", desc := "()Z" } : Jvm.MethodName) prog_35_method_154_code (1 : Nat) (Option.some Jvm.ClassFile.FieldType.boolean)) ∈ lw_all := lw_g (lw_at lw_m5 115 rfl) rfl
theorem q1186 : (Jvm.Cond.methodLink "java/lang/String" (495 : Nat) ({ cls := "java/lang/StringLatin1", name := "charAt", desc := "([BI)C" } : Jvm.MethodName)) ∈ lw_all := lw_g (lw_at lw_m5 116 rfl) rfl
theorem q1190 : (Jvm.Cond.methodLink "java/lang/String" (498 : Nat) ({ cls := "java/lang/StringUTF16", name := "charAt", desc := "([BI)C" } : Jvm.MethodName)) ∈ lw_all := lw_g (lw_at lw_m5 120 rfl) rfl
theorem q1721 : (Jvm.Cond.instanceMethod ({ cls := "java/lang/String", name := "isEmpty", desc := "()Z" } : Jvm.MethodName)) ∈ lw_all := lw_g (lw_at lw_m7 171 rfl) rfl
theorem q1722 : (Jvm.Cond.selects "java/lang/String" ({ cls := "java/lang/String", name := "isEmpty", desc := "()Z" } : Jvm.MethodName) ({ cls := "java/lang/String", name := "isEmpty", desc := "()Z" } : Jvm.MethodName)) ∈ lw_all := lw_g (lw_at lw_m7 172 rfl) rfl
theorem q1723 : (Jvm.Cond.code ({ cls := "java/lang/String", name := "isEmpty", desc := "()Z" } : Jvm.MethodName) prog_35_method_55_code (1 : Nat) (Option.some Jvm.ClassFile.FieldType.boolean)) ∈ lw_all := lw_g (lw_at lw_m7 173 rfl) rfl
theorem q2453 : (Jvm.Cond.castable "java/lang/String" "java/lang/Object") ∈ lw_tbl := lw_at lw_m10 183 rfl
theorem in_J7 : ∀ w ∈ wsJ70, w ∈ lw_all := lw_in wsJ70 [344, 346, 663, 665] (by decide +kernel) (by decide +kernel)
/-! java/util/AbstractList -/
def RJ8 : String := "java/util/AbstractList"
abbrev cJ8_init : ByteArray := prog_44_method_1_code
def yJ8_init : MethodName := ⟨RJ8, "<init>", "()V"⟩
theorem q126 : (Jvm.Cond.initialized "java/util/AbstractList") ∈ lw_all := lw_g (lw_at lw_m1 16 rfl) rfl
theorem q408 : (Jvm.Cond.instanceMethod ({ cls := "java/util/AbstractList", name := "<init>", desc := "()V" } : Jvm.MethodName)) ∈ lw_all := lw_g (lw_at lw_m2 58 rfl) rfl
theorem q409 : (Jvm.Cond.code ({ cls := "java/util/AbstractList", name := "<init>", desc := "()V" } : Jvm.MethodName) prog_44_method_1_code (1 : Nat) (Option.none : Option Jvm.ClassFile.FieldType)) ∈ lw_all := lw_g (lw_at lw_m2 59 rfl) rfl
theorem q410 : (Jvm.Cond.methodLink "java/util/AbstractList" (1 : Nat) ({ cls := "java/util/AbstractCollection", name := "<init>", desc := "()V" } : Jvm.MethodName)) ∈ lw_all := lw_g (lw_at lw_m2 60 rfl) rfl
theorem q671 : (Jvm.Cond.fieldLink "java/util/AbstractList" (7 : Nat) "java/util/AbstractList" "modCount" "I") ∈ lw_all := lw_g (lw_at lw_m3 81 rfl) rfl
theorem q679 : (Jvm.Cond.soleField "java/util/AbstractList" "modCount") ∈ lw_all := lw_g (lw_at lw_m3 89 rfl) rfl
/-! java/util/ArrayList -/
def RJ9 : String := "java/util/ArrayList"
def TJ9 : u_T := fun k => match k with
  | 0 => ("java/util/AbstractList", "modCount", "I", false)
  | 1 => ("java/util/ArrayList", "elementData", "[Ljava/lang/Object;", false)
  | _ => ("java/util/ArrayList", "size", "I", false)
def tyJ9 : Nat → FieldType := fun k => match k with
  | 0 => .int
  | 1 => .array (.object "java/lang/Object")
  | _ => .int
abbrev wsJ90 : List Cond := u_ws RJ9 TJ9 3
theorem nmJ9 : ∀ a, a < 3 → ∀ b, b < 3 → a ≠ b → (TJ9 a).2.1 ≠ (TJ9 b).2.1 := by decide +kernel
theorem tyJ9_ok : ∀ k, k < 3 → parseFieldDescriptor (TJ9 k).2.2.1 = some (tyJ9 k) := by decide +kernel
abbrev cJ9_init : ByteArray := prog_46_method_1_code
def yJ9_init : MethodName := ⟨RJ9, "<init>", "(I)V"⟩
abbrev cJ9_size : ByteArray := prog_46_method_8_code
def yJ9_size : MethodName := ⟨RJ9, "size", "()I"⟩
abbrev cJ9_get : ByteArray := prog_46_method_20_code
def yJ9_get : MethodName := ⟨RJ9, "get", "(I)Ljava/lang/Object;"⟩
abbrev cJ9_elementData : ByteArray := prog_46_method_18_code
def yJ9_elementData : MethodName := ⟨RJ9, "elementData", "(I)Ljava/lang/Object;"⟩
abbrev cJ9_add : ByteArray := prog_46_method_25_code
def yJ9_add : MethodName := ⟨RJ9, "add", "(Ljava/lang/Object;)Z"⟩
abbrev cJ9_add_2 : ByteArray := prog_46_method_24_code
def yJ9_add_2 : MethodName := ⟨RJ9, "add", "(Ljava/lang/Object;[Ljava/lang/Object;I)V"⟩
abbrev cJ9_grow : ByteArray := prog_46_method_7_code
def yJ9_grow : MethodName := ⟨RJ9, "grow", "()[Ljava/lang/Object;"⟩
abbrev cJ9_grow_2 : ByteArray := prog_46_method_6_code
def yJ9_grow_2 : MethodName := ⟨RJ9, "grow", "(I)[Ljava/lang/Object;"⟩
abbrev cJ9_remove : ByteArray := prog_46_method_29_code
def yJ9_remove : MethodName := ⟨RJ9, "remove", "(I)Ljava/lang/Object;"⟩
abbrev cJ9_fastRemove : ByteArray := prog_46_method_39_code
def yJ9_fastRemove : MethodName := ⟨RJ9, "fastRemove", "([Ljava/lang/Object;I)V"⟩
abbrev cJ9_set : ByteArray := prog_46_method_23_code
def yJ9_set : MethodName := ⟨RJ9, "set", "(ILjava/lang/Object;)Ljava/lang/Object;"⟩
theorem q127 : (Jvm.Cond.initialized "java/util/ArrayList") ∈ lw_all := lw_g (lw_at lw_m1 17 rfl) rfl
theorem q403 : (Jvm.Cond.instantiable "java/util/ArrayList" (3 : Nat)) ∈ lw_all := lw_g (lw_at lw_m2 53 rfl) rfl
theorem q405 : (Jvm.Cond.instanceMethod ({ cls := "java/util/ArrayList", name := "<init>", desc := "(I)V" } : Jvm.MethodName)) ∈ lw_all := lw_g (lw_at lw_m2 55 rfl) rfl
theorem q406 : (Jvm.Cond.code ({ cls := "java/util/ArrayList", name := "<init>", desc := "(I)V" } : Jvm.MethodName) prog_46_method_1_code (2 : Nat) (Option.none : Option Jvm.ClassFile.FieldType)) ∈ lw_all := lw_g (lw_at lw_m2 56 rfl) rfl
theorem q407 : (Jvm.Cond.methodLink "java/util/ArrayList" (1 : Nat) ({ cls := "java/util/AbstractList", name := "<init>", desc := "()V" } : Jvm.MethodName)) ∈ lw_all := lw_g (lw_at lw_m2 57 rfl) rfl
theorem q411 : (Jvm.Cond.classLink "java/util/ArrayList" (7 : Nat) "java/lang/Object") ∈ lw_all := lw_g (lw_at lw_m2 61 rfl) rfl
theorem q412 : (Jvm.Cond.fieldLink "java/util/ArrayList" (15 : Nat) "java/util/ArrayList" "EMPTY_ELEMENTDATA" "[Ljava/lang/Object;") ∈ lw_all := lw_g (lw_at lw_m2 62 rfl) rfl
theorem q413 : (Jvm.Cond.laysStatic "java/util/ArrayList" "EMPTY_ELEMENTDATA" "[Ljava/lang/Object;") ∈ lw_tbl := lw_at lw_m2 63 rfl
theorem q414 : (Jvm.Cond.classLink "java/util/ArrayList" (18 : Nat) "java/lang/IllegalArgumentException") ∈ lw_all := lw_g (lw_at lw_m2 64 rfl) rfl
theorem q423 : (Jvm.Cond.classLink "java/util/ArrayList" (20 : Nat) "java/lang/StringBuilder") ∈ lw_all := lw_g (lw_at lw_m2 73 rfl) rfl
theorem q425 : (Jvm.Cond.methodLink "java/util/ArrayList" (22 : Nat) ({ cls := "java/lang/StringBuilder", name := "<init>", desc := "()V" } : Jvm.MethodName)) ∈ lw_all := lw_g (lw_at lw_m2 75 rfl) rfl
theorem q454 : (Jvm.Cond.stringRef "java/util/ArrayList" (23 : Nat) "Illegal Capacity: ") ∈ lw_tbl := lw_at lw_m2 104 rfl
theorem q455 : (Jvm.Cond.methodLink "java/util/ArrayList" (25 : Nat) ({ cls := "java/lang/StringBuilder", name := "append", desc := "(Ljava/lang/String;)Ljava/lang/StringBuilder;" } : Jvm.MethodName)) ∈ lw_all := lw_g (lw_at lw_m2 105 rfl) rfl
theorem q575 : (Jvm.Cond.methodLink "java/util/ArrayList" (29 : Nat) ({ cls := "java/lang/StringBuilder", name := "append", desc := "(I)Ljava/lang/StringBuilder;" } : Jvm.MethodName)) ∈ lw_all := lw_g (lw_at lw_m2 225 rfl) rfl
theorem q600 : (Jvm.Cond.methodLink "java/util/ArrayList" (32 : Nat) ({ cls := "java/lang/StringBuilder", name := "toString", desc := "()Ljava/lang/String;" } : Jvm.MethodName)) ∈ lw_all := lw_g (lw_at lw_m3 10 rfl) rfl
theorem q668 : (Jvm.Cond.methodLink "java/util/ArrayList" (36 : Nat) ({ cls := "java/lang/IllegalArgumentException", name := "<init>", desc := "(Ljava/lang/String;)V" } : Jvm.MethodName)) ∈ lw_all := lw_g (lw_at lw_m3 78 rfl) rfl
theorem q669 : (Jvm.Cond.fieldLink "java/util/ArrayList" (9 : Nat) "java/util/ArrayList" "elementData" "[Ljava/lang/Object;") ∈ lw_all := lw_g (lw_at lw_m3 79 rfl) rfl
theorem q670 : (Jvm.Cond.fieldLink "java/util/ArrayList" (48 : Nat) "java/util/ArrayList" "size" "I") ∈ lw_all := lw_g (lw_at lw_m3 80 rfl) rfl
theorem q672 : (Jvm.Cond.fieldLink "java/util/ArrayList" (63 : Nat) "java/util/ArrayList" "modCount" "I") ∈ lw_all := lw_g (lw_at lw_m3 82 rfl) rfl
theorem q673 : (Jvm.Cond.sameField "java/util/ArrayList" "java/util/AbstractList" "modCount" "I") ∈ lw_all := lw_g (lw_at lw_m3 83 rfl) rfl
theorem q674 : (Jvm.Cond.lays "java/util/ArrayList" "java/util/ArrayList" "elementData" "[Ljava/lang/Object;") ∈ lw_all := lw_g (lw_at lw_m3 84 rfl) rfl
theorem q675 : (Jvm.Cond.soleField "java/util/ArrayList" "elementData") ∈ lw_all := lw_g (lw_at lw_m3 85 rfl) rfl
theorem q676 : (Jvm.Cond.lays "java/util/ArrayList" "java/util/ArrayList" "size" "I") ∈ lw_all := lw_g (lw_at lw_m3 86 rfl) rfl
theorem q677 : (Jvm.Cond.soleField "java/util/ArrayList" "size") ∈ lw_all := lw_g (lw_at lw_m3 87 rfl) rfl
theorem q678 : (Jvm.Cond.lays "java/util/ArrayList" "java/util/AbstractList" "modCount" "I") ∈ lw_all := lw_g (lw_at lw_m3 88 rfl) rfl
theorem q680 : (Jvm.Cond.superclass "java/util/ArrayList" "java/util/AbstractList") ∈ lw_all := lw_g (lw_at lw_m3 90 rfl) rfl
theorem q849 : (Jvm.Cond.castable "java/util/ArrayList" "java/util/List") ∈ lw_tbl := lw_at lw_m4 19 rfl
theorem q850 : (Jvm.Cond.selects "java/util/ArrayList" ({ cls := "java/util/List", name := "size", desc := "()I" } : Jvm.MethodName) ({ cls := "java/util/ArrayList", name := "size", desc := "()I" } : Jvm.MethodName)) ∈ lw_all := lw_g (lw_at lw_m4 20 rfl) rfl
theorem q851 : (Jvm.Cond.unhidden "java/util/ArrayList" "size" "()I") ∈ lw_tbl := lw_at lw_m4 21 rfl
theorem q852 : (Jvm.Cond.instanceMethod ({ cls := "java/util/ArrayList", name := "size", desc := "()I" } : Jvm.MethodName)) ∈ lw_all := lw_g (lw_at lw_m4 22 rfl) rfl
theorem q853 : (Jvm.Cond.publicMethod ({ cls := "java/util/ArrayList", name := "size", desc := "()I" } : Jvm.MethodName)) ∈ lw_tbl := lw_at lw_m4 23 rfl
theorem q854 : (Jvm.Cond.code ({ cls := "java/util/ArrayList", name := "size", desc := "()I" } : Jvm.MethodName) prog_46_method_8_code (1 : Nat) (Option.some Jvm.ClassFile.FieldType.int)) ∈ lw_all := lw_g (lw_at lw_m4 24 rfl) rfl
theorem q868 : (Jvm.Cond.selects "java/util/ArrayList" ({ cls := "java/util/List", name := "get", desc := "(I)Ljava/lang/Object;" } : Jvm.MethodName) ({ cls := "java/util/ArrayList", name := "get", desc := "(I)Ljava/lang/Object;" } : Jvm.MethodName)) ∈ lw_all := lw_g (lw_at lw_m4 38 rfl) rfl
theorem q869 : (Jvm.Cond.unhidden "java/util/ArrayList" "get" "(I)Ljava/lang/Object;") ∈ lw_tbl := lw_at lw_m4 39 rfl
theorem q870 : (Jvm.Cond.instanceMethod ({ cls := "java/util/ArrayList", name := "get", desc := "(I)Ljava/lang/Object;" } : Jvm.MethodName)) ∈ lw_all := lw_g (lw_at lw_m4 40 rfl) rfl
theorem q871 : (Jvm.Cond.publicMethod ({ cls := "java/util/ArrayList", name := "get", desc := "(I)Ljava/lang/Object;" } : Jvm.MethodName)) ∈ lw_tbl := lw_at lw_m4 41 rfl
theorem q872 : (Jvm.Cond.code ({ cls := "java/util/ArrayList", name := "get", desc := "(I)Ljava/lang/Object;" } : Jvm.MethodName) prog_46_method_20_code (2 : Nat) (Option.some (Jvm.ClassFile.FieldType.object "java/lang/Object"))) ∈ lw_all := lw_g (lw_at lw_m4 42 rfl) rfl
theorem q873 : (Jvm.Cond.methodLink "java/util/ArrayList" (118 : Nat) ({ cls := "java/util/Objects", name := "checkIndex", desc := "(II)I" } : Jvm.MethodName)) ∈ lw_all := lw_g (lw_at lw_m4 43 rfl) rfl
theorem q877 : (Jvm.Cond.methodLink "java/util/ArrayList" (123 : Nat) ({ cls := "java/util/ArrayList", name := "elementData", desc := "(I)Ljava/lang/Object;" } : Jvm.MethodName)) ∈ lw_all := lw_g (lw_at lw_m4 47 rfl) rfl
theorem q878 : (Jvm.Cond.instanceMethod ({ cls := "java/util/ArrayList", name := "elementData", desc := "(I)Ljava/lang/Object;" } : Jvm.MethodName)) ∈ lw_all := lw_g (lw_at lw_m4 48 rfl) rfl
theorem q879 : (Jvm.Cond.selects "java/util/ArrayList" ({ cls := "java/util/ArrayList", name := "elementData", desc := "(I)Ljava/lang/Object;" } : Jvm.MethodName) ({ cls := "java/util/ArrayList", name := "elementData", desc := "(I)Ljava/lang/Object;" } : Jvm.MethodName)) ∈ lw_all := lw_g (lw_at lw_m4 49 rfl) rfl
theorem q880 : (Jvm.Cond.code ({ cls := "java/util/ArrayList", name := "elementData", desc := "(I)Ljava/lang/Object;" } : Jvm.MethodName) prog_46_method_18_code (2 : Nat) (Option.some (Jvm.ClassFile.FieldType.object "java/lang/Object"))) ∈ lw_all := lw_g (lw_at lw_m4 50 rfl) rfl
theorem q912 : (Jvm.Cond.selects "java/util/ArrayList" ({ cls := "java/util/List", name := "add", desc := "(Ljava/lang/Object;)Z" } : Jvm.MethodName) ({ cls := "java/util/ArrayList", name := "add", desc := "(Ljava/lang/Object;)Z" } : Jvm.MethodName)) ∈ lw_all := lw_g (lw_at lw_m4 82 rfl) rfl
theorem q913 : (Jvm.Cond.unhidden "java/util/ArrayList" "add" "(Ljava/lang/Object;)Z") ∈ lw_tbl := lw_at lw_m4 83 rfl
theorem q914 : (Jvm.Cond.instanceMethod ({ cls := "java/util/ArrayList", name := "add", desc := "(Ljava/lang/Object;)Z" } : Jvm.MethodName)) ∈ lw_all := lw_g (lw_at lw_m4 84 rfl) rfl
theorem q915 : (Jvm.Cond.publicMethod ({ cls := "java/util/ArrayList", name := "add", desc := "(Ljava/lang/Object;)Z" } : Jvm.MethodName)) ∈ lw_tbl := lw_at lw_m4 85 rfl
theorem q916 : (Jvm.Cond.code ({ cls := "java/util/ArrayList", name := "add", desc := "(Ljava/lang/Object;)Z" } : Jvm.MethodName) prog_46_method_25_code (2 : Nat) (Option.some Jvm.ClassFile.FieldType.boolean)) ∈ lw_all := lw_g (lw_at lw_m4 86 rfl) rfl
theorem q917 : (Jvm.Cond.methodLink "java/util/ArrayList" (131 : Nat) ({ cls := "java/util/ArrayList", name := "add", desc := "(Ljava/lang/Object;[Ljava/lang/Object;I)V" } : Jvm.MethodName)) ∈ lw_all := lw_g (lw_at lw_m4 87 rfl) rfl
theorem q918 : (Jvm.Cond.privateMethod ({ cls := "java/util/ArrayList", name := "add", desc := "(Ljava/lang/Object;[Ljava/lang/Object;I)V" } : Jvm.MethodName)) ∈ lw_tbl := lw_at lw_m4 88 rfl
theorem q919 : (Jvm.Cond.instanceMethod ({ cls := "java/util/ArrayList", name := "add", desc := "(Ljava/lang/Object;[Ljava/lang/Object;I)V" } : Jvm.MethodName)) ∈ lw_all := lw_g (lw_at lw_m4 89 rfl) rfl
theorem q920 : (Jvm.Cond.code ({ cls := "java/util/ArrayList", name := "add", desc := "(Ljava/lang/Object;[Ljava/lang/Object;I)V" } : Jvm.MethodName) prog_46_method_24_code (4 : Nat) (Option.none : Option Jvm.ClassFile.FieldType)) ∈ lw_all := lw_g (lw_at lw_m4 90 rfl) rfl
theorem q921 : (Jvm.Cond.methodLink "java/util/ArrayList" (129 : Nat) ({ cls := "java/util/ArrayList", name := "grow", desc := "()[Ljava/lang/Object;" } : Jvm.MethodName)) ∈ lw_all := lw_g (lw_at lw_m4 91 rfl) rfl
theorem q922 : (Jvm.Cond.privateMethod ({ cls := "java/util/ArrayList", name := "grow", desc := "()[Ljava/lang/Object;" } : Jvm.MethodName)) ∈ lw_tbl := lw_at lw_m4 92 rfl
theorem q923 : (Jvm.Cond.instanceMethod ({ cls := "java/util/ArrayList", name := "grow", desc := "()[Ljava/lang/Object;" } : Jvm.MethodName)) ∈ lw_all := lw_g (lw_at lw_m4 93 rfl) rfl
theorem q924 : (Jvm.Cond.code ({ cls := "java/util/ArrayList", name := "grow", desc := "()[Ljava/lang/Object;" } : Jvm.MethodName) prog_46_method_7_code (1 : Nat) (Option.some (Jvm.ClassFile.FieldType.array (Jvm.ClassFile.FieldType.object "java/lang/Object")))) ∈ lw_all := lw_g (lw_at lw_m4 94 rfl) rfl
theorem q925 : (Jvm.Cond.methodLink "java/util/ArrayList" (69 : Nat) ({ cls := "java/util/ArrayList", name := "grow", desc := "(I)[Ljava/lang/Object;" } : Jvm.MethodName)) ∈ lw_all := lw_g (lw_at lw_m4 95 rfl) rfl
theorem q926 : (Jvm.Cond.privateMethod ({ cls := "java/util/ArrayList", name := "grow", desc := "(I)[Ljava/lang/Object;" } : Jvm.MethodName)) ∈ lw_tbl := lw_at lw_m4 96 rfl
theorem q927 : (Jvm.Cond.instanceMethod ({ cls := "java/util/ArrayList", name := "grow", desc := "(I)[Ljava/lang/Object;" } : Jvm.MethodName)) ∈ lw_all := lw_g (lw_at lw_m4 97 rfl) rfl
theorem q928 : (Jvm.Cond.code ({ cls := "java/util/ArrayList", name := "grow", desc := "(I)[Ljava/lang/Object;" } : Jvm.MethodName) prog_46_method_6_code (4 : Nat) (Option.some (Jvm.ClassFile.FieldType.array (Jvm.ClassFile.FieldType.object "java/lang/Object")))) ∈ lw_all := lw_g (lw_at lw_m4 98 rfl) rfl
theorem q929 : (Jvm.Cond.fieldLink "java/util/ArrayList" (39 : Nat) "java/util/ArrayList" "DEFAULTCAPACITY_EMPTY_ELEMENTDATA" "[Ljava/lang/Object;") ∈ lw_all := lw_g (lw_at lw_m4 99 rfl) rfl
theorem q930 : (Jvm.Cond.laysStatic "java/util/ArrayList" "DEFAULTCAPACITY_EMPTY_ELEMENTDATA" "[Ljava/lang/Object;") ∈ lw_tbl := lw_at lw_m4 100 rfl
theorem q931 : (Jvm.Cond.methodLink "java/util/ArrayList" (73 : Nat) ({ cls := "jdk/internal/util/ArraysSupport", name := "newLength", desc := "(III)I" } : Jvm.MethodName)) ∈ lw_all := lw_g (lw_at lw_m4 101 rfl) rfl
theorem q932 : (Jvm.Cond.methodLink "java/util/ArrayList" (66 : Nat) ({ cls := "java/util/Arrays", name := "copyOf", desc := "([Ljava/lang/Object;I)[Ljava/lang/Object;" } : Jvm.MethodName)) ∈ lw_all := lw_g (lw_at lw_m4 102 rfl) rfl
theorem q959 : (Jvm.Cond.selects "java/util/ArrayList" ({ cls := "java/lang/Object", name := "getClass", desc := "()Ljava/lang/Class;" } : Jvm.MethodName) ({ cls := "java/lang/Object", name := "getClass", desc := "()Ljava/lang/Class;" } : Jvm.MethodName)) ∈ lw_all := lw_g (lw_at lw_m4 129 rfl) rfl
theorem q966 : (Jvm.Cond.methodLink "java/util/ArrayList" (79 : Nat) ({ cls := "java/lang/Math", name := "max", desc := "(II)I" } : Jvm.MethodName)) ∈ lw_all := lw_g (lw_at lw_m4 136 rfl) rfl
theorem q1692 : (Jvm.Cond.selects "java/util/ArrayList" ({ cls := "java/util/List", name := "remove", desc := "(I)Ljava/lang/Object;" } : Jvm.MethodName) ({ cls := "java/util/ArrayList", name := "remove", desc := "(I)Ljava/lang/Object;" } : Jvm.MethodName)) ∈ lw_all := lw_g (lw_at lw_m7 142 rfl) rfl
theorem q1693 : (Jvm.Cond.unhidden "java/util/ArrayList" "remove" "(I)Ljava/lang/Object;") ∈ lw_tbl := lw_at lw_m7 143 rfl
theorem q1694 : (Jvm.Cond.instanceMethod ({ cls := "java/util/ArrayList", name := "remove", desc := "(I)Ljava/lang/Object;" } : Jvm.MethodName)) ∈ lw_all := lw_g (lw_at lw_m7 144 rfl) rfl
theorem q1695 : (Jvm.Cond.publicMethod ({ cls := "java/util/ArrayList", name := "remove", desc := "(I)Ljava/lang/Object;" } : Jvm.MethodName)) ∈ lw_tbl := lw_at lw_m7 145 rfl
theorem q1696 : (Jvm.Cond.code ({ cls := "java/util/ArrayList", name := "remove", desc := "(I)Ljava/lang/Object;" } : Jvm.MethodName) prog_46_method_29_code (4 : Nat) (Option.some (Jvm.ClassFile.FieldType.object "java/lang/Object"))) ∈ lw_all := lw_g (lw_at lw_m7 146 rfl) rfl
theorem q1697 : (Jvm.Cond.methodLink "java/util/ArrayList" (144 : Nat) ({ cls := "java/util/ArrayList", name := "fastRemove", desc := "([Ljava/lang/Object;I)V" } : Jvm.MethodName)) ∈ lw_all := lw_g (lw_at lw_m7 147 rfl) rfl
theorem q1698 : (Jvm.Cond.privateMethod ({ cls := "java/util/ArrayList", name := "fastRemove", desc := "([Ljava/lang/Object;I)V" } : Jvm.MethodName)) ∈ lw_tbl := lw_at lw_m7 148 rfl
theorem q1699 : (Jvm.Cond.instanceMethod ({ cls := "java/util/ArrayList", name := "fastRemove", desc := "([Ljava/lang/Object;I)V" } : Jvm.MethodName)) ∈ lw_all := lw_g (lw_at lw_m7 149 rfl) rfl
theorem q1700 : (Jvm.Cond.code ({ cls := "java/util/ArrayList", name := "fastRemove", desc := "([Ljava/lang/Object;I)V" } : Jvm.MethodName) prog_46_method_39_code (4 : Nat) (Option.none : Option Jvm.ClassFile.FieldType)) ∈ lw_all := lw_g (lw_at lw_m7 150 rfl) rfl
theorem q1701 : (Jvm.Cond.methodLink "java/util/ArrayList" (112 : Nat) ({ cls := "java/lang/System", name := "arraycopy", desc := "(Ljava/lang/Object;ILjava/lang/Object;II)V" } : Jvm.MethodName)) ∈ lw_all := lw_g (lw_at lw_m7 151 rfl) rfl
theorem q1759 : (Jvm.Cond.selects "java/util/ArrayList" ({ cls := "java/util/List", name := "set", desc := "(ILjava/lang/Object;)Ljava/lang/Object;" } : Jvm.MethodName) ({ cls := "java/util/ArrayList", name := "set", desc := "(ILjava/lang/Object;)Ljava/lang/Object;" } : Jvm.MethodName)) ∈ lw_all := lw_g (lw_at lw_m7 209 rfl) rfl
theorem q1760 : (Jvm.Cond.unhidden "java/util/ArrayList" "set" "(ILjava/lang/Object;)Ljava/lang/Object;") ∈ lw_tbl := lw_at lw_m7 210 rfl
theorem q1761 : (Jvm.Cond.instanceMethod ({ cls := "java/util/ArrayList", name := "set", desc := "(ILjava/lang/Object;)Ljava/lang/Object;" } : Jvm.MethodName)) ∈ lw_all := lw_g (lw_at lw_m7 211 rfl) rfl
theorem q1762 : (Jvm.Cond.publicMethod ({ cls := "java/util/ArrayList", name := "set", desc := "(ILjava/lang/Object;)Ljava/lang/Object;" } : Jvm.MethodName)) ∈ lw_tbl := lw_at lw_m7 212 rfl
theorem q1763 : (Jvm.Cond.code ({ cls := "java/util/ArrayList", name := "set", desc := "(ILjava/lang/Object;)Ljava/lang/Object;" } : Jvm.MethodName) prog_46_method_23_code (4 : Nat) (Option.some (Jvm.ClassFile.FieldType.object "java/lang/Object"))) ∈ lw_all := lw_g (lw_at lw_m7 213 rfl) rfl
theorem q2450 : (Jvm.Cond.castable "java/util/ArrayList" "java/lang/Object") ∈ lw_tbl := lw_at lw_m10 180 rfl
theorem in_J9 : ∀ w ∈ wsJ90, w ∈ lw_all := lw_in wsJ90 [678, 674, 676] (by decide +kernel) (by decide +kernel)
/-! the law's own entry -/
abbrev cL_law : ByteArray := code
/-! LikedOrdersLaw -/
def RX0 : String := "LikedOrdersLaw"
abbrev cX0_load : ByteArray := method_3_code
def yX0_load : MethodName := ⟨RX0, "load", "(LLikedOrders;I[J)I"⟩
abbrev cX0_count : ByteArray := method_4_code
def yX0_count : MethodName := ⟨RX0, "count", "(LLikedOrders;I[J)I"⟩
abbrev cX0_item : ByteArray := method_5_code
def yX0_item : MethodName := ⟨RX0, "item", "(LLikedOrders;II[J)I"⟩
abbrev cX0_letter : ByteArray := method_6_code
def yX0_letter : MethodName := ⟨RX0, "letter", "(LLikedOrders;II[J)I"⟩
abbrev cX0_answer : ByteArray := method_7_code
def yX0_answer : MethodName := ⟨RX0, "answer", "(LLikedOrders;II[J)I"⟩
abbrev cX0_known : ByteArray := method_8_code
def yX0_known : MethodName := ⟨RX0, "known", "(LLikedOrders;II[J)I"⟩
abbrev cX0_why : ByteArray := method_9_code
def yX0_why : MethodName := ⟨RX0, "why", "(LLikedOrders;II[J)I"⟩
abbrev cX0_chain : ByteArray := method_10_code
def yX0_chain : MethodName := ⟨RX0, "chain", "(LLikedOrders;III[J)I"⟩
abbrev cX0_at : ByteArray := method_11_code
def yX0_at : MethodName := ⟨RX0, "at", "(LLikedOrders;I[J)I"⟩
abbrev cX0_loose : ByteArray := method_12_code
def yX0_loose : MethodName := ⟨RX0, "loose", "(LLikedOrders;[J)I"⟩
abbrev cX0_gap : ByteArray := method_13_code
def yX0_gap : MethodName := ⟨RX0, "gap", "(LLikedOrders;[J)I"⟩
abbrev cX0_next : ByteArray := method_14_code
def yX0_next : MethodName := ⟨RX0, "next", "(LLikedOrders;Z[J)I"⟩
abbrev cX0_compared : ByteArray := method_15_code
def yX0_compared : MethodName := ⟨RX0, "compared", "(LLikedOrders;[J)I"⟩
abbrev cX0_doing : ByteArray := method_16_code
def yX0_doing : MethodName := ⟨RX0, "doing", "(LLikedOrders;[J)I"⟩
abbrev cX0_bound : ByteArray := method_17_code
def yX0_bound : MethodName := ⟨RX0, "bound", "(LLikedOrders;[J)I"⟩
abbrev cX0_told : ByteArray := method_18_code
def yX0_told : MethodName := ⟨RX0, "told", "(LLikedOrders;I[J)I"⟩
abbrev cX0_ordersIf : ByteArray := method_19_code
def yX0_ordersIf : MethodName := ⟨RX0, "ordersIf", "(LLikedOrders;II[J)I"⟩
abbrev cX0_fairest : ByteArray := method_20_code
def yX0_fairest : MethodName := ⟨RX0, "fairest", "(LLikedOrders;Z[J)I"⟩
abbrev cX0_toCome : ByteArray := method_21_code
def yX0_toCome : MethodName := ⟨RX0, "toCome", "(LLikedOrders;I[J)I"⟩
abbrev cX0_bestMethod : ByteArray := method_22_code
def yX0_bestMethod : MethodName := ⟨RX0, "bestMethod", "(LLikedOrders;[J)I"⟩
abbrev cX0_afresh : ByteArray := method_23_code
def yX0_afresh : MethodName := ⟨RX0, "afresh", "(LLikedOrders;I[J)I"⟩
abbrev cX0_placeThen : ByteArray := method_24_code
def yX0_placeThen : MethodName := ⟨RX0, "placeThen", "(LLikedOrders;I[J)I"⟩
abbrev cX0_toComeIf : ByteArray := method_25_code
def yX0_toComeIf : MethodName := ⟨RX0, "toComeIf", "(LLikedOrders;II[J)I"⟩
abbrev cX0_toComeWithout : ByteArray := method_26_code
def yX0_toComeWithout : MethodName := ⟨RX0, "toComeWithout", "(LLikedOrders;I[J)I"⟩
abbrev cX0_worst : ByteArray := method_27_code
def yX0_worst : MethodName := ⟨RX0, "worst", "(LLikedOrders;[J)I"⟩
abbrev cX0_swaps : ByteArray := method_28_code
def yX0_swaps : MethodName := ⟨RX0, "swaps", "(LLikedOrders;[J)I"⟩
abbrev cX0_share : ByteArray := method_29_code
def yX0_share : MethodName := ⟨RX0, "share", "(LLikedOrders;[D)I"⟩
abbrev cX0_meanPlace : ByteArray := method_30_code
def yX0_meanPlace : MethodName := ⟨RX0, "meanPlace", "(LLikedOrders;I[D)I"⟩
abbrev cX0_writeAnswers : ByteArray := method_31_code
def yX0_writeAnswers : MethodName := ⟨RX0, "writeAnswers", "(LLikedOrders;[J)I"⟩
abbrev cX0_writePlaces : ByteArray := method_32_code
def yX0_writePlaces : MethodName := ⟨RX0, "writePlaces", "(LLikedOrders;[J)I"⟩
abbrev cX0_writeFirst : ByteArray := method_33_code
def yX0_writeFirst : MethodName := ⟨RX0, "writeFirst", "(LLikedOrders;[J)I"⟩
abbrev cX0_textByte : ByteArray := method_34_code
def yX0_textByte : MethodName := ⟨RX0, "textByte", "(LLikedOrders;I[J)I"⟩
abbrev cX0_ask : ByteArray := method_35_code
def yX0_ask : MethodName := ⟨RX0, "ask", "(LLikedOrders;II[J)I"⟩
abbrev cX0_goOn : ByteArray := method_36_code
def yX0_goOn : MethodName := ⟨RX0, "goOn", "(LLikedOrders;I[J)I"⟩
abbrev cX0_takeBack : ByteArray := method_37_code
def yX0_takeBack : MethodName := ⟨RX0, "takeBack", "(LLikedOrders;I[J)I"⟩
abbrev cX0_tidy : ByteArray := method_38_code
def yX0_tidy : MethodName := ⟨RX0, "tidy", "(LLikedOrders;[J)I"⟩
abbrev cX0_addItem : ByteArray := method_39_code
def yX0_addItem : MethodName := ⟨RX0, "addItem", "(LLikedOrders;II[J)I"⟩
abbrev cX0_dropItem : ByteArray := method_40_code
def yX0_dropItem : MethodName := ⟨RX0, "dropItem", "(LLikedOrders;I[J)I"⟩
abbrev cX0_setWorth : ByteArray := method_41_code
def yX0_setWorth : MethodName := ⟨RX0, "setWorth", "(LLikedOrders;II[J)I"⟩
abbrev cX0_setMethod : ByteArray := method_42_code
def yX0_setMethod : MethodName := ⟨RX0, "setMethod", "(LLikedOrders;I[J)I"⟩
abbrev cX0_undo : ByteArray := method_43_code
def yX0_undo : MethodName := ⟨RX0, "undo", "(LLikedOrders;[J)I"⟩
abbrev cX0_save : ByteArray := method_44_code
def yX0_save : MethodName := ⟨RX0, "save", "(LLikedOrders;I[J)I"⟩
abbrev cX0_restore : ByteArray := method_45_code
def yX0_restore : MethodName := ⟨RX0, "restore", "(LLikedOrders;I[J)I"⟩
theorem q110 : (Jvm.Cond.initialized "LikedOrdersLaw") ∈ lw_all := lw_g (lw_at lw_m1 0 rfl) rfl
theorem q152 : (Jvm.Cond.classLink "LikedOrdersLaw" (8 : Nat) "LikedOrders") ∈ lw_all := lw_g (lw_at lw_m1 42 rfl) rfl
theorem q154 : (Jvm.Cond.methodLink "LikedOrdersLaw" (151 : Nat) ({ cls := "LikedOrders", name := "<init>", desc := "()V" } : Jvm.MethodName)) ∈ lw_all := lw_g (lw_at lw_m1 44 rfl) rfl
theorem q230 : (Jvm.Cond.methodLink "LikedOrdersLaw" (155 : Nat) ({ cls := "LikedOrders", name := "append", desc := "(IIIII)I" } : Jvm.MethodName)) ∈ lw_all := lw_g (lw_at lw_m1 120 rfl) rfl
theorem q238 : (Jvm.Cond.methodLink "LikedOrdersLaw" (169 : Nat) ({ cls := "LikedOrders", name := "parseError", desc := "()I" } : Jvm.MethodName)) ∈ lw_all := lw_g (lw_at lw_m1 128 rfl) rfl
theorem q242 : (Jvm.Cond.methodLink "LikedOrdersLaw" (173 : Nat) ({ cls := "LikedOrders", name := "errorPosition", desc := "()I" } : Jvm.MethodName)) ∈ lw_all := lw_g (lw_at lw_m1 132 rfl) rfl
theorem q246 : (Jvm.Cond.methodLink "LikedOrdersLaw" (177 : Nat) ({ cls := "LikedOrders", name := "buffered", desc := "()I" } : Jvm.MethodName)) ∈ lw_all := lw_g (lw_at lw_m1 136 rfl) rfl
theorem q250 : (Jvm.Cond.methodLink "LikedOrdersLaw" (307 : Nat) ({ cls := "LikedOrders", name := "undoable", desc := "()I" } : Jvm.MethodName)) ∈ lw_all := lw_g (lw_at lw_m1 140 rfl) rfl
theorem q267 : (Jvm.Cond.methodLink "LikedOrdersLaw" (160 : Nat) ({ cls := "LikedOrdersLaw", name := "load", desc := "(LLikedOrders;I[J)I" } : Jvm.MethodName)) ∈ lw_all := lw_g (lw_at lw_m1 157 rfl) rfl
theorem q268 : (Jvm.Cond.static ({ cls := "LikedOrdersLaw", name := "load", desc := "(LLikedOrders;I[J)I" } : Jvm.MethodName)) ∈ lw_all := lw_g (lw_at lw_m1 158 rfl) rfl
theorem q269 : (Jvm.Cond.codeWith ({ cls := "LikedOrdersLaw", name := "load", desc := "(LLikedOrders;I[J)I" } : Jvm.MethodName) method_3_code (4 : Nat) (Option.some Jvm.ClassFile.FieldType.int) [((0 : Nat), (9 : Nat), (12 : Nat), (13 : Nat)), ((0 : Nat), (9 : Nat), (15 : Nat), (15 : Nat))]) ∈ lw_all := lw_g (lw_at lw_m1 159 rfl) rfl
theorem q270 : (Jvm.Cond.classLink "LikedOrdersLaw" (13 : Nat) "java/lang/IndexOutOfBoundsException") ∈ lw_all := lw_g (lw_at lw_m1 160 rfl) rfl
theorem q348 : (Jvm.Cond.classLink "LikedOrdersLaw" (15 : Nat) "java/lang/IllegalArgumentException") ∈ lw_all := lw_g (lw_at lw_m1 238 rfl) rfl
theorem q349 : (Jvm.Cond.methodLink "LikedOrdersLaw" (7 : Nat) ({ cls := "LikedOrders", name := "load", desc := "(I)I" } : Jvm.MethodName)) ∈ lw_all := lw_g (lw_at lw_m1 239 rfl) rfl
theorem q1065 : (Jvm.Cond.methodLink "LikedOrdersLaw" (181 : Nat) ({ cls := "LikedOrdersLaw", name := "count", desc := "(LLikedOrders;I[J)I" } : Jvm.MethodName)) ∈ lw_all := lw_g (lw_at lw_m4 235 rfl) rfl
theorem q1066 : (Jvm.Cond.static ({ cls := "LikedOrdersLaw", name := "count", desc := "(LLikedOrders;I[J)I" } : Jvm.MethodName)) ∈ lw_all := lw_g (lw_at lw_m4 236 rfl) rfl
theorem q1067 : (Jvm.Cond.codeWith ({ cls := "LikedOrdersLaw", name := "count", desc := "(LLikedOrders;I[J)I" } : Jvm.MethodName) method_4_code (4 : Nat) (Option.some Jvm.ClassFile.FieldType.int) [((0 : Nat), (9 : Nat), (12 : Nat), (20 : Nat)), ((0 : Nat), (9 : Nat), (15 : Nat), (15 : Nat))]) ∈ lw_all := lw_g (lw_at lw_m4 237 rfl) rfl
theorem q1068 : (Jvm.Cond.classLink "LikedOrdersLaw" (20 : Nat) "java/lang/IllegalStateException") ∈ lw_all := lw_g (lw_at lw_m4 238 rfl) rfl
theorem q1069 : (Jvm.Cond.methodLink "LikedOrdersLaw" (17 : Nat) ({ cls := "LikedOrders", name := "count", desc := "(I)I" } : Jvm.MethodName)) ∈ lw_all := lw_g (lw_at lw_m4 239 rfl) rfl
theorem q1142 : (Jvm.Cond.methodLink "LikedOrdersLaw" (184 : Nat) ({ cls := "LikedOrdersLaw", name := "item", desc := "(LLikedOrders;II[J)I" } : Jvm.MethodName)) ∈ lw_all := lw_g (lw_at lw_m5 72 rfl) rfl
theorem q1143 : (Jvm.Cond.static ({ cls := "LikedOrdersLaw", name := "item", desc := "(LLikedOrders;II[J)I" } : Jvm.MethodName)) ∈ lw_all := lw_g (lw_at lw_m5 73 rfl) rfl
theorem q1144 : (Jvm.Cond.codeWith ({ cls := "LikedOrdersLaw", name := "item", desc := "(LLikedOrders;II[J)I" } : Jvm.MethodName) method_5_code (5 : Nat) (Option.some Jvm.ClassFile.FieldType.int) [((0 : Nat), (10 : Nat), (13 : Nat), (20 : Nat)), ((0 : Nat), (10 : Nat), (17 : Nat), (13 : Nat)), ((0 : Nat), (10 : Nat), (21 : Nat), (15 : Nat))]) ∈ lw_all := lw_g (lw_at lw_m5 74 rfl) rfl
theorem q1145 : (Jvm.Cond.methodLink "LikedOrdersLaw" (22 : Nat) ({ cls := "LikedOrders", name := "item", desc := "(II)I" } : Jvm.MethodName)) ∈ lw_all := lw_g (lw_at lw_m5 75 rfl) rfl
theorem q1171 : (Jvm.Cond.methodLink "LikedOrdersLaw" (188 : Nat) ({ cls := "LikedOrdersLaw", name := "letter", desc := "(LLikedOrders;II[J)I" } : Jvm.MethodName)) ∈ lw_all := lw_g (lw_at lw_m5 101 rfl) rfl
theorem q1172 : (Jvm.Cond.static ({ cls := "LikedOrdersLaw", name := "letter", desc := "(LLikedOrders;II[J)I" } : Jvm.MethodName)) ∈ lw_all := lw_g (lw_at lw_m5 102 rfl) rfl
theorem q1173 : (Jvm.Cond.codeWith ({ cls := "LikedOrdersLaw", name := "letter", desc := "(LLikedOrders;II[J)I" } : Jvm.MethodName) method_6_code (5 : Nat) (Option.some Jvm.ClassFile.FieldType.int) [((0 : Nat), (10 : Nat), (13 : Nat), (20 : Nat)), ((0 : Nat), (10 : Nat), (17 : Nat), (13 : Nat))]) ∈ lw_all := lw_g (lw_at lw_m5 103 rfl) rfl
theorem q1174 : (Jvm.Cond.methodLink "LikedOrdersLaw" (26 : Nat) ({ cls := "LikedOrders", name := "letter", desc := "(II)I" } : Jvm.MethodName)) ∈ lw_all := lw_g (lw_at lw_m5 104 rfl) rfl
theorem q1193 : (Jvm.Cond.methodLink "LikedOrdersLaw" (191 : Nat) ({ cls := "LikedOrdersLaw", name := "answer", desc := "(LLikedOrders;II[J)I" } : Jvm.MethodName)) ∈ lw_all := lw_g (lw_at lw_m5 123 rfl) rfl
theorem q1194 : (Jvm.Cond.static ({ cls := "LikedOrdersLaw", name := "answer", desc := "(LLikedOrders;II[J)I" } : Jvm.MethodName)) ∈ lw_all := lw_g (lw_at lw_m5 124 rfl) rfl
theorem q1195 : (Jvm.Cond.codeWith ({ cls := "LikedOrdersLaw", name := "answer", desc := "(LLikedOrders;II[J)I" } : Jvm.MethodName) method_7_code (5 : Nat) (Option.some Jvm.ClassFile.FieldType.int) [((0 : Nat), (10 : Nat), (13 : Nat), (20 : Nat)), ((0 : Nat), (10 : Nat), (17 : Nat), (13 : Nat)), ((0 : Nat), (10 : Nat), (21 : Nat), (15 : Nat))]) ∈ lw_all := lw_g (lw_at lw_m5 125 rfl) rfl
theorem q1196 : (Jvm.Cond.methodLink "LikedOrdersLaw" (29 : Nat) ({ cls := "LikedOrders", name := "answer", desc := "(II)I" } : Jvm.MethodName)) ∈ lw_all := lw_g (lw_at lw_m5 126 rfl) rfl
theorem q1209 : (Jvm.Cond.methodLink "LikedOrdersLaw" (194 : Nat) ({ cls := "LikedOrdersLaw", name := "known", desc := "(LLikedOrders;II[J)I" } : Jvm.MethodName)) ∈ lw_all := lw_g (lw_at lw_m5 139 rfl) rfl
theorem q1210 : (Jvm.Cond.static ({ cls := "LikedOrdersLaw", name := "known", desc := "(LLikedOrders;II[J)I" } : Jvm.MethodName)) ∈ lw_all := lw_g (lw_at lw_m5 140 rfl) rfl
theorem q1211 : (Jvm.Cond.codeWith ({ cls := "LikedOrdersLaw", name := "known", desc := "(LLikedOrders;II[J)I" } : Jvm.MethodName) method_8_code (5 : Nat) (Option.some Jvm.ClassFile.FieldType.int) [((0 : Nat), (10 : Nat), (13 : Nat), (20 : Nat)), ((0 : Nat), (10 : Nat), (17 : Nat), (13 : Nat))]) ∈ lw_all := lw_g (lw_at lw_m5 141 rfl) rfl
theorem q1212 : (Jvm.Cond.methodLink "LikedOrdersLaw" (32 : Nat) ({ cls := "LikedOrders", name := "known", desc := "(II)I" } : Jvm.MethodName)) ∈ lw_all := lw_g (lw_at lw_m5 142 rfl) rfl
theorem q1220 : (Jvm.Cond.methodLink "LikedOrdersLaw" (197 : Nat) ({ cls := "LikedOrdersLaw", name := "why", desc := "(LLikedOrders;II[J)I" } : Jvm.MethodName)) ∈ lw_all := lw_g (lw_at lw_m5 150 rfl) rfl
theorem q1221 : (Jvm.Cond.static ({ cls := "LikedOrdersLaw", name := "why", desc := "(LLikedOrders;II[J)I" } : Jvm.MethodName)) ∈ lw_all := lw_g (lw_at lw_m5 151 rfl) rfl
theorem q1222 : (Jvm.Cond.codeWith ({ cls := "LikedOrdersLaw", name := "why", desc := "(LLikedOrders;II[J)I" } : Jvm.MethodName) method_9_code (5 : Nat) (Option.some Jvm.ClassFile.FieldType.int) [((0 : Nat), (10 : Nat), (13 : Nat), (20 : Nat)), ((0 : Nat), (10 : Nat), (17 : Nat), (13 : Nat)), ((0 : Nat), (10 : Nat), (21 : Nat), (15 : Nat))]) ∈ lw_all := lw_g (lw_at lw_m5 152 rfl) rfl
theorem q1223 : (Jvm.Cond.methodLink "LikedOrdersLaw" (35 : Nat) ({ cls := "LikedOrders", name := "why", desc := "(II)I" } : Jvm.MethodName)) ∈ lw_all := lw_g (lw_at lw_m5 153 rfl) rfl
theorem q1238 : (Jvm.Cond.methodLink "LikedOrdersLaw" (200 : Nat) ({ cls := "LikedOrdersLaw", name := "chain", desc := "(LLikedOrders;III[J)I" } : Jvm.MethodName)) ∈ lw_all := lw_g (lw_at lw_m5 168 rfl) rfl
theorem q1239 : (Jvm.Cond.static ({ cls := "LikedOrdersLaw", name := "chain", desc := "(LLikedOrders;III[J)I" } : Jvm.MethodName)) ∈ lw_all := lw_g (lw_at lw_m5 169 rfl) rfl
theorem q1240 : (Jvm.Cond.codeWith ({ cls := "LikedOrdersLaw", name := "chain", desc := "(LLikedOrders;III[J)I" } : Jvm.MethodName) method_10_code (6 : Nat) (Option.some Jvm.ClassFile.FieldType.int) [((0 : Nat), (12 : Nat), (15 : Nat), (20 : Nat)), ((0 : Nat), (12 : Nat), (19 : Nat), (13 : Nat)), ((0 : Nat), (12 : Nat), (23 : Nat), (15 : Nat))]) ∈ lw_all := lw_g (lw_at lw_m5 170 rfl) rfl
theorem q1241 : (Jvm.Cond.methodLink "LikedOrdersLaw" (38 : Nat) ({ cls := "LikedOrders", name := "chain", desc := "(III)I" } : Jvm.MethodName)) ∈ lw_all := lw_g (lw_at lw_m5 171 rfl) rfl
theorem q1254 : (Jvm.Cond.methodLink "LikedOrdersLaw" (204 : Nat) ({ cls := "LikedOrdersLaw", name := "at", desc := "(LLikedOrders;I[J)I" } : Jvm.MethodName)) ∈ lw_all := lw_g (lw_at lw_m5 184 rfl) rfl
theorem q1255 : (Jvm.Cond.static ({ cls := "LikedOrdersLaw", name := "at", desc := "(LLikedOrders;I[J)I" } : Jvm.MethodName)) ∈ lw_all := lw_g (lw_at lw_m5 185 rfl) rfl
theorem q1256 : (Jvm.Cond.codeWith ({ cls := "LikedOrdersLaw", name := "at", desc := "(LLikedOrders;I[J)I" } : Jvm.MethodName) method_11_code (4 : Nat) (Option.some Jvm.ClassFile.FieldType.int) [((0 : Nat), (9 : Nat), (12 : Nat), (20 : Nat))]) ∈ lw_all := lw_g (lw_at lw_m5 186 rfl) rfl
theorem q1257 : (Jvm.Cond.methodLink "LikedOrdersLaw" (42 : Nat) ({ cls := "LikedOrders", name := "at", desc := "(I)I" } : Jvm.MethodName)) ∈ lw_all := lw_g (lw_at lw_m5 187 rfl) rfl
theorem q1264 : (Jvm.Cond.methodLink "LikedOrdersLaw" (207 : Nat) ({ cls := "LikedOrdersLaw", name := "loose", desc := "(LLikedOrders;[J)I" } : Jvm.MethodName)) ∈ lw_all := lw_g (lw_at lw_m5 194 rfl) rfl
theorem q1265 : (Jvm.Cond.static ({ cls := "LikedOrdersLaw", name := "loose", desc := "(LLikedOrders;[J)I" } : Jvm.MethodName)) ∈ lw_all := lw_g (lw_at lw_m5 195 rfl) rfl
theorem q1266 : (Jvm.Cond.codeWith ({ cls := "LikedOrdersLaw", name := "loose", desc := "(LLikedOrders;[J)I" } : Jvm.MethodName) method_12_code (3 : Nat) (Option.some Jvm.ClassFile.FieldType.int) [((0 : Nat), (8 : Nat), (11 : Nat), (20 : Nat))]) ∈ lw_all := lw_g (lw_at lw_m5 196 rfl) rfl
theorem q1267 : (Jvm.Cond.methodLink "LikedOrdersLaw" (45 : Nat) ({ cls := "LikedOrders", name := "loose", desc := "()I" } : Jvm.MethodName)) ∈ lw_all := lw_g (lw_at lw_m5 197 rfl) rfl
theorem q1271 : (Jvm.Cond.methodLink "LikedOrdersLaw" (211 : Nat) ({ cls := "LikedOrdersLaw", name := "gap", desc := "(LLikedOrders;[J)I" } : Jvm.MethodName)) ∈ lw_all := lw_g (lw_at lw_m5 201 rfl) rfl
theorem q1272 : (Jvm.Cond.static ({ cls := "LikedOrdersLaw", name := "gap", desc := "(LLikedOrders;[J)I" } : Jvm.MethodName)) ∈ lw_all := lw_g (lw_at lw_m5 202 rfl) rfl
theorem q1273 : (Jvm.Cond.codeWith ({ cls := "LikedOrdersLaw", name := "gap", desc := "(LLikedOrders;[J)I" } : Jvm.MethodName) method_13_code (3 : Nat) (Option.some Jvm.ClassFile.FieldType.int) [((0 : Nat), (8 : Nat), (11 : Nat), (20 : Nat))]) ∈ lw_all := lw_g (lw_at lw_m5 203 rfl) rfl
theorem q1274 : (Jvm.Cond.methodLink "LikedOrdersLaw" (49 : Nat) ({ cls := "LikedOrders", name := "gap", desc := "()I" } : Jvm.MethodName)) ∈ lw_all := lw_g (lw_at lw_m5 204 rfl) rfl
theorem q1286 : (Jvm.Cond.methodLink "LikedOrdersLaw" (214 : Nat) ({ cls := "LikedOrdersLaw", name := "next", desc := "(LLikedOrders;Z[J)I" } : Jvm.MethodName)) ∈ lw_all := lw_g (lw_at lw_m5 216 rfl) rfl
theorem q1287 : (Jvm.Cond.static ({ cls := "LikedOrdersLaw", name := "next", desc := "(LLikedOrders;Z[J)I" } : Jvm.MethodName)) ∈ lw_all := lw_g (lw_at lw_m5 217 rfl) rfl
theorem q1288 : (Jvm.Cond.codeWith ({ cls := "LikedOrdersLaw", name := "next", desc := "(LLikedOrders;Z[J)I" } : Jvm.MethodName) method_14_code (4 : Nat) (Option.some Jvm.ClassFile.FieldType.int) [((0 : Nat), (9 : Nat), (12 : Nat), (20 : Nat))]) ∈ lw_all := lw_g (lw_at lw_m5 218 rfl) rfl
theorem q1289 : (Jvm.Cond.methodLink "LikedOrdersLaw" (52 : Nat) ({ cls := "LikedOrders", name := "next", desc := "(Z)I" } : Jvm.MethodName)) ∈ lw_all := lw_g (lw_at lw_m5 219 rfl) rfl
theorem q1398 : (Jvm.Cond.methodLink "LikedOrdersLaw" (218 : Nat) ({ cls := "LikedOrdersLaw", name := "compared", desc := "(LLikedOrders;[J)I" } : Jvm.MethodName)) ∈ lw_all := lw_g (lw_at lw_m6 88 rfl) rfl
theorem q1399 : (Jvm.Cond.static ({ cls := "LikedOrdersLaw", name := "compared", desc := "(LLikedOrders;[J)I" } : Jvm.MethodName)) ∈ lw_all := lw_g (lw_at lw_m6 89 rfl) rfl
theorem q1400 : (Jvm.Cond.codeWith ({ cls := "LikedOrdersLaw", name := "compared", desc := "(LLikedOrders;[J)I" } : Jvm.MethodName) method_15_code (3 : Nat) (Option.some Jvm.ClassFile.FieldType.int) [((0 : Nat), (8 : Nat), (11 : Nat), (20 : Nat))]) ∈ lw_all := lw_g (lw_at lw_m6 90 rfl) rfl
theorem q1401 : (Jvm.Cond.methodLink "LikedOrdersLaw" (56 : Nat) ({ cls := "LikedOrders", name := "compared", desc := "()I" } : Jvm.MethodName)) ∈ lw_all := lw_g (lw_at lw_m6 91 rfl) rfl
theorem q1405 : (Jvm.Cond.methodLink "LikedOrdersLaw" (221 : Nat) ({ cls := "LikedOrdersLaw", name := "doing", desc := "(LLikedOrders;[J)I" } : Jvm.MethodName)) ∈ lw_all := lw_g (lw_at lw_m6 95 rfl) rfl
theorem q1406 : (Jvm.Cond.static ({ cls := "LikedOrdersLaw", name := "doing", desc := "(LLikedOrders;[J)I" } : Jvm.MethodName)) ∈ lw_all := lw_g (lw_at lw_m6 96 rfl) rfl
theorem q1407 : (Jvm.Cond.codeWith ({ cls := "LikedOrdersLaw", name := "doing", desc := "(LLikedOrders;[J)I" } : Jvm.MethodName) method_16_code (3 : Nat) (Option.some Jvm.ClassFile.FieldType.int) [((0 : Nat), (8 : Nat), (11 : Nat), (20 : Nat))]) ∈ lw_all := lw_g (lw_at lw_m6 97 rfl) rfl
theorem q1408 : (Jvm.Cond.methodLink "LikedOrdersLaw" (59 : Nat) ({ cls := "LikedOrders", name := "doing", desc := "()I" } : Jvm.MethodName)) ∈ lw_all := lw_g (lw_at lw_m6 98 rfl) rfl
theorem q1412 : (Jvm.Cond.methodLink "LikedOrdersLaw" (224 : Nat) ({ cls := "LikedOrdersLaw", name := "bound", desc := "(LLikedOrders;[J)I" } : Jvm.MethodName)) ∈ lw_all := lw_g (lw_at lw_m6 102 rfl) rfl
theorem q1413 : (Jvm.Cond.static ({ cls := "LikedOrdersLaw", name := "bound", desc := "(LLikedOrders;[J)I" } : Jvm.MethodName)) ∈ lw_all := lw_g (lw_at lw_m6 103 rfl) rfl
theorem q1414 : (Jvm.Cond.codeWith ({ cls := "LikedOrdersLaw", name := "bound", desc := "(LLikedOrders;[J)I" } : Jvm.MethodName) method_17_code (3 : Nat) (Option.some Jvm.ClassFile.FieldType.int) [((0 : Nat), (8 : Nat), (11 : Nat), (20 : Nat))]) ∈ lw_all := lw_g (lw_at lw_m6 104 rfl) rfl
theorem q1415 : (Jvm.Cond.methodLink "LikedOrdersLaw" (62 : Nat) ({ cls := "LikedOrders", name := "bound", desc := "()I" } : Jvm.MethodName)) ∈ lw_all := lw_g (lw_at lw_m6 105 rfl) rfl
theorem q1419 : (Jvm.Cond.methodLink "LikedOrdersLaw" (227 : Nat) ({ cls := "LikedOrdersLaw", name := "told", desc := "(LLikedOrders;I[J)I" } : Jvm.MethodName)) ∈ lw_all := lw_g (lw_at lw_m6 109 rfl) rfl
theorem q1420 : (Jvm.Cond.static ({ cls := "LikedOrdersLaw", name := "told", desc := "(LLikedOrders;I[J)I" } : Jvm.MethodName)) ∈ lw_all := lw_g (lw_at lw_m6 110 rfl) rfl
theorem q1421 : (Jvm.Cond.codeWith ({ cls := "LikedOrdersLaw", name := "told", desc := "(LLikedOrders;I[J)I" } : Jvm.MethodName) method_18_code (4 : Nat) (Option.some Jvm.ClassFile.FieldType.int) [((0 : Nat), (9 : Nat), (12 : Nat), (20 : Nat)), ((0 : Nat), (9 : Nat), (15 : Nat), (15 : Nat))]) ∈ lw_all := lw_g (lw_at lw_m6 111 rfl) rfl
theorem q1422 : (Jvm.Cond.methodLink "LikedOrdersLaw" (65 : Nat) ({ cls := "LikedOrders", name := "told", desc := "(I)I" } : Jvm.MethodName)) ∈ lw_all := lw_g (lw_at lw_m6 112 rfl) rfl
theorem q1426 : (Jvm.Cond.methodLink "LikedOrdersLaw" (230 : Nat) ({ cls := "LikedOrdersLaw", name := "ordersIf", desc := "(LLikedOrders;II[J)I" } : Jvm.MethodName)) ∈ lw_all := lw_g (lw_at lw_m6 116 rfl) rfl
theorem q1427 : (Jvm.Cond.static ({ cls := "LikedOrdersLaw", name := "ordersIf", desc := "(LLikedOrders;II[J)I" } : Jvm.MethodName)) ∈ lw_all := lw_g (lw_at lw_m6 117 rfl) rfl
theorem q1428 : (Jvm.Cond.codeWith ({ cls := "LikedOrdersLaw", name := "ordersIf", desc := "(LLikedOrders;II[J)I" } : Jvm.MethodName) method_19_code (5 : Nat) (Option.some Jvm.ClassFile.FieldType.int) [((0 : Nat), (10 : Nat), (13 : Nat), (20 : Nat)), ((0 : Nat), (10 : Nat), (17 : Nat), (13 : Nat)), ((0 : Nat), (10 : Nat), (21 : Nat), (15 : Nat))]) ∈ lw_all := lw_g (lw_at lw_m6 118 rfl) rfl
theorem q1429 : (Jvm.Cond.methodLink "LikedOrdersLaw" (68 : Nat) ({ cls := "LikedOrders", name := "ordersIf", desc := "(II)I" } : Jvm.MethodName)) ∈ lw_all := lw_g (lw_at lw_m6 119 rfl) rfl
theorem q1443 : (Jvm.Cond.methodLink "LikedOrdersLaw" (233 : Nat) ({ cls := "LikedOrdersLaw", name := "fairest", desc := "(LLikedOrders;Z[J)I" } : Jvm.MethodName)) ∈ lw_all := lw_g (lw_at lw_m6 133 rfl) rfl
theorem q1444 : (Jvm.Cond.static ({ cls := "LikedOrdersLaw", name := "fairest", desc := "(LLikedOrders;Z[J)I" } : Jvm.MethodName)) ∈ lw_all := lw_g (lw_at lw_m6 134 rfl) rfl
theorem q1445 : (Jvm.Cond.codeWith ({ cls := "LikedOrdersLaw", name := "fairest", desc := "(LLikedOrders;Z[J)I" } : Jvm.MethodName) method_20_code (4 : Nat) (Option.some Jvm.ClassFile.FieldType.int) [((0 : Nat), (9 : Nat), (12 : Nat), (20 : Nat))]) ∈ lw_all := lw_g (lw_at lw_m6 135 rfl) rfl
theorem q1446 : (Jvm.Cond.methodLink "LikedOrdersLaw" (71 : Nat) ({ cls := "LikedOrders", name := "fairest", desc := "(Z)I" } : Jvm.MethodName)) ∈ lw_all := lw_g (lw_at lw_m6 136 rfl) rfl
theorem q1451 : (Jvm.Cond.methodLink "LikedOrdersLaw" (236 : Nat) ({ cls := "LikedOrdersLaw", name := "toCome", desc := "(LLikedOrders;I[J)I" } : Jvm.MethodName)) ∈ lw_all := lw_g (lw_at lw_m6 141 rfl) rfl
theorem q1452 : (Jvm.Cond.static ({ cls := "LikedOrdersLaw", name := "toCome", desc := "(LLikedOrders;I[J)I" } : Jvm.MethodName)) ∈ lw_all := lw_g (lw_at lw_m6 142 rfl) rfl
theorem q1453 : (Jvm.Cond.codeWith ({ cls := "LikedOrdersLaw", name := "toCome", desc := "(LLikedOrders;I[J)I" } : Jvm.MethodName) method_21_code (4 : Nat) (Option.some Jvm.ClassFile.FieldType.int) [((0 : Nat), (9 : Nat), (12 : Nat), (20 : Nat)), ((0 : Nat), (9 : Nat), (15 : Nat), (15 : Nat))]) ∈ lw_all := lw_g (lw_at lw_m6 143 rfl) rfl
theorem q1454 : (Jvm.Cond.methodLink "LikedOrdersLaw" (74 : Nat) ({ cls := "LikedOrders", name := "toCome", desc := "(I)I" } : Jvm.MethodName)) ∈ lw_all := lw_g (lw_at lw_m6 144 rfl) rfl
theorem q1487 : (Jvm.Cond.methodLink "LikedOrdersLaw" (239 : Nat) ({ cls := "LikedOrdersLaw", name := "bestMethod", desc := "(LLikedOrders;[J)I" } : Jvm.MethodName)) ∈ lw_all := lw_g (lw_at lw_m6 177 rfl) rfl
theorem q1488 : (Jvm.Cond.static ({ cls := "LikedOrdersLaw", name := "bestMethod", desc := "(LLikedOrders;[J)I" } : Jvm.MethodName)) ∈ lw_all := lw_g (lw_at lw_m6 178 rfl) rfl
theorem q1489 : (Jvm.Cond.codeWith ({ cls := "LikedOrdersLaw", name := "bestMethod", desc := "(LLikedOrders;[J)I" } : Jvm.MethodName) method_22_code (3 : Nat) (Option.some Jvm.ClassFile.FieldType.int) [((0 : Nat), (8 : Nat), (11 : Nat), (20 : Nat))]) ∈ lw_all := lw_g (lw_at lw_m6 179 rfl) rfl
theorem q1490 : (Jvm.Cond.methodLink "LikedOrdersLaw" (77 : Nat) ({ cls := "LikedOrders", name := "bestMethod", desc := "()I" } : Jvm.MethodName)) ∈ lw_all := lw_g (lw_at lw_m6 180 rfl) rfl
theorem q1494 : (Jvm.Cond.methodLink "LikedOrdersLaw" (242 : Nat) ({ cls := "LikedOrdersLaw", name := "afresh", desc := "(LLikedOrders;I[J)I" } : Jvm.MethodName)) ∈ lw_all := lw_g (lw_at lw_m6 184 rfl) rfl
theorem q1495 : (Jvm.Cond.static ({ cls := "LikedOrdersLaw", name := "afresh", desc := "(LLikedOrders;I[J)I" } : Jvm.MethodName)) ∈ lw_all := lw_g (lw_at lw_m6 185 rfl) rfl
theorem q1496 : (Jvm.Cond.codeWith ({ cls := "LikedOrdersLaw", name := "afresh", desc := "(LLikedOrders;I[J)I" } : Jvm.MethodName) method_23_code (4 : Nat) (Option.some Jvm.ClassFile.FieldType.int) [((0 : Nat), (9 : Nat), (12 : Nat), (20 : Nat)), ((0 : Nat), (9 : Nat), (15 : Nat), (15 : Nat))]) ∈ lw_all := lw_g (lw_at lw_m6 186 rfl) rfl
theorem q1497 : (Jvm.Cond.methodLink "LikedOrdersLaw" (80 : Nat) ({ cls := "LikedOrders", name := "afresh", desc := "(I)I" } : Jvm.MethodName)) ∈ lw_all := lw_g (lw_at lw_m6 187 rfl) rfl
theorem q1502 : (Jvm.Cond.methodLink "LikedOrdersLaw" (245 : Nat) ({ cls := "LikedOrdersLaw", name := "placeThen", desc := "(LLikedOrders;I[J)I" } : Jvm.MethodName)) ∈ lw_all := lw_g (lw_at lw_m6 192 rfl) rfl
theorem q1503 : (Jvm.Cond.static ({ cls := "LikedOrdersLaw", name := "placeThen", desc := "(LLikedOrders;I[J)I" } : Jvm.MethodName)) ∈ lw_all := lw_g (lw_at lw_m6 193 rfl) rfl
theorem q1504 : (Jvm.Cond.codeWith ({ cls := "LikedOrdersLaw", name := "placeThen", desc := "(LLikedOrders;I[J)I" } : Jvm.MethodName) method_24_code (4 : Nat) (Option.some Jvm.ClassFile.FieldType.int) [((0 : Nat), (9 : Nat), (12 : Nat), (20 : Nat)), ((0 : Nat), (9 : Nat), (15 : Nat), (13 : Nat))]) ∈ lw_all := lw_g (lw_at lw_m6 194 rfl) rfl
theorem q1505 : (Jvm.Cond.methodLink "LikedOrdersLaw" (83 : Nat) ({ cls := "LikedOrders", name := "placeThen", desc := "(I)I" } : Jvm.MethodName)) ∈ lw_all := lw_g (lw_at lw_m6 195 rfl) rfl
theorem q1510 : (Jvm.Cond.methodLink "LikedOrdersLaw" (248 : Nat) ({ cls := "LikedOrdersLaw", name := "toComeIf", desc := "(LLikedOrders;II[J)I" } : Jvm.MethodName)) ∈ lw_all := lw_g (lw_at lw_m6 200 rfl) rfl
theorem q1511 : (Jvm.Cond.static ({ cls := "LikedOrdersLaw", name := "toComeIf", desc := "(LLikedOrders;II[J)I" } : Jvm.MethodName)) ∈ lw_all := lw_g (lw_at lw_m6 201 rfl) rfl
theorem q1512 : (Jvm.Cond.codeWith ({ cls := "LikedOrdersLaw", name := "toComeIf", desc := "(LLikedOrders;II[J)I" } : Jvm.MethodName) method_25_code (5 : Nat) (Option.some Jvm.ClassFile.FieldType.int) [((0 : Nat), (10 : Nat), (13 : Nat), (20 : Nat)), ((0 : Nat), (10 : Nat), (17 : Nat), (13 : Nat)), ((0 : Nat), (10 : Nat), (21 : Nat), (15 : Nat))]) ∈ lw_all := lw_g (lw_at lw_m6 202 rfl) rfl
theorem q1513 : (Jvm.Cond.methodLink "LikedOrdersLaw" (86 : Nat) ({ cls := "LikedOrders", name := "toComeIf", desc := "(II)I" } : Jvm.MethodName)) ∈ lw_all := lw_g (lw_at lw_m6 203 rfl) rfl
theorem q1517 : (Jvm.Cond.methodLink "LikedOrdersLaw" (251 : Nat) ({ cls := "LikedOrdersLaw", name := "toComeWithout", desc := "(LLikedOrders;I[J)I" } : Jvm.MethodName)) ∈ lw_all := lw_g (lw_at lw_m6 207 rfl) rfl
theorem q1518 : (Jvm.Cond.static ({ cls := "LikedOrdersLaw", name := "toComeWithout", desc := "(LLikedOrders;I[J)I" } : Jvm.MethodName)) ∈ lw_all := lw_g (lw_at lw_m6 208 rfl) rfl
theorem q1519 : (Jvm.Cond.codeWith ({ cls := "LikedOrdersLaw", name := "toComeWithout", desc := "(LLikedOrders;I[J)I" } : Jvm.MethodName) method_26_code (4 : Nat) (Option.some Jvm.ClassFile.FieldType.int) [((0 : Nat), (9 : Nat), (12 : Nat), (20 : Nat)), ((0 : Nat), (9 : Nat), (15 : Nat), (13 : Nat))]) ∈ lw_all := lw_g (lw_at lw_m6 209 rfl) rfl
theorem q1520 : (Jvm.Cond.methodLink "LikedOrdersLaw" (89 : Nat) ({ cls := "LikedOrders", name := "toComeWithout", desc := "(I)I" } : Jvm.MethodName)) ∈ lw_all := lw_g (lw_at lw_m6 210 rfl) rfl
theorem q1524 : (Jvm.Cond.methodLink "LikedOrdersLaw" (254 : Nat) ({ cls := "LikedOrdersLaw", name := "worst", desc := "(LLikedOrders;[J)I" } : Jvm.MethodName)) ∈ lw_all := lw_g (lw_at lw_m6 214 rfl) rfl
theorem q1525 : (Jvm.Cond.static ({ cls := "LikedOrdersLaw", name := "worst", desc := "(LLikedOrders;[J)I" } : Jvm.MethodName)) ∈ lw_all := lw_g (lw_at lw_m6 215 rfl) rfl
theorem q1526 : (Jvm.Cond.codeWith ({ cls := "LikedOrdersLaw", name := "worst", desc := "(LLikedOrders;[J)I" } : Jvm.MethodName) method_27_code (3 : Nat) (Option.some Jvm.ClassFile.FieldType.int) [((0 : Nat), (8 : Nat), (11 : Nat), (20 : Nat))]) ∈ lw_all := lw_g (lw_at lw_m6 216 rfl) rfl
theorem q1527 : (Jvm.Cond.methodLink "LikedOrdersLaw" (92 : Nat) ({ cls := "LikedOrders", name := "worst", desc := "()I" } : Jvm.MethodName)) ∈ lw_all := lw_g (lw_at lw_m6 217 rfl) rfl
theorem q1531 : (Jvm.Cond.methodLink "LikedOrdersLaw" (257 : Nat) ({ cls := "LikedOrdersLaw", name := "swaps", desc := "(LLikedOrders;[J)I" } : Jvm.MethodName)) ∈ lw_all := lw_g (lw_at lw_m6 221 rfl) rfl
theorem q1532 : (Jvm.Cond.static ({ cls := "LikedOrdersLaw", name := "swaps", desc := "(LLikedOrders;[J)I" } : Jvm.MethodName)) ∈ lw_all := lw_g (lw_at lw_m6 222 rfl) rfl
theorem q1533 : (Jvm.Cond.codeWith ({ cls := "LikedOrdersLaw", name := "swaps", desc := "(LLikedOrders;[J)I" } : Jvm.MethodName) method_28_code (3 : Nat) (Option.some Jvm.ClassFile.FieldType.int) [((0 : Nat), (8 : Nat), (11 : Nat), (20 : Nat))]) ∈ lw_all := lw_g (lw_at lw_m6 223 rfl) rfl
theorem q1534 : (Jvm.Cond.methodLink "LikedOrdersLaw" (95 : Nat) ({ cls := "LikedOrders", name := "swaps", desc := "()I" } : Jvm.MethodName)) ∈ lw_all := lw_g (lw_at lw_m6 224 rfl) rfl
theorem q1538 : (Jvm.Cond.methodLink "LikedOrdersLaw" (260 : Nat) ({ cls := "LikedOrdersLaw", name := "share", desc := "(LLikedOrders;[D)I" } : Jvm.MethodName)) ∈ lw_all := lw_g (lw_at lw_m6 228 rfl) rfl
theorem q1539 : (Jvm.Cond.static ({ cls := "LikedOrdersLaw", name := "share", desc := "(LLikedOrders;[D)I" } : Jvm.MethodName)) ∈ lw_all := lw_g (lw_at lw_m6 229 rfl) rfl
theorem q1540 : (Jvm.Cond.codeWith ({ cls := "LikedOrdersLaw", name := "share", desc := "(LLikedOrders;[D)I" } : Jvm.MethodName) method_29_code (3 : Nat) (Option.some Jvm.ClassFile.FieldType.int) [((0 : Nat), (8 : Nat), (11 : Nat), (20 : Nat))]) ∈ lw_all := lw_g (lw_at lw_m6 230 rfl) rfl
theorem q1541 : (Jvm.Cond.methodLink "LikedOrdersLaw" (98 : Nat) ({ cls := "LikedOrders", name := "share", desc := "()F" } : Jvm.MethodName)) ∈ lw_all := lw_g (lw_at lw_m6 231 rfl) rfl
theorem q1545 : (Jvm.Cond.methodLink "LikedOrdersLaw" (264 : Nat) ({ cls := "LikedOrdersLaw", name := "meanPlace", desc := "(LLikedOrders;I[D)I" } : Jvm.MethodName)) ∈ lw_all := lw_g (lw_at lw_m6 235 rfl) rfl
theorem q1546 : (Jvm.Cond.static ({ cls := "LikedOrdersLaw", name := "meanPlace", desc := "(LLikedOrders;I[D)I" } : Jvm.MethodName)) ∈ lw_all := lw_g (lw_at lw_m6 236 rfl) rfl
theorem q1547 : (Jvm.Cond.codeWith ({ cls := "LikedOrdersLaw", name := "meanPlace", desc := "(LLikedOrders;I[D)I" } : Jvm.MethodName) method_30_code (4 : Nat) (Option.some Jvm.ClassFile.FieldType.int) [((0 : Nat), (8 : Nat), (11 : Nat), (20 : Nat)), ((0 : Nat), (8 : Nat), (14 : Nat), (13 : Nat))]) ∈ lw_all := lw_g (lw_at lw_m6 237 rfl) rfl
theorem q1548 : (Jvm.Cond.methodLink "LikedOrdersLaw" (102 : Nat) ({ cls := "LikedOrders", name := "meanPlace", desc := "(I)D" } : Jvm.MethodName)) ∈ lw_all := lw_g (lw_at lw_m6 238 rfl) rfl
theorem q1553 : (Jvm.Cond.methodLink "LikedOrdersLaw" (268 : Nat) ({ cls := "LikedOrdersLaw", name := "writeAnswers", desc := "(LLikedOrders;[J)I" } : Jvm.MethodName)) ∈ lw_all := lw_g (lw_at lw_m7 3 rfl) rfl
theorem q1554 : (Jvm.Cond.static ({ cls := "LikedOrdersLaw", name := "writeAnswers", desc := "(LLikedOrders;[J)I" } : Jvm.MethodName)) ∈ lw_all := lw_g (lw_at lw_m7 4 rfl) rfl
theorem q1555 : (Jvm.Cond.codeWith ({ cls := "LikedOrdersLaw", name := "writeAnswers", desc := "(LLikedOrders;[J)I" } : Jvm.MethodName) method_31_code (3 : Nat) (Option.some Jvm.ClassFile.FieldType.int) [((0 : Nat), (8 : Nat), (11 : Nat), (20 : Nat))]) ∈ lw_all := lw_g (lw_at lw_m7 5 rfl) rfl
theorem q1556 : (Jvm.Cond.methodLink "LikedOrdersLaw" (106 : Nat) ({ cls := "LikedOrders", name := "writeAnswers", desc := "()I" } : Jvm.MethodName)) ∈ lw_all := lw_g (lw_at lw_m7 6 rfl) rfl
theorem q1574 : (Jvm.Cond.methodLink "LikedOrdersLaw" (271 : Nat) ({ cls := "LikedOrdersLaw", name := "writePlaces", desc := "(LLikedOrders;[J)I" } : Jvm.MethodName)) ∈ lw_all := lw_g (lw_at lw_m7 24 rfl) rfl
theorem q1575 : (Jvm.Cond.static ({ cls := "LikedOrdersLaw", name := "writePlaces", desc := "(LLikedOrders;[J)I" } : Jvm.MethodName)) ∈ lw_all := lw_g (lw_at lw_m7 25 rfl) rfl
theorem q1576 : (Jvm.Cond.codeWith ({ cls := "LikedOrdersLaw", name := "writePlaces", desc := "(LLikedOrders;[J)I" } : Jvm.MethodName) method_32_code (3 : Nat) (Option.some Jvm.ClassFile.FieldType.int) [((0 : Nat), (8 : Nat), (11 : Nat), (20 : Nat))]) ∈ lw_all := lw_g (lw_at lw_m7 26 rfl) rfl
theorem q1577 : (Jvm.Cond.methodLink "LikedOrdersLaw" (109 : Nat) ({ cls := "LikedOrders", name := "writePlaces", desc := "()I" } : Jvm.MethodName)) ∈ lw_all := lw_g (lw_at lw_m7 27 rfl) rfl
theorem q1582 : (Jvm.Cond.methodLink "LikedOrdersLaw" (274 : Nat) ({ cls := "LikedOrdersLaw", name := "writeFirst", desc := "(LLikedOrders;[J)I" } : Jvm.MethodName)) ∈ lw_all := lw_g (lw_at lw_m7 32 rfl) rfl
theorem q1583 : (Jvm.Cond.static ({ cls := "LikedOrdersLaw", name := "writeFirst", desc := "(LLikedOrders;[J)I" } : Jvm.MethodName)) ∈ lw_all := lw_g (lw_at lw_m7 33 rfl) rfl
theorem q1584 : (Jvm.Cond.codeWith ({ cls := "LikedOrdersLaw", name := "writeFirst", desc := "(LLikedOrders;[J)I" } : Jvm.MethodName) method_33_code (3 : Nat) (Option.some Jvm.ClassFile.FieldType.int) [((0 : Nat), (8 : Nat), (11 : Nat), (20 : Nat))]) ∈ lw_all := lw_g (lw_at lw_m7 34 rfl) rfl
theorem q1585 : (Jvm.Cond.methodLink "LikedOrdersLaw" (112 : Nat) ({ cls := "LikedOrders", name := "writeFirst", desc := "()I" } : Jvm.MethodName)) ∈ lw_all := lw_g (lw_at lw_m7 35 rfl) rfl
theorem q1589 : (Jvm.Cond.methodLink "LikedOrdersLaw" (277 : Nat) ({ cls := "LikedOrdersLaw", name := "textByte", desc := "(LLikedOrders;I[J)I" } : Jvm.MethodName)) ∈ lw_all := lw_g (lw_at lw_m7 39 rfl) rfl
theorem q1590 : (Jvm.Cond.static ({ cls := "LikedOrdersLaw", name := "textByte", desc := "(LLikedOrders;I[J)I" } : Jvm.MethodName)) ∈ lw_all := lw_g (lw_at lw_m7 40 rfl) rfl
theorem q1591 : (Jvm.Cond.codeWith ({ cls := "LikedOrdersLaw", name := "textByte", desc := "(LLikedOrders;I[J)I" } : Jvm.MethodName) method_34_code (4 : Nat) (Option.some Jvm.ClassFile.FieldType.int) [((0 : Nat), (9 : Nat), (12 : Nat), (13 : Nat))]) ∈ lw_all := lw_g (lw_at lw_m7 41 rfl) rfl
theorem q1592 : (Jvm.Cond.methodLink "LikedOrdersLaw" (115 : Nat) ({ cls := "LikedOrders", name := "textByte", desc := "(I)I" } : Jvm.MethodName)) ∈ lw_all := lw_g (lw_at lw_m7 42 rfl) rfl
theorem q1596 : (Jvm.Cond.methodLink "LikedOrdersLaw" (280 : Nat) ({ cls := "LikedOrdersLaw", name := "ask", desc := "(LLikedOrders;II[J)I" } : Jvm.MethodName)) ∈ lw_all := lw_g (lw_at lw_m7 46 rfl) rfl
theorem q1597 : (Jvm.Cond.static ({ cls := "LikedOrdersLaw", name := "ask", desc := "(LLikedOrders;II[J)I" } : Jvm.MethodName)) ∈ lw_all := lw_g (lw_at lw_m7 47 rfl) rfl
theorem q1598 : (Jvm.Cond.codeWith ({ cls := "LikedOrdersLaw", name := "ask", desc := "(LLikedOrders;II[J)I" } : Jvm.MethodName) method_35_code (5 : Nat) (Option.some Jvm.ClassFile.FieldType.int) [((0 : Nat), (10 : Nat), (13 : Nat), (20 : Nat)), ((0 : Nat), (10 : Nat), (17 : Nat), (13 : Nat)), ((0 : Nat), (10 : Nat), (21 : Nat), (15 : Nat))]) ∈ lw_all := lw_g (lw_at lw_m7 48 rfl) rfl
theorem q1599 : (Jvm.Cond.methodLink "LikedOrdersLaw" (118 : Nat) ({ cls := "LikedOrders", name := "ask", desc := "(II)I" } : Jvm.MethodName)) ∈ lw_all := lw_g (lw_at lw_m7 49 rfl) rfl
theorem q1666 : (Jvm.Cond.methodLink "LikedOrdersLaw" (283 : Nat) ({ cls := "LikedOrdersLaw", name := "goOn", desc := "(LLikedOrders;I[J)I" } : Jvm.MethodName)) ∈ lw_all := lw_g (lw_at lw_m7 116 rfl) rfl
theorem q1667 : (Jvm.Cond.static ({ cls := "LikedOrdersLaw", name := "goOn", desc := "(LLikedOrders;I[J)I" } : Jvm.MethodName)) ∈ lw_all := lw_g (lw_at lw_m7 117 rfl) rfl
theorem q1668 : (Jvm.Cond.codeWith ({ cls := "LikedOrdersLaw", name := "goOn", desc := "(LLikedOrders;I[J)I" } : Jvm.MethodName) method_36_code (4 : Nat) (Option.some Jvm.ClassFile.FieldType.int) [((0 : Nat), (9 : Nat), (12 : Nat), (20 : Nat)), ((0 : Nat), (9 : Nat), (15 : Nat), (15 : Nat))]) ∈ lw_all := lw_g (lw_at lw_m7 118 rfl) rfl
theorem q1669 : (Jvm.Cond.methodLink "LikedOrdersLaw" (121 : Nat) ({ cls := "LikedOrders", name := "goOn", desc := "(I)I" } : Jvm.MethodName)) ∈ lw_all := lw_g (lw_at lw_m7 119 rfl) rfl
theorem q1673 : (Jvm.Cond.methodLink "LikedOrdersLaw" (286 : Nat) ({ cls := "LikedOrdersLaw", name := "takeBack", desc := "(LLikedOrders;I[J)I" } : Jvm.MethodName)) ∈ lw_all := lw_g (lw_at lw_m7 123 rfl) rfl
theorem q1674 : (Jvm.Cond.static ({ cls := "LikedOrdersLaw", name := "takeBack", desc := "(LLikedOrders;I[J)I" } : Jvm.MethodName)) ∈ lw_all := lw_g (lw_at lw_m7 124 rfl) rfl
theorem q1675 : (Jvm.Cond.codeWith ({ cls := "LikedOrdersLaw", name := "takeBack", desc := "(LLikedOrders;I[J)I" } : Jvm.MethodName) method_37_code (4 : Nat) (Option.some Jvm.ClassFile.FieldType.int) [((0 : Nat), (9 : Nat), (12 : Nat), (20 : Nat)), ((0 : Nat), (9 : Nat), (15 : Nat), (13 : Nat))]) ∈ lw_all := lw_g (lw_at lw_m7 125 rfl) rfl
theorem q1676 : (Jvm.Cond.methodLink "LikedOrdersLaw" (124 : Nat) ({ cls := "LikedOrders", name := "takeBack", desc := "(I)I" } : Jvm.MethodName)) ∈ lw_all := lw_g (lw_at lw_m7 126 rfl) rfl
theorem q1702 : (Jvm.Cond.methodLink "LikedOrdersLaw" (289 : Nat) ({ cls := "LikedOrdersLaw", name := "tidy", desc := "(LLikedOrders;[J)I" } : Jvm.MethodName)) ∈ lw_all := lw_g (lw_at lw_m7 152 rfl) rfl
theorem q1703 : (Jvm.Cond.static ({ cls := "LikedOrdersLaw", name := "tidy", desc := "(LLikedOrders;[J)I" } : Jvm.MethodName)) ∈ lw_all := lw_g (lw_at lw_m7 153 rfl) rfl
theorem q1704 : (Jvm.Cond.codeWith ({ cls := "LikedOrdersLaw", name := "tidy", desc := "(LLikedOrders;[J)I" } : Jvm.MethodName) method_38_code (3 : Nat) (Option.some Jvm.ClassFile.FieldType.int) [((0 : Nat), (8 : Nat), (11 : Nat), (20 : Nat))]) ∈ lw_all := lw_g (lw_at lw_m7 154 rfl) rfl
theorem q1705 : (Jvm.Cond.methodLink "LikedOrdersLaw" (127 : Nat) ({ cls := "LikedOrders", name := "tidy", desc := "()I" } : Jvm.MethodName)) ∈ lw_all := lw_g (lw_at lw_m7 155 rfl) rfl
theorem q1709 : (Jvm.Cond.methodLink "LikedOrdersLaw" (292 : Nat) ({ cls := "LikedOrdersLaw", name := "addItem", desc := "(LLikedOrders;II[J)I" } : Jvm.MethodName)) ∈ lw_all := lw_g (lw_at lw_m7 159 rfl) rfl
theorem q1710 : (Jvm.Cond.static ({ cls := "LikedOrdersLaw", name := "addItem", desc := "(LLikedOrders;II[J)I" } : Jvm.MethodName)) ∈ lw_all := lw_g (lw_at lw_m7 160 rfl) rfl
theorem q1711 : (Jvm.Cond.codeWith ({ cls := "LikedOrdersLaw", name := "addItem", desc := "(LLikedOrders;II[J)I" } : Jvm.MethodName) method_39_code (5 : Nat) (Option.some Jvm.ClassFile.FieldType.int) [((0 : Nat), (10 : Nat), (13 : Nat), (20 : Nat)), ((0 : Nat), (10 : Nat), (17 : Nat), (13 : Nat)), ((0 : Nat), (10 : Nat), (21 : Nat), (15 : Nat))]) ∈ lw_all := lw_g (lw_at lw_m7 161 rfl) rfl
theorem q1712 : (Jvm.Cond.methodLink "LikedOrdersLaw" (130 : Nat) ({ cls := "LikedOrders", name := "addItem", desc := "(II)I" } : Jvm.MethodName)) ∈ lw_all := lw_g (lw_at lw_m7 162 rfl) rfl
theorem q1727 : (Jvm.Cond.methodLink "LikedOrdersLaw" (295 : Nat) ({ cls := "LikedOrdersLaw", name := "dropItem", desc := "(LLikedOrders;I[J)I" } : Jvm.MethodName)) ∈ lw_all := lw_g (lw_at lw_m7 177 rfl) rfl
theorem q1728 : (Jvm.Cond.static ({ cls := "LikedOrdersLaw", name := "dropItem", desc := "(LLikedOrders;I[J)I" } : Jvm.MethodName)) ∈ lw_all := lw_g (lw_at lw_m7 178 rfl) rfl
theorem q1729 : (Jvm.Cond.codeWith ({ cls := "LikedOrdersLaw", name := "dropItem", desc := "(LLikedOrders;I[J)I" } : Jvm.MethodName) method_40_code (4 : Nat) (Option.some Jvm.ClassFile.FieldType.int) [((0 : Nat), (9 : Nat), (12 : Nat), (20 : Nat)), ((0 : Nat), (9 : Nat), (15 : Nat), (13 : Nat)), ((0 : Nat), (9 : Nat), (18 : Nat), (15 : Nat))]) ∈ lw_all := lw_g (lw_at lw_m7 179 rfl) rfl
theorem q1730 : (Jvm.Cond.methodLink "LikedOrdersLaw" (133 : Nat) ({ cls := "LikedOrders", name := "dropItem", desc := "(I)I" } : Jvm.MethodName)) ∈ lw_all := lw_g (lw_at lw_m7 180 rfl) rfl
theorem q1744 : (Jvm.Cond.methodLink "LikedOrdersLaw" (298 : Nat) ({ cls := "LikedOrdersLaw", name := "setWorth", desc := "(LLikedOrders;II[J)I" } : Jvm.MethodName)) ∈ lw_all := lw_g (lw_at lw_m7 194 rfl) rfl
theorem q1745 : (Jvm.Cond.static ({ cls := "LikedOrdersLaw", name := "setWorth", desc := "(LLikedOrders;II[J)I" } : Jvm.MethodName)) ∈ lw_all := lw_g (lw_at lw_m7 195 rfl) rfl
theorem q1746 : (Jvm.Cond.codeWith ({ cls := "LikedOrdersLaw", name := "setWorth", desc := "(LLikedOrders;II[J)I" } : Jvm.MethodName) method_41_code (5 : Nat) (Option.some Jvm.ClassFile.FieldType.int) [((0 : Nat), (10 : Nat), (13 : Nat), (20 : Nat)), ((0 : Nat), (10 : Nat), (17 : Nat), (13 : Nat)), ((0 : Nat), (10 : Nat), (21 : Nat), (15 : Nat))]) ∈ lw_all := lw_g (lw_at lw_m7 196 rfl) rfl
theorem q1747 : (Jvm.Cond.methodLink "LikedOrdersLaw" (136 : Nat) ({ cls := "LikedOrders", name := "setWorth", desc := "(II)I" } : Jvm.MethodName)) ∈ lw_all := lw_g (lw_at lw_m7 197 rfl) rfl
theorem q1764 : (Jvm.Cond.methodLink "LikedOrdersLaw" (301 : Nat) ({ cls := "LikedOrdersLaw", name := "setMethod", desc := "(LLikedOrders;I[J)I" } : Jvm.MethodName)) ∈ lw_all := lw_g (lw_at lw_m7 214 rfl) rfl
theorem q1765 : (Jvm.Cond.static ({ cls := "LikedOrdersLaw", name := "setMethod", desc := "(LLikedOrders;I[J)I" } : Jvm.MethodName)) ∈ lw_all := lw_g (lw_at lw_m7 215 rfl) rfl
theorem q1766 : (Jvm.Cond.codeWith ({ cls := "LikedOrdersLaw", name := "setMethod", desc := "(LLikedOrders;I[J)I" } : Jvm.MethodName) method_42_code (4 : Nat) (Option.some Jvm.ClassFile.FieldType.int) [((0 : Nat), (9 : Nat), (12 : Nat), (20 : Nat)), ((0 : Nat), (9 : Nat), (15 : Nat), (15 : Nat))]) ∈ lw_all := lw_g (lw_at lw_m7 216 rfl) rfl
theorem q1767 : (Jvm.Cond.methodLink "LikedOrdersLaw" (139 : Nat) ({ cls := "LikedOrders", name := "setMethod", desc := "(I)I" } : Jvm.MethodName)) ∈ lw_all := lw_g (lw_at lw_m7 217 rfl) rfl
theorem q1771 : (Jvm.Cond.methodLink "LikedOrdersLaw" (304 : Nat) ({ cls := "LikedOrdersLaw", name := "undo", desc := "(LLikedOrders;[J)I" } : Jvm.MethodName)) ∈ lw_all := lw_g (lw_at lw_m7 221 rfl) rfl
theorem q1772 : (Jvm.Cond.static ({ cls := "LikedOrdersLaw", name := "undo", desc := "(LLikedOrders;[J)I" } : Jvm.MethodName)) ∈ lw_all := lw_g (lw_at lw_m7 222 rfl) rfl
theorem q1773 : (Jvm.Cond.codeWith ({ cls := "LikedOrdersLaw", name := "undo", desc := "(LLikedOrders;[J)I" } : Jvm.MethodName) method_43_code (3 : Nat) (Option.some Jvm.ClassFile.FieldType.int) [((0 : Nat), (8 : Nat), (11 : Nat), (20 : Nat))]) ∈ lw_all := lw_g (lw_at lw_m7 223 rfl) rfl
theorem q1774 : (Jvm.Cond.methodLink "LikedOrdersLaw" (142 : Nat) ({ cls := "LikedOrders", name := "undo", desc := "()I" } : Jvm.MethodName)) ∈ lw_all := lw_g (lw_at lw_m7 224 rfl) rfl
theorem q1802 : (Jvm.Cond.methodLink "LikedOrdersLaw" (311 : Nat) ({ cls := "LikedOrdersLaw", name := "save", desc := "(LLikedOrders;I[J)I" } : Jvm.MethodName)) ∈ lw_all := lw_g (lw_at lw_m8 12 rfl) rfl
theorem q1803 : (Jvm.Cond.static ({ cls := "LikedOrdersLaw", name := "save", desc := "(LLikedOrders;I[J)I" } : Jvm.MethodName)) ∈ lw_all := lw_g (lw_at lw_m8 13 rfl) rfl
theorem q1804 : (Jvm.Cond.codeWith ({ cls := "LikedOrdersLaw", name := "save", desc := "(LLikedOrders;I[J)I" } : Jvm.MethodName) method_44_code (4 : Nat) (Option.some Jvm.ClassFile.FieldType.int) [((0 : Nat), (9 : Nat), (12 : Nat), (20 : Nat)), ((0 : Nat), (9 : Nat), (15 : Nat), (13 : Nat))]) ∈ lw_all := lw_g (lw_at lw_m8 14 rfl) rfl
theorem q1805 : (Jvm.Cond.methodLink "LikedOrdersLaw" (145 : Nat) ({ cls := "LikedOrders", name := "save", desc := "(I)I" } : Jvm.MethodName)) ∈ lw_all := lw_g (lw_at lw_m8 15 rfl) rfl
theorem q1809 : (Jvm.Cond.methodLink "LikedOrdersLaw" (314 : Nat) ({ cls := "LikedOrdersLaw", name := "restore", desc := "(LLikedOrders;I[J)I" } : Jvm.MethodName)) ∈ lw_all := lw_g (lw_at lw_m8 19 rfl) rfl
theorem q1810 : (Jvm.Cond.static ({ cls := "LikedOrdersLaw", name := "restore", desc := "(LLikedOrders;I[J)I" } : Jvm.MethodName)) ∈ lw_all := lw_g (lw_at lw_m8 20 rfl) rfl
theorem q1811 : (Jvm.Cond.codeWith ({ cls := "LikedOrdersLaw", name := "restore", desc := "(LLikedOrders;I[J)I" } : Jvm.MethodName) method_45_code (4 : Nat) (Option.some Jvm.ClassFile.FieldType.int) [((0 : Nat), (9 : Nat), (12 : Nat), (13 : Nat)), ((0 : Nat), (9 : Nat), (15 : Nat), (20 : Nat))]) ∈ lw_all := lw_g (lw_at lw_m8 21 rfl) rfl
theorem q1812 : (Jvm.Cond.methodLink "LikedOrdersLaw" (148 : Nat) ({ cls := "LikedOrders", name := "restore", desc := "(I)I" } : Jvm.MethodName)) ∈ lw_all := lw_g (lw_at lw_m8 22 rfl) rfl
theorem q1816 : (Jvm.Cond.classLink "LikedOrdersLaw" (152 : Nat) "LikedOrdersModel") ∈ lw_all := lw_g (lw_at lw_m8 26 rfl) rfl
theorem q1818 : (Jvm.Cond.methodLink "LikedOrdersLaw" (154 : Nat) ({ cls := "LikedOrdersModel", name := "<init>", desc := "()V" } : Jvm.MethodName)) ∈ lw_all := lw_g (lw_at lw_m8 28 rfl) rfl
theorem q1917 : (Jvm.Cond.methodLink "LikedOrdersLaw" (166 : Nat) ({ cls := "LikedOrdersModel", name := "thrown", desc := "()I" } : Jvm.MethodName)) ∈ lw_all := lw_g (lw_at lw_m8 127 rfl) rfl
theorem q1921 : (Jvm.Cond.methodLink "LikedOrdersLaw" (159 : Nat) ({ cls := "LikedOrdersModel", name := "append", desc := "(IIIII)I" } : Jvm.MethodName)) ∈ lw_all := lw_g (lw_at lw_m8 131 rfl) rfl
theorem q1925 : (Jvm.Cond.methodLink "LikedOrdersLaw" (180 : Nat) ({ cls := "LikedOrdersModel", name := "buffered", desc := "()I" } : Jvm.MethodName)) ∈ lw_all := lw_g (lw_at lw_m8 135 rfl) rfl
theorem q1929 : (Jvm.Cond.methodLink "LikedOrdersLaw" (172 : Nat) ({ cls := "LikedOrdersModel", name := "parseError", desc := "()I" } : Jvm.MethodName)) ∈ lw_all := lw_g (lw_at lw_m8 139 rfl) rfl
theorem q1933 : (Jvm.Cond.methodLink "LikedOrdersLaw" (176 : Nat) ({ cls := "LikedOrdersModel", name := "errorPosition", desc := "()I" } : Jvm.MethodName)) ∈ lw_all := lw_g (lw_at lw_m8 143 rfl) rfl
theorem q1937 : (Jvm.Cond.methodLink "LikedOrdersLaw" (165 : Nat) ({ cls := "LikedOrdersModel", name := "load", desc := "(I)I" } : Jvm.MethodName)) ∈ lw_all := lw_g (lw_at lw_m8 147 rfl) rfl
theorem q2062 : (Jvm.Cond.methodLink "LikedOrdersLaw" (183 : Nat) ({ cls := "LikedOrdersModel", name := "count", desc := "(I)I" } : Jvm.MethodName)) ∈ lw_all := lw_g (lw_at lw_m9 32 rfl) rfl
theorem q2121 : (Jvm.Cond.methodLink "LikedOrdersLaw" (187 : Nat) ({ cls := "LikedOrdersModel", name := "item", desc := "(II)I" } : Jvm.MethodName)) ∈ lw_all := lw_g (lw_at lw_m9 91 rfl) rfl
theorem q2146 : (Jvm.Cond.methodLink "LikedOrdersLaw" (190 : Nat) ({ cls := "LikedOrdersModel", name := "letter", desc := "(II)I" } : Jvm.MethodName)) ∈ lw_all := lw_g (lw_at lw_m9 116 rfl) rfl
theorem q2150 : (Jvm.Cond.methodLink "LikedOrdersLaw" (193 : Nat) ({ cls := "LikedOrdersModel", name := "answer", desc := "(II)I" } : Jvm.MethodName)) ∈ lw_all := lw_g (lw_at lw_m9 120 rfl) rfl
theorem q2163 : (Jvm.Cond.methodLink "LikedOrdersLaw" (196 : Nat) ({ cls := "LikedOrdersModel", name := "known", desc := "(II)I" } : Jvm.MethodName)) ∈ lw_all := lw_g (lw_at lw_m9 133 rfl) rfl
theorem q2171 : (Jvm.Cond.methodLink "LikedOrdersLaw" (199 : Nat) ({ cls := "LikedOrdersModel", name := "why", desc := "(II)I" } : Jvm.MethodName)) ∈ lw_all := lw_g (lw_at lw_m9 141 rfl) rfl
theorem q2183 : (Jvm.Cond.methodLink "LikedOrdersLaw" (203 : Nat) ({ cls := "LikedOrdersModel", name := "chain", desc := "(III)I" } : Jvm.MethodName)) ∈ lw_all := lw_g (lw_at lw_m9 153 rfl) rfl
theorem q2195 : (Jvm.Cond.methodLink "LikedOrdersLaw" (206 : Nat) ({ cls := "LikedOrdersModel", name := "at", desc := "(I)I" } : Jvm.MethodName)) ∈ lw_all := lw_g (lw_at lw_m9 165 rfl) rfl
theorem q2203 : (Jvm.Cond.methodLink "LikedOrdersLaw" (210 : Nat) ({ cls := "LikedOrdersModel", name := "loose", desc := "()I" } : Jvm.MethodName)) ∈ lw_all := lw_g (lw_at lw_m9 173 rfl) rfl
theorem q2207 : (Jvm.Cond.methodLink "LikedOrdersLaw" (213 : Nat) ({ cls := "LikedOrdersModel", name := "gap", desc := "()I" } : Jvm.MethodName)) ∈ lw_all := lw_g (lw_at lw_m9 177 rfl) rfl
theorem q2212 : (Jvm.Cond.methodLink "LikedOrdersLaw" (217 : Nat) ({ cls := "LikedOrdersModel", name := "next", desc := "(Z)I" } : Jvm.MethodName)) ∈ lw_all := lw_g (lw_at lw_m9 182 rfl) rfl
theorem q2255 : (Jvm.Cond.methodLink "LikedOrdersLaw" (220 : Nat) ({ cls := "LikedOrdersModel", name := "compared", desc := "()I" } : Jvm.MethodName)) ∈ lw_all := lw_g (lw_at lw_m9 225 rfl) rfl
theorem q2259 : (Jvm.Cond.methodLink "LikedOrdersLaw" (223 : Nat) ({ cls := "LikedOrdersModel", name := "doing", desc := "()I" } : Jvm.MethodName)) ∈ lw_all := lw_g (lw_at lw_m9 229 rfl) rfl
theorem q2263 : (Jvm.Cond.methodLink "LikedOrdersLaw" (226 : Nat) ({ cls := "LikedOrdersModel", name := "bound", desc := "()I" } : Jvm.MethodName)) ∈ lw_all := lw_g (lw_at lw_m9 233 rfl) rfl
theorem q2267 : (Jvm.Cond.methodLink "LikedOrdersLaw" (229 : Nat) ({ cls := "LikedOrdersModel", name := "told", desc := "(I)I" } : Jvm.MethodName)) ∈ lw_all := lw_g (lw_at lw_m9 237 rfl) rfl
theorem q2272 : (Jvm.Cond.methodLink "LikedOrdersLaw" (232 : Nat) ({ cls := "LikedOrdersModel", name := "ordersIf", desc := "(II)I" } : Jvm.MethodName)) ∈ lw_all := lw_g (lw_at lw_m10 2 rfl) rfl
theorem q2280 : (Jvm.Cond.methodLink "LikedOrdersLaw" (235 : Nat) ({ cls := "LikedOrdersModel", name := "fairest", desc := "(Z)I" } : Jvm.MethodName)) ∈ lw_all := lw_g (lw_at lw_m10 10 rfl) rfl
theorem q2285 : (Jvm.Cond.methodLink "LikedOrdersLaw" (238 : Nat) ({ cls := "LikedOrdersModel", name := "toCome", desc := "(I)I" } : Jvm.MethodName)) ∈ lw_all := lw_g (lw_at lw_m10 15 rfl) rfl
theorem q2294 : (Jvm.Cond.methodLink "LikedOrdersLaw" (241 : Nat) ({ cls := "LikedOrdersModel", name := "bestMethod", desc := "()I" } : Jvm.MethodName)) ∈ lw_all := lw_g (lw_at lw_m10 24 rfl) rfl
theorem q2298 : (Jvm.Cond.methodLink "LikedOrdersLaw" (244 : Nat) ({ cls := "LikedOrdersModel", name := "afresh", desc := "(I)I" } : Jvm.MethodName)) ∈ lw_all := lw_g (lw_at lw_m10 28 rfl) rfl
theorem q2302 : (Jvm.Cond.methodLink "LikedOrdersLaw" (247 : Nat) ({ cls := "LikedOrdersModel", name := "placeThen", desc := "(I)I" } : Jvm.MethodName)) ∈ lw_all := lw_g (lw_at lw_m10 32 rfl) rfl
theorem q2306 : (Jvm.Cond.methodLink "LikedOrdersLaw" (250 : Nat) ({ cls := "LikedOrdersModel", name := "toComeIf", desc := "(II)I" } : Jvm.MethodName)) ∈ lw_all := lw_g (lw_at lw_m10 36 rfl) rfl
theorem q2310 : (Jvm.Cond.methodLink "LikedOrdersLaw" (253 : Nat) ({ cls := "LikedOrdersModel", name := "toComeWithout", desc := "(I)I" } : Jvm.MethodName)) ∈ lw_all := lw_g (lw_at lw_m10 40 rfl) rfl
theorem q2314 : (Jvm.Cond.methodLink "LikedOrdersLaw" (256 : Nat) ({ cls := "LikedOrdersModel", name := "worst", desc := "()I" } : Jvm.MethodName)) ∈ lw_all := lw_g (lw_at lw_m10 44 rfl) rfl
theorem q2318 : (Jvm.Cond.methodLink "LikedOrdersLaw" (259 : Nat) ({ cls := "LikedOrdersModel", name := "swaps", desc := "()I" } : Jvm.MethodName)) ∈ lw_all := lw_g (lw_at lw_m10 48 rfl) rfl
theorem q2322 : (Jvm.Cond.methodLink "LikedOrdersLaw" (263 : Nat) ({ cls := "LikedOrdersModel", name := "share", desc := "()F" } : Jvm.MethodName)) ∈ lw_all := lw_g (lw_at lw_m10 52 rfl) rfl
theorem q2326 : (Jvm.Cond.methodLink "LikedOrdersLaw" (267 : Nat) ({ cls := "LikedOrdersModel", name := "meanPlace", desc := "(I)D" } : Jvm.MethodName)) ∈ lw_all := lw_g (lw_at lw_m10 56 rfl) rfl
theorem q2330 : (Jvm.Cond.methodLink "LikedOrdersLaw" (270 : Nat) ({ cls := "LikedOrdersModel", name := "writeAnswers", desc := "()I" } : Jvm.MethodName)) ∈ lw_all := lw_g (lw_at lw_m10 60 rfl) rfl
theorem q2342 : (Jvm.Cond.methodLink "LikedOrdersLaw" (273 : Nat) ({ cls := "LikedOrdersModel", name := "writePlaces", desc := "()I" } : Jvm.MethodName)) ∈ lw_all := lw_g (lw_at lw_m10 72 rfl) rfl
theorem q2346 : (Jvm.Cond.methodLink "LikedOrdersLaw" (276 : Nat) ({ cls := "LikedOrdersModel", name := "writeFirst", desc := "()I" } : Jvm.MethodName)) ∈ lw_all := lw_g (lw_at lw_m10 76 rfl) rfl
theorem q2354 : (Jvm.Cond.methodLink "LikedOrdersLaw" (279 : Nat) ({ cls := "LikedOrdersModel", name := "textByte", desc := "(I)I" } : Jvm.MethodName)) ∈ lw_all := lw_g (lw_at lw_m10 84 rfl) rfl
theorem q2358 : (Jvm.Cond.methodLink "LikedOrdersLaw" (282 : Nat) ({ cls := "LikedOrdersModel", name := "ask", desc := "(II)I" } : Jvm.MethodName)) ∈ lw_all := lw_g (lw_at lw_m10 88 rfl) rfl
theorem q2366 : (Jvm.Cond.methodLink "LikedOrdersLaw" (285 : Nat) ({ cls := "LikedOrdersModel", name := "goOn", desc := "(I)I" } : Jvm.MethodName)) ∈ lw_all := lw_g (lw_at lw_m10 96 rfl) rfl
theorem q2371 : (Jvm.Cond.methodLink "LikedOrdersLaw" (288 : Nat) ({ cls := "LikedOrdersModel", name := "takeBack", desc := "(I)I" } : Jvm.MethodName)) ∈ lw_all := lw_g (lw_at lw_m10 101 rfl) rfl
theorem q2379 : (Jvm.Cond.methodLink "LikedOrdersLaw" (291 : Nat) ({ cls := "LikedOrdersModel", name := "tidy", desc := "()I" } : Jvm.MethodName)) ∈ lw_all := lw_g (lw_at lw_m10 109 rfl) rfl
theorem q2383 : (Jvm.Cond.methodLink "LikedOrdersLaw" (294 : Nat) ({ cls := "LikedOrdersModel", name := "addItem", desc := "(II)I" } : Jvm.MethodName)) ∈ lw_all := lw_g (lw_at lw_m10 113 rfl) rfl
theorem q2392 : (Jvm.Cond.methodLink "LikedOrdersLaw" (297 : Nat) ({ cls := "LikedOrdersModel", name := "dropItem", desc := "(I)I" } : Jvm.MethodName)) ∈ lw_all := lw_g (lw_at lw_m10 122 rfl) rfl
theorem q2396 : (Jvm.Cond.methodLink "LikedOrdersLaw" (300 : Nat) ({ cls := "LikedOrdersModel", name := "setWorth", desc := "(II)I" } : Jvm.MethodName)) ∈ lw_all := lw_g (lw_at lw_m10 126 rfl) rfl
theorem q2404 : (Jvm.Cond.methodLink "LikedOrdersLaw" (303 : Nat) ({ cls := "LikedOrdersModel", name := "setMethod", desc := "(I)I" } : Jvm.MethodName)) ∈ lw_all := lw_g (lw_at lw_m10 134 rfl) rfl
theorem q2408 : (Jvm.Cond.methodLink "LikedOrdersLaw" (306 : Nat) ({ cls := "LikedOrdersModel", name := "undo", desc := "()I" } : Jvm.MethodName)) ∈ lw_all := lw_g (lw_at lw_m10 138 rfl) rfl
theorem q2412 : (Jvm.Cond.methodLink "LikedOrdersLaw" (310 : Nat) ({ cls := "LikedOrdersModel", name := "undoable", desc := "()I" } : Jvm.MethodName)) ∈ lw_all := lw_g (lw_at lw_m10 142 rfl) rfl
theorem q2416 : (Jvm.Cond.methodLink "LikedOrdersLaw" (313 : Nat) ({ cls := "LikedOrdersModel", name := "save", desc := "(I)I" } : Jvm.MethodName)) ∈ lw_all := lw_g (lw_at lw_m10 146 rfl) rfl
theorem q2420 : (Jvm.Cond.methodLink "LikedOrdersLaw" (316 : Nat) ({ cls := "LikedOrdersModel", name := "restore", desc := "(I)I" } : Jvm.MethodName)) ∈ lw_all := lw_g (lw_at lw_m10 150 rfl) rfl
/-! LikedOrders -/
def RX1 : String := "LikedOrders"
def TX1 : u_T := fun k => match k with
  | 0 => ("LikedOrders", "buffer", "[B", true)
  | 1 => ("LikedOrders", "buffered", "I", false)
  | 2 => ("LikedOrders", "parseError", "I", false)
  | 3 => ("LikedOrders", "errorPosition", "I", false)
  | 4 => ("LikedOrders", "now", "LLikedOrders$State;", false)
  | 5 => ("LikedOrders", "undos", "Ljava/util/Deque;", true)
  | 6 => ("LikedOrders", "saved", "[LLikedOrders$State;", true)
  | 7 => ("LikedOrders", "written", "Ljava/lang/String;", false)
  | 8 => ("LikedOrders", "ways", "[I", true)
  | 9 => ("LikedOrders", "rests", "[I", true)
  | 10 => ("LikedOrders", "comparisons", "I", false)
  | _ => ("LikedOrders", "asked", "I", false)
def tyX1 : Nat → FieldType := fun k => match k with
  | 0 => .array .byte
  | 1 => .int
  | 2 => .int
  | 3 => .int
  | 4 => .object "LikedOrders$State"
  | 5 => .object "java/util/Deque"
  | 6 => .array (.object "LikedOrders$State")
  | 7 => .object "java/lang/String"
  | 8 => .array .int
  | 9 => .array .int
  | 10 => .int
  | _ => .int
abbrev wsX10 : List Cond := u_ws RX1 TX1 12
theorem nmX1 : ∀ a, a < 12 → ∀ b, b < 12 → a ≠ b → (TX1 a).2.1 ≠ (TX1 b).2.1 := by decide +kernel
theorem tyX1_ok : ∀ k, k < 12 → parseFieldDescriptor (TX1 k).2.2.1 = some (tyX1 k) := by decide +kernel
abbrev cX1_init : ByteArray := prog_1_method_4_code
def yX1_init : MethodName := ⟨RX1, "<init>", "()V"⟩
abbrev cX1_append : ByteArray := prog_1_method_5_code
def yX1_append : MethodName := ⟨RX1, "append", "(IIIII)I"⟩
abbrev cX1_puts : ByteArray := prog_1_method_6_code
def yX1_puts : MethodName := ⟨RX1, "puts", "([I)V"⟩
abbrev cX1_parseError : ByteArray := prog_1_method_8_code
def yX1_parseError : MethodName := ⟨RX1, "parseError", "()I"⟩
abbrev cX1_errorPosition : ByteArray := prog_1_method_9_code
def yX1_errorPosition : MethodName := ⟨RX1, "errorPosition", "()I"⟩
abbrev cX1_buffered : ByteArray := prog_1_method_10_code
def yX1_buffered : MethodName := ⟨RX1, "buffered", "()I"⟩
abbrev cX1_undoable : ByteArray := prog_1_method_75_code
def yX1_undoable : MethodName := ⟨RX1, "undoable", "()I"⟩
abbrev cX1_load : ByteArray := prog_1_method_7_code
def yX1_load : MethodName := ⟨RX1, "load", "(I)I"⟩
abbrev cX1_in : ByteArray := prog_1_method_1_code
def yX1_in : MethodName := ⟨RX1, "in", "(III)Z"⟩
abbrev cX1_checkIndex : ByteArray := prog_1_method_11_code
def yX1_checkIndex : MethodName := ⟨RX1, "checkIndex", "(Z)V"⟩
abbrev cX1_has : ByteArray := prog_1_method_3_code
def yX1_has : MethodName := ⟨RX1, "has", "(II)Z"⟩
abbrev cX1_count : ByteArray := prog_1_method_20_code
def yX1_count : MethodName := ⟨RX1, "count", "(I)I"⟩
abbrev cX1_state : ByteArray := prog_1_method_13_code
def yX1_state : MethodName := ⟨RX1, "state", "()LLikedOrders$State;"⟩
abbrev cX1_orders : ByteArray := prog_1_method_18_code
def yX1_orders : MethodName := ⟨RX1, "orders", "(LLikedOrders$Known;)I"⟩
abbrev cX1_fixed : ByteArray := prog_1_method_19_code
def yX1_fixed : MethodName := ⟨RX1, "fixed", "(LLikedOrders$Known;)I"⟩
abbrev cX1_one : ByteArray := prog_1_method_2_code
def yX1_one : MethodName := ⟨RX1, "one", "(Z)I"⟩
abbrev cX1_item : ByteArray := prog_1_method_23_code
def yX1_item : MethodName := ⟨RX1, "item", "(II)I"⟩
abbrev cX1_withItem : ByteArray := prog_1_method_14_code
def yX1_withItem : MethodName := ⟨RX1, "withItem", "(I)LLikedOrders$State;"⟩
abbrev cX1_answersOf : ByteArray := prog_1_method_21_code
def yX1_answersOf : MethodName := ⟨RX1, "answersOf", "(IZ)I"⟩
abbrev cX1_placeByWorth : ByteArray := prog_1_method_22_code
def yX1_placeByWorth : MethodName := ⟨RX1, "placeByWorth", "(I)I"⟩
abbrev cX1_letter : ByteArray := prog_1_method_24_code
def yX1_letter : MethodName := ⟨RX1, "letter", "(II)I"⟩
abbrev cX1_answer : ByteArray := prog_1_method_26_code
def yX1_answer : MethodName := ⟨RX1, "answer", "(II)I"⟩
abbrev cX1_withAnswer : ByteArray := prog_1_method_17_code
def yX1_withAnswer : MethodName := ⟨RX1, "withAnswer", "(I)LLikedOrders$State;"⟩
abbrev cX1_isNeedless : ByteArray := prog_1_method_25_code
def yX1_isNeedless : MethodName := ⟨RX1, "isNeedless", "(LLikedOrders$State;I)Z"⟩
abbrev cX1_known : ByteArray := prog_1_method_27_code
def yX1_known : MethodName := ⟨RX1, "known", "(II)I"⟩
abbrev cX1_withItems : ByteArray := prog_1_method_15_code
def yX1_withItems : MethodName := ⟨RX1, "withItems", "(II)LLikedOrders$State;"⟩
abbrev cX1_why : ByteArray := prog_1_method_29_code
def yX1_why : MethodName := ⟨RX1, "why", "(II)I"⟩
abbrev cX1_withTwo : ByteArray := prog_1_method_16_code
def yX1_withTwo : MethodName := ⟨RX1, "withTwo", "(II)LLikedOrders$State;"⟩
abbrev cX1_checkRange : ByteArray := prog_1_method_12_code
def yX1_checkRange : MethodName := ⟨RX1, "checkRange", "(Z)V"⟩
abbrev cX1_isAnswered : ByteArray := prog_1_method_28_code
def yX1_isAnswered : MethodName := ⟨RX1, "isAnswered", "(II)Z"⟩
abbrev cX1_chain : ByteArray := prog_1_method_32_code
def yX1_chain : MethodName := ⟨RX1, "chain", "(III)I"⟩
abbrev cX1_farFrom : ByteArray := prog_1_method_30_code
def yX1_farFrom : MethodName := ⟨RX1, "farFrom", "(I)[I"⟩
abbrev cX1_nextItem : ByteArray := prog_1_method_31_code
def yX1_nextItem : MethodName := ⟨RX1, "nextItem", "([II)I"⟩
abbrev cX1_at : ByteArray := prog_1_method_34_code
def yX1_at : MethodName := ⟨RX1, "at", "(I)I"⟩
abbrev cX1_itemAt : ByteArray := prog_1_method_33_code
def yX1_itemAt : MethodName := ⟨RX1, "itemAt", "(LLikedOrders$Known;I)I"⟩
abbrev cX1_loose : ByteArray := prog_1_method_35_code
def yX1_loose : MethodName := ⟨RX1, "loose", "()I"⟩
abbrev cX1_gap : ByteArray := prog_1_method_36_code
def yX1_gap : MethodName := ⟨RX1, "gap", "()I"⟩
abbrev cX1_next : ByteArray := prog_1_method_38_code
def yX1_next : MethodName := ⟨RX1, "next", "(Z)I"⟩
abbrev cX1_toAsk : ByteArray := prog_1_method_37_code
def yX1_toAsk : MethodName := ⟨RX1, "toAsk", "(LLikedOrders$State;)LLikedOrders$Unknown;"⟩
abbrev cX1_compared : ByteArray := prog_1_method_39_code
def yX1_compared : MethodName := ⟨RX1, "compared", "()I"⟩
abbrev cX1_doing : ByteArray := prog_1_method_40_code
def yX1_doing : MethodName := ⟨RX1, "doing", "()I"⟩
abbrev cX1_bound : ByteArray := prog_1_method_41_code
def yX1_bound : MethodName := ⟨RX1, "bound", "()I"⟩
abbrev cX1_told : ByteArray := prog_1_method_42_code
def yX1_told : MethodName := ⟨RX1, "told", "(I)I"⟩
abbrev cX1_ordersIf : ByteArray := prog_1_method_44_code
def yX1_ordersIf : MethodName := ⟨RX1, "ordersIf", "(II)I"⟩
abbrev cX1_ordersWith : ByteArray := prog_1_method_43_code
def yX1_ordersWith : MethodName := ⟨RX1, "ordersWith", "(LLikedOrders$Known;II)I"⟩
abbrev cX1_fairest : ByteArray := prog_1_method_45_code
def yX1_fairest : MethodName := ⟨RX1, "fairest", "(Z)I"⟩
abbrev cX1_toCome : ByteArray := prog_1_method_48_code
def yX1_toCome : MethodName := ⟨RX1, "toCome", "(I)I"⟩
abbrev cX1_asksFor : ByteArray := prog_1_method_47_code
def yX1_asksFor : MethodName := ⟨RX1, "asksFor", "(LLikedOrders$State;LLikedOrders$Known;I)I"⟩
abbrev cX1_found : ByteArray := prog_1_method_46_code
def yX1_found : MethodName := ⟨RX1, "found", "(LLikedOrders$State;LLikedOrders$Known;I)[I"⟩
abbrev cX1_bestMethod : ByteArray := prog_1_method_49_code
def yX1_bestMethod : MethodName := ⟨RX1, "bestMethod", "()I"⟩
abbrev cX1_afresh : ByteArray := prog_1_method_50_code
def yX1_afresh : MethodName := ⟨RX1, "afresh", "(I)I"⟩
abbrev cX1_placeThen : ByteArray := prog_1_method_51_code
def yX1_placeThen : MethodName := ⟨RX1, "placeThen", "(I)I"⟩
abbrev cX1_toComeIf : ByteArray := prog_1_method_52_code
def yX1_toComeIf : MethodName := ⟨RX1, "toComeIf", "(II)I"⟩
abbrev cX1_toComeWithout : ByteArray := prog_1_method_53_code
def yX1_toComeWithout : MethodName := ⟨RX1, "toComeWithout", "(I)I"⟩
abbrev cX1_worst : ByteArray := prog_1_method_54_code
def yX1_worst : MethodName := ⟨RX1, "worst", "()I"⟩
abbrev cX1_swaps : ByteArray := prog_1_method_55_code
def yX1_swaps : MethodName := ⟨RX1, "swaps", "()I"⟩
abbrev cX1_share : ByteArray := prog_1_method_56_code
def yX1_share : MethodName := ⟨RX1, "share", "()F"⟩
abbrev cX1_meanPlace : ByteArray := prog_1_method_57_code
def yX1_meanPlace : MethodName := ⟨RX1, "meanPlace", "(I)D"⟩
abbrev cX1_writeAnswers : ByteArray := prog_1_method_60_code
def yX1_writeAnswers : MethodName := ⟨RX1, "writeAnswers", "()I"⟩
abbrev cX1_name : ByteArray := prog_1_method_59_code
def yX1_name : MethodName := ⟨RX1, "name", "(I)Ljava/lang/String;"⟩
abbrev cX1_write : ByteArray := prog_1_method_58_code
def yX1_write : MethodName := ⟨RX1, "write", "(Ljava/lang/StringBuilder;)I"⟩
abbrev cX1_writePlaces : ByteArray := prog_1_method_61_code
def yX1_writePlaces : MethodName := ⟨RX1, "writePlaces", "()I"⟩
abbrev cX1_writeFirst : ByteArray := prog_1_method_62_code
def yX1_writeFirst : MethodName := ⟨RX1, "writeFirst", "()I"⟩
abbrev cX1_textByte : ByteArray := prog_1_method_63_code
def yX1_textByte : MethodName := ⟨RX1, "textByte", "(I)I"⟩
abbrev cX1_ask : ByteArray := prog_1_method_65_code
def yX1_ask : MethodName := ⟨RX1, "ask", "(II)I"⟩
abbrev cX1_remember : ByteArray := prog_1_method_64_code
def yX1_remember : MethodName := ⟨RX1, "remember", "()LLikedOrders$State;"⟩
abbrev cX1_goOn : ByteArray := prog_1_method_66_code
def yX1_goOn : MethodName := ⟨RX1, "goOn", "(I)I"⟩
abbrev cX1_takeBack : ByteArray := prog_1_method_67_code
def yX1_takeBack : MethodName := ⟨RX1, "takeBack", "(I)I"⟩
abbrev cX1_tidy : ByteArray := prog_1_method_68_code
def yX1_tidy : MethodName := ⟨RX1, "tidy", "()I"⟩
abbrev cX1_addItem : ByteArray := prog_1_method_70_code
def yX1_addItem : MethodName := ⟨RX1, "addItem", "(II)I"⟩
abbrev cX1_nameIn : ByteArray := prog_1_method_69_code
def yX1_nameIn : MethodName := ⟨RX1, "nameIn", "(I)Ljava/lang/String;"⟩
abbrev cX1_dropItem : ByteArray := prog_1_method_71_code
def yX1_dropItem : MethodName := ⟨RX1, "dropItem", "(I)I"⟩
abbrev cX1_setWorth : ByteArray := prog_1_method_72_code
def yX1_setWorth : MethodName := ⟨RX1, "setWorth", "(II)I"⟩
abbrev cX1_setMethod : ByteArray := prog_1_method_73_code
def yX1_setMethod : MethodName := ⟨RX1, "setMethod", "(I)I"⟩
abbrev cX1_undo : ByteArray := prog_1_method_74_code
def yX1_undo : MethodName := ⟨RX1, "undo", "()I"⟩
abbrev cX1_save : ByteArray := prog_1_method_76_code
def yX1_save : MethodName := ⟨RX1, "save", "(I)I"⟩
abbrev cX1_restore : ByteArray := prog_1_method_77_code
def yX1_restore : MethodName := ⟨RX1, "restore", "(I)I"⟩
theorem q111 : (Jvm.Cond.initialized "LikedOrders") ∈ lw_all := lw_g (lw_at lw_m1 1 rfl) rfl
theorem q153 : (Jvm.Cond.instantiable "LikedOrders" (12 : Nat)) ∈ lw_all := lw_g (lw_at lw_m1 43 rfl) rfl
theorem q155 : (Jvm.Cond.instanceMethod ({ cls := "LikedOrders", name := "<init>", desc := "()V" } : Jvm.MethodName)) ∈ lw_all := lw_g (lw_at lw_m1 45 rfl) rfl
theorem q156 : (Jvm.Cond.code ({ cls := "LikedOrders", name := "<init>", desc := "()V" } : Jvm.MethodName) prog_1_method_4_code (1 : Nat) (Option.none : Option Jvm.ClassFile.FieldType)) ∈ lw_all := lw_g (lw_at lw_m1 46 rfl) rfl
theorem q157 : (Jvm.Cond.methodLink "LikedOrders" (3 : Nat) ({ cls := "java/lang/Object", name := "<init>", desc := "()V" } : Jvm.MethodName)) ∈ lw_all := lw_g (lw_at lw_m1 47 rfl) rfl
theorem q160 : (Jvm.Cond.classLink "LikedOrders" (17 : Nat) "java/util/ArrayDeque") ∈ lw_all := lw_g (lw_at lw_m1 50 rfl) rfl
theorem q162 : (Jvm.Cond.methodLink "LikedOrders" (19 : Nat) ({ cls := "java/util/ArrayDeque", name := "<init>", desc := "(I)V" } : Jvm.MethodName)) ∈ lw_all := lw_g (lw_at lw_m1 52 rfl) rfl
theorem q183 : (Jvm.Cond.classLink "LikedOrders" (26 : Nat) "LikedOrders$State") ∈ lw_all := lw_g (lw_at lw_m1 73 rfl) rfl
theorem q185 : (Jvm.Cond.stringRef "LikedOrders" (32 : Nat) "") ∈ lw_tbl := lw_at lw_m1 75 rfl
theorem q187 : (Jvm.Cond.fieldLink "LikedOrders" (9 : Nat) "LikedOrders" "buffer" "[B") ∈ lw_all := lw_g (lw_at lw_m1 77 rfl) rfl
theorem q189 : (Jvm.Cond.fieldLink "LikedOrders" (45 : Nat) "LikedOrders" "buffered" "I") ∈ lw_all := lw_g (lw_at lw_m1 79 rfl) rfl
theorem q191 : (Jvm.Cond.fieldLink "LikedOrders" (78 : Nat) "LikedOrders" "parseError" "I") ∈ lw_all := lw_g (lw_at lw_m1 81 rfl) rfl
theorem q193 : (Jvm.Cond.fieldLink "LikedOrders" (13 : Nat) "LikedOrders" "errorPosition" "I") ∈ lw_all := lw_g (lw_at lw_m1 83 rfl) rfl
theorem q194 : (Jvm.Cond.fieldLink "LikedOrders" (69 : Nat) "LikedOrders" "now" "LLikedOrders$State;") ∈ lw_all := lw_g (lw_at lw_m1 84 rfl) rfl
theorem q195 : (Jvm.Cond.fieldLink "LikedOrders" (22 : Nat) "LikedOrders" "undos" "Ljava/util/Deque;") ∈ lw_all := lw_g (lw_at lw_m1 85 rfl) rfl
theorem q196 : (Jvm.Cond.fieldLink "LikedOrders" (28 : Nat) "LikedOrders" "saved" "[LLikedOrders$State;") ∈ lw_all := lw_g (lw_at lw_m1 86 rfl) rfl
theorem q197 : (Jvm.Cond.fieldLink "LikedOrders" (34 : Nat) "LikedOrders" "written" "Ljava/lang/String;") ∈ lw_all := lw_g (lw_at lw_m1 87 rfl) rfl
theorem q198 : (Jvm.Cond.fieldLink "LikedOrders" (38 : Nat) "LikedOrders" "ways" "[I") ∈ lw_all := lw_g (lw_at lw_m1 88 rfl) rfl
theorem q199 : (Jvm.Cond.fieldLink "LikedOrders" (42 : Nat) "LikedOrders" "rests" "[I") ∈ lw_all := lw_g (lw_at lw_m1 89 rfl) rfl
theorem q201 : (Jvm.Cond.fieldLink "LikedOrders" (299 : Nat) "LikedOrders" "comparisons" "I") ∈ lw_all := lw_g (lw_at lw_m1 91 rfl) rfl
theorem q203 : (Jvm.Cond.fieldLink "LikedOrders" (320 : Nat) "LikedOrders" "asked" "I") ∈ lw_all := lw_g (lw_at lw_m1 93 rfl) rfl
theorem q204 : (Jvm.Cond.laysFinal "LikedOrders" "LikedOrders" "buffer" "[B") ∈ lw_all := lw_g (lw_at lw_m1 94 rfl) rfl
theorem q205 : (Jvm.Cond.soleField "LikedOrders" "buffer") ∈ lw_all := lw_g (lw_at lw_m1 95 rfl) rfl
theorem q206 : (Jvm.Cond.lays "LikedOrders" "LikedOrders" "buffered" "I") ∈ lw_all := lw_g (lw_at lw_m1 96 rfl) rfl
theorem q207 : (Jvm.Cond.soleField "LikedOrders" "buffered") ∈ lw_all := lw_g (lw_at lw_m1 97 rfl) rfl
theorem q208 : (Jvm.Cond.lays "LikedOrders" "LikedOrders" "parseError" "I") ∈ lw_all := lw_g (lw_at lw_m1 98 rfl) rfl
theorem q209 : (Jvm.Cond.soleField "LikedOrders" "parseError") ∈ lw_all := lw_g (lw_at lw_m1 99 rfl) rfl
theorem q210 : (Jvm.Cond.lays "LikedOrders" "LikedOrders" "errorPosition" "I") ∈ lw_all := lw_g (lw_at lw_m1 100 rfl) rfl
theorem q211 : (Jvm.Cond.soleField "LikedOrders" "errorPosition") ∈ lw_all := lw_g (lw_at lw_m1 101 rfl) rfl
theorem q212 : (Jvm.Cond.lays "LikedOrders" "LikedOrders" "now" "LLikedOrders$State;") ∈ lw_all := lw_g (lw_at lw_m1 102 rfl) rfl
theorem q213 : (Jvm.Cond.soleField "LikedOrders" "now") ∈ lw_all := lw_g (lw_at lw_m1 103 rfl) rfl
theorem q214 : (Jvm.Cond.laysFinal "LikedOrders" "LikedOrders" "undos" "Ljava/util/Deque;") ∈ lw_all := lw_g (lw_at lw_m1 104 rfl) rfl
theorem q215 : (Jvm.Cond.soleField "LikedOrders" "undos") ∈ lw_all := lw_g (lw_at lw_m1 105 rfl) rfl
theorem q216 : (Jvm.Cond.laysFinal "LikedOrders" "LikedOrders" "saved" "[LLikedOrders$State;") ∈ lw_all := lw_g (lw_at lw_m1 106 rfl) rfl
theorem q217 : (Jvm.Cond.soleField "LikedOrders" "saved") ∈ lw_all := lw_g (lw_at lw_m1 107 rfl) rfl
theorem q218 : (Jvm.Cond.lays "LikedOrders" "LikedOrders" "written" "Ljava/lang/String;") ∈ lw_all := lw_g (lw_at lw_m1 108 rfl) rfl
theorem q219 : (Jvm.Cond.soleField "LikedOrders" "written") ∈ lw_all := lw_g (lw_at lw_m1 109 rfl) rfl
theorem q220 : (Jvm.Cond.laysFinal "LikedOrders" "LikedOrders" "ways" "[I") ∈ lw_all := lw_g (lw_at lw_m1 110 rfl) rfl
theorem q221 : (Jvm.Cond.soleField "LikedOrders" "ways") ∈ lw_all := lw_g (lw_at lw_m1 111 rfl) rfl
theorem q222 : (Jvm.Cond.laysFinal "LikedOrders" "LikedOrders" "rests" "[I") ∈ lw_all := lw_g (lw_at lw_m1 112 rfl) rfl
theorem q223 : (Jvm.Cond.soleField "LikedOrders" "rests") ∈ lw_all := lw_g (lw_at lw_m1 113 rfl) rfl
theorem q224 : (Jvm.Cond.lays "LikedOrders" "LikedOrders" "comparisons" "I") ∈ lw_all := lw_g (lw_at lw_m1 114 rfl) rfl
theorem q225 : (Jvm.Cond.soleField "LikedOrders" "comparisons") ∈ lw_all := lw_g (lw_at lw_m1 115 rfl) rfl
theorem q226 : (Jvm.Cond.lays "LikedOrders" "LikedOrders" "asked" "I") ∈ lw_all := lw_g (lw_at lw_m1 116 rfl) rfl
theorem q227 : (Jvm.Cond.soleField "LikedOrders" "asked") ∈ lw_all := lw_g (lw_at lw_m1 117 rfl) rfl
theorem q228 : (Jvm.Cond.superclass "LikedOrders" "java/lang/Object") ∈ lw_all := lw_g (lw_at lw_m1 118 rfl) rfl
theorem q231 : (Jvm.Cond.instanceMethod ({ cls := "LikedOrders", name := "append", desc := "(IIIII)I" } : Jvm.MethodName)) ∈ lw_all := lw_g (lw_at lw_m1 121 rfl) rfl
theorem q232 : (Jvm.Cond.selects "LikedOrders" ({ cls := "LikedOrders", name := "append", desc := "(IIIII)I" } : Jvm.MethodName) ({ cls := "LikedOrders", name := "append", desc := "(IIIII)I" } : Jvm.MethodName)) ∈ lw_all := lw_g (lw_at lw_m1 122 rfl) rfl
theorem q233 : (Jvm.Cond.code ({ cls := "LikedOrders", name := "append", desc := "(IIIII)I" } : Jvm.MethodName) prog_1_method_5_code (6 : Nat) (Option.some Jvm.ClassFile.FieldType.int)) ∈ lw_all := lw_g (lw_at lw_m1 123 rfl) rfl
theorem q234 : (Jvm.Cond.methodLink "LikedOrders" (48 : Nat) ({ cls := "LikedOrders", name := "puts", desc := "([I)V" } : Jvm.MethodName)) ∈ lw_all := lw_g (lw_at lw_m1 124 rfl) rfl
theorem q235 : (Jvm.Cond.privateMethod ({ cls := "LikedOrders", name := "puts", desc := "([I)V" } : Jvm.MethodName)) ∈ lw_tbl := lw_at lw_m1 125 rfl
theorem q236 : (Jvm.Cond.instanceMethod ({ cls := "LikedOrders", name := "puts", desc := "([I)V" } : Jvm.MethodName)) ∈ lw_all := lw_g (lw_at lw_m1 126 rfl) rfl
theorem q237 : (Jvm.Cond.code ({ cls := "LikedOrders", name := "puts", desc := "([I)V" } : Jvm.MethodName) prog_1_method_6_code (7 : Nat) (Option.none : Option Jvm.ClassFile.FieldType)) ∈ lw_all := lw_g (lw_at lw_m1 127 rfl) rfl
theorem q239 : (Jvm.Cond.instanceMethod ({ cls := "LikedOrders", name := "parseError", desc := "()I" } : Jvm.MethodName)) ∈ lw_all := lw_g (lw_at lw_m1 129 rfl) rfl
theorem q240 : (Jvm.Cond.selects "LikedOrders" ({ cls := "LikedOrders", name := "parseError", desc := "()I" } : Jvm.MethodName) ({ cls := "LikedOrders", name := "parseError", desc := "()I" } : Jvm.MethodName)) ∈ lw_all := lw_g (lw_at lw_m1 130 rfl) rfl
theorem q241 : (Jvm.Cond.code ({ cls := "LikedOrders", name := "parseError", desc := "()I" } : Jvm.MethodName) prog_1_method_8_code (1 : Nat) (Option.some Jvm.ClassFile.FieldType.int)) ∈ lw_all := lw_g (lw_at lw_m1 131 rfl) rfl
theorem q243 : (Jvm.Cond.instanceMethod ({ cls := "LikedOrders", name := "errorPosition", desc := "()I" } : Jvm.MethodName)) ∈ lw_all := lw_g (lw_at lw_m1 133 rfl) rfl
theorem q244 : (Jvm.Cond.selects "LikedOrders" ({ cls := "LikedOrders", name := "errorPosition", desc := "()I" } : Jvm.MethodName) ({ cls := "LikedOrders", name := "errorPosition", desc := "()I" } : Jvm.MethodName)) ∈ lw_all := lw_g (lw_at lw_m1 134 rfl) rfl
theorem q245 : (Jvm.Cond.code ({ cls := "LikedOrders", name := "errorPosition", desc := "()I" } : Jvm.MethodName) prog_1_method_9_code (1 : Nat) (Option.some Jvm.ClassFile.FieldType.int)) ∈ lw_all := lw_g (lw_at lw_m1 135 rfl) rfl
theorem q247 : (Jvm.Cond.instanceMethod ({ cls := "LikedOrders", name := "buffered", desc := "()I" } : Jvm.MethodName)) ∈ lw_all := lw_g (lw_at lw_m1 137 rfl) rfl
theorem q248 : (Jvm.Cond.selects "LikedOrders" ({ cls := "LikedOrders", name := "buffered", desc := "()I" } : Jvm.MethodName) ({ cls := "LikedOrders", name := "buffered", desc := "()I" } : Jvm.MethodName)) ∈ lw_all := lw_g (lw_at lw_m1 138 rfl) rfl
theorem q249 : (Jvm.Cond.code ({ cls := "LikedOrders", name := "buffered", desc := "()I" } : Jvm.MethodName) prog_1_method_10_code (1 : Nat) (Option.some Jvm.ClassFile.FieldType.int)) ∈ lw_all := lw_g (lw_at lw_m1 139 rfl) rfl
theorem q251 : (Jvm.Cond.instanceMethod ({ cls := "LikedOrders", name := "undoable", desc := "()I" } : Jvm.MethodName)) ∈ lw_all := lw_g (lw_at lw_m1 141 rfl) rfl
theorem q252 : (Jvm.Cond.selects "LikedOrders" ({ cls := "LikedOrders", name := "undoable", desc := "()I" } : Jvm.MethodName) ({ cls := "LikedOrders", name := "undoable", desc := "()I" } : Jvm.MethodName)) ∈ lw_all := lw_g (lw_at lw_m1 142 rfl) rfl
theorem q253 : (Jvm.Cond.code ({ cls := "LikedOrders", name := "undoable", desc := "()I" } : Jvm.MethodName) prog_1_method_75_code (1 : Nat) (Option.some Jvm.ClassFile.FieldType.int)) ∈ lw_all := lw_g (lw_at lw_m1 143 rfl) rfl
theorem q254 : (Jvm.Cond.interfaceEntry "LikedOrders" (367 : Nat)) ∈ lw_tbl := lw_at lw_m1 144 rfl
theorem q255 : (Jvm.Cond.methodLink "LikedOrders" (367 : Nat) ({ cls := "java/util/Deque", name := "size", desc := "()I" } : Jvm.MethodName)) ∈ lw_all := lw_g (lw_at lw_m1 145 rfl) rfl
theorem q350 : (Jvm.Cond.instanceMethod ({ cls := "LikedOrders", name := "load", desc := "(I)I" } : Jvm.MethodName)) ∈ lw_all := lw_g (lw_at lw_m2 0 rfl) rfl
theorem q351 : (Jvm.Cond.selects "LikedOrders" ({ cls := "LikedOrders", name := "load", desc := "(I)I" } : Jvm.MethodName) ({ cls := "LikedOrders", name := "load", desc := "(I)I" } : Jvm.MethodName)) ∈ lw_all := lw_g (lw_at lw_m2 1 rfl) rfl
theorem q352 : (Jvm.Cond.codeWith ({ cls := "LikedOrders", name := "load", desc := "(I)I" } : Jvm.MethodName) prog_1_method_7_code (3 : Nat) (Option.some Jvm.ClassFile.FieldType.int) [((12 : Nat), (28 : Nat), (31 : Nat), (73 : Nat))]) ∈ lw_all := lw_g (lw_at lw_m2 2 rfl) rfl
theorem q353 : (Jvm.Cond.classLink "LikedOrders" (73 : Nat) "LikedOrders$FormatException") ∈ lw_all := lw_g (lw_at lw_m2 3 rfl) rfl
theorem q354 : (Jvm.Cond.methodLink "LikedOrders" (52 : Nat) ({ cls := "LikedOrders", name := "in", desc := "(III)Z" } : Jvm.MethodName)) ∈ lw_all := lw_g (lw_at lw_m2 4 rfl) rfl
theorem q355 : (Jvm.Cond.static ({ cls := "LikedOrders", name := "in", desc := "(III)Z" } : Jvm.MethodName)) ∈ lw_all := lw_g (lw_at lw_m2 5 rfl) rfl
theorem q356 : (Jvm.Cond.code ({ cls := "LikedOrders", name := "in", desc := "(III)Z" } : Jvm.MethodName) prog_1_method_1_code (3 : Nat) (Option.some Jvm.ClassFile.FieldType.boolean)) ∈ lw_all := lw_g (lw_at lw_m2 6 rfl) rfl
theorem q357 : (Jvm.Cond.methodLink "LikedOrders" (56 : Nat) ({ cls := "LikedOrders", name := "checkIndex", desc := "(Z)V" } : Jvm.MethodName)) ∈ lw_all := lw_g (lw_at lw_m2 7 rfl) rfl
theorem q358 : (Jvm.Cond.static ({ cls := "LikedOrders", name := "checkIndex", desc := "(Z)V" } : Jvm.MethodName)) ∈ lw_all := lw_g (lw_at lw_m2 8 rfl) rfl
theorem q359 : (Jvm.Cond.code ({ cls := "LikedOrders", name := "checkIndex", desc := "(Z)V" } : Jvm.MethodName) prog_1_method_11_code (1 : Nat) (Option.none : Option Jvm.ClassFile.FieldType)) ∈ lw_all := lw_g (lw_at lw_m2 9 rfl) rfl
theorem q360 : (Jvm.Cond.classLink "LikedOrders" (108 : Nat) "java/lang/IndexOutOfBoundsException") ∈ lw_all := lw_g (lw_at lw_m2 10 rfl) rfl
theorem q369 : (Jvm.Cond.methodLink "LikedOrders" (110 : Nat) ({ cls := "java/lang/IndexOutOfBoundsException", name := "<init>", desc := "()V" } : Jvm.MethodName)) ∈ lw_all := lw_g (lw_at lw_m2 19 rfl) rfl
theorem q381 : (Jvm.Cond.classLink "LikedOrders" (60 : Nat) "LikedOrders$Parser") ∈ lw_all := lw_g (lw_at lw_m2 31 rfl) rfl
theorem q383 : (Jvm.Cond.methodLink "LikedOrders" (62 : Nat) ({ cls := "LikedOrders$Parser", name := "<init>", desc := "(LLikedOrders;I)V" } : Jvm.MethodName)) ∈ lw_all := lw_g (lw_at lw_m2 33 rfl) rfl
theorem q687 : (Jvm.Cond.fieldLinkNest "LikedOrders" (98 : Nat) "LikedOrders$State" "items" "LLikedOrders$Row;" "LikedOrders") ∈ lw_tbl := lw_at lw_m3 97 rfl
theorem q690 : (Jvm.Cond.fieldLinkNest "LikedOrders" (130 : Nat) "LikedOrders$State" "answers" "LLikedOrders$Row;" "LikedOrders") ∈ lw_tbl := lw_at lw_m3 100 rfl
theorem q693 : (Jvm.Cond.fieldLinkNest "LikedOrders" (152 : Nat) "LikedOrders$State" "method" "I" "LikedOrders") ∈ lw_tbl := lw_at lw_m3 103 rfl
theorem q695 : (Jvm.Cond.fieldLinkNest "LikedOrders" (169 : Nat) "LikedOrders$State" "given" "I" "LikedOrders") ∈ lw_tbl := lw_at lw_m3 105 rfl
theorem q697 : (Jvm.Cond.fieldLinkNest "LikedOrders" (172 : Nat) "LikedOrders$State" "taken" "I" "LikedOrders") ∈ lw_tbl := lw_at lw_m3 107 rfl
theorem q737 : (Jvm.Cond.methodLink "LikedOrders" (65 : Nat) ({ cls := "LikedOrders$Parser", name := "state", desc := "()LLikedOrders$State;" } : Jvm.MethodName)) ∈ lw_all := lw_g (lw_at lw_m3 147 rfl) rfl
theorem q823 : (Jvm.Cond.fieldLinkNest "LikedOrders" (75 : Nat) "LikedOrders$FormatException" "kind" "I" "LikedOrders") ∈ lw_tbl := lw_at lw_m3 233 rfl
theorem q825 : (Jvm.Cond.fieldLinkNest "LikedOrders" (81 : Nat) "LikedOrders$FormatException" "position" "I" "LikedOrders") ∈ lw_tbl := lw_at lw_m3 235 rfl
theorem q895 : (Jvm.Cond.fieldLinkNest "LikedOrders" (206 : Nat) "LikedOrders$Item" "name" "Ljava/lang/String;" "LikedOrders") ∈ lw_tbl := lw_at lw_m4 65 rfl
theorem q898 : (Jvm.Cond.fieldLinkNest "LikedOrders" (196 : Nat) "LikedOrders$Item" "worth" "I" "LikedOrders") ∈ lw_tbl := lw_at lw_m4 68 rfl
theorem q938 : (Jvm.Cond.selects "LikedOrders" ({ cls := "java/lang/Object", name := "getClass", desc := "()Ljava/lang/Class;" } : Jvm.MethodName) ({ cls := "java/lang/Object", name := "getClass", desc := "()Ljava/lang/Class;" } : Jvm.MethodName)) ∈ lw_all := lw_g (lw_at lw_m4 108 rfl) rfl
theorem q985 : (Jvm.Cond.fieldLinkNest "LikedOrders" (256 : Nat) "LikedOrders$Known" "better" "[I" "LikedOrders") ∈ lw_tbl := lw_at lw_m4 155 rfl
theorem q987 : (Jvm.Cond.fieldLinkNest "LikedOrders" (258 : Nat) "LikedOrders$Known" "worse" "[I" "LikedOrders") ∈ lw_tbl := lw_at lw_m4 157 rfl
theorem q989 : (Jvm.Cond.fieldLinkNest "LikedOrders" (138 : Nat) "LikedOrders$Known" "many" "I" "LikedOrders") ∈ lw_tbl := lw_at lw_m4 159 rfl
theorem q1009 : (Jvm.Cond.static ({ cls := "LikedOrders", name := "has", desc := "(II)Z" } : Jvm.MethodName)) ∈ lw_all := lw_g (lw_at lw_m4 179 rfl) rfl
theorem q1010 : (Jvm.Cond.code ({ cls := "LikedOrders", name := "has", desc := "(II)Z" } : Jvm.MethodName) prog_1_method_3_code (2 : Nat) (Option.some Jvm.ClassFile.FieldType.boolean)) ∈ lw_all := lw_g (lw_at lw_m4 180 rfl) rfl
theorem q1033 : (Jvm.Cond.fieldLinkNest "LikedOrders" (184 : Nat) "LikedOrders$Answer" "better" "I" "LikedOrders") ∈ lw_tbl := lw_at lw_m4 203 rfl
theorem q1037 : (Jvm.Cond.fieldLinkNest "LikedOrders" (187 : Nat) "LikedOrders$Answer" "worse" "I" "LikedOrders") ∈ lw_tbl := lw_at lw_m4 207 rfl
theorem q1045 : (Jvm.Cond.classLink "LikedOrders" (84 : Nat) "java/lang/IllegalArgumentException") ∈ lw_all := lw_g (lw_at lw_m4 215 rfl) rfl
theorem q1046 : (Jvm.Cond.methodLink "LikedOrders" (86 : Nat) ({ cls := "java/lang/IllegalArgumentException", name := "<init>", desc := "()V" } : Jvm.MethodName)) ∈ lw_all := lw_g (lw_at lw_m4 216 rfl) rfl
theorem q1050 : (Jvm.Cond.interfaceEntry "LikedOrders" (87 : Nat)) ∈ lw_tbl := lw_at lw_m4 220 rfl
theorem q1061 : (Jvm.Cond.methodLink "LikedOrders" (92 : Nat) ({ cls := "java/util/Arrays", name := "fill", desc := "([Ljava/lang/Object;Ljava/lang/Object;)V" } : Jvm.MethodName)) ∈ lw_all := lw_g (lw_at lw_m4 231 rfl) rfl
theorem q1064 : (Jvm.Cond.methodLink "LikedOrders" (102 : Nat) ({ cls := "LikedOrders$Row", name := "size", desc := "()I" } : Jvm.MethodName)) ∈ lw_all := lw_g (lw_at lw_m4 234 rfl) rfl
theorem q1070 : (Jvm.Cond.instanceMethod ({ cls := "LikedOrders", name := "count", desc := "(I)I" } : Jvm.MethodName)) ∈ lw_all := lw_g (lw_at lw_m5 0 rfl) rfl
theorem q1071 : (Jvm.Cond.selects "LikedOrders" ({ cls := "LikedOrders", name := "count", desc := "(I)I" } : Jvm.MethodName) ({ cls := "LikedOrders", name := "count", desc := "(I)I" } : Jvm.MethodName)) ∈ lw_all := lw_g (lw_at lw_m5 1 rfl) rfl
theorem q1072 : (Jvm.Cond.code ({ cls := "LikedOrders", name := "count", desc := "(I)I" } : Jvm.MethodName) prog_1_method_20_code (3 : Nat) (Option.some Jvm.ClassFile.FieldType.int)) ∈ lw_all := lw_g (lw_at lw_m5 2 rfl) rfl
theorem q1073 : (Jvm.Cond.methodLink "LikedOrders" (114 : Nat) ({ cls := "LikedOrders", name := "state", desc := "()LLikedOrders$State;" } : Jvm.MethodName)) ∈ lw_all := lw_g (lw_at lw_m5 3 rfl) rfl
theorem q1074 : (Jvm.Cond.privateMethod ({ cls := "LikedOrders", name := "state", desc := "()LLikedOrders$State;" } : Jvm.MethodName)) ∈ lw_tbl := lw_at lw_m5 4 rfl
theorem q1075 : (Jvm.Cond.instanceMethod ({ cls := "LikedOrders", name := "state", desc := "()LLikedOrders$State;" } : Jvm.MethodName)) ∈ lw_all := lw_g (lw_at lw_m5 5 rfl) rfl
theorem q1076 : (Jvm.Cond.code ({ cls := "LikedOrders", name := "state", desc := "()LLikedOrders$State;" } : Jvm.MethodName) prog_1_method_13_code (1 : Nat) (Option.some (Jvm.ClassFile.FieldType.object "LikedOrders$State"))) ∈ lw_all := lw_g (lw_at lw_m5 6 rfl) rfl
theorem q1077 : (Jvm.Cond.classLink "LikedOrders" (111 : Nat) "java/lang/IllegalStateException") ∈ lw_all := lw_g (lw_at lw_m5 7 rfl) rfl
theorem q1086 : (Jvm.Cond.methodLink "LikedOrders" (113 : Nat) ({ cls := "java/lang/IllegalStateException", name := "<init>", desc := "()V" } : Jvm.MethodName)) ∈ lw_all := lw_g (lw_at lw_m5 16 rfl) rfl
theorem q1092 : (Jvm.Cond.methodLink "LikedOrders" (155 : Nat) ({ cls := "LikedOrders$State", name := "known", desc := "()LLikedOrders$Known;" } : Jvm.MethodName)) ∈ lw_all := lw_g (lw_at lw_m5 22 rfl) rfl
theorem q1093 : (Jvm.Cond.methodLink "LikedOrders" (159 : Nat) ({ cls := "LikedOrders$Known", name := "twos", desc := "()I" } : Jvm.MethodName)) ∈ lw_all := lw_g (lw_at lw_m5 23 rfl) rfl
theorem q1107 : (Jvm.Cond.methodLink "LikedOrders" (162 : Nat) ({ cls := "LikedOrders", name := "orders", desc := "(LLikedOrders$Known;)I" } : Jvm.MethodName)) ∈ lw_all := lw_g (lw_at lw_m5 37 rfl) rfl
theorem q1108 : (Jvm.Cond.privateMethod ({ cls := "LikedOrders", name := "orders", desc := "(LLikedOrders$Known;)I" } : Jvm.MethodName)) ∈ lw_tbl := lw_at lw_m5 38 rfl
theorem q1109 : (Jvm.Cond.instanceMethod ({ cls := "LikedOrders", name := "orders", desc := "(LLikedOrders$Known;)I" } : Jvm.MethodName)) ∈ lw_all := lw_g (lw_at lw_m5 39 rfl) rfl
theorem q1110 : (Jvm.Cond.code ({ cls := "LikedOrders", name := "orders", desc := "(LLikedOrders$Known;)I" } : Jvm.MethodName) prog_1_method_18_code (2 : Nat) (Option.some Jvm.ClassFile.FieldType.int)) ∈ lw_all := lw_g (lw_at lw_m5 40 rfl) rfl
theorem q1111 : (Jvm.Cond.methodLinkNest "LikedOrders" (133 : Nat) ({ cls := "LikedOrders$Known", name := "laysWays", desc := "([I)V" } : Jvm.MethodName) "LikedOrders") ∈ lw_tbl := lw_at lw_m5 41 rfl
theorem q1122 : (Jvm.Cond.methodLink "LikedOrders" (166 : Nat) ({ cls := "LikedOrders", name := "fixed", desc := "(LLikedOrders$Known;)I" } : Jvm.MethodName)) ∈ lw_all := lw_g (lw_at lw_m5 52 rfl) rfl
theorem q1123 : (Jvm.Cond.static ({ cls := "LikedOrders", name := "fixed", desc := "(LLikedOrders$Known;)I" } : Jvm.MethodName)) ∈ lw_all := lw_g (lw_at lw_m5 53 rfl) rfl
theorem q1124 : (Jvm.Cond.code ({ cls := "LikedOrders", name := "fixed", desc := "(LLikedOrders$Known;)I" } : Jvm.MethodName) prog_1_method_19_code (3 : Nat) (Option.some Jvm.ClassFile.FieldType.int)) ∈ lw_all := lw_g (lw_at lw_m5 54 rfl) rfl
theorem q1125 : (Jvm.Cond.methodLink "LikedOrders" (141 : Nat) ({ cls := "LikedOrders$Known", name := "least", desc := "(I)I" } : Jvm.MethodName)) ∈ lw_all := lw_g (lw_at lw_m5 55 rfl) rfl
theorem q1126 : (Jvm.Cond.methodLink "LikedOrders" (145 : Nat) ({ cls := "LikedOrders$Known", name := "greatest", desc := "(I)I" } : Jvm.MethodName)) ∈ lw_all := lw_g (lw_at lw_m5 56 rfl) rfl
theorem q1130 : (Jvm.Cond.methodLink "LikedOrders" (148 : Nat) ({ cls := "LikedOrders", name := "one", desc := "(Z)I" } : Jvm.MethodName)) ∈ lw_all := lw_g (lw_at lw_m5 60 rfl) rfl
theorem q1131 : (Jvm.Cond.static ({ cls := "LikedOrders", name := "one", desc := "(Z)I" } : Jvm.MethodName)) ∈ lw_all := lw_g (lw_at lw_m5 61 rfl) rfl
theorem q1132 : (Jvm.Cond.code ({ cls := "LikedOrders", name := "one", desc := "(Z)I" } : Jvm.MethodName) prog_1_method_2_code (1 : Nat) (Option.some Jvm.ClassFile.FieldType.int)) ∈ lw_all := lw_g (lw_at lw_m5 62 rfl) rfl
theorem q1133 : (Jvm.Cond.methodLink "LikedOrders" (175 : Nat) ({ cls := "LikedOrders$State", name := "wrong", desc := "()I" } : Jvm.MethodName)) ∈ lw_all := lw_g (lw_at lw_m5 63 rfl) rfl
theorem q1146 : (Jvm.Cond.instanceMethod ({ cls := "LikedOrders", name := "item", desc := "(II)I" } : Jvm.MethodName)) ∈ lw_all := lw_g (lw_at lw_m5 76 rfl) rfl
theorem q1147 : (Jvm.Cond.selects "LikedOrders" ({ cls := "LikedOrders", name := "item", desc := "(II)I" } : Jvm.MethodName) ({ cls := "LikedOrders", name := "item", desc := "(II)I" } : Jvm.MethodName)) ∈ lw_all := lw_g (lw_at lw_m5 77 rfl) rfl
theorem q1148 : (Jvm.Cond.code ({ cls := "LikedOrders", name := "item", desc := "(II)I" } : Jvm.MethodName) prog_1_method_23_code (4 : Nat) (Option.some Jvm.ClassFile.FieldType.int)) ∈ lw_all := lw_g (lw_at lw_m5 78 rfl) rfl
theorem q1149 : (Jvm.Cond.methodLink "LikedOrders" (119 : Nat) ({ cls := "LikedOrders", name := "withItem", desc := "(I)LLikedOrders$State;" } : Jvm.MethodName)) ∈ lw_all := lw_g (lw_at lw_m5 79 rfl) rfl
theorem q1150 : (Jvm.Cond.privateMethod ({ cls := "LikedOrders", name := "withItem", desc := "(I)LLikedOrders$State;" } : Jvm.MethodName)) ∈ lw_tbl := lw_at lw_m5 80 rfl
theorem q1151 : (Jvm.Cond.instanceMethod ({ cls := "LikedOrders", name := "withItem", desc := "(I)LLikedOrders$State;" } : Jvm.MethodName)) ∈ lw_all := lw_g (lw_at lw_m5 81 rfl) rfl
theorem q1152 : (Jvm.Cond.code ({ cls := "LikedOrders", name := "withItem", desc := "(I)LLikedOrders$State;" } : Jvm.MethodName) prog_1_method_14_code (3 : Nat) (Option.some (Jvm.ClassFile.FieldType.object "LikedOrders$State"))) ∈ lw_all := lw_g (lw_at lw_m5 82 rfl) rfl
theorem q1153 : (Jvm.Cond.methodLink "LikedOrders" (115 : Nat) ({ cls := "LikedOrders$Row", name := "has", desc := "(I)Z" } : Jvm.MethodName)) ∈ lw_all := lw_g (lw_at lw_m5 83 rfl) rfl
theorem q1158 : (Jvm.Cond.methodLink "LikedOrders" (178 : Nat) ({ cls := "LikedOrders$Row", name := "get", desc := "(I)LLikedOrders$Told;" } : Jvm.MethodName)) ∈ lw_all := lw_g (lw_at lw_m5 88 rfl) rfl
theorem q1159 : (Jvm.Cond.classLink "LikedOrders" (194 : Nat) "LikedOrders$Item") ∈ lw_all := lw_g (lw_at lw_m5 89 rfl) rfl
theorem q1160 : (Jvm.Cond.methodLink "LikedOrders" (199 : Nat) ({ cls := "LikedOrders", name := "answersOf", desc := "(IZ)I" } : Jvm.MethodName)) ∈ lw_all := lw_g (lw_at lw_m5 90 rfl) rfl
theorem q1161 : (Jvm.Cond.privateMethod ({ cls := "LikedOrders", name := "answersOf", desc := "(IZ)I" } : Jvm.MethodName)) ∈ lw_tbl := lw_at lw_m5 91 rfl
theorem q1162 : (Jvm.Cond.instanceMethod ({ cls := "LikedOrders", name := "answersOf", desc := "(IZ)I" } : Jvm.MethodName)) ∈ lw_all := lw_g (lw_at lw_m5 92 rfl) rfl
theorem q1163 : (Jvm.Cond.code ({ cls := "LikedOrders", name := "answersOf", desc := "(IZ)I" } : Jvm.MethodName) prog_1_method_21_code (5 : Nat) (Option.some Jvm.ClassFile.FieldType.int)) ∈ lw_all := lw_g (lw_at lw_m5 93 rfl) rfl
theorem q1164 : (Jvm.Cond.classLink "LikedOrders" (182 : Nat) "LikedOrders$Answer") ∈ lw_all := lw_g (lw_at lw_m5 94 rfl) rfl
theorem q1165 : (Jvm.Cond.methodLink "LikedOrders" (203 : Nat) ({ cls := "LikedOrders", name := "placeByWorth", desc := "(I)I" } : Jvm.MethodName)) ∈ lw_all := lw_g (lw_at lw_m5 95 rfl) rfl
theorem q1166 : (Jvm.Cond.privateMethod ({ cls := "LikedOrders", name := "placeByWorth", desc := "(I)I" } : Jvm.MethodName)) ∈ lw_tbl := lw_at lw_m5 96 rfl
theorem q1167 : (Jvm.Cond.instanceMethod ({ cls := "LikedOrders", name := "placeByWorth", desc := "(I)I" } : Jvm.MethodName)) ∈ lw_all := lw_g (lw_at lw_m5 97 rfl) rfl
theorem q1168 : (Jvm.Cond.code ({ cls := "LikedOrders", name := "placeByWorth", desc := "(I)I" } : Jvm.MethodName) prog_1_method_22_code (4 : Nat) (Option.some Jvm.ClassFile.FieldType.int)) ∈ lw_all := lw_g (lw_at lw_m5 98 rfl) rfl
theorem q1169 : (Jvm.Cond.methodLink "LikedOrders" (190 : Nat) ({ cls := "LikedOrders$State", name := "isWorthier", desc := "(II)Z" } : Jvm.MethodName)) ∈ lw_all := lw_g (lw_at lw_m5 99 rfl) rfl
theorem q1170 : (Jvm.Cond.methodLink "LikedOrders" (209 : Nat) ({ cls := "java/lang/String", name := "length", desc := "()I" } : Jvm.MethodName)) ∈ lw_all := lw_g (lw_at lw_m5 100 rfl) rfl
theorem q1175 : (Jvm.Cond.instanceMethod ({ cls := "LikedOrders", name := "letter", desc := "(II)I" } : Jvm.MethodName)) ∈ lw_all := lw_g (lw_at lw_m5 105 rfl) rfl
theorem q1176 : (Jvm.Cond.selects "LikedOrders" ({ cls := "LikedOrders", name := "letter", desc := "(II)I" } : Jvm.MethodName) ({ cls := "LikedOrders", name := "letter", desc := "(II)I" } : Jvm.MethodName)) ∈ lw_all := lw_g (lw_at lw_m5 106 rfl) rfl
theorem q1177 : (Jvm.Cond.code ({ cls := "LikedOrders", name := "letter", desc := "(II)I" } : Jvm.MethodName) prog_1_method_24_code (4 : Nat) (Option.some Jvm.ClassFile.FieldType.int)) ∈ lw_all := lw_g (lw_at lw_m5 107 rfl) rfl
theorem q1178 : (Jvm.Cond.methodLink "LikedOrders" (214 : Nat) ({ cls := "java/lang/String", name := "charAt", desc := "(I)C" } : Jvm.MethodName)) ∈ lw_all := lw_g (lw_at lw_m5 108 rfl) rfl
theorem q1197 : (Jvm.Cond.instanceMethod ({ cls := "LikedOrders", name := "answer", desc := "(II)I" } : Jvm.MethodName)) ∈ lw_all := lw_g (lw_at lw_m5 127 rfl) rfl
theorem q1198 : (Jvm.Cond.selects "LikedOrders" ({ cls := "LikedOrders", name := "answer", desc := "(II)I" } : Jvm.MethodName) ({ cls := "LikedOrders", name := "answer", desc := "(II)I" } : Jvm.MethodName)) ∈ lw_all := lw_g (lw_at lw_m5 128 rfl) rfl
theorem q1199 : (Jvm.Cond.code ({ cls := "LikedOrders", name := "answer", desc := "(II)I" } : Jvm.MethodName) prog_1_method_26_code (5 : Nat) (Option.some Jvm.ClassFile.FieldType.int)) ∈ lw_all := lw_g (lw_at lw_m5 129 rfl) rfl
theorem q1200 : (Jvm.Cond.methodLink "LikedOrders" (225 : Nat) ({ cls := "LikedOrders", name := "withAnswer", desc := "(I)LLikedOrders$State;" } : Jvm.MethodName)) ∈ lw_all := lw_g (lw_at lw_m5 130 rfl) rfl
theorem q1201 : (Jvm.Cond.privateMethod ({ cls := "LikedOrders", name := "withAnswer", desc := "(I)LLikedOrders$State;" } : Jvm.MethodName)) ∈ lw_tbl := lw_at lw_m5 131 rfl
theorem q1202 : (Jvm.Cond.instanceMethod ({ cls := "LikedOrders", name := "withAnswer", desc := "(I)LLikedOrders$State;" } : Jvm.MethodName)) ∈ lw_all := lw_g (lw_at lw_m5 132 rfl) rfl
theorem q1203 : (Jvm.Cond.code ({ cls := "LikedOrders", name := "withAnswer", desc := "(I)LLikedOrders$State;" } : Jvm.MethodName) prog_1_method_17_code (3 : Nat) (Option.some (Jvm.ClassFile.FieldType.object "LikedOrders$State"))) ∈ lw_all := lw_g (lw_at lw_m5 133 rfl) rfl
theorem q1204 : (Jvm.Cond.methodLink "LikedOrders" (228 : Nat) ({ cls := "LikedOrders", name := "isNeedless", desc := "(LLikedOrders$State;I)Z" } : Jvm.MethodName)) ∈ lw_all := lw_g (lw_at lw_m5 134 rfl) rfl
theorem q1205 : (Jvm.Cond.static ({ cls := "LikedOrders", name := "isNeedless", desc := "(LLikedOrders$State;I)Z" } : Jvm.MethodName)) ∈ lw_all := lw_g (lw_at lw_m5 135 rfl) rfl
theorem q1206 : (Jvm.Cond.code ({ cls := "LikedOrders", name := "isNeedless", desc := "(LLikedOrders$State;I)Z" } : Jvm.MethodName) prog_1_method_25_code (2 : Nat) (Option.some Jvm.ClassFile.FieldType.boolean)) ∈ lw_all := lw_g (lw_at lw_m5 136 rfl) rfl
theorem q1207 : (Jvm.Cond.methodLink "LikedOrders" (218 : Nat) ({ cls := "LikedOrders$State", name := "knownBut", desc := "(I)LLikedOrders$Known;" } : Jvm.MethodName)) ∈ lw_all := lw_g (lw_at lw_m5 137 rfl) rfl
theorem q1208 : (Jvm.Cond.methodLink "LikedOrders" (222 : Nat) ({ cls := "LikedOrders$Known", name := "isBetter", desc := "(II)Z" } : Jvm.MethodName)) ∈ lw_all := lw_g (lw_at lw_m5 138 rfl) rfl
theorem q1213 : (Jvm.Cond.instanceMethod ({ cls := "LikedOrders", name := "known", desc := "(II)I" } : Jvm.MethodName)) ∈ lw_all := lw_g (lw_at lw_m5 143 rfl) rfl
theorem q1214 : (Jvm.Cond.selects "LikedOrders" ({ cls := "LikedOrders", name := "known", desc := "(II)I" } : Jvm.MethodName) ({ cls := "LikedOrders", name := "known", desc := "(II)I" } : Jvm.MethodName)) ∈ lw_all := lw_g (lw_at lw_m5 144 rfl) rfl
theorem q1215 : (Jvm.Cond.code ({ cls := "LikedOrders", name := "known", desc := "(II)I" } : Jvm.MethodName) prog_1_method_27_code (4 : Nat) (Option.some Jvm.ClassFile.FieldType.int)) ∈ lw_all := lw_g (lw_at lw_m5 145 rfl) rfl
theorem q1216 : (Jvm.Cond.methodLink "LikedOrders" (123 : Nat) ({ cls := "LikedOrders", name := "withItems", desc := "(II)LLikedOrders$State;" } : Jvm.MethodName)) ∈ lw_all := lw_g (lw_at lw_m5 146 rfl) rfl
theorem q1217 : (Jvm.Cond.privateMethod ({ cls := "LikedOrders", name := "withItems", desc := "(II)LLikedOrders$State;" } : Jvm.MethodName)) ∈ lw_tbl := lw_at lw_m5 147 rfl
theorem q1218 : (Jvm.Cond.instanceMethod ({ cls := "LikedOrders", name := "withItems", desc := "(II)LLikedOrders$State;" } : Jvm.MethodName)) ∈ lw_all := lw_g (lw_at lw_m5 148 rfl) rfl
theorem q1219 : (Jvm.Cond.code ({ cls := "LikedOrders", name := "withItems", desc := "(II)LLikedOrders$State;" } : Jvm.MethodName) prog_1_method_15_code (4 : Nat) (Option.some (Jvm.ClassFile.FieldType.object "LikedOrders$State"))) ∈ lw_all := lw_g (lw_at lw_m5 149 rfl) rfl
theorem q1224 : (Jvm.Cond.instanceMethod ({ cls := "LikedOrders", name := "why", desc := "(II)I" } : Jvm.MethodName)) ∈ lw_all := lw_g (lw_at lw_m5 154 rfl) rfl
theorem q1225 : (Jvm.Cond.selects "LikedOrders" ({ cls := "LikedOrders", name := "why", desc := "(II)I" } : Jvm.MethodName) ({ cls := "LikedOrders", name := "why", desc := "(II)I" } : Jvm.MethodName)) ∈ lw_all := lw_g (lw_at lw_m5 155 rfl) rfl
theorem q1226 : (Jvm.Cond.code ({ cls := "LikedOrders", name := "why", desc := "(II)I" } : Jvm.MethodName) prog_1_method_29_code (4 : Nat) (Option.some Jvm.ClassFile.FieldType.int)) ∈ lw_all := lw_g (lw_at lw_m5 156 rfl) rfl
theorem q1227 : (Jvm.Cond.methodLink "LikedOrders" (232 : Nat) ({ cls := "LikedOrders", name := "withTwo", desc := "(II)LLikedOrders$State;" } : Jvm.MethodName)) ∈ lw_all := lw_g (lw_at lw_m5 157 rfl) rfl
theorem q1228 : (Jvm.Cond.privateMethod ({ cls := "LikedOrders", name := "withTwo", desc := "(II)LLikedOrders$State;" } : Jvm.MethodName)) ∈ lw_tbl := lw_at lw_m5 158 rfl
theorem q1229 : (Jvm.Cond.instanceMethod ({ cls := "LikedOrders", name := "withTwo", desc := "(II)LLikedOrders$State;" } : Jvm.MethodName)) ∈ lw_all := lw_g (lw_at lw_m5 159 rfl) rfl
theorem q1230 : (Jvm.Cond.code ({ cls := "LikedOrders", name := "withTwo", desc := "(II)LLikedOrders$State;" } : Jvm.MethodName) prog_1_method_16_code (4 : Nat) (Option.some (Jvm.ClassFile.FieldType.object "LikedOrders$State"))) ∈ lw_all := lw_g (lw_at lw_m5 160 rfl) rfl
theorem q1231 : (Jvm.Cond.methodLink "LikedOrders" (127 : Nat) ({ cls := "LikedOrders", name := "checkRange", desc := "(Z)V" } : Jvm.MethodName)) ∈ lw_all := lw_g (lw_at lw_m5 161 rfl) rfl
theorem q1232 : (Jvm.Cond.static ({ cls := "LikedOrders", name := "checkRange", desc := "(Z)V" } : Jvm.MethodName)) ∈ lw_all := lw_g (lw_at lw_m5 162 rfl) rfl
theorem q1233 : (Jvm.Cond.code ({ cls := "LikedOrders", name := "checkRange", desc := "(Z)V" } : Jvm.MethodName) prog_1_method_12_code (1 : Nat) (Option.none : Option Jvm.ClassFile.FieldType)) ∈ lw_all := lw_g (lw_at lw_m5 163 rfl) rfl
theorem q1234 : (Jvm.Cond.methodLink "LikedOrders" (235 : Nat) ({ cls := "LikedOrders", name := "isAnswered", desc := "(II)Z" } : Jvm.MethodName)) ∈ lw_all := lw_g (lw_at lw_m5 164 rfl) rfl
theorem q1235 : (Jvm.Cond.privateMethod ({ cls := "LikedOrders", name := "isAnswered", desc := "(II)Z" } : Jvm.MethodName)) ∈ lw_tbl := lw_at lw_m5 165 rfl
theorem q1236 : (Jvm.Cond.instanceMethod ({ cls := "LikedOrders", name := "isAnswered", desc := "(II)Z" } : Jvm.MethodName)) ∈ lw_all := lw_g (lw_at lw_m5 166 rfl) rfl
theorem q1237 : (Jvm.Cond.code ({ cls := "LikedOrders", name := "isAnswered", desc := "(II)Z" } : Jvm.MethodName) prog_1_method_28_code (4 : Nat) (Option.some Jvm.ClassFile.FieldType.boolean)) ∈ lw_all := lw_g (lw_at lw_m5 167 rfl) rfl
theorem q1242 : (Jvm.Cond.instanceMethod ({ cls := "LikedOrders", name := "chain", desc := "(III)I" } : Jvm.MethodName)) ∈ lw_all := lw_g (lw_at lw_m5 172 rfl) rfl
theorem q1243 : (Jvm.Cond.selects "LikedOrders" ({ cls := "LikedOrders", name := "chain", desc := "(III)I" } : Jvm.MethodName) ({ cls := "LikedOrders", name := "chain", desc := "(III)I" } : Jvm.MethodName)) ∈ lw_all := lw_g (lw_at lw_m5 173 rfl) rfl
theorem q1244 : (Jvm.Cond.code ({ cls := "LikedOrders", name := "chain", desc := "(III)I" } : Jvm.MethodName) prog_1_method_32_code (9 : Nat) (Option.some Jvm.ClassFile.FieldType.int)) ∈ lw_all := lw_g (lw_at lw_m5 174 rfl) rfl
theorem q1245 : (Jvm.Cond.methodLink "LikedOrders" (241 : Nat) ({ cls := "LikedOrders", name := "farFrom", desc := "(I)[I" } : Jvm.MethodName)) ∈ lw_all := lw_g (lw_at lw_m5 175 rfl) rfl
theorem q1246 : (Jvm.Cond.privateMethod ({ cls := "LikedOrders", name := "farFrom", desc := "(I)[I" } : Jvm.MethodName)) ∈ lw_tbl := lw_at lw_m5 176 rfl
theorem q1247 : (Jvm.Cond.instanceMethod ({ cls := "LikedOrders", name := "farFrom", desc := "(I)[I" } : Jvm.MethodName)) ∈ lw_all := lw_g (lw_at lw_m5 177 rfl) rfl
theorem q1248 : (Jvm.Cond.code ({ cls := "LikedOrders", name := "farFrom", desc := "(I)[I" } : Jvm.MethodName) prog_1_method_30_code (6 : Nat) (Option.some (Jvm.ClassFile.FieldType.array Jvm.ClassFile.FieldType.int))) ∈ lw_all := lw_g (lw_at lw_m5 178 rfl) rfl
theorem q1249 : (Jvm.Cond.methodLink "LikedOrders" (238 : Nat) ({ cls := "java/util/Arrays", name := "fill", desc := "([II)V" } : Jvm.MethodName)) ∈ lw_all := lw_g (lw_at lw_m5 179 rfl) rfl
theorem q1250 : (Jvm.Cond.methodLink "LikedOrders" (245 : Nat) ({ cls := "LikedOrders", name := "nextItem", desc := "([II)I" } : Jvm.MethodName)) ∈ lw_all := lw_g (lw_at lw_m5 180 rfl) rfl
theorem q1251 : (Jvm.Cond.privateMethod ({ cls := "LikedOrders", name := "nextItem", desc := "([II)I" } : Jvm.MethodName)) ∈ lw_tbl := lw_at lw_m5 181 rfl
theorem q1252 : (Jvm.Cond.instanceMethod ({ cls := "LikedOrders", name := "nextItem", desc := "([II)I" } : Jvm.MethodName)) ∈ lw_all := lw_g (lw_at lw_m5 182 rfl) rfl
theorem q1253 : (Jvm.Cond.code ({ cls := "LikedOrders", name := "nextItem", desc := "([II)I" } : Jvm.MethodName) prog_1_method_31_code (4 : Nat) (Option.some Jvm.ClassFile.FieldType.int)) ∈ lw_all := lw_g (lw_at lw_m5 183 rfl) rfl
theorem q1258 : (Jvm.Cond.instanceMethod ({ cls := "LikedOrders", name := "at", desc := "(I)I" } : Jvm.MethodName)) ∈ lw_all := lw_g (lw_at lw_m5 188 rfl) rfl
theorem q1259 : (Jvm.Cond.selects "LikedOrders" ({ cls := "LikedOrders", name := "at", desc := "(I)I" } : Jvm.MethodName) ({ cls := "LikedOrders", name := "at", desc := "(I)I" } : Jvm.MethodName)) ∈ lw_all := lw_g (lw_at lw_m5 189 rfl) rfl
theorem q1260 : (Jvm.Cond.code ({ cls := "LikedOrders", name := "at", desc := "(I)I" } : Jvm.MethodName) prog_1_method_34_code (2 : Nat) (Option.some Jvm.ClassFile.FieldType.int)) ∈ lw_all := lw_g (lw_at lw_m5 190 rfl) rfl
theorem q1261 : (Jvm.Cond.methodLink "LikedOrders" (249 : Nat) ({ cls := "LikedOrders", name := "itemAt", desc := "(LLikedOrders$Known;I)I" } : Jvm.MethodName)) ∈ lw_all := lw_g (lw_at lw_m5 191 rfl) rfl
theorem q1262 : (Jvm.Cond.static ({ cls := "LikedOrders", name := "itemAt", desc := "(LLikedOrders$Known;I)I" } : Jvm.MethodName)) ∈ lw_all := lw_g (lw_at lw_m5 192 rfl) rfl
theorem q1263 : (Jvm.Cond.code ({ cls := "LikedOrders", name := "itemAt", desc := "(LLikedOrders$Known;I)I" } : Jvm.MethodName) prog_1_method_33_code (3 : Nat) (Option.some Jvm.ClassFile.FieldType.int)) ∈ lw_all := lw_g (lw_at lw_m5 193 rfl) rfl
theorem q1268 : (Jvm.Cond.instanceMethod ({ cls := "LikedOrders", name := "loose", desc := "()I" } : Jvm.MethodName)) ∈ lw_all := lw_g (lw_at lw_m5 198 rfl) rfl
theorem q1269 : (Jvm.Cond.selects "LikedOrders" ({ cls := "LikedOrders", name := "loose", desc := "()I" } : Jvm.MethodName) ({ cls := "LikedOrders", name := "loose", desc := "()I" } : Jvm.MethodName)) ∈ lw_all := lw_g (lw_at lw_m5 199 rfl) rfl
theorem q1270 : (Jvm.Cond.code ({ cls := "LikedOrders", name := "loose", desc := "()I" } : Jvm.MethodName) prog_1_method_35_code (4 : Nat) (Option.some Jvm.ClassFile.FieldType.int)) ∈ lw_all := lw_g (lw_at lw_m5 200 rfl) rfl
theorem q1275 : (Jvm.Cond.instanceMethod ({ cls := "LikedOrders", name := "gap", desc := "()I" } : Jvm.MethodName)) ∈ lw_all := lw_g (lw_at lw_m5 205 rfl) rfl
theorem q1276 : (Jvm.Cond.selects "LikedOrders" ({ cls := "LikedOrders", name := "gap", desc := "()I" } : Jvm.MethodName) ({ cls := "LikedOrders", name := "gap", desc := "()I" } : Jvm.MethodName)) ∈ lw_all := lw_g (lw_at lw_m5 206 rfl) rfl
theorem q1277 : (Jvm.Cond.code ({ cls := "LikedOrders", name := "gap", desc := "()I" } : Jvm.MethodName) prog_1_method_36_code (5 : Nat) (Option.some Jvm.ClassFile.FieldType.int)) ∈ lw_all := lw_g (lw_at lw_m5 207 rfl) rfl
theorem q1278 : (Jvm.Cond.methodLinkNest "LikedOrders" (253 : Nat) ({ cls := "LikedOrders$Known", name := "laysRests", desc := "([I)V" } : Jvm.MethodName) "LikedOrders") ∈ lw_tbl := lw_at lw_m5 208 rfl
theorem q1282 : (Jvm.Cond.methodLink "LikedOrders" (260 : Nat) ({ cls := "java/lang/Integer", name := "bitCount", desc := "(I)I" } : Jvm.MethodName)) ∈ lw_all := lw_g (lw_at lw_m5 212 rfl) rfl
theorem q1283 : (Jvm.Cond.methodLink "LikedOrders" (265 : Nat) ({ cls := "java/lang/Math", name := "abs", desc := "(I)I" } : Jvm.MethodName)) ∈ lw_all := lw_g (lw_at lw_m5 213 rfl) rfl
theorem q1290 : (Jvm.Cond.instanceMethod ({ cls := "LikedOrders", name := "next", desc := "(Z)I" } : Jvm.MethodName)) ∈ lw_all := lw_g (lw_at lw_m5 220 rfl) rfl
theorem q1291 : (Jvm.Cond.selects "LikedOrders" ({ cls := "LikedOrders", name := "next", desc := "(Z)I" } : Jvm.MethodName) ({ cls := "LikedOrders", name := "next", desc := "(Z)I" } : Jvm.MethodName)) ∈ lw_all := lw_g (lw_at lw_m5 221 rfl) rfl
theorem q1292 : (Jvm.Cond.code ({ cls := "LikedOrders", name := "next", desc := "(Z)I" } : Jvm.MethodName) prog_1_method_38_code (3 : Nat) (Option.some Jvm.ClassFile.FieldType.int)) ∈ lw_all := lw_g (lw_at lw_m5 222 rfl) rfl
theorem q1293 : (Jvm.Cond.methodLink "LikedOrders" (289 : Nat) ({ cls := "LikedOrders", name := "toAsk", desc := "(LLikedOrders$State;)LLikedOrders$Unknown;" } : Jvm.MethodName)) ∈ lw_all := lw_g (lw_at lw_m5 223 rfl) rfl
theorem q1294 : (Jvm.Cond.privateMethod ({ cls := "LikedOrders", name := "toAsk", desc := "(LLikedOrders$State;)LLikedOrders$Unknown;" } : Jvm.MethodName)) ∈ lw_tbl := lw_at lw_m5 224 rfl
theorem q1295 : (Jvm.Cond.instanceMethod ({ cls := "LikedOrders", name := "toAsk", desc := "(LLikedOrders$State;)LLikedOrders$Unknown;" } : Jvm.MethodName)) ∈ lw_all := lw_g (lw_at lw_m5 225 rfl) rfl
theorem q1296 : (Jvm.Cond.codeWith ({ cls := "LikedOrders", name := "toAsk", desc := "(LLikedOrders$State;)LLikedOrders$Unknown;" } : Jvm.MethodName) prog_1_method_37_code (3 : Nat) (Option.some (Jvm.ClassFile.FieldType.object "LikedOrders$Unknown")) [((0 : Nat), (32 : Nat), (33 : Nat), (287 : Nat))]) ∈ lw_all := lw_g (lw_at lw_m5 226 rfl) rfl
theorem q1297 : (Jvm.Cond.classLink "LikedOrders" (287 : Nat) "LikedOrders$Unknown") ∈ lw_all := lw_g (lw_at lw_m5 227 rfl) rfl
theorem q1298 : (Jvm.Cond.classLink "LikedOrders" (270 : Nat) "LikedOrders$Method") ∈ lw_all := lw_g (lw_at lw_m5 228 rfl) rfl
theorem q1300 : (Jvm.Cond.classLink "LikedOrders" (272 : Nat) "LikedOrders$Stopper") ∈ lw_all := lw_g (lw_at lw_m5 230 rfl) rfl
theorem q1302 : (Jvm.Cond.methodLink "LikedOrders" (274 : Nat) ({ cls := "LikedOrders$Stopper", name := "<init>", desc := "(LLikedOrders;LLikedOrders$Known;)V" } : Jvm.MethodName)) ∈ lw_all := lw_g (lw_at lw_m5 232 rfl) rfl
theorem q1316 : (Jvm.Cond.methodLink "LikedOrders" (277 : Nat) ({ cls := "LikedOrders$Method", name := "<init>", desc := "(LLikedOrders$Judge;)V" } : Jvm.MethodName)) ∈ lw_all := lw_g (lw_at lw_m6 6 rfl) rfl
theorem q1324 : (Jvm.Cond.methodLink "LikedOrders" (280 : Nat) ({ cls := "LikedOrders$State", name := "row", desc := "()[I" } : Jvm.MethodName)) ∈ lw_all := lw_g (lw_at lw_m6 14 rfl) rfl
theorem q1328 : (Jvm.Cond.methodLink "LikedOrders" (284 : Nat) ({ cls := "LikedOrders$Method", name := "orders", desc := "([II)[I" } : Jvm.MethodName)) ∈ lw_all := lw_g (lw_at lw_m6 18 rfl) rfl
theorem q1363 : (Jvm.Cond.fieldLinkNest "LikedOrders" (296 : Nat) "LikedOrders$Unknown" "first" "I" "LikedOrders") ∈ lw_tbl := lw_at lw_m6 53 rfl
theorem q1365 : (Jvm.Cond.fieldLinkNest "LikedOrders" (293 : Nat) "LikedOrders$Unknown" "second" "I" "LikedOrders") ∈ lw_tbl := lw_at lw_m6 55 rfl
theorem q1367 : (Jvm.Cond.fieldLinkNest "LikedOrders" (302 : Nat) "LikedOrders$Unknown" "doing" "I" "LikedOrders") ∈ lw_tbl := lw_at lw_m6 57 rfl
theorem q1402 : (Jvm.Cond.instanceMethod ({ cls := "LikedOrders", name := "compared", desc := "()I" } : Jvm.MethodName)) ∈ lw_all := lw_g (lw_at lw_m6 92 rfl) rfl
theorem q1403 : (Jvm.Cond.selects "LikedOrders" ({ cls := "LikedOrders", name := "compared", desc := "()I" } : Jvm.MethodName) ({ cls := "LikedOrders", name := "compared", desc := "()I" } : Jvm.MethodName)) ∈ lw_all := lw_g (lw_at lw_m6 93 rfl) rfl
theorem q1404 : (Jvm.Cond.code ({ cls := "LikedOrders", name := "compared", desc := "()I" } : Jvm.MethodName) prog_1_method_39_code (2 : Nat) (Option.some Jvm.ClassFile.FieldType.int)) ∈ lw_all := lw_g (lw_at lw_m6 94 rfl) rfl
theorem q1409 : (Jvm.Cond.instanceMethod ({ cls := "LikedOrders", name := "doing", desc := "()I" } : Jvm.MethodName)) ∈ lw_all := lw_g (lw_at lw_m6 99 rfl) rfl
theorem q1410 : (Jvm.Cond.selects "LikedOrders" ({ cls := "LikedOrders", name := "doing", desc := "()I" } : Jvm.MethodName) ({ cls := "LikedOrders", name := "doing", desc := "()I" } : Jvm.MethodName)) ∈ lw_all := lw_g (lw_at lw_m6 100 rfl) rfl
theorem q1411 : (Jvm.Cond.code ({ cls := "LikedOrders", name := "doing", desc := "()I" } : Jvm.MethodName) prog_1_method_40_code (2 : Nat) (Option.some Jvm.ClassFile.FieldType.int)) ∈ lw_all := lw_g (lw_at lw_m6 101 rfl) rfl
theorem q1416 : (Jvm.Cond.instanceMethod ({ cls := "LikedOrders", name := "bound", desc := "()I" } : Jvm.MethodName)) ∈ lw_all := lw_g (lw_at lw_m6 106 rfl) rfl
theorem q1417 : (Jvm.Cond.selects "LikedOrders" ({ cls := "LikedOrders", name := "bound", desc := "()I" } : Jvm.MethodName) ({ cls := "LikedOrders", name := "bound", desc := "()I" } : Jvm.MethodName)) ∈ lw_all := lw_g (lw_at lw_m6 107 rfl) rfl
theorem q1418 : (Jvm.Cond.code ({ cls := "LikedOrders", name := "bound", desc := "()I" } : Jvm.MethodName) prog_1_method_41_code (3 : Nat) (Option.some Jvm.ClassFile.FieldType.int)) ∈ lw_all := lw_g (lw_at lw_m6 108 rfl) rfl
theorem q1423 : (Jvm.Cond.instanceMethod ({ cls := "LikedOrders", name := "told", desc := "(I)I" } : Jvm.MethodName)) ∈ lw_all := lw_g (lw_at lw_m6 113 rfl) rfl
theorem q1424 : (Jvm.Cond.selects "LikedOrders" ({ cls := "LikedOrders", name := "told", desc := "(I)I" } : Jvm.MethodName) ({ cls := "LikedOrders", name := "told", desc := "(I)I" } : Jvm.MethodName)) ∈ lw_all := lw_g (lw_at lw_m6 114 rfl) rfl
theorem q1425 : (Jvm.Cond.code ({ cls := "LikedOrders", name := "told", desc := "(I)I" } : Jvm.MethodName) prog_1_method_42_code (6 : Nat) (Option.some Jvm.ClassFile.FieldType.int)) ∈ lw_all := lw_g (lw_at lw_m6 115 rfl) rfl
theorem q1430 : (Jvm.Cond.instanceMethod ({ cls := "LikedOrders", name := "ordersIf", desc := "(II)I" } : Jvm.MethodName)) ∈ lw_all := lw_g (lw_at lw_m6 120 rfl) rfl
theorem q1431 : (Jvm.Cond.selects "LikedOrders" ({ cls := "LikedOrders", name := "ordersIf", desc := "(II)I" } : Jvm.MethodName) ({ cls := "LikedOrders", name := "ordersIf", desc := "(II)I" } : Jvm.MethodName)) ∈ lw_all := lw_g (lw_at lw_m6 121 rfl) rfl
theorem q1432 : (Jvm.Cond.code ({ cls := "LikedOrders", name := "ordersIf", desc := "(II)I" } : Jvm.MethodName) prog_1_method_44_code (3 : Nat) (Option.some Jvm.ClassFile.FieldType.int)) ∈ lw_all := lw_g (lw_at lw_m6 122 rfl) rfl
theorem q1433 : (Jvm.Cond.methodLink "LikedOrders" (312 : Nat) ({ cls := "LikedOrders", name := "ordersWith", desc := "(LLikedOrders$Known;II)I" } : Jvm.MethodName)) ∈ lw_all := lw_g (lw_at lw_m6 123 rfl) rfl
theorem q1434 : (Jvm.Cond.privateMethod ({ cls := "LikedOrders", name := "ordersWith", desc := "(LLikedOrders$Known;II)I" } : Jvm.MethodName)) ∈ lw_tbl := lw_at lw_m6 124 rfl
theorem q1435 : (Jvm.Cond.instanceMethod ({ cls := "LikedOrders", name := "ordersWith", desc := "(LLikedOrders$Known;II)I" } : Jvm.MethodName)) ∈ lw_all := lw_g (lw_at lw_m6 125 rfl) rfl
theorem q1436 : (Jvm.Cond.code ({ cls := "LikedOrders", name := "ordersWith", desc := "(LLikedOrders$Known;II)I" } : Jvm.MethodName) prog_1_method_43_code (4 : Nat) (Option.some Jvm.ClassFile.FieldType.int)) ∈ lw_all := lw_g (lw_at lw_m6 126 rfl) rfl
theorem q1437 : (Jvm.Cond.classLink "LikedOrders" (134 : Nat) "LikedOrders$Known") ∈ lw_all := lw_g (lw_at lw_m6 127 rfl) rfl
theorem q1438 : (Jvm.Cond.methodLink "LikedOrders" (305 : Nat) ({ cls := "LikedOrders$Known", name := "<init>", desc := "(LLikedOrders$Known;)V" } : Jvm.MethodName)) ∈ lw_all := lw_g (lw_at lw_m6 128 rfl) rfl
theorem q1442 : (Jvm.Cond.methodLink "LikedOrders" (308 : Nat) ({ cls := "LikedOrders$Known", name := "tells", desc := "(II)LLikedOrders$Known;" } : Jvm.MethodName)) ∈ lw_all := lw_g (lw_at lw_m6 132 rfl) rfl
theorem q1447 : (Jvm.Cond.instanceMethod ({ cls := "LikedOrders", name := "fairest", desc := "(Z)I" } : Jvm.MethodName)) ∈ lw_all := lw_g (lw_at lw_m6 137 rfl) rfl
theorem q1448 : (Jvm.Cond.selects "LikedOrders" ({ cls := "LikedOrders", name := "fairest", desc := "(Z)I" } : Jvm.MethodName) ({ cls := "LikedOrders", name := "fairest", desc := "(Z)I" } : Jvm.MethodName)) ∈ lw_all := lw_g (lw_at lw_m6 138 rfl) rfl
theorem q1449 : (Jvm.Cond.code ({ cls := "LikedOrders", name := "fairest", desc := "(Z)I" } : Jvm.MethodName) prog_1_method_45_code (8 : Nat) (Option.some Jvm.ClassFile.FieldType.int)) ∈ lw_all := lw_g (lw_at lw_m6 139 rfl) rfl
theorem q1450 : (Jvm.Cond.methodLink "LikedOrders" (316 : Nat) ({ cls := "java/lang/Math", name := "min", desc := "(II)I" } : Jvm.MethodName)) ∈ lw_all := lw_g (lw_at lw_m6 140 rfl) rfl
theorem q1455 : (Jvm.Cond.instanceMethod ({ cls := "LikedOrders", name := "toCome", desc := "(I)I" } : Jvm.MethodName)) ∈ lw_all := lw_g (lw_at lw_m6 145 rfl) rfl
theorem q1456 : (Jvm.Cond.selects "LikedOrders" ({ cls := "LikedOrders", name := "toCome", desc := "(I)I" } : Jvm.MethodName) ({ cls := "LikedOrders", name := "toCome", desc := "(I)I" } : Jvm.MethodName)) ∈ lw_all := lw_g (lw_at lw_m6 146 rfl) rfl
theorem q1457 : (Jvm.Cond.code ({ cls := "LikedOrders", name := "toCome", desc := "(I)I" } : Jvm.MethodName) prog_1_method_48_code (3 : Nat) (Option.some Jvm.ClassFile.FieldType.int)) ∈ lw_all := lw_g (lw_at lw_m6 147 rfl) rfl
theorem q1458 : (Jvm.Cond.methodLink "LikedOrders" (332 : Nat) ({ cls := "LikedOrders", name := "asksFor", desc := "(LLikedOrders$State;LLikedOrders$Known;I)I" } : Jvm.MethodName)) ∈ lw_all := lw_g (lw_at lw_m6 148 rfl) rfl
theorem q1459 : (Jvm.Cond.privateMethod ({ cls := "LikedOrders", name := "asksFor", desc := "(LLikedOrders$State;LLikedOrders$Known;I)I" } : Jvm.MethodName)) ∈ lw_tbl := lw_at lw_m6 149 rfl
theorem q1460 : (Jvm.Cond.instanceMethod ({ cls := "LikedOrders", name := "asksFor", desc := "(LLikedOrders$State;LLikedOrders$Known;I)I" } : Jvm.MethodName)) ∈ lw_all := lw_g (lw_at lw_m6 150 rfl) rfl
theorem q1461 : (Jvm.Cond.code ({ cls := "LikedOrders", name := "asksFor", desc := "(LLikedOrders$State;LLikedOrders$Known;I)I" } : Jvm.MethodName) prog_1_method_47_code (5 : Nat) (Option.some Jvm.ClassFile.FieldType.int)) ∈ lw_all := lw_g (lw_at lw_m6 151 rfl) rfl
theorem q1462 : (Jvm.Cond.methodLink "LikedOrders" (328 : Nat) ({ cls := "LikedOrders", name := "found", desc := "(LLikedOrders$State;LLikedOrders$Known;I)[I" } : Jvm.MethodName)) ∈ lw_all := lw_g (lw_at lw_m6 152 rfl) rfl
theorem q1463 : (Jvm.Cond.privateMethod ({ cls := "LikedOrders", name := "found", desc := "(LLikedOrders$State;LLikedOrders$Known;I)[I" } : Jvm.MethodName)) ∈ lw_tbl := lw_at lw_m6 153 rfl
theorem q1464 : (Jvm.Cond.instanceMethod ({ cls := "LikedOrders", name := "found", desc := "(LLikedOrders$State;LLikedOrders$Known;I)[I" } : Jvm.MethodName)) ∈ lw_all := lw_g (lw_at lw_m6 154 rfl) rfl
theorem q1465 : (Jvm.Cond.codeWith ({ cls := "LikedOrders", name := "found", desc := "(LLikedOrders$State;LLikedOrders$Known;I)[I" } : Jvm.MethodName) prog_1_method_46_code (5 : Nat) (Option.some (Jvm.ClassFile.FieldType.array Jvm.ClassFile.FieldType.int)) [((5 : Nat), (30 : Nat), (31 : Nat), (287 : Nat))]) ∈ lw_all := lw_g (lw_at lw_m6 155 rfl) rfl
theorem q1466 : (Jvm.Cond.classLink "LikedOrders" (323 : Nat) "LikedOrders$1Asker") ∈ lw_all := lw_g (lw_at lw_m6 156 rfl) rfl
theorem q1468 : (Jvm.Cond.methodLink "LikedOrders" (325 : Nat) ({ cls := "LikedOrders$1Asker", name := "<init>", desc := "(LLikedOrders;LLikedOrders$Known;LLikedOrders$State;)V" } : Jvm.MethodName)) ∈ lw_all := lw_g (lw_at lw_m6 158 rfl) rfl
theorem q1491 : (Jvm.Cond.instanceMethod ({ cls := "LikedOrders", name := "bestMethod", desc := "()I" } : Jvm.MethodName)) ∈ lw_all := lw_g (lw_at lw_m6 181 rfl) rfl
theorem q1492 : (Jvm.Cond.selects "LikedOrders" ({ cls := "LikedOrders", name := "bestMethod", desc := "()I" } : Jvm.MethodName) ({ cls := "LikedOrders", name := "bestMethod", desc := "()I" } : Jvm.MethodName)) ∈ lw_all := lw_g (lw_at lw_m6 182 rfl) rfl
theorem q1493 : (Jvm.Cond.code ({ cls := "LikedOrders", name := "bestMethod", desc := "()I" } : Jvm.MethodName) prog_1_method_49_code (5 : Nat) (Option.some Jvm.ClassFile.FieldType.int)) ∈ lw_all := lw_g (lw_at lw_m6 183 rfl) rfl
theorem q1498 : (Jvm.Cond.instanceMethod ({ cls := "LikedOrders", name := "afresh", desc := "(I)I" } : Jvm.MethodName)) ∈ lw_all := lw_g (lw_at lw_m6 188 rfl) rfl
theorem q1499 : (Jvm.Cond.selects "LikedOrders" ({ cls := "LikedOrders", name := "afresh", desc := "(I)I" } : Jvm.MethodName) ({ cls := "LikedOrders", name := "afresh", desc := "(I)I" } : Jvm.MethodName)) ∈ lw_all := lw_g (lw_at lw_m6 189 rfl) rfl
theorem q1500 : (Jvm.Cond.code ({ cls := "LikedOrders", name := "afresh", desc := "(I)I" } : Jvm.MethodName) prog_1_method_50_code (3 : Nat) (Option.some Jvm.ClassFile.FieldType.int)) ∈ lw_all := lw_g (lw_at lw_m6 190 rfl) rfl
theorem q1501 : (Jvm.Cond.methodLink "LikedOrders" (336 : Nat) ({ cls := "LikedOrders$Known", name := "<init>", desc := "(I)V" } : Jvm.MethodName)) ∈ lw_all := lw_g (lw_at lw_m6 191 rfl) rfl
theorem q1506 : (Jvm.Cond.instanceMethod ({ cls := "LikedOrders", name := "placeThen", desc := "(I)I" } : Jvm.MethodName)) ∈ lw_all := lw_g (lw_at lw_m6 196 rfl) rfl
theorem q1507 : (Jvm.Cond.selects "LikedOrders" ({ cls := "LikedOrders", name := "placeThen", desc := "(I)I" } : Jvm.MethodName) ({ cls := "LikedOrders", name := "placeThen", desc := "(I)I" } : Jvm.MethodName)) ∈ lw_all := lw_g (lw_at lw_m6 197 rfl) rfl
theorem q1508 : (Jvm.Cond.code ({ cls := "LikedOrders", name := "placeThen", desc := "(I)I" } : Jvm.MethodName) prog_1_method_51_code (3 : Nat) (Option.some Jvm.ClassFile.FieldType.int)) ∈ lw_all := lw_g (lw_at lw_m6 198 rfl) rfl
theorem q1509 : (Jvm.Cond.methodLinkNest "LikedOrders" (337 : Nat) ({ cls := "LikedOrders$Method", name := "placeOf", desc := "([II)I" } : Jvm.MethodName) "LikedOrders") ∈ lw_tbl := lw_at lw_m6 199 rfl
theorem q1514 : (Jvm.Cond.instanceMethod ({ cls := "LikedOrders", name := "toComeIf", desc := "(II)I" } : Jvm.MethodName)) ∈ lw_all := lw_g (lw_at lw_m6 204 rfl) rfl
theorem q1515 : (Jvm.Cond.selects "LikedOrders" ({ cls := "LikedOrders", name := "toComeIf", desc := "(II)I" } : Jvm.MethodName) ({ cls := "LikedOrders", name := "toComeIf", desc := "(II)I" } : Jvm.MethodName)) ∈ lw_all := lw_g (lw_at lw_m6 205 rfl) rfl
theorem q1516 : (Jvm.Cond.code ({ cls := "LikedOrders", name := "toComeIf", desc := "(II)I" } : Jvm.MethodName) prog_1_method_52_code (5 : Nat) (Option.some Jvm.ClassFile.FieldType.int)) ∈ lw_all := lw_g (lw_at lw_m6 206 rfl) rfl
theorem q1521 : (Jvm.Cond.instanceMethod ({ cls := "LikedOrders", name := "toComeWithout", desc := "(I)I" } : Jvm.MethodName)) ∈ lw_all := lw_g (lw_at lw_m6 211 rfl) rfl
theorem q1522 : (Jvm.Cond.selects "LikedOrders" ({ cls := "LikedOrders", name := "toComeWithout", desc := "(I)I" } : Jvm.MethodName) ({ cls := "LikedOrders", name := "toComeWithout", desc := "(I)I" } : Jvm.MethodName)) ∈ lw_all := lw_g (lw_at lw_m6 212 rfl) rfl
theorem q1523 : (Jvm.Cond.code ({ cls := "LikedOrders", name := "toComeWithout", desc := "(I)I" } : Jvm.MethodName) prog_1_method_53_code (3 : Nat) (Option.some Jvm.ClassFile.FieldType.int)) ∈ lw_all := lw_g (lw_at lw_m6 213 rfl) rfl
theorem q1528 : (Jvm.Cond.instanceMethod ({ cls := "LikedOrders", name := "worst", desc := "()I" } : Jvm.MethodName)) ∈ lw_all := lw_g (lw_at lw_m6 218 rfl) rfl
theorem q1529 : (Jvm.Cond.selects "LikedOrders" ({ cls := "LikedOrders", name := "worst", desc := "()I" } : Jvm.MethodName) ({ cls := "LikedOrders", name := "worst", desc := "()I" } : Jvm.MethodName)) ∈ lw_all := lw_g (lw_at lw_m6 219 rfl) rfl
theorem q1530 : (Jvm.Cond.code ({ cls := "LikedOrders", name := "worst", desc := "()I" } : Jvm.MethodName) prog_1_method_54_code (6 : Nat) (Option.some Jvm.ClassFile.FieldType.int)) ∈ lw_all := lw_g (lw_at lw_m6 220 rfl) rfl
theorem q1535 : (Jvm.Cond.instanceMethod ({ cls := "LikedOrders", name := "swaps", desc := "()I" } : Jvm.MethodName)) ∈ lw_all := lw_g (lw_at lw_m6 225 rfl) rfl
theorem q1536 : (Jvm.Cond.selects "LikedOrders" ({ cls := "LikedOrders", name := "swaps", desc := "()I" } : Jvm.MethodName) ({ cls := "LikedOrders", name := "swaps", desc := "()I" } : Jvm.MethodName)) ∈ lw_all := lw_g (lw_at lw_m6 226 rfl) rfl
theorem q1537 : (Jvm.Cond.code ({ cls := "LikedOrders", name := "swaps", desc := "()I" } : Jvm.MethodName) prog_1_method_55_code (6 : Nat) (Option.some Jvm.ClassFile.FieldType.int)) ∈ lw_all := lw_g (lw_at lw_m6 227 rfl) rfl
theorem q1542 : (Jvm.Cond.instanceMethod ({ cls := "LikedOrders", name := "share", desc := "()F" } : Jvm.MethodName)) ∈ lw_all := lw_g (lw_at lw_m6 232 rfl) rfl
theorem q1543 : (Jvm.Cond.selects "LikedOrders" ({ cls := "LikedOrders", name := "share", desc := "()F" } : Jvm.MethodName) ({ cls := "LikedOrders", name := "share", desc := "()F" } : Jvm.MethodName)) ∈ lw_all := lw_g (lw_at lw_m6 233 rfl) rfl
theorem q1544 : (Jvm.Cond.code ({ cls := "LikedOrders", name := "share", desc := "()F" } : Jvm.MethodName) prog_1_method_56_code (3 : Nat) (Option.some Jvm.ClassFile.FieldType.float)) ∈ lw_all := lw_g (lw_at lw_m6 234 rfl) rfl
theorem q1549 : (Jvm.Cond.instanceMethod ({ cls := "LikedOrders", name := "meanPlace", desc := "(I)D" } : Jvm.MethodName)) ∈ lw_all := lw_g (lw_at lw_m6 239 rfl) rfl
theorem q1550 : (Jvm.Cond.selects "LikedOrders" ({ cls := "LikedOrders", name := "meanPlace", desc := "(I)D" } : Jvm.MethodName) ({ cls := "LikedOrders", name := "meanPlace", desc := "(I)D" } : Jvm.MethodName)) ∈ lw_all := lw_g (lw_at lw_m7 0 rfl) rfl
theorem q1551 : (Jvm.Cond.code ({ cls := "LikedOrders", name := "meanPlace", desc := "(I)D" } : Jvm.MethodName) prog_1_method_57_code (7 : Nat) (Option.some Jvm.ClassFile.FieldType.double)) ∈ lw_all := lw_g (lw_at lw_m7 1 rfl) rfl
theorem q1552 : (Jvm.Cond.methodLink "LikedOrders" (340 : Nat) ({ cls := "LikedOrders$Known", name := "mayBeNext", desc := "(II)Z" } : Jvm.MethodName)) ∈ lw_all := lw_g (lw_at lw_m7 2 rfl) rfl
theorem q1557 : (Jvm.Cond.instanceMethod ({ cls := "LikedOrders", name := "writeAnswers", desc := "()I" } : Jvm.MethodName)) ∈ lw_all := lw_g (lw_at lw_m7 7 rfl) rfl
theorem q1558 : (Jvm.Cond.selects "LikedOrders" ({ cls := "LikedOrders", name := "writeAnswers", desc := "()I" } : Jvm.MethodName) ({ cls := "LikedOrders", name := "writeAnswers", desc := "()I" } : Jvm.MethodName)) ∈ lw_all := lw_g (lw_at lw_m7 8 rfl) rfl
theorem q1559 : (Jvm.Cond.code ({ cls := "LikedOrders", name := "writeAnswers", desc := "()I" } : Jvm.MethodName) prog_1_method_60_code (4 : Nat) (Option.some Jvm.ClassFile.FieldType.int)) ∈ lw_all := lw_g (lw_at lw_m7 9 rfl) rfl
theorem q1560 : (Jvm.Cond.classLink "LikedOrders" (344 : Nat) "java/lang/StringBuilder") ∈ lw_all := lw_g (lw_at lw_m7 10 rfl) rfl
theorem q1561 : (Jvm.Cond.methodLink "LikedOrders" (354 : Nat) ({ cls := "java/lang/StringBuilder", name := "<init>", desc := "(I)V" } : Jvm.MethodName)) ∈ lw_all := lw_g (lw_at lw_m7 11 rfl) rfl
theorem q1562 : (Jvm.Cond.methodLink "LikedOrders" (346 : Nat) ({ cls := "java/lang/StringBuilder", name := "append", desc := "(C)Ljava/lang/StringBuilder;" } : Jvm.MethodName)) ∈ lw_all := lw_g (lw_at lw_m7 12 rfl) rfl
theorem q1563 : (Jvm.Cond.methodLink "LikedOrders" (355 : Nat) ({ cls := "LikedOrders", name := "name", desc := "(I)Ljava/lang/String;" } : Jvm.MethodName)) ∈ lw_all := lw_g (lw_at lw_m7 13 rfl) rfl
theorem q1564 : (Jvm.Cond.privateMethod ({ cls := "LikedOrders", name := "name", desc := "(I)Ljava/lang/String;" } : Jvm.MethodName)) ∈ lw_tbl := lw_at lw_m7 14 rfl
theorem q1565 : (Jvm.Cond.instanceMethod ({ cls := "LikedOrders", name := "name", desc := "(I)Ljava/lang/String;" } : Jvm.MethodName)) ∈ lw_all := lw_g (lw_at lw_m7 15 rfl) rfl
theorem q1566 : (Jvm.Cond.code ({ cls := "LikedOrders", name := "name", desc := "(I)Ljava/lang/String;" } : Jvm.MethodName) prog_1_method_59_code (2 : Nat) (Option.some (Jvm.ClassFile.FieldType.object "java/lang/String"))) ∈ lw_all := lw_g (lw_at lw_m7 16 rfl) rfl
theorem q1567 : (Jvm.Cond.methodLink "LikedOrders" (358 : Nat) ({ cls := "java/lang/StringBuilder", name := "append", desc := "(Ljava/lang/String;)Ljava/lang/StringBuilder;" } : Jvm.MethodName)) ∈ lw_all := lw_g (lw_at lw_m7 17 rfl) rfl
theorem q1568 : (Jvm.Cond.methodLink "LikedOrders" (361 : Nat) ({ cls := "LikedOrders", name := "write", desc := "(Ljava/lang/StringBuilder;)I" } : Jvm.MethodName)) ∈ lw_all := lw_g (lw_at lw_m7 18 rfl) rfl
theorem q1569 : (Jvm.Cond.privateMethod ({ cls := "LikedOrders", name := "write", desc := "(Ljava/lang/StringBuilder;)I" } : Jvm.MethodName)) ∈ lw_tbl := lw_at lw_m7 19 rfl
theorem q1570 : (Jvm.Cond.instanceMethod ({ cls := "LikedOrders", name := "write", desc := "(Ljava/lang/StringBuilder;)I" } : Jvm.MethodName)) ∈ lw_all := lw_g (lw_at lw_m7 20 rfl) rfl
theorem q1571 : (Jvm.Cond.code ({ cls := "LikedOrders", name := "write", desc := "(Ljava/lang/StringBuilder;)I" } : Jvm.MethodName) prog_1_method_58_code (2 : Nat) (Option.some Jvm.ClassFile.FieldType.int)) ∈ lw_all := lw_g (lw_at lw_m7 21 rfl) rfl
theorem q1572 : (Jvm.Cond.methodLink "LikedOrders" (343 : Nat) ({ cls := "java/lang/StringBuilder", name := "length", desc := "()I" } : Jvm.MethodName)) ∈ lw_all := lw_g (lw_at lw_m7 22 rfl) rfl
theorem q1573 : (Jvm.Cond.methodLink "LikedOrders" (350 : Nat) ({ cls := "java/lang/StringBuilder", name := "toString", desc := "()Ljava/lang/String;" } : Jvm.MethodName)) ∈ lw_all := lw_g (lw_at lw_m7 23 rfl) rfl
theorem q1578 : (Jvm.Cond.instanceMethod ({ cls := "LikedOrders", name := "writePlaces", desc := "()I" } : Jvm.MethodName)) ∈ lw_all := lw_g (lw_at lw_m7 28 rfl) rfl
theorem q1579 : (Jvm.Cond.selects "LikedOrders" ({ cls := "LikedOrders", name := "writePlaces", desc := "()I" } : Jvm.MethodName) ({ cls := "LikedOrders", name := "writePlaces", desc := "()I" } : Jvm.MethodName)) ∈ lw_all := lw_g (lw_at lw_m7 29 rfl) rfl
theorem q1580 : (Jvm.Cond.code ({ cls := "LikedOrders", name := "writePlaces", desc := "()I" } : Jvm.MethodName) prog_1_method_61_code (5 : Nat) (Option.some Jvm.ClassFile.FieldType.int)) ∈ lw_all := lw_g (lw_at lw_m7 30 rfl) rfl
theorem q1581 : (Jvm.Cond.stringRef "LikedOrders" (365 : Nat) "?") ∈ lw_tbl := lw_at lw_m7 31 rfl
theorem q1586 : (Jvm.Cond.instanceMethod ({ cls := "LikedOrders", name := "writeFirst", desc := "()I" } : Jvm.MethodName)) ∈ lw_all := lw_g (lw_at lw_m7 36 rfl) rfl
theorem q1587 : (Jvm.Cond.selects "LikedOrders" ({ cls := "LikedOrders", name := "writeFirst", desc := "()I" } : Jvm.MethodName) ({ cls := "LikedOrders", name := "writeFirst", desc := "()I" } : Jvm.MethodName)) ∈ lw_all := lw_g (lw_at lw_m7 37 rfl) rfl
theorem q1588 : (Jvm.Cond.code ({ cls := "LikedOrders", name := "writeFirst", desc := "()I" } : Jvm.MethodName) prog_1_method_62_code (6 : Nat) (Option.some Jvm.ClassFile.FieldType.int)) ∈ lw_all := lw_g (lw_at lw_m7 38 rfl) rfl
theorem q1593 : (Jvm.Cond.instanceMethod ({ cls := "LikedOrders", name := "textByte", desc := "(I)I" } : Jvm.MethodName)) ∈ lw_all := lw_g (lw_at lw_m7 43 rfl) rfl
theorem q1594 : (Jvm.Cond.selects "LikedOrders" ({ cls := "LikedOrders", name := "textByte", desc := "(I)I" } : Jvm.MethodName) ({ cls := "LikedOrders", name := "textByte", desc := "(I)I" } : Jvm.MethodName)) ∈ lw_all := lw_g (lw_at lw_m7 44 rfl) rfl
theorem q1595 : (Jvm.Cond.code ({ cls := "LikedOrders", name := "textByte", desc := "(I)I" } : Jvm.MethodName) prog_1_method_63_code (2 : Nat) (Option.some Jvm.ClassFile.FieldType.int)) ∈ lw_all := lw_g (lw_at lw_m7 45 rfl) rfl
theorem q1600 : (Jvm.Cond.instanceMethod ({ cls := "LikedOrders", name := "ask", desc := "(II)I" } : Jvm.MethodName)) ∈ lw_all := lw_g (lw_at lw_m7 50 rfl) rfl
theorem q1601 : (Jvm.Cond.selects "LikedOrders" ({ cls := "LikedOrders", name := "ask", desc := "(II)I" } : Jvm.MethodName) ({ cls := "LikedOrders", name := "ask", desc := "(II)I" } : Jvm.MethodName)) ∈ lw_all := lw_g (lw_at lw_m7 51 rfl) rfl
theorem q1602 : (Jvm.Cond.code ({ cls := "LikedOrders", name := "ask", desc := "(II)I" } : Jvm.MethodName) prog_1_method_65_code (5 : Nat) (Option.some Jvm.ClassFile.FieldType.int)) ∈ lw_all := lw_g (lw_at lw_m7 52 rfl) rfl
theorem q1603 : (Jvm.Cond.methodLink "LikedOrders" (379 : Nat) ({ cls := "LikedOrders", name := "remember", desc := "()LLikedOrders$State;" } : Jvm.MethodName)) ∈ lw_all := lw_g (lw_at lw_m7 53 rfl) rfl
theorem q1604 : (Jvm.Cond.privateMethod ({ cls := "LikedOrders", name := "remember", desc := "()LLikedOrders$State;" } : Jvm.MethodName)) ∈ lw_tbl := lw_at lw_m7 54 rfl
theorem q1605 : (Jvm.Cond.instanceMethod ({ cls := "LikedOrders", name := "remember", desc := "()LLikedOrders$State;" } : Jvm.MethodName)) ∈ lw_all := lw_g (lw_at lw_m7 55 rfl) rfl
theorem q1606 : (Jvm.Cond.code ({ cls := "LikedOrders", name := "remember", desc := "()LLikedOrders$State;" } : Jvm.MethodName) prog_1_method_64_code (2 : Nat) (Option.some (Jvm.ClassFile.FieldType.object "LikedOrders$State"))) ∈ lw_all := lw_g (lw_at lw_m7 56 rfl) rfl
theorem q1607 : (Jvm.Cond.interfaceEntry "LikedOrders" (368 : Nat)) ∈ lw_tbl := lw_at lw_m7 57 rfl
theorem q1608 : (Jvm.Cond.methodLink "LikedOrders" (368 : Nat) ({ cls := "java/util/Deque", name := "removeFirst", desc := "()Ljava/lang/Object;" } : Jvm.MethodName)) ∈ lw_all := lw_g (lw_at lw_m7 58 rfl) rfl
theorem q1626 : (Jvm.Cond.interfaceEntry "LikedOrders" (372 : Nat)) ∈ lw_tbl := lw_at lw_m7 76 rfl
theorem q1627 : (Jvm.Cond.methodLink "LikedOrders" (372 : Nat) ({ cls := "java/util/Deque", name := "addLast", desc := "(Ljava/lang/Object;)V" } : Jvm.MethodName)) ∈ lw_all := lw_g (lw_at lw_m7 77 rfl) rfl
theorem q1652 : (Jvm.Cond.methodLink "LikedOrders" (376 : Nat) ({ cls := "LikedOrders$State", name := "copy", desc := "()LLikedOrders$State;" } : Jvm.MethodName)) ∈ lw_all := lw_g (lw_at lw_m7 102 rfl) rfl
theorem q1665 : (Jvm.Cond.methodLink "LikedOrders" (382 : Nat) ({ cls := "LikedOrders$State", name := "answers", desc := "(II)V" } : Jvm.MethodName)) ∈ lw_all := lw_g (lw_at lw_m7 115 rfl) rfl
theorem q1670 : (Jvm.Cond.instanceMethod ({ cls := "LikedOrders", name := "goOn", desc := "(I)I" } : Jvm.MethodName)) ∈ lw_all := lw_g (lw_at lw_m7 120 rfl) rfl
theorem q1671 : (Jvm.Cond.selects "LikedOrders" ({ cls := "LikedOrders", name := "goOn", desc := "(I)I" } : Jvm.MethodName) ({ cls := "LikedOrders", name := "goOn", desc := "(I)I" } : Jvm.MethodName)) ∈ lw_all := lw_g (lw_at lw_m7 121 rfl) rfl
theorem q1672 : (Jvm.Cond.code ({ cls := "LikedOrders", name := "goOn", desc := "(I)I" } : Jvm.MethodName) prog_1_method_66_code (7 : Nat) (Option.some Jvm.ClassFile.FieldType.int)) ∈ lw_all := lw_g (lw_at lw_m7 122 rfl) rfl
theorem q1677 : (Jvm.Cond.instanceMethod ({ cls := "LikedOrders", name := "takeBack", desc := "(I)I" } : Jvm.MethodName)) ∈ lw_all := lw_g (lw_at lw_m7 127 rfl) rfl
theorem q1678 : (Jvm.Cond.selects "LikedOrders" ({ cls := "LikedOrders", name := "takeBack", desc := "(I)I" } : Jvm.MethodName) ({ cls := "LikedOrders", name := "takeBack", desc := "(I)I" } : Jvm.MethodName)) ∈ lw_all := lw_g (lw_at lw_m7 128 rfl) rfl
theorem q1679 : (Jvm.Cond.code ({ cls := "LikedOrders", name := "takeBack", desc := "(I)I" } : Jvm.MethodName) prog_1_method_67_code (4 : Nat) (Option.some Jvm.ClassFile.FieldType.int)) ∈ lw_all := lw_g (lw_at lw_m7 129 rfl) rfl
theorem q1680 : (Jvm.Cond.methodLink "LikedOrders" (385 : Nat) ({ cls := "LikedOrders$State", name := "takesBack", desc := "(I)V" } : Jvm.MethodName)) ∈ lw_all := lw_g (lw_at lw_m7 130 rfl) rfl
theorem q1706 : (Jvm.Cond.instanceMethod ({ cls := "LikedOrders", name := "tidy", desc := "()I" } : Jvm.MethodName)) ∈ lw_all := lw_g (lw_at lw_m7 156 rfl) rfl
theorem q1707 : (Jvm.Cond.selects "LikedOrders" ({ cls := "LikedOrders", name := "tidy", desc := "()I" } : Jvm.MethodName) ({ cls := "LikedOrders", name := "tidy", desc := "()I" } : Jvm.MethodName)) ∈ lw_all := lw_g (lw_at lw_m7 157 rfl) rfl
theorem q1708 : (Jvm.Cond.code ({ cls := "LikedOrders", name := "tidy", desc := "()I" } : Jvm.MethodName) prog_1_method_68_code (4 : Nat) (Option.some Jvm.ClassFile.FieldType.int)) ∈ lw_all := lw_g (lw_at lw_m7 158 rfl) rfl
theorem q1713 : (Jvm.Cond.instanceMethod ({ cls := "LikedOrders", name := "addItem", desc := "(II)I" } : Jvm.MethodName)) ∈ lw_all := lw_g (lw_at lw_m7 163 rfl) rfl
theorem q1714 : (Jvm.Cond.selects "LikedOrders" ({ cls := "LikedOrders", name := "addItem", desc := "(II)I" } : Jvm.MethodName) ({ cls := "LikedOrders", name := "addItem", desc := "(II)I" } : Jvm.MethodName)) ∈ lw_all := lw_g (lw_at lw_m7 164 rfl) rfl
theorem q1715 : (Jvm.Cond.code ({ cls := "LikedOrders", name := "addItem", desc := "(II)I" } : Jvm.MethodName) prog_1_method_70_code (6 : Nat) (Option.some Jvm.ClassFile.FieldType.int)) ∈ lw_all := lw_g (lw_at lw_m7 165 rfl) rfl
theorem q1716 : (Jvm.Cond.methodLink "LikedOrders" (388 : Nat) ({ cls := "LikedOrders", name := "nameIn", desc := "(I)Ljava/lang/String;" } : Jvm.MethodName)) ∈ lw_all := lw_g (lw_at lw_m7 166 rfl) rfl
theorem q1717 : (Jvm.Cond.privateMethod ({ cls := "LikedOrders", name := "nameIn", desc := "(I)Ljava/lang/String;" } : Jvm.MethodName)) ∈ lw_tbl := lw_at lw_m7 167 rfl
theorem q1718 : (Jvm.Cond.instanceMethod ({ cls := "LikedOrders", name := "nameIn", desc := "(I)Ljava/lang/String;" } : Jvm.MethodName)) ∈ lw_all := lw_g (lw_at lw_m7 168 rfl) rfl
theorem q1719 : (Jvm.Cond.code ({ cls := "LikedOrders", name := "nameIn", desc := "(I)Ljava/lang/String;" } : Jvm.MethodName) prog_1_method_69_code (4 : Nat) (Option.some (Jvm.ClassFile.FieldType.object "java/lang/String"))) ∈ lw_all := lw_g (lw_at lw_m7 169 rfl) rfl
theorem q1720 : (Jvm.Cond.methodLink "LikedOrders" (391 : Nat) ({ cls := "java/lang/String", name := "isEmpty", desc := "()Z" } : Jvm.MethodName)) ∈ lw_all := lw_g (lw_at lw_m7 170 rfl) rfl
theorem q1724 : (Jvm.Cond.methodLink "LikedOrders" (395 : Nat) ({ cls := "LikedOrders$State", name := "named", desc := "(Ljava/lang/String;)I" } : Jvm.MethodName)) ∈ lw_all := lw_g (lw_at lw_m7 174 rfl) rfl
theorem q1725 : (Jvm.Cond.methodLink "LikedOrders" (399 : Nat) ({ cls := "LikedOrders$Item", name := "<init>", desc := "(Ljava/lang/String;I)V" } : Jvm.MethodName)) ∈ lw_all := lw_g (lw_at lw_m7 175 rfl) rfl
theorem q1726 : (Jvm.Cond.methodLink "LikedOrders" (402 : Nat) ({ cls := "LikedOrders$Row", name := "add", desc := "(LLikedOrders$Told;)V" } : Jvm.MethodName)) ∈ lw_all := lw_g (lw_at lw_m7 176 rfl) rfl
theorem q1731 : (Jvm.Cond.instanceMethod ({ cls := "LikedOrders", name := "dropItem", desc := "(I)I" } : Jvm.MethodName)) ∈ lw_all := lw_g (lw_at lw_m7 181 rfl) rfl
theorem q1732 : (Jvm.Cond.selects "LikedOrders" ({ cls := "LikedOrders", name := "dropItem", desc := "(I)I" } : Jvm.MethodName) ({ cls := "LikedOrders", name := "dropItem", desc := "(I)I" } : Jvm.MethodName)) ∈ lw_all := lw_g (lw_at lw_m7 182 rfl) rfl
theorem q1733 : (Jvm.Cond.code ({ cls := "LikedOrders", name := "dropItem", desc := "(I)I" } : Jvm.MethodName) prog_1_method_71_code (7 : Nat) (Option.some Jvm.ClassFile.FieldType.int)) ∈ lw_all := lw_g (lw_at lw_m7 183 rfl) rfl
theorem q1734 : (Jvm.Cond.methodLink "LikedOrders" (406 : Nat) ({ cls := "LikedOrders$Row", name := "remove", desc := "(I)LLikedOrders$Told;" } : Jvm.MethodName)) ∈ lw_all := lw_g (lw_at lw_m7 184 rfl) rfl
theorem q1735 : (Jvm.Cond.classLink "LikedOrders" (103 : Nat) "LikedOrders$Row") ∈ lw_all := lw_g (lw_at lw_m7 185 rfl) rfl
theorem q1736 : (Jvm.Cond.methodLinkNest "LikedOrders" (409 : Nat) ({ cls := "LikedOrders$Row", name := "<init>", desc := "()V" } : Jvm.MethodName) "LikedOrders") ∈ lw_tbl := lw_at lw_m7 186 rfl
theorem q1737 : (Jvm.Cond.methodLink "LikedOrders" (410 : Nat) ({ cls := "LikedOrders$Answer", name := "without", desc := "(I)LLikedOrders$Answer;" } : Jvm.MethodName)) ∈ lw_all := lw_g (lw_at lw_m7 187 rfl) rfl
theorem q1748 : (Jvm.Cond.instanceMethod ({ cls := "LikedOrders", name := "setWorth", desc := "(II)I" } : Jvm.MethodName)) ∈ lw_all := lw_g (lw_at lw_m7 198 rfl) rfl
theorem q1749 : (Jvm.Cond.selects "LikedOrders" ({ cls := "LikedOrders", name := "setWorth", desc := "(II)I" } : Jvm.MethodName) ({ cls := "LikedOrders", name := "setWorth", desc := "(II)I" } : Jvm.MethodName)) ∈ lw_all := lw_g (lw_at lw_m7 199 rfl) rfl
theorem q1750 : (Jvm.Cond.code ({ cls := "LikedOrders", name := "setWorth", desc := "(II)I" } : Jvm.MethodName) prog_1_method_72_code (4 : Nat) (Option.some Jvm.ClassFile.FieldType.int)) ∈ lw_all := lw_g (lw_at lw_m7 200 rfl) rfl
theorem q1751 : (Jvm.Cond.methodLink "LikedOrders" (414 : Nat) ({ cls := "LikedOrders$Row", name := "replace", desc := "(ILLikedOrders$Told;)V" } : Jvm.MethodName)) ∈ lw_all := lw_g (lw_at lw_m7 201 rfl) rfl
theorem q1768 : (Jvm.Cond.instanceMethod ({ cls := "LikedOrders", name := "setMethod", desc := "(I)I" } : Jvm.MethodName)) ∈ lw_all := lw_g (lw_at lw_m7 218 rfl) rfl
theorem q1769 : (Jvm.Cond.selects "LikedOrders" ({ cls := "LikedOrders", name := "setMethod", desc := "(I)I" } : Jvm.MethodName) ({ cls := "LikedOrders", name := "setMethod", desc := "(I)I" } : Jvm.MethodName)) ∈ lw_all := lw_g (lw_at lw_m7 219 rfl) rfl
theorem q1770 : (Jvm.Cond.code ({ cls := "LikedOrders", name := "setMethod", desc := "(I)I" } : Jvm.MethodName) prog_1_method_73_code (3 : Nat) (Option.some Jvm.ClassFile.FieldType.int)) ∈ lw_all := lw_g (lw_at lw_m7 220 rfl) rfl
theorem q1775 : (Jvm.Cond.instanceMethod ({ cls := "LikedOrders", name := "undo", desc := "()I" } : Jvm.MethodName)) ∈ lw_all := lw_g (lw_at lw_m7 225 rfl) rfl
theorem q1776 : (Jvm.Cond.selects "LikedOrders" ({ cls := "LikedOrders", name := "undo", desc := "()I" } : Jvm.MethodName) ({ cls := "LikedOrders", name := "undo", desc := "()I" } : Jvm.MethodName)) ∈ lw_all := lw_g (lw_at lw_m7 226 rfl) rfl
theorem q1777 : (Jvm.Cond.code ({ cls := "LikedOrders", name := "undo", desc := "()I" } : Jvm.MethodName) prog_1_method_74_code (1 : Nat) (Option.some Jvm.ClassFile.FieldType.int)) ∈ lw_all := lw_g (lw_at lw_m7 227 rfl) rfl
theorem q1778 : (Jvm.Cond.interfaceEntry "LikedOrders" (418 : Nat)) ∈ lw_tbl := lw_at lw_m7 228 rfl
theorem q1786 : (Jvm.Cond.interfaceEntry "LikedOrders" (419 : Nat)) ∈ lw_tbl := lw_at lw_m7 236 rfl
theorem q1787 : (Jvm.Cond.methodLink "LikedOrders" (419 : Nat) ({ cls := "java/util/Deque", name := "removeLast", desc := "()Ljava/lang/Object;" } : Jvm.MethodName)) ∈ lw_all := lw_g (lw_at lw_m7 237 rfl) rfl
theorem q1806 : (Jvm.Cond.instanceMethod ({ cls := "LikedOrders", name := "save", desc := "(I)I" } : Jvm.MethodName)) ∈ lw_all := lw_g (lw_at lw_m8 16 rfl) rfl
theorem q1807 : (Jvm.Cond.selects "LikedOrders" ({ cls := "LikedOrders", name := "save", desc := "(I)I" } : Jvm.MethodName) ({ cls := "LikedOrders", name := "save", desc := "(I)I" } : Jvm.MethodName)) ∈ lw_all := lw_g (lw_at lw_m8 17 rfl) rfl
theorem q1808 : (Jvm.Cond.code ({ cls := "LikedOrders", name := "save", desc := "(I)I" } : Jvm.MethodName) prog_1_method_76_code (3 : Nat) (Option.some Jvm.ClassFile.FieldType.int)) ∈ lw_all := lw_g (lw_at lw_m8 18 rfl) rfl
theorem q1813 : (Jvm.Cond.instanceMethod ({ cls := "LikedOrders", name := "restore", desc := "(I)I" } : Jvm.MethodName)) ∈ lw_all := lw_g (lw_at lw_m8 23 rfl) rfl
theorem q1814 : (Jvm.Cond.selects "LikedOrders" ({ cls := "LikedOrders", name := "restore", desc := "(I)I" } : Jvm.MethodName) ({ cls := "LikedOrders", name := "restore", desc := "(I)I" } : Jvm.MethodName)) ∈ lw_all := lw_g (lw_at lw_m8 24 rfl) rfl
theorem q1815 : (Jvm.Cond.code ({ cls := "LikedOrders", name := "restore", desc := "(I)I" } : Jvm.MethodName) prog_1_method_77_code (2 : Nat) (Option.some Jvm.ClassFile.FieldType.int)) ∈ lw_all := lw_g (lw_at lw_m8 25 rfl) rfl
theorem q2442 : (Jvm.Cond.castable "LikedOrders" "java/lang/Object") ∈ lw_tbl := lw_at lw_m10 172 rfl
theorem in_X1 : ∀ w ∈ wsX10, w ∈ lw_all := lw_in wsX10 [204, 206, 208, 210, 212, 214, 216, 218, 220, 222, 224, 226] (by decide +kernel) (by decide +kernel)
/-! LikedOrders$Answer -/
def RX10 : String := "LikedOrders$Answer"
def TX10 : u_T := fun k => match k with
  | 0 => ("LikedOrders$Answer", "better", "I", true)
  | _ => ("LikedOrders$Answer", "worse", "I", true)
def tyX10 : Nat → FieldType := fun k => match k with
  | 0 => .int
  | _ => .int
abbrev wsX100 : List Cond := u_ws RX10 TX10 2
theorem nmX10 : ∀ a, a < 2 → ∀ b, b < 2 → a ≠ b → (TX10 a).2.1 ≠ (TX10 b).2.1 := by decide +kernel
theorem tyX10_ok : ∀ k, k < 2 → parseFieldDescriptor (TX10 k).2.2.1 = some (tyX10 k) := by decide +kernel
abbrev cX10_init : ByteArray := prog_3_method_1_code
def yX10_init : MethodName := ⟨RX10, "<init>", "(II)V"⟩
abbrev cX10_without : ByteArray := prog_3_method_2_code
def yX10_without : MethodName := ⟨RX10, "without", "(I)LLikedOrders$Answer;"⟩
theorem q145 : (Jvm.Cond.initialized "LikedOrders$Answer") ∈ lw_all := lw_g (lw_at lw_m1 35 rfl) rfl
theorem q940 : (Jvm.Cond.selects "LikedOrders$Answer" ({ cls := "java/lang/Object", name := "getClass", desc := "()Ljava/lang/Class;" } : Jvm.MethodName) ({ cls := "java/lang/Object", name := "getClass", desc := "()Ljava/lang/Class;" } : Jvm.MethodName)) ∈ lw_all := lw_g (lw_at lw_m4 110 rfl) rfl
theorem q1025 : (Jvm.Cond.instantiable "LikedOrders$Answer" (2 : Nat)) ∈ lw_all := lw_g (lw_at lw_m4 195 rfl) rfl
theorem q1027 : (Jvm.Cond.instanceMethod ({ cls := "LikedOrders$Answer", name := "<init>", desc := "(II)V" } : Jvm.MethodName)) ∈ lw_all := lw_g (lw_at lw_m4 197 rfl) rfl
theorem q1028 : (Jvm.Cond.code ({ cls := "LikedOrders$Answer", name := "<init>", desc := "(II)V" } : Jvm.MethodName) prog_3_method_1_code (3 : Nat) (Option.none : Option Jvm.ClassFile.FieldType)) ∈ lw_all := lw_g (lw_at lw_m4 198 rfl) rfl
theorem q1029 : (Jvm.Cond.methodLinkNest "LikedOrders$Answer" (1 : Nat) ({ cls := "LikedOrders$Told", name := "<init>", desc := "()V" } : Jvm.MethodName) "LikedOrders") ∈ lw_tbl := lw_at lw_m4 199 rfl
theorem q1030 : (Jvm.Cond.fieldLink "LikedOrders$Answer" (7 : Nat) "LikedOrders$Answer" "better" "I") ∈ lw_all := lw_g (lw_at lw_m4 200 rfl) rfl
theorem q1034 : (Jvm.Cond.fieldLink "LikedOrders$Answer" (13 : Nat) "LikedOrders$Answer" "worse" "I") ∈ lw_all := lw_g (lw_at lw_m4 204 rfl) rfl
theorem q1038 : (Jvm.Cond.laysFinal "LikedOrders$Answer" "LikedOrders$Answer" "better" "I") ∈ lw_all := lw_g (lw_at lw_m4 208 rfl) rfl
theorem q1039 : (Jvm.Cond.soleField "LikedOrders$Answer" "better") ∈ lw_all := lw_g (lw_at lw_m4 209 rfl) rfl
theorem q1040 : (Jvm.Cond.laysFinal "LikedOrders$Answer" "LikedOrders$Answer" "worse" "I") ∈ lw_all := lw_g (lw_at lw_m4 210 rfl) rfl
theorem q1041 : (Jvm.Cond.soleField "LikedOrders$Answer" "worse") ∈ lw_all := lw_g (lw_at lw_m4 211 rfl) rfl
theorem q1042 : (Jvm.Cond.superclass "LikedOrders$Answer" "LikedOrders$Told") ∈ lw_all := lw_g (lw_at lw_m4 212 rfl) rfl
theorem q1738 : (Jvm.Cond.instanceMethod ({ cls := "LikedOrders$Answer", name := "without", desc := "(I)LLikedOrders$Answer;" } : Jvm.MethodName)) ∈ lw_all := lw_g (lw_at lw_m7 188 rfl) rfl
theorem q1739 : (Jvm.Cond.selects "LikedOrders$Answer" ({ cls := "LikedOrders$Answer", name := "without", desc := "(I)LLikedOrders$Answer;" } : Jvm.MethodName) ({ cls := "LikedOrders$Answer", name := "without", desc := "(I)LLikedOrders$Answer;" } : Jvm.MethodName)) ∈ lw_all := lw_g (lw_at lw_m7 189 rfl) rfl
theorem q1740 : (Jvm.Cond.code ({ cls := "LikedOrders$Answer", name := "without", desc := "(I)LLikedOrders$Answer;" } : Jvm.MethodName) prog_3_method_2_code (2 : Nat) (Option.some (Jvm.ClassFile.FieldType.object "LikedOrders$Answer"))) ∈ lw_all := lw_g (lw_at lw_m7 190 rfl) rfl
theorem q1741 : (Jvm.Cond.classLink "LikedOrders$Answer" (8 : Nat) "LikedOrders$Answer") ∈ lw_all := lw_g (lw_at lw_m7 191 rfl) rfl
theorem q1742 : (Jvm.Cond.methodLinkNest "LikedOrders$Answer" (16 : Nat) ({ cls := "LikedOrders", name := "one", desc := "(Z)I" } : Jvm.MethodName) "LikedOrders") ∈ lw_tbl := lw_at lw_m7 192 rfl
theorem q1743 : (Jvm.Cond.methodLink "LikedOrders$Answer" (22 : Nat) ({ cls := "LikedOrders$Answer", name := "<init>", desc := "(II)V" } : Jvm.MethodName)) ∈ lw_all := lw_g (lw_at lw_m7 193 rfl) rfl
theorem q2439 : (Jvm.Cond.castable "LikedOrders$Answer" "LikedOrders$Told") ∈ lw_tbl := lw_at lw_m10 169 rfl
theorem q2457 : (Jvm.Cond.castable "LikedOrders$Answer" "java/lang/Object") ∈ lw_tbl := lw_at lw_m10 187 rfl
theorem in_X10 : ∀ w ∈ wsX100, w ∈ lw_all := lw_in wsX100 [1038, 1040] (by decide +kernel) (by decide +kernel)
/-! LikedOrders$Method -/
def RX11 : String := "LikedOrders$Method"
def TX11 : u_T := fun k => match k with
  | _ => ("LikedOrders$Method", "judge", "LLikedOrders$Judge;", true)
def tyX11 : Nat → FieldType := fun k => match k with
  | _ => .object "LikedOrders$Judge"
abbrev wsX110 : List Cond := u_ws RX11 TX11 1
theorem nmX11 : ∀ a, a < 1 → ∀ b, b < 1 → a ≠ b → (TX11 a).2.1 ≠ (TX11 b).2.1 := by decide +kernel
theorem tyX11_ok : ∀ k, k < 1 → parseFieldDescriptor (TX11 k).2.2.1 = some (tyX11 k) := by decide +kernel
abbrev cX11_init : ByteArray := prog_8_method_1_code
def yX11_init : MethodName := ⟨RX11, "<init>", "(LLikedOrders$Judge;)V"⟩
abbrev cX11_orders : ByteArray := prog_8_method_2_code
def yX11_orders : MethodName := ⟨RX11, "orders", "([II)[I"⟩
abbrev cX11_byPairs : ByteArray := prog_8_method_7_code
def yX11_byPairs : MethodName := ⟨RX11, "byPairs", "([I)[I"⟩
abbrev cX11_placeOf : ByteArray := prog_8_method_8_code
def yX11_placeOf : MethodName := ⟨RX11, "placeOf", "([II)I"⟩
abbrev cX11_putsIn : ByteArray := prog_8_method_4_code
def yX11_putsIn : MethodName := ⟨RX11, "putsIn", "([IIII)I"⟩
abbrev cX11_byHalving : ByteArray := prog_8_method_5_code
def yX11_byHalving : MethodName := ⟨RX11, "byHalving", "([I)[I"⟩
abbrev cX11_byMerging : ByteArray := prog_8_method_6_code
def yX11_byMerging : MethodName := ⟨RX11, "byMerging", "([I)[I"⟩
abbrev cX11_part : ByteArray := prog_8_method_3_code
def yX11_part : MethodName := ⟨RX11, "part", "([III)[I"⟩
theorem q147 : (Jvm.Cond.initialized "LikedOrders$Method") ∈ lw_all := lw_g (lw_at lw_m1 37 rfl) rfl
theorem q944 : (Jvm.Cond.selects "LikedOrders$Method" ({ cls := "java/lang/Object", name := "getClass", desc := "()Ljava/lang/Class;" } : Jvm.MethodName) ({ cls := "java/lang/Object", name := "getClass", desc := "()Ljava/lang/Class;" } : Jvm.MethodName)) ∈ lw_all := lw_g (lw_at lw_m4 114 rfl) rfl
theorem q1299 : (Jvm.Cond.instantiable "LikedOrders$Method" (1 : Nat)) ∈ lw_all := lw_g (lw_at lw_m5 229 rfl) rfl
theorem q1317 : (Jvm.Cond.instanceMethod ({ cls := "LikedOrders$Method", name := "<init>", desc := "(LLikedOrders$Judge;)V" } : Jvm.MethodName)) ∈ lw_all := lw_g (lw_at lw_m6 7 rfl) rfl
theorem q1318 : (Jvm.Cond.code ({ cls := "LikedOrders$Method", name := "<init>", desc := "(LLikedOrders$Judge;)V" } : Jvm.MethodName) prog_8_method_1_code (2 : Nat) (Option.none : Option Jvm.ClassFile.FieldType)) ∈ lw_all := lw_g (lw_at lw_m6 8 rfl) rfl
theorem q1319 : (Jvm.Cond.methodLink "LikedOrders$Method" (3 : Nat) ({ cls := "java/lang/Object", name := "<init>", desc := "()V" } : Jvm.MethodName)) ∈ lw_all := lw_g (lw_at lw_m6 9 rfl) rfl
theorem q1320 : (Jvm.Cond.fieldLink "LikedOrders$Method" (9 : Nat) "LikedOrders$Method" "judge" "LLikedOrders$Judge;") ∈ lw_all := lw_g (lw_at lw_m6 10 rfl) rfl
theorem q1321 : (Jvm.Cond.laysFinal "LikedOrders$Method" "LikedOrders$Method" "judge" "LLikedOrders$Judge;") ∈ lw_all := lw_g (lw_at lw_m6 11 rfl) rfl
theorem q1322 : (Jvm.Cond.soleField "LikedOrders$Method" "judge") ∈ lw_all := lw_g (lw_at lw_m6 12 rfl) rfl
theorem q1323 : (Jvm.Cond.superclass "LikedOrders$Method" "java/lang/Object") ∈ lw_all := lw_g (lw_at lw_m6 13 rfl) rfl
theorem q1329 : (Jvm.Cond.instanceMethod ({ cls := "LikedOrders$Method", name := "orders", desc := "([II)[I" } : Jvm.MethodName)) ∈ lw_all := lw_g (lw_at lw_m6 19 rfl) rfl
theorem q1330 : (Jvm.Cond.selects "LikedOrders$Method" ({ cls := "LikedOrders$Method", name := "orders", desc := "([II)[I" } : Jvm.MethodName) ({ cls := "LikedOrders$Method", name := "orders", desc := "([II)[I" } : Jvm.MethodName)) ∈ lw_all := lw_g (lw_at lw_m6 20 rfl) rfl
theorem q1331 : (Jvm.Cond.code ({ cls := "LikedOrders$Method", name := "orders", desc := "([II)[I" } : Jvm.MethodName) prog_8_method_2_code (3 : Nat) (Option.some (Jvm.ClassFile.FieldType.array Jvm.ClassFile.FieldType.int))) ∈ lw_all := lw_g (lw_at lw_m6 21 rfl) rfl
theorem q1332 : (Jvm.Cond.methodLink "LikedOrders$Method" (15 : Nat) ({ cls := "LikedOrders$Method", name := "byPairs", desc := "([I)[I" } : Jvm.MethodName)) ∈ lw_all := lw_g (lw_at lw_m6 22 rfl) rfl
theorem q1333 : (Jvm.Cond.privateMethod ({ cls := "LikedOrders$Method", name := "byPairs", desc := "([I)[I" } : Jvm.MethodName)) ∈ lw_tbl := lw_at lw_m6 23 rfl
theorem q1334 : (Jvm.Cond.instanceMethod ({ cls := "LikedOrders$Method", name := "byPairs", desc := "([I)[I" } : Jvm.MethodName)) ∈ lw_all := lw_g (lw_at lw_m6 24 rfl) rfl
theorem q1335 : (Jvm.Cond.code ({ cls := "LikedOrders$Method", name := "byPairs", desc := "([I)[I" } : Jvm.MethodName) prog_8_method_7_code (12 : Nat) (Option.some (Jvm.ClassFile.FieldType.array Jvm.ClassFile.FieldType.int))) ∈ lw_all := lw_g (lw_at lw_m6 25 rfl) rfl
theorem q1336 : (Jvm.Cond.methodLink "LikedOrders$Method" (31 : Nat) ({ cls := "LikedOrders$Judge", name := "prefers", desc := "(III)Z" } : Jvm.MethodName)) ∈ lw_all := lw_g (lw_at lw_m6 26 rfl) rfl
theorem q1376 : (Jvm.Cond.methodLinkNest "LikedOrders$Method" (49 : Nat) ({ cls := "LikedOrders", name := "one", desc := "(Z)I" } : Jvm.MethodName) "LikedOrders") ∈ lw_tbl := lw_at lw_m6 66 rfl
theorem q1377 : (Jvm.Cond.methodLink "LikedOrders$Method" (45 : Nat) ({ cls := "LikedOrders$Method", name := "orders", desc := "([II)[I" } : Jvm.MethodName)) ∈ lw_all := lw_g (lw_at lw_m6 67 rfl) rfl
theorem q1378 : (Jvm.Cond.methodLink "LikedOrders$Method" (25 : Nat) ({ cls := "java/lang/System", name := "arraycopy", desc := "(Ljava/lang/Object;ILjava/lang/Object;II)V" } : Jvm.MethodName)) ∈ lw_all := lw_g (lw_at lw_m6 68 rfl) rfl
theorem q1379 : (Jvm.Cond.methodLink "LikedOrders$Method" (53 : Nat) ({ cls := "java/lang/Math", name := "min", desc := "(II)I" } : Jvm.MethodName)) ∈ lw_all := lw_g (lw_at lw_m6 69 rfl) rfl
theorem q1380 : (Jvm.Cond.methodLink "LikedOrders$Method" (59 : Nat) ({ cls := "LikedOrders$Method", name := "placeOf", desc := "([II)I" } : Jvm.MethodName)) ∈ lw_all := lw_g (lw_at lw_m6 70 rfl) rfl
theorem q1381 : (Jvm.Cond.static ({ cls := "LikedOrders$Method", name := "placeOf", desc := "([II)I" } : Jvm.MethodName)) ∈ lw_all := lw_g (lw_at lw_m6 71 rfl) rfl
theorem q1382 : (Jvm.Cond.code ({ cls := "LikedOrders$Method", name := "placeOf", desc := "([II)I" } : Jvm.MethodName) prog_8_method_8_code (3 : Nat) (Option.some Jvm.ClassFile.FieldType.int)) ∈ lw_all := lw_g (lw_at lw_m6 72 rfl) rfl
theorem q1383 : (Jvm.Cond.methodLink "LikedOrders$Method" (37 : Nat) ({ cls := "LikedOrders$Method", name := "putsIn", desc := "([IIII)I" } : Jvm.MethodName)) ∈ lw_all := lw_g (lw_at lw_m6 73 rfl) rfl
theorem q1384 : (Jvm.Cond.privateMethod ({ cls := "LikedOrders$Method", name := "putsIn", desc := "([IIII)I" } : Jvm.MethodName)) ∈ lw_tbl := lw_at lw_m6 74 rfl
theorem q1385 : (Jvm.Cond.instanceMethod ({ cls := "LikedOrders$Method", name := "putsIn", desc := "([IIII)I" } : Jvm.MethodName)) ∈ lw_all := lw_g (lw_at lw_m6 75 rfl) rfl
theorem q1386 : (Jvm.Cond.code ({ cls := "LikedOrders$Method", name := "putsIn", desc := "([IIII)I" } : Jvm.MethodName) prog_8_method_4_code (8 : Nat) (Option.some Jvm.ClassFile.FieldType.int)) ∈ lw_all := lw_g (lw_at lw_m6 76 rfl) rfl
theorem q1387 : (Jvm.Cond.methodLink "LikedOrders$Method" (19 : Nat) ({ cls := "LikedOrders$Method", name := "byHalving", desc := "([I)[I" } : Jvm.MethodName)) ∈ lw_all := lw_g (lw_at lw_m6 77 rfl) rfl
theorem q1388 : (Jvm.Cond.privateMethod ({ cls := "LikedOrders$Method", name := "byHalving", desc := "([I)[I" } : Jvm.MethodName)) ∈ lw_tbl := lw_at lw_m6 78 rfl
theorem q1389 : (Jvm.Cond.instanceMethod ({ cls := "LikedOrders$Method", name := "byHalving", desc := "([I)[I" } : Jvm.MethodName)) ∈ lw_all := lw_g (lw_at lw_m6 79 rfl) rfl
theorem q1390 : (Jvm.Cond.code ({ cls := "LikedOrders$Method", name := "byHalving", desc := "([I)[I" } : Jvm.MethodName) prog_8_method_5_code (5 : Nat) (Option.some (Jvm.ClassFile.FieldType.array Jvm.ClassFile.FieldType.int))) ∈ lw_all := lw_g (lw_at lw_m6 80 rfl) rfl
theorem q1391 : (Jvm.Cond.methodLink "LikedOrders$Method" (22 : Nat) ({ cls := "LikedOrders$Method", name := "byMerging", desc := "([I)[I" } : Jvm.MethodName)) ∈ lw_all := lw_g (lw_at lw_m6 81 rfl) rfl
theorem q1392 : (Jvm.Cond.privateMethod ({ cls := "LikedOrders$Method", name := "byMerging", desc := "([I)[I" } : Jvm.MethodName)) ∈ lw_tbl := lw_at lw_m6 82 rfl
theorem q1393 : (Jvm.Cond.instanceMethod ({ cls := "LikedOrders$Method", name := "byMerging", desc := "([I)[I" } : Jvm.MethodName)) ∈ lw_all := lw_g (lw_at lw_m6 83 rfl) rfl
theorem q1394 : (Jvm.Cond.code ({ cls := "LikedOrders$Method", name := "byMerging", desc := "([I)[I" } : Jvm.MethodName) prog_8_method_6_code (9 : Nat) (Option.some (Jvm.ClassFile.FieldType.array Jvm.ClassFile.FieldType.int))) ∈ lw_all := lw_g (lw_at lw_m6 84 rfl) rfl
theorem q1395 : (Jvm.Cond.methodLink "LikedOrders$Method" (41 : Nat) ({ cls := "LikedOrders$Method", name := "part", desc := "([III)[I" } : Jvm.MethodName)) ∈ lw_all := lw_g (lw_at lw_m6 85 rfl) rfl
theorem q1396 : (Jvm.Cond.static ({ cls := "LikedOrders$Method", name := "part", desc := "([III)[I" } : Jvm.MethodName)) ∈ lw_all := lw_g (lw_at lw_m6 86 rfl) rfl
theorem q1397 : (Jvm.Cond.code ({ cls := "LikedOrders$Method", name := "part", desc := "([III)[I" } : Jvm.MethodName) prog_8_method_3_code (4 : Nat) (Option.some (Jvm.ClassFile.FieldType.array Jvm.ClassFile.FieldType.int))) ∈ lw_all := lw_g (lw_at lw_m6 87 rfl) rfl
theorem q2459 : (Jvm.Cond.castable "LikedOrders$Method" "java/lang/Object") ∈ lw_tbl := lw_at lw_m10 189 rfl
theorem in_X11 : ∀ w ∈ wsX110, w ∈ lw_all := lw_in wsX110 [1321] (by decide +kernel) (by decide +kernel)
/-! LikedOrders$Judge -/
def RX12 : String := "LikedOrders$Judge"
abbrev cX12_init : ByteArray := prog_6_method_1_code
def yX12_init : MethodName := ⟨RX12, "<init>", "()V"⟩
theorem q148 : (Jvm.Cond.initialized "LikedOrders$Judge") ∈ lw_all := lw_g (lw_at lw_m1 38 rfl) rfl
theorem q1306 : (Jvm.Cond.instanceMethod ({ cls := "LikedOrders$Judge", name := "<init>", desc := "()V" } : Jvm.MethodName)) ∈ lw_all := lw_g (lw_at lw_m5 236 rfl) rfl
theorem q1307 : (Jvm.Cond.code ({ cls := "LikedOrders$Judge", name := "<init>", desc := "()V" } : Jvm.MethodName) prog_6_method_1_code (1 : Nat) (Option.none : Option Jvm.ClassFile.FieldType)) ∈ lw_all := lw_g (lw_at lw_m5 237 rfl) rfl
theorem q1308 : (Jvm.Cond.methodLink "LikedOrders$Judge" (1 : Nat) ({ cls := "java/lang/Object", name := "<init>", desc := "()V" } : Jvm.MethodName)) ∈ lw_all := lw_g (lw_at lw_m5 238 rfl) rfl
theorem q1337 : (Jvm.Cond.declares ({ cls := "LikedOrders$Judge", name := "prefers", desc := "(III)Z" } : Jvm.MethodName)) ∈ lw_tbl := lw_at lw_m6 27 rfl
theorem q1338 : (Jvm.Cond.sameMethod "LikedOrders$Judge" "LikedOrders$Judge" "prefers" "(III)Z") ∈ lw_all := lw_g (lw_at lw_m6 28 rfl) rfl
/-! LikedOrders$Stopper -/
def RX13 : String := "LikedOrders$Stopper"
def TX13 : u_T := fun k => match k with
  | 0 => ("LikedOrders$Stopper", "known", "LLikedOrders$Known;", true)
  | _ => ("LikedOrders$Stopper", "this$0", "LLikedOrders;", true)
def tyX13 : Nat → FieldType := fun k => match k with
  | 0 => .object "LikedOrders$Known"
  | _ => .object "LikedOrders"
abbrev wsX130 : List Cond := u_ws RX13 TX13 2
theorem nmX13 : ∀ a, a < 2 → ∀ b, b < 2 → a ≠ b → (TX13 a).2.1 ≠ (TX13 b).2.1 := by decide +kernel
theorem tyX13_ok : ∀ k, k < 2 → parseFieldDescriptor (TX13 k).2.2.1 = some (tyX13 k) := by decide +kernel
abbrev cX13_init : ByteArray := prog_12_method_1_code
def yX13_init : MethodName := ⟨RX13, "<init>", "(LLikedOrders;LLikedOrders$Known;)V"⟩
abbrev cX13_prefers : ByteArray := prog_12_method_2_code
def yX13_prefers : MethodName := ⟨RX13, "prefers", "(III)Z"⟩
theorem q149 : (Jvm.Cond.initialized "LikedOrders$Stopper") ∈ lw_all := lw_g (lw_at lw_m1 39 rfl) rfl
theorem q200 : (Jvm.Cond.fieldLinkNest "LikedOrders$Stopper" (17 : Nat) "LikedOrders" "comparisons" "I" "LikedOrders") ∈ lw_tbl := lw_at lw_m1 90 rfl
theorem q948 : (Jvm.Cond.selects "LikedOrders$Stopper" ({ cls := "java/lang/Object", name := "getClass", desc := "()Ljava/lang/Class;" } : Jvm.MethodName) ({ cls := "java/lang/Object", name := "getClass", desc := "()Ljava/lang/Class;" } : Jvm.MethodName)) ∈ lw_all := lw_g (lw_at lw_m4 118 rfl) rfl
theorem q1301 : (Jvm.Cond.instantiable "LikedOrders$Stopper" (2 : Nat)) ∈ lw_all := lw_g (lw_at lw_m5 231 rfl) rfl
theorem q1303 : (Jvm.Cond.instanceMethod ({ cls := "LikedOrders$Stopper", name := "<init>", desc := "(LLikedOrders;LLikedOrders$Known;)V" } : Jvm.MethodName)) ∈ lw_all := lw_g (lw_at lw_m5 233 rfl) rfl
theorem q1304 : (Jvm.Cond.code ({ cls := "LikedOrders$Stopper", name := "<init>", desc := "(LLikedOrders;LLikedOrders$Known;)V" } : Jvm.MethodName) prog_12_method_1_code (3 : Nat) (Option.none : Option Jvm.ClassFile.FieldType)) ∈ lw_all := lw_g (lw_at lw_m5 234 rfl) rfl
theorem q1305 : (Jvm.Cond.methodLinkNest "LikedOrders$Stopper" (7 : Nat) ({ cls := "LikedOrders$Judge", name := "<init>", desc := "()V" } : Jvm.MethodName) "LikedOrders") ∈ lw_tbl := lw_at lw_m5 235 rfl
theorem q1309 : (Jvm.Cond.fieldLink "LikedOrders$Stopper" (13 : Nat) "LikedOrders$Stopper" "known" "LLikedOrders$Known;") ∈ lw_all := lw_g (lw_at lw_m5 239 rfl) rfl
theorem q1310 : (Jvm.Cond.fieldLink "LikedOrders$Stopper" (1 : Nat) "LikedOrders$Stopper" "this$0" "LLikedOrders;") ∈ lw_all := lw_g (lw_at lw_m6 0 rfl) rfl
theorem q1311 : (Jvm.Cond.laysFinal "LikedOrders$Stopper" "LikedOrders$Stopper" "known" "LLikedOrders$Known;") ∈ lw_all := lw_g (lw_at lw_m6 1 rfl) rfl
theorem q1312 : (Jvm.Cond.soleField "LikedOrders$Stopper" "known") ∈ lw_all := lw_g (lw_at lw_m6 2 rfl) rfl
theorem q1313 : (Jvm.Cond.laysFinal "LikedOrders$Stopper" "LikedOrders$Stopper" "this$0" "LLikedOrders;") ∈ lw_all := lw_g (lw_at lw_m6 3 rfl) rfl
theorem q1314 : (Jvm.Cond.soleField "LikedOrders$Stopper" "this$0") ∈ lw_all := lw_g (lw_at lw_m6 4 rfl) rfl
theorem q1315 : (Jvm.Cond.superclass "LikedOrders$Stopper" "LikedOrders$Judge") ∈ lw_all := lw_g (lw_at lw_m6 5 rfl) rfl
theorem q1345 : (Jvm.Cond.selects "LikedOrders$Stopper" ({ cls := "LikedOrders$Judge", name := "prefers", desc := "(III)Z" } : Jvm.MethodName) ({ cls := "LikedOrders$Stopper", name := "prefers", desc := "(III)Z" } : Jvm.MethodName)) ∈ lw_all := lw_g (lw_at lw_m6 35 rfl) rfl
theorem q1346 : (Jvm.Cond.instanceMethod ({ cls := "LikedOrders$Stopper", name := "prefers", desc := "(III)Z" } : Jvm.MethodName)) ∈ lw_all := lw_g (lw_at lw_m6 36 rfl) rfl
theorem q1347 : (Jvm.Cond.code ({ cls := "LikedOrders$Stopper", name := "prefers", desc := "(III)Z" } : Jvm.MethodName) prog_12_method_2_code (4 : Nat) (Option.some Jvm.ClassFile.FieldType.boolean)) ∈ lw_all := lw_g (lw_at lw_m6 37 rfl) rfl
theorem q1348 : (Jvm.Cond.methodLink "LikedOrders$Stopper" (23 : Nat) ({ cls := "LikedOrders$Known", name := "isBetter", desc := "(II)Z" } : Jvm.MethodName)) ∈ lw_all := lw_g (lw_at lw_m6 38 rfl) rfl
theorem q1349 : (Jvm.Cond.classLink "LikedOrders$Stopper" (29 : Nat) "LikedOrders$Unknown") ∈ lw_all := lw_g (lw_at lw_m6 39 rfl) rfl
theorem q1358 : (Jvm.Cond.methodLink "LikedOrders$Stopper" (31 : Nat) ({ cls := "LikedOrders$Unknown", name := "<init>", desc := "(III)V" } : Jvm.MethodName)) ∈ lw_all := lw_g (lw_at lw_m6 48 rfl) rfl
theorem q2460 : (Jvm.Cond.castable "LikedOrders$Stopper" "java/lang/Object") ∈ lw_tbl := lw_at lw_m10 190 rfl
theorem in_X13 : ∀ w ∈ wsX130, w ∈ lw_all := lw_in wsX130 [1311, 1313] (by decide +kernel) (by decide +kernel)
/-! LikedOrders$Unknown -/
def RX14 : String := "LikedOrders$Unknown"
def TX14 : u_T := fun k => match k with
  | 0 => ("java/lang/Throwable", "cause", "Ljava/lang/Throwable;", false)
  | 1 => ("java/lang/Throwable", "stackTrace", "[Ljava/lang/StackTraceElement;", false)
  | 2 => ("java/lang/Throwable", "suppressedExceptions", "Ljava/util/List;", false)
  | 3 => ("java/lang/Throwable", "detailMessage", "Ljava/lang/String;", false)
  | 4 => ("java/lang/Throwable", "backtrace", "Ljava/lang/Object;", false)
  | 5 => ("java/lang/Throwable", "depth", "I", false)
  | 6 => ("LikedOrders$Unknown", "first", "I", true)
  | 7 => ("LikedOrders$Unknown", "second", "I", true)
  | _ => ("LikedOrders$Unknown", "doing", "I", true)
def tyX14 : Nat → FieldType := fun k => match k with
  | 0 => .object "java/lang/Throwable"
  | 1 => .array (.object "java/lang/StackTraceElement")
  | 2 => .object "java/util/List"
  | 3 => .object "java/lang/String"
  | 4 => .object "java/lang/Object"
  | 5 => .int
  | 6 => .int
  | 7 => .int
  | _ => .int
abbrev wsX140 : List Cond := u_ws RX14 TX14 9
theorem nmX14 : ∀ a, a < 9 → ∀ b, b < 9 → a ≠ b → (TX14 a).2.1 ≠ (TX14 b).2.1 := by decide +kernel
theorem tyX14_ok : ∀ k, k < 9 → parseFieldDescriptor (TX14 k).2.2.1 = some (tyX14 k) := by decide +kernel
abbrev cX14_init : ByteArray := prog_15_method_1_code
def yX14_init : MethodName := ⟨RX14, "<init>", "(III)V"⟩
theorem q150 : (Jvm.Cond.initialized "LikedOrders$Unknown") ∈ lw_all := lw_g (lw_at lw_m1 40 rfl) rfl
theorem q295 : (Jvm.Cond.selects "LikedOrders$Unknown" ({ cls := "java/lang/Throwable", name := "fillInStackTrace", desc := "()Ljava/lang/Throwable;" } : Jvm.MethodName) ({ cls := "java/lang/Throwable", name := "fillInStackTrace", desc := "()Ljava/lang/Throwable;" } : Jvm.MethodName)) ∈ lw_all := lw_g (lw_at lw_m1 185 rfl) rfl
theorem q950 : (Jvm.Cond.selects "LikedOrders$Unknown" ({ cls := "java/lang/Object", name := "getClass", desc := "()Ljava/lang/Class;" } : Jvm.MethodName) ({ cls := "java/lang/Object", name := "getClass", desc := "()Ljava/lang/Class;" } : Jvm.MethodName)) ∈ lw_all := lw_g (lw_at lw_m4 120 rfl) rfl
theorem q1350 : (Jvm.Cond.instantiable "LikedOrders$Unknown" (9 : Nat)) ∈ lw_all := lw_g (lw_at lw_m6 40 rfl) rfl
theorem q1351 : (Jvm.Cond.castable "LikedOrders$Unknown" "LikedOrders$Unknown") ∈ lw_tbl := lw_at lw_m6 41 rfl
theorem q1352 : (Jvm.Cond.selects "LikedOrders$Unknown" ({ cls := "java/lang/Throwable", name := "fillInStackTrace", desc := "(I)Ljava/lang/Throwable;" } : Jvm.MethodName) ({ cls := "java/lang/Throwable", name := "fillInStackTrace", desc := "(I)Ljava/lang/Throwable;" } : Jvm.MethodName)) ∈ lw_all := lw_g (lw_at lw_m6 42 rfl) rfl
theorem q1353 : (Jvm.Cond.lays "LikedOrders$Unknown" "java/lang/Throwable" "cause" "Ljava/lang/Throwable;") ∈ lw_all := lw_g (lw_at lw_m6 43 rfl) rfl
theorem q1354 : (Jvm.Cond.lays "LikedOrders$Unknown" "java/lang/Throwable" "stackTrace" "[Ljava/lang/StackTraceElement;") ∈ lw_all := lw_g (lw_at lw_m6 44 rfl) rfl
theorem q1355 : (Jvm.Cond.lays "LikedOrders$Unknown" "java/lang/Throwable" "suppressedExceptions" "Ljava/util/List;") ∈ lw_all := lw_g (lw_at lw_m6 45 rfl) rfl
theorem q1356 : (Jvm.Cond.lays "LikedOrders$Unknown" "java/lang/Throwable" "detailMessage" "Ljava/lang/String;") ∈ lw_all := lw_g (lw_at lw_m6 46 rfl) rfl
theorem q1357 : (Jvm.Cond.lays "LikedOrders$Unknown" "java/lang/Throwable" "backtrace" "Ljava/lang/Object;") ∈ lw_all := lw_g (lw_at lw_m6 47 rfl) rfl
theorem q1359 : (Jvm.Cond.instanceMethod ({ cls := "LikedOrders$Unknown", name := "<init>", desc := "(III)V" } : Jvm.MethodName)) ∈ lw_all := lw_g (lw_at lw_m6 49 rfl) rfl
theorem q1360 : (Jvm.Cond.code ({ cls := "LikedOrders$Unknown", name := "<init>", desc := "(III)V" } : Jvm.MethodName) prog_15_method_1_code (4 : Nat) (Option.none : Option Jvm.ClassFile.FieldType)) ∈ lw_all := lw_g (lw_at lw_m6 50 rfl) rfl
theorem q1361 : (Jvm.Cond.methodLink "LikedOrders$Unknown" (1 : Nat) ({ cls := "java/lang/Exception", name := "<init>", desc := "(Ljava/lang/String;Ljava/lang/Throwable;ZZ)V" } : Jvm.MethodName)) ∈ lw_all := lw_g (lw_at lw_m6 51 rfl) rfl
theorem q1362 : (Jvm.Cond.fieldLink "LikedOrders$Unknown" (7 : Nat) "LikedOrders$Unknown" "first" "I") ∈ lw_all := lw_g (lw_at lw_m6 52 rfl) rfl
theorem q1364 : (Jvm.Cond.fieldLink "LikedOrders$Unknown" (13 : Nat) "LikedOrders$Unknown" "second" "I") ∈ lw_all := lw_g (lw_at lw_m6 54 rfl) rfl
theorem q1366 : (Jvm.Cond.fieldLink "LikedOrders$Unknown" (16 : Nat) "LikedOrders$Unknown" "doing" "I") ∈ lw_all := lw_g (lw_at lw_m6 56 rfl) rfl
theorem q1368 : (Jvm.Cond.laysFinal "LikedOrders$Unknown" "LikedOrders$Unknown" "first" "I") ∈ lw_all := lw_g (lw_at lw_m6 58 rfl) rfl
theorem q1369 : (Jvm.Cond.soleField "LikedOrders$Unknown" "first") ∈ lw_all := lw_g (lw_at lw_m6 59 rfl) rfl
theorem q1370 : (Jvm.Cond.laysFinal "LikedOrders$Unknown" "LikedOrders$Unknown" "second" "I") ∈ lw_all := lw_g (lw_at lw_m6 60 rfl) rfl
theorem q1371 : (Jvm.Cond.soleField "LikedOrders$Unknown" "second") ∈ lw_all := lw_g (lw_at lw_m6 61 rfl) rfl
theorem q1372 : (Jvm.Cond.laysFinal "LikedOrders$Unknown" "LikedOrders$Unknown" "doing" "I") ∈ lw_all := lw_g (lw_at lw_m6 62 rfl) rfl
theorem q1373 : (Jvm.Cond.soleField "LikedOrders$Unknown" "doing") ∈ lw_all := lw_g (lw_at lw_m6 63 rfl) rfl
theorem q1374 : (Jvm.Cond.lays "LikedOrders$Unknown" "java/lang/Throwable" "depth" "I") ∈ lw_all := lw_g (lw_at lw_m6 64 rfl) rfl
theorem q1375 : (Jvm.Cond.superclass "LikedOrders$Unknown" "java/lang/Exception") ∈ lw_all := lw_g (lw_at lw_m6 65 rfl) rfl
theorem q2461 : (Jvm.Cond.castable "LikedOrders$Unknown" "java/lang/Object") ∈ lw_tbl := lw_at lw_m10 191 rfl
theorem in_X14 : ∀ w ∈ wsX140, w ∈ lw_all := lw_in wsX140 [1353, 1354, 1355, 1356, 1357, 1374, 1368, 1370, 1372] (by decide +kernel) (by decide +kernel)
/-! LikedOrders$1Asker -/
def RX15 : String := "LikedOrders$1Asker"
def TX15 : u_T := fun k => match k with
  | 0 => ("LikedOrders$1Asker", "all", "LLikedOrders$Known;", true)
  | 1 => ("LikedOrders$1Asker", "val$known", "LLikedOrders$Known;", true)
  | 2 => ("LikedOrders$1Asker", "val$s", "LLikedOrders$State;", true)
  | _ => ("LikedOrders$1Asker", "this$0", "LLikedOrders;", true)
def tyX15 : Nat → FieldType := fun k => match k with
  | 0 => .object "LikedOrders$Known"
  | 1 => .object "LikedOrders$Known"
  | 2 => .object "LikedOrders$State"
  | _ => .object "LikedOrders"
abbrev wsX150 : List Cond := u_ws RX15 TX15 4
theorem nmX15 : ∀ a, a < 4 → ∀ b, b < 4 → a ≠ b → (TX15 a).2.1 ≠ (TX15 b).2.1 := by decide +kernel
theorem tyX15_ok : ∀ k, k < 4 → parseFieldDescriptor (TX15 k).2.2.1 = some (tyX15 k) := by decide +kernel
abbrev cX15_prefers : ByteArray := prog_2_method_2_code
def yX15_prefers : MethodName := ⟨RX15, "prefers", "(III)Z"⟩
abbrev cX15_init : ByteArray := prog_2_method_1_code
def yX15_init : MethodName := ⟨RX15, "<init>", "(LLikedOrders;LLikedOrders$Known;LLikedOrders$State;)V"⟩
theorem q151 : (Jvm.Cond.initialized "LikedOrders$1Asker") ∈ lw_all := lw_g (lw_at lw_m1 41 rfl) rfl
theorem q202 : (Jvm.Cond.fieldLinkNest "LikedOrders$1Asker" (33 : Nat) "LikedOrders" "asked" "I" "LikedOrders") ∈ lw_tbl := lw_at lw_m1 92 rfl
theorem q939 : (Jvm.Cond.selects "LikedOrders$1Asker" ({ cls := "java/lang/Object", name := "getClass", desc := "()Ljava/lang/Class;" } : Jvm.MethodName) ({ cls := "java/lang/Object", name := "getClass", desc := "()Ljava/lang/Class;" } : Jvm.MethodName)) ∈ lw_all := lw_g (lw_at lw_m4 109 rfl) rfl
theorem q1339 : (Jvm.Cond.selects "LikedOrders$1Asker" ({ cls := "LikedOrders$Judge", name := "prefers", desc := "(III)Z" } : Jvm.MethodName) ({ cls := "LikedOrders$1Asker", name := "prefers", desc := "(III)Z" } : Jvm.MethodName)) ∈ lw_all := lw_g (lw_at lw_m6 29 rfl) rfl
theorem q1340 : (Jvm.Cond.instanceMethod ({ cls := "LikedOrders$1Asker", name := "prefers", desc := "(III)Z" } : Jvm.MethodName)) ∈ lw_all := lw_g (lw_at lw_m6 30 rfl) rfl
theorem q1341 : (Jvm.Cond.code ({ cls := "LikedOrders$1Asker", name := "prefers", desc := "(III)Z" } : Jvm.MethodName) prog_2_method_2_code (6 : Nat) (Option.some Jvm.ClassFile.FieldType.boolean)) ∈ lw_all := lw_g (lw_at lw_m6 31 rfl) rfl
theorem q1342 : (Jvm.Cond.methodLink "LikedOrders$1Asker" (29 : Nat) ({ cls := "LikedOrders$Known", name := "isBetter", desc := "(II)Z" } : Jvm.MethodName)) ∈ lw_all := lw_g (lw_at lw_m6 32 rfl) rfl
theorem q1343 : (Jvm.Cond.methodLink "LikedOrders$1Asker" (39 : Nat) ({ cls := "LikedOrders$State", name := "isWorthier", desc := "(II)Z" } : Jvm.MethodName)) ∈ lw_all := lw_g (lw_at lw_m6 33 rfl) rfl
theorem q1344 : (Jvm.Cond.methodLink "LikedOrders$1Asker" (44 : Nat) ({ cls := "LikedOrders$Known", name := "tells", desc := "(II)LLikedOrders$Known;" } : Jvm.MethodName)) ∈ lw_all := lw_g (lw_at lw_m6 34 rfl) rfl
theorem q1467 : (Jvm.Cond.instantiable "LikedOrders$1Asker" (4 : Nat)) ∈ lw_all := lw_g (lw_at lw_m6 157 rfl) rfl
theorem q1469 : (Jvm.Cond.instanceMethod ({ cls := "LikedOrders$1Asker", name := "<init>", desc := "(LLikedOrders;LLikedOrders$Known;LLikedOrders$State;)V" } : Jvm.MethodName)) ∈ lw_all := lw_g (lw_at lw_m6 159 rfl) rfl
theorem q1470 : (Jvm.Cond.code ({ cls := "LikedOrders$1Asker", name := "<init>", desc := "(LLikedOrders;LLikedOrders$Known;LLikedOrders$State;)V" } : Jvm.MethodName) prog_2_method_1_code (4 : Nat) (Option.none : Option Jvm.ClassFile.FieldType)) ∈ lw_all := lw_g (lw_at lw_m6 160 rfl) rfl
theorem q1471 : (Jvm.Cond.methodLinkNest "LikedOrders$1Asker" (15 : Nat) ({ cls := "LikedOrders$Judge", name := "<init>", desc := "()V" } : Jvm.MethodName) "LikedOrders") ∈ lw_tbl := lw_at lw_m6 161 rfl
theorem q1472 : (Jvm.Cond.classLink "LikedOrders$1Asker" (21 : Nat) "LikedOrders$Known") ∈ lw_all := lw_g (lw_at lw_m6 162 rfl) rfl
theorem q1473 : (Jvm.Cond.methodLink "LikedOrders$1Asker" (23 : Nat) ({ cls := "LikedOrders$Known", name := "<init>", desc := "(LLikedOrders$Known;)V" } : Jvm.MethodName)) ∈ lw_all := lw_g (lw_at lw_m6 163 rfl) rfl
theorem q1474 : (Jvm.Cond.fieldLink "LikedOrders$1Asker" (26 : Nat) "LikedOrders$1Asker" "all" "LLikedOrders$Known;") ∈ lw_all := lw_g (lw_at lw_m6 164 rfl) rfl
theorem q1475 : (Jvm.Cond.fieldLink "LikedOrders$1Asker" (7 : Nat) "LikedOrders$1Asker" "val$known" "LLikedOrders$Known;") ∈ lw_all := lw_g (lw_at lw_m6 165 rfl) rfl
theorem q1476 : (Jvm.Cond.fieldLink "LikedOrders$1Asker" (11 : Nat) "LikedOrders$1Asker" "val$s" "LLikedOrders$State;") ∈ lw_all := lw_g (lw_at lw_m6 166 rfl) rfl
theorem q1477 : (Jvm.Cond.fieldLink "LikedOrders$1Asker" (1 : Nat) "LikedOrders$1Asker" "this$0" "LLikedOrders;") ∈ lw_all := lw_g (lw_at lw_m6 167 rfl) rfl
theorem q1478 : (Jvm.Cond.laysFinal "LikedOrders$1Asker" "LikedOrders$1Asker" "all" "LLikedOrders$Known;") ∈ lw_all := lw_g (lw_at lw_m6 168 rfl) rfl
theorem q1479 : (Jvm.Cond.soleField "LikedOrders$1Asker" "all") ∈ lw_all := lw_g (lw_at lw_m6 169 rfl) rfl
theorem q1480 : (Jvm.Cond.laysFinal "LikedOrders$1Asker" "LikedOrders$1Asker" "val$known" "LLikedOrders$Known;") ∈ lw_all := lw_g (lw_at lw_m6 170 rfl) rfl
theorem q1481 : (Jvm.Cond.soleField "LikedOrders$1Asker" "val$known") ∈ lw_all := lw_g (lw_at lw_m6 171 rfl) rfl
theorem q1482 : (Jvm.Cond.laysFinal "LikedOrders$1Asker" "LikedOrders$1Asker" "val$s" "LLikedOrders$State;") ∈ lw_all := lw_g (lw_at lw_m6 172 rfl) rfl
theorem q1483 : (Jvm.Cond.soleField "LikedOrders$1Asker" "val$s") ∈ lw_all := lw_g (lw_at lw_m6 173 rfl) rfl
theorem q1484 : (Jvm.Cond.laysFinal "LikedOrders$1Asker" "LikedOrders$1Asker" "this$0" "LLikedOrders;") ∈ lw_all := lw_g (lw_at lw_m6 174 rfl) rfl
theorem q1485 : (Jvm.Cond.soleField "LikedOrders$1Asker" "this$0") ∈ lw_all := lw_g (lw_at lw_m6 175 rfl) rfl
theorem q1486 : (Jvm.Cond.superclass "LikedOrders$1Asker" "LikedOrders$Judge") ∈ lw_all := lw_g (lw_at lw_m6 176 rfl) rfl
theorem q2462 : (Jvm.Cond.castable "LikedOrders$1Asker" "java/lang/Object") ∈ lw_tbl := lw_at lw_m10 192 rfl
theorem in_X15 : ∀ w ∈ wsX150, w ∈ lw_all := lw_in wsX150 [1478, 1480, 1482, 1484] (by decide +kernel) (by decide +kernel)
/-! LikedOrdersModel -/
def RX2 : String := "LikedOrdersModel"
def TX2 : u_T := fun k => match k with
  | 0 => ("LikedOrdersModel", "thrown", "I", false)
  | 1 => ("LikedOrdersModel", "isLoaded", "Z", false)
  | 2 => ("LikedOrdersModel", "s", "[I", true)
  | 3 => ("LikedOrdersModel", "stores", "[I", true)
  | 4 => ("LikedOrdersModel", "changes", "I", false)
  | 5 => ("LikedOrdersModel", "isKept", "[Z", true)
  | 6 => ("LikedOrdersModel", "worse", "[I", true)
  | 7 => ("LikedOrdersModel", "ways", "[I", true)
  | 8 => ("LikedOrdersModel", "rests", "[I", true)
  | 9 => ("LikedOrdersModel", "rows", "[I", true)
  | 10 => ("LikedOrdersModel", "isAsking", "Z", false)
  | 11 => ("LikedOrdersModel", "isHalted", "Z", false)
  | 12 => ("LikedOrdersModel", "comparisons", "I", false)
  | 13 => ("LikedOrdersModel", "asked", "I", false)
  | 14 => ("LikedOrdersModel", "nextA", "I", false)
  | 15 => ("LikedOrdersModel", "nextB", "I", false)
  | 16 => ("LikedOrdersModel", "nowDoing", "I", false)
  | 17 => ("LikedOrdersModel", "buffer", "[I", true)
  | 18 => ("LikedOrdersModel", "buffered", "I", false)
  | 19 => ("LikedOrdersModel", "parseError", "I", false)
  | 20 => ("LikedOrdersModel", "errorPosition", "I", false)
  | 21 => ("LikedOrdersModel", "length", "I", false)
  | 22 => ("LikedOrdersModel", "next", "I", false)
  | 23 => ("LikedOrdersModel", "from", "I", false)
  | 24 => ("LikedOrdersModel", "sort", "I", false)
  | 25 => ("LikedOrdersModel", "number", "I", false)
  | 26 => ("LikedOrdersModel", "bad", "I", false)
  | 27 => ("LikedOrdersModel", "badAt", "I", false)
  | 28 => ("LikedOrdersModel", "far", "[I", true)
  | 29 => ("LikedOrdersModel", "text", "[I", true)
  | _ => ("LikedOrdersModel", "textLong", "I", false)
def tyX2 : Nat → FieldType := fun k => match k with
  | 0 => .int
  | 1 => .boolean
  | 2 => .array .int
  | 3 => .array .int
  | 4 => .int
  | 5 => .array .boolean
  | 6 => .array .int
  | 7 => .array .int
  | 8 => .array .int
  | 9 => .array .int
  | 10 => .boolean
  | 11 => .boolean
  | 12 => .int
  | 13 => .int
  | 14 => .int
  | 15 => .int
  | 16 => .int
  | 17 => .array .int
  | 18 => .int
  | 19 => .int
  | 20 => .int
  | 21 => .int
  | 22 => .int
  | 23 => .int
  | 24 => .int
  | 25 => .int
  | 26 => .int
  | 27 => .int
  | 28 => .array .int
  | 29 => .array .int
  | _ => .int
abbrev wsX20 : List Cond := u_ws RX2 TX2 31
theorem nmX2 : ∀ a, a < 31 → ∀ b, b < 31 → a ≠ b → (TX2 a).2.1 ≠ (TX2 b).2.1 := by decide +kernel
theorem tyX2_ok : ∀ k, k < 31 → parseFieldDescriptor (TX2 k).2.2.1 = some (tyX2 k) := by decide +kernel
abbrev cX2_init : ByteArray := prog_17_method_1_code
def yX2_init : MethodName := ⟨RX2, "<init>", "()V"⟩
abbrev cX2_thrown : ByteArray := prog_17_method_2_code
def yX2_thrown : MethodName := ⟨RX2, "thrown", "()I"⟩
abbrev cX2_append : ByteArray := prog_17_method_38_code
def yX2_append : MethodName := ⟨RX2, "append", "(IIIII)I"⟩
abbrev cX2_buffered : ByteArray := prog_17_method_39_code
def yX2_buffered : MethodName := ⟨RX2, "buffered", "()I"⟩
abbrev cX2_parseError : ByteArray := prog_17_method_40_code
def yX2_parseError : MethodName := ⟨RX2, "parseError", "()I"⟩
abbrev cX2_errorPosition : ByteArray := prog_17_method_41_code
def yX2_errorPosition : MethodName := ⟨RX2, "errorPosition", "()I"⟩
abbrev cX2_load : ByteArray := prog_17_method_60_code
def yX2_load : MethodName := ⟨RX2, "load", "(I)I"⟩
abbrev cX2_in : ByteArray := prog_17_method_3_code
def yX2_in : MethodName := ⟨RX2, "in", "(JJJ)Z"⟩
abbrev cX2_refuse : ByteArray := prog_17_method_5_code
def yX2_refuse : MethodName := ⟨RX2, "refuse", "(ZI)Z"⟩
abbrev cX2_laysAside : ByteArray := prog_17_method_8_code
def yX2_laysAside : MethodName := ⟨RX2, "laysAside", "()V"⟩
abbrev cX2_copies : ByteArray := prog_17_method_7_code
def yX2_copies : MethodName := ⟨RX2, "copies", "([II[II)V"⟩
abbrev cX2_token : ByteArray := prog_17_method_45_code
def yX2_token : MethodName := ⟨RX2, "token", "()V"⟩
abbrev cX2_seen : ByteArray := prog_17_method_42_code
def yX2_seen : MethodName := ⟨RX2, "seen", "(I)I"⟩
abbrev cX2_isSmall : ByteArray := prog_17_method_43_code
def yX2_isSmall : MethodName := ⟨RX2, "isSmall", "(I)Z"⟩
abbrev cX2_isDigit : ByteArray := prog_17_method_44_code
def yX2_isDigit : MethodName := ⟨RX2, "isDigit", "(I)Z"⟩
abbrev cX2_reads : ByteArray := prog_17_method_59_code
def yX2_reads : MethodName := ⟨RX2, "reads", "()V"⟩
abbrev cX2_learns : ByteArray := prog_17_method_16_code
def yX2_learns : MethodName := ⟨RX2, "learns", "()V"⟩
abbrev cX2_learnsBut : ByteArray := prog_17_method_15_code
def yX2_learnsBut : MethodName := ⟨RX2, "learnsBut", "(I)V"⟩
abbrev cX2_better : ByteArray := prog_17_method_11_code
def yX2_better : MethodName := ⟨RX2, "better", "(I)I"⟩
abbrev cX2_other : ByteArray := prog_17_method_12_code
def yX2_other : MethodName := ⟨RX2, "other", "(I)I"⟩
abbrev cX2_knows : ByteArray := prog_17_method_14_code
def yX2_knows : MethodName := ⟨RX2, "knows", "(II)V"⟩
abbrev cX2_items : ByteArray := prog_17_method_10_code
def yX2_items : MethodName := ⟨RX2, "items", "()I"⟩
abbrev cX2_isBetter : ByteArray := prog_17_method_13_code
def yX2_isBetter : MethodName := ⟨RX2, "isBetter", "(II)Z"⟩
abbrev cX2_isWord : ByteArray := prog_17_method_49_code
def yX2_isWord : MethodName := ⟨RX2, "isWord", "(Ljava/lang/String;)Z"⟩
abbrev cX2_failsIf : ByteArray := prog_17_method_47_code
def yX2_failsIf : MethodName := ⟨RX2, "failsIf", "(ZI)V"⟩
abbrev cX2_fails : ByteArray := prog_17_method_46_code
def yX2_fails : MethodName := ⟨RX2, "fails", "(I)V"⟩
abbrev cX2_goesOn : ByteArray := prog_17_method_48_code
def yX2_goesOn : MethodName := ⟨RX2, "goesOn", "()V"⟩
abbrev cX2_takes : ByteArray := prog_17_method_51_code
def yX2_takes : MethodName := ⟨RX2, "takes", "(II)I"⟩
abbrev cX2_looks : ByteArray := prog_17_method_50_code
def yX2_looks : MethodName := ⟨RX2, "looks", "(II)I"⟩
abbrev cX2_itemLine : ByteArray := prog_17_method_55_code
def yX2_itemLine : MethodName := ⟨RX2, "itemLine", "()V"⟩
abbrev cX2_named : ByteArray := prog_17_method_53_code
def yX2_named : MethodName := ⟨RX2, "named", "(II)I"⟩
abbrev cX2_hasName : ByteArray := prog_17_method_52_code
def yX2_hasName : MethodName := ⟨RX2, "hasName", "(III)Z"⟩
abbrev cX2_names : ByteArray := prog_17_method_54_code
def yX2_names : MethodName := ⟨RX2, "names", "(III)V"⟩
abbrev cX2_answerLine : ByteArray := prog_17_method_57_code
def yX2_answerLine : MethodName := ⟨RX2, "answerLine", "()V"⟩
abbrev cX2_itemHere : ByteArray := prog_17_method_56_code
def yX2_itemHere : MethodName := ⟨RX2, "itemHere", "()I"⟩
abbrev cX2_answers : ByteArray := prog_17_method_58_code
def yX2_answers : MethodName := ⟨RX2, "answers", "(II)V"⟩
abbrev cX2_back : ByteArray := prog_17_method_9_code
def yX2_back : MethodName := ⟨RX2, "back", "(I)I"⟩
abbrev cX2_count : ByteArray := prog_17_method_63_code
def yX2_count : MethodName := ⟨RX2, "count", "(I)I"⟩
abbrev cX2_notLoaded : ByteArray := prog_17_method_6_code
def yX2_notLoaded : MethodName := ⟨RX2, "notLoaded", "()Z"⟩
abbrev cX2_knownTwos : ByteArray := prog_17_method_21_code
def yX2_knownTwos : MethodName := ⟨RX2, "knownTwos", "()I"⟩
abbrev cX2_ones : ByteArray := prog_17_method_17_code
def yX2_ones : MethodName := ⟨RX2, "ones", "(I)I"⟩
abbrev cX2_orders : ByteArray := prog_17_method_26_code
def yX2_orders : MethodName := ⟨RX2, "orders", "()I"⟩
abbrev cX2_laysWays : ByteArray := prog_17_method_25_code
def yX2_laysWays : MethodName := ⟨RX2, "laysWays", "()V"⟩
abbrev cX2_all : ByteArray := prog_17_method_24_code
def yX2_all : MethodName := ⟨RX2, "all", "()I"⟩
abbrev cX2_flag : ByteArray := prog_17_method_4_code
def yX2_flag : MethodName := ⟨RX2, "flag", "(Z)I"⟩
abbrev cX2_canCome : ByteArray := prog_17_method_23_code
def yX2_canCome : MethodName := ⟨RX2, "canCome", "(II)Z"⟩
abbrev cX2_fixedItems : ByteArray := prog_17_method_61_code
def yX2_fixedItems : MethodName := ⟨RX2, "fixedItems", "()I"⟩
abbrev cX2_leastPlace : ByteArray := prog_17_method_19_code
def yX2_leastPlace : MethodName := ⟨RX2, "leastPlace", "(I)I"⟩
abbrev cX2_betterThan : ByteArray := prog_17_method_18_code
def yX2_betterThan : MethodName := ⟨RX2, "betterThan", "(I)I"⟩
abbrev cX2_greatestPlace : ByteArray := prog_17_method_20_code
def yX2_greatestPlace : MethodName := ⟨RX2, "greatestPlace", "(I)I"⟩
abbrev cX2_answersAgainst : ByteArray := prog_17_method_62_code
def yX2_answersAgainst : MethodName := ⟨RX2, "answersAgainst", "()I"⟩
abbrev cX2_isByWorth : ByteArray := prog_17_method_22_code
def yX2_isByWorth : MethodName := ⟨RX2, "isByWorth", "(II)Z"⟩
abbrev cX2_item : ByteArray := prog_17_method_72_code
def yX2_item : MethodName := ⟨RX2, "item", "(II)I"⟩
abbrev cX2_noItem : ByteArray := prog_17_method_65_code
def yX2_noItem : MethodName := ⟨RX2, "noItem", "(I)Z"⟩
abbrev cX2_isItem : ByteArray := prog_17_method_64_code
def yX2_isItem : MethodName := ⟨RX2, "isItem", "(I)Z"⟩
abbrev cX2_answersOf : ByteArray := prog_17_method_69_code
def yX2_answersOf : MethodName := ⟨RX2, "answersOf", "(IZ)I"⟩
abbrev cX2_worthPlace : ByteArray := prog_17_method_70_code
def yX2_worthPlace : MethodName := ⟨RX2, "worthPlace", "(I)I"⟩
abbrev cX2_lettersOf : ByteArray := prog_17_method_71_code
def yX2_lettersOf : MethodName := ⟨RX2, "lettersOf", "(I)I"⟩
abbrev cX2_letter : ByteArray := prog_17_method_73_code
def yX2_letter : MethodName := ⟨RX2, "letter", "(II)I"⟩
abbrev cX2_answer : ByteArray := prog_17_method_75_code
def yX2_answer : MethodName := ⟨RX2, "answer", "(II)I"⟩
abbrev cX2_noAnswer : ByteArray := prog_17_method_68_code
def yX2_noAnswer : MethodName := ⟨RX2, "noAnswer", "(I)Z"⟩
abbrev cX2_isSpare : ByteArray := prog_17_method_74_code
def yX2_isSpare : MethodName := ⟨RX2, "isSpare", "(I)Z"⟩
abbrev cX2_known : ByteArray := prog_17_method_76_code
def yX2_known : MethodName := ⟨RX2, "known", "(II)I"⟩
abbrev cX2_noItems : ByteArray := prog_17_method_66_code
def yX2_noItems : MethodName := ⟨RX2, "noItems", "(II)Z"⟩
abbrev cX2_why : ByteArray := prog_17_method_78_code
def yX2_why : MethodName := ⟨RX2, "why", "(II)I"⟩
abbrev cX2_noTwo : ByteArray := prog_17_method_67_code
def yX2_noTwo : MethodName := ⟨RX2, "noTwo", "(II)Z"⟩
abbrev cX2_isTold : ByteArray := prog_17_method_77_code
def yX2_isTold : MethodName := ⟨RX2, "isTold", "(II)Z"⟩
abbrev cX2_chain : ByteArray := prog_17_method_81_code
def yX2_chain : MethodName := ⟨RX2, "chain", "(III)I"⟩
abbrev cX2_laysFar : ByteArray := prog_17_method_79_code
def yX2_laysFar : MethodName := ⟨RX2, "laysFar", "(I)V"⟩
abbrev cX2_nextTo : ByteArray := prog_17_method_80_code
def yX2_nextTo : MethodName := ⟨RX2, "nextTo", "(I)I"⟩
abbrev cX2_at : ByteArray := prog_17_method_83_code
def yX2_at : MethodName := ⟨RX2, "at", "(I)I"⟩
abbrev cX2_fixedAt : ByteArray := prog_17_method_82_code
def yX2_fixedAt : MethodName := ⟨RX2, "fixedAt", "(I)I"⟩
abbrev cX2_loose : ByteArray := prog_17_method_84_code
def yX2_loose : MethodName := ⟨RX2, "loose", "()I"⟩
abbrev cX2_gap : ByteArray := prog_17_method_85_code
def yX2_gap : MethodName := ⟨RX2, "gap", "()I"⟩
abbrev cX2_next : ByteArray := prog_17_method_86_code
def yX2_next : MethodName := ⟨RX2, "next", "(Z)I"⟩
abbrev cX2_goes : ByteArray := prog_17_method_36_code
def yX2_goes : MethodName := ⟨RX2, "goes", "(IZ)V"⟩
abbrev cX2_pairs : ByteArray := prog_17_method_31_code
def yX2_pairs : MethodName := ⟨RX2, "pairs", "(II)V"⟩
abbrev cX2_wins : ByteArray := prog_17_method_27_code
def yX2_wins : MethodName := ⟨RX2, "wins", "(III)Z"⟩
abbrev cX2_comeIn : ByteArray := prog_17_method_32_code
def yX2_comeIn : MethodName := ⟨RX2, "comeIn", "(III)V"⟩
abbrev cX2_numberOf : ByteArray := prog_17_method_30_code
def yX2_numberOf : MethodName := ⟨RX2, "numberOf", "(I)I"⟩
abbrev cX2_loserOf : ByteArray := prog_17_method_33_code
def yX2_loserOf : MethodName := ⟨RX2, "loserOf", "(III)I"⟩
abbrev cX2_placeOf : ByteArray := prog_17_method_29_code
def yX2_placeOf : MethodName := ⟨RX2, "placeOf", "(III)I"⟩
abbrev cX2_putsIn : ByteArray := prog_17_method_28_code
def yX2_putsIn : MethodName := ⟨RX2, "putsIn", "(IIIII)V"⟩
abbrev cX2_halves : ByteArray := prog_17_method_34_code
def yX2_halves : MethodName := ⟨RX2, "halves", "(I)V"⟩
abbrev cX2_merges : ByteArray := prog_17_method_35_code
def yX2_merges : MethodName := ⟨RX2, "merges", "(II)V"⟩
abbrev cX2_compared : ByteArray := prog_17_method_87_code
def yX2_compared : MethodName := ⟨RX2, "compared", "()I"⟩
abbrev cX2_doing : ByteArray := prog_17_method_88_code
def yX2_doing : MethodName := ⟨RX2, "doing", "()I"⟩
abbrev cX2_bound : ByteArray := prog_17_method_89_code
def yX2_bound : MethodName := ⟨RX2, "bound", "()I"⟩
abbrev cX2_told : ByteArray := prog_17_method_90_code
def yX2_told : MethodName := ⟨RX2, "told", "(I)I"⟩
abbrev cX2_ordersIf : ByteArray := prog_17_method_92_code
def yX2_ordersIf : MethodName := ⟨RX2, "ordersIf", "(II)I"⟩
abbrev cX2_ordersBy : ByteArray := prog_17_method_91_code
def yX2_ordersBy : MethodName := ⟨RX2, "ordersBy", "(II)I"⟩
abbrev cX2_fairest : ByteArray := prog_17_method_93_code
def yX2_fairest : MethodName := ⟨RX2, "fairest", "(Z)I"⟩
abbrev cX2_toCome : ByteArray := prog_17_method_94_code
def yX2_toCome : MethodName := ⟨RX2, "toCome", "(I)I"⟩
abbrev cX2_toComeBy : ByteArray := prog_17_method_37_code
def yX2_toComeBy : MethodName := ⟨RX2, "toComeBy", "(I)I"⟩
abbrev cX2_bestMethod : ByteArray := prog_17_method_95_code
def yX2_bestMethod : MethodName := ⟨RX2, "bestMethod", "()I"⟩
abbrev cX2_afresh : ByteArray := prog_17_method_96_code
def yX2_afresh : MethodName := ⟨RX2, "afresh", "(I)I"⟩
abbrev cX2_placeThen : ByteArray := prog_17_method_97_code
def yX2_placeThen : MethodName := ⟨RX2, "placeThen", "(I)I"⟩
abbrev cX2_toComeIf : ByteArray := prog_17_method_98_code
def yX2_toComeIf : MethodName := ⟨RX2, "toComeIf", "(II)I"⟩
abbrev cX2_toComeWithout : ByteArray := prog_17_method_99_code
def yX2_toComeWithout : MethodName := ⟨RX2, "toComeWithout", "(I)I"⟩
abbrev cX2_worst : ByteArray := prog_17_method_100_code
def yX2_worst : MethodName := ⟨RX2, "worst", "()I"⟩
abbrev cX2_swaps : ByteArray := prog_17_method_101_code
def yX2_swaps : MethodName := ⟨RX2, "swaps", "()I"⟩
abbrev cX2_share : ByteArray := prog_17_method_102_code
def yX2_share : MethodName := ⟨RX2, "share", "()F"⟩
abbrev cX2_meanPlace : ByteArray := prog_17_method_103_code
def yX2_meanPlace : MethodName := ⟨RX2, "meanPlace", "(I)D"⟩
abbrev cX2_writeAnswers : ByteArray := prog_17_method_106_code
def yX2_writeAnswers : MethodName := ⟨RX2, "writeAnswers", "()I"⟩
abbrev cX2_says : ByteArray := prog_17_method_104_code
def yX2_says : MethodName := ⟨RX2, "says", "(I)V"⟩
abbrev cX2_saysName : ByteArray := prog_17_method_105_code
def yX2_saysName : MethodName := ⟨RX2, "saysName", "(I)V"⟩
abbrev cX2_writePlaces : ByteArray := prog_17_method_107_code
def yX2_writePlaces : MethodName := ⟨RX2, "writePlaces", "()I"⟩
abbrev cX2_writeFirst : ByteArray := prog_17_method_109_code
def yX2_writeFirst : MethodName := ⟨RX2, "writeFirst", "()I"⟩
abbrev cX2_firstBehind : ByteArray := prog_17_method_108_code
def yX2_firstBehind : MethodName := ⟨RX2, "firstBehind", "(I)I"⟩
abbrev cX2_textByte : ByteArray := prog_17_method_110_code
def yX2_textByte : MethodName := ⟨RX2, "textByte", "(I)I"⟩
abbrev cX2_ask : ByteArray := prog_17_method_112_code
def yX2_ask : MethodName := ⟨RX2, "ask", "(II)I"⟩
abbrev cX2_keepsAll : ByteArray := prog_17_method_111_code
def yX2_keepsAll : MethodName := ⟨RX2, "keepsAll", "()V"⟩
abbrev cX2_goOn : ByteArray := prog_17_method_113_code
def yX2_goOn : MethodName := ⟨RX2, "goOn", "(I)I"⟩
abbrev cX2_takeBack : ByteArray := prog_17_method_115_code
def yX2_takeBack : MethodName := ⟨RX2, "takeBack", "(I)I"⟩
abbrev cX2_removes : ByteArray := prog_17_method_114_code
def yX2_removes : MethodName := ⟨RX2, "removes", "(I)V"⟩
abbrev cX2_tidy : ByteArray := prog_17_method_116_code
def yX2_tidy : MethodName := ⟨RX2, "tidy", "()I"⟩
abbrev cX2_addItem : ByteArray := prog_17_method_118_code
def yX2_addItem : MethodName := ⟨RX2, "addItem", "(II)I"⟩
abbrev cX2_isGoodName : ByteArray := prog_17_method_117_code
def yX2_isGoodName : MethodName := ⟨RX2, "isGoodName", "(I)Z"⟩
abbrev cX2_dropItem : ByteArray := prog_17_method_119_code
def yX2_dropItem : MethodName := ⟨RX2, "dropItem", "(I)I"⟩
abbrev cX2_setWorth : ByteArray := prog_17_method_121_code
def yX2_setWorth : MethodName := ⟨RX2, "setWorth", "(II)I"⟩
abbrev cX2_sets : ByteArray := prog_17_method_120_code
def yX2_sets : MethodName := ⟨RX2, "sets", "(II)I"⟩
abbrev cX2_setMethod : ByteArray := prog_17_method_122_code
def yX2_setMethod : MethodName := ⟨RX2, "setMethod", "(I)I"⟩
abbrev cX2_undo : ByteArray := prog_17_method_123_code
def yX2_undo : MethodName := ⟨RX2, "undo", "()I"⟩
abbrev cX2_undoable : ByteArray := prog_17_method_124_code
def yX2_undoable : MethodName := ⟨RX2, "undoable", "()I"⟩
abbrev cX2_save : ByteArray := prog_17_method_125_code
def yX2_save : MethodName := ⟨RX2, "save", "(I)I"⟩
abbrev cX2_restore : ByteArray := prog_17_method_126_code
def yX2_restore : MethodName := ⟨RX2, "restore", "(I)I"⟩
theorem q114 : (Jvm.Cond.initialized "LikedOrdersModel") ∈ lw_all := lw_g (lw_at lw_m1 4 rfl) rfl
theorem q951 : (Jvm.Cond.selects "LikedOrdersModel" ({ cls := "java/lang/Object", name := "getClass", desc := "()Ljava/lang/Class;" } : Jvm.MethodName) ({ cls := "java/lang/Object", name := "getClass", desc := "()Ljava/lang/Class;" } : Jvm.MethodName)) ∈ lw_all := lw_g (lw_at lw_m4 121 rfl) rfl
theorem q1817 : (Jvm.Cond.instantiable "LikedOrdersModel" (31 : Nat)) ∈ lw_all := lw_g (lw_at lw_m8 27 rfl) rfl
theorem q1819 : (Jvm.Cond.instanceMethod ({ cls := "LikedOrdersModel", name := "<init>", desc := "()V" } : Jvm.MethodName)) ∈ lw_all := lw_g (lw_at lw_m8 29 rfl) rfl
theorem q1820 : (Jvm.Cond.code ({ cls := "LikedOrdersModel", name := "<init>", desc := "()V" } : Jvm.MethodName) prog_17_method_1_code (1 : Nat) (Option.none : Option Jvm.ClassFile.FieldType)) ∈ lw_all := lw_g (lw_at lw_m8 30 rfl) rfl
theorem q1821 : (Jvm.Cond.methodLink "LikedOrdersModel" (1 : Nat) ({ cls := "java/lang/Object", name := "<init>", desc := "()V" } : Jvm.MethodName)) ∈ lw_all := lw_g (lw_at lw_m8 31 rfl) rfl
theorem q1822 : (Jvm.Cond.fieldLink "LikedOrdersModel" (45 : Nat) "LikedOrdersModel" "thrown" "I") ∈ lw_all := lw_g (lw_at lw_m8 32 rfl) rfl
theorem q1823 : (Jvm.Cond.fieldLink "LikedOrdersModel" (48 : Nat) "LikedOrdersModel" "isLoaded" "Z") ∈ lw_all := lw_g (lw_at lw_m8 33 rfl) rfl
theorem q1824 : (Jvm.Cond.fieldLink "LikedOrdersModel" (7 : Nat) "LikedOrdersModel" "s" "[I") ∈ lw_all := lw_g (lw_at lw_m8 34 rfl) rfl
theorem q1825 : (Jvm.Cond.fieldLink "LikedOrdersModel" (13 : Nat) "LikedOrdersModel" "stores" "[I") ∈ lw_all := lw_g (lw_at lw_m8 35 rfl) rfl
theorem q1826 : (Jvm.Cond.fieldLink "LikedOrdersModel" (276 : Nat) "LikedOrdersModel" "changes" "I") ∈ lw_all := lw_g (lw_at lw_m8 36 rfl) rfl
theorem q1827 : (Jvm.Cond.fieldLink "LikedOrdersModel" (16 : Nat) "LikedOrdersModel" "isKept" "[Z") ∈ lw_all := lw_g (lw_at lw_m8 37 rfl) rfl
theorem q1828 : (Jvm.Cond.fieldLink "LikedOrdersModel" (20 : Nat) "LikedOrdersModel" "worse" "[I") ∈ lw_all := lw_g (lw_at lw_m8 38 rfl) rfl
theorem q1829 : (Jvm.Cond.fieldLink "LikedOrdersModel" (23 : Nat) "LikedOrdersModel" "ways" "[I") ∈ lw_all := lw_g (lw_at lw_m8 39 rfl) rfl
theorem q1830 : (Jvm.Cond.fieldLink "LikedOrdersModel" (26 : Nat) "LikedOrdersModel" "rests" "[I") ∈ lw_all := lw_g (lw_at lw_m8 40 rfl) rfl
theorem q1831 : (Jvm.Cond.fieldLink "LikedOrdersModel" (29 : Nat) "LikedOrdersModel" "rows" "[I") ∈ lw_all := lw_g (lw_at lw_m8 41 rfl) rfl
theorem q1832 : (Jvm.Cond.fieldLink "LikedOrdersModel" (108 : Nat) "LikedOrdersModel" "isAsking" "Z") ∈ lw_all := lw_g (lw_at lw_m8 42 rfl) rfl
theorem q1833 : (Jvm.Cond.fieldLink "LikedOrdersModel" (105 : Nat) "LikedOrdersModel" "isHalted" "Z") ∈ lw_all := lw_g (lw_at lw_m8 43 rfl) rfl
theorem q1834 : (Jvm.Cond.fieldLink "LikedOrdersModel" (126 : Nat) "LikedOrdersModel" "comparisons" "I") ∈ lw_all := lw_g (lw_at lw_m8 44 rfl) rfl
theorem q1835 : (Jvm.Cond.fieldLink "LikedOrdersModel" (120 : Nat) "LikedOrdersModel" "asked" "I") ∈ lw_all := lw_g (lw_at lw_m8 45 rfl) rfl
theorem q1836 : (Jvm.Cond.fieldLink "LikedOrdersModel" (111 : Nat) "LikedOrdersModel" "nextA" "I") ∈ lw_all := lw_g (lw_at lw_m8 46 rfl) rfl
theorem q1837 : (Jvm.Cond.fieldLink "LikedOrdersModel" (114 : Nat) "LikedOrdersModel" "nextB" "I") ∈ lw_all := lw_g (lw_at lw_m8 47 rfl) rfl
theorem q1838 : (Jvm.Cond.fieldLink "LikedOrdersModel" (117 : Nat) "LikedOrdersModel" "nowDoing" "I") ∈ lw_all := lw_g (lw_at lw_m8 48 rfl) rfl
theorem q1839 : (Jvm.Cond.fieldLink "LikedOrdersModel" (32 : Nat) "LikedOrdersModel" "buffer" "[I") ∈ lw_all := lw_g (lw_at lw_m8 49 rfl) rfl
theorem q1840 : (Jvm.Cond.fieldLink "LikedOrdersModel" (164 : Nat) "LikedOrdersModel" "buffered" "I") ∈ lw_all := lw_g (lw_at lw_m8 50 rfl) rfl
theorem q1841 : (Jvm.Cond.fieldLink "LikedOrdersModel" (167 : Nat) "LikedOrdersModel" "parseError" "I") ∈ lw_all := lw_g (lw_at lw_m8 51 rfl) rfl
theorem q1842 : (Jvm.Cond.fieldLink "LikedOrdersModel" (35 : Nat) "LikedOrdersModel" "errorPosition" "I") ∈ lw_all := lw_g (lw_at lw_m8 52 rfl) rfl
theorem q1843 : (Jvm.Cond.fieldLink "LikedOrdersModel" (170 : Nat) "LikedOrdersModel" "length" "I") ∈ lw_all := lw_g (lw_at lw_m8 53 rfl) rfl
theorem q1844 : (Jvm.Cond.fieldLink "LikedOrdersModel" (173 : Nat) "LikedOrdersModel" "next" "I") ∈ lw_all := lw_g (lw_at lw_m8 54 rfl) rfl
theorem q1845 : (Jvm.Cond.fieldLink "LikedOrdersModel" (179 : Nat) "LikedOrdersModel" "from" "I") ∈ lw_all := lw_g (lw_at lw_m8 55 rfl) rfl
theorem q1846 : (Jvm.Cond.fieldLink "LikedOrdersModel" (182 : Nat) "LikedOrdersModel" "sort" "I") ∈ lw_all := lw_g (lw_at lw_m8 56 rfl) rfl
theorem q1847 : (Jvm.Cond.fieldLink "LikedOrdersModel" (192 : Nat) "LikedOrdersModel" "number" "I") ∈ lw_all := lw_g (lw_at lw_m8 57 rfl) rfl
theorem q1848 : (Jvm.Cond.fieldLink "LikedOrdersModel" (195 : Nat) "LikedOrdersModel" "bad" "I") ∈ lw_all := lw_g (lw_at lw_m8 58 rfl) rfl
theorem q1849 : (Jvm.Cond.fieldLink "LikedOrdersModel" (198 : Nat) "LikedOrdersModel" "badAt" "I") ∈ lw_all := lw_g (lw_at lw_m8 59 rfl) rfl
theorem q1850 : (Jvm.Cond.fieldLink "LikedOrdersModel" (39 : Nat) "LikedOrdersModel" "far" "[I") ∈ lw_all := lw_g (lw_at lw_m8 60 rfl) rfl
theorem q1851 : (Jvm.Cond.fieldLink "LikedOrdersModel" (42 : Nat) "LikedOrdersModel" "text" "[I") ∈ lw_all := lw_g (lw_at lw_m8 61 rfl) rfl
theorem q1852 : (Jvm.Cond.fieldLink "LikedOrdersModel" (363 : Nat) "LikedOrdersModel" "textLong" "I") ∈ lw_all := lw_g (lw_at lw_m8 62 rfl) rfl
theorem q1853 : (Jvm.Cond.lays "LikedOrdersModel" "LikedOrdersModel" "thrown" "I") ∈ lw_all := lw_g (lw_at lw_m8 63 rfl) rfl
theorem q1854 : (Jvm.Cond.soleField "LikedOrdersModel" "thrown") ∈ lw_all := lw_g (lw_at lw_m8 64 rfl) rfl
theorem q1855 : (Jvm.Cond.lays "LikedOrdersModel" "LikedOrdersModel" "isLoaded" "Z") ∈ lw_all := lw_g (lw_at lw_m8 65 rfl) rfl
theorem q1856 : (Jvm.Cond.soleField "LikedOrdersModel" "isLoaded") ∈ lw_all := lw_g (lw_at lw_m8 66 rfl) rfl
theorem q1857 : (Jvm.Cond.laysFinal "LikedOrdersModel" "LikedOrdersModel" "s" "[I") ∈ lw_all := lw_g (lw_at lw_m8 67 rfl) rfl
theorem q1858 : (Jvm.Cond.soleField "LikedOrdersModel" "s") ∈ lw_all := lw_g (lw_at lw_m8 68 rfl) rfl
theorem q1859 : (Jvm.Cond.laysFinal "LikedOrdersModel" "LikedOrdersModel" "stores" "[I") ∈ lw_all := lw_g (lw_at lw_m8 69 rfl) rfl
theorem q1860 : (Jvm.Cond.soleField "LikedOrdersModel" "stores") ∈ lw_all := lw_g (lw_at lw_m8 70 rfl) rfl
theorem q1861 : (Jvm.Cond.lays "LikedOrdersModel" "LikedOrdersModel" "changes" "I") ∈ lw_all := lw_g (lw_at lw_m8 71 rfl) rfl
theorem q1862 : (Jvm.Cond.soleField "LikedOrdersModel" "changes") ∈ lw_all := lw_g (lw_at lw_m8 72 rfl) rfl
theorem q1863 : (Jvm.Cond.laysFinal "LikedOrdersModel" "LikedOrdersModel" "isKept" "[Z") ∈ lw_all := lw_g (lw_at lw_m8 73 rfl) rfl
theorem q1864 : (Jvm.Cond.soleField "LikedOrdersModel" "isKept") ∈ lw_all := lw_g (lw_at lw_m8 74 rfl) rfl
theorem q1865 : (Jvm.Cond.laysFinal "LikedOrdersModel" "LikedOrdersModel" "worse" "[I") ∈ lw_all := lw_g (lw_at lw_m8 75 rfl) rfl
theorem q1866 : (Jvm.Cond.soleField "LikedOrdersModel" "worse") ∈ lw_all := lw_g (lw_at lw_m8 76 rfl) rfl
theorem q1867 : (Jvm.Cond.laysFinal "LikedOrdersModel" "LikedOrdersModel" "ways" "[I") ∈ lw_all := lw_g (lw_at lw_m8 77 rfl) rfl
theorem q1868 : (Jvm.Cond.soleField "LikedOrdersModel" "ways") ∈ lw_all := lw_g (lw_at lw_m8 78 rfl) rfl
theorem q1869 : (Jvm.Cond.laysFinal "LikedOrdersModel" "LikedOrdersModel" "rests" "[I") ∈ lw_all := lw_g (lw_at lw_m8 79 rfl) rfl
theorem q1870 : (Jvm.Cond.soleField "LikedOrdersModel" "rests") ∈ lw_all := lw_g (lw_at lw_m8 80 rfl) rfl
theorem q1871 : (Jvm.Cond.laysFinal "LikedOrdersModel" "LikedOrdersModel" "rows" "[I") ∈ lw_all := lw_g (lw_at lw_m8 81 rfl) rfl
theorem q1872 : (Jvm.Cond.soleField "LikedOrdersModel" "rows") ∈ lw_all := lw_g (lw_at lw_m8 82 rfl) rfl
theorem q1873 : (Jvm.Cond.lays "LikedOrdersModel" "LikedOrdersModel" "isAsking" "Z") ∈ lw_all := lw_g (lw_at lw_m8 83 rfl) rfl
theorem q1874 : (Jvm.Cond.soleField "LikedOrdersModel" "isAsking") ∈ lw_all := lw_g (lw_at lw_m8 84 rfl) rfl
theorem q1875 : (Jvm.Cond.lays "LikedOrdersModel" "LikedOrdersModel" "isHalted" "Z") ∈ lw_all := lw_g (lw_at lw_m8 85 rfl) rfl
theorem q1876 : (Jvm.Cond.soleField "LikedOrdersModel" "isHalted") ∈ lw_all := lw_g (lw_at lw_m8 86 rfl) rfl
theorem q1877 : (Jvm.Cond.lays "LikedOrdersModel" "LikedOrdersModel" "comparisons" "I") ∈ lw_all := lw_g (lw_at lw_m8 87 rfl) rfl
theorem q1878 : (Jvm.Cond.soleField "LikedOrdersModel" "comparisons") ∈ lw_all := lw_g (lw_at lw_m8 88 rfl) rfl
theorem q1879 : (Jvm.Cond.lays "LikedOrdersModel" "LikedOrdersModel" "asked" "I") ∈ lw_all := lw_g (lw_at lw_m8 89 rfl) rfl
theorem q1880 : (Jvm.Cond.soleField "LikedOrdersModel" "asked") ∈ lw_all := lw_g (lw_at lw_m8 90 rfl) rfl
theorem q1881 : (Jvm.Cond.lays "LikedOrdersModel" "LikedOrdersModel" "nextA" "I") ∈ lw_all := lw_g (lw_at lw_m8 91 rfl) rfl
theorem q1882 : (Jvm.Cond.soleField "LikedOrdersModel" "nextA") ∈ lw_all := lw_g (lw_at lw_m8 92 rfl) rfl
theorem q1883 : (Jvm.Cond.lays "LikedOrdersModel" "LikedOrdersModel" "nextB" "I") ∈ lw_all := lw_g (lw_at lw_m8 93 rfl) rfl
theorem q1884 : (Jvm.Cond.soleField "LikedOrdersModel" "nextB") ∈ lw_all := lw_g (lw_at lw_m8 94 rfl) rfl
theorem q1885 : (Jvm.Cond.lays "LikedOrdersModel" "LikedOrdersModel" "nowDoing" "I") ∈ lw_all := lw_g (lw_at lw_m8 95 rfl) rfl
theorem q1886 : (Jvm.Cond.soleField "LikedOrdersModel" "nowDoing") ∈ lw_all := lw_g (lw_at lw_m8 96 rfl) rfl
theorem q1887 : (Jvm.Cond.laysFinal "LikedOrdersModel" "LikedOrdersModel" "buffer" "[I") ∈ lw_all := lw_g (lw_at lw_m8 97 rfl) rfl
theorem q1888 : (Jvm.Cond.soleField "LikedOrdersModel" "buffer") ∈ lw_all := lw_g (lw_at lw_m8 98 rfl) rfl
theorem q1889 : (Jvm.Cond.lays "LikedOrdersModel" "LikedOrdersModel" "buffered" "I") ∈ lw_all := lw_g (lw_at lw_m8 99 rfl) rfl
theorem q1890 : (Jvm.Cond.soleField "LikedOrdersModel" "buffered") ∈ lw_all := lw_g (lw_at lw_m8 100 rfl) rfl
theorem q1891 : (Jvm.Cond.lays "LikedOrdersModel" "LikedOrdersModel" "parseError" "I") ∈ lw_all := lw_g (lw_at lw_m8 101 rfl) rfl
theorem q1892 : (Jvm.Cond.soleField "LikedOrdersModel" "parseError") ∈ lw_all := lw_g (lw_at lw_m8 102 rfl) rfl
theorem q1893 : (Jvm.Cond.lays "LikedOrdersModel" "LikedOrdersModel" "errorPosition" "I") ∈ lw_all := lw_g (lw_at lw_m8 103 rfl) rfl
theorem q1894 : (Jvm.Cond.soleField "LikedOrdersModel" "errorPosition") ∈ lw_all := lw_g (lw_at lw_m8 104 rfl) rfl
theorem q1895 : (Jvm.Cond.lays "LikedOrdersModel" "LikedOrdersModel" "length" "I") ∈ lw_all := lw_g (lw_at lw_m8 105 rfl) rfl
theorem q1896 : (Jvm.Cond.soleField "LikedOrdersModel" "length") ∈ lw_all := lw_g (lw_at lw_m8 106 rfl) rfl
theorem q1897 : (Jvm.Cond.lays "LikedOrdersModel" "LikedOrdersModel" "next" "I") ∈ lw_all := lw_g (lw_at lw_m8 107 rfl) rfl
theorem q1898 : (Jvm.Cond.soleField "LikedOrdersModel" "next") ∈ lw_all := lw_g (lw_at lw_m8 108 rfl) rfl
theorem q1899 : (Jvm.Cond.lays "LikedOrdersModel" "LikedOrdersModel" "from" "I") ∈ lw_all := lw_g (lw_at lw_m8 109 rfl) rfl
theorem q1900 : (Jvm.Cond.soleField "LikedOrdersModel" "from") ∈ lw_all := lw_g (lw_at lw_m8 110 rfl) rfl
theorem q1901 : (Jvm.Cond.lays "LikedOrdersModel" "LikedOrdersModel" "sort" "I") ∈ lw_all := lw_g (lw_at lw_m8 111 rfl) rfl
theorem q1902 : (Jvm.Cond.soleField "LikedOrdersModel" "sort") ∈ lw_all := lw_g (lw_at lw_m8 112 rfl) rfl
theorem q1903 : (Jvm.Cond.lays "LikedOrdersModel" "LikedOrdersModel" "number" "I") ∈ lw_all := lw_g (lw_at lw_m8 113 rfl) rfl
theorem q1904 : (Jvm.Cond.soleField "LikedOrdersModel" "number") ∈ lw_all := lw_g (lw_at lw_m8 114 rfl) rfl
theorem q1905 : (Jvm.Cond.lays "LikedOrdersModel" "LikedOrdersModel" "bad" "I") ∈ lw_all := lw_g (lw_at lw_m8 115 rfl) rfl
theorem q1906 : (Jvm.Cond.soleField "LikedOrdersModel" "bad") ∈ lw_all := lw_g (lw_at lw_m8 116 rfl) rfl
theorem q1907 : (Jvm.Cond.lays "LikedOrdersModel" "LikedOrdersModel" "badAt" "I") ∈ lw_all := lw_g (lw_at lw_m8 117 rfl) rfl
theorem q1908 : (Jvm.Cond.soleField "LikedOrdersModel" "badAt") ∈ lw_all := lw_g (lw_at lw_m8 118 rfl) rfl
theorem q1909 : (Jvm.Cond.laysFinal "LikedOrdersModel" "LikedOrdersModel" "far" "[I") ∈ lw_all := lw_g (lw_at lw_m8 119 rfl) rfl
theorem q1910 : (Jvm.Cond.soleField "LikedOrdersModel" "far") ∈ lw_all := lw_g (lw_at lw_m8 120 rfl) rfl
theorem q1911 : (Jvm.Cond.laysFinal "LikedOrdersModel" "LikedOrdersModel" "text" "[I") ∈ lw_all := lw_g (lw_at lw_m8 121 rfl) rfl
theorem q1912 : (Jvm.Cond.soleField "LikedOrdersModel" "text") ∈ lw_all := lw_g (lw_at lw_m8 122 rfl) rfl
theorem q1913 : (Jvm.Cond.lays "LikedOrdersModel" "LikedOrdersModel" "textLong" "I") ∈ lw_all := lw_g (lw_at lw_m8 123 rfl) rfl
theorem q1914 : (Jvm.Cond.soleField "LikedOrdersModel" "textLong") ∈ lw_all := lw_g (lw_at lw_m8 124 rfl) rfl
theorem q1915 : (Jvm.Cond.superclass "LikedOrdersModel" "java/lang/Object") ∈ lw_all := lw_g (lw_at lw_m8 125 rfl) rfl
theorem q1918 : (Jvm.Cond.instanceMethod ({ cls := "LikedOrdersModel", name := "thrown", desc := "()I" } : Jvm.MethodName)) ∈ lw_all := lw_g (lw_at lw_m8 128 rfl) rfl
theorem q1919 : (Jvm.Cond.selects "LikedOrdersModel" ({ cls := "LikedOrdersModel", name := "thrown", desc := "()I" } : Jvm.MethodName) ({ cls := "LikedOrdersModel", name := "thrown", desc := "()I" } : Jvm.MethodName)) ∈ lw_all := lw_g (lw_at lw_m8 129 rfl) rfl
theorem q1920 : (Jvm.Cond.code ({ cls := "LikedOrdersModel", name := "thrown", desc := "()I" } : Jvm.MethodName) prog_17_method_2_code (1 : Nat) (Option.some Jvm.ClassFile.FieldType.int)) ∈ lw_all := lw_g (lw_at lw_m8 130 rfl) rfl
theorem q1922 : (Jvm.Cond.instanceMethod ({ cls := "LikedOrdersModel", name := "append", desc := "(IIIII)I" } : Jvm.MethodName)) ∈ lw_all := lw_g (lw_at lw_m8 132 rfl) rfl
theorem q1923 : (Jvm.Cond.selects "LikedOrdersModel" ({ cls := "LikedOrdersModel", name := "append", desc := "(IIIII)I" } : Jvm.MethodName) ({ cls := "LikedOrdersModel", name := "append", desc := "(IIIII)I" } : Jvm.MethodName)) ∈ lw_all := lw_g (lw_at lw_m8 133 rfl) rfl
theorem q1924 : (Jvm.Cond.code ({ cls := "LikedOrdersModel", name := "append", desc := "(IIIII)I" } : Jvm.MethodName) prog_17_method_38_code (8 : Nat) (Option.some Jvm.ClassFile.FieldType.int)) ∈ lw_all := lw_g (lw_at lw_m8 134 rfl) rfl
theorem q1926 : (Jvm.Cond.instanceMethod ({ cls := "LikedOrdersModel", name := "buffered", desc := "()I" } : Jvm.MethodName)) ∈ lw_all := lw_g (lw_at lw_m8 136 rfl) rfl
theorem q1927 : (Jvm.Cond.selects "LikedOrdersModel" ({ cls := "LikedOrdersModel", name := "buffered", desc := "()I" } : Jvm.MethodName) ({ cls := "LikedOrdersModel", name := "buffered", desc := "()I" } : Jvm.MethodName)) ∈ lw_all := lw_g (lw_at lw_m8 137 rfl) rfl
theorem q1928 : (Jvm.Cond.code ({ cls := "LikedOrdersModel", name := "buffered", desc := "()I" } : Jvm.MethodName) prog_17_method_39_code (1 : Nat) (Option.some Jvm.ClassFile.FieldType.int)) ∈ lw_all := lw_g (lw_at lw_m8 138 rfl) rfl
theorem q1930 : (Jvm.Cond.instanceMethod ({ cls := "LikedOrdersModel", name := "parseError", desc := "()I" } : Jvm.MethodName)) ∈ lw_all := lw_g (lw_at lw_m8 140 rfl) rfl
theorem q1931 : (Jvm.Cond.selects "LikedOrdersModel" ({ cls := "LikedOrdersModel", name := "parseError", desc := "()I" } : Jvm.MethodName) ({ cls := "LikedOrdersModel", name := "parseError", desc := "()I" } : Jvm.MethodName)) ∈ lw_all := lw_g (lw_at lw_m8 141 rfl) rfl
theorem q1932 : (Jvm.Cond.code ({ cls := "LikedOrdersModel", name := "parseError", desc := "()I" } : Jvm.MethodName) prog_17_method_40_code (1 : Nat) (Option.some Jvm.ClassFile.FieldType.int)) ∈ lw_all := lw_g (lw_at lw_m8 142 rfl) rfl
theorem q1934 : (Jvm.Cond.instanceMethod ({ cls := "LikedOrdersModel", name := "errorPosition", desc := "()I" } : Jvm.MethodName)) ∈ lw_all := lw_g (lw_at lw_m8 144 rfl) rfl
theorem q1935 : (Jvm.Cond.selects "LikedOrdersModel" ({ cls := "LikedOrdersModel", name := "errorPosition", desc := "()I" } : Jvm.MethodName) ({ cls := "LikedOrdersModel", name := "errorPosition", desc := "()I" } : Jvm.MethodName)) ∈ lw_all := lw_g (lw_at lw_m8 145 rfl) rfl
theorem q1936 : (Jvm.Cond.code ({ cls := "LikedOrdersModel", name := "errorPosition", desc := "()I" } : Jvm.MethodName) prog_17_method_41_code (1 : Nat) (Option.some Jvm.ClassFile.FieldType.int)) ∈ lw_all := lw_g (lw_at lw_m8 146 rfl) rfl
theorem q1938 : (Jvm.Cond.instanceMethod ({ cls := "LikedOrdersModel", name := "load", desc := "(I)I" } : Jvm.MethodName)) ∈ lw_all := lw_g (lw_at lw_m8 148 rfl) rfl
theorem q1939 : (Jvm.Cond.selects "LikedOrdersModel" ({ cls := "LikedOrdersModel", name := "load", desc := "(I)I" } : Jvm.MethodName) ({ cls := "LikedOrdersModel", name := "load", desc := "(I)I" } : Jvm.MethodName)) ∈ lw_all := lw_g (lw_at lw_m8 149 rfl) rfl
theorem q1940 : (Jvm.Cond.code ({ cls := "LikedOrdersModel", name := "load", desc := "(I)I" } : Jvm.MethodName) prog_17_method_60_code (2 : Nat) (Option.some Jvm.ClassFile.FieldType.int)) ∈ lw_all := lw_g (lw_at lw_m8 150 rfl) rfl
theorem q1941 : (Jvm.Cond.methodLink "LikedOrdersModel" (215 : Nat) ({ cls := "LikedOrdersModel", name := "in", desc := "(JJJ)Z" } : Jvm.MethodName)) ∈ lw_all := lw_g (lw_at lw_m8 151 rfl) rfl
theorem q1942 : (Jvm.Cond.static ({ cls := "LikedOrdersModel", name := "in", desc := "(JJJ)Z" } : Jvm.MethodName)) ∈ lw_all := lw_g (lw_at lw_m8 152 rfl) rfl
theorem q1943 : (Jvm.Cond.code ({ cls := "LikedOrdersModel", name := "in", desc := "(JJJ)Z" } : Jvm.MethodName) prog_17_method_3_code (6 : Nat) (Option.some Jvm.ClassFile.FieldType.boolean)) ∈ lw_all := lw_g (lw_at lw_m8 153 rfl) rfl
theorem q1944 : (Jvm.Cond.methodLink "LikedOrdersModel" (52 : Nat) ({ cls := "LikedOrdersModel", name := "refuse", desc := "(ZI)Z" } : Jvm.MethodName)) ∈ lw_all := lw_g (lw_at lw_m8 154 rfl) rfl
theorem q1945 : (Jvm.Cond.privateMethod ({ cls := "LikedOrdersModel", name := "refuse", desc := "(ZI)Z" } : Jvm.MethodName)) ∈ lw_tbl := lw_at lw_m8 155 rfl
theorem q1946 : (Jvm.Cond.instanceMethod ({ cls := "LikedOrdersModel", name := "refuse", desc := "(ZI)Z" } : Jvm.MethodName)) ∈ lw_all := lw_g (lw_at lw_m8 156 rfl) rfl
theorem q1947 : (Jvm.Cond.code ({ cls := "LikedOrdersModel", name := "refuse", desc := "(ZI)Z" } : Jvm.MethodName) prog_17_method_5_code (3 : Nat) (Option.some Jvm.ClassFile.FieldType.boolean)) ∈ lw_all := lw_g (lw_at lw_m8 157 rfl) rfl
theorem q1948 : (Jvm.Cond.methodLink "LikedOrdersModel" (267 : Nat) ({ cls := "LikedOrdersModel", name := "laysAside", desc := "()V" } : Jvm.MethodName)) ∈ lw_all := lw_g (lw_at lw_m8 158 rfl) rfl
theorem q1949 : (Jvm.Cond.privateMethod ({ cls := "LikedOrdersModel", name := "laysAside", desc := "()V" } : Jvm.MethodName)) ∈ lw_tbl := lw_at lw_m8 159 rfl
theorem q1950 : (Jvm.Cond.instanceMethod ({ cls := "LikedOrdersModel", name := "laysAside", desc := "()V" } : Jvm.MethodName)) ∈ lw_all := lw_g (lw_at lw_m8 160 rfl) rfl
theorem q1951 : (Jvm.Cond.code ({ cls := "LikedOrdersModel", name := "laysAside", desc := "()V" } : Jvm.MethodName) prog_17_method_8_code (1 : Nat) (Option.none : Option Jvm.ClassFile.FieldType)) ∈ lw_all := lw_g (lw_at lw_m8 161 rfl) rfl
theorem q1952 : (Jvm.Cond.methodLink "LikedOrdersModel" (56 : Nat) ({ cls := "LikedOrdersModel", name := "copies", desc := "([II[II)V" } : Jvm.MethodName)) ∈ lw_all := lw_g (lw_at lw_m8 162 rfl) rfl
theorem q1953 : (Jvm.Cond.static ({ cls := "LikedOrdersModel", name := "copies", desc := "([II[II)V" } : Jvm.MethodName)) ∈ lw_all := lw_g (lw_at lw_m8 163 rfl) rfl
theorem q1954 : (Jvm.Cond.code ({ cls := "LikedOrdersModel", name := "copies", desc := "([II[II)V" } : Jvm.MethodName) prog_17_method_7_code (5 : Nat) (Option.none : Option Jvm.ClassFile.FieldType)) ∈ lw_all := lw_g (lw_at lw_m8 164 rfl) rfl
theorem q1955 : (Jvm.Cond.methodLink "LikedOrdersModel" (204 : Nat) ({ cls := "LikedOrdersModel", name := "token", desc := "()V" } : Jvm.MethodName)) ∈ lw_all := lw_g (lw_at lw_m8 165 rfl) rfl
theorem q1956 : (Jvm.Cond.privateMethod ({ cls := "LikedOrdersModel", name := "token", desc := "()V" } : Jvm.MethodName)) ∈ lw_tbl := lw_at lw_m8 166 rfl
theorem q1957 : (Jvm.Cond.instanceMethod ({ cls := "LikedOrdersModel", name := "token", desc := "()V" } : Jvm.MethodName)) ∈ lw_all := lw_g (lw_at lw_m8 167 rfl) rfl
theorem q1958 : (Jvm.Cond.code ({ cls := "LikedOrdersModel", name := "token", desc := "()V" } : Jvm.MethodName) prog_17_method_45_code (2 : Nat) (Option.none : Option Jvm.ClassFile.FieldType)) ∈ lw_all := lw_g (lw_at lw_m8 168 rfl) rfl
theorem q1959 : (Jvm.Cond.methodLink "LikedOrdersModel" (176 : Nat) ({ cls := "LikedOrdersModel", name := "seen", desc := "(I)I" } : Jvm.MethodName)) ∈ lw_all := lw_g (lw_at lw_m8 169 rfl) rfl
theorem q1960 : (Jvm.Cond.privateMethod ({ cls := "LikedOrdersModel", name := "seen", desc := "(I)I" } : Jvm.MethodName)) ∈ lw_tbl := lw_at lw_m8 170 rfl
theorem q1961 : (Jvm.Cond.instanceMethod ({ cls := "LikedOrdersModel", name := "seen", desc := "(I)I" } : Jvm.MethodName)) ∈ lw_all := lw_g (lw_at lw_m8 171 rfl) rfl
theorem q1962 : (Jvm.Cond.code ({ cls := "LikedOrdersModel", name := "seen", desc := "(I)I" } : Jvm.MethodName) prog_17_method_42_code (2 : Nat) (Option.some Jvm.ClassFile.FieldType.int)) ∈ lw_all := lw_g (lw_at lw_m8 172 rfl) rfl
theorem q1963 : (Jvm.Cond.methodLink "LikedOrdersModel" (185 : Nat) ({ cls := "LikedOrdersModel", name := "isSmall", desc := "(I)Z" } : Jvm.MethodName)) ∈ lw_all := lw_g (lw_at lw_m8 173 rfl) rfl
theorem q1964 : (Jvm.Cond.static ({ cls := "LikedOrdersModel", name := "isSmall", desc := "(I)Z" } : Jvm.MethodName)) ∈ lw_all := lw_g (lw_at lw_m8 174 rfl) rfl
theorem q1965 : (Jvm.Cond.code ({ cls := "LikedOrdersModel", name := "isSmall", desc := "(I)Z" } : Jvm.MethodName) prog_17_method_43_code (1 : Nat) (Option.some Jvm.ClassFile.FieldType.boolean)) ∈ lw_all := lw_g (lw_at lw_m8 175 rfl) rfl
theorem q1966 : (Jvm.Cond.methodLink "LikedOrdersModel" (189 : Nat) ({ cls := "LikedOrdersModel", name := "isDigit", desc := "(I)Z" } : Jvm.MethodName)) ∈ lw_all := lw_g (lw_at lw_m8 176 rfl) rfl
theorem q1967 : (Jvm.Cond.static ({ cls := "LikedOrdersModel", name := "isDigit", desc := "(I)Z" } : Jvm.MethodName)) ∈ lw_all := lw_g (lw_at lw_m8 177 rfl) rfl
theorem q1968 : (Jvm.Cond.code ({ cls := "LikedOrdersModel", name := "isDigit", desc := "(I)Z" } : Jvm.MethodName) prog_17_method_44_code (1 : Nat) (Option.some Jvm.ClassFile.FieldType.boolean)) ∈ lw_all := lw_g (lw_at lw_m8 178 rfl) rfl
theorem q1969 : (Jvm.Cond.methodLink "LikedOrdersModel" (270 : Nat) ({ cls := "LikedOrdersModel", name := "reads", desc := "()V" } : Jvm.MethodName)) ∈ lw_all := lw_g (lw_at lw_m8 179 rfl) rfl
theorem q1970 : (Jvm.Cond.privateMethod ({ cls := "LikedOrdersModel", name := "reads", desc := "()V" } : Jvm.MethodName)) ∈ lw_tbl := lw_at lw_m8 180 rfl
theorem q1971 : (Jvm.Cond.instanceMethod ({ cls := "LikedOrdersModel", name := "reads", desc := "()V" } : Jvm.MethodName)) ∈ lw_all := lw_g (lw_at lw_m8 181 rfl) rfl
theorem q1972 : (Jvm.Cond.code ({ cls := "LikedOrdersModel", name := "reads", desc := "()V" } : Jvm.MethodName) prog_17_method_59_code (2 : Nat) (Option.none : Option Jvm.ClassFile.FieldType)) ∈ lw_all := lw_g (lw_at lw_m8 182 rfl) rfl
theorem q1973 : (Jvm.Cond.methodLink "LikedOrdersModel" (60 : Nat) ({ cls := "LikedOrdersModel", name := "learns", desc := "()V" } : Jvm.MethodName)) ∈ lw_all := lw_g (lw_at lw_m8 183 rfl) rfl
theorem q1974 : (Jvm.Cond.privateMethod ({ cls := "LikedOrdersModel", name := "learns", desc := "()V" } : Jvm.MethodName)) ∈ lw_tbl := lw_at lw_m8 184 rfl
theorem q1975 : (Jvm.Cond.instanceMethod ({ cls := "LikedOrdersModel", name := "learns", desc := "()V" } : Jvm.MethodName)) ∈ lw_all := lw_g (lw_at lw_m8 185 rfl) rfl
theorem q1976 : (Jvm.Cond.code ({ cls := "LikedOrdersModel", name := "learns", desc := "()V" } : Jvm.MethodName) prog_17_method_16_code (1 : Nat) (Option.none : Option Jvm.ClassFile.FieldType)) ∈ lw_all := lw_g (lw_at lw_m8 186 rfl) rfl
theorem q1977 : (Jvm.Cond.methodLink "LikedOrdersModel" (82 : Nat) ({ cls := "LikedOrdersModel", name := "learnsBut", desc := "(I)V" } : Jvm.MethodName)) ∈ lw_all := lw_g (lw_at lw_m8 187 rfl) rfl
theorem q1978 : (Jvm.Cond.privateMethod ({ cls := "LikedOrdersModel", name := "learnsBut", desc := "(I)V" } : Jvm.MethodName)) ∈ lw_tbl := lw_at lw_m8 188 rfl
theorem q1979 : (Jvm.Cond.instanceMethod ({ cls := "LikedOrdersModel", name := "learnsBut", desc := "(I)V" } : Jvm.MethodName)) ∈ lw_all := lw_g (lw_at lw_m8 189 rfl) rfl
theorem q1980 : (Jvm.Cond.code ({ cls := "LikedOrdersModel", name := "learnsBut", desc := "(I)V" } : Jvm.MethodName) prog_17_method_15_code (3 : Nat) (Option.none : Option Jvm.ClassFile.FieldType)) ∈ lw_all := lw_g (lw_at lw_m8 190 rfl) rfl
theorem q1981 : (Jvm.Cond.methodLink "LikedOrdersModel" (71 : Nat) ({ cls := "LikedOrdersModel", name := "better", desc := "(I)I" } : Jvm.MethodName)) ∈ lw_all := lw_g (lw_at lw_m8 191 rfl) rfl
theorem q1982 : (Jvm.Cond.privateMethod ({ cls := "LikedOrdersModel", name := "better", desc := "(I)I" } : Jvm.MethodName)) ∈ lw_tbl := lw_at lw_m8 192 rfl
theorem q1983 : (Jvm.Cond.instanceMethod ({ cls := "LikedOrdersModel", name := "better", desc := "(I)I" } : Jvm.MethodName)) ∈ lw_all := lw_g (lw_at lw_m8 193 rfl) rfl
theorem q1984 : (Jvm.Cond.code ({ cls := "LikedOrdersModel", name := "better", desc := "(I)I" } : Jvm.MethodName) prog_17_method_11_code (2 : Nat) (Option.some Jvm.ClassFile.FieldType.int)) ∈ lw_all := lw_g (lw_at lw_m8 194 rfl) rfl
theorem q1985 : (Jvm.Cond.methodLink "LikedOrdersModel" (75 : Nat) ({ cls := "LikedOrdersModel", name := "other", desc := "(I)I" } : Jvm.MethodName)) ∈ lw_all := lw_g (lw_at lw_m8 195 rfl) rfl
theorem q1986 : (Jvm.Cond.privateMethod ({ cls := "LikedOrdersModel", name := "other", desc := "(I)I" } : Jvm.MethodName)) ∈ lw_tbl := lw_at lw_m8 196 rfl
theorem q1987 : (Jvm.Cond.instanceMethod ({ cls := "LikedOrdersModel", name := "other", desc := "(I)I" } : Jvm.MethodName)) ∈ lw_all := lw_g (lw_at lw_m8 197 rfl) rfl
theorem q1988 : (Jvm.Cond.code ({ cls := "LikedOrdersModel", name := "other", desc := "(I)I" } : Jvm.MethodName) prog_17_method_12_code (2 : Nat) (Option.some Jvm.ClassFile.FieldType.int)) ∈ lw_all := lw_g (lw_at lw_m8 198 rfl) rfl
theorem q1989 : (Jvm.Cond.methodLink "LikedOrdersModel" (78 : Nat) ({ cls := "LikedOrdersModel", name := "knows", desc := "(II)V" } : Jvm.MethodName)) ∈ lw_all := lw_g (lw_at lw_m8 199 rfl) rfl
theorem q1990 : (Jvm.Cond.privateMethod ({ cls := "LikedOrdersModel", name := "knows", desc := "(II)V" } : Jvm.MethodName)) ∈ lw_tbl := lw_at lw_m8 200 rfl
theorem q1991 : (Jvm.Cond.instanceMethod ({ cls := "LikedOrdersModel", name := "knows", desc := "(II)V" } : Jvm.MethodName)) ∈ lw_all := lw_g (lw_at lw_m8 201 rfl) rfl
theorem q1992 : (Jvm.Cond.code ({ cls := "LikedOrdersModel", name := "knows", desc := "(II)V" } : Jvm.MethodName) prog_17_method_14_code (5 : Nat) (Option.none : Option Jvm.ClassFile.FieldType)) ∈ lw_all := lw_g (lw_at lw_m8 202 rfl) rfl
theorem q1993 : (Jvm.Cond.methodLink "LikedOrdersModel" (63 : Nat) ({ cls := "LikedOrdersModel", name := "items", desc := "()I" } : Jvm.MethodName)) ∈ lw_all := lw_g (lw_at lw_m8 203 rfl) rfl
theorem q1994 : (Jvm.Cond.privateMethod ({ cls := "LikedOrdersModel", name := "items", desc := "()I" } : Jvm.MethodName)) ∈ lw_tbl := lw_at lw_m8 204 rfl
theorem q1995 : (Jvm.Cond.instanceMethod ({ cls := "LikedOrdersModel", name := "items", desc := "()I" } : Jvm.MethodName)) ∈ lw_all := lw_g (lw_at lw_m8 205 rfl) rfl
theorem q1996 : (Jvm.Cond.code ({ cls := "LikedOrdersModel", name := "items", desc := "()I" } : Jvm.MethodName) prog_17_method_10_code (1 : Nat) (Option.some Jvm.ClassFile.FieldType.int)) ∈ lw_all := lw_g (lw_at lw_m8 206 rfl) rfl
theorem q1997 : (Jvm.Cond.methodLink "LikedOrdersModel" (67 : Nat) ({ cls := "LikedOrdersModel", name := "isBetter", desc := "(II)Z" } : Jvm.MethodName)) ∈ lw_all := lw_g (lw_at lw_m8 207 rfl) rfl
theorem q1998 : (Jvm.Cond.privateMethod ({ cls := "LikedOrdersModel", name := "isBetter", desc := "(II)Z" } : Jvm.MethodName)) ∈ lw_tbl := lw_at lw_m8 208 rfl
theorem q1999 : (Jvm.Cond.instanceMethod ({ cls := "LikedOrdersModel", name := "isBetter", desc := "(II)Z" } : Jvm.MethodName)) ∈ lw_all := lw_g (lw_at lw_m8 209 rfl) rfl
theorem q2000 : (Jvm.Cond.code ({ cls := "LikedOrdersModel", name := "isBetter", desc := "(II)Z" } : Jvm.MethodName) prog_17_method_13_code (3 : Nat) (Option.some Jvm.ClassFile.FieldType.boolean)) ∈ lw_all := lw_g (lw_at lw_m8 210 rfl) rfl
theorem q2001 : (Jvm.Cond.stringRef "LikedOrdersModel" (253 : Nat) "liked") ∈ lw_tbl := lw_at lw_m8 211 rfl
theorem q2002 : (Jvm.Cond.methodLink "LikedOrdersModel" (255 : Nat) ({ cls := "LikedOrdersModel", name := "isWord", desc := "(Ljava/lang/String;)Z" } : Jvm.MethodName)) ∈ lw_all := lw_g (lw_at lw_m8 212 rfl) rfl
theorem q2003 : (Jvm.Cond.privateMethod ({ cls := "LikedOrdersModel", name := "isWord", desc := "(Ljava/lang/String;)Z" } : Jvm.MethodName)) ∈ lw_tbl := lw_at lw_m8 213 rfl
theorem q2004 : (Jvm.Cond.instanceMethod ({ cls := "LikedOrdersModel", name := "isWord", desc := "(Ljava/lang/String;)Z" } : Jvm.MethodName)) ∈ lw_all := lw_g (lw_at lw_m8 214 rfl) rfl
theorem q2005 : (Jvm.Cond.code ({ cls := "LikedOrdersModel", name := "isWord", desc := "(Ljava/lang/String;)Z" } : Jvm.MethodName) prog_17_method_49_code (3 : Nat) (Option.some Jvm.ClassFile.FieldType.boolean)) ∈ lw_all := lw_g (lw_at lw_m8 215 rfl) rfl
theorem q2006 : (Jvm.Cond.methodLink "LikedOrdersModel" (207 : Nat) ({ cls := "java/lang/String", name := "length", desc := "()I" } : Jvm.MethodName)) ∈ lw_all := lw_g (lw_at lw_m8 216 rfl) rfl
theorem q2007 : (Jvm.Cond.methodLink "LikedOrdersModel" (211 : Nat) ({ cls := "java/lang/String", name := "charAt", desc := "(I)C" } : Jvm.MethodName)) ∈ lw_all := lw_g (lw_at lw_m8 217 rfl) rfl
theorem q2008 : (Jvm.Cond.methodLink "LikedOrdersModel" (229 : Nat) ({ cls := "LikedOrdersModel", name := "failsIf", desc := "(ZI)V" } : Jvm.MethodName)) ∈ lw_all := lw_g (lw_at lw_m8 218 rfl) rfl
theorem q2009 : (Jvm.Cond.privateMethod ({ cls := "LikedOrdersModel", name := "failsIf", desc := "(ZI)V" } : Jvm.MethodName)) ∈ lw_tbl := lw_at lw_m8 219 rfl
theorem q2010 : (Jvm.Cond.instanceMethod ({ cls := "LikedOrdersModel", name := "failsIf", desc := "(ZI)V" } : Jvm.MethodName)) ∈ lw_all := lw_g (lw_at lw_m8 220 rfl) rfl
theorem q2011 : (Jvm.Cond.code ({ cls := "LikedOrdersModel", name := "failsIf", desc := "(ZI)V" } : Jvm.MethodName) prog_17_method_47_code (3 : Nat) (Option.none : Option Jvm.ClassFile.FieldType)) ∈ lw_all := lw_g (lw_at lw_m8 221 rfl) rfl
theorem q2012 : (Jvm.Cond.methodLink "LikedOrdersModel" (201 : Nat) ({ cls := "LikedOrdersModel", name := "fails", desc := "(I)V" } : Jvm.MethodName)) ∈ lw_all := lw_g (lw_at lw_m8 222 rfl) rfl
theorem q2013 : (Jvm.Cond.privateMethod ({ cls := "LikedOrdersModel", name := "fails", desc := "(I)V" } : Jvm.MethodName)) ∈ lw_tbl := lw_at lw_m8 223 rfl
theorem q2014 : (Jvm.Cond.instanceMethod ({ cls := "LikedOrdersModel", name := "fails", desc := "(I)V" } : Jvm.MethodName)) ∈ lw_all := lw_g (lw_at lw_m8 224 rfl) rfl
theorem q2015 : (Jvm.Cond.code ({ cls := "LikedOrdersModel", name := "fails", desc := "(I)V" } : Jvm.MethodName) prog_17_method_46_code (2 : Nat) (Option.none : Option Jvm.ClassFile.FieldType)) ∈ lw_all := lw_g (lw_at lw_m8 225 rfl) rfl
theorem q2016 : (Jvm.Cond.methodLink "LikedOrdersModel" (223 : Nat) ({ cls := "LikedOrdersModel", name := "goesOn", desc := "()V" } : Jvm.MethodName)) ∈ lw_all := lw_g (lw_at lw_m8 226 rfl) rfl
theorem q2017 : (Jvm.Cond.privateMethod ({ cls := "LikedOrdersModel", name := "goesOn", desc := "()V" } : Jvm.MethodName)) ∈ lw_tbl := lw_at lw_m8 227 rfl
theorem q2018 : (Jvm.Cond.instanceMethod ({ cls := "LikedOrdersModel", name := "goesOn", desc := "()V" } : Jvm.MethodName)) ∈ lw_all := lw_g (lw_at lw_m8 228 rfl) rfl
theorem q2019 : (Jvm.Cond.code ({ cls := "LikedOrdersModel", name := "goesOn", desc := "()V" } : Jvm.MethodName) prog_17_method_48_code (1 : Nat) (Option.none : Option Jvm.ClassFile.FieldType)) ∈ lw_all := lw_g (lw_at lw_m8 229 rfl) rfl
theorem q2020 : (Jvm.Cond.methodLink "LikedOrdersModel" (239 : Nat) ({ cls := "LikedOrdersModel", name := "takes", desc := "(II)I" } : Jvm.MethodName)) ∈ lw_all := lw_g (lw_at lw_m8 230 rfl) rfl
theorem q2021 : (Jvm.Cond.privateMethod ({ cls := "LikedOrdersModel", name := "takes", desc := "(II)I" } : Jvm.MethodName)) ∈ lw_tbl := lw_at lw_m8 231 rfl
theorem q2022 : (Jvm.Cond.instanceMethod ({ cls := "LikedOrdersModel", name := "takes", desc := "(II)I" } : Jvm.MethodName)) ∈ lw_all := lw_g (lw_at lw_m8 232 rfl) rfl
theorem q2023 : (Jvm.Cond.code ({ cls := "LikedOrdersModel", name := "takes", desc := "(II)I" } : Jvm.MethodName) prog_17_method_51_code (4 : Nat) (Option.some Jvm.ClassFile.FieldType.int)) ∈ lw_all := lw_g (lw_at lw_m8 233 rfl) rfl
theorem q2024 : (Jvm.Cond.methodLink "LikedOrdersModel" (219 : Nat) ({ cls := "LikedOrdersModel", name := "looks", desc := "(II)I" } : Jvm.MethodName)) ∈ lw_all := lw_g (lw_at lw_m8 234 rfl) rfl
theorem q2025 : (Jvm.Cond.privateMethod ({ cls := "LikedOrdersModel", name := "looks", desc := "(II)I" } : Jvm.MethodName)) ∈ lw_tbl := lw_at lw_m8 235 rfl
theorem q2026 : (Jvm.Cond.instanceMethod ({ cls := "LikedOrdersModel", name := "looks", desc := "(II)I" } : Jvm.MethodName)) ∈ lw_all := lw_g (lw_at lw_m8 236 rfl) rfl
theorem q2027 : (Jvm.Cond.code ({ cls := "LikedOrdersModel", name := "looks", desc := "(II)I" } : Jvm.MethodName) prog_17_method_50_code (3 : Nat) (Option.some Jvm.ClassFile.FieldType.int)) ∈ lw_all := lw_g (lw_at lw_m8 237 rfl) rfl
theorem q2028 : (Jvm.Cond.stringRef "LikedOrdersModel" (259 : Nat) "item") ∈ lw_tbl := lw_at lw_m8 238 rfl
theorem q2029 : (Jvm.Cond.methodLink "LikedOrdersModel" (261 : Nat) ({ cls := "LikedOrdersModel", name := "itemLine", desc := "()V" } : Jvm.MethodName)) ∈ lw_all := lw_g (lw_at lw_m8 239 rfl) rfl
theorem q2030 : (Jvm.Cond.privateMethod ({ cls := "LikedOrdersModel", name := "itemLine", desc := "()V" } : Jvm.MethodName)) ∈ lw_tbl := lw_at lw_m9 0 rfl
theorem q2031 : (Jvm.Cond.instanceMethod ({ cls := "LikedOrdersModel", name := "itemLine", desc := "()V" } : Jvm.MethodName)) ∈ lw_all := lw_g (lw_at lw_m9 1 rfl) rfl
theorem q2032 : (Jvm.Cond.code ({ cls := "LikedOrdersModel", name := "itemLine", desc := "()V" } : Jvm.MethodName) prog_17_method_55_code (3 : Nat) (Option.none : Option Jvm.ClassFile.FieldType)) ∈ lw_all := lw_g (lw_at lw_m9 2 rfl) rfl
theorem q2033 : (Jvm.Cond.methodLink "LikedOrdersModel" (233 : Nat) ({ cls := "LikedOrdersModel", name := "named", desc := "(II)I" } : Jvm.MethodName)) ∈ lw_all := lw_g (lw_at lw_m9 3 rfl) rfl
theorem q2034 : (Jvm.Cond.privateMethod ({ cls := "LikedOrdersModel", name := "named", desc := "(II)I" } : Jvm.MethodName)) ∈ lw_tbl := lw_at lw_m9 4 rfl
theorem q2035 : (Jvm.Cond.instanceMethod ({ cls := "LikedOrdersModel", name := "named", desc := "(II)I" } : Jvm.MethodName)) ∈ lw_all := lw_g (lw_at lw_m9 5 rfl) rfl
theorem q2036 : (Jvm.Cond.code ({ cls := "LikedOrdersModel", name := "named", desc := "(II)I" } : Jvm.MethodName) prog_17_method_53_code (4 : Nat) (Option.some Jvm.ClassFile.FieldType.int)) ∈ lw_all := lw_g (lw_at lw_m9 6 rfl) rfl
theorem q2037 : (Jvm.Cond.methodLink "LikedOrdersModel" (226 : Nat) ({ cls := "LikedOrdersModel", name := "hasName", desc := "(III)Z" } : Jvm.MethodName)) ∈ lw_all := lw_g (lw_at lw_m9 7 rfl) rfl
theorem q2038 : (Jvm.Cond.privateMethod ({ cls := "LikedOrdersModel", name := "hasName", desc := "(III)Z" } : Jvm.MethodName)) ∈ lw_tbl := lw_at lw_m9 8 rfl
theorem q2039 : (Jvm.Cond.instanceMethod ({ cls := "LikedOrdersModel", name := "hasName", desc := "(III)Z" } : Jvm.MethodName)) ∈ lw_all := lw_g (lw_at lw_m9 9 rfl) rfl
theorem q2040 : (Jvm.Cond.code ({ cls := "LikedOrdersModel", name := "hasName", desc := "(III)Z" } : Jvm.MethodName) prog_17_method_52_code (5 : Nat) (Option.some Jvm.ClassFile.FieldType.boolean)) ∈ lw_all := lw_g (lw_at lw_m9 10 rfl) rfl
theorem q2041 : (Jvm.Cond.methodLink "LikedOrdersModel" (236 : Nat) ({ cls := "LikedOrdersModel", name := "names", desc := "(III)V" } : Jvm.MethodName)) ∈ lw_all := lw_g (lw_at lw_m9 11 rfl) rfl
theorem q2042 : (Jvm.Cond.privateMethod ({ cls := "LikedOrdersModel", name := "names", desc := "(III)V" } : Jvm.MethodName)) ∈ lw_tbl := lw_at lw_m9 12 rfl
theorem q2043 : (Jvm.Cond.instanceMethod ({ cls := "LikedOrdersModel", name := "names", desc := "(III)V" } : Jvm.MethodName)) ∈ lw_all := lw_g (lw_at lw_m9 13 rfl) rfl
theorem q2044 : (Jvm.Cond.code ({ cls := "LikedOrdersModel", name := "names", desc := "(III)V" } : Jvm.MethodName) prog_17_method_54_code (5 : Nat) (Option.none : Option Jvm.ClassFile.FieldType)) ∈ lw_all := lw_g (lw_at lw_m9 14 rfl) rfl
theorem q2045 : (Jvm.Cond.methodLink "LikedOrdersModel" (264 : Nat) ({ cls := "LikedOrdersModel", name := "answerLine", desc := "()V" } : Jvm.MethodName)) ∈ lw_all := lw_g (lw_at lw_m9 15 rfl) rfl
theorem q2046 : (Jvm.Cond.privateMethod ({ cls := "LikedOrdersModel", name := "answerLine", desc := "()V" } : Jvm.MethodName)) ∈ lw_tbl := lw_at lw_m9 16 rfl
theorem q2047 : (Jvm.Cond.instanceMethod ({ cls := "LikedOrdersModel", name := "answerLine", desc := "()V" } : Jvm.MethodName)) ∈ lw_all := lw_g (lw_at lw_m9 17 rfl) rfl
theorem q2048 : (Jvm.Cond.code ({ cls := "LikedOrdersModel", name := "answerLine", desc := "()V" } : Jvm.MethodName) prog_17_method_57_code (3 : Nat) (Option.none : Option Jvm.ClassFile.FieldType)) ∈ lw_all := lw_g (lw_at lw_m9 18 rfl) rfl
theorem q2049 : (Jvm.Cond.methodLink "LikedOrdersModel" (247 : Nat) ({ cls := "LikedOrdersModel", name := "itemHere", desc := "()I" } : Jvm.MethodName)) ∈ lw_all := lw_g (lw_at lw_m9 19 rfl) rfl
theorem q2050 : (Jvm.Cond.privateMethod ({ cls := "LikedOrdersModel", name := "itemHere", desc := "()I" } : Jvm.MethodName)) ∈ lw_tbl := lw_at lw_m9 20 rfl
theorem q2051 : (Jvm.Cond.instanceMethod ({ cls := "LikedOrdersModel", name := "itemHere", desc := "()I" } : Jvm.MethodName)) ∈ lw_all := lw_g (lw_at lw_m9 21 rfl) rfl
theorem q2052 : (Jvm.Cond.code ({ cls := "LikedOrdersModel", name := "itemHere", desc := "()I" } : Jvm.MethodName) prog_17_method_56_code (2 : Nat) (Option.some Jvm.ClassFile.FieldType.int)) ∈ lw_all := lw_g (lw_at lw_m9 22 rfl) rfl
theorem q2053 : (Jvm.Cond.methodLink "LikedOrdersModel" (242 : Nat) ({ cls := "java/lang/Math", name := "max", desc := "(II)I" } : Jvm.MethodName)) ∈ lw_all := lw_g (lw_at lw_m9 23 rfl) rfl
theorem q2054 : (Jvm.Cond.methodLink "LikedOrdersModel" (250 : Nat) ({ cls := "LikedOrdersModel", name := "answers", desc := "(II)V" } : Jvm.MethodName)) ∈ lw_all := lw_g (lw_at lw_m9 24 rfl) rfl
theorem q2055 : (Jvm.Cond.privateMethod ({ cls := "LikedOrdersModel", name := "answers", desc := "(II)V" } : Jvm.MethodName)) ∈ lw_tbl := lw_at lw_m9 25 rfl
theorem q2056 : (Jvm.Cond.instanceMethod ({ cls := "LikedOrdersModel", name := "answers", desc := "(II)V" } : Jvm.MethodName)) ∈ lw_all := lw_g (lw_at lw_m9 26 rfl) rfl
theorem q2057 : (Jvm.Cond.code ({ cls := "LikedOrdersModel", name := "answers", desc := "(II)V" } : Jvm.MethodName) prog_17_method_58_code (3 : Nat) (Option.none : Option Jvm.ClassFile.FieldType)) ∈ lw_all := lw_g (lw_at lw_m9 27 rfl) rfl
theorem q2058 : (Jvm.Cond.methodLink "LikedOrdersModel" (273 : Nat) ({ cls := "LikedOrdersModel", name := "back", desc := "(I)I" } : Jvm.MethodName)) ∈ lw_all := lw_g (lw_at lw_m9 28 rfl) rfl
theorem q2059 : (Jvm.Cond.privateMethod ({ cls := "LikedOrdersModel", name := "back", desc := "(I)I" } : Jvm.MethodName)) ∈ lw_tbl := lw_at lw_m9 29 rfl
theorem q2060 : (Jvm.Cond.instanceMethod ({ cls := "LikedOrdersModel", name := "back", desc := "(I)I" } : Jvm.MethodName)) ∈ lw_all := lw_g (lw_at lw_m9 30 rfl) rfl
theorem q2061 : (Jvm.Cond.code ({ cls := "LikedOrdersModel", name := "back", desc := "(I)I" } : Jvm.MethodName) prog_17_method_9_code (2 : Nat) (Option.some Jvm.ClassFile.FieldType.int)) ∈ lw_all := lw_g (lw_at lw_m9 31 rfl) rfl
theorem q2063 : (Jvm.Cond.instanceMethod ({ cls := "LikedOrdersModel", name := "count", desc := "(I)I" } : Jvm.MethodName)) ∈ lw_all := lw_g (lw_at lw_m9 33 rfl) rfl
theorem q2064 : (Jvm.Cond.selects "LikedOrdersModel" ({ cls := "LikedOrdersModel", name := "count", desc := "(I)I" } : Jvm.MethodName) ({ cls := "LikedOrdersModel", name := "count", desc := "(I)I" } : Jvm.MethodName)) ∈ lw_all := lw_g (lw_at lw_m9 34 rfl) rfl
theorem q2065 : (Jvm.Cond.code ({ cls := "LikedOrdersModel", name := "count", desc := "(I)I" } : Jvm.MethodName) prog_17_method_63_code (2 : Nat) (Option.some Jvm.ClassFile.FieldType.int)) ∈ lw_all := lw_g (lw_at lw_m9 35 rfl) rfl
theorem q2066 : (Jvm.Cond.methodLink "LikedOrdersModel" (285 : Nat) ({ cls := "LikedOrdersModel", name := "notLoaded", desc := "()Z" } : Jvm.MethodName)) ∈ lw_all := lw_g (lw_at lw_m9 36 rfl) rfl
theorem q2067 : (Jvm.Cond.privateMethod ({ cls := "LikedOrdersModel", name := "notLoaded", desc := "()Z" } : Jvm.MethodName)) ∈ lw_tbl := lw_at lw_m9 37 rfl
theorem q2068 : (Jvm.Cond.instanceMethod ({ cls := "LikedOrdersModel", name := "notLoaded", desc := "()Z" } : Jvm.MethodName)) ∈ lw_all := lw_g (lw_at lw_m9 38 rfl) rfl
theorem q2069 : (Jvm.Cond.code ({ cls := "LikedOrdersModel", name := "notLoaded", desc := "()Z" } : Jvm.MethodName) prog_17_method_6_code (1 : Nat) (Option.some Jvm.ClassFile.FieldType.boolean)) ∈ lw_all := lw_g (lw_at lw_m9 39 rfl) rfl
theorem q2070 : (Jvm.Cond.constantLong "LikedOrdersModel" (289 : Nat) (8 : Int64)) ∈ lw_all := lw_g (lw_at lw_m9 40 rfl) rfl
theorem q2071 : (Jvm.Cond.methodLink "LikedOrdersModel" (291 : Nat) ({ cls := "LikedOrdersModel", name := "knownTwos", desc := "()I" } : Jvm.MethodName)) ∈ lw_all := lw_g (lw_at lw_m9 41 rfl) rfl
theorem q2072 : (Jvm.Cond.privateMethod ({ cls := "LikedOrdersModel", name := "knownTwos", desc := "()I" } : Jvm.MethodName)) ∈ lw_tbl := lw_at lw_m9 42 rfl
theorem q2073 : (Jvm.Cond.instanceMethod ({ cls := "LikedOrdersModel", name := "knownTwos", desc := "()I" } : Jvm.MethodName)) ∈ lw_all := lw_g (lw_at lw_m9 43 rfl) rfl
theorem q2074 : (Jvm.Cond.code ({ cls := "LikedOrdersModel", name := "knownTwos", desc := "()I" } : Jvm.MethodName) prog_17_method_21_code (3 : Nat) (Option.some Jvm.ClassFile.FieldType.int)) ∈ lw_all := lw_g (lw_at lw_m9 44 rfl) rfl
theorem q2075 : (Jvm.Cond.methodLink "LikedOrdersModel" (93 : Nat) ({ cls := "LikedOrdersModel", name := "ones", desc := "(I)I" } : Jvm.MethodName)) ∈ lw_all := lw_g (lw_at lw_m9 45 rfl) rfl
theorem q2076 : (Jvm.Cond.static ({ cls := "LikedOrdersModel", name := "ones", desc := "(I)I" } : Jvm.MethodName)) ∈ lw_all := lw_g (lw_at lw_m9 46 rfl) rfl
theorem q2077 : (Jvm.Cond.code ({ cls := "LikedOrdersModel", name := "ones", desc := "(I)I" } : Jvm.MethodName) prog_17_method_17_code (3 : Nat) (Option.some Jvm.ClassFile.FieldType.int)) ∈ lw_all := lw_g (lw_at lw_m9 47 rfl) rfl
theorem q2078 : (Jvm.Cond.methodLink "LikedOrdersModel" (294 : Nat) ({ cls := "LikedOrdersModel", name := "orders", desc := "()I" } : Jvm.MethodName)) ∈ lw_all := lw_g (lw_at lw_m9 48 rfl) rfl
theorem q2079 : (Jvm.Cond.privateMethod ({ cls := "LikedOrdersModel", name := "orders", desc := "()I" } : Jvm.MethodName)) ∈ lw_tbl := lw_at lw_m9 49 rfl
theorem q2080 : (Jvm.Cond.instanceMethod ({ cls := "LikedOrdersModel", name := "orders", desc := "()I" } : Jvm.MethodName)) ∈ lw_all := lw_g (lw_at lw_m9 50 rfl) rfl
theorem q2081 : (Jvm.Cond.code ({ cls := "LikedOrdersModel", name := "orders", desc := "()I" } : Jvm.MethodName) prog_17_method_26_code (1 : Nat) (Option.some Jvm.ClassFile.FieldType.int)) ∈ lw_all := lw_g (lw_at lw_m9 51 rfl) rfl
theorem q2082 : (Jvm.Cond.methodLink "LikedOrdersModel" (102 : Nat) ({ cls := "LikedOrdersModel", name := "laysWays", desc := "()V" } : Jvm.MethodName)) ∈ lw_all := lw_g (lw_at lw_m9 52 rfl) rfl
theorem q2083 : (Jvm.Cond.privateMethod ({ cls := "LikedOrdersModel", name := "laysWays", desc := "()V" } : Jvm.MethodName)) ∈ lw_tbl := lw_at lw_m9 53 rfl
theorem q2084 : (Jvm.Cond.instanceMethod ({ cls := "LikedOrdersModel", name := "laysWays", desc := "()V" } : Jvm.MethodName)) ∈ lw_all := lw_g (lw_at lw_m9 54 rfl) rfl
theorem q2085 : (Jvm.Cond.code ({ cls := "LikedOrdersModel", name := "laysWays", desc := "()V" } : Jvm.MethodName) prog_17_method_25_code (3 : Nat) (Option.none : Option Jvm.ClassFile.FieldType)) ∈ lw_all := lw_g (lw_at lw_m9 55 rfl) rfl
theorem q2086 : (Jvm.Cond.methodLink "LikedOrdersModel" (96 : Nat) ({ cls := "LikedOrdersModel", name := "all", desc := "()I" } : Jvm.MethodName)) ∈ lw_all := lw_g (lw_at lw_m9 56 rfl) rfl
theorem q2087 : (Jvm.Cond.privateMethod ({ cls := "LikedOrdersModel", name := "all", desc := "()I" } : Jvm.MethodName)) ∈ lw_tbl := lw_at lw_m9 57 rfl
theorem q2088 : (Jvm.Cond.instanceMethod ({ cls := "LikedOrdersModel", name := "all", desc := "()I" } : Jvm.MethodName)) ∈ lw_all := lw_g (lw_at lw_m9 58 rfl) rfl
theorem q2089 : (Jvm.Cond.code ({ cls := "LikedOrdersModel", name := "all", desc := "()I" } : Jvm.MethodName) prog_17_method_24_code (1 : Nat) (Option.some Jvm.ClassFile.FieldType.int)) ∈ lw_all := lw_g (lw_at lw_m9 59 rfl) rfl
theorem q2090 : (Jvm.Cond.methodLink "LikedOrdersModel" (86 : Nat) ({ cls := "LikedOrdersModel", name := "flag", desc := "(Z)I" } : Jvm.MethodName)) ∈ lw_all := lw_g (lw_at lw_m9 60 rfl) rfl
theorem q2091 : (Jvm.Cond.static ({ cls := "LikedOrdersModel", name := "flag", desc := "(Z)I" } : Jvm.MethodName)) ∈ lw_all := lw_g (lw_at lw_m9 61 rfl) rfl
theorem q2092 : (Jvm.Cond.code ({ cls := "LikedOrdersModel", name := "flag", desc := "(Z)I" } : Jvm.MethodName) prog_17_method_4_code (1 : Nat) (Option.some Jvm.ClassFile.FieldType.int)) ∈ lw_all := lw_g (lw_at lw_m9 62 rfl) rfl
theorem q2093 : (Jvm.Cond.methodLink "LikedOrdersModel" (99 : Nat) ({ cls := "LikedOrdersModel", name := "canCome", desc := "(II)Z" } : Jvm.MethodName)) ∈ lw_all := lw_g (lw_at lw_m9 63 rfl) rfl
theorem q2094 : (Jvm.Cond.privateMethod ({ cls := "LikedOrdersModel", name := "canCome", desc := "(II)Z" } : Jvm.MethodName)) ∈ lw_tbl := lw_at lw_m9 64 rfl
theorem q2095 : (Jvm.Cond.instanceMethod ({ cls := "LikedOrdersModel", name := "canCome", desc := "(II)Z" } : Jvm.MethodName)) ∈ lw_all := lw_g (lw_at lw_m9 65 rfl) rfl
theorem q2096 : (Jvm.Cond.code ({ cls := "LikedOrdersModel", name := "canCome", desc := "(II)Z" } : Jvm.MethodName) prog_17_method_23_code (4 : Nat) (Option.some Jvm.ClassFile.FieldType.boolean)) ∈ lw_all := lw_g (lw_at lw_m9 66 rfl) rfl
theorem q2097 : (Jvm.Cond.methodLink "LikedOrdersModel" (297 : Nat) ({ cls := "LikedOrdersModel", name := "fixedItems", desc := "()I" } : Jvm.MethodName)) ∈ lw_all := lw_g (lw_at lw_m9 67 rfl) rfl
theorem q2098 : (Jvm.Cond.privateMethod ({ cls := "LikedOrdersModel", name := "fixedItems", desc := "()I" } : Jvm.MethodName)) ∈ lw_tbl := lw_at lw_m9 68 rfl
theorem q2099 : (Jvm.Cond.instanceMethod ({ cls := "LikedOrdersModel", name := "fixedItems", desc := "()I" } : Jvm.MethodName)) ∈ lw_all := lw_g (lw_at lw_m9 69 rfl) rfl
theorem q2100 : (Jvm.Cond.code ({ cls := "LikedOrdersModel", name := "fixedItems", desc := "()I" } : Jvm.MethodName) prog_17_method_61_code (3 : Nat) (Option.some Jvm.ClassFile.FieldType.int)) ∈ lw_all := lw_g (lw_at lw_m9 70 rfl) rfl
theorem q2101 : (Jvm.Cond.methodLink "LikedOrdersModel" (279 : Nat) ({ cls := "LikedOrdersModel", name := "leastPlace", desc := "(I)I" } : Jvm.MethodName)) ∈ lw_all := lw_g (lw_at lw_m9 71 rfl) rfl
theorem q2102 : (Jvm.Cond.privateMethod ({ cls := "LikedOrdersModel", name := "leastPlace", desc := "(I)I" } : Jvm.MethodName)) ∈ lw_tbl := lw_at lw_m9 72 rfl
theorem q2103 : (Jvm.Cond.instanceMethod ({ cls := "LikedOrdersModel", name := "leastPlace", desc := "(I)I" } : Jvm.MethodName)) ∈ lw_all := lw_g (lw_at lw_m9 73 rfl) rfl
theorem q2104 : (Jvm.Cond.code ({ cls := "LikedOrdersModel", name := "leastPlace", desc := "(I)I" } : Jvm.MethodName) prog_17_method_19_code (2 : Nat) (Option.some Jvm.ClassFile.FieldType.int)) ∈ lw_all := lw_g (lw_at lw_m9 74 rfl) rfl
theorem q2105 : (Jvm.Cond.methodLink "LikedOrdersModel" (90 : Nat) ({ cls := "LikedOrdersModel", name := "betterThan", desc := "(I)I" } : Jvm.MethodName)) ∈ lw_all := lw_g (lw_at lw_m9 75 rfl) rfl
theorem q2106 : (Jvm.Cond.privateMethod ({ cls := "LikedOrdersModel", name := "betterThan", desc := "(I)I" } : Jvm.MethodName)) ∈ lw_tbl := lw_at lw_m9 76 rfl
theorem q2107 : (Jvm.Cond.instanceMethod ({ cls := "LikedOrdersModel", name := "betterThan", desc := "(I)I" } : Jvm.MethodName)) ∈ lw_all := lw_g (lw_at lw_m9 77 rfl) rfl
theorem q2108 : (Jvm.Cond.code ({ cls := "LikedOrdersModel", name := "betterThan", desc := "(I)I" } : Jvm.MethodName) prog_17_method_18_code (4 : Nat) (Option.some Jvm.ClassFile.FieldType.int)) ∈ lw_all := lw_g (lw_at lw_m9 78 rfl) rfl
theorem q2109 : (Jvm.Cond.methodLink "LikedOrdersModel" (282 : Nat) ({ cls := "LikedOrdersModel", name := "greatestPlace", desc := "(I)I" } : Jvm.MethodName)) ∈ lw_all := lw_g (lw_at lw_m9 79 rfl) rfl
theorem q2110 : (Jvm.Cond.privateMethod ({ cls := "LikedOrdersModel", name := "greatestPlace", desc := "(I)I" } : Jvm.MethodName)) ∈ lw_tbl := lw_at lw_m9 80 rfl
theorem q2111 : (Jvm.Cond.instanceMethod ({ cls := "LikedOrdersModel", name := "greatestPlace", desc := "(I)I" } : Jvm.MethodName)) ∈ lw_all := lw_g (lw_at lw_m9 81 rfl) rfl
theorem q2112 : (Jvm.Cond.code ({ cls := "LikedOrdersModel", name := "greatestPlace", desc := "(I)I" } : Jvm.MethodName) prog_17_method_20_code (2 : Nat) (Option.some Jvm.ClassFile.FieldType.int)) ∈ lw_all := lw_g (lw_at lw_m9 82 rfl) rfl
theorem q2113 : (Jvm.Cond.methodLink "LikedOrdersModel" (300 : Nat) ({ cls := "LikedOrdersModel", name := "answersAgainst", desc := "()I" } : Jvm.MethodName)) ∈ lw_all := lw_g (lw_at lw_m9 83 rfl) rfl
theorem q2114 : (Jvm.Cond.privateMethod ({ cls := "LikedOrdersModel", name := "answersAgainst", desc := "()I" } : Jvm.MethodName)) ∈ lw_tbl := lw_at lw_m9 84 rfl
theorem q2115 : (Jvm.Cond.instanceMethod ({ cls := "LikedOrdersModel", name := "answersAgainst", desc := "()I" } : Jvm.MethodName)) ∈ lw_all := lw_g (lw_at lw_m9 85 rfl) rfl
theorem q2116 : (Jvm.Cond.code ({ cls := "LikedOrdersModel", name := "answersAgainst", desc := "()I" } : Jvm.MethodName) prog_17_method_62_code (3 : Nat) (Option.some Jvm.ClassFile.FieldType.int)) ∈ lw_all := lw_g (lw_at lw_m9 86 rfl) rfl
theorem q2117 : (Jvm.Cond.methodLink "LikedOrdersModel" (123 : Nat) ({ cls := "LikedOrdersModel", name := "isByWorth", desc := "(II)Z" } : Jvm.MethodName)) ∈ lw_all := lw_g (lw_at lw_m9 87 rfl) rfl
theorem q2118 : (Jvm.Cond.privateMethod ({ cls := "LikedOrdersModel", name := "isByWorth", desc := "(II)Z" } : Jvm.MethodName)) ∈ lw_tbl := lw_at lw_m9 88 rfl
theorem q2119 : (Jvm.Cond.instanceMethod ({ cls := "LikedOrdersModel", name := "isByWorth", desc := "(II)Z" } : Jvm.MethodName)) ∈ lw_all := lw_g (lw_at lw_m9 89 rfl) rfl
theorem q2120 : (Jvm.Cond.code ({ cls := "LikedOrdersModel", name := "isByWorth", desc := "(II)Z" } : Jvm.MethodName) prog_17_method_22_code (5 : Nat) (Option.some Jvm.ClassFile.FieldType.boolean)) ∈ lw_all := lw_g (lw_at lw_m9 90 rfl) rfl
theorem q2122 : (Jvm.Cond.instanceMethod ({ cls := "LikedOrdersModel", name := "item", desc := "(II)I" } : Jvm.MethodName)) ∈ lw_all := lw_g (lw_at lw_m9 92 rfl) rfl
theorem q2123 : (Jvm.Cond.selects "LikedOrdersModel" ({ cls := "LikedOrdersModel", name := "item", desc := "(II)I" } : Jvm.MethodName) ({ cls := "LikedOrdersModel", name := "item", desc := "(II)I" } : Jvm.MethodName)) ∈ lw_all := lw_g (lw_at lw_m9 93 rfl) rfl
theorem q2124 : (Jvm.Cond.code ({ cls := "LikedOrdersModel", name := "item", desc := "(II)I" } : Jvm.MethodName) prog_17_method_72_code (3 : Nat) (Option.some Jvm.ClassFile.FieldType.int)) ∈ lw_all := lw_g (lw_at lw_m9 94 rfl) rfl
theorem q2125 : (Jvm.Cond.methodLink "LikedOrdersModel" (306 : Nat) ({ cls := "LikedOrdersModel", name := "noItem", desc := "(I)Z" } : Jvm.MethodName)) ∈ lw_all := lw_g (lw_at lw_m9 95 rfl) rfl
theorem q2126 : (Jvm.Cond.privateMethod ({ cls := "LikedOrdersModel", name := "noItem", desc := "(I)Z" } : Jvm.MethodName)) ∈ lw_tbl := lw_at lw_m9 96 rfl
theorem q2127 : (Jvm.Cond.instanceMethod ({ cls := "LikedOrdersModel", name := "noItem", desc := "(I)Z" } : Jvm.MethodName)) ∈ lw_all := lw_g (lw_at lw_m9 97 rfl) rfl
theorem q2128 : (Jvm.Cond.code ({ cls := "LikedOrdersModel", name := "noItem", desc := "(I)Z" } : Jvm.MethodName) prog_17_method_65_code (2 : Nat) (Option.some Jvm.ClassFile.FieldType.boolean)) ∈ lw_all := lw_g (lw_at lw_m9 98 rfl) rfl
theorem q2129 : (Jvm.Cond.methodLink "LikedOrdersModel" (303 : Nat) ({ cls := "LikedOrdersModel", name := "isItem", desc := "(I)Z" } : Jvm.MethodName)) ∈ lw_all := lw_g (lw_at lw_m9 99 rfl) rfl
theorem q2130 : (Jvm.Cond.privateMethod ({ cls := "LikedOrdersModel", name := "isItem", desc := "(I)Z" } : Jvm.MethodName)) ∈ lw_tbl := lw_at lw_m9 100 rfl
theorem q2131 : (Jvm.Cond.instanceMethod ({ cls := "LikedOrdersModel", name := "isItem", desc := "(I)Z" } : Jvm.MethodName)) ∈ lw_all := lw_g (lw_at lw_m9 101 rfl) rfl
theorem q2132 : (Jvm.Cond.code ({ cls := "LikedOrdersModel", name := "isItem", desc := "(I)Z" } : Jvm.MethodName) prog_17_method_64_code (2 : Nat) (Option.some Jvm.ClassFile.FieldType.boolean)) ∈ lw_all := lw_g (lw_at lw_m9 102 rfl) rfl
theorem q2133 : (Jvm.Cond.constantLong "LikedOrdersModel" (312 : Nat) (6 : Int64)) ∈ lw_all := lw_g (lw_at lw_m9 103 rfl) rfl
theorem q2134 : (Jvm.Cond.methodLink "LikedOrdersModel" (314 : Nat) ({ cls := "LikedOrdersModel", name := "answersOf", desc := "(IZ)I" } : Jvm.MethodName)) ∈ lw_all := lw_g (lw_at lw_m9 104 rfl) rfl
theorem q2135 : (Jvm.Cond.privateMethod ({ cls := "LikedOrdersModel", name := "answersOf", desc := "(IZ)I" } : Jvm.MethodName)) ∈ lw_tbl := lw_at lw_m9 105 rfl
theorem q2136 : (Jvm.Cond.instanceMethod ({ cls := "LikedOrdersModel", name := "answersOf", desc := "(IZ)I" } : Jvm.MethodName)) ∈ lw_all := lw_g (lw_at lw_m9 106 rfl) rfl
theorem q2137 : (Jvm.Cond.code ({ cls := "LikedOrdersModel", name := "answersOf", desc := "(IZ)I" } : Jvm.MethodName) prog_17_method_69_code (5 : Nat) (Option.some Jvm.ClassFile.FieldType.int)) ∈ lw_all := lw_g (lw_at lw_m9 107 rfl) rfl
theorem q2138 : (Jvm.Cond.methodLink "LikedOrdersModel" (318 : Nat) ({ cls := "LikedOrdersModel", name := "worthPlace", desc := "(I)I" } : Jvm.MethodName)) ∈ lw_all := lw_g (lw_at lw_m9 108 rfl) rfl
theorem q2139 : (Jvm.Cond.privateMethod ({ cls := "LikedOrdersModel", name := "worthPlace", desc := "(I)I" } : Jvm.MethodName)) ∈ lw_tbl := lw_at lw_m9 109 rfl
theorem q2140 : (Jvm.Cond.instanceMethod ({ cls := "LikedOrdersModel", name := "worthPlace", desc := "(I)I" } : Jvm.MethodName)) ∈ lw_all := lw_g (lw_at lw_m9 110 rfl) rfl
theorem q2141 : (Jvm.Cond.code ({ cls := "LikedOrdersModel", name := "worthPlace", desc := "(I)I" } : Jvm.MethodName) prog_17_method_70_code (4 : Nat) (Option.some Jvm.ClassFile.FieldType.int)) ∈ lw_all := lw_g (lw_at lw_m9 111 rfl) rfl
theorem q2142 : (Jvm.Cond.methodLink "LikedOrdersModel" (321 : Nat) ({ cls := "LikedOrdersModel", name := "lettersOf", desc := "(I)I" } : Jvm.MethodName)) ∈ lw_all := lw_g (lw_at lw_m9 112 rfl) rfl
theorem q2143 : (Jvm.Cond.privateMethod ({ cls := "LikedOrdersModel", name := "lettersOf", desc := "(I)I" } : Jvm.MethodName)) ∈ lw_tbl := lw_at lw_m9 113 rfl
theorem q2144 : (Jvm.Cond.instanceMethod ({ cls := "LikedOrdersModel", name := "lettersOf", desc := "(I)I" } : Jvm.MethodName)) ∈ lw_all := lw_g (lw_at lw_m9 114 rfl) rfl
theorem q2145 : (Jvm.Cond.code ({ cls := "LikedOrdersModel", name := "lettersOf", desc := "(I)I" } : Jvm.MethodName) prog_17_method_71_code (3 : Nat) (Option.some Jvm.ClassFile.FieldType.int)) ∈ lw_all := lw_g (lw_at lw_m9 115 rfl) rfl
theorem q2147 : (Jvm.Cond.instanceMethod ({ cls := "LikedOrdersModel", name := "letter", desc := "(II)I" } : Jvm.MethodName)) ∈ lw_all := lw_g (lw_at lw_m9 117 rfl) rfl
theorem q2148 : (Jvm.Cond.selects "LikedOrdersModel" ({ cls := "LikedOrdersModel", name := "letter", desc := "(II)I" } : Jvm.MethodName) ({ cls := "LikedOrdersModel", name := "letter", desc := "(II)I" } : Jvm.MethodName)) ∈ lw_all := lw_g (lw_at lw_m9 118 rfl) rfl
theorem q2149 : (Jvm.Cond.code ({ cls := "LikedOrdersModel", name := "letter", desc := "(II)I" } : Jvm.MethodName) prog_17_method_73_code (3 : Nat) (Option.some Jvm.ClassFile.FieldType.int)) ∈ lw_all := lw_g (lw_at lw_m9 119 rfl) rfl
theorem q2151 : (Jvm.Cond.instanceMethod ({ cls := "LikedOrdersModel", name := "answer", desc := "(II)I" } : Jvm.MethodName)) ∈ lw_all := lw_g (lw_at lw_m9 121 rfl) rfl
theorem q2152 : (Jvm.Cond.selects "LikedOrdersModel" ({ cls := "LikedOrdersModel", name := "answer", desc := "(II)I" } : Jvm.MethodName) ({ cls := "LikedOrdersModel", name := "answer", desc := "(II)I" } : Jvm.MethodName)) ∈ lw_all := lw_g (lw_at lw_m9 122 rfl) rfl
theorem q2153 : (Jvm.Cond.code ({ cls := "LikedOrdersModel", name := "answer", desc := "(II)I" } : Jvm.MethodName) prog_17_method_75_code (3 : Nat) (Option.some Jvm.ClassFile.FieldType.int)) ∈ lw_all := lw_g (lw_at lw_m9 123 rfl) rfl
theorem q2154 : (Jvm.Cond.methodLink "LikedOrdersModel" (324 : Nat) ({ cls := "LikedOrdersModel", name := "noAnswer", desc := "(I)Z" } : Jvm.MethodName)) ∈ lw_all := lw_g (lw_at lw_m9 124 rfl) rfl
theorem q2155 : (Jvm.Cond.privateMethod ({ cls := "LikedOrdersModel", name := "noAnswer", desc := "(I)Z" } : Jvm.MethodName)) ∈ lw_tbl := lw_at lw_m9 125 rfl
theorem q2156 : (Jvm.Cond.instanceMethod ({ cls := "LikedOrdersModel", name := "noAnswer", desc := "(I)Z" } : Jvm.MethodName)) ∈ lw_all := lw_g (lw_at lw_m9 126 rfl) rfl
theorem q2157 : (Jvm.Cond.code ({ cls := "LikedOrdersModel", name := "noAnswer", desc := "(I)Z" } : Jvm.MethodName) prog_17_method_68_code (2 : Nat) (Option.some Jvm.ClassFile.FieldType.boolean)) ∈ lw_all := lw_g (lw_at lw_m9 127 rfl) rfl
theorem q2158 : (Jvm.Cond.constantLong "LikedOrdersModel" (327 : Nat) (3 : Int64)) ∈ lw_all := lw_g (lw_at lw_m9 128 rfl) rfl
theorem q2159 : (Jvm.Cond.methodLink "LikedOrdersModel" (329 : Nat) ({ cls := "LikedOrdersModel", name := "isSpare", desc := "(I)Z" } : Jvm.MethodName)) ∈ lw_all := lw_g (lw_at lw_m9 129 rfl) rfl
theorem q2160 : (Jvm.Cond.privateMethod ({ cls := "LikedOrdersModel", name := "isSpare", desc := "(I)Z" } : Jvm.MethodName)) ∈ lw_tbl := lw_at lw_m9 130 rfl
theorem q2161 : (Jvm.Cond.instanceMethod ({ cls := "LikedOrdersModel", name := "isSpare", desc := "(I)Z" } : Jvm.MethodName)) ∈ lw_all := lw_g (lw_at lw_m9 131 rfl) rfl
theorem q2162 : (Jvm.Cond.code ({ cls := "LikedOrdersModel", name := "isSpare", desc := "(I)Z" } : Jvm.MethodName) prog_17_method_74_code (3 : Nat) (Option.some Jvm.ClassFile.FieldType.boolean)) ∈ lw_all := lw_g (lw_at lw_m9 132 rfl) rfl
theorem q2164 : (Jvm.Cond.instanceMethod ({ cls := "LikedOrdersModel", name := "known", desc := "(II)I" } : Jvm.MethodName)) ∈ lw_all := lw_g (lw_at lw_m9 134 rfl) rfl
theorem q2165 : (Jvm.Cond.selects "LikedOrdersModel" ({ cls := "LikedOrdersModel", name := "known", desc := "(II)I" } : Jvm.MethodName) ({ cls := "LikedOrdersModel", name := "known", desc := "(II)I" } : Jvm.MethodName)) ∈ lw_all := lw_g (lw_at lw_m9 135 rfl) rfl
theorem q2166 : (Jvm.Cond.code ({ cls := "LikedOrdersModel", name := "known", desc := "(II)I" } : Jvm.MethodName) prog_17_method_76_code (3 : Nat) (Option.some Jvm.ClassFile.FieldType.int)) ∈ lw_all := lw_g (lw_at lw_m9 136 rfl) rfl
theorem q2167 : (Jvm.Cond.methodLink "LikedOrdersModel" (309 : Nat) ({ cls := "LikedOrdersModel", name := "noItems", desc := "(II)Z" } : Jvm.MethodName)) ∈ lw_all := lw_g (lw_at lw_m9 137 rfl) rfl
theorem q2168 : (Jvm.Cond.privateMethod ({ cls := "LikedOrdersModel", name := "noItems", desc := "(II)Z" } : Jvm.MethodName)) ∈ lw_tbl := lw_at lw_m9 138 rfl
theorem q2169 : (Jvm.Cond.instanceMethod ({ cls := "LikedOrdersModel", name := "noItems", desc := "(II)Z" } : Jvm.MethodName)) ∈ lw_all := lw_g (lw_at lw_m9 139 rfl) rfl
theorem q2170 : (Jvm.Cond.code ({ cls := "LikedOrdersModel", name := "noItems", desc := "(II)Z" } : Jvm.MethodName) prog_17_method_66_code (3 : Nat) (Option.some Jvm.ClassFile.FieldType.boolean)) ∈ lw_all := lw_g (lw_at lw_m9 140 rfl) rfl
theorem q2172 : (Jvm.Cond.instanceMethod ({ cls := "LikedOrdersModel", name := "why", desc := "(II)I" } : Jvm.MethodName)) ∈ lw_all := lw_g (lw_at lw_m9 142 rfl) rfl
theorem q2173 : (Jvm.Cond.selects "LikedOrdersModel" ({ cls := "LikedOrdersModel", name := "why", desc := "(II)I" } : Jvm.MethodName) ({ cls := "LikedOrdersModel", name := "why", desc := "(II)I" } : Jvm.MethodName)) ∈ lw_all := lw_g (lw_at lw_m9 143 rfl) rfl
theorem q2174 : (Jvm.Cond.code ({ cls := "LikedOrdersModel", name := "why", desc := "(II)I" } : Jvm.MethodName) prog_17_method_78_code (3 : Nat) (Option.some Jvm.ClassFile.FieldType.int)) ∈ lw_all := lw_g (lw_at lw_m9 144 rfl) rfl
theorem q2175 : (Jvm.Cond.methodLink "LikedOrdersModel" (332 : Nat) ({ cls := "LikedOrdersModel", name := "noTwo", desc := "(II)Z" } : Jvm.MethodName)) ∈ lw_all := lw_g (lw_at lw_m9 145 rfl) rfl
theorem q2176 : (Jvm.Cond.privateMethod ({ cls := "LikedOrdersModel", name := "noTwo", desc := "(II)Z" } : Jvm.MethodName)) ∈ lw_tbl := lw_at lw_m9 146 rfl
theorem q2177 : (Jvm.Cond.instanceMethod ({ cls := "LikedOrdersModel", name := "noTwo", desc := "(II)Z" } : Jvm.MethodName)) ∈ lw_all := lw_g (lw_at lw_m9 147 rfl) rfl
theorem q2178 : (Jvm.Cond.code ({ cls := "LikedOrdersModel", name := "noTwo", desc := "(II)Z" } : Jvm.MethodName) prog_17_method_67_code (3 : Nat) (Option.some Jvm.ClassFile.FieldType.boolean)) ∈ lw_all := lw_g (lw_at lw_m9 148 rfl) rfl
theorem q2179 : (Jvm.Cond.methodLink "LikedOrdersModel" (335 : Nat) ({ cls := "LikedOrdersModel", name := "isTold", desc := "(II)Z" } : Jvm.MethodName)) ∈ lw_all := lw_g (lw_at lw_m9 149 rfl) rfl
theorem q2180 : (Jvm.Cond.privateMethod ({ cls := "LikedOrdersModel", name := "isTold", desc := "(II)Z" } : Jvm.MethodName)) ∈ lw_tbl := lw_at lw_m9 150 rfl
theorem q2181 : (Jvm.Cond.instanceMethod ({ cls := "LikedOrdersModel", name := "isTold", desc := "(II)Z" } : Jvm.MethodName)) ∈ lw_all := lw_g (lw_at lw_m9 151 rfl) rfl
theorem q2182 : (Jvm.Cond.code ({ cls := "LikedOrdersModel", name := "isTold", desc := "(II)Z" } : Jvm.MethodName) prog_17_method_77_code (4 : Nat) (Option.some Jvm.ClassFile.FieldType.boolean)) ∈ lw_all := lw_g (lw_at lw_m9 152 rfl) rfl
theorem q2184 : (Jvm.Cond.instanceMethod ({ cls := "LikedOrdersModel", name := "chain", desc := "(III)I" } : Jvm.MethodName)) ∈ lw_all := lw_g (lw_at lw_m9 154 rfl) rfl
theorem q2185 : (Jvm.Cond.selects "LikedOrdersModel" ({ cls := "LikedOrdersModel", name := "chain", desc := "(III)I" } : Jvm.MethodName) ({ cls := "LikedOrdersModel", name := "chain", desc := "(III)I" } : Jvm.MethodName)) ∈ lw_all := lw_g (lw_at lw_m9 155 rfl) rfl
theorem q2186 : (Jvm.Cond.code ({ cls := "LikedOrdersModel", name := "chain", desc := "(III)I" } : Jvm.MethodName) prog_17_method_81_code (7 : Nat) (Option.some Jvm.ClassFile.FieldType.int)) ∈ lw_all := lw_g (lw_at lw_m9 156 rfl) rfl
theorem q2187 : (Jvm.Cond.methodLink "LikedOrdersModel" (338 : Nat) ({ cls := "LikedOrdersModel", name := "laysFar", desc := "(I)V" } : Jvm.MethodName)) ∈ lw_all := lw_g (lw_at lw_m9 157 rfl) rfl
theorem q2188 : (Jvm.Cond.privateMethod ({ cls := "LikedOrdersModel", name := "laysFar", desc := "(I)V" } : Jvm.MethodName)) ∈ lw_tbl := lw_at lw_m9 158 rfl
theorem q2189 : (Jvm.Cond.instanceMethod ({ cls := "LikedOrdersModel", name := "laysFar", desc := "(I)V" } : Jvm.MethodName)) ∈ lw_all := lw_g (lw_at lw_m9 159 rfl) rfl
theorem q2190 : (Jvm.Cond.code ({ cls := "LikedOrdersModel", name := "laysFar", desc := "(I)V" } : Jvm.MethodName) prog_17_method_79_code (4 : Nat) (Option.none : Option Jvm.ClassFile.FieldType)) ∈ lw_all := lw_g (lw_at lw_m9 160 rfl) rfl
theorem q2191 : (Jvm.Cond.methodLink "LikedOrdersModel" (341 : Nat) ({ cls := "LikedOrdersModel", name := "nextTo", desc := "(I)I" } : Jvm.MethodName)) ∈ lw_all := lw_g (lw_at lw_m9 161 rfl) rfl
theorem q2192 : (Jvm.Cond.privateMethod ({ cls := "LikedOrdersModel", name := "nextTo", desc := "(I)I" } : Jvm.MethodName)) ∈ lw_tbl := lw_at lw_m9 162 rfl
theorem q2193 : (Jvm.Cond.instanceMethod ({ cls := "LikedOrdersModel", name := "nextTo", desc := "(I)I" } : Jvm.MethodName)) ∈ lw_all := lw_g (lw_at lw_m9 163 rfl) rfl
theorem q2194 : (Jvm.Cond.code ({ cls := "LikedOrdersModel", name := "nextTo", desc := "(I)I" } : Jvm.MethodName) prog_17_method_80_code (3 : Nat) (Option.some Jvm.ClassFile.FieldType.int)) ∈ lw_all := lw_g (lw_at lw_m9 164 rfl) rfl
theorem q2196 : (Jvm.Cond.instanceMethod ({ cls := "LikedOrdersModel", name := "at", desc := "(I)I" } : Jvm.MethodName)) ∈ lw_all := lw_g (lw_at lw_m9 166 rfl) rfl
theorem q2197 : (Jvm.Cond.selects "LikedOrdersModel" ({ cls := "LikedOrdersModel", name := "at", desc := "(I)I" } : Jvm.MethodName) ({ cls := "LikedOrdersModel", name := "at", desc := "(I)I" } : Jvm.MethodName)) ∈ lw_all := lw_g (lw_at lw_m9 167 rfl) rfl
theorem q2198 : (Jvm.Cond.code ({ cls := "LikedOrdersModel", name := "at", desc := "(I)I" } : Jvm.MethodName) prog_17_method_83_code (2 : Nat) (Option.some Jvm.ClassFile.FieldType.int)) ∈ lw_all := lw_g (lw_at lw_m9 168 rfl) rfl
theorem q2199 : (Jvm.Cond.methodLink "LikedOrdersModel" (344 : Nat) ({ cls := "LikedOrdersModel", name := "fixedAt", desc := "(I)I" } : Jvm.MethodName)) ∈ lw_all := lw_g (lw_at lw_m9 169 rfl) rfl
theorem q2200 : (Jvm.Cond.privateMethod ({ cls := "LikedOrdersModel", name := "fixedAt", desc := "(I)I" } : Jvm.MethodName)) ∈ lw_tbl := lw_at lw_m9 170 rfl
theorem q2201 : (Jvm.Cond.instanceMethod ({ cls := "LikedOrdersModel", name := "fixedAt", desc := "(I)I" } : Jvm.MethodName)) ∈ lw_all := lw_g (lw_at lw_m9 171 rfl) rfl
theorem q2202 : (Jvm.Cond.code ({ cls := "LikedOrdersModel", name := "fixedAt", desc := "(I)I" } : Jvm.MethodName) prog_17_method_82_code (3 : Nat) (Option.some Jvm.ClassFile.FieldType.int)) ∈ lw_all := lw_g (lw_at lw_m9 172 rfl) rfl
theorem q2204 : (Jvm.Cond.instanceMethod ({ cls := "LikedOrdersModel", name := "loose", desc := "()I" } : Jvm.MethodName)) ∈ lw_all := lw_g (lw_at lw_m9 174 rfl) rfl
theorem q2205 : (Jvm.Cond.selects "LikedOrdersModel" ({ cls := "LikedOrdersModel", name := "loose", desc := "()I" } : Jvm.MethodName) ({ cls := "LikedOrdersModel", name := "loose", desc := "()I" } : Jvm.MethodName)) ∈ lw_all := lw_g (lw_at lw_m9 175 rfl) rfl
theorem q2206 : (Jvm.Cond.code ({ cls := "LikedOrdersModel", name := "loose", desc := "()I" } : Jvm.MethodName) prog_17_method_84_code (3 : Nat) (Option.some Jvm.ClassFile.FieldType.int)) ∈ lw_all := lw_g (lw_at lw_m9 176 rfl) rfl
theorem q2208 : (Jvm.Cond.instanceMethod ({ cls := "LikedOrdersModel", name := "gap", desc := "()I" } : Jvm.MethodName)) ∈ lw_all := lw_g (lw_at lw_m9 178 rfl) rfl
theorem q2209 : (Jvm.Cond.selects "LikedOrdersModel" ({ cls := "LikedOrdersModel", name := "gap", desc := "()I" } : Jvm.MethodName) ({ cls := "LikedOrdersModel", name := "gap", desc := "()I" } : Jvm.MethodName)) ∈ lw_all := lw_g (lw_at lw_m9 179 rfl) rfl
theorem q2210 : (Jvm.Cond.code ({ cls := "LikedOrdersModel", name := "gap", desc := "()I" } : Jvm.MethodName) prog_17_method_85_code (5 : Nat) (Option.some Jvm.ClassFile.FieldType.int)) ∈ lw_all := lw_g (lw_at lw_m9 180 rfl) rfl
theorem q2211 : (Jvm.Cond.methodLink "LikedOrdersModel" (347 : Nat) ({ cls := "java/lang/Math", name := "abs", desc := "(I)I" } : Jvm.MethodName)) ∈ lw_all := lw_g (lw_at lw_m9 181 rfl) rfl
theorem q2213 : (Jvm.Cond.instanceMethod ({ cls := "LikedOrdersModel", name := "next", desc := "(Z)I" } : Jvm.MethodName)) ∈ lw_all := lw_g (lw_at lw_m9 183 rfl) rfl
theorem q2214 : (Jvm.Cond.selects "LikedOrdersModel" ({ cls := "LikedOrdersModel", name := "next", desc := "(Z)I" } : Jvm.MethodName) ({ cls := "LikedOrdersModel", name := "next", desc := "(Z)I" } : Jvm.MethodName)) ∈ lw_all := lw_g (lw_at lw_m9 184 rfl) rfl
theorem q2215 : (Jvm.Cond.code ({ cls := "LikedOrdersModel", name := "next", desc := "(Z)I" } : Jvm.MethodName) prog_17_method_86_code (2 : Nat) (Option.some Jvm.ClassFile.FieldType.int)) ∈ lw_all := lw_g (lw_at lw_m9 185 rfl) rfl
theorem q2216 : (Jvm.Cond.methodLink "LikedOrdersModel" (160 : Nat) ({ cls := "LikedOrdersModel", name := "goes", desc := "(IZ)V" } : Jvm.MethodName)) ∈ lw_all := lw_g (lw_at lw_m9 186 rfl) rfl
theorem q2217 : (Jvm.Cond.privateMethod ({ cls := "LikedOrdersModel", name := "goes", desc := "(IZ)V" } : Jvm.MethodName)) ∈ lw_tbl := lw_at lw_m9 187 rfl
theorem q2218 : (Jvm.Cond.instanceMethod ({ cls := "LikedOrdersModel", name := "goes", desc := "(IZ)V" } : Jvm.MethodName)) ∈ lw_all := lw_g (lw_at lw_m9 188 rfl) rfl
theorem q2219 : (Jvm.Cond.code ({ cls := "LikedOrdersModel", name := "goes", desc := "(IZ)V" } : Jvm.MethodName) prog_17_method_36_code (4 : Nat) (Option.none : Option Jvm.ClassFile.FieldType)) ∈ lw_all := lw_g (lw_at lw_m9 189 rfl) rfl
theorem q2220 : (Jvm.Cond.methodLink "LikedOrdersModel" (133 : Nat) ({ cls := "LikedOrdersModel", name := "pairs", desc := "(II)V" } : Jvm.MethodName)) ∈ lw_all := lw_g (lw_at lw_m9 190 rfl) rfl
theorem q2221 : (Jvm.Cond.privateMethod ({ cls := "LikedOrdersModel", name := "pairs", desc := "(II)V" } : Jvm.MethodName)) ∈ lw_tbl := lw_at lw_m9 191 rfl
theorem q2222 : (Jvm.Cond.instanceMethod ({ cls := "LikedOrdersModel", name := "pairs", desc := "(II)V" } : Jvm.MethodName)) ∈ lw_all := lw_g (lw_at lw_m9 192 rfl) rfl
theorem q2223 : (Jvm.Cond.code ({ cls := "LikedOrdersModel", name := "pairs", desc := "(II)V" } : Jvm.MethodName) prog_17_method_31_code (8 : Nat) (Option.none : Option Jvm.ClassFile.FieldType)) ∈ lw_all := lw_g (lw_at lw_m9 193 rfl) rfl
theorem q2224 : (Jvm.Cond.methodLink "LikedOrdersModel" (129 : Nat) ({ cls := "LikedOrdersModel", name := "wins", desc := "(III)Z" } : Jvm.MethodName)) ∈ lw_all := lw_g (lw_at lw_m9 194 rfl) rfl
theorem q2225 : (Jvm.Cond.privateMethod ({ cls := "LikedOrdersModel", name := "wins", desc := "(III)Z" } : Jvm.MethodName)) ∈ lw_tbl := lw_at lw_m9 195 rfl
theorem q2226 : (Jvm.Cond.instanceMethod ({ cls := "LikedOrdersModel", name := "wins", desc := "(III)Z" } : Jvm.MethodName)) ∈ lw_all := lw_g (lw_at lw_m9 196 rfl) rfl
theorem q2227 : (Jvm.Cond.code ({ cls := "LikedOrdersModel", name := "wins", desc := "(III)Z" } : Jvm.MethodName) prog_17_method_27_code (4 : Nat) (Option.some Jvm.ClassFile.FieldType.boolean)) ∈ lw_all := lw_g (lw_at lw_m9 197 rfl) rfl
theorem q2228 : (Jvm.Cond.methodLink "LikedOrdersModel" (136 : Nat) ({ cls := "LikedOrdersModel", name := "comeIn", desc := "(III)V" } : Jvm.MethodName)) ∈ lw_all := lw_g (lw_at lw_m9 198 rfl) rfl
theorem q2229 : (Jvm.Cond.privateMethod ({ cls := "LikedOrdersModel", name := "comeIn", desc := "(III)V" } : Jvm.MethodName)) ∈ lw_tbl := lw_at lw_m9 199 rfl
theorem q2230 : (Jvm.Cond.instanceMethod ({ cls := "LikedOrdersModel", name := "comeIn", desc := "(III)V" } : Jvm.MethodName)) ∈ lw_all := lw_g (lw_at lw_m9 200 rfl) rfl
theorem q2231 : (Jvm.Cond.code ({ cls := "LikedOrdersModel", name := "comeIn", desc := "(III)V" } : Jvm.MethodName) prog_17_method_32_code (10 : Nat) (Option.none : Option Jvm.ClassFile.FieldType)) ∈ lw_all := lw_g (lw_at lw_m9 201 rfl) rfl
theorem q2232 : (Jvm.Cond.methodLink "LikedOrdersModel" (140 : Nat) ({ cls := "LikedOrdersModel", name := "numberOf", desc := "(I)I" } : Jvm.MethodName)) ∈ lw_all := lw_g (lw_at lw_m9 202 rfl) rfl
theorem q2233 : (Jvm.Cond.static ({ cls := "LikedOrdersModel", name := "numberOf", desc := "(I)I" } : Jvm.MethodName)) ∈ lw_all := lw_g (lw_at lw_m9 203 rfl) rfl
theorem q2234 : (Jvm.Cond.code ({ cls := "LikedOrdersModel", name := "numberOf", desc := "(I)I" } : Jvm.MethodName) prog_17_method_30_code (1 : Nat) (Option.some Jvm.ClassFile.FieldType.int)) ∈ lw_all := lw_g (lw_at lw_m9 204 rfl) rfl
theorem q2235 : (Jvm.Cond.methodLink "LikedOrdersModel" (143 : Nat) ({ cls := "LikedOrdersModel", name := "loserOf", desc := "(III)I" } : Jvm.MethodName)) ∈ lw_all := lw_g (lw_at lw_m9 205 rfl) rfl
theorem q2236 : (Jvm.Cond.privateMethod ({ cls := "LikedOrdersModel", name := "loserOf", desc := "(III)I" } : Jvm.MethodName)) ∈ lw_tbl := lw_at lw_m9 206 rfl
theorem q2237 : (Jvm.Cond.instanceMethod ({ cls := "LikedOrdersModel", name := "loserOf", desc := "(III)I" } : Jvm.MethodName)) ∈ lw_all := lw_g (lw_at lw_m9 207 rfl) rfl
theorem q2238 : (Jvm.Cond.code ({ cls := "LikedOrdersModel", name := "loserOf", desc := "(III)I" } : Jvm.MethodName) prog_17_method_33_code (5 : Nat) (Option.some Jvm.ClassFile.FieldType.int)) ∈ lw_all := lw_g (lw_at lw_m9 208 rfl) rfl
theorem q2239 : (Jvm.Cond.methodLink "LikedOrdersModel" (147 : Nat) ({ cls := "LikedOrdersModel", name := "placeOf", desc := "(III)I" } : Jvm.MethodName)) ∈ lw_all := lw_g (lw_at lw_m9 209 rfl) rfl
theorem q2240 : (Jvm.Cond.privateMethod ({ cls := "LikedOrdersModel", name := "placeOf", desc := "(III)I" } : Jvm.MethodName)) ∈ lw_tbl := lw_at lw_m9 210 rfl
theorem q2241 : (Jvm.Cond.instanceMethod ({ cls := "LikedOrdersModel", name := "placeOf", desc := "(III)I" } : Jvm.MethodName)) ∈ lw_all := lw_g (lw_at lw_m9 211 rfl) rfl
theorem q2242 : (Jvm.Cond.code ({ cls := "LikedOrdersModel", name := "placeOf", desc := "(III)I" } : Jvm.MethodName) prog_17_method_29_code (5 : Nat) (Option.some Jvm.ClassFile.FieldType.int)) ∈ lw_all := lw_g (lw_at lw_m9 212 rfl) rfl
theorem q2243 : (Jvm.Cond.methodLink "LikedOrdersModel" (150 : Nat) ({ cls := "LikedOrdersModel", name := "putsIn", desc := "(IIIII)V" } : Jvm.MethodName)) ∈ lw_all := lw_g (lw_at lw_m9 213 rfl) rfl
theorem q2244 : (Jvm.Cond.privateMethod ({ cls := "LikedOrdersModel", name := "putsIn", desc := "(IIIII)V" } : Jvm.MethodName)) ∈ lw_tbl := lw_at lw_m9 214 rfl
theorem q2245 : (Jvm.Cond.instanceMethod ({ cls := "LikedOrdersModel", name := "putsIn", desc := "(IIIII)V" } : Jvm.MethodName)) ∈ lw_all := lw_g (lw_at lw_m9 215 rfl) rfl
theorem q2246 : (Jvm.Cond.code ({ cls := "LikedOrdersModel", name := "putsIn", desc := "(IIIII)V" } : Jvm.MethodName) prog_17_method_28_code (9 : Nat) (Option.none : Option Jvm.ClassFile.FieldType)) ∈ lw_all := lw_g (lw_at lw_m9 216 rfl) rfl
theorem q2247 : (Jvm.Cond.methodLink "LikedOrdersModel" (157 : Nat) ({ cls := "LikedOrdersModel", name := "halves", desc := "(I)V" } : Jvm.MethodName)) ∈ lw_all := lw_g (lw_at lw_m9 217 rfl) rfl
theorem q2248 : (Jvm.Cond.privateMethod ({ cls := "LikedOrdersModel", name := "halves", desc := "(I)V" } : Jvm.MethodName)) ∈ lw_tbl := lw_at lw_m9 218 rfl
theorem q2249 : (Jvm.Cond.instanceMethod ({ cls := "LikedOrdersModel", name := "halves", desc := "(I)V" } : Jvm.MethodName)) ∈ lw_all := lw_g (lw_at lw_m9 219 rfl) rfl
theorem q2250 : (Jvm.Cond.code ({ cls := "LikedOrdersModel", name := "halves", desc := "(I)V" } : Jvm.MethodName) prog_17_method_34_code (3 : Nat) (Option.none : Option Jvm.ClassFile.FieldType)) ∈ lw_all := lw_g (lw_at lw_m9 220 rfl) rfl
theorem q2251 : (Jvm.Cond.methodLink "LikedOrdersModel" (154 : Nat) ({ cls := "LikedOrdersModel", name := "merges", desc := "(II)V" } : Jvm.MethodName)) ∈ lw_all := lw_g (lw_at lw_m9 221 rfl) rfl
theorem q2252 : (Jvm.Cond.privateMethod ({ cls := "LikedOrdersModel", name := "merges", desc := "(II)V" } : Jvm.MethodName)) ∈ lw_tbl := lw_at lw_m9 222 rfl
theorem q2253 : (Jvm.Cond.instanceMethod ({ cls := "LikedOrdersModel", name := "merges", desc := "(II)V" } : Jvm.MethodName)) ∈ lw_all := lw_g (lw_at lw_m9 223 rfl) rfl
theorem q2254 : (Jvm.Cond.code ({ cls := "LikedOrdersModel", name := "merges", desc := "(II)V" } : Jvm.MethodName) prog_17_method_35_code (8 : Nat) (Option.none : Option Jvm.ClassFile.FieldType)) ∈ lw_all := lw_g (lw_at lw_m9 224 rfl) rfl
theorem q2256 : (Jvm.Cond.instanceMethod ({ cls := "LikedOrdersModel", name := "compared", desc := "()I" } : Jvm.MethodName)) ∈ lw_all := lw_g (lw_at lw_m9 226 rfl) rfl
theorem q2257 : (Jvm.Cond.selects "LikedOrdersModel" ({ cls := "LikedOrdersModel", name := "compared", desc := "()I" } : Jvm.MethodName) ({ cls := "LikedOrdersModel", name := "compared", desc := "()I" } : Jvm.MethodName)) ∈ lw_all := lw_g (lw_at lw_m9 227 rfl) rfl
theorem q2258 : (Jvm.Cond.code ({ cls := "LikedOrdersModel", name := "compared", desc := "()I" } : Jvm.MethodName) prog_17_method_87_code (1 : Nat) (Option.some Jvm.ClassFile.FieldType.int)) ∈ lw_all := lw_g (lw_at lw_m9 228 rfl) rfl
theorem q2260 : (Jvm.Cond.instanceMethod ({ cls := "LikedOrdersModel", name := "doing", desc := "()I" } : Jvm.MethodName)) ∈ lw_all := lw_g (lw_at lw_m9 230 rfl) rfl
theorem q2261 : (Jvm.Cond.selects "LikedOrdersModel" ({ cls := "LikedOrdersModel", name := "doing", desc := "()I" } : Jvm.MethodName) ({ cls := "LikedOrdersModel", name := "doing", desc := "()I" } : Jvm.MethodName)) ∈ lw_all := lw_g (lw_at lw_m9 231 rfl) rfl
theorem q2262 : (Jvm.Cond.code ({ cls := "LikedOrdersModel", name := "doing", desc := "()I" } : Jvm.MethodName) prog_17_method_88_code (1 : Nat) (Option.some Jvm.ClassFile.FieldType.int)) ∈ lw_all := lw_g (lw_at lw_m9 232 rfl) rfl
theorem q2264 : (Jvm.Cond.instanceMethod ({ cls := "LikedOrdersModel", name := "bound", desc := "()I" } : Jvm.MethodName)) ∈ lw_all := lw_g (lw_at lw_m9 234 rfl) rfl
theorem q2265 : (Jvm.Cond.selects "LikedOrdersModel" ({ cls := "LikedOrdersModel", name := "bound", desc := "()I" } : Jvm.MethodName) ({ cls := "LikedOrdersModel", name := "bound", desc := "()I" } : Jvm.MethodName)) ∈ lw_all := lw_g (lw_at lw_m9 235 rfl) rfl
theorem q2266 : (Jvm.Cond.code ({ cls := "LikedOrdersModel", name := "bound", desc := "()I" } : Jvm.MethodName) prog_17_method_89_code (3 : Nat) (Option.some Jvm.ClassFile.FieldType.int)) ∈ lw_all := lw_g (lw_at lw_m9 236 rfl) rfl
theorem q2268 : (Jvm.Cond.instanceMethod ({ cls := "LikedOrdersModel", name := "told", desc := "(I)I" } : Jvm.MethodName)) ∈ lw_all := lw_g (lw_at lw_m9 238 rfl) rfl
theorem q2269 : (Jvm.Cond.selects "LikedOrdersModel" ({ cls := "LikedOrdersModel", name := "told", desc := "(I)I" } : Jvm.MethodName) ({ cls := "LikedOrdersModel", name := "told", desc := "(I)I" } : Jvm.MethodName)) ∈ lw_all := lw_g (lw_at lw_m9 239 rfl) rfl
theorem q2270 : (Jvm.Cond.code ({ cls := "LikedOrdersModel", name := "told", desc := "(I)I" } : Jvm.MethodName) prog_17_method_90_code (5 : Nat) (Option.some Jvm.ClassFile.FieldType.int)) ∈ lw_all := lw_g (lw_at lw_m10 0 rfl) rfl
theorem q2271 : (Jvm.Cond.constantLong "LikedOrdersModel" (350 : Nat) (10 : Int64)) ∈ lw_all := lw_g (lw_at lw_m10 1 rfl) rfl
theorem q2273 : (Jvm.Cond.instanceMethod ({ cls := "LikedOrdersModel", name := "ordersIf", desc := "(II)I" } : Jvm.MethodName)) ∈ lw_all := lw_g (lw_at lw_m10 3 rfl) rfl
theorem q2274 : (Jvm.Cond.selects "LikedOrdersModel" ({ cls := "LikedOrdersModel", name := "ordersIf", desc := "(II)I" } : Jvm.MethodName) ({ cls := "LikedOrdersModel", name := "ordersIf", desc := "(II)I" } : Jvm.MethodName)) ∈ lw_all := lw_g (lw_at lw_m10 4 rfl) rfl
theorem q2275 : (Jvm.Cond.code ({ cls := "LikedOrdersModel", name := "ordersIf", desc := "(II)I" } : Jvm.MethodName) prog_17_method_92_code (3 : Nat) (Option.some Jvm.ClassFile.FieldType.int)) ∈ lw_all := lw_g (lw_at lw_m10 5 rfl) rfl
theorem q2276 : (Jvm.Cond.methodLink "LikedOrdersModel" (352 : Nat) ({ cls := "LikedOrdersModel", name := "ordersBy", desc := "(II)I" } : Jvm.MethodName)) ∈ lw_all := lw_g (lw_at lw_m10 6 rfl) rfl
theorem q2277 : (Jvm.Cond.privateMethod ({ cls := "LikedOrdersModel", name := "ordersBy", desc := "(II)I" } : Jvm.MethodName)) ∈ lw_tbl := lw_at lw_m10 7 rfl
theorem q2278 : (Jvm.Cond.instanceMethod ({ cls := "LikedOrdersModel", name := "ordersBy", desc := "(II)I" } : Jvm.MethodName)) ∈ lw_all := lw_g (lw_at lw_m10 8 rfl) rfl
theorem q2279 : (Jvm.Cond.code ({ cls := "LikedOrdersModel", name := "ordersBy", desc := "(II)I" } : Jvm.MethodName) prog_17_method_91_code (4 : Nat) (Option.some Jvm.ClassFile.FieldType.int)) ∈ lw_all := lw_g (lw_at lw_m10 9 rfl) rfl
theorem q2281 : (Jvm.Cond.instanceMethod ({ cls := "LikedOrdersModel", name := "fairest", desc := "(Z)I" } : Jvm.MethodName)) ∈ lw_all := lw_g (lw_at lw_m10 11 rfl) rfl
theorem q2282 : (Jvm.Cond.selects "LikedOrdersModel" ({ cls := "LikedOrdersModel", name := "fairest", desc := "(Z)I" } : Jvm.MethodName) ({ cls := "LikedOrdersModel", name := "fairest", desc := "(Z)I" } : Jvm.MethodName)) ∈ lw_all := lw_g (lw_at lw_m10 12 rfl) rfl
theorem q2283 : (Jvm.Cond.code ({ cls := "LikedOrdersModel", name := "fairest", desc := "(Z)I" } : Jvm.MethodName) prog_17_method_93_code (8 : Nat) (Option.some Jvm.ClassFile.FieldType.int)) ∈ lw_all := lw_g (lw_at lw_m10 13 rfl) rfl
theorem q2284 : (Jvm.Cond.methodLink "LikedOrdersModel" (355 : Nat) ({ cls := "java/lang/Math", name := "min", desc := "(II)I" } : Jvm.MethodName)) ∈ lw_all := lw_g (lw_at lw_m10 14 rfl) rfl
theorem q2286 : (Jvm.Cond.instanceMethod ({ cls := "LikedOrdersModel", name := "toCome", desc := "(I)I" } : Jvm.MethodName)) ∈ lw_all := lw_g (lw_at lw_m10 16 rfl) rfl
theorem q2287 : (Jvm.Cond.selects "LikedOrdersModel" ({ cls := "LikedOrdersModel", name := "toCome", desc := "(I)I" } : Jvm.MethodName) ({ cls := "LikedOrdersModel", name := "toCome", desc := "(I)I" } : Jvm.MethodName)) ∈ lw_all := lw_g (lw_at lw_m10 17 rfl) rfl
theorem q2288 : (Jvm.Cond.code ({ cls := "LikedOrdersModel", name := "toCome", desc := "(I)I" } : Jvm.MethodName) prog_17_method_94_code (2 : Nat) (Option.some Jvm.ClassFile.FieldType.int)) ∈ lw_all := lw_g (lw_at lw_m10 18 rfl) rfl
theorem q2289 : (Jvm.Cond.constantLong "LikedOrdersModel" (358 : Nat) (2 : Int64)) ∈ lw_all := lw_g (lw_at lw_m10 19 rfl) rfl
theorem q2290 : (Jvm.Cond.methodLink "LikedOrdersModel" (360 : Nat) ({ cls := "LikedOrdersModel", name := "toComeBy", desc := "(I)I" } : Jvm.MethodName)) ∈ lw_all := lw_g (lw_at lw_m10 20 rfl) rfl
theorem q2291 : (Jvm.Cond.privateMethod ({ cls := "LikedOrdersModel", name := "toComeBy", desc := "(I)I" } : Jvm.MethodName)) ∈ lw_tbl := lw_at lw_m10 21 rfl
theorem q2292 : (Jvm.Cond.instanceMethod ({ cls := "LikedOrdersModel", name := "toComeBy", desc := "(I)I" } : Jvm.MethodName)) ∈ lw_all := lw_g (lw_at lw_m10 22 rfl) rfl
theorem q2293 : (Jvm.Cond.code ({ cls := "LikedOrdersModel", name := "toComeBy", desc := "(I)I" } : Jvm.MethodName) prog_17_method_37_code (3 : Nat) (Option.some Jvm.ClassFile.FieldType.int)) ∈ lw_all := lw_g (lw_at lw_m10 23 rfl) rfl
theorem q2295 : (Jvm.Cond.instanceMethod ({ cls := "LikedOrdersModel", name := "bestMethod", desc := "()I" } : Jvm.MethodName)) ∈ lw_all := lw_g (lw_at lw_m10 25 rfl) rfl
theorem q2296 : (Jvm.Cond.selects "LikedOrdersModel" ({ cls := "LikedOrdersModel", name := "bestMethod", desc := "()I" } : Jvm.MethodName) ({ cls := "LikedOrdersModel", name := "bestMethod", desc := "()I" } : Jvm.MethodName)) ∈ lw_all := lw_g (lw_at lw_m10 26 rfl) rfl
theorem q2297 : (Jvm.Cond.code ({ cls := "LikedOrdersModel", name := "bestMethod", desc := "()I" } : Jvm.MethodName) prog_17_method_95_code (3 : Nat) (Option.some Jvm.ClassFile.FieldType.int)) ∈ lw_all := lw_g (lw_at lw_m10 27 rfl) rfl
theorem q2299 : (Jvm.Cond.instanceMethod ({ cls := "LikedOrdersModel", name := "afresh", desc := "(I)I" } : Jvm.MethodName)) ∈ lw_all := lw_g (lw_at lw_m10 29 rfl) rfl
theorem q2300 : (Jvm.Cond.selects "LikedOrdersModel" ({ cls := "LikedOrdersModel", name := "afresh", desc := "(I)I" } : Jvm.MethodName) ({ cls := "LikedOrdersModel", name := "afresh", desc := "(I)I" } : Jvm.MethodName)) ∈ lw_all := lw_g (lw_at lw_m10 30 rfl) rfl
theorem q2301 : (Jvm.Cond.code ({ cls := "LikedOrdersModel", name := "afresh", desc := "(I)I" } : Jvm.MethodName) prog_17_method_96_code (3 : Nat) (Option.some Jvm.ClassFile.FieldType.int)) ∈ lw_all := lw_g (lw_at lw_m10 31 rfl) rfl
theorem q2303 : (Jvm.Cond.instanceMethod ({ cls := "LikedOrdersModel", name := "placeThen", desc := "(I)I" } : Jvm.MethodName)) ∈ lw_all := lw_g (lw_at lw_m10 33 rfl) rfl
theorem q2304 : (Jvm.Cond.selects "LikedOrdersModel" ({ cls := "LikedOrdersModel", name := "placeThen", desc := "(I)I" } : Jvm.MethodName) ({ cls := "LikedOrdersModel", name := "placeThen", desc := "(I)I" } : Jvm.MethodName)) ∈ lw_all := lw_g (lw_at lw_m10 34 rfl) rfl
theorem q2305 : (Jvm.Cond.code ({ cls := "LikedOrdersModel", name := "placeThen", desc := "(I)I" } : Jvm.MethodName) prog_17_method_97_code (2 : Nat) (Option.some Jvm.ClassFile.FieldType.int)) ∈ lw_all := lw_g (lw_at lw_m10 35 rfl) rfl
theorem q2307 : (Jvm.Cond.instanceMethod ({ cls := "LikedOrdersModel", name := "toComeIf", desc := "(II)I" } : Jvm.MethodName)) ∈ lw_all := lw_g (lw_at lw_m10 37 rfl) rfl
theorem q2308 : (Jvm.Cond.selects "LikedOrdersModel" ({ cls := "LikedOrdersModel", name := "toComeIf", desc := "(II)I" } : Jvm.MethodName) ({ cls := "LikedOrdersModel", name := "toComeIf", desc := "(II)I" } : Jvm.MethodName)) ∈ lw_all := lw_g (lw_at lw_m10 38 rfl) rfl
theorem q2309 : (Jvm.Cond.code ({ cls := "LikedOrdersModel", name := "toComeIf", desc := "(II)I" } : Jvm.MethodName) prog_17_method_98_code (3 : Nat) (Option.some Jvm.ClassFile.FieldType.int)) ∈ lw_all := lw_g (lw_at lw_m10 39 rfl) rfl
theorem q2311 : (Jvm.Cond.instanceMethod ({ cls := "LikedOrdersModel", name := "toComeWithout", desc := "(I)I" } : Jvm.MethodName)) ∈ lw_all := lw_g (lw_at lw_m10 41 rfl) rfl
theorem q2312 : (Jvm.Cond.selects "LikedOrdersModel" ({ cls := "LikedOrdersModel", name := "toComeWithout", desc := "(I)I" } : Jvm.MethodName) ({ cls := "LikedOrdersModel", name := "toComeWithout", desc := "(I)I" } : Jvm.MethodName)) ∈ lw_all := lw_g (lw_at lw_m10 42 rfl) rfl
theorem q2313 : (Jvm.Cond.code ({ cls := "LikedOrdersModel", name := "toComeWithout", desc := "(I)I" } : Jvm.MethodName) prog_17_method_99_code (2 : Nat) (Option.some Jvm.ClassFile.FieldType.int)) ∈ lw_all := lw_g (lw_at lw_m10 43 rfl) rfl
theorem q2315 : (Jvm.Cond.instanceMethod ({ cls := "LikedOrdersModel", name := "worst", desc := "()I" } : Jvm.MethodName)) ∈ lw_all := lw_g (lw_at lw_m10 45 rfl) rfl
theorem q2316 : (Jvm.Cond.selects "LikedOrdersModel" ({ cls := "LikedOrdersModel", name := "worst", desc := "()I" } : Jvm.MethodName) ({ cls := "LikedOrdersModel", name := "worst", desc := "()I" } : Jvm.MethodName)) ∈ lw_all := lw_g (lw_at lw_m10 46 rfl) rfl
theorem q2317 : (Jvm.Cond.code ({ cls := "LikedOrdersModel", name := "worst", desc := "()I" } : Jvm.MethodName) prog_17_method_100_code (5 : Nat) (Option.some Jvm.ClassFile.FieldType.int)) ∈ lw_all := lw_g (lw_at lw_m10 47 rfl) rfl
theorem q2319 : (Jvm.Cond.instanceMethod ({ cls := "LikedOrdersModel", name := "swaps", desc := "()I" } : Jvm.MethodName)) ∈ lw_all := lw_g (lw_at lw_m10 49 rfl) rfl
theorem q2320 : (Jvm.Cond.selects "LikedOrdersModel" ({ cls := "LikedOrdersModel", name := "swaps", desc := "()I" } : Jvm.MethodName) ({ cls := "LikedOrdersModel", name := "swaps", desc := "()I" } : Jvm.MethodName)) ∈ lw_all := lw_g (lw_at lw_m10 50 rfl) rfl
theorem q2321 : (Jvm.Cond.code ({ cls := "LikedOrdersModel", name := "swaps", desc := "()I" } : Jvm.MethodName) prog_17_method_101_code (4 : Nat) (Option.some Jvm.ClassFile.FieldType.int)) ∈ lw_all := lw_g (lw_at lw_m10 51 rfl) rfl
theorem q2323 : (Jvm.Cond.instanceMethod ({ cls := "LikedOrdersModel", name := "share", desc := "()F" } : Jvm.MethodName)) ∈ lw_all := lw_g (lw_at lw_m10 53 rfl) rfl
theorem q2324 : (Jvm.Cond.selects "LikedOrdersModel" ({ cls := "LikedOrdersModel", name := "share", desc := "()F" } : Jvm.MethodName) ({ cls := "LikedOrdersModel", name := "share", desc := "()F" } : Jvm.MethodName)) ∈ lw_all := lw_g (lw_at lw_m10 54 rfl) rfl
theorem q2325 : (Jvm.Cond.code ({ cls := "LikedOrdersModel", name := "share", desc := "()F" } : Jvm.MethodName) prog_17_method_102_code (2 : Nat) (Option.some Jvm.ClassFile.FieldType.float)) ∈ lw_all := lw_g (lw_at lw_m10 55 rfl) rfl
theorem q2327 : (Jvm.Cond.instanceMethod ({ cls := "LikedOrdersModel", name := "meanPlace", desc := "(I)D" } : Jvm.MethodName)) ∈ lw_all := lw_g (lw_at lw_m10 57 rfl) rfl
theorem q2328 : (Jvm.Cond.selects "LikedOrdersModel" ({ cls := "LikedOrdersModel", name := "meanPlace", desc := "(I)D" } : Jvm.MethodName) ({ cls := "LikedOrdersModel", name := "meanPlace", desc := "(I)D" } : Jvm.MethodName)) ∈ lw_all := lw_g (lw_at lw_m10 58 rfl) rfl
theorem q2329 : (Jvm.Cond.code ({ cls := "LikedOrdersModel", name := "meanPlace", desc := "(I)D" } : Jvm.MethodName) prog_17_method_103_code (5 : Nat) (Option.some Jvm.ClassFile.FieldType.double)) ∈ lw_all := lw_g (lw_at lw_m10 59 rfl) rfl
theorem q2331 : (Jvm.Cond.instanceMethod ({ cls := "LikedOrdersModel", name := "writeAnswers", desc := "()I" } : Jvm.MethodName)) ∈ lw_all := lw_g (lw_at lw_m10 61 rfl) rfl
theorem q2332 : (Jvm.Cond.selects "LikedOrdersModel" ({ cls := "LikedOrdersModel", name := "writeAnswers", desc := "()I" } : Jvm.MethodName) ({ cls := "LikedOrdersModel", name := "writeAnswers", desc := "()I" } : Jvm.MethodName)) ∈ lw_all := lw_g (lw_at lw_m10 62 rfl) rfl
theorem q2333 : (Jvm.Cond.code ({ cls := "LikedOrdersModel", name := "writeAnswers", desc := "()I" } : Jvm.MethodName) prog_17_method_106_code (2 : Nat) (Option.some Jvm.ClassFile.FieldType.int)) ∈ lw_all := lw_g (lw_at lw_m10 63 rfl) rfl
theorem q2334 : (Jvm.Cond.methodLink "LikedOrdersModel" (366 : Nat) ({ cls := "LikedOrdersModel", name := "says", desc := "(I)V" } : Jvm.MethodName)) ∈ lw_all := lw_g (lw_at lw_m10 64 rfl) rfl
theorem q2335 : (Jvm.Cond.privateMethod ({ cls := "LikedOrdersModel", name := "says", desc := "(I)V" } : Jvm.MethodName)) ∈ lw_tbl := lw_at lw_m10 65 rfl
theorem q2336 : (Jvm.Cond.instanceMethod ({ cls := "LikedOrdersModel", name := "says", desc := "(I)V" } : Jvm.MethodName)) ∈ lw_all := lw_g (lw_at lw_m10 66 rfl) rfl
theorem q2337 : (Jvm.Cond.code ({ cls := "LikedOrdersModel", name := "says", desc := "(I)V" } : Jvm.MethodName) prog_17_method_104_code (2 : Nat) (Option.none : Option Jvm.ClassFile.FieldType)) ∈ lw_all := lw_g (lw_at lw_m10 67 rfl) rfl
theorem q2338 : (Jvm.Cond.methodLink "LikedOrdersModel" (369 : Nat) ({ cls := "LikedOrdersModel", name := "saysName", desc := "(I)V" } : Jvm.MethodName)) ∈ lw_all := lw_g (lw_at lw_m10 68 rfl) rfl
theorem q2339 : (Jvm.Cond.privateMethod ({ cls := "LikedOrdersModel", name := "saysName", desc := "(I)V" } : Jvm.MethodName)) ∈ lw_tbl := lw_at lw_m10 69 rfl
theorem q2340 : (Jvm.Cond.instanceMethod ({ cls := "LikedOrdersModel", name := "saysName", desc := "(I)V" } : Jvm.MethodName)) ∈ lw_all := lw_g (lw_at lw_m10 70 rfl) rfl
theorem q2341 : (Jvm.Cond.code ({ cls := "LikedOrdersModel", name := "saysName", desc := "(I)V" } : Jvm.MethodName) prog_17_method_105_code (3 : Nat) (Option.none : Option Jvm.ClassFile.FieldType)) ∈ lw_all := lw_g (lw_at lw_m10 71 rfl) rfl
theorem q2343 : (Jvm.Cond.instanceMethod ({ cls := "LikedOrdersModel", name := "writePlaces", desc := "()I" } : Jvm.MethodName)) ∈ lw_all := lw_g (lw_at lw_m10 73 rfl) rfl
theorem q2344 : (Jvm.Cond.selects "LikedOrdersModel" ({ cls := "LikedOrdersModel", name := "writePlaces", desc := "()I" } : Jvm.MethodName) ({ cls := "LikedOrdersModel", name := "writePlaces", desc := "()I" } : Jvm.MethodName)) ∈ lw_all := lw_g (lw_at lw_m10 74 rfl) rfl
theorem q2345 : (Jvm.Cond.code ({ cls := "LikedOrdersModel", name := "writePlaces", desc := "()I" } : Jvm.MethodName) prog_17_method_107_code (2 : Nat) (Option.some Jvm.ClassFile.FieldType.int)) ∈ lw_all := lw_g (lw_at lw_m10 75 rfl) rfl
theorem q2347 : (Jvm.Cond.instanceMethod ({ cls := "LikedOrdersModel", name := "writeFirst", desc := "()I" } : Jvm.MethodName)) ∈ lw_all := lw_g (lw_at lw_m10 77 rfl) rfl
theorem q2348 : (Jvm.Cond.selects "LikedOrdersModel" ({ cls := "LikedOrdersModel", name := "writeFirst", desc := "()I" } : Jvm.MethodName) ({ cls := "LikedOrdersModel", name := "writeFirst", desc := "()I" } : Jvm.MethodName)) ∈ lw_all := lw_g (lw_at lw_m10 78 rfl) rfl
theorem q2349 : (Jvm.Cond.code ({ cls := "LikedOrdersModel", name := "writeFirst", desc := "()I" } : Jvm.MethodName) prog_17_method_109_code (4 : Nat) (Option.some Jvm.ClassFile.FieldType.int)) ∈ lw_all := lw_g (lw_at lw_m10 79 rfl) rfl
theorem q2350 : (Jvm.Cond.methodLink "LikedOrdersModel" (372 : Nat) ({ cls := "LikedOrdersModel", name := "firstBehind", desc := "(I)I" } : Jvm.MethodName)) ∈ lw_all := lw_g (lw_at lw_m10 80 rfl) rfl
theorem q2351 : (Jvm.Cond.privateMethod ({ cls := "LikedOrdersModel", name := "firstBehind", desc := "(I)I" } : Jvm.MethodName)) ∈ lw_tbl := lw_at lw_m10 81 rfl
theorem q2352 : (Jvm.Cond.instanceMethod ({ cls := "LikedOrdersModel", name := "firstBehind", desc := "(I)I" } : Jvm.MethodName)) ∈ lw_all := lw_g (lw_at lw_m10 82 rfl) rfl
theorem q2353 : (Jvm.Cond.code ({ cls := "LikedOrdersModel", name := "firstBehind", desc := "(I)I" } : Jvm.MethodName) prog_17_method_108_code (3 : Nat) (Option.some Jvm.ClassFile.FieldType.int)) ∈ lw_all := lw_g (lw_at lw_m10 83 rfl) rfl
theorem q2355 : (Jvm.Cond.instanceMethod ({ cls := "LikedOrdersModel", name := "textByte", desc := "(I)I" } : Jvm.MethodName)) ∈ lw_all := lw_g (lw_at lw_m10 85 rfl) rfl
theorem q2356 : (Jvm.Cond.selects "LikedOrdersModel" ({ cls := "LikedOrdersModel", name := "textByte", desc := "(I)I" } : Jvm.MethodName) ({ cls := "LikedOrdersModel", name := "textByte", desc := "(I)I" } : Jvm.MethodName)) ∈ lw_all := lw_g (lw_at lw_m10 86 rfl) rfl
theorem q2357 : (Jvm.Cond.code ({ cls := "LikedOrdersModel", name := "textByte", desc := "(I)I" } : Jvm.MethodName) prog_17_method_110_code (2 : Nat) (Option.some Jvm.ClassFile.FieldType.int)) ∈ lw_all := lw_g (lw_at lw_m10 87 rfl) rfl
theorem q2359 : (Jvm.Cond.instanceMethod ({ cls := "LikedOrdersModel", name := "ask", desc := "(II)I" } : Jvm.MethodName)) ∈ lw_all := lw_g (lw_at lw_m10 89 rfl) rfl
theorem q2360 : (Jvm.Cond.selects "LikedOrdersModel" ({ cls := "LikedOrdersModel", name := "ask", desc := "(II)I" } : Jvm.MethodName) ({ cls := "LikedOrdersModel", name := "ask", desc := "(II)I" } : Jvm.MethodName)) ∈ lw_all := lw_g (lw_at lw_m10 90 rfl) rfl
theorem q2361 : (Jvm.Cond.code ({ cls := "LikedOrdersModel", name := "ask", desc := "(II)I" } : Jvm.MethodName) prog_17_method_112_code (3 : Nat) (Option.some Jvm.ClassFile.FieldType.int)) ∈ lw_all := lw_g (lw_at lw_m10 91 rfl) rfl
theorem q2362 : (Jvm.Cond.methodLink "LikedOrdersModel" (375 : Nat) ({ cls := "LikedOrdersModel", name := "keepsAll", desc := "()V" } : Jvm.MethodName)) ∈ lw_all := lw_g (lw_at lw_m10 92 rfl) rfl
theorem q2363 : (Jvm.Cond.privateMethod ({ cls := "LikedOrdersModel", name := "keepsAll", desc := "()V" } : Jvm.MethodName)) ∈ lw_tbl := lw_at lw_m10 93 rfl
theorem q2364 : (Jvm.Cond.instanceMethod ({ cls := "LikedOrdersModel", name := "keepsAll", desc := "()V" } : Jvm.MethodName)) ∈ lw_all := lw_g (lw_at lw_m10 94 rfl) rfl
theorem q2365 : (Jvm.Cond.code ({ cls := "LikedOrdersModel", name := "keepsAll", desc := "()V" } : Jvm.MethodName) prog_17_method_111_code (2 : Nat) (Option.none : Option Jvm.ClassFile.FieldType)) ∈ lw_all := lw_g (lw_at lw_m10 95 rfl) rfl
theorem q2367 : (Jvm.Cond.instanceMethod ({ cls := "LikedOrdersModel", name := "goOn", desc := "(I)I" } : Jvm.MethodName)) ∈ lw_all := lw_g (lw_at lw_m10 97 rfl) rfl
theorem q2368 : (Jvm.Cond.selects "LikedOrdersModel" ({ cls := "LikedOrdersModel", name := "goOn", desc := "(I)I" } : Jvm.MethodName) ({ cls := "LikedOrdersModel", name := "goOn", desc := "(I)I" } : Jvm.MethodName)) ∈ lw_all := lw_g (lw_at lw_m10 98 rfl) rfl
theorem q2369 : (Jvm.Cond.code ({ cls := "LikedOrdersModel", name := "goOn", desc := "(I)I" } : Jvm.MethodName) prog_17_method_113_code (3 : Nat) (Option.some Jvm.ClassFile.FieldType.int)) ∈ lw_all := lw_g (lw_at lw_m10 99 rfl) rfl
theorem q2370 : (Jvm.Cond.constantLong "LikedOrdersModel" (378 : Nat) (30 : Int64)) ∈ lw_all := lw_g (lw_at lw_m10 100 rfl) rfl
theorem q2372 : (Jvm.Cond.instanceMethod ({ cls := "LikedOrdersModel", name := "takeBack", desc := "(I)I" } : Jvm.MethodName)) ∈ lw_all := lw_g (lw_at lw_m10 102 rfl) rfl
theorem q2373 : (Jvm.Cond.selects "LikedOrdersModel" ({ cls := "LikedOrdersModel", name := "takeBack", desc := "(I)I" } : Jvm.MethodName) ({ cls := "LikedOrdersModel", name := "takeBack", desc := "(I)I" } : Jvm.MethodName)) ∈ lw_all := lw_g (lw_at lw_m10 103 rfl) rfl
theorem q2374 : (Jvm.Cond.code ({ cls := "LikedOrdersModel", name := "takeBack", desc := "(I)I" } : Jvm.MethodName) prog_17_method_115_code (2 : Nat) (Option.some Jvm.ClassFile.FieldType.int)) ∈ lw_all := lw_g (lw_at lw_m10 104 rfl) rfl
theorem q2375 : (Jvm.Cond.methodLink "LikedOrdersModel" (380 : Nat) ({ cls := "LikedOrdersModel", name := "removes", desc := "(I)V" } : Jvm.MethodName)) ∈ lw_all := lw_g (lw_at lw_m10 105 rfl) rfl
theorem q2376 : (Jvm.Cond.privateMethod ({ cls := "LikedOrdersModel", name := "removes", desc := "(I)V" } : Jvm.MethodName)) ∈ lw_tbl := lw_at lw_m10 106 rfl
theorem q2377 : (Jvm.Cond.instanceMethod ({ cls := "LikedOrdersModel", name := "removes", desc := "(I)V" } : Jvm.MethodName)) ∈ lw_all := lw_g (lw_at lw_m10 107 rfl) rfl
theorem q2378 : (Jvm.Cond.code ({ cls := "LikedOrdersModel", name := "removes", desc := "(I)V" } : Jvm.MethodName) prog_17_method_114_code (3 : Nat) (Option.none : Option Jvm.ClassFile.FieldType)) ∈ lw_all := lw_g (lw_at lw_m10 108 rfl) rfl
theorem q2380 : (Jvm.Cond.instanceMethod ({ cls := "LikedOrdersModel", name := "tidy", desc := "()I" } : Jvm.MethodName)) ∈ lw_all := lw_g (lw_at lw_m10 110 rfl) rfl
theorem q2381 : (Jvm.Cond.selects "LikedOrdersModel" ({ cls := "LikedOrdersModel", name := "tidy", desc := "()I" } : Jvm.MethodName) ({ cls := "LikedOrdersModel", name := "tidy", desc := "()I" } : Jvm.MethodName)) ∈ lw_all := lw_g (lw_at lw_m10 111 rfl) rfl
theorem q2382 : (Jvm.Cond.code ({ cls := "LikedOrdersModel", name := "tidy", desc := "()I" } : Jvm.MethodName) prog_17_method_116_code (3 : Nat) (Option.some Jvm.ClassFile.FieldType.int)) ∈ lw_all := lw_g (lw_at lw_m10 112 rfl) rfl
theorem q2384 : (Jvm.Cond.instanceMethod ({ cls := "LikedOrdersModel", name := "addItem", desc := "(II)I" } : Jvm.MethodName)) ∈ lw_all := lw_g (lw_at lw_m10 114 rfl) rfl
theorem q2385 : (Jvm.Cond.selects "LikedOrdersModel" ({ cls := "LikedOrdersModel", name := "addItem", desc := "(II)I" } : Jvm.MethodName) ({ cls := "LikedOrdersModel", name := "addItem", desc := "(II)I" } : Jvm.MethodName)) ∈ lw_all := lw_g (lw_at lw_m10 115 rfl) rfl
theorem q2386 : (Jvm.Cond.code ({ cls := "LikedOrdersModel", name := "addItem", desc := "(II)I" } : Jvm.MethodName) prog_17_method_118_code (4 : Nat) (Option.some Jvm.ClassFile.FieldType.int)) ∈ lw_all := lw_g (lw_at lw_m10 116 rfl) rfl
theorem q2387 : (Jvm.Cond.constantLong "LikedOrdersModel" (383 : Nat) (99 : Int64)) ∈ lw_all := lw_g (lw_at lw_m10 117 rfl) rfl
theorem q2388 : (Jvm.Cond.methodLink "LikedOrdersModel" (385 : Nat) ({ cls := "LikedOrdersModel", name := "isGoodName", desc := "(I)Z" } : Jvm.MethodName)) ∈ lw_all := lw_g (lw_at lw_m10 118 rfl) rfl
theorem q2389 : (Jvm.Cond.privateMethod ({ cls := "LikedOrdersModel", name := "isGoodName", desc := "(I)Z" } : Jvm.MethodName)) ∈ lw_tbl := lw_at lw_m10 119 rfl
theorem q2390 : (Jvm.Cond.instanceMethod ({ cls := "LikedOrdersModel", name := "isGoodName", desc := "(I)Z" } : Jvm.MethodName)) ∈ lw_all := lw_g (lw_at lw_m10 120 rfl) rfl
theorem q2391 : (Jvm.Cond.code ({ cls := "LikedOrdersModel", name := "isGoodName", desc := "(I)Z" } : Jvm.MethodName) prog_17_method_117_code (4 : Nat) (Option.some Jvm.ClassFile.FieldType.boolean)) ∈ lw_all := lw_g (lw_at lw_m10 121 rfl) rfl
theorem q2393 : (Jvm.Cond.instanceMethod ({ cls := "LikedOrdersModel", name := "dropItem", desc := "(I)I" } : Jvm.MethodName)) ∈ lw_all := lw_g (lw_at lw_m10 123 rfl) rfl
theorem q2394 : (Jvm.Cond.selects "LikedOrdersModel" ({ cls := "LikedOrdersModel", name := "dropItem", desc := "(I)I" } : Jvm.MethodName) ({ cls := "LikedOrdersModel", name := "dropItem", desc := "(I)I" } : Jvm.MethodName)) ∈ lw_all := lw_g (lw_at lw_m10 124 rfl) rfl
theorem q2395 : (Jvm.Cond.code ({ cls := "LikedOrdersModel", name := "dropItem", desc := "(I)I" } : Jvm.MethodName) prog_17_method_119_code (4 : Nat) (Option.some Jvm.ClassFile.FieldType.int)) ∈ lw_all := lw_g (lw_at lw_m10 125 rfl) rfl
theorem q2397 : (Jvm.Cond.instanceMethod ({ cls := "LikedOrdersModel", name := "setWorth", desc := "(II)I" } : Jvm.MethodName)) ∈ lw_all := lw_g (lw_at lw_m10 127 rfl) rfl
theorem q2398 : (Jvm.Cond.selects "LikedOrdersModel" ({ cls := "LikedOrdersModel", name := "setWorth", desc := "(II)I" } : Jvm.MethodName) ({ cls := "LikedOrdersModel", name := "setWorth", desc := "(II)I" } : Jvm.MethodName)) ∈ lw_all := lw_g (lw_at lw_m10 128 rfl) rfl
theorem q2399 : (Jvm.Cond.code ({ cls := "LikedOrdersModel", name := "setWorth", desc := "(II)I" } : Jvm.MethodName) prog_17_method_121_code (3 : Nat) (Option.some Jvm.ClassFile.FieldType.int)) ∈ lw_all := lw_g (lw_at lw_m10 129 rfl) rfl
theorem q2400 : (Jvm.Cond.methodLink "LikedOrdersModel" (388 : Nat) ({ cls := "LikedOrdersModel", name := "sets", desc := "(II)I" } : Jvm.MethodName)) ∈ lw_all := lw_g (lw_at lw_m10 130 rfl) rfl
theorem q2401 : (Jvm.Cond.privateMethod ({ cls := "LikedOrdersModel", name := "sets", desc := "(II)I" } : Jvm.MethodName)) ∈ lw_tbl := lw_at lw_m10 131 rfl
theorem q2402 : (Jvm.Cond.instanceMethod ({ cls := "LikedOrdersModel", name := "sets", desc := "(II)I" } : Jvm.MethodName)) ∈ lw_all := lw_g (lw_at lw_m10 132 rfl) rfl
theorem q2403 : (Jvm.Cond.code ({ cls := "LikedOrdersModel", name := "sets", desc := "(II)I" } : Jvm.MethodName) prog_17_method_120_code (4 : Nat) (Option.some Jvm.ClassFile.FieldType.int)) ∈ lw_all := lw_g (lw_at lw_m10 133 rfl) rfl
theorem q2405 : (Jvm.Cond.instanceMethod ({ cls := "LikedOrdersModel", name := "setMethod", desc := "(I)I" } : Jvm.MethodName)) ∈ lw_all := lw_g (lw_at lw_m10 135 rfl) rfl
theorem q2406 : (Jvm.Cond.selects "LikedOrdersModel" ({ cls := "LikedOrdersModel", name := "setMethod", desc := "(I)I" } : Jvm.MethodName) ({ cls := "LikedOrdersModel", name := "setMethod", desc := "(I)I" } : Jvm.MethodName)) ∈ lw_all := lw_g (lw_at lw_m10 136 rfl) rfl
theorem q2407 : (Jvm.Cond.code ({ cls := "LikedOrdersModel", name := "setMethod", desc := "(I)I" } : Jvm.MethodName) prog_17_method_122_code (2 : Nat) (Option.some Jvm.ClassFile.FieldType.int)) ∈ lw_all := lw_g (lw_at lw_m10 137 rfl) rfl
theorem q2409 : (Jvm.Cond.instanceMethod ({ cls := "LikedOrdersModel", name := "undo", desc := "()I" } : Jvm.MethodName)) ∈ lw_all := lw_g (lw_at lw_m10 139 rfl) rfl
theorem q2410 : (Jvm.Cond.selects "LikedOrdersModel" ({ cls := "LikedOrdersModel", name := "undo", desc := "()I" } : Jvm.MethodName) ({ cls := "LikedOrdersModel", name := "undo", desc := "()I" } : Jvm.MethodName)) ∈ lw_all := lw_g (lw_at lw_m10 140 rfl) rfl
theorem q2411 : (Jvm.Cond.code ({ cls := "LikedOrdersModel", name := "undo", desc := "()I" } : Jvm.MethodName) prog_17_method_123_code (1 : Nat) (Option.some Jvm.ClassFile.FieldType.int)) ∈ lw_all := lw_g (lw_at lw_m10 141 rfl) rfl
theorem q2413 : (Jvm.Cond.instanceMethod ({ cls := "LikedOrdersModel", name := "undoable", desc := "()I" } : Jvm.MethodName)) ∈ lw_all := lw_g (lw_at lw_m10 143 rfl) rfl
theorem q2414 : (Jvm.Cond.selects "LikedOrdersModel" ({ cls := "LikedOrdersModel", name := "undoable", desc := "()I" } : Jvm.MethodName) ({ cls := "LikedOrdersModel", name := "undoable", desc := "()I" } : Jvm.MethodName)) ∈ lw_all := lw_g (lw_at lw_m10 144 rfl) rfl
theorem q2415 : (Jvm.Cond.code ({ cls := "LikedOrdersModel", name := "undoable", desc := "()I" } : Jvm.MethodName) prog_17_method_124_code (1 : Nat) (Option.some Jvm.ClassFile.FieldType.int)) ∈ lw_all := lw_g (lw_at lw_m10 145 rfl) rfl
theorem q2417 : (Jvm.Cond.instanceMethod ({ cls := "LikedOrdersModel", name := "save", desc := "(I)I" } : Jvm.MethodName)) ∈ lw_all := lw_g (lw_at lw_m10 147 rfl) rfl
theorem q2418 : (Jvm.Cond.selects "LikedOrdersModel" ({ cls := "LikedOrdersModel", name := "save", desc := "(I)I" } : Jvm.MethodName) ({ cls := "LikedOrdersModel", name := "save", desc := "(I)I" } : Jvm.MethodName)) ∈ lw_all := lw_g (lw_at lw_m10 148 rfl) rfl
theorem q2419 : (Jvm.Cond.code ({ cls := "LikedOrdersModel", name := "save", desc := "(I)I" } : Jvm.MethodName) prog_17_method_125_code (2 : Nat) (Option.some Jvm.ClassFile.FieldType.int)) ∈ lw_all := lw_g (lw_at lw_m10 149 rfl) rfl
theorem q2421 : (Jvm.Cond.instanceMethod ({ cls := "LikedOrdersModel", name := "restore", desc := "(I)I" } : Jvm.MethodName)) ∈ lw_all := lw_g (lw_at lw_m10 151 rfl) rfl
theorem q2422 : (Jvm.Cond.selects "LikedOrdersModel" ({ cls := "LikedOrdersModel", name := "restore", desc := "(I)I" } : Jvm.MethodName) ({ cls := "LikedOrdersModel", name := "restore", desc := "(I)I" } : Jvm.MethodName)) ∈ lw_all := lw_g (lw_at lw_m10 152 rfl) rfl
theorem q2423 : (Jvm.Cond.code ({ cls := "LikedOrdersModel", name := "restore", desc := "(I)I" } : Jvm.MethodName) prog_17_method_126_code (2 : Nat) (Option.some Jvm.ClassFile.FieldType.int)) ∈ lw_all := lw_g (lw_at lw_m10 153 rfl) rfl
theorem q2444 : (Jvm.Cond.castable "LikedOrdersModel" "java/lang/Object") ∈ lw_tbl := lw_at lw_m10 174 rfl
theorem in_X2 : ∀ w ∈ wsX20, w ∈ lw_all := lw_in wsX20 [1853, 1855, 1857, 1859, 1861, 1863, 1865, 1867, 1869, 1871, 1873, 1875, 1877, 1879, 1881, 1883, 1885, 1887, 1889, 1891, 1893, 1895, 1897, 1899, 1901, 1903, 1905, 1907, 1909, 1911, 1913] (by decide +kernel) (by decide +kernel)
/-! LikedOrders$Parser -/
def RX3 : String := "LikedOrders$Parser"
def TX3 : u_T := fun k => match k with
  | 0 => ("LikedOrders$Parser", "size", "I", true)
  | 1 => ("LikedOrders$Parser", "from", "I", false)
  | 2 => ("LikedOrders$Parser", "to", "I", false)
  | 3 => ("LikedOrders$Parser", "value", "I", false)
  | 4 => ("LikedOrders$Parser", "token", "LLikedOrders$Token;", false)
  | 5 => ("LikedOrders$Parser", "word", "Ljava/lang/String;", false)
  | 6 => ("LikedOrders$Parser", "read", "LLikedOrders$State;", true)
  | 7 => ("LikedOrders$Parser", "known", "LLikedOrders$Known;", false)
  | _ => ("LikedOrders$Parser", "this$0", "LLikedOrders;", true)
def tyX3 : Nat → FieldType := fun k => match k with
  | 0 => .int
  | 1 => .int
  | 2 => .int
  | 3 => .int
  | 4 => .object "LikedOrders$Token"
  | 5 => .object "java/lang/String"
  | 6 => .object "LikedOrders$State"
  | 7 => .object "LikedOrders$Known"
  | _ => .object "LikedOrders"
abbrev wsX30 : List Cond := u_ws RX3 TX3 9
theorem nmX3 : ∀ a, a < 9 → ∀ b, b < 9 → a ≠ b → (TX3 a).2.1 ≠ (TX3 b).2.1 := by decide +kernel
theorem tyX3_ok : ∀ k, k < 9 → parseFieldDescriptor (TX3 k).2.2.1 = some (tyX3 k) := by decide +kernel
abbrev cX3_init : ByteArray := prog_9_method_1_code
def yX3_init : MethodName := ⟨RX3, "<init>", "(LLikedOrders;I)V"⟩
abbrev cX3_state : ByteArray := prog_9_method_10_code
def yX3_state : MethodName := ⟨RX3, "state", "()LLikedOrders$State;"⟩
abbrev cX3_advance : ByteArray := prog_9_method_4_code
def yX3_advance : MethodName := ⟨RX3, "advance", "()V"⟩
abbrev cX3_byteAt : ByteArray := prog_9_method_2_code
def yX3_byteAt : MethodName := ⟨RX3, "byteAt", "(I)I"⟩
abbrev cX3_scan : ByteArray := prog_9_method_3_code
def yX3_scan : MethodName := ⟨RX3, "scan", "()LLikedOrders$Token;"⟩
abbrev cX3_require : ByteArray := prog_9_method_5_code
def yX3_require : MethodName := ⟨RX3, "require", "(ZI)V"⟩
abbrev cX3_number : ByteArray := prog_9_method_6_code
def yX3_number : MethodName := ⟨RX3, "number", "(II)I"⟩
abbrev cX3_item : ByteArray := prog_9_method_7_code
def yX3_item : MethodName := ⟨RX3, "item", "()V"⟩
abbrev cX3_answer : ByteArray := prog_9_method_9_code
def yX3_answer : MethodName := ⟨RX3, "answer", "()V"⟩
abbrev cX3_itemHere : ByteArray := prog_9_method_8_code
def yX3_itemHere : MethodName := ⟨RX3, "itemHere", "()I"⟩
theorem q121 : (Jvm.Cond.initialized "LikedOrders$Parser") ∈ lw_all := lw_g (lw_at lw_m1 11 rfl) rfl
theorem q186 : (Jvm.Cond.fieldLinkNest "LikedOrders$Parser" (50 : Nat) "LikedOrders" "buffer" "[B" "LikedOrders") ∈ lw_tbl := lw_at lw_m1 76 rfl
theorem q188 : (Jvm.Cond.fieldLinkNest "LikedOrders$Parser" (41 : Nat) "LikedOrders" "buffered" "I" "LikedOrders") ∈ lw_tbl := lw_at lw_m1 78 rfl
theorem q190 : (Jvm.Cond.fieldLinkNest "LikedOrders$Parser" (44 : Nat) "LikedOrders" "parseError" "I" "LikedOrders") ∈ lw_tbl := lw_at lw_m1 80 rfl
theorem q192 : (Jvm.Cond.fieldLinkNest "LikedOrders$Parser" (47 : Nat) "LikedOrders" "errorPosition" "I" "LikedOrders") ∈ lw_tbl := lw_at lw_m1 82 rfl
theorem q382 : (Jvm.Cond.instantiable "LikedOrders$Parser" (9 : Nat)) ∈ lw_all := lw_g (lw_at lw_m2 32 rfl) rfl
theorem q384 : (Jvm.Cond.instanceMethod ({ cls := "LikedOrders$Parser", name := "<init>", desc := "(LLikedOrders;I)V" } : Jvm.MethodName)) ∈ lw_all := lw_g (lw_at lw_m2 34 rfl) rfl
theorem q385 : (Jvm.Cond.code ({ cls := "LikedOrders$Parser", name := "<init>", desc := "(LLikedOrders;I)V" } : Jvm.MethodName) prog_9_method_1_code (3 : Nat) (Option.none : Option Jvm.ClassFile.FieldType)) ∈ lw_all := lw_g (lw_at lw_m2 35 rfl) rfl
theorem q386 : (Jvm.Cond.methodLink "LikedOrders$Parser" (9 : Nat) ({ cls := "java/lang/Object", name := "<init>", desc := "()V" } : Jvm.MethodName)) ∈ lw_all := lw_g (lw_at lw_m2 36 rfl) rfl
theorem q387 : (Jvm.Cond.fieldLink "LikedOrders$Parser" (15 : Nat) "LikedOrders$Token" "INVALID" "LLikedOrders$Token;") ∈ lw_all := lw_g (lw_at lw_m2 37 rfl) rfl
theorem q389 : (Jvm.Cond.stringRef "LikedOrders$Parser" (24 : Nat) "") ∈ lw_tbl := lw_at lw_m2 39 rfl
theorem q390 : (Jvm.Cond.classLink "LikedOrders$Parser" (30 : Nat) "LikedOrders$State") ∈ lw_all := lw_g (lw_at lw_m2 40 rfl) rfl
theorem q392 : (Jvm.Cond.methodLinkNest "LikedOrders$Parser" (32 : Nat) ({ cls := "LikedOrders$State", name := "<init>", desc := "()V" } : Jvm.MethodName) "LikedOrders") ∈ lw_tbl := lw_at lw_m2 42 rfl
theorem q686 : (Jvm.Cond.fieldLinkNest "LikedOrders$Parser" (115 : Nat) "LikedOrders$State" "items" "LLikedOrders$Row;" "LikedOrders") ∈ lw_tbl := lw_at lw_m3 96 rfl
theorem q689 : (Jvm.Cond.fieldLinkNest "LikedOrders$Parser" (154 : Nat) "LikedOrders$State" "answers" "LLikedOrders$Row;" "LikedOrders") ∈ lw_tbl := lw_at lw_m3 99 rfl
theorem q692 : (Jvm.Cond.fieldLinkNest "LikedOrders$Parser" (171 : Nat) "LikedOrders$State" "method" "I" "LikedOrders") ∈ lw_tbl := lw_at lw_m3 102 rfl
theorem q709 : (Jvm.Cond.fieldLink "LikedOrders$Parser" (37 : Nat) "LikedOrders$Parser" "size" "I") ∈ lw_all := lw_g (lw_at lw_m3 119 rfl) rfl
theorem q710 : (Jvm.Cond.fieldLink "LikedOrders$Parser" (73 : Nat) "LikedOrders$Parser" "from" "I") ∈ lw_all := lw_g (lw_at lw_m3 120 rfl) rfl
theorem q711 : (Jvm.Cond.fieldLink "LikedOrders$Parser" (54 : Nat) "LikedOrders$Parser" "to" "I") ∈ lw_all := lw_g (lw_at lw_m3 121 rfl) rfl
theorem q712 : (Jvm.Cond.fieldLink "LikedOrders$Parser" (87 : Nat) "LikedOrders$Parser" "value" "I") ∈ lw_all := lw_g (lw_at lw_m3 122 rfl) rfl
theorem q713 : (Jvm.Cond.fieldLink "LikedOrders$Parser" (21 : Nat) "LikedOrders$Parser" "token" "LLikedOrders$Token;") ∈ lw_all := lw_g (lw_at lw_m3 123 rfl) rfl
theorem q714 : (Jvm.Cond.fieldLink "LikedOrders$Parser" (26 : Nat) "LikedOrders$Parser" "word" "Ljava/lang/String;") ∈ lw_all := lw_g (lw_at lw_m3 124 rfl) rfl
theorem q715 : (Jvm.Cond.fieldLink "LikedOrders$Parser" (33 : Nat) "LikedOrders$Parser" "read" "LLikedOrders$State;") ∈ lw_all := lw_g (lw_at lw_m3 125 rfl) rfl
theorem q716 : (Jvm.Cond.fieldLink "LikedOrders$Parser" (144 : Nat) "LikedOrders$Parser" "known" "LLikedOrders$Known;") ∈ lw_all := lw_g (lw_at lw_m3 126 rfl) rfl
theorem q717 : (Jvm.Cond.fieldLink "LikedOrders$Parser" (3 : Nat) "LikedOrders$Parser" "this$0" "LLikedOrders;") ∈ lw_all := lw_g (lw_at lw_m3 127 rfl) rfl
theorem q718 : (Jvm.Cond.laysFinal "LikedOrders$Parser" "LikedOrders$Parser" "size" "I") ∈ lw_all := lw_g (lw_at lw_m3 128 rfl) rfl
theorem q719 : (Jvm.Cond.soleField "LikedOrders$Parser" "size") ∈ lw_all := lw_g (lw_at lw_m3 129 rfl) rfl
theorem q720 : (Jvm.Cond.lays "LikedOrders$Parser" "LikedOrders$Parser" "from" "I") ∈ lw_all := lw_g (lw_at lw_m3 130 rfl) rfl
theorem q721 : (Jvm.Cond.soleField "LikedOrders$Parser" "from") ∈ lw_all := lw_g (lw_at lw_m3 131 rfl) rfl
theorem q722 : (Jvm.Cond.lays "LikedOrders$Parser" "LikedOrders$Parser" "to" "I") ∈ lw_all := lw_g (lw_at lw_m3 132 rfl) rfl
theorem q723 : (Jvm.Cond.soleField "LikedOrders$Parser" "to") ∈ lw_all := lw_g (lw_at lw_m3 133 rfl) rfl
theorem q724 : (Jvm.Cond.lays "LikedOrders$Parser" "LikedOrders$Parser" "value" "I") ∈ lw_all := lw_g (lw_at lw_m3 134 rfl) rfl
theorem q725 : (Jvm.Cond.soleField "LikedOrders$Parser" "value") ∈ lw_all := lw_g (lw_at lw_m3 135 rfl) rfl
theorem q726 : (Jvm.Cond.lays "LikedOrders$Parser" "LikedOrders$Parser" "token" "LLikedOrders$Token;") ∈ lw_all := lw_g (lw_at lw_m3 136 rfl) rfl
theorem q727 : (Jvm.Cond.soleField "LikedOrders$Parser" "token") ∈ lw_all := lw_g (lw_at lw_m3 137 rfl) rfl
theorem q728 : (Jvm.Cond.lays "LikedOrders$Parser" "LikedOrders$Parser" "word" "Ljava/lang/String;") ∈ lw_all := lw_g (lw_at lw_m3 138 rfl) rfl
theorem q729 : (Jvm.Cond.soleField "LikedOrders$Parser" "word") ∈ lw_all := lw_g (lw_at lw_m3 139 rfl) rfl
theorem q730 : (Jvm.Cond.laysFinal "LikedOrders$Parser" "LikedOrders$Parser" "read" "LLikedOrders$State;") ∈ lw_all := lw_g (lw_at lw_m3 140 rfl) rfl
theorem q731 : (Jvm.Cond.soleField "LikedOrders$Parser" "read") ∈ lw_all := lw_g (lw_at lw_m3 141 rfl) rfl
theorem q732 : (Jvm.Cond.lays "LikedOrders$Parser" "LikedOrders$Parser" "known" "LLikedOrders$Known;") ∈ lw_all := lw_g (lw_at lw_m3 142 rfl) rfl
theorem q733 : (Jvm.Cond.soleField "LikedOrders$Parser" "known") ∈ lw_all := lw_g (lw_at lw_m3 143 rfl) rfl
theorem q734 : (Jvm.Cond.laysFinal "LikedOrders$Parser" "LikedOrders$Parser" "this$0" "LLikedOrders;") ∈ lw_all := lw_g (lw_at lw_m3 144 rfl) rfl
theorem q735 : (Jvm.Cond.soleField "LikedOrders$Parser" "this$0") ∈ lw_all := lw_g (lw_at lw_m3 145 rfl) rfl
theorem q736 : (Jvm.Cond.superclass "LikedOrders$Parser" "java/lang/Object") ∈ lw_all := lw_g (lw_at lw_m3 146 rfl) rfl
theorem q738 : (Jvm.Cond.instanceMethod ({ cls := "LikedOrders$Parser", name := "state", desc := "()LLikedOrders$State;" } : Jvm.MethodName)) ∈ lw_all := lw_g (lw_at lw_m3 148 rfl) rfl
theorem q739 : (Jvm.Cond.selects "LikedOrders$Parser" ({ cls := "LikedOrders$Parser", name := "state", desc := "()LLikedOrders$State;" } : Jvm.MethodName) ({ cls := "LikedOrders$Parser", name := "state", desc := "()LLikedOrders$State;" } : Jvm.MethodName)) ∈ lw_all := lw_g (lw_at lw_m3 149 rfl) rfl
theorem q740 : (Jvm.Cond.code ({ cls := "LikedOrders$Parser", name := "state", desc := "()LLikedOrders$State;" } : Jvm.MethodName) prog_9_method_10_code (2 : Nat) (Option.some (Jvm.ClassFile.FieldType.object "LikedOrders$State"))) ∈ lw_all := lw_g (lw_at lw_m3 150 rfl) rfl
theorem q741 : (Jvm.Cond.methodLink "LikedOrders$Parser" (112 : Nat) ({ cls := "LikedOrders$Parser", name := "advance", desc := "()V" } : Jvm.MethodName)) ∈ lw_all := lw_g (lw_at lw_m3 151 rfl) rfl
theorem q742 : (Jvm.Cond.privateMethod ({ cls := "LikedOrders$Parser", name := "advance", desc := "()V" } : Jvm.MethodName)) ∈ lw_tbl := lw_at lw_m3 152 rfl
theorem q743 : (Jvm.Cond.instanceMethod ({ cls := "LikedOrders$Parser", name := "advance", desc := "()V" } : Jvm.MethodName)) ∈ lw_all := lw_g (lw_at lw_m3 153 rfl) rfl
theorem q744 : (Jvm.Cond.code ({ cls := "LikedOrders$Parser", name := "advance", desc := "()V" } : Jvm.MethodName) prog_9_method_4_code (1 : Nat) (Option.none : Option Jvm.ClassFile.FieldType)) ∈ lw_all := lw_g (lw_at lw_m3 154 rfl) rfl
theorem q745 : (Jvm.Cond.methodLink "LikedOrders$Parser" (57 : Nat) ({ cls := "LikedOrders$Parser", name := "byteAt", desc := "(I)I" } : Jvm.MethodName)) ∈ lw_all := lw_g (lw_at lw_m3 155 rfl) rfl
theorem q746 : (Jvm.Cond.privateMethod ({ cls := "LikedOrders$Parser", name := "byteAt", desc := "(I)I" } : Jvm.MethodName)) ∈ lw_tbl := lw_at lw_m3 156 rfl
theorem q747 : (Jvm.Cond.instanceMethod ({ cls := "LikedOrders$Parser", name := "byteAt", desc := "(I)I" } : Jvm.MethodName)) ∈ lw_all := lw_g (lw_at lw_m3 157 rfl) rfl
theorem q748 : (Jvm.Cond.code ({ cls := "LikedOrders$Parser", name := "byteAt", desc := "(I)I" } : Jvm.MethodName) prog_9_method_2_code (2 : Nat) (Option.some Jvm.ClassFile.FieldType.int)) ∈ lw_all := lw_g (lw_at lw_m3 158 rfl) rfl
theorem q749 : (Jvm.Cond.methodLink "LikedOrders$Parser" (99 : Nat) ({ cls := "LikedOrders$Parser", name := "scan", desc := "()LLikedOrders$Token;" } : Jvm.MethodName)) ∈ lw_all := lw_g (lw_at lw_m3 159 rfl) rfl
theorem q750 : (Jvm.Cond.privateMethod ({ cls := "LikedOrders$Parser", name := "scan", desc := "()LLikedOrders$Token;" } : Jvm.MethodName)) ∈ lw_tbl := lw_at lw_m3 160 rfl
theorem q751 : (Jvm.Cond.instanceMethod ({ cls := "LikedOrders$Parser", name := "scan", desc := "()LLikedOrders$Token;" } : Jvm.MethodName)) ∈ lw_all := lw_g (lw_at lw_m3 161 rfl) rfl
theorem q752 : (Jvm.Cond.code ({ cls := "LikedOrders$Parser", name := "scan", desc := "()LLikedOrders$Token;" } : Jvm.MethodName) prog_9_method_3_code (3 : Nat) (Option.some (Jvm.ClassFile.FieldType.object "LikedOrders$Token"))) ∈ lw_all := lw_g (lw_at lw_m3 162 rfl) rfl
theorem q753 : (Jvm.Cond.fieldLink "LikedOrders$Parser" (61 : Nat) "LikedOrders$Token" "END" "LLikedOrders$Token;") ∈ lw_all := lw_g (lw_at lw_m3 163 rfl) rfl
theorem q755 : (Jvm.Cond.methodLinkNest "LikedOrders$Parser" (64 : Nat) ({ cls := "LikedOrders", name := "in", desc := "(III)Z" } : Jvm.MethodName) "LikedOrders") ∈ lw_tbl := lw_at lw_m3 165 rfl
theorem q756 : (Jvm.Cond.classLink "LikedOrders$Parser" (68 : Nat) "java/lang/StringBuilder") ∈ lw_all := lw_g (lw_at lw_m3 166 rfl) rfl
theorem q757 : (Jvm.Cond.methodLink "LikedOrders$Parser" (70 : Nat) ({ cls := "java/lang/StringBuilder", name := "<init>", desc := "(I)V" } : Jvm.MethodName)) ∈ lw_all := lw_g (lw_at lw_m3 167 rfl) rfl
theorem q760 : (Jvm.Cond.methodLink "LikedOrders$Parser" (76 : Nat) ({ cls := "java/lang/StringBuilder", name := "append", desc := "(C)Ljava/lang/StringBuilder;" } : Jvm.MethodName)) ∈ lw_all := lw_g (lw_at lw_m3 170 rfl) rfl
theorem q782 : (Jvm.Cond.methodLink "LikedOrders$Parser" (80 : Nat) ({ cls := "java/lang/StringBuilder", name := "toString", desc := "()Ljava/lang/String;" } : Jvm.MethodName)) ∈ lw_all := lw_g (lw_at lw_m3 192 rfl) rfl
theorem q783 : (Jvm.Cond.fieldLink "LikedOrders$Parser" (84 : Nat) "LikedOrders$Token" "WORD" "LLikedOrders$Token;") ∈ lw_all := lw_g (lw_at lw_m3 193 rfl) rfl
theorem q785 : (Jvm.Cond.fieldLink "LikedOrders$Parser" (90 : Nat) "LikedOrders$Token" "NUMBER" "LLikedOrders$Token;") ∈ lw_all := lw_g (lw_at lw_m3 195 rfl) rfl
theorem q787 : (Jvm.Cond.fieldLink "LikedOrders$Parser" (93 : Nat) "LikedOrders$Token" "LINE_END" "LLikedOrders$Token;") ∈ lw_all := lw_g (lw_at lw_m3 197 rfl) rfl
theorem q789 : (Jvm.Cond.fieldLink "LikedOrders$Parser" (96 : Nat) "LikedOrders$Token" "BETTER" "LLikedOrders$Token;") ∈ lw_all := lw_g (lw_at lw_m3 199 rfl) rfl
theorem q791 : (Jvm.Cond.stringRef "LikedOrders$Parser" (163 : Nat) "liked") ∈ lw_tbl := lw_at lw_m3 201 rfl
theorem q792 : (Jvm.Cond.methodLink "LikedOrders$Parser" (165 : Nat) ({ cls := "java/lang/String", name := "equals", desc := "(Ljava/lang/Object;)Z" } : Jvm.MethodName)) ∈ lw_all := lw_g (lw_at lw_m3 202 rfl) rfl
theorem q800 : (Jvm.Cond.methodLink "LikedOrders$Parser" (108 : Nat) ({ cls := "LikedOrders$Parser", name := "require", desc := "(ZI)V" } : Jvm.MethodName)) ∈ lw_all := lw_g (lw_at lw_m3 210 rfl) rfl
theorem q801 : (Jvm.Cond.privateMethod ({ cls := "LikedOrders$Parser", name := "require", desc := "(ZI)V" } : Jvm.MethodName)) ∈ lw_tbl := lw_at lw_m3 211 rfl
theorem q802 : (Jvm.Cond.instanceMethod ({ cls := "LikedOrders$Parser", name := "require", desc := "(ZI)V" } : Jvm.MethodName)) ∈ lw_all := lw_g (lw_at lw_m3 212 rfl) rfl
theorem q803 : (Jvm.Cond.code ({ cls := "LikedOrders$Parser", name := "require", desc := "(ZI)V" } : Jvm.MethodName) prog_9_method_5_code (3 : Nat) (Option.none : Option Jvm.ClassFile.FieldType)) ∈ lw_all := lw_g (lw_at lw_m3 213 rfl) rfl
theorem q804 : (Jvm.Cond.classLink "LikedOrders$Parser" (103 : Nat) "LikedOrders$FormatException") ∈ lw_all := lw_g (lw_at lw_m3 214 rfl) rfl
theorem q813 : (Jvm.Cond.methodLink "LikedOrders$Parser" (105 : Nat) ({ cls := "LikedOrders$FormatException", name := "<init>", desc := "(II)V" } : Jvm.MethodName)) ∈ lw_all := lw_g (lw_at lw_m3 223 rfl) rfl
theorem q832 : (Jvm.Cond.methodLink "LikedOrders$Parser" (130 : Nat) ({ cls := "LikedOrders$Parser", name := "number", desc := "(II)I" } : Jvm.MethodName)) ∈ lw_all := lw_g (lw_at lw_m4 2 rfl) rfl
theorem q833 : (Jvm.Cond.privateMethod ({ cls := "LikedOrders$Parser", name := "number", desc := "(II)I" } : Jvm.MethodName)) ∈ lw_tbl := lw_at lw_m4 3 rfl
theorem q834 : (Jvm.Cond.instanceMethod ({ cls := "LikedOrders$Parser", name := "number", desc := "(II)I" } : Jvm.MethodName)) ∈ lw_all := lw_g (lw_at lw_m4 4 rfl) rfl
theorem q835 : (Jvm.Cond.code ({ cls := "LikedOrders$Parser", name := "number", desc := "(II)I" } : Jvm.MethodName) prog_9_method_6_code (4 : Nat) (Option.some Jvm.ClassFile.FieldType.int)) ∈ lw_all := lw_g (lw_at lw_m4 5 rfl) rfl
theorem q836 : (Jvm.Cond.stringRef "LikedOrders$Parser" (174 : Nat) "item") ∈ lw_tbl := lw_at lw_m4 6 rfl
theorem q837 : (Jvm.Cond.methodLink "LikedOrders$Parser" (176 : Nat) ({ cls := "LikedOrders$Parser", name := "item", desc := "()V" } : Jvm.MethodName)) ∈ lw_all := lw_g (lw_at lw_m4 7 rfl) rfl
theorem q838 : (Jvm.Cond.privateMethod ({ cls := "LikedOrders$Parser", name := "item", desc := "()V" } : Jvm.MethodName)) ∈ lw_tbl := lw_at lw_m4 8 rfl
theorem q839 : (Jvm.Cond.instanceMethod ({ cls := "LikedOrders$Parser", name := "item", desc := "()V" } : Jvm.MethodName)) ∈ lw_all := lw_g (lw_at lw_m4 9 rfl) rfl
theorem q840 : (Jvm.Cond.code ({ cls := "LikedOrders$Parser", name := "item", desc := "()V" } : Jvm.MethodName) prog_9_method_7_code (2 : Nat) (Option.none : Option Jvm.ClassFile.FieldType)) ∈ lw_all := lw_g (lw_at lw_m4 10 rfl) rfl
theorem q841 : (Jvm.Cond.methodLink "LikedOrders$Parser" (119 : Nat) ({ cls := "LikedOrders$Row", name := "size", desc := "()I" } : Jvm.MethodName)) ∈ lw_all := lw_g (lw_at lw_m4 11 rfl) rfl
theorem q855 : (Jvm.Cond.methodLink "LikedOrders$Parser" (124 : Nat) ({ cls := "LikedOrders$State", name := "named", desc := "(Ljava/lang/String;)I" } : Jvm.MethodName)) ∈ lw_all := lw_g (lw_at lw_m4 25 rfl) rfl
theorem q884 : (Jvm.Cond.classLink "LikedOrders$Parser" (128 : Nat) "LikedOrders$Item") ∈ lw_all := lw_g (lw_at lw_m4 54 rfl) rfl
theorem q886 : (Jvm.Cond.methodLink "LikedOrders$Parser" (134 : Nat) ({ cls := "LikedOrders$Item", name := "<init>", desc := "(Ljava/lang/String;I)V" } : Jvm.MethodName)) ∈ lw_all := lw_g (lw_at lw_m4 56 rfl) rfl
theorem q904 : (Jvm.Cond.methodLink "LikedOrders$Parser" (137 : Nat) ({ cls := "LikedOrders$Row", name := "add", desc := "(LLikedOrders$Told;)V" } : Jvm.MethodName)) ∈ lw_all := lw_g (lw_at lw_m4 74 rfl) rfl
theorem q945 : (Jvm.Cond.selects "LikedOrders$Parser" ({ cls := "java/lang/Object", name := "getClass", desc := "()Ljava/lang/Class;" } : Jvm.MethodName) ({ cls := "java/lang/Object", name := "getClass", desc := "()Ljava/lang/Class;" } : Jvm.MethodName)) ∈ lw_all := lw_g (lw_at lw_m4 115 rfl) rfl
theorem q967 : (Jvm.Cond.methodLink "LikedOrders$Parser" (178 : Nat) ({ cls := "LikedOrders$State", name := "known", desc := "()LLikedOrders$Known;" } : Jvm.MethodName)) ∈ lw_all := lw_g (lw_at lw_m4 137 rfl) rfl
theorem q1011 : (Jvm.Cond.methodLink "LikedOrders$Parser" (181 : Nat) ({ cls := "LikedOrders$Parser", name := "answer", desc := "()V" } : Jvm.MethodName)) ∈ lw_all := lw_g (lw_at lw_m4 181 rfl) rfl
theorem q1012 : (Jvm.Cond.privateMethod ({ cls := "LikedOrders$Parser", name := "answer", desc := "()V" } : Jvm.MethodName)) ∈ lw_tbl := lw_at lw_m4 182 rfl
theorem q1013 : (Jvm.Cond.instanceMethod ({ cls := "LikedOrders$Parser", name := "answer", desc := "()V" } : Jvm.MethodName)) ∈ lw_all := lw_g (lw_at lw_m4 183 rfl) rfl
theorem q1014 : (Jvm.Cond.code ({ cls := "LikedOrders$Parser", name := "answer", desc := "()V" } : Jvm.MethodName) prog_9_method_9_code (3 : Nat) (Option.none : Option Jvm.ClassFile.FieldType)) ∈ lw_all := lw_g (lw_at lw_m4 184 rfl) rfl
theorem q1015 : (Jvm.Cond.methodLink "LikedOrders$Parser" (141 : Nat) ({ cls := "LikedOrders$Parser", name := "itemHere", desc := "()I" } : Jvm.MethodName)) ∈ lw_all := lw_g (lw_at lw_m4 185 rfl) rfl
theorem q1016 : (Jvm.Cond.privateMethod ({ cls := "LikedOrders$Parser", name := "itemHere", desc := "()I" } : Jvm.MethodName)) ∈ lw_tbl := lw_at lw_m4 186 rfl
theorem q1017 : (Jvm.Cond.instanceMethod ({ cls := "LikedOrders$Parser", name := "itemHere", desc := "()I" } : Jvm.MethodName)) ∈ lw_all := lw_g (lw_at lw_m4 187 rfl) rfl
theorem q1018 : (Jvm.Cond.code ({ cls := "LikedOrders$Parser", name := "itemHere", desc := "()I" } : Jvm.MethodName) prog_9_method_8_code (2 : Nat) (Option.some Jvm.ClassFile.FieldType.int)) ∈ lw_all := lw_g (lw_at lw_m4 188 rfl) rfl
theorem q1019 : (Jvm.Cond.methodLink "LikedOrders$Parser" (148 : Nat) ({ cls := "LikedOrders$Known", name := "isBetter", desc := "(II)Z" } : Jvm.MethodName)) ∈ lw_all := lw_g (lw_at lw_m4 189 rfl) rfl
theorem q1020 : (Jvm.Cond.methodLink "LikedOrders$Parser" (157 : Nat) ({ cls := "LikedOrders$State", name := "answers", desc := "(II)V" } : Jvm.MethodName)) ∈ lw_all := lw_g (lw_at lw_m4 190 rfl) rfl
theorem q1044 : (Jvm.Cond.methodLink "LikedOrders$Parser" (159 : Nat) ({ cls := "LikedOrders$Known", name := "tells", desc := "(II)LLikedOrders$Known;" } : Jvm.MethodName)) ∈ lw_all := lw_g (lw_at lw_m4 214 rfl) rfl
theorem q2447 : (Jvm.Cond.castable "LikedOrders$Parser" "java/lang/Object") ∈ lw_tbl := lw_at lw_m10 177 rfl
theorem in_X3 : ∀ w ∈ wsX30, w ∈ lw_all := lw_in wsX30 [718, 720, 722, 724, 726, 728, 730, 732, 734] (by decide +kernel) (by decide +kernel)
/-! LikedOrders$State -/
def RX4 : String := "LikedOrders$State"
def TX4 : u_T := fun k => match k with
  | 0 => ("LikedOrders$State", "items", "LLikedOrders$Row;", false)
  | 1 => ("LikedOrders$State", "answers", "LLikedOrders$Row;", false)
  | 2 => ("LikedOrders$State", "method", "I", false)
  | 3 => ("LikedOrders$State", "given", "I", false)
  | _ => ("LikedOrders$State", "taken", "I", false)
def tyX4 : Nat → FieldType := fun k => match k with
  | 0 => .object "LikedOrders$Row"
  | 1 => .object "LikedOrders$Row"
  | 2 => .int
  | 3 => .int
  | _ => .int
abbrev wsX40 : List Cond := u_ws RX4 TX4 5
theorem nmX4 : ∀ a, a < 5 → ∀ b, b < 5 → a ≠ b → (TX4 a).2.1 ≠ (TX4 b).2.1 := by decide +kernel
theorem tyX4_ok : ∀ k, k < 5 → parseFieldDescriptor (TX4 k).2.2.1 = some (tyX4 k) := by decide +kernel
abbrev cX4_init : ByteArray := prog_11_method_1_code
def yX4_init : MethodName := ⟨RX4, "<init>", "()V"⟩
abbrev cX4_named : ByteArray := prog_11_method_3_code
def yX4_named : MethodName := ⟨RX4, "named", "(Ljava/lang/String;)I"⟩
abbrev cX4_known : ByteArray := prog_11_method_5_code
def yX4_known : MethodName := ⟨RX4, "known", "()LLikedOrders$Known;"⟩
abbrev cX4_knownBut : ByteArray := prog_11_method_6_code
def yX4_knownBut : MethodName := ⟨RX4, "knownBut", "(I)LLikedOrders$Known;"⟩
abbrev cX4_answers : ByteArray := prog_11_method_9_code
def yX4_answers : MethodName := ⟨RX4, "answers", "(II)V"⟩
abbrev cX4_wrong : ByteArray := prog_11_method_8_code
def yX4_wrong : MethodName := ⟨RX4, "wrong", "()I"⟩
abbrev cX4_isWorthier : ByteArray := prog_11_method_4_code
def yX4_isWorthier : MethodName := ⟨RX4, "isWorthier", "(II)Z"⟩
abbrev cX4_row : ByteArray := prog_11_method_7_code
def yX4_row : MethodName := ⟨RX4, "row", "()[I"⟩
abbrev cX4_copy : ByteArray := prog_11_method_2_code
def yX4_copy : MethodName := ⟨RX4, "copy", "()LLikedOrders$State;"⟩
abbrev cX4_takesBack : ByteArray := prog_11_method_10_code
def yX4_takesBack : MethodName := ⟨RX4, "takesBack", "(I)V"⟩
theorem q124 : (Jvm.Cond.initialized "LikedOrders$State") ∈ lw_all := lw_g (lw_at lw_m1 14 rfl) rfl
theorem q391 : (Jvm.Cond.instantiable "LikedOrders$State" (5 : Nat)) ∈ lw_all := lw_g (lw_at lw_m2 41 rfl) rfl
theorem q393 : (Jvm.Cond.instanceMethod ({ cls := "LikedOrders$State", name := "<init>", desc := "()V" } : Jvm.MethodName)) ∈ lw_all := lw_g (lw_at lw_m2 43 rfl) rfl
theorem q394 : (Jvm.Cond.code ({ cls := "LikedOrders$State", name := "<init>", desc := "()V" } : Jvm.MethodName) prog_11_method_1_code (1 : Nat) (Option.none : Option Jvm.ClassFile.FieldType)) ∈ lw_all := lw_g (lw_at lw_m2 44 rfl) rfl
theorem q395 : (Jvm.Cond.methodLink "LikedOrders$State" (3 : Nat) ({ cls := "java/lang/Object", name := "<init>", desc := "()V" } : Jvm.MethodName)) ∈ lw_all := lw_g (lw_at lw_m2 45 rfl) rfl
theorem q396 : (Jvm.Cond.classLink "LikedOrders$State" (9 : Nat) "LikedOrders$Row") ∈ lw_all := lw_g (lw_at lw_m2 46 rfl) rfl
theorem q398 : (Jvm.Cond.methodLinkNest "LikedOrders$State" (11 : Nat) ({ cls := "LikedOrders$Row", name := "<init>", desc := "()V" } : Jvm.MethodName) "LikedOrders") ∈ lw_tbl := lw_at lw_m2 48 rfl
theorem q685 : (Jvm.Cond.fieldLink "LikedOrders$State" (12 : Nat) "LikedOrders$State" "items" "LLikedOrders$Row;") ∈ lw_all := lw_g (lw_at lw_m3 95 rfl) rfl
theorem q688 : (Jvm.Cond.fieldLink "LikedOrders$State" (18 : Nat) "LikedOrders$State" "answers" "LLikedOrders$Row;") ∈ lw_all := lw_g (lw_at lw_m3 98 rfl) rfl
theorem q691 : (Jvm.Cond.fieldLink "LikedOrders$State" (26 : Nat) "LikedOrders$State" "method" "I") ∈ lw_all := lw_g (lw_at lw_m3 101 rfl) rfl
theorem q694 : (Jvm.Cond.fieldLink "LikedOrders$State" (30 : Nat) "LikedOrders$State" "given" "I") ∈ lw_all := lw_g (lw_at lw_m3 104 rfl) rfl
theorem q696 : (Jvm.Cond.fieldLink "LikedOrders$State" (33 : Nat) "LikedOrders$State" "taken" "I") ∈ lw_all := lw_g (lw_at lw_m3 106 rfl) rfl
theorem q698 : (Jvm.Cond.lays "LikedOrders$State" "LikedOrders$State" "items" "LLikedOrders$Row;") ∈ lw_all := lw_g (lw_at lw_m3 108 rfl) rfl
theorem q699 : (Jvm.Cond.soleField "LikedOrders$State" "items") ∈ lw_all := lw_g (lw_at lw_m3 109 rfl) rfl
theorem q700 : (Jvm.Cond.lays "LikedOrders$State" "LikedOrders$State" "answers" "LLikedOrders$Row;") ∈ lw_all := lw_g (lw_at lw_m3 110 rfl) rfl
theorem q701 : (Jvm.Cond.soleField "LikedOrders$State" "answers") ∈ lw_all := lw_g (lw_at lw_m3 111 rfl) rfl
theorem q702 : (Jvm.Cond.lays "LikedOrders$State" "LikedOrders$State" "method" "I") ∈ lw_all := lw_g (lw_at lw_m3 112 rfl) rfl
theorem q703 : (Jvm.Cond.soleField "LikedOrders$State" "method") ∈ lw_all := lw_g (lw_at lw_m3 113 rfl) rfl
theorem q704 : (Jvm.Cond.lays "LikedOrders$State" "LikedOrders$State" "given" "I") ∈ lw_all := lw_g (lw_at lw_m3 114 rfl) rfl
theorem q705 : (Jvm.Cond.soleField "LikedOrders$State" "given") ∈ lw_all := lw_g (lw_at lw_m3 115 rfl) rfl
theorem q706 : (Jvm.Cond.lays "LikedOrders$State" "LikedOrders$State" "taken" "I") ∈ lw_all := lw_g (lw_at lw_m3 116 rfl) rfl
theorem q707 : (Jvm.Cond.soleField "LikedOrders$State" "taken") ∈ lw_all := lw_g (lw_at lw_m3 117 rfl) rfl
theorem q708 : (Jvm.Cond.superclass "LikedOrders$State" "java/lang/Object") ∈ lw_all := lw_g (lw_at lw_m3 118 rfl) rfl
theorem q856 : (Jvm.Cond.instanceMethod ({ cls := "LikedOrders$State", name := "named", desc := "(Ljava/lang/String;)I" } : Jvm.MethodName)) ∈ lw_all := lw_g (lw_at lw_m4 26 rfl) rfl
theorem q857 : (Jvm.Cond.selects "LikedOrders$State" ({ cls := "LikedOrders$State", name := "named", desc := "(Ljava/lang/String;)I" } : Jvm.MethodName) ({ cls := "LikedOrders$State", name := "named", desc := "(Ljava/lang/String;)I" } : Jvm.MethodName)) ∈ lw_all := lw_g (lw_at lw_m4 27 rfl) rfl
theorem q858 : (Jvm.Cond.code ({ cls := "LikedOrders$State", name := "named", desc := "(Ljava/lang/String;)I" } : Jvm.MethodName) prog_11_method_3_code (3 : Nat) (Option.some Jvm.ClassFile.FieldType.int)) ∈ lw_all := lw_g (lw_at lw_m4 28 rfl) rfl
theorem q859 : (Jvm.Cond.methodLink "LikedOrders$State" (36 : Nat) ({ cls := "LikedOrders$Row", name := "size", desc := "()I" } : Jvm.MethodName)) ∈ lw_all := lw_g (lw_at lw_m4 29 rfl) rfl
theorem q860 : (Jvm.Cond.methodLink "LikedOrders$State" (40 : Nat) ({ cls := "LikedOrders$Row", name := "get", desc := "(I)LLikedOrders$Told;" } : Jvm.MethodName)) ∈ lw_all := lw_g (lw_at lw_m4 30 rfl) rfl
theorem q882 : (Jvm.Cond.classLink "LikedOrders$State" (44 : Nat) "LikedOrders$Item") ∈ lw_all := lw_g (lw_at lw_m4 52 rfl) rfl
theorem q883 : (Jvm.Cond.methodLink "LikedOrders$State" (50 : Nat) ({ cls := "java/lang/String", name := "equals", desc := "(Ljava/lang/Object;)Z" } : Jvm.MethodName)) ∈ lw_all := lw_g (lw_at lw_m4 53 rfl) rfl
theorem q894 : (Jvm.Cond.fieldLinkNest "LikedOrders$State" (46 : Nat) "LikedOrders$Item" "name" "Ljava/lang/String;" "LikedOrders") ∈ lw_tbl := lw_at lw_m4 64 rfl
theorem q897 : (Jvm.Cond.fieldLinkNest "LikedOrders$State" (56 : Nat) "LikedOrders$Item" "worth" "I" "LikedOrders") ∈ lw_tbl := lw_at lw_m4 67 rfl
theorem q947 : (Jvm.Cond.selects "LikedOrders$State" ({ cls := "java/lang/Object", name := "getClass", desc := "()Ljava/lang/Class;" } : Jvm.MethodName) ({ cls := "java/lang/Object", name := "getClass", desc := "()Ljava/lang/Class;" } : Jvm.MethodName)) ∈ lw_all := lw_g (lw_at lw_m4 117 rfl) rfl
theorem q968 : (Jvm.Cond.instanceMethod ({ cls := "LikedOrders$State", name := "known", desc := "()LLikedOrders$Known;" } : Jvm.MethodName)) ∈ lw_all := lw_g (lw_at lw_m4 138 rfl) rfl
theorem q969 : (Jvm.Cond.selects "LikedOrders$State" ({ cls := "LikedOrders$State", name := "known", desc := "()LLikedOrders$Known;" } : Jvm.MethodName) ({ cls := "LikedOrders$State", name := "known", desc := "()LLikedOrders$Known;" } : Jvm.MethodName)) ∈ lw_all := lw_g (lw_at lw_m4 139 rfl) rfl
theorem q970 : (Jvm.Cond.code ({ cls := "LikedOrders$State", name := "known", desc := "()LLikedOrders$Known;" } : Jvm.MethodName) prog_11_method_5_code (1 : Nat) (Option.some (Jvm.ClassFile.FieldType.object "LikedOrders$Known"))) ∈ lw_all := lw_g (lw_at lw_m4 140 rfl) rfl
theorem q971 : (Jvm.Cond.methodLink "LikedOrders$State" (59 : Nat) ({ cls := "LikedOrders$State", name := "knownBut", desc := "(I)LLikedOrders$Known;" } : Jvm.MethodName)) ∈ lw_all := lw_g (lw_at lw_m4 141 rfl) rfl
theorem q972 : (Jvm.Cond.instanceMethod ({ cls := "LikedOrders$State", name := "knownBut", desc := "(I)LLikedOrders$Known;" } : Jvm.MethodName)) ∈ lw_all := lw_g (lw_at lw_m4 142 rfl) rfl
theorem q973 : (Jvm.Cond.selects "LikedOrders$State" ({ cls := "LikedOrders$State", name := "knownBut", desc := "(I)LLikedOrders$Known;" } : Jvm.MethodName) ({ cls := "LikedOrders$State", name := "knownBut", desc := "(I)LLikedOrders$Known;" } : Jvm.MethodName)) ∈ lw_all := lw_g (lw_at lw_m4 143 rfl) rfl
theorem q974 : (Jvm.Cond.code ({ cls := "LikedOrders$State", name := "knownBut", desc := "(I)LLikedOrders$Known;" } : Jvm.MethodName) prog_11_method_6_code (2 : Nat) (Option.some (Jvm.ClassFile.FieldType.object "LikedOrders$Known"))) ∈ lw_all := lw_g (lw_at lw_m4 144 rfl) rfl
theorem q975 : (Jvm.Cond.classLink "LikedOrders$State" (63 : Nat) "LikedOrders$Known") ∈ lw_all := lw_g (lw_at lw_m4 145 rfl) rfl
theorem q977 : (Jvm.Cond.methodLink "LikedOrders$State" (65 : Nat) ({ cls := "LikedOrders$Known", name := "<init>", desc := "(ILLikedOrders$Row;I)V" } : Jvm.MethodName)) ∈ lw_all := lw_g (lw_at lw_m4 147 rfl) rfl
theorem q1021 : (Jvm.Cond.instanceMethod ({ cls := "LikedOrders$State", name := "answers", desc := "(II)V" } : Jvm.MethodName)) ∈ lw_all := lw_g (lw_at lw_m4 191 rfl) rfl
theorem q1022 : (Jvm.Cond.selects "LikedOrders$State" ({ cls := "LikedOrders$State", name := "answers", desc := "(II)V" } : Jvm.MethodName) ({ cls := "LikedOrders$State", name := "answers", desc := "(II)V" } : Jvm.MethodName)) ∈ lw_all := lw_g (lw_at lw_m4 192 rfl) rfl
theorem q1023 : (Jvm.Cond.code ({ cls := "LikedOrders$State", name := "answers", desc := "(II)V" } : Jvm.MethodName) prog_11_method_9_code (3 : Nat) (Option.none : Option Jvm.ClassFile.FieldType)) ∈ lw_all := lw_g (lw_at lw_m4 193 rfl) rfl
theorem q1024 : (Jvm.Cond.classLink "LikedOrders$State" (68 : Nat) "LikedOrders$Answer") ∈ lw_all := lw_g (lw_at lw_m4 194 rfl) rfl
theorem q1026 : (Jvm.Cond.methodLink "LikedOrders$State" (84 : Nat) ({ cls := "LikedOrders$Answer", name := "<init>", desc := "(II)V" } : Jvm.MethodName)) ∈ lw_all := lw_g (lw_at lw_m4 196 rfl) rfl
theorem q1032 : (Jvm.Cond.fieldLinkNest "LikedOrders$State" (70 : Nat) "LikedOrders$Answer" "better" "I" "LikedOrders") ∈ lw_tbl := lw_at lw_m4 202 rfl
theorem q1036 : (Jvm.Cond.fieldLinkNest "LikedOrders$State" (73 : Nat) "LikedOrders$Answer" "worse" "I" "LikedOrders") ∈ lw_tbl := lw_at lw_m4 206 rfl
theorem q1043 : (Jvm.Cond.methodLink "LikedOrders$State" (87 : Nat) ({ cls := "LikedOrders$Row", name := "add", desc := "(LLikedOrders$Told;)V" } : Jvm.MethodName)) ∈ lw_all := lw_g (lw_at lw_m4 213 rfl) rfl
theorem q1134 : (Jvm.Cond.instanceMethod ({ cls := "LikedOrders$State", name := "wrong", desc := "()I" } : Jvm.MethodName)) ∈ lw_all := lw_g (lw_at lw_m5 64 rfl) rfl
theorem q1135 : (Jvm.Cond.selects "LikedOrders$State" ({ cls := "LikedOrders$State", name := "wrong", desc := "()I" } : Jvm.MethodName) ({ cls := "LikedOrders$State", name := "wrong", desc := "()I" } : Jvm.MethodName)) ∈ lw_all := lw_g (lw_at lw_m5 65 rfl) rfl
theorem q1136 : (Jvm.Cond.code ({ cls := "LikedOrders$State", name := "wrong", desc := "()I" } : Jvm.MethodName) prog_11_method_8_code (3 : Nat) (Option.some Jvm.ClassFile.FieldType.int)) ∈ lw_all := lw_g (lw_at lw_m5 66 rfl) rfl
theorem q1137 : (Jvm.Cond.methodLink "LikedOrders$State" (76 : Nat) ({ cls := "LikedOrders$State", name := "isWorthier", desc := "(II)Z" } : Jvm.MethodName)) ∈ lw_all := lw_g (lw_at lw_m5 67 rfl) rfl
theorem q1138 : (Jvm.Cond.instanceMethod ({ cls := "LikedOrders$State", name := "isWorthier", desc := "(II)Z" } : Jvm.MethodName)) ∈ lw_all := lw_g (lw_at lw_m5 68 rfl) rfl
theorem q1139 : (Jvm.Cond.selects "LikedOrders$State" ({ cls := "LikedOrders$State", name := "isWorthier", desc := "(II)Z" } : Jvm.MethodName) ({ cls := "LikedOrders$State", name := "isWorthier", desc := "(II)Z" } : Jvm.MethodName)) ∈ lw_all := lw_g (lw_at lw_m5 69 rfl) rfl
theorem q1140 : (Jvm.Cond.code ({ cls := "LikedOrders$State", name := "isWorthier", desc := "(II)Z" } : Jvm.MethodName) prog_11_method_4_code (4 : Nat) (Option.some Jvm.ClassFile.FieldType.boolean)) ∈ lw_all := lw_g (lw_at lw_m5 70 rfl) rfl
theorem q1141 : (Jvm.Cond.methodLinkNest "LikedOrders$State" (80 : Nat) ({ cls := "LikedOrders", name := "one", desc := "(Z)I" } : Jvm.MethodName) "LikedOrders") ∈ lw_tbl := lw_at lw_m5 71 rfl
theorem q1325 : (Jvm.Cond.instanceMethod ({ cls := "LikedOrders$State", name := "row", desc := "()[I" } : Jvm.MethodName)) ∈ lw_all := lw_g (lw_at lw_m6 15 rfl) rfl
theorem q1326 : (Jvm.Cond.selects "LikedOrders$State" ({ cls := "LikedOrders$State", name := "row", desc := "()[I" } : Jvm.MethodName) ({ cls := "LikedOrders$State", name := "row", desc := "()[I" } : Jvm.MethodName)) ∈ lw_all := lw_g (lw_at lw_m6 16 rfl) rfl
theorem q1327 : (Jvm.Cond.code ({ cls := "LikedOrders$State", name := "row", desc := "()[I" } : Jvm.MethodName) prog_11_method_7_code (3 : Nat) (Option.some (Jvm.ClassFile.FieldType.array Jvm.ClassFile.FieldType.int))) ∈ lw_all := lw_g (lw_at lw_m6 17 rfl) rfl
theorem q1653 : (Jvm.Cond.instanceMethod ({ cls := "LikedOrders$State", name := "copy", desc := "()LLikedOrders$State;" } : Jvm.MethodName)) ∈ lw_all := lw_g (lw_at lw_m7 103 rfl) rfl
theorem q1654 : (Jvm.Cond.selects "LikedOrders$State" ({ cls := "LikedOrders$State", name := "copy", desc := "()LLikedOrders$State;" } : Jvm.MethodName) ({ cls := "LikedOrders$State", name := "copy", desc := "()LLikedOrders$State;" } : Jvm.MethodName)) ∈ lw_all := lw_g (lw_at lw_m7 104 rfl) rfl
theorem q1655 : (Jvm.Cond.code ({ cls := "LikedOrders$State", name := "copy", desc := "()LLikedOrders$State;" } : Jvm.MethodName) prog_11_method_2_code (2 : Nat) (Option.some (Jvm.ClassFile.FieldType.object "LikedOrders$State"))) ∈ lw_all := lw_g (lw_at lw_m7 105 rfl) rfl
theorem q1656 : (Jvm.Cond.classLink "LikedOrders$State" (13 : Nat) "LikedOrders$State") ∈ lw_all := lw_g (lw_at lw_m7 106 rfl) rfl
theorem q1657 : (Jvm.Cond.methodLink "LikedOrders$State" (21 : Nat) ({ cls := "LikedOrders$State", name := "<init>", desc := "()V" } : Jvm.MethodName)) ∈ lw_all := lw_g (lw_at lw_m7 107 rfl) rfl
theorem q1658 : (Jvm.Cond.methodLink "LikedOrders$State" (22 : Nat) ({ cls := "LikedOrders$Row", name := "copy", desc := "()LLikedOrders$Row;" } : Jvm.MethodName)) ∈ lw_all := lw_g (lw_at lw_m7 108 rfl) rfl
theorem q1681 : (Jvm.Cond.instanceMethod ({ cls := "LikedOrders$State", name := "takesBack", desc := "(I)V" } : Jvm.MethodName)) ∈ lw_all := lw_g (lw_at lw_m7 131 rfl) rfl
theorem q1682 : (Jvm.Cond.selects "LikedOrders$State" ({ cls := "LikedOrders$State", name := "takesBack", desc := "(I)V" } : Jvm.MethodName) ({ cls := "LikedOrders$State", name := "takesBack", desc := "(I)V" } : Jvm.MethodName)) ∈ lw_all := lw_g (lw_at lw_m7 132 rfl) rfl
theorem q1683 : (Jvm.Cond.code ({ cls := "LikedOrders$State", name := "takesBack", desc := "(I)V" } : Jvm.MethodName) prog_11_method_10_code (3 : Nat) (Option.none : Option Jvm.ClassFile.FieldType)) ∈ lw_all := lw_g (lw_at lw_m7 133 rfl) rfl
theorem q1684 : (Jvm.Cond.methodLink "LikedOrders$State" (91 : Nat) ({ cls := "LikedOrders$Row", name := "remove", desc := "(I)LLikedOrders$Told;" } : Jvm.MethodName)) ∈ lw_all := lw_g (lw_at lw_m7 134 rfl) rfl
theorem q2441 : (Jvm.Cond.castable "LikedOrders$State" "java/lang/Object") ∈ lw_tbl := lw_at lw_m10 171 rfl
theorem in_X4 : ∀ w ∈ wsX40, w ∈ lw_all := lw_in wsX40 [698, 700, 702, 704, 706] (by decide +kernel) (by decide +kernel)
/-! LikedOrders$Row -/
def RX5 : String := "LikedOrders$Row"
def TX5 : u_T := fun k => match k with
  | _ => ("LikedOrders$Row", "all", "Ljava/util/List;", true)
def tyX5 : Nat → FieldType := fun k => match k with
  | _ => .object "java/util/List"
abbrev wsX50 : List Cond := u_ws RX5 TX5 1
theorem nmX5 : ∀ a, a < 1 → ∀ b, b < 1 → a ≠ b → (TX5 a).2.1 ≠ (TX5 b).2.1 := by decide +kernel
theorem tyX5_ok : ∀ k, k < 1 → parseFieldDescriptor (TX5 k).2.2.1 = some (tyX5 k) := by decide +kernel
abbrev cX5_init : ByteArray := prog_10_method_1_code
def yX5_init : MethodName := ⟨RX5, "<init>", "()V"⟩
abbrev cX5_size : ByteArray := prog_10_method_2_code
def yX5_size : MethodName := ⟨RX5, "size", "()I"⟩
abbrev cX5_get : ByteArray := prog_10_method_4_code
def yX5_get : MethodName := ⟨RX5, "get", "(I)LLikedOrders$Told;"⟩
abbrev cX5_add : ByteArray := prog_10_method_5_code
def yX5_add : MethodName := ⟨RX5, "add", "(LLikedOrders$Told;)V"⟩
abbrev cX5_has : ByteArray := prog_10_method_3_code
def yX5_has : MethodName := ⟨RX5, "has", "(I)Z"⟩
abbrev cX5_copy : ByteArray := prog_10_method_8_code
def yX5_copy : MethodName := ⟨RX5, "copy", "()LLikedOrders$Row;"⟩
abbrev cX5_remove : ByteArray := prog_10_method_6_code
def yX5_remove : MethodName := ⟨RX5, "remove", "(I)LLikedOrders$Told;"⟩
abbrev cX5_replace : ByteArray := prog_10_method_7_code
def yX5_replace : MethodName := ⟨RX5, "replace", "(ILLikedOrders$Told;)V"⟩
theorem q125 : (Jvm.Cond.initialized "LikedOrders$Row") ∈ lw_all := lw_g (lw_at lw_m1 15 rfl) rfl
theorem q397 : (Jvm.Cond.instantiable "LikedOrders$Row" (1 : Nat)) ∈ lw_all := lw_g (lw_at lw_m2 47 rfl) rfl
theorem q399 : (Jvm.Cond.instanceMethod ({ cls := "LikedOrders$Row", name := "<init>", desc := "()V" } : Jvm.MethodName)) ∈ lw_all := lw_g (lw_at lw_m2 49 rfl) rfl
theorem q400 : (Jvm.Cond.code ({ cls := "LikedOrders$Row", name := "<init>", desc := "()V" } : Jvm.MethodName) prog_10_method_1_code (1 : Nat) (Option.none : Option Jvm.ClassFile.FieldType)) ∈ lw_all := lw_g (lw_at lw_m2 50 rfl) rfl
theorem q401 : (Jvm.Cond.methodLink "LikedOrders$Row" (3 : Nat) ({ cls := "java/lang/Object", name := "<init>", desc := "()V" } : Jvm.MethodName)) ∈ lw_all := lw_g (lw_at lw_m2 51 rfl) rfl
theorem q402 : (Jvm.Cond.classLink "LikedOrders$Row" (9 : Nat) "java/util/ArrayList") ∈ lw_all := lw_g (lw_at lw_m2 52 rfl) rfl
theorem q404 : (Jvm.Cond.methodLink "LikedOrders$Row" (11 : Nat) ({ cls := "java/util/ArrayList", name := "<init>", desc := "(I)V" } : Jvm.MethodName)) ∈ lw_all := lw_g (lw_at lw_m2 54 rfl) rfl
theorem q681 : (Jvm.Cond.fieldLink "LikedOrders$Row" (14 : Nat) "LikedOrders$Row" "all" "Ljava/util/List;") ∈ lw_all := lw_g (lw_at lw_m3 91 rfl) rfl
theorem q682 : (Jvm.Cond.laysFinal "LikedOrders$Row" "LikedOrders$Row" "all" "Ljava/util/List;") ∈ lw_all := lw_g (lw_at lw_m3 92 rfl) rfl
theorem q683 : (Jvm.Cond.soleField "LikedOrders$Row" "all") ∈ lw_all := lw_g (lw_at lw_m3 93 rfl) rfl
theorem q684 : (Jvm.Cond.superclass "LikedOrders$Row" "java/lang/Object") ∈ lw_all := lw_g (lw_at lw_m3 94 rfl) rfl
theorem q842 : (Jvm.Cond.instanceMethod ({ cls := "LikedOrders$Row", name := "size", desc := "()I" } : Jvm.MethodName)) ∈ lw_all := lw_g (lw_at lw_m4 12 rfl) rfl
theorem q843 : (Jvm.Cond.selects "LikedOrders$Row" ({ cls := "LikedOrders$Row", name := "size", desc := "()I" } : Jvm.MethodName) ({ cls := "LikedOrders$Row", name := "size", desc := "()I" } : Jvm.MethodName)) ∈ lw_all := lw_g (lw_at lw_m4 13 rfl) rfl
theorem q844 : (Jvm.Cond.code ({ cls := "LikedOrders$Row", name := "size", desc := "()I" } : Jvm.MethodName) prog_10_method_2_code (1 : Nat) (Option.some Jvm.ClassFile.FieldType.int)) ∈ lw_all := lw_g (lw_at lw_m4 14 rfl) rfl
theorem q845 : (Jvm.Cond.interfaceEntry "LikedOrders$Row" (20 : Nat)) ∈ lw_tbl := lw_at lw_m4 15 rfl
theorem q846 : (Jvm.Cond.methodLink "LikedOrders$Row" (20 : Nat) ({ cls := "java/util/List", name := "size", desc := "()I" } : Jvm.MethodName)) ∈ lw_all := lw_g (lw_at lw_m4 16 rfl) rfl
theorem q861 : (Jvm.Cond.instanceMethod ({ cls := "LikedOrders$Row", name := "get", desc := "(I)LLikedOrders$Told;" } : Jvm.MethodName)) ∈ lw_all := lw_g (lw_at lw_m4 31 rfl) rfl
theorem q862 : (Jvm.Cond.selects "LikedOrders$Row" ({ cls := "LikedOrders$Row", name := "get", desc := "(I)LLikedOrders$Told;" } : Jvm.MethodName) ({ cls := "LikedOrders$Row", name := "get", desc := "(I)LLikedOrders$Told;" } : Jvm.MethodName)) ∈ lw_all := lw_g (lw_at lw_m4 32 rfl) rfl
theorem q863 : (Jvm.Cond.code ({ cls := "LikedOrders$Row", name := "get", desc := "(I)LLikedOrders$Told;" } : Jvm.MethodName) prog_10_method_4_code (2 : Nat) (Option.some (Jvm.ClassFile.FieldType.object "LikedOrders$Told"))) ∈ lw_all := lw_g (lw_at lw_m4 33 rfl) rfl
theorem q864 : (Jvm.Cond.interfaceEntry "LikedOrders$Row" (30 : Nat)) ∈ lw_tbl := lw_at lw_m4 34 rfl
theorem q865 : (Jvm.Cond.methodLink "LikedOrders$Row" (30 : Nat) ({ cls := "java/util/List", name := "get", desc := "(I)Ljava/lang/Object;" } : Jvm.MethodName)) ∈ lw_all := lw_g (lw_at lw_m4 35 rfl) rfl
theorem q881 : (Jvm.Cond.classLink "LikedOrders$Row" (34 : Nat) "LikedOrders$Told") ∈ lw_all := lw_g (lw_at lw_m4 51 rfl) rfl
theorem q905 : (Jvm.Cond.instanceMethod ({ cls := "LikedOrders$Row", name := "add", desc := "(LLikedOrders$Told;)V" } : Jvm.MethodName)) ∈ lw_all := lw_g (lw_at lw_m4 75 rfl) rfl
theorem q906 : (Jvm.Cond.selects "LikedOrders$Row" ({ cls := "LikedOrders$Row", name := "add", desc := "(LLikedOrders$Told;)V" } : Jvm.MethodName) ({ cls := "LikedOrders$Row", name := "add", desc := "(LLikedOrders$Told;)V" } : Jvm.MethodName)) ∈ lw_all := lw_g (lw_at lw_m4 76 rfl) rfl
theorem q907 : (Jvm.Cond.code ({ cls := "LikedOrders$Row", name := "add", desc := "(LLikedOrders$Told;)V" } : Jvm.MethodName) prog_10_method_5_code (2 : Nat) (Option.none : Option Jvm.ClassFile.FieldType)) ∈ lw_all := lw_g (lw_at lw_m4 77 rfl) rfl
theorem q908 : (Jvm.Cond.interfaceEntry "LikedOrders$Row" (36 : Nat)) ∈ lw_tbl := lw_at lw_m4 78 rfl
theorem q909 : (Jvm.Cond.methodLink "LikedOrders$Row" (36 : Nat) ({ cls := "java/util/List", name := "add", desc := "(Ljava/lang/Object;)Z" } : Jvm.MethodName)) ∈ lw_all := lw_g (lw_at lw_m4 79 rfl) rfl
theorem q946 : (Jvm.Cond.selects "LikedOrders$Row" ({ cls := "java/lang/Object", name := "getClass", desc := "()Ljava/lang/Class;" } : Jvm.MethodName) ({ cls := "java/lang/Object", name := "getClass", desc := "()Ljava/lang/Class;" } : Jvm.MethodName)) ∈ lw_all := lw_g (lw_at lw_m4 116 rfl) rfl
theorem q1154 : (Jvm.Cond.instanceMethod ({ cls := "LikedOrders$Row", name := "has", desc := "(I)Z" } : Jvm.MethodName)) ∈ lw_all := lw_g (lw_at lw_m5 84 rfl) rfl
theorem q1155 : (Jvm.Cond.selects "LikedOrders$Row" ({ cls := "LikedOrders$Row", name := "has", desc := "(I)Z" } : Jvm.MethodName) ({ cls := "LikedOrders$Row", name := "has", desc := "(I)Z" } : Jvm.MethodName)) ∈ lw_all := lw_g (lw_at lw_m5 85 rfl) rfl
theorem q1156 : (Jvm.Cond.code ({ cls := "LikedOrders$Row", name := "has", desc := "(I)Z" } : Jvm.MethodName) prog_10_method_3_code (2 : Nat) (Option.some Jvm.ClassFile.FieldType.boolean)) ∈ lw_all := lw_g (lw_at lw_m5 86 rfl) rfl
theorem q1157 : (Jvm.Cond.methodLinkNest "LikedOrders$Row" (26 : Nat) ({ cls := "LikedOrders", name := "in", desc := "(III)Z" } : Jvm.MethodName) "LikedOrders") ∈ lw_tbl := lw_at lw_m5 87 rfl
theorem q1659 : (Jvm.Cond.instanceMethod ({ cls := "LikedOrders$Row", name := "copy", desc := "()LLikedOrders$Row;" } : Jvm.MethodName)) ∈ lw_all := lw_g (lw_at lw_m7 109 rfl) rfl
theorem q1660 : (Jvm.Cond.selects "LikedOrders$Row" ({ cls := "LikedOrders$Row", name := "copy", desc := "()LLikedOrders$Row;" } : Jvm.MethodName) ({ cls := "LikedOrders$Row", name := "copy", desc := "()LLikedOrders$Row;" } : Jvm.MethodName)) ∈ lw_all := lw_g (lw_at lw_m7 110 rfl) rfl
theorem q1661 : (Jvm.Cond.code ({ cls := "LikedOrders$Row", name := "copy", desc := "()LLikedOrders$Row;" } : Jvm.MethodName) prog_10_method_8_code (3 : Nat) (Option.some (Jvm.ClassFile.FieldType.object "LikedOrders$Row"))) ∈ lw_all := lw_g (lw_at lw_m7 111 rfl) rfl
theorem q1662 : (Jvm.Cond.classLink "LikedOrders$Row" (15 : Nat) "LikedOrders$Row") ∈ lw_all := lw_g (lw_at lw_m7 112 rfl) rfl
theorem q1663 : (Jvm.Cond.methodLink "LikedOrders$Row" (47 : Nat) ({ cls := "LikedOrders$Row", name := "<init>", desc := "()V" } : Jvm.MethodName)) ∈ lw_all := lw_g (lw_at lw_m7 113 rfl) rfl
theorem q1664 : (Jvm.Cond.methodLink "LikedOrders$Row" (48 : Nat) ({ cls := "LikedOrders$Row", name := "add", desc := "(LLikedOrders$Told;)V" } : Jvm.MethodName)) ∈ lw_all := lw_g (lw_at lw_m7 114 rfl) rfl
theorem q1685 : (Jvm.Cond.instanceMethod ({ cls := "LikedOrders$Row", name := "remove", desc := "(I)LLikedOrders$Told;" } : Jvm.MethodName)) ∈ lw_all := lw_g (lw_at lw_m7 135 rfl) rfl
theorem q1686 : (Jvm.Cond.selects "LikedOrders$Row" ({ cls := "LikedOrders$Row", name := "remove", desc := "(I)LLikedOrders$Told;" } : Jvm.MethodName) ({ cls := "LikedOrders$Row", name := "remove", desc := "(I)LLikedOrders$Told;" } : Jvm.MethodName)) ∈ lw_all := lw_g (lw_at lw_m7 136 rfl) rfl
theorem q1687 : (Jvm.Cond.code ({ cls := "LikedOrders$Row", name := "remove", desc := "(I)LLikedOrders$Told;" } : Jvm.MethodName) prog_10_method_6_code (2 : Nat) (Option.some (Jvm.ClassFile.FieldType.object "LikedOrders$Told"))) ∈ lw_all := lw_g (lw_at lw_m7 137 rfl) rfl
theorem q1688 : (Jvm.Cond.interfaceEntry "LikedOrders$Row" (40 : Nat)) ∈ lw_tbl := lw_at lw_m7 138 rfl
theorem q1689 : (Jvm.Cond.methodLink "LikedOrders$Row" (40 : Nat) ({ cls := "java/util/List", name := "remove", desc := "(I)Ljava/lang/Object;" } : Jvm.MethodName)) ∈ lw_all := lw_g (lw_at lw_m7 139 rfl) rfl
theorem q1752 : (Jvm.Cond.instanceMethod ({ cls := "LikedOrders$Row", name := "replace", desc := "(ILLikedOrders$Told;)V" } : Jvm.MethodName)) ∈ lw_all := lw_g (lw_at lw_m7 202 rfl) rfl
theorem q1753 : (Jvm.Cond.selects "LikedOrders$Row" ({ cls := "LikedOrders$Row", name := "replace", desc := "(ILLikedOrders$Told;)V" } : Jvm.MethodName) ({ cls := "LikedOrders$Row", name := "replace", desc := "(ILLikedOrders$Told;)V" } : Jvm.MethodName)) ∈ lw_all := lw_g (lw_at lw_m7 203 rfl) rfl
theorem q1754 : (Jvm.Cond.code ({ cls := "LikedOrders$Row", name := "replace", desc := "(ILLikedOrders$Told;)V" } : Jvm.MethodName) prog_10_method_7_code (4 : Nat) (Option.none : Option Jvm.ClassFile.FieldType)) ∈ lw_all := lw_g (lw_at lw_m7 204 rfl) rfl
theorem q1755 : (Jvm.Cond.interfaceEntry "LikedOrders$Row" (43 : Nat)) ∈ lw_tbl := lw_at lw_m7 205 rfl
theorem q1756 : (Jvm.Cond.methodLink "LikedOrders$Row" (43 : Nat) ({ cls := "java/util/List", name := "set", desc := "(ILjava/lang/Object;)Ljava/lang/Object;" } : Jvm.MethodName)) ∈ lw_all := lw_g (lw_at lw_m7 206 rfl) rfl
theorem q2449 : (Jvm.Cond.castable "LikedOrders$Row" "java/lang/Object") ∈ lw_tbl := lw_at lw_m10 179 rfl
theorem in_X5 : ∀ w ∈ wsX50, w ∈ lw_all := lw_in wsX50 [682] (by decide +kernel) (by decide +kernel)
/-! LikedOrders$FormatException -/
def RX6 : String := "LikedOrders$FormatException"
def TX6 : u_T := fun k => match k with
  | 0 => ("java/lang/Throwable", "cause", "Ljava/lang/Throwable;", false)
  | 1 => ("java/lang/Throwable", "stackTrace", "[Ljava/lang/StackTraceElement;", false)
  | 2 => ("java/lang/Throwable", "suppressedExceptions", "Ljava/util/List;", false)
  | 3 => ("java/lang/Throwable", "detailMessage", "Ljava/lang/String;", false)
  | 4 => ("java/lang/Throwable", "backtrace", "Ljava/lang/Object;", false)
  | 5 => ("java/lang/Throwable", "depth", "I", false)
  | 6 => ("LikedOrders$FormatException", "kind", "I", true)
  | _ => ("LikedOrders$FormatException", "position", "I", true)
def tyX6 : Nat → FieldType := fun k => match k with
  | 0 => .object "java/lang/Throwable"
  | 1 => .array (.object "java/lang/StackTraceElement")
  | 2 => .object "java/util/List"
  | 3 => .object "java/lang/String"
  | 4 => .object "java/lang/Object"
  | 5 => .int
  | 6 => .int
  | _ => .int
abbrev wsX60 : List Cond := u_ws RX6 TX6 8
theorem nmX6 : ∀ a, a < 8 → ∀ b, b < 8 → a ≠ b → (TX6 a).2.1 ≠ (TX6 b).2.1 := by decide +kernel
theorem tyX6_ok : ∀ k, k < 8 → parseFieldDescriptor (TX6 k).2.2.1 = some (tyX6 k) := by decide +kernel
abbrev cX6_init : ByteArray := prog_4_method_1_code
def yX6_init : MethodName := ⟨RX6, "<init>", "(II)V"⟩
theorem q140 : (Jvm.Cond.initialized "LikedOrders$FormatException") ∈ lw_all := lw_g (lw_at lw_m1 30 rfl) rfl
theorem q294 : (Jvm.Cond.selects "LikedOrders$FormatException" ({ cls := "java/lang/Throwable", name := "fillInStackTrace", desc := "()Ljava/lang/Throwable;" } : Jvm.MethodName) ({ cls := "java/lang/Throwable", name := "fillInStackTrace", desc := "()Ljava/lang/Throwable;" } : Jvm.MethodName)) ∈ lw_all := lw_g (lw_at lw_m1 184 rfl) rfl
theorem q805 : (Jvm.Cond.instantiable "LikedOrders$FormatException" (8 : Nat)) ∈ lw_all := lw_g (lw_at lw_m3 215 rfl) rfl
theorem q806 : (Jvm.Cond.castable "LikedOrders$FormatException" "LikedOrders$FormatException") ∈ lw_tbl := lw_at lw_m3 216 rfl
theorem q807 : (Jvm.Cond.selects "LikedOrders$FormatException" ({ cls := "java/lang/Throwable", name := "fillInStackTrace", desc := "(I)Ljava/lang/Throwable;" } : Jvm.MethodName) ({ cls := "java/lang/Throwable", name := "fillInStackTrace", desc := "(I)Ljava/lang/Throwable;" } : Jvm.MethodName)) ∈ lw_all := lw_g (lw_at lw_m3 217 rfl) rfl
theorem q808 : (Jvm.Cond.lays "LikedOrders$FormatException" "java/lang/Throwable" "cause" "Ljava/lang/Throwable;") ∈ lw_all := lw_g (lw_at lw_m3 218 rfl) rfl
theorem q809 : (Jvm.Cond.lays "LikedOrders$FormatException" "java/lang/Throwable" "stackTrace" "[Ljava/lang/StackTraceElement;") ∈ lw_all := lw_g (lw_at lw_m3 219 rfl) rfl
theorem q810 : (Jvm.Cond.lays "LikedOrders$FormatException" "java/lang/Throwable" "suppressedExceptions" "Ljava/util/List;") ∈ lw_all := lw_g (lw_at lw_m3 220 rfl) rfl
theorem q811 : (Jvm.Cond.lays "LikedOrders$FormatException" "java/lang/Throwable" "detailMessage" "Ljava/lang/String;") ∈ lw_all := lw_g (lw_at lw_m3 221 rfl) rfl
theorem q812 : (Jvm.Cond.lays "LikedOrders$FormatException" "java/lang/Throwable" "backtrace" "Ljava/lang/Object;") ∈ lw_all := lw_g (lw_at lw_m3 222 rfl) rfl
theorem q814 : (Jvm.Cond.instanceMethod ({ cls := "LikedOrders$FormatException", name := "<init>", desc := "(II)V" } : Jvm.MethodName)) ∈ lw_all := lw_g (lw_at lw_m3 224 rfl) rfl
theorem q815 : (Jvm.Cond.code ({ cls := "LikedOrders$FormatException", name := "<init>", desc := "(II)V" } : Jvm.MethodName) prog_4_method_1_code (3 : Nat) (Option.none : Option Jvm.ClassFile.FieldType)) ∈ lw_all := lw_g (lw_at lw_m3 225 rfl) rfl
theorem q816 : (Jvm.Cond.methodLink "LikedOrders$FormatException" (1 : Nat) ({ cls := "java/lang/Exception", name := "<init>", desc := "(Ljava/lang/String;Ljava/lang/Throwable;ZZ)V" } : Jvm.MethodName)) ∈ lw_all := lw_g (lw_at lw_m3 226 rfl) rfl
theorem q822 : (Jvm.Cond.fieldLink "LikedOrders$FormatException" (7 : Nat) "LikedOrders$FormatException" "kind" "I") ∈ lw_all := lw_g (lw_at lw_m3 232 rfl) rfl
theorem q824 : (Jvm.Cond.fieldLink "LikedOrders$FormatException" (13 : Nat) "LikedOrders$FormatException" "position" "I") ∈ lw_all := lw_g (lw_at lw_m3 234 rfl) rfl
theorem q826 : (Jvm.Cond.laysFinal "LikedOrders$FormatException" "LikedOrders$FormatException" "kind" "I") ∈ lw_all := lw_g (lw_at lw_m3 236 rfl) rfl
theorem q827 : (Jvm.Cond.soleField "LikedOrders$FormatException" "kind") ∈ lw_all := lw_g (lw_at lw_m3 237 rfl) rfl
theorem q828 : (Jvm.Cond.laysFinal "LikedOrders$FormatException" "LikedOrders$FormatException" "position" "I") ∈ lw_all := lw_g (lw_at lw_m3 238 rfl) rfl
theorem q829 : (Jvm.Cond.soleField "LikedOrders$FormatException" "position") ∈ lw_all := lw_g (lw_at lw_m3 239 rfl) rfl
theorem q830 : (Jvm.Cond.lays "LikedOrders$FormatException" "java/lang/Throwable" "depth" "I") ∈ lw_all := lw_g (lw_at lw_m4 0 rfl) rfl
theorem q831 : (Jvm.Cond.superclass "LikedOrders$FormatException" "java/lang/Exception") ∈ lw_all := lw_g (lw_at lw_m4 1 rfl) rfl
theorem q941 : (Jvm.Cond.selects "LikedOrders$FormatException" ({ cls := "java/lang/Object", name := "getClass", desc := "()Ljava/lang/Class;" } : Jvm.MethodName) ({ cls := "java/lang/Object", name := "getClass", desc := "()Ljava/lang/Class;" } : Jvm.MethodName)) ∈ lw_all := lw_g (lw_at lw_m4 111 rfl) rfl
theorem q2454 : (Jvm.Cond.castable "LikedOrders$FormatException" "java/lang/Object") ∈ lw_tbl := lw_at lw_m10 184 rfl
theorem in_X6 : ∀ w ∈ wsX60, w ∈ lw_all := lw_in wsX60 [808, 809, 810, 811, 812, 830, 826, 828] (by decide +kernel) (by decide +kernel)
/-! LikedOrders$Told -/
def RX7 : String := "LikedOrders$Told"
abbrev cX7_init : ByteArray := prog_14_method_1_code
def yX7_init : MethodName := ⟨RX7, "<init>", "()V"⟩
theorem q142 : (Jvm.Cond.initialized "LikedOrders$Told") ∈ lw_all := lw_g (lw_at lw_m1 32 rfl) rfl
theorem q890 : (Jvm.Cond.instanceMethod ({ cls := "LikedOrders$Told", name := "<init>", desc := "()V" } : Jvm.MethodName)) ∈ lw_all := lw_g (lw_at lw_m4 60 rfl) rfl
theorem q891 : (Jvm.Cond.code ({ cls := "LikedOrders$Told", name := "<init>", desc := "()V" } : Jvm.MethodName) prog_14_method_1_code (1 : Nat) (Option.none : Option Jvm.ClassFile.FieldType)) ∈ lw_all := lw_g (lw_at lw_m4 61 rfl) rfl
theorem q892 : (Jvm.Cond.methodLink "LikedOrders$Told" (1 : Nat) ({ cls := "java/lang/Object", name := "<init>", desc := "()V" } : Jvm.MethodName)) ∈ lw_all := lw_g (lw_at lw_m4 62 rfl) rfl
/-! LikedOrders$Item -/
def RX8 : String := "LikedOrders$Item"
def TX8 : u_T := fun k => match k with
  | 0 => ("LikedOrders$Item", "name", "Ljava/lang/String;", true)
  | _ => ("LikedOrders$Item", "worth", "I", true)
def tyX8 : Nat → FieldType := fun k => match k with
  | 0 => .object "java/lang/String"
  | _ => .int
abbrev wsX80 : List Cond := u_ws RX8 TX8 2
theorem nmX8 : ∀ a, a < 2 → ∀ b, b < 2 → a ≠ b → (TX8 a).2.1 ≠ (TX8 b).2.1 := by decide +kernel
theorem tyX8_ok : ∀ k, k < 2 → parseFieldDescriptor (TX8 k).2.2.1 = some (tyX8 k) := by decide +kernel
abbrev cX8_init : ByteArray := prog_5_method_1_code
def yX8_init : MethodName := ⟨RX8, "<init>", "(Ljava/lang/String;I)V"⟩
theorem q143 : (Jvm.Cond.initialized "LikedOrders$Item") ∈ lw_all := lw_g (lw_at lw_m1 33 rfl) rfl
theorem q885 : (Jvm.Cond.instantiable "LikedOrders$Item" (2 : Nat)) ∈ lw_all := lw_g (lw_at lw_m4 55 rfl) rfl
theorem q887 : (Jvm.Cond.instanceMethod ({ cls := "LikedOrders$Item", name := "<init>", desc := "(Ljava/lang/String;I)V" } : Jvm.MethodName)) ∈ lw_all := lw_g (lw_at lw_m4 57 rfl) rfl
theorem q888 : (Jvm.Cond.code ({ cls := "LikedOrders$Item", name := "<init>", desc := "(Ljava/lang/String;I)V" } : Jvm.MethodName) prog_5_method_1_code (3 : Nat) (Option.none : Option Jvm.ClassFile.FieldType)) ∈ lw_all := lw_g (lw_at lw_m4 58 rfl) rfl
theorem q889 : (Jvm.Cond.methodLinkNest "LikedOrders$Item" (1 : Nat) ({ cls := "LikedOrders$Told", name := "<init>", desc := "()V" } : Jvm.MethodName) "LikedOrders") ∈ lw_tbl := lw_at lw_m4 59 rfl
theorem q893 : (Jvm.Cond.fieldLink "LikedOrders$Item" (7 : Nat) "LikedOrders$Item" "name" "Ljava/lang/String;") ∈ lw_all := lw_g (lw_at lw_m4 63 rfl) rfl
theorem q896 : (Jvm.Cond.fieldLink "LikedOrders$Item" (13 : Nat) "LikedOrders$Item" "worth" "I") ∈ lw_all := lw_g (lw_at lw_m4 66 rfl) rfl
theorem q899 : (Jvm.Cond.laysFinal "LikedOrders$Item" "LikedOrders$Item" "name" "Ljava/lang/String;") ∈ lw_all := lw_g (lw_at lw_m4 69 rfl) rfl
theorem q900 : (Jvm.Cond.soleField "LikedOrders$Item" "name") ∈ lw_all := lw_g (lw_at lw_m4 70 rfl) rfl
theorem q901 : (Jvm.Cond.laysFinal "LikedOrders$Item" "LikedOrders$Item" "worth" "I") ∈ lw_all := lw_g (lw_at lw_m4 71 rfl) rfl
theorem q902 : (Jvm.Cond.soleField "LikedOrders$Item" "worth") ∈ lw_all := lw_g (lw_at lw_m4 72 rfl) rfl
theorem q903 : (Jvm.Cond.superclass "LikedOrders$Item" "LikedOrders$Told") ∈ lw_all := lw_g (lw_at lw_m4 73 rfl) rfl
theorem q942 : (Jvm.Cond.selects "LikedOrders$Item" ({ cls := "java/lang/Object", name := "getClass", desc := "()Ljava/lang/Class;" } : Jvm.MethodName) ({ cls := "java/lang/Object", name := "getClass", desc := "()Ljava/lang/Class;" } : Jvm.MethodName)) ∈ lw_all := lw_g (lw_at lw_m4 112 rfl) rfl
theorem q2440 : (Jvm.Cond.castable "LikedOrders$Item" "LikedOrders$Told") ∈ lw_tbl := lw_at lw_m10 170 rfl
theorem q2455 : (Jvm.Cond.castable "LikedOrders$Item" "java/lang/Object") ∈ lw_tbl := lw_at lw_m10 185 rfl
theorem in_X8 : ∀ w ∈ wsX80, w ∈ lw_all := lw_in wsX80 [899, 901] (by decide +kernel) (by decide +kernel)
/-! LikedOrders$Known -/
def RX9 : String := "LikedOrders$Known"
def TX9 : u_T := fun k => match k with
  | 0 => ("LikedOrders$Known", "better", "[I", true)
  | 1 => ("LikedOrders$Known", "worse", "[I", true)
  | _ => ("LikedOrders$Known", "many", "I", true)
def tyX9 : Nat → FieldType := fun k => match k with
  | 0 => .array .int
  | 1 => .array .int
  | _ => .int
abbrev wsX90 : List Cond := u_ws RX9 TX9 3
theorem nmX9 : ∀ a, a < 3 → ∀ b, b < 3 → a ≠ b → (TX9 a).2.1 ≠ (TX9 b).2.1 := by decide +kernel
theorem tyX9_ok : ∀ k, k < 3 → parseFieldDescriptor (TX9 k).2.2.1 = some (tyX9 k) := by decide +kernel
abbrev cX9_init : ByteArray := prog_7_method_2_code
def yX9_init : MethodName := ⟨RX9, "<init>", "(ILLikedOrders$Row;I)V"⟩
abbrev cX9_init_2 : ByteArray := prog_7_method_1_code
def yX9_init_2 : MethodName := ⟨RX9, "<init>", "(I)V"⟩
abbrev cX9_tells : ByteArray := prog_7_method_5_code
def yX9_tells : MethodName := ⟨RX9, "tells", "(II)LLikedOrders$Known;"⟩
abbrev cX9_isBetter : ByteArray := prog_7_method_4_code
def yX9_isBetter : MethodName := ⟨RX9, "isBetter", "(II)Z"⟩
abbrev cX9_twos : ByteArray := prog_7_method_8_code
def yX9_twos : MethodName := ⟨RX9, "twos", "()I"⟩
abbrev cX9_least : ByteArray := prog_7_method_6_code
def yX9_least : MethodName := ⟨RX9, "least", "(I)I"⟩
abbrev cX9_laysWays : ByteArray := prog_7_method_10_code
def yX9_laysWays : MethodName := ⟨RX9, "laysWays", "([I)V"⟩
abbrev cX9_mayBeNext : ByteArray := prog_7_method_9_code
def yX9_mayBeNext : MethodName := ⟨RX9, "mayBeNext", "(II)Z"⟩
abbrev cX9_greatest : ByteArray := prog_7_method_7_code
def yX9_greatest : MethodName := ⟨RX9, "greatest", "(I)I"⟩
abbrev cX9_laysRests : ByteArray := prog_7_method_11_code
def yX9_laysRests : MethodName := ⟨RX9, "laysRests", "([I)V"⟩
abbrev cX9_init_3 : ByteArray := prog_7_method_3_code
def yX9_init_3 : MethodName := ⟨RX9, "<init>", "(LLikedOrders$Known;)V"⟩
theorem q144 : (Jvm.Cond.initialized "LikedOrders$Known") ∈ lw_all := lw_g (lw_at lw_m1 34 rfl) rfl
theorem q943 : (Jvm.Cond.selects "LikedOrders$Known" ({ cls := "java/lang/Object", name := "getClass", desc := "()Ljava/lang/Class;" } : Jvm.MethodName) ({ cls := "java/lang/Object", name := "getClass", desc := "()Ljava/lang/Class;" } : Jvm.MethodName)) ∈ lw_all := lw_g (lw_at lw_m4 113 rfl) rfl
theorem q976 : (Jvm.Cond.instantiable "LikedOrders$Known" (3 : Nat)) ∈ lw_all := lw_g (lw_at lw_m4 146 rfl) rfl
theorem q978 : (Jvm.Cond.instanceMethod ({ cls := "LikedOrders$Known", name := "<init>", desc := "(ILLikedOrders$Row;I)V" } : Jvm.MethodName)) ∈ lw_all := lw_g (lw_at lw_m4 148 rfl) rfl
theorem q979 : (Jvm.Cond.code ({ cls := "LikedOrders$Known", name := "<init>", desc := "(ILLikedOrders$Row;I)V" } : Jvm.MethodName) prog_7_method_2_code (5 : Nat) (Option.none : Option Jvm.ClassFile.FieldType)) ∈ lw_all := lw_g (lw_at lw_m4 149 rfl) rfl
theorem q980 : (Jvm.Cond.methodLink "LikedOrders$Known" (22 : Nat) ({ cls := "LikedOrders$Known", name := "<init>", desc := "(I)V" } : Jvm.MethodName)) ∈ lw_all := lw_g (lw_at lw_m4 150 rfl) rfl
theorem q981 : (Jvm.Cond.instanceMethod ({ cls := "LikedOrders$Known", name := "<init>", desc := "(I)V" } : Jvm.MethodName)) ∈ lw_all := lw_g (lw_at lw_m4 151 rfl) rfl
theorem q982 : (Jvm.Cond.code ({ cls := "LikedOrders$Known", name := "<init>", desc := "(I)V" } : Jvm.MethodName) prog_7_method_1_code (2 : Nat) (Option.none : Option Jvm.ClassFile.FieldType)) ∈ lw_all := lw_g (lw_at lw_m4 152 rfl) rfl
theorem q983 : (Jvm.Cond.methodLink "LikedOrders$Known" (3 : Nat) ({ cls := "java/lang/Object", name := "<init>", desc := "()V" } : Jvm.MethodName)) ∈ lw_all := lw_g (lw_at lw_m4 153 rfl) rfl
theorem q984 : (Jvm.Cond.fieldLink "LikedOrders$Known" (9 : Nat) "LikedOrders$Known" "better" "[I") ∈ lw_all := lw_g (lw_at lw_m4 154 rfl) rfl
theorem q986 : (Jvm.Cond.fieldLink "LikedOrders$Known" (15 : Nat) "LikedOrders$Known" "worse" "[I") ∈ lw_all := lw_g (lw_at lw_m4 156 rfl) rfl
theorem q988 : (Jvm.Cond.fieldLink "LikedOrders$Known" (18 : Nat) "LikedOrders$Known" "many" "I") ∈ lw_all := lw_g (lw_at lw_m4 158 rfl) rfl
theorem q990 : (Jvm.Cond.laysFinal "LikedOrders$Known" "LikedOrders$Known" "better" "[I") ∈ lw_all := lw_g (lw_at lw_m4 160 rfl) rfl
theorem q991 : (Jvm.Cond.soleField "LikedOrders$Known" "better") ∈ lw_all := lw_g (lw_at lw_m4 161 rfl) rfl
theorem q992 : (Jvm.Cond.laysFinal "LikedOrders$Known" "LikedOrders$Known" "worse" "[I") ∈ lw_all := lw_g (lw_at lw_m4 162 rfl) rfl
theorem q993 : (Jvm.Cond.soleField "LikedOrders$Known" "worse") ∈ lw_all := lw_g (lw_at lw_m4 163 rfl) rfl
theorem q994 : (Jvm.Cond.laysFinal "LikedOrders$Known" "LikedOrders$Known" "many" "I") ∈ lw_all := lw_g (lw_at lw_m4 164 rfl) rfl
theorem q995 : (Jvm.Cond.soleField "LikedOrders$Known" "many") ∈ lw_all := lw_g (lw_at lw_m4 165 rfl) rfl
theorem q996 : (Jvm.Cond.superclass "LikedOrders$Known" "java/lang/Object") ∈ lw_all := lw_g (lw_at lw_m4 166 rfl) rfl
theorem q997 : (Jvm.Cond.methodLink "LikedOrders$Known" (25 : Nat) ({ cls := "LikedOrders$Row", name := "size", desc := "()I" } : Jvm.MethodName)) ∈ lw_all := lw_g (lw_at lw_m4 167 rfl) rfl
theorem q998 : (Jvm.Cond.methodLink "LikedOrders$Known" (31 : Nat) ({ cls := "LikedOrders$Row", name := "get", desc := "(I)LLikedOrders$Told;" } : Jvm.MethodName)) ∈ lw_all := lw_g (lw_at lw_m4 168 rfl) rfl
theorem q999 : (Jvm.Cond.classLink "LikedOrders$Known" (35 : Nat) "LikedOrders$Answer") ∈ lw_all := lw_g (lw_at lw_m4 169 rfl) rfl
theorem q1000 : (Jvm.Cond.methodLink "LikedOrders$Known" (41 : Nat) ({ cls := "LikedOrders$Known", name := "tells", desc := "(II)LLikedOrders$Known;" } : Jvm.MethodName)) ∈ lw_all := lw_g (lw_at lw_m4 170 rfl) rfl
theorem q1001 : (Jvm.Cond.instanceMethod ({ cls := "LikedOrders$Known", name := "tells", desc := "(II)LLikedOrders$Known;" } : Jvm.MethodName)) ∈ lw_all := lw_g (lw_at lw_m4 171 rfl) rfl
theorem q1002 : (Jvm.Cond.selects "LikedOrders$Known" ({ cls := "LikedOrders$Known", name := "tells", desc := "(II)LLikedOrders$Known;" } : Jvm.MethodName) ({ cls := "LikedOrders$Known", name := "tells", desc := "(II)LLikedOrders$Known;" } : Jvm.MethodName)) ∈ lw_all := lw_g (lw_at lw_m4 172 rfl) rfl
theorem q1003 : (Jvm.Cond.code ({ cls := "LikedOrders$Known", name := "tells", desc := "(II)LLikedOrders$Known;" } : Jvm.MethodName) prog_7_method_5_code (6 : Nat) (Option.some (Jvm.ClassFile.FieldType.object "LikedOrders$Known"))) ∈ lw_all := lw_g (lw_at lw_m4 173 rfl) rfl
theorem q1004 : (Jvm.Cond.methodLink "LikedOrders$Known" (55 : Nat) ({ cls := "LikedOrders$Known", name := "isBetter", desc := "(II)Z" } : Jvm.MethodName)) ∈ lw_all := lw_g (lw_at lw_m4 174 rfl) rfl
theorem q1005 : (Jvm.Cond.instanceMethod ({ cls := "LikedOrders$Known", name := "isBetter", desc := "(II)Z" } : Jvm.MethodName)) ∈ lw_all := lw_g (lw_at lw_m4 175 rfl) rfl
theorem q1006 : (Jvm.Cond.selects "LikedOrders$Known" ({ cls := "LikedOrders$Known", name := "isBetter", desc := "(II)Z" } : Jvm.MethodName) ({ cls := "LikedOrders$Known", name := "isBetter", desc := "(II)Z" } : Jvm.MethodName)) ∈ lw_all := lw_g (lw_at lw_m4 176 rfl) rfl
theorem q1007 : (Jvm.Cond.code ({ cls := "LikedOrders$Known", name := "isBetter", desc := "(II)Z" } : Jvm.MethodName) prog_7_method_4_code (3 : Nat) (Option.some Jvm.ClassFile.FieldType.boolean)) ∈ lw_all := lw_g (lw_at lw_m4 177 rfl) rfl
theorem q1008 : (Jvm.Cond.methodLinkNest "LikedOrders$Known" (51 : Nat) ({ cls := "LikedOrders", name := "has", desc := "(II)Z" } : Jvm.MethodName) "LikedOrders") ∈ lw_tbl := lw_at lw_m4 178 rfl
theorem q1031 : (Jvm.Cond.fieldLinkNest "LikedOrders$Known" (37 : Nat) "LikedOrders$Answer" "better" "I" "LikedOrders") ∈ lw_tbl := lw_at lw_m4 201 rfl
theorem q1035 : (Jvm.Cond.fieldLinkNest "LikedOrders$Known" (39 : Nat) "LikedOrders$Answer" "worse" "I" "LikedOrders") ∈ lw_tbl := lw_at lw_m4 205 rfl
theorem q1094 : (Jvm.Cond.instanceMethod ({ cls := "LikedOrders$Known", name := "twos", desc := "()I" } : Jvm.MethodName)) ∈ lw_all := lw_g (lw_at lw_m5 24 rfl) rfl
theorem q1095 : (Jvm.Cond.selects "LikedOrders$Known" ({ cls := "LikedOrders$Known", name := "twos", desc := "()I" } : Jvm.MethodName) ({ cls := "LikedOrders$Known", name := "twos", desc := "()I" } : Jvm.MethodName)) ∈ lw_all := lw_g (lw_at lw_m5 25 rfl) rfl
theorem q1096 : (Jvm.Cond.code ({ cls := "LikedOrders$Known", name := "twos", desc := "()I" } : Jvm.MethodName) prog_7_method_8_code (3 : Nat) (Option.some Jvm.ClassFile.FieldType.int)) ∈ lw_all := lw_g (lw_at lw_m5 26 rfl) rfl
theorem q1097 : (Jvm.Cond.methodLink "LikedOrders$Known" (64 : Nat) ({ cls := "LikedOrders$Known", name := "least", desc := "(I)I" } : Jvm.MethodName)) ∈ lw_all := lw_g (lw_at lw_m5 27 rfl) rfl
theorem q1098 : (Jvm.Cond.instanceMethod ({ cls := "LikedOrders$Known", name := "least", desc := "(I)I" } : Jvm.MethodName)) ∈ lw_all := lw_g (lw_at lw_m5 28 rfl) rfl
theorem q1099 : (Jvm.Cond.selects "LikedOrders$Known" ({ cls := "LikedOrders$Known", name := "least", desc := "(I)I" } : Jvm.MethodName) ({ cls := "LikedOrders$Known", name := "least", desc := "(I)I" } : Jvm.MethodName)) ∈ lw_all := lw_g (lw_at lw_m5 29 rfl) rfl
theorem q1100 : (Jvm.Cond.code ({ cls := "LikedOrders$Known", name := "least", desc := "(I)I" } : Jvm.MethodName) prog_7_method_6_code (2 : Nat) (Option.some Jvm.ClassFile.FieldType.int)) ∈ lw_all := lw_g (lw_at lw_m5 30 rfl) rfl
theorem q1101 : (Jvm.Cond.methodLink "LikedOrders$Known" (58 : Nat) ({ cls := "java/lang/Integer", name := "bitCount", desc := "(I)I" } : Jvm.MethodName)) ∈ lw_all := lw_g (lw_at lw_m5 31 rfl) rfl
theorem q1112 : (Jvm.Cond.privateMethod ({ cls := "LikedOrders$Known", name := "laysWays", desc := "([I)V" } : Jvm.MethodName)) ∈ lw_tbl := lw_at lw_m5 42 rfl
theorem q1113 : (Jvm.Cond.instanceMethod ({ cls := "LikedOrders$Known", name := "laysWays", desc := "([I)V" } : Jvm.MethodName)) ∈ lw_all := lw_g (lw_at lw_m5 43 rfl) rfl
theorem q1114 : (Jvm.Cond.code ({ cls := "LikedOrders$Known", name := "laysWays", desc := "([I)V" } : Jvm.MethodName) prog_7_method_10_code (4 : Nat) (Option.none : Option Jvm.ClassFile.FieldType)) ∈ lw_all := lw_g (lw_at lw_m5 44 rfl) rfl
theorem q1115 : (Jvm.Cond.methodLink "LikedOrders$Known" (67 : Nat) ({ cls := "java/util/Arrays", name := "fill", desc := "([II)V" } : Jvm.MethodName)) ∈ lw_all := lw_g (lw_at lw_m5 45 rfl) rfl
theorem q1118 : (Jvm.Cond.methodLink "LikedOrders$Known" (73 : Nat) ({ cls := "LikedOrders$Known", name := "mayBeNext", desc := "(II)Z" } : Jvm.MethodName)) ∈ lw_all := lw_g (lw_at lw_m5 48 rfl) rfl
theorem q1119 : (Jvm.Cond.instanceMethod ({ cls := "LikedOrders$Known", name := "mayBeNext", desc := "(II)Z" } : Jvm.MethodName)) ∈ lw_all := lw_g (lw_at lw_m5 49 rfl) rfl
theorem q1120 : (Jvm.Cond.selects "LikedOrders$Known" ({ cls := "LikedOrders$Known", name := "mayBeNext", desc := "(II)Z" } : Jvm.MethodName) ({ cls := "LikedOrders$Known", name := "mayBeNext", desc := "(II)Z" } : Jvm.MethodName)) ∈ lw_all := lw_g (lw_at lw_m5 50 rfl) rfl
theorem q1121 : (Jvm.Cond.code ({ cls := "LikedOrders$Known", name := "mayBeNext", desc := "(II)Z" } : Jvm.MethodName) prog_7_method_9_code (3 : Nat) (Option.some Jvm.ClassFile.FieldType.boolean)) ∈ lw_all := lw_g (lw_at lw_m5 51 rfl) rfl
theorem q1127 : (Jvm.Cond.instanceMethod ({ cls := "LikedOrders$Known", name := "greatest", desc := "(I)I" } : Jvm.MethodName)) ∈ lw_all := lw_g (lw_at lw_m5 57 rfl) rfl
theorem q1128 : (Jvm.Cond.selects "LikedOrders$Known" ({ cls := "LikedOrders$Known", name := "greatest", desc := "(I)I" } : Jvm.MethodName) ({ cls := "LikedOrders$Known", name := "greatest", desc := "(I)I" } : Jvm.MethodName)) ∈ lw_all := lw_g (lw_at lw_m5 58 rfl) rfl
theorem q1129 : (Jvm.Cond.code ({ cls := "LikedOrders$Known", name := "greatest", desc := "(I)I" } : Jvm.MethodName) prog_7_method_7_code (2 : Nat) (Option.some Jvm.ClassFile.FieldType.int)) ∈ lw_all := lw_g (lw_at lw_m5 59 rfl) rfl
theorem q1279 : (Jvm.Cond.privateMethod ({ cls := "LikedOrders$Known", name := "laysRests", desc := "([I)V" } : Jvm.MethodName)) ∈ lw_tbl := lw_at lw_m5 209 rfl
theorem q1280 : (Jvm.Cond.instanceMethod ({ cls := "LikedOrders$Known", name := "laysRests", desc := "([I)V" } : Jvm.MethodName)) ∈ lw_all := lw_g (lw_at lw_m5 210 rfl) rfl
theorem q1281 : (Jvm.Cond.code ({ cls := "LikedOrders$Known", name := "laysRests", desc := "([I)V" } : Jvm.MethodName) prog_7_method_11_code (4 : Nat) (Option.none : Option Jvm.ClassFile.FieldType)) ∈ lw_all := lw_g (lw_at lw_m5 211 rfl) rfl
theorem q1439 : (Jvm.Cond.instanceMethod ({ cls := "LikedOrders$Known", name := "<init>", desc := "(LLikedOrders$Known;)V" } : Jvm.MethodName)) ∈ lw_all := lw_g (lw_at lw_m6 129 rfl) rfl
theorem q1440 : (Jvm.Cond.code ({ cls := "LikedOrders$Known", name := "<init>", desc := "(LLikedOrders$Known;)V" } : Jvm.MethodName) prog_7_method_3_code (2 : Nat) (Option.none : Option Jvm.ClassFile.FieldType)) ∈ lw_all := lw_g (lw_at lw_m6 130 rfl) rfl
theorem q1441 : (Jvm.Cond.methodLink "LikedOrders$Known" (45 : Nat) ({ cls := "java/lang/System", name := "arraycopy", desc := "(Ljava/lang/Object;ILjava/lang/Object;II)V" } : Jvm.MethodName)) ∈ lw_all := lw_g (lw_at lw_m6 131 rfl) rfl
theorem q2456 : (Jvm.Cond.castable "LikedOrders$Known" "java/lang/Object") ∈ lw_tbl := lw_at lw_m10 186 rfl
theorem in_X9 : ∀ w ∈ wsX90, w ∈ lw_all := lw_in wsX90 [990, 992, 994] (by decide +kernel) (by decide +kernel)
theorem q123 : (Jvm.Cond.initialized "LikedOrders$Token") ∈ lw_all := lw_g (lw_at lw_m1 13 rfl) rfl
theorem q388 : (Jvm.Cond.laysStatic "LikedOrders$Token" "INVALID" "LLikedOrders$Token;") ∈ lw_tbl := lw_at lw_m2 38 rfl
theorem q754 : (Jvm.Cond.laysStatic "LikedOrders$Token" "END" "LLikedOrders$Token;") ∈ lw_tbl := lw_at lw_m3 164 rfl
theorem q784 : (Jvm.Cond.laysStatic "LikedOrders$Token" "WORD" "LLikedOrders$Token;") ∈ lw_tbl := lw_at lw_m3 194 rfl
theorem q786 : (Jvm.Cond.laysStatic "LikedOrders$Token" "NUMBER" "LLikedOrders$Token;") ∈ lw_tbl := lw_at lw_m3 196 rfl
theorem q788 : (Jvm.Cond.laysStatic "LikedOrders$Token" "LINE_END" "LLikedOrders$Token;") ∈ lw_tbl := lw_at lw_m3 198 rfl
theorem q790 : (Jvm.Cond.laysStatic "LikedOrders$Token" "BETTER" "LLikedOrders$Token;") ∈ lw_tbl := lw_at lw_m3 200 rfl
theorem q949 : (Jvm.Cond.selects "LikedOrders$Token" ({ cls := "java/lang/Object", name := "getClass", desc := "()Ljava/lang/Class;" } : Jvm.MethodName) ({ cls := "java/lang/Object", name := "getClass", desc := "()Ljava/lang/Class;" } : Jvm.MethodName)) ∈ lw_all := lw_g (lw_at lw_m4 119 rfl) rfl
theorem q2448 : (Jvm.Cond.castable "LikedOrders$Token" "java/lang/Object") ∈ lw_tbl := lw_at lw_m10 178 rfl
theorem q489 : (Jvm.Cond.sameMethod "[B" "java/lang/Object" "clone" "()Ljava/lang/Object;") ∈ lw_all := lw_g (lw_at lw_m2 139 rfl) rfl
theorem q492 : (Jvm.Cond.selects "[B" ({ cls := "[B", name := "clone", desc := "()Ljava/lang/Object;" } : Jvm.MethodName) ({ cls := "java/lang/Object", name := "clone", desc := "()Ljava/lang/Object;" } : Jvm.MethodName)) ∈ lw_all := lw_g (lw_at lw_m2 142 rfl) rfl
theorem q493 : (Jvm.Cond.castable "[B" "java/lang/Cloneable") ∈ lw_tbl := lw_at lw_m2 143 rfl
theorem q2468 : (Jvm.Cond.castable "[B" "java/lang/Object") ∈ lw_tbl := lw_at lw_m10 198 rfl
theorem q2473 : (Jvm.Cond.castable "[D" "java/lang/Object") ∈ lw_tbl := lw_at lw_m10 203 rfl
theorem q2470 : (Jvm.Cond.castable "[I" "java/lang/Object") ∈ lw_tbl := lw_at lw_m10 200 rfl
theorem q2472 : (Jvm.Cond.castable "[J" "java/lang/Object") ∈ lw_tbl := lw_at lw_m10 202 rfl
theorem q2469 : (Jvm.Cond.castable "[LLikedOrders$State;" "java/lang/Object") ∈ lw_tbl := lw_at lw_m10 199 rfl
theorem q2464 : (Jvm.Cond.sameMethod "[Ljava/lang/Object;" "java/lang/Object" "getClass" "()Ljava/lang/Class;") ∈ lw_all := lw_g (lw_at lw_m10 194 rfl) rfl
theorem q2465 : (Jvm.Cond.selects "[Ljava/lang/Object;" ({ cls := "java/lang/Object", name := "getClass", desc := "()Ljava/lang/Class;" } : Jvm.MethodName) ({ cls := "java/lang/Object", name := "getClass", desc := "()Ljava/lang/Class;" } : Jvm.MethodName)) ∈ lw_all := lw_g (lw_at lw_m10 195 rfl) rfl
theorem q2467 : (Jvm.Cond.castable "[Ljava/lang/Object;" "java/lang/Object") ∈ lw_tbl := lw_at lw_m10 197 rfl
theorem q2471 : (Jvm.Cond.castable "[Z" "java/lang/Object") ∈ lw_tbl := lw_at lw_m10 201 rfl
theorem q122 : (Jvm.Cond.initialized "java/lang/Enum") ∈ lw_all := lw_g (lw_at lw_m1 12 rfl) rfl
theorem q138 : (Jvm.Cond.initialized "java/lang/Number") ∈ lw_all := lw_g (lw_at lw_m1 28 rfl) rfl
theorem q135 : (Jvm.Cond.initialized "java/lang/System") ∈ lw_all := lw_g (lw_at lw_m1 25 rfl) rfl
theorem q499 : (Jvm.Cond.static ({ cls := "java/lang/System", name := "arraycopy", desc := "(Ljava/lang/Object;ILjava/lang/Object;II)V" } : Jvm.MethodName)) ∈ lw_all := lw_g (lw_at lw_m2 149 rfl) rfl
theorem q500 : (Jvm.Cond.native ({ cls := "java/lang/System", name := "arraycopy", desc := "(Ljava/lang/Object;ILjava/lang/Object;II)V" } : Jvm.MethodName)) ∈ lw_all := lw_g (lw_at lw_m2 150 rfl) rfl
theorem q1051 : (Jvm.Cond.publicMethod ({ cls := "java/util/Collection", name := "clear", desc := "()V" } : Jvm.MethodName)) ∈ lw_tbl := lw_at lw_m4 221 rfl
theorem q1052 : (Jvm.Cond.declares ({ cls := "java/util/Collection", name := "clear", desc := "()V" } : Jvm.MethodName)) ∈ lw_tbl := lw_at lw_m4 222 rfl
theorem q1779 : (Jvm.Cond.publicMethod ({ cls := "java/util/Collection", name := "isEmpty", desc := "()Z" } : Jvm.MethodName)) ∈ lw_tbl := lw_at lw_m7 229 rfl
theorem q1780 : (Jvm.Cond.declares ({ cls := "java/util/Collection", name := "isEmpty", desc := "()Z" } : Jvm.MethodName)) ∈ lw_tbl := lw_at lw_m7 230 rfl
theorem q256 : (Jvm.Cond.interfaceMethod "java/util/Deque" "java/util/Deque" "size" "()I") ∈ lw_tbl := lw_at lw_m1 146 rfl
theorem q257 : (Jvm.Cond.declares ({ cls := "java/util/Deque", name := "size", desc := "()I" } : Jvm.MethodName)) ∈ lw_tbl := lw_at lw_m1 147 rfl
theorem q1609 : (Jvm.Cond.interfaceMethod "java/util/Deque" "java/util/Deque" "removeFirst" "()Ljava/lang/Object;") ∈ lw_tbl := lw_at lw_m7 59 rfl
theorem q1610 : (Jvm.Cond.declares ({ cls := "java/util/Deque", name := "removeFirst", desc := "()Ljava/lang/Object;" } : Jvm.MethodName)) ∈ lw_tbl := lw_at lw_m7 60 rfl
theorem q1628 : (Jvm.Cond.interfaceMethod "java/util/Deque" "java/util/Deque" "addLast" "(Ljava/lang/Object;)V") ∈ lw_tbl := lw_at lw_m7 78 rfl
theorem q1629 : (Jvm.Cond.declares ({ cls := "java/util/Deque", name := "addLast", desc := "(Ljava/lang/Object;)V" } : Jvm.MethodName)) ∈ lw_tbl := lw_at lw_m7 79 rfl
theorem q1788 : (Jvm.Cond.interfaceMethod "java/util/Deque" "java/util/Deque" "removeLast" "()Ljava/lang/Object;") ∈ lw_tbl := lw_at lw_m7 238 rfl
theorem q1789 : (Jvm.Cond.declares ({ cls := "java/util/Deque", name := "removeLast", desc := "()Ljava/lang/Object;" } : Jvm.MethodName)) ∈ lw_tbl := lw_at lw_m7 239 rfl
theorem q847 : (Jvm.Cond.interfaceMethod "java/util/List" "java/util/List" "size" "()I") ∈ lw_tbl := lw_at lw_m4 17 rfl
theorem q848 : (Jvm.Cond.declares ({ cls := "java/util/List", name := "size", desc := "()I" } : Jvm.MethodName)) ∈ lw_tbl := lw_at lw_m4 18 rfl
theorem q866 : (Jvm.Cond.interfaceMethod "java/util/List" "java/util/List" "get" "(I)Ljava/lang/Object;") ∈ lw_tbl := lw_at lw_m4 36 rfl
theorem q867 : (Jvm.Cond.declares ({ cls := "java/util/List", name := "get", desc := "(I)Ljava/lang/Object;" } : Jvm.MethodName)) ∈ lw_tbl := lw_at lw_m4 37 rfl
theorem q910 : (Jvm.Cond.interfaceMethod "java/util/List" "java/util/List" "add" "(Ljava/lang/Object;)Z") ∈ lw_tbl := lw_at lw_m4 80 rfl
theorem q911 : (Jvm.Cond.declares ({ cls := "java/util/List", name := "add", desc := "(Ljava/lang/Object;)Z" } : Jvm.MethodName)) ∈ lw_tbl := lw_at lw_m4 81 rfl
theorem q1690 : (Jvm.Cond.interfaceMethod "java/util/List" "java/util/List" "remove" "(I)Ljava/lang/Object;") ∈ lw_tbl := lw_at lw_m7 140 rfl
theorem q1691 : (Jvm.Cond.declares ({ cls := "java/util/List", name := "remove", desc := "(I)Ljava/lang/Object;" } : Jvm.MethodName)) ∈ lw_tbl := lw_at lw_m7 141 rfl
theorem q1757 : (Jvm.Cond.interfaceMethod "java/util/List" "java/util/List" "set" "(ILjava/lang/Object;)Ljava/lang/Object;") ∈ lw_tbl := lw_at lw_m7 207 rfl
theorem q1758 : (Jvm.Cond.declares ({ cls := "java/util/List", name := "set", desc := "(ILjava/lang/Object;)Ljava/lang/Object;" } : Jvm.MethodName)) ∈ lw_tbl := lw_at lw_m7 208 rfl
theorem q171 : (Jvm.Cond.arrayOver (Jvm.ClassFile.FieldType.object "java/lang/Object")) ∈ lw_tbl := lw_at lw_m1 61 rfl
theorem q182 : (Jvm.Cond.arrayClass Jvm.ClassFile.FieldType.byte) ∈ lw_all := lw_g (lw_at lw_m1 72 rfl) rfl
theorem q184 : (Jvm.Cond.arrayOver (Jvm.ClassFile.FieldType.object "LikedOrders$State")) ∈ lw_tbl := lw_at lw_m1 74 rfl
theorem q229 : (Jvm.Cond.arrayClass Jvm.ClassFile.FieldType.int) ∈ lw_all := lw_g (lw_at lw_m1 119 rfl) rfl
theorem q1916 : (Jvm.Cond.arrayClass Jvm.ClassFile.FieldType.boolean) ∈ lw_all := lw_g (lw_at lw_m8 126 rfl) rfl
theorem q2424 : (Jvm.Cond.arrayClass Jvm.ClassFile.FieldType.long) ∈ lw_all := lw_g (lw_at lw_m10 154 rfl) rfl
theorem q2425 : (Jvm.Cond.arrayClass Jvm.ClassFile.FieldType.double) ∈ lw_all := lw_g (lw_at lw_m10 155 rfl) rfl
