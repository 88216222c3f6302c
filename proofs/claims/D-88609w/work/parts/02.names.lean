set_option maxRecDepth 100000
def RJ0 : String := "java/util/AbstractCollection"
abbrev cJ0_init : ByteArray := prog_33_method_1_code
def yJ0_init : MethodName := ⟨RJ0, "<init>", "()V"⟩
theorem q66 : (Jvm.Cond.initialized "java/util/AbstractCollection") ∈ lw_all := lw_g (lw_at lw_m1 2 rfl) rfl
theorem q649 : (Jvm.Cond.instanceMethod ({ cls := "java/util/AbstractCollection", name := "<init>", desc := "()V" } : Jvm.MethodName)) ∈ lw_all := lw_g (lw_at lw_m3 105 rfl) rfl
theorem q650 : (Jvm.Cond.code ({ cls := "java/util/AbstractCollection", name := "<init>", desc := "()V" } : Jvm.MethodName) prog_33_method_1_code (1 : Nat) (Option.none : Option Jvm.ClassFile.FieldType)) ∈ lw_all := lw_g (lw_at lw_m3 106 rfl) rfl
theorem q651 : (Jvm.Cond.methodLink "java/util/AbstractCollection" (1 : Nat) ({ cls := "java/lang/Object", name := "<init>", desc := "()V" } : Jvm.MethodName)) ∈ lw_all := lw_g (lw_at lw_m3 107 rfl) rfl
def RJ1 : String := "java/util/AbstractList"
abbrev cJ1_init : ByteArray := prog_34_method_1_code
def yJ1_init : MethodName := ⟨RJ1, "<init>", "()V"⟩
theorem q67 : (Jvm.Cond.initialized "java/util/AbstractList") ∈ lw_all := lw_g (lw_at lw_m1 3 rfl) rfl
theorem q646 : (Jvm.Cond.instanceMethod ({ cls := "java/util/AbstractList", name := "<init>", desc := "()V" } : Jvm.MethodName)) ∈ lw_all := lw_g (lw_at lw_m3 102 rfl) rfl
theorem q647 : (Jvm.Cond.code ({ cls := "java/util/AbstractList", name := "<init>", desc := "()V" } : Jvm.MethodName) prog_34_method_1_code (1 : Nat) (Option.none : Option Jvm.ClassFile.FieldType)) ∈ lw_all := lw_g (lw_at lw_m3 103 rfl) rfl
theorem q648 : (Jvm.Cond.methodLink "java/util/AbstractList" (1 : Nat) ({ cls := "java/util/AbstractCollection", name := "<init>", desc := "()V" } : Jvm.MethodName)) ∈ lw_all := lw_g (lw_at lw_m3 104 rfl) rfl
theorem q654 : (Jvm.Cond.fieldLink "java/util/AbstractList" (7 : Nat) "java/util/AbstractList" "modCount" "I") ∈ lw_all := lw_g (lw_at lw_m3 110 rfl) rfl
theorem q662 : (Jvm.Cond.soleField "java/util/AbstractList" "modCount") ∈ lw_all := lw_g (lw_at lw_m3 118 rfl) rfl
def RJ2 : String := "java/util/ArrayList"
def TJ2 : u_T := fun k => match k with
  | 0 => ("java/util/AbstractList", "modCount", "I", false)
  | 1 => ("java/util/ArrayList", "elementData", "[Ljava/lang/Object;", false)
  | _ => ("java/util/ArrayList", "size", "I", false)
def tyJ2 : Nat → FieldType := fun k => match k with
  | 0 => .int
  | 1 => .array (.object "java/lang/Object")
  | _ => .int
abbrev wsJ20 : List Cond := u_ws RJ2 TJ2 3
theorem nmJ2 : ∀ a, a < 3 → ∀ b, b < 3 → a ≠ b → (TJ2 a).2.1 ≠ (TJ2 b).2.1 := by decide +kernel
theorem tyJ2_ok : ∀ k, k < 3 → parseFieldDescriptor (TJ2 k).2.2.1 = some (tyJ2 k) := by decide +kernel
abbrev cJ2_size : ByteArray := prog_35_method_8_code
def yJ2_size : MethodName := ⟨RJ2, "size", "()I"⟩
abbrev cJ2_add : ByteArray := prog_35_method_25_code
def yJ2_add : MethodName := ⟨RJ2, "add", "(Ljava/lang/Object;)Z"⟩
abbrev cJ2_add_2 : ByteArray := prog_35_method_24_code
def yJ2_add_2 : MethodName := ⟨RJ2, "add", "(Ljava/lang/Object;[Ljava/lang/Object;I)V"⟩
abbrev cJ2_grow : ByteArray := prog_35_method_7_code
def yJ2_grow : MethodName := ⟨RJ2, "grow", "()[Ljava/lang/Object;"⟩
abbrev cJ2_grow_2 : ByteArray := prog_35_method_6_code
def yJ2_grow_2 : MethodName := ⟨RJ2, "grow", "(I)[Ljava/lang/Object;"⟩
abbrev cJ2_get : ByteArray := prog_35_method_20_code
def yJ2_get : MethodName := ⟨RJ2, "get", "(I)Ljava/lang/Object;"⟩
abbrev cJ2_elementData : ByteArray := prog_35_method_18_code
def yJ2_elementData : MethodName := ⟨RJ2, "elementData", "(I)Ljava/lang/Object;"⟩
abbrev cJ2_remove : ByteArray := prog_35_method_29_code
def yJ2_remove : MethodName := ⟨RJ2, "remove", "(I)Ljava/lang/Object;"⟩
abbrev cJ2_fastRemove : ByteArray := prog_35_method_39_code
def yJ2_fastRemove : MethodName := ⟨RJ2, "fastRemove", "([Ljava/lang/Object;I)V"⟩
abbrev cJ2_init : ByteArray := prog_35_method_2_code
def yJ2_init : MethodName := ⟨RJ2, "<init>", "()V"⟩
theorem q68 : (Jvm.Cond.initialized "java/util/ArrayList") ∈ lw_all := lw_g (lw_at lw_m1 4 rfl) rfl
theorem q110 : (Jvm.Cond.instanceMethod ({ cls := "java/util/ArrayList", name := "size", desc := "()I" } : Jvm.MethodName)) ∈ lw_all := lw_g (lw_at lw_m1 46 rfl) rfl
theorem q111 : (Jvm.Cond.selects "java/util/ArrayList" ({ cls := "java/util/ArrayList", name := "size", desc := "()I" } : Jvm.MethodName) ({ cls := "java/util/ArrayList", name := "size", desc := "()I" } : Jvm.MethodName)) ∈ lw_all := lw_g (lw_at lw_m1 47 rfl) rfl
theorem q112 : (Jvm.Cond.code ({ cls := "java/util/ArrayList", name := "size", desc := "()I" } : Jvm.MethodName) prog_35_method_8_code (1 : Nat) (Option.some Jvm.ClassFile.FieldType.int)) ∈ lw_all := lw_g (lw_at lw_m1 48 rfl) rfl
theorem q247 : (Jvm.Cond.instanceMethod ({ cls := "java/util/ArrayList", name := "add", desc := "(Ljava/lang/Object;)Z" } : Jvm.MethodName)) ∈ lw_all := lw_g (lw_at lw_m1 183 rfl) rfl
theorem q248 : (Jvm.Cond.selects "java/util/ArrayList" ({ cls := "java/util/ArrayList", name := "add", desc := "(Ljava/lang/Object;)Z" } : Jvm.MethodName) ({ cls := "java/util/ArrayList", name := "add", desc := "(Ljava/lang/Object;)Z" } : Jvm.MethodName)) ∈ lw_all := lw_g (lw_at lw_m1 184 rfl) rfl
theorem q249 : (Jvm.Cond.code ({ cls := "java/util/ArrayList", name := "add", desc := "(Ljava/lang/Object;)Z" } : Jvm.MethodName) prog_35_method_25_code (2 : Nat) (Option.some Jvm.ClassFile.FieldType.boolean)) ∈ lw_all := lw_g (lw_at lw_m1 185 rfl) rfl
theorem q250 : (Jvm.Cond.methodLink "java/util/ArrayList" (131 : Nat) ({ cls := "java/util/ArrayList", name := "add", desc := "(Ljava/lang/Object;[Ljava/lang/Object;I)V" } : Jvm.MethodName)) ∈ lw_all := lw_g (lw_at lw_m1 186 rfl) rfl
theorem q251 : (Jvm.Cond.privateMethod ({ cls := "java/util/ArrayList", name := "add", desc := "(Ljava/lang/Object;[Ljava/lang/Object;I)V" } : Jvm.MethodName)) ∈ lw_tbl := lw_at lw_m1 187 rfl
theorem q252 : (Jvm.Cond.instanceMethod ({ cls := "java/util/ArrayList", name := "add", desc := "(Ljava/lang/Object;[Ljava/lang/Object;I)V" } : Jvm.MethodName)) ∈ lw_all := lw_g (lw_at lw_m1 188 rfl) rfl
theorem q253 : (Jvm.Cond.instantiable "java/util/ArrayList" (3 : Nat)) ∈ lw_all := lw_g (lw_at lw_m1 189 rfl) rfl
theorem q254 : (Jvm.Cond.code ({ cls := "java/util/ArrayList", name := "add", desc := "(Ljava/lang/Object;[Ljava/lang/Object;I)V" } : Jvm.MethodName) prog_35_method_24_code (4 : Nat) (Option.none : Option Jvm.ClassFile.FieldType)) ∈ lw_all := lw_g (lw_at lw_m1 190 rfl) rfl
theorem q255 : (Jvm.Cond.methodLink "java/util/ArrayList" (129 : Nat) ({ cls := "java/util/ArrayList", name := "grow", desc := "()[Ljava/lang/Object;" } : Jvm.MethodName)) ∈ lw_all := lw_g (lw_at lw_m1 191 rfl) rfl
theorem q256 : (Jvm.Cond.privateMethod ({ cls := "java/util/ArrayList", name := "grow", desc := "()[Ljava/lang/Object;" } : Jvm.MethodName)) ∈ lw_tbl := lw_at lw_m1 192 rfl
theorem q257 : (Jvm.Cond.instanceMethod ({ cls := "java/util/ArrayList", name := "grow", desc := "()[Ljava/lang/Object;" } : Jvm.MethodName)) ∈ lw_all := lw_g (lw_at lw_m1 193 rfl) rfl
theorem q258 : (Jvm.Cond.code ({ cls := "java/util/ArrayList", name := "grow", desc := "()[Ljava/lang/Object;" } : Jvm.MethodName) prog_35_method_7_code (1 : Nat) (Option.some (Jvm.ClassFile.FieldType.array (Jvm.ClassFile.FieldType.object "java/lang/Object")))) ∈ lw_all := lw_g (lw_at lw_m1 194 rfl) rfl
theorem q259 : (Jvm.Cond.methodLink "java/util/ArrayList" (69 : Nat) ({ cls := "java/util/ArrayList", name := "grow", desc := "(I)[Ljava/lang/Object;" } : Jvm.MethodName)) ∈ lw_all := lw_g (lw_at lw_m1 195 rfl) rfl
theorem q260 : (Jvm.Cond.privateMethod ({ cls := "java/util/ArrayList", name := "grow", desc := "(I)[Ljava/lang/Object;" } : Jvm.MethodName)) ∈ lw_tbl := lw_at lw_m1 196 rfl
theorem q261 : (Jvm.Cond.instanceMethod ({ cls := "java/util/ArrayList", name := "grow", desc := "(I)[Ljava/lang/Object;" } : Jvm.MethodName)) ∈ lw_all := lw_g (lw_at lw_m1 197 rfl) rfl
theorem q262 : (Jvm.Cond.code ({ cls := "java/util/ArrayList", name := "grow", desc := "(I)[Ljava/lang/Object;" } : Jvm.MethodName) prog_35_method_6_code (4 : Nat) (Option.some (Jvm.ClassFile.FieldType.array (Jvm.ClassFile.FieldType.object "java/lang/Object")))) ∈ lw_all := lw_g (lw_at lw_m1 198 rfl) rfl
theorem q263 : (Jvm.Cond.fieldLink "java/util/ArrayList" (39 : Nat) "java/util/ArrayList" "DEFAULTCAPACITY_EMPTY_ELEMENTDATA" "[Ljava/lang/Object;") ∈ lw_all := lw_g (lw_at lw_m1 199 rfl) rfl
theorem q264 : (Jvm.Cond.laysStatic "java/util/ArrayList" "DEFAULTCAPACITY_EMPTY_ELEMENTDATA" "[Ljava/lang/Object;") ∈ lw_tbl := lw_at lw_m1 200 rfl
theorem q265 : (Jvm.Cond.methodLink "java/util/ArrayList" (73 : Nat) ({ cls := "jdk/internal/util/ArraysSupport", name := "newLength", desc := "(III)I" } : Jvm.MethodName)) ∈ lw_all := lw_g (lw_at lw_m1 201 rfl) rfl
theorem q273 : (Jvm.Cond.methodLink "java/util/ArrayList" (66 : Nat) ({ cls := "java/util/Arrays", name := "copyOf", desc := "([Ljava/lang/Object;I)[Ljava/lang/Object;" } : Jvm.MethodName)) ∈ lw_all := lw_g (lw_at lw_m1 209 rfl) rfl
theorem q299 : (Jvm.Cond.selects "java/util/ArrayList" ({ cls := "java/lang/Object", name := "getClass", desc := "()Ljava/lang/Class;" } : Jvm.MethodName) ({ cls := "java/lang/Object", name := "getClass", desc := "()Ljava/lang/Class;" } : Jvm.MethodName)) ∈ lw_all := lw_g (lw_at lw_m1 235 rfl) rfl
theorem q313 : (Jvm.Cond.methodLink "java/util/ArrayList" (79 : Nat) ({ cls := "java/lang/Math", name := "max", desc := "(II)I" } : Jvm.MethodName)) ∈ lw_all := lw_g (lw_at lw_m2 9 rfl) rfl
theorem q314 : (Jvm.Cond.classLink "java/util/ArrayList" (7 : Nat) "java/lang/Object") ∈ lw_all := lw_g (lw_at lw_m2 10 rfl) rfl
theorem q325 : (Jvm.Cond.instanceMethod ({ cls := "java/util/ArrayList", name := "get", desc := "(I)Ljava/lang/Object;" } : Jvm.MethodName)) ∈ lw_all := lw_g (lw_at lw_m2 21 rfl) rfl
theorem q326 : (Jvm.Cond.selects "java/util/ArrayList" ({ cls := "java/util/ArrayList", name := "get", desc := "(I)Ljava/lang/Object;" } : Jvm.MethodName) ({ cls := "java/util/ArrayList", name := "get", desc := "(I)Ljava/lang/Object;" } : Jvm.MethodName)) ∈ lw_all := lw_g (lw_at lw_m2 22 rfl) rfl
theorem q327 : (Jvm.Cond.code ({ cls := "java/util/ArrayList", name := "get", desc := "(I)Ljava/lang/Object;" } : Jvm.MethodName) prog_35_method_20_code (2 : Nat) (Option.some (Jvm.ClassFile.FieldType.object "java/lang/Object"))) ∈ lw_all := lw_g (lw_at lw_m2 23 rfl) rfl
theorem q328 : (Jvm.Cond.methodLink "java/util/ArrayList" (118 : Nat) ({ cls := "java/util/Objects", name := "checkIndex", desc := "(II)I" } : Jvm.MethodName)) ∈ lw_all := lw_g (lw_at lw_m2 24 rfl) rfl
theorem q334 : (Jvm.Cond.methodLink "java/util/ArrayList" (123 : Nat) ({ cls := "java/util/ArrayList", name := "elementData", desc := "(I)Ljava/lang/Object;" } : Jvm.MethodName)) ∈ lw_all := lw_g (lw_at lw_m2 30 rfl) rfl
theorem q335 : (Jvm.Cond.instanceMethod ({ cls := "java/util/ArrayList", name := "elementData", desc := "(I)Ljava/lang/Object;" } : Jvm.MethodName)) ∈ lw_all := lw_g (lw_at lw_m2 31 rfl) rfl
theorem q336 : (Jvm.Cond.selects "java/util/ArrayList" ({ cls := "java/util/ArrayList", name := "elementData", desc := "(I)Ljava/lang/Object;" } : Jvm.MethodName) ({ cls := "java/util/ArrayList", name := "elementData", desc := "(I)Ljava/lang/Object;" } : Jvm.MethodName)) ∈ lw_all := lw_g (lw_at lw_m2 32 rfl) rfl
theorem q337 : (Jvm.Cond.code ({ cls := "java/util/ArrayList", name := "elementData", desc := "(I)Ljava/lang/Object;" } : Jvm.MethodName) prog_35_method_18_code (2 : Nat) (Option.some (Jvm.ClassFile.FieldType.object "java/lang/Object"))) ∈ lw_all := lw_g (lw_at lw_m2 33 rfl) rfl
theorem q344 : (Jvm.Cond.instanceMethod ({ cls := "java/util/ArrayList", name := "remove", desc := "(I)Ljava/lang/Object;" } : Jvm.MethodName)) ∈ lw_all := lw_g (lw_at lw_m2 40 rfl) rfl
theorem q345 : (Jvm.Cond.selects "java/util/ArrayList" ({ cls := "java/util/ArrayList", name := "remove", desc := "(I)Ljava/lang/Object;" } : Jvm.MethodName) ({ cls := "java/util/ArrayList", name := "remove", desc := "(I)Ljava/lang/Object;" } : Jvm.MethodName)) ∈ lw_all := lw_g (lw_at lw_m2 41 rfl) rfl
theorem q346 : (Jvm.Cond.code ({ cls := "java/util/ArrayList", name := "remove", desc := "(I)Ljava/lang/Object;" } : Jvm.MethodName) prog_35_method_29_code (4 : Nat) (Option.some (Jvm.ClassFile.FieldType.object "java/lang/Object"))) ∈ lw_all := lw_g (lw_at lw_m2 42 rfl) rfl
theorem q347 : (Jvm.Cond.methodLink "java/util/ArrayList" (144 : Nat) ({ cls := "java/util/ArrayList", name := "fastRemove", desc := "([Ljava/lang/Object;I)V" } : Jvm.MethodName)) ∈ lw_all := lw_g (lw_at lw_m2 43 rfl) rfl
theorem q348 : (Jvm.Cond.privateMethod ({ cls := "java/util/ArrayList", name := "fastRemove", desc := "([Ljava/lang/Object;I)V" } : Jvm.MethodName)) ∈ lw_tbl := lw_at lw_m2 44 rfl
theorem q349 : (Jvm.Cond.instanceMethod ({ cls := "java/util/ArrayList", name := "fastRemove", desc := "([Ljava/lang/Object;I)V" } : Jvm.MethodName)) ∈ lw_all := lw_g (lw_at lw_m2 45 rfl) rfl
theorem q350 : (Jvm.Cond.code ({ cls := "java/util/ArrayList", name := "fastRemove", desc := "([Ljava/lang/Object;I)V" } : Jvm.MethodName) prog_35_method_39_code (4 : Nat) (Option.none : Option Jvm.ClassFile.FieldType)) ∈ lw_all := lw_g (lw_at lw_m2 46 rfl) rfl
theorem q351 : (Jvm.Cond.methodLink "java/util/ArrayList" (112 : Nat) ({ cls := "java/lang/System", name := "arraycopy", desc := "(Ljava/lang/Object;ILjava/lang/Object;II)V" } : Jvm.MethodName)) ∈ lw_all := lw_g (lw_at lw_m2 47 rfl) rfl
theorem q643 : (Jvm.Cond.instanceMethod ({ cls := "java/util/ArrayList", name := "<init>", desc := "()V" } : Jvm.MethodName)) ∈ lw_all := lw_g (lw_at lw_m3 99 rfl) rfl
theorem q644 : (Jvm.Cond.code ({ cls := "java/util/ArrayList", name := "<init>", desc := "()V" } : Jvm.MethodName) prog_35_method_2_code (1 : Nat) (Option.none : Option Jvm.ClassFile.FieldType)) ∈ lw_all := lw_g (lw_at lw_m3 100 rfl) rfl
theorem q645 : (Jvm.Cond.methodLink "java/util/ArrayList" (1 : Nat) ({ cls := "java/util/AbstractList", name := "<init>", desc := "()V" } : Jvm.MethodName)) ∈ lw_all := lw_g (lw_at lw_m3 101 rfl) rfl
theorem q652 : (Jvm.Cond.fieldLink "java/util/ArrayList" (9 : Nat) "java/util/ArrayList" "elementData" "[Ljava/lang/Object;") ∈ lw_all := lw_g (lw_at lw_m3 108 rfl) rfl
theorem q653 : (Jvm.Cond.fieldLink "java/util/ArrayList" (48 : Nat) "java/util/ArrayList" "size" "I") ∈ lw_all := lw_g (lw_at lw_m3 109 rfl) rfl
theorem q655 : (Jvm.Cond.fieldLink "java/util/ArrayList" (63 : Nat) "java/util/ArrayList" "modCount" "I") ∈ lw_all := lw_g (lw_at lw_m3 111 rfl) rfl
theorem q656 : (Jvm.Cond.sameField "java/util/ArrayList" "java/util/AbstractList" "modCount" "I") ∈ lw_all := lw_g (lw_at lw_m3 112 rfl) rfl
theorem q657 : (Jvm.Cond.lays "java/util/ArrayList" "java/util/ArrayList" "elementData" "[Ljava/lang/Object;") ∈ lw_all := lw_g (lw_at lw_m3 113 rfl) rfl
theorem q658 : (Jvm.Cond.soleField "java/util/ArrayList" "elementData") ∈ lw_all := lw_g (lw_at lw_m3 114 rfl) rfl
theorem q659 : (Jvm.Cond.lays "java/util/ArrayList" "java/util/ArrayList" "size" "I") ∈ lw_all := lw_g (lw_at lw_m3 115 rfl) rfl
theorem q660 : (Jvm.Cond.soleField "java/util/ArrayList" "size") ∈ lw_all := lw_g (lw_at lw_m3 116 rfl) rfl
theorem q661 : (Jvm.Cond.lays "java/util/ArrayList" "java/util/AbstractList" "modCount" "I") ∈ lw_all := lw_g (lw_at lw_m3 117 rfl) rfl
theorem q663 : (Jvm.Cond.superclass "java/util/ArrayList" "java/util/AbstractList") ∈ lw_all := lw_g (lw_at lw_m3 119 rfl) rfl
theorem q1643 : (Jvm.Cond.castable "java/util/ArrayList" "java/lang/Object") ∈ lw_tbl := lw_at lw_m7 139 rfl
theorem in_J2 : ∀ w ∈ wsJ20, w ∈ lw_all := lw_in wsJ20 [661, 657, 659] (by decide +kernel) (by decide +kernel)
def RJ3 : String := "java/lang/Throwable"
def TJ3 : u_T := fun k => match k with
  | 0 => ("java/lang/Throwable", "cause", "Ljava/lang/Throwable;", false)
  | 1 => ("java/lang/Throwable", "stackTrace", "[Ljava/lang/StackTraceElement;", false)
  | 2 => ("java/lang/Throwable", "suppressedExceptions", "Ljava/util/List;", false)
  | 3 => ("java/lang/Throwable", "detailMessage", "Ljava/lang/String;", false)
  | _ => ("java/lang/Throwable", "backtrace", "Ljava/lang/Object;", false)
def tyJ3 : Nat → FieldType := fun k => match k with
  | 0 => .object "java/lang/Throwable"
  | 1 => .array (.object "java/lang/StackTraceElement")
  | 2 => .object "java/util/List"
  | 3 => .object "java/lang/String"
  | _ => .object "java/lang/Object"
abbrev wsJ30 : List Cond := u_ws RJ3 TJ3 5
theorem nmJ3 : ∀ a, a < 5 → ∀ b, b < 5 → a ≠ b → (TJ3 a).2.1 ≠ (TJ3 b).2.1 := by decide +kernel
theorem tyJ3_ok : ∀ k, k < 5 → parseFieldDescriptor (TJ3 k).2.2.1 = some (tyJ3 k) := by decide +kernel
abbrev cJ3_init : ByteArray := prog_32_method_1_code
def yJ3_init : MethodName := ⟨RJ3, "<init>", "()V"⟩
abbrev cJ3_init_2 : ByteArray := prog_32_method_2_code
def yJ3_init_2 : MethodName := ⟨RJ3, "<init>", "(Ljava/lang/String;)V"⟩
theorem q70 : (Jvm.Cond.initialized "java/lang/Throwable") ∈ lw_all := lw_g (lw_at lw_m1 6 rfl) rfl
theorem q774 : (Jvm.Cond.declares ({ cls := "java/lang/Throwable", name := "<init>", desc := "()V" } : Jvm.MethodName)) ∈ lw_tbl := lw_at lw_m3 230 rfl
theorem q775 : (Jvm.Cond.declares ({ cls := "java/lang/Throwable", name := "<init>", desc := "(Ljava/lang/String;)V" } : Jvm.MethodName)) ∈ lw_tbl := lw_at lw_m3 231 rfl
theorem q779 : (Jvm.Cond.lays "java/lang/Throwable" "java/lang/Throwable" "cause" "Ljava/lang/Throwable;") ∈ lw_all := lw_g (lw_at lw_m3 235 rfl) rfl
theorem q781 : (Jvm.Cond.lays "java/lang/Throwable" "java/lang/Throwable" "stackTrace" "[Ljava/lang/StackTraceElement;") ∈ lw_all := lw_g (lw_at lw_m3 237 rfl) rfl
theorem q783 : (Jvm.Cond.lays "java/lang/Throwable" "java/lang/Throwable" "suppressedExceptions" "Ljava/util/List;") ∈ lw_all := lw_g (lw_at lw_m3 239 rfl) rfl
theorem q785 : (Jvm.Cond.lays "java/lang/Throwable" "java/lang/Throwable" "detailMessage" "Ljava/lang/String;") ∈ lw_all := lw_g (lw_at lw_m4 1 rfl) rfl
theorem q787 : (Jvm.Cond.lays "java/lang/Throwable" "java/lang/Throwable" "backtrace" "Ljava/lang/Object;") ∈ lw_all := lw_g (lw_at lw_m4 3 rfl) rfl
theorem q788 : (Jvm.Cond.fieldLink "java/lang/Throwable" (198 : Nat) "java/lang/Throwable" "backtrace" "Ljava/lang/Object;") ∈ lw_all := lw_g (lw_at lw_m4 4 rfl) rfl
theorem q789 : (Jvm.Cond.superclass "java/lang/Throwable" "java/lang/Object") ∈ lw_all := lw_g (lw_at lw_m4 5 rfl) rfl
theorem q790 : (Jvm.Cond.instanceMethod ({ cls := "java/lang/Throwable", name := "<init>", desc := "()V" } : Jvm.MethodName)) ∈ lw_all := lw_g (lw_at lw_m4 6 rfl) rfl
theorem q791 : (Jvm.Cond.code ({ cls := "java/lang/Throwable", name := "<init>", desc := "()V" } : Jvm.MethodName) prog_32_method_1_code (1 : Nat) (Option.none : Option Jvm.ClassFile.FieldType)) ∈ lw_all := lw_g (lw_at lw_m4 7 rfl) rfl
theorem q792 : (Jvm.Cond.methodLink "java/lang/Throwable" (1 : Nat) ({ cls := "java/lang/Object", name := "<init>", desc := "()V" } : Jvm.MethodName)) ∈ lw_all := lw_g (lw_at lw_m4 8 rfl) rfl
theorem q793 : (Jvm.Cond.fieldLink "java/lang/Throwable" (13 : Nat) "java/lang/Throwable" "UNASSIGNED_STACK" "[Ljava/lang/StackTraceElement;") ∈ lw_all := lw_g (lw_at lw_m4 9 rfl) rfl
theorem q794 : (Jvm.Cond.laysStatic "java/lang/Throwable" "UNASSIGNED_STACK" "[Ljava/lang/StackTraceElement;") ∈ lw_tbl := lw_at lw_m4 10 rfl
theorem q795 : (Jvm.Cond.fieldLink "java/lang/Throwable" (20 : Nat) "java/lang/Throwable" "SUPPRESSED_SENTINEL" "Ljava/util/List;") ∈ lw_all := lw_g (lw_at lw_m4 11 rfl) rfl
theorem q796 : (Jvm.Cond.laysStatic "java/lang/Throwable" "SUPPRESSED_SENTINEL" "Ljava/util/List;") ∈ lw_tbl := lw_at lw_m4 12 rfl
theorem q797 : (Jvm.Cond.methodLink "java/lang/Throwable" (27 : Nat) ({ cls := "java/lang/Throwable", name := "fillInStackTrace", desc := "()Ljava/lang/Throwable;" } : Jvm.MethodName)) ∈ lw_all := lw_g (lw_at lw_m4 13 rfl) rfl
theorem q798 : (Jvm.Cond.instanceMethod ({ cls := "java/lang/Throwable", name := "fillInStackTrace", desc := "()Ljava/lang/Throwable;" } : Jvm.MethodName)) ∈ lw_all := lw_g (lw_at lw_m4 14 rfl) rfl
theorem q799 : (Jvm.Cond.sameMethod "java/lang/Throwable" "java/lang/Throwable" "fillInStackTrace" "()Ljava/lang/Throwable;") ∈ lw_all := lw_g (lw_at lw_m4 15 rfl) rfl
theorem q816 : (Jvm.Cond.declares ({ cls := "java/lang/Throwable", name := "fillInStackTrace", desc := "()Ljava/lang/Throwable;" } : Jvm.MethodName)) ∈ lw_tbl := lw_at lw_m4 32 rfl
theorem q820 : (Jvm.Cond.codeSync ({ cls := "java/lang/Throwable", name := "fillInStackTrace", desc := "()Ljava/lang/Throwable;" } : Jvm.MethodName) prog_32_method_18_code (1 : Nat) (Option.some (Jvm.ClassFile.FieldType.object "java/lang/Throwable"))) ∈ lw_all := lw_g (lw_at lw_m4 36 rfl) rfl
theorem q821 : (Jvm.Cond.methodLink "java/lang/Throwable" (202 : Nat) ({ cls := "java/lang/Throwable", name := "fillInStackTrace", desc := "(I)Ljava/lang/Throwable;" } : Jvm.MethodName)) ∈ lw_all := lw_g (lw_at lw_m4 37 rfl) rfl
theorem q822 : (Jvm.Cond.privateMethod ({ cls := "java/lang/Throwable", name := "fillInStackTrace", desc := "(I)Ljava/lang/Throwable;" } : Jvm.MethodName)) ∈ lw_tbl := lw_at lw_m4 38 rfl
theorem q823 : (Jvm.Cond.instanceMethod ({ cls := "java/lang/Throwable", name := "fillInStackTrace", desc := "(I)Ljava/lang/Throwable;" } : Jvm.MethodName)) ∈ lw_all := lw_g (lw_at lw_m4 39 rfl) rfl
theorem q824 : (Jvm.Cond.instantiable "java/lang/Throwable" (6 : Nat)) ∈ lw_all := lw_g (lw_at lw_m4 40 rfl) rfl
theorem q825 : (Jvm.Cond.native ({ cls := "java/lang/Throwable", name := "fillInStackTrace", desc := "(I)Ljava/lang/Throwable;" } : Jvm.MethodName)) ∈ lw_all := lw_g (lw_at lw_m4 41 rfl) rfl
theorem q836 : (Jvm.Cond.fieldLink "java/lang/Throwable" (198 : Nat) "java/lang/Throwable" "backtrace" "Ljava/lang/Object;") ∈ lw_all := lw_g (lw_at lw_m4 52 rfl) rfl
theorem q837 : (Jvm.Cond.fieldLink "java/lang/Throwable" (31 : Nat) "java/lang/Throwable" "detailMessage" "Ljava/lang/String;") ∈ lw_all := lw_g (lw_at lw_m4 53 rfl) rfl
theorem q838 : (Jvm.Cond.fieldLink "java/lang/Throwable" (7 : Nat) "java/lang/Throwable" "cause" "Ljava/lang/Throwable;") ∈ lw_all := lw_g (lw_at lw_m4 54 rfl) rfl
theorem q839 : (Jvm.Cond.fieldLink "java/lang/Throwable" (17 : Nat) "java/lang/Throwable" "stackTrace" "[Ljava/lang/StackTraceElement;") ∈ lw_all := lw_g (lw_at lw_m4 55 rfl) rfl
theorem q840 : (Jvm.Cond.fieldLink "java/lang/Throwable" (24 : Nat) "java/lang/Throwable" "suppressedExceptions" "Ljava/util/List;") ∈ lw_all := lw_g (lw_at lw_m4 56 rfl) rfl
theorem q841 : (Jvm.Cond.soleField "java/lang/Throwable" "backtrace") ∈ lw_all := lw_g (lw_at lw_m4 57 rfl) rfl
theorem q842 : (Jvm.Cond.soleField "java/lang/Throwable" "detailMessage") ∈ lw_all := lw_g (lw_at lw_m4 58 rfl) rfl
theorem q843 : (Jvm.Cond.soleField "java/lang/Throwable" "cause") ∈ lw_all := lw_g (lw_at lw_m4 59 rfl) rfl
theorem q844 : (Jvm.Cond.soleField "java/lang/Throwable" "stackTrace") ∈ lw_all := lw_g (lw_at lw_m4 60 rfl) rfl
theorem q846 : (Jvm.Cond.soleField "java/lang/Throwable" "depth") ∈ lw_all := lw_g (lw_at lw_m4 62 rfl) rfl
theorem q847 : (Jvm.Cond.soleField "java/lang/Throwable" "suppressedExceptions") ∈ lw_all := lw_g (lw_at lw_m4 63 rfl) rfl
theorem q982 : (Jvm.Cond.instanceMethod ({ cls := "java/lang/Throwable", name := "<init>", desc := "(Ljava/lang/String;)V" } : Jvm.MethodName)) ∈ lw_all := lw_g (lw_at lw_m4 198 rfl) rfl
theorem q983 : (Jvm.Cond.code ({ cls := "java/lang/Throwable", name := "<init>", desc := "(Ljava/lang/String;)V" } : Jvm.MethodName) prog_32_method_2_code (2 : Nat) (Option.none : Option Jvm.ClassFile.FieldType)) ∈ lw_all := lw_g (lw_at lw_m4 199 rfl) rfl
theorem q1631 : (Jvm.Cond.sameMethod "java/lang/Throwable" "java/lang/Throwable" "fillInStackTrace" "(I)Ljava/lang/Throwable;") ∈ lw_all := lw_g (lw_at lw_m7 127 rfl) rfl
theorem q1662 : (Jvm.Cond.castable "java/lang/Throwable" "java/lang/Object") ∈ lw_tbl := lw_at lw_m7 158 rfl
theorem in_J3 : ∀ w ∈ wsJ30, w ∈ lw_all := lw_in wsJ30 [779, 781, 783, 785, 787] (by decide +kernel) (by decide +kernel)
def RJ4 : String := "java/lang/Exception"
abbrev cJ4_init : ByteArray := prog_21_method_1_code
def yJ4_init : MethodName := ⟨RJ4, "<init>", "()V"⟩
abbrev cJ4_init_2 : ByteArray := prog_21_method_2_code
def yJ4_init_2 : MethodName := ⟨RJ4, "<init>", "(Ljava/lang/String;)V"⟩
theorem q71 : (Jvm.Cond.initialized "java/lang/Exception") ∈ lw_all := lw_g (lw_at lw_m1 7 rfl) rfl
theorem q772 : (Jvm.Cond.declares ({ cls := "java/lang/Exception", name := "<init>", desc := "()V" } : Jvm.MethodName)) ∈ lw_tbl := lw_at lw_m3 228 rfl
theorem q773 : (Jvm.Cond.declares ({ cls := "java/lang/Exception", name := "<init>", desc := "(Ljava/lang/String;)V" } : Jvm.MethodName)) ∈ lw_tbl := lw_at lw_m3 229 rfl
theorem q819 : (Jvm.Cond.superclass "java/lang/Exception" "java/lang/Throwable") ∈ lw_all := lw_g (lw_at lw_m4 35 rfl) rfl
theorem q833 : (Jvm.Cond.instanceMethod ({ cls := "java/lang/Exception", name := "<init>", desc := "()V" } : Jvm.MethodName)) ∈ lw_all := lw_g (lw_at lw_m4 49 rfl) rfl
theorem q834 : (Jvm.Cond.code ({ cls := "java/lang/Exception", name := "<init>", desc := "()V" } : Jvm.MethodName) prog_21_method_1_code (1 : Nat) (Option.none : Option Jvm.ClassFile.FieldType)) ∈ lw_all := lw_g (lw_at lw_m4 50 rfl) rfl
theorem q835 : (Jvm.Cond.methodLink "java/lang/Exception" (1 : Nat) ({ cls := "java/lang/Throwable", name := "<init>", desc := "()V" } : Jvm.MethodName)) ∈ lw_all := lw_g (lw_at lw_m4 51 rfl) rfl
theorem q979 : (Jvm.Cond.instanceMethod ({ cls := "java/lang/Exception", name := "<init>", desc := "(Ljava/lang/String;)V" } : Jvm.MethodName)) ∈ lw_all := lw_g (lw_at lw_m4 195 rfl) rfl
theorem q980 : (Jvm.Cond.code ({ cls := "java/lang/Exception", name := "<init>", desc := "(Ljava/lang/String;)V" } : Jvm.MethodName) prog_21_method_2_code (2 : Nat) (Option.none : Option Jvm.ClassFile.FieldType)) ∈ lw_all := lw_g (lw_at lw_m4 196 rfl) rfl
theorem q981 : (Jvm.Cond.methodLink "java/lang/Exception" (7 : Nat) ({ cls := "java/lang/Throwable", name := "<init>", desc := "(Ljava/lang/String;)V" } : Jvm.MethodName)) ∈ lw_all := lw_g (lw_at lw_m4 197 rfl) rfl
def RJ5 : String := "java/lang/RuntimeException"
abbrev cJ5_init : ByteArray := prog_29_method_1_code
def yJ5_init : MethodName := ⟨RJ5, "<init>", "()V"⟩
abbrev cJ5_init_2 : ByteArray := prog_29_method_2_code
def yJ5_init_2 : MethodName := ⟨RJ5, "<init>", "(Ljava/lang/String;)V"⟩
theorem q72 : (Jvm.Cond.initialized "java/lang/RuntimeException") ∈ lw_all := lw_g (lw_at lw_m1 8 rfl) rfl
theorem q770 : (Jvm.Cond.declares ({ cls := "java/lang/RuntimeException", name := "<init>", desc := "()V" } : Jvm.MethodName)) ∈ lw_tbl := lw_at lw_m3 226 rfl
theorem q771 : (Jvm.Cond.declares ({ cls := "java/lang/RuntimeException", name := "<init>", desc := "(Ljava/lang/String;)V" } : Jvm.MethodName)) ∈ lw_tbl := lw_at lw_m3 227 rfl
theorem q815 : (Jvm.Cond.sameMethod "java/lang/RuntimeException" "java/lang/Throwable" "fillInStackTrace" "()Ljava/lang/Throwable;") ∈ lw_all := lw_g (lw_at lw_m4 31 rfl) rfl
theorem q818 : (Jvm.Cond.superclass "java/lang/RuntimeException" "java/lang/Exception") ∈ lw_all := lw_g (lw_at lw_m4 34 rfl) rfl
theorem q830 : (Jvm.Cond.instanceMethod ({ cls := "java/lang/RuntimeException", name := "<init>", desc := "()V" } : Jvm.MethodName)) ∈ lw_all := lw_g (lw_at lw_m4 46 rfl) rfl
theorem q831 : (Jvm.Cond.code ({ cls := "java/lang/RuntimeException", name := "<init>", desc := "()V" } : Jvm.MethodName) prog_29_method_1_code (1 : Nat) (Option.none : Option Jvm.ClassFile.FieldType)) ∈ lw_all := lw_g (lw_at lw_m4 47 rfl) rfl
theorem q832 : (Jvm.Cond.methodLink "java/lang/RuntimeException" (1 : Nat) ({ cls := "java/lang/Exception", name := "<init>", desc := "()V" } : Jvm.MethodName)) ∈ lw_all := lw_g (lw_at lw_m4 48 rfl) rfl
theorem q976 : (Jvm.Cond.instanceMethod ({ cls := "java/lang/RuntimeException", name := "<init>", desc := "(Ljava/lang/String;)V" } : Jvm.MethodName)) ∈ lw_all := lw_g (lw_at lw_m4 192 rfl) rfl
theorem q977 : (Jvm.Cond.code ({ cls := "java/lang/RuntimeException", name := "<init>", desc := "(Ljava/lang/String;)V" } : Jvm.MethodName) prog_29_method_2_code (2 : Nat) (Option.none : Option Jvm.ClassFile.FieldType)) ∈ lw_all := lw_g (lw_at lw_m4 193 rfl) rfl
theorem q978 : (Jvm.Cond.methodLink "java/lang/RuntimeException" (7 : Nat) ({ cls := "java/lang/Exception", name := "<init>", desc := "(Ljava/lang/String;)V" } : Jvm.MethodName)) ∈ lw_all := lw_g (lw_at lw_m4 194 rfl) rfl
theorem q1048 : (Jvm.Cond.castable "java/lang/RuntimeException" "java/lang/Throwable") ∈ lw_tbl := lw_at lw_m5 24 rfl
def RJ6 : String := "java/lang/Math"
abbrev cJ6_max : ByteArray := prog_26_method_65_code
def yJ6_max : MethodName := ⟨RJ6, "max", "(II)I"⟩
abbrev cJ6_min : ByteArray := prog_26_method_69_code
def yJ6_min : MethodName := ⟨RJ6, "min", "(II)I"⟩
abbrev cJ6_min_2 : ByteArray := prog_26_method_70_code
def yJ6_min_2 : MethodName := ⟨RJ6, "min", "(JJ)J"⟩
abbrev cJ6_max_2 : ByteArray := prog_26_method_66_code
def yJ6_max_2 : MethodName := ⟨RJ6, "max", "(JJ)J"⟩
theorem q81 : (Jvm.Cond.initialized "java/lang/Math") ∈ lw_all := lw_g (lw_at lw_m1 17 rfl) rfl
theorem q173 : (Jvm.Cond.static ({ cls := "java/lang/Math", name := "max", desc := "(II)I" } : Jvm.MethodName)) ∈ lw_all := lw_g (lw_at lw_m1 109 rfl) rfl
theorem q174 : (Jvm.Cond.code ({ cls := "java/lang/Math", name := "max", desc := "(II)I" } : Jvm.MethodName) prog_26_method_65_code (2 : Nat) (Option.some Jvm.ClassFile.FieldType.int)) ∈ lw_all := lw_g (lw_at lw_m1 110 rfl) rfl
theorem q308 : (Jvm.Cond.static ({ cls := "java/lang/Math", name := "min", desc := "(II)I" } : Jvm.MethodName)) ∈ lw_all := lw_g (lw_at lw_m2 4 rfl) rfl
theorem q309 : (Jvm.Cond.code ({ cls := "java/lang/Math", name := "min", desc := "(II)I" } : Jvm.MethodName) prog_26_method_69_code (2 : Nat) (Option.some Jvm.ClassFile.FieldType.int)) ∈ lw_all := lw_g (lw_at lw_m2 5 rfl) rfl
theorem q639 : (Jvm.Cond.static ({ cls := "java/lang/Math", name := "min", desc := "(JJ)J" } : Jvm.MethodName)) ∈ lw_all := lw_g (lw_at lw_m3 95 rfl) rfl
theorem q640 : (Jvm.Cond.code ({ cls := "java/lang/Math", name := "min", desc := "(JJ)J" } : Jvm.MethodName) prog_26_method_70_code (4 : Nat) (Option.some Jvm.ClassFile.FieldType.long)) ∈ lw_all := lw_g (lw_at lw_m3 96 rfl) rfl
theorem q691 : (Jvm.Cond.static ({ cls := "java/lang/Math", name := "max", desc := "(JJ)J" } : Jvm.MethodName)) ∈ lw_all := lw_g (lw_at lw_m3 147 rfl) rfl
theorem q692 : (Jvm.Cond.code ({ cls := "java/lang/Math", name := "max", desc := "(JJ)J" } : Jvm.MethodName) prog_26_method_66_code (4 : Nat) (Option.some Jvm.ClassFile.FieldType.long)) ∈ lw_all := lw_g (lw_at lw_m3 148 rfl) rfl
def RJ7 : String := "jdk/internal/util/ArraysSupport"
abbrev cJ7_newLength : ByteArray := prog_42_method_27_code
def yJ7_newLength : MethodName := ⟨RJ7, "newLength", "(III)I"⟩
abbrev cJ7_hugeLength : ByteArray := prog_42_method_28_code
def yJ7_hugeLength : MethodName := ⟨RJ7, "hugeLength", "(II)I"⟩
theorem q86 : (Jvm.Cond.initialized "jdk/internal/util/ArraysSupport") ∈ lw_all := lw_g (lw_at lw_m1 22 rfl) rfl
theorem q266 : (Jvm.Cond.static ({ cls := "jdk/internal/util/ArraysSupport", name := "newLength", desc := "(III)I" } : Jvm.MethodName)) ∈ lw_all := lw_g (lw_at lw_m1 202 rfl) rfl
theorem q267 : (Jvm.Cond.code ({ cls := "jdk/internal/util/ArraysSupport", name := "newLength", desc := "(III)I" } : Jvm.MethodName) prog_42_method_27_code (4 : Nat) (Option.some Jvm.ClassFile.FieldType.int)) ∈ lw_all := lw_g (lw_at lw_m1 203 rfl) rfl
theorem q268 : (Jvm.Cond.methodLink "jdk/internal/util/ArraysSupport" (194 : Nat) ({ cls := "java/lang/Math", name := "max", desc := "(II)I" } : Jvm.MethodName)) ∈ lw_all := lw_g (lw_at lw_m1 204 rfl) rfl
theorem q269 : (Jvm.Cond.constant "jdk/internal/util/ArraysSupport" (200 : Nat) (2147483639 : Int32)) ∈ lw_all := lw_g (lw_at lw_m1 205 rfl) rfl
theorem q270 : (Jvm.Cond.methodLink "jdk/internal/util/ArraysSupport" (201 : Nat) ({ cls := "jdk/internal/util/ArraysSupport", name := "hugeLength", desc := "(II)I" } : Jvm.MethodName)) ∈ lw_all := lw_g (lw_at lw_m1 206 rfl) rfl
theorem q271 : (Jvm.Cond.static ({ cls := "jdk/internal/util/ArraysSupport", name := "hugeLength", desc := "(II)I" } : Jvm.MethodName)) ∈ lw_all := lw_g (lw_at lw_m1 207 rfl) rfl
theorem q272 : (Jvm.Cond.code ({ cls := "jdk/internal/util/ArraysSupport", name := "hugeLength", desc := "(II)I" } : Jvm.MethodName) prog_42_method_28_code (3 : Nat) (Option.some Jvm.ClassFile.FieldType.int)) ∈ lw_all := lw_g (lw_at lw_m1 208 rfl) rfl
def RJ8 : String := "java/util/Arrays"
abbrev cJ8_copyOf : ByteArray := prog_36_method_119_code
def yJ8_copyOf : MethodName := ⟨RJ8, "copyOf", "([Ljava/lang/Object;I)[Ljava/lang/Object;"⟩
abbrev cJ8_copyOf_2 : ByteArray := prog_36_method_120_code
def yJ8_copyOf_2 : MethodName := ⟨RJ8, "copyOf", "([Ljava/lang/Object;ILjava/lang/Class;)[Ljava/lang/Object;"⟩
theorem q87 : (Jvm.Cond.initialized "java/util/Arrays") ∈ lw_all := lw_g (lw_at lw_m1 23 rfl) rfl
theorem q274 : (Jvm.Cond.static ({ cls := "java/util/Arrays", name := "copyOf", desc := "([Ljava/lang/Object;I)[Ljava/lang/Object;" } : Jvm.MethodName)) ∈ lw_all := lw_g (lw_at lw_m1 210 rfl) rfl
theorem q275 : (Jvm.Cond.code ({ cls := "java/util/Arrays", name := "copyOf", desc := "([Ljava/lang/Object;I)[Ljava/lang/Object;" } : Jvm.MethodName) prog_36_method_119_code (2 : Nat) (Option.some (Jvm.ClassFile.FieldType.array (Jvm.ClassFile.FieldType.object "java/lang/Object")))) ∈ lw_all := lw_g (lw_at lw_m1 211 rfl) rfl
theorem q276 : (Jvm.Cond.methodLink "java/util/Arrays" (86 : Nat) ({ cls := "java/lang/Object", name := "getClass", desc := "()Ljava/lang/Class;" } : Jvm.MethodName)) ∈ lw_all := lw_g (lw_at lw_m1 212 rfl) rfl
theorem q301 : (Jvm.Cond.methodLink "java/util/Arrays" (300 : Nat) ({ cls := "java/util/Arrays", name := "copyOf", desc := "([Ljava/lang/Object;ILjava/lang/Class;)[Ljava/lang/Object;" } : Jvm.MethodName)) ∈ lw_all := lw_g (lw_at lw_m1 237 rfl) rfl
theorem q302 : (Jvm.Cond.static ({ cls := "java/util/Arrays", name := "copyOf", desc := "([Ljava/lang/Object;ILjava/lang/Class;)[Ljava/lang/Object;" } : Jvm.MethodName)) ∈ lw_all := lw_g (lw_at lw_m1 238 rfl) rfl
theorem q303 : (Jvm.Cond.code ({ cls := "java/util/Arrays", name := "copyOf", desc := "([Ljava/lang/Object;ILjava/lang/Class;)[Ljava/lang/Object;" } : Jvm.MethodName) prog_36_method_120_code (4 : Nat) (Option.some (Jvm.ClassFile.FieldType.array (Jvm.ClassFile.FieldType.object "java/lang/Object")))) ∈ lw_all := lw_g (lw_at lw_m1 239 rfl) rfl
theorem q304 : (Jvm.Cond.classLink "java/util/Arrays" (110 : Nat) "[Ljava/lang/Object;") ∈ lw_all := lw_g (lw_at lw_m2 0 rfl) rfl
theorem q306 : (Jvm.Cond.classLink "java/util/Arrays" (2 : Nat) "java/lang/Object") ∈ lw_all := lw_g (lw_at lw_m2 2 rfl) rfl
theorem q307 : (Jvm.Cond.methodLink "java/util/Arrays" (304 : Nat) ({ cls := "java/lang/Math", name := "min", desc := "(II)I" } : Jvm.MethodName)) ∈ lw_all := lw_g (lw_at lw_m2 3 rfl) rfl
theorem q310 : (Jvm.Cond.methodLink "java/util/Arrays" (150 : Nat) ({ cls := "java/lang/System", name := "arraycopy", desc := "(Ljava/lang/Object;ILjava/lang/Object;II)V" } : Jvm.MethodName)) ∈ lw_all := lw_g (lw_at lw_m2 6 rfl) rfl
def RJ9 : String := "java/util/Objects"
abbrev cJ9_checkIndex : ByteArray := prog_39_method_17_code
def yJ9_checkIndex : MethodName := ⟨RJ9, "checkIndex", "(II)I"⟩
theorem q89 : (Jvm.Cond.initialized "java/util/Objects") ∈ lw_all := lw_g (lw_at lw_m1 25 rfl) rfl
theorem q329 : (Jvm.Cond.static ({ cls := "java/util/Objects", name := "checkIndex", desc := "(II)I" } : Jvm.MethodName)) ∈ lw_all := lw_g (lw_at lw_m2 25 rfl) rfl
theorem q330 : (Jvm.Cond.code ({ cls := "java/util/Objects", name := "checkIndex", desc := "(II)I" } : Jvm.MethodName) prog_39_method_17_code (2 : Nat) (Option.some Jvm.ClassFile.FieldType.int)) ∈ lw_all := lw_g (lw_at lw_m2 26 rfl) rfl
theorem q331 : (Jvm.Cond.methodLink "java/util/Objects" (105 : Nat) ({ cls := "jdk/internal/util/Preconditions", name := "checkIndex", desc := "(IILjava/util/function/BiFunction;)I" } : Jvm.MethodName)) ∈ lw_all := lw_g (lw_at lw_m2 27 rfl) rfl
def RJ10 : String := "jdk/internal/util/Preconditions"
abbrev cJ10_checkIndex : ByteArray := prog_43_method_11_code
def yJ10_checkIndex : MethodName := ⟨RJ10, "checkIndex", "(IILjava/util/function/BiFunction;)I"⟩
theorem q90 : (Jvm.Cond.initialized "jdk/internal/util/Preconditions") ∈ lw_all := lw_g (lw_at lw_m1 26 rfl) rfl
theorem q332 : (Jvm.Cond.static ({ cls := "jdk/internal/util/Preconditions", name := "checkIndex", desc := "(IILjava/util/function/BiFunction;)I" } : Jvm.MethodName)) ∈ lw_all := lw_g (lw_at lw_m2 28 rfl) rfl
theorem q333 : (Jvm.Cond.code ({ cls := "jdk/internal/util/Preconditions", name := "checkIndex", desc := "(IILjava/util/function/BiFunction;)I" } : Jvm.MethodName) prog_43_method_11_code (3 : Nat) (Option.some Jvm.ClassFile.FieldType.int)) ∈ lw_all := lw_g (lw_at lw_m2 29 rfl) rfl
def RJ11 : String := "java/lang/IllegalArgumentException"
def TJ11 : u_T := fun k => match k with
  | 0 => ("java/lang/Throwable", "cause", "Ljava/lang/Throwable;", false)
  | 1 => ("java/lang/Throwable", "stackTrace", "[Ljava/lang/StackTraceElement;", false)
  | 2 => ("java/lang/Throwable", "suppressedExceptions", "Ljava/util/List;", false)
  | 3 => ("java/lang/Throwable", "detailMessage", "Ljava/lang/String;", false)
  | 4 => ("java/lang/Throwable", "backtrace", "Ljava/lang/Object;", false)
  | _ => ("java/lang/Throwable", "depth", "I", false)
def tyJ11 : Nat → FieldType := fun k => match k with
  | 0 => .object "java/lang/Throwable"
  | 1 => .array (.object "java/lang/StackTraceElement")
  | 2 => .object "java/util/List"
  | 3 => .object "java/lang/String"
  | 4 => .object "java/lang/Object"
  | _ => .int
abbrev wsJ110 : List Cond := u_ws RJ11 TJ11 6
theorem nmJ11 : ∀ a, a < 6 → ∀ b, b < 6 → a ≠ b → (TJ11 a).2.1 ≠ (TJ11 b).2.1 := by decide +kernel
theorem tyJ11_ok : ∀ k, k < 6 → parseFieldDescriptor (TJ11 k).2.2.1 = some (tyJ11 k) := by decide +kernel
abbrev cJ11_init : ByteArray := prog_22_method_1_code
def yJ11_init : MethodName := ⟨RJ11, "<init>", "()V"⟩
theorem q91 : (Jvm.Cond.initialized "java/lang/IllegalArgumentException") ∈ lw_all := lw_g (lw_at lw_m1 27 rfl) rfl
theorem q295 : (Jvm.Cond.selects "java/lang/IllegalArgumentException" ({ cls := "java/lang/Object", name := "getClass", desc := "()Ljava/lang/Class;" } : Jvm.MethodName) ({ cls := "java/lang/Object", name := "getClass", desc := "()Ljava/lang/Class;" } : Jvm.MethodName)) ∈ lw_all := lw_g (lw_at lw_m1 231 rfl) rfl
theorem q803 : (Jvm.Cond.selects "java/lang/IllegalArgumentException" ({ cls := "java/lang/Throwable", name := "fillInStackTrace", desc := "()Ljava/lang/Throwable;" } : Jvm.MethodName) ({ cls := "java/lang/Throwable", name := "fillInStackTrace", desc := "()Ljava/lang/Throwable;" } : Jvm.MethodName)) ∈ lw_all := lw_g (lw_at lw_m4 19 rfl) rfl
theorem q1140 : (Jvm.Cond.instantiable "java/lang/IllegalArgumentException" (6 : Nat)) ∈ lw_all := lw_g (lw_at lw_m5 116 rfl) rfl
theorem q1141 : (Jvm.Cond.castable "java/lang/IllegalArgumentException" "java/lang/IllegalArgumentException") ∈ lw_tbl := lw_at lw_m5 117 rfl
theorem q1142 : (Jvm.Cond.selects "java/lang/IllegalArgumentException" ({ cls := "java/lang/Throwable", name := "fillInStackTrace", desc := "(I)Ljava/lang/Throwable;" } : Jvm.MethodName) ({ cls := "java/lang/Throwable", name := "fillInStackTrace", desc := "(I)Ljava/lang/Throwable;" } : Jvm.MethodName)) ∈ lw_all := lw_g (lw_at lw_m5 118 rfl) rfl
theorem q1143 : (Jvm.Cond.lays "java/lang/IllegalArgumentException" "java/lang/Throwable" "cause" "Ljava/lang/Throwable;") ∈ lw_all := lw_g (lw_at lw_m5 119 rfl) rfl
theorem q1144 : (Jvm.Cond.lays "java/lang/IllegalArgumentException" "java/lang/Throwable" "stackTrace" "[Ljava/lang/StackTraceElement;") ∈ lw_all := lw_g (lw_at lw_m5 120 rfl) rfl
theorem q1145 : (Jvm.Cond.lays "java/lang/IllegalArgumentException" "java/lang/Throwable" "suppressedExceptions" "Ljava/util/List;") ∈ lw_all := lw_g (lw_at lw_m5 121 rfl) rfl
theorem q1146 : (Jvm.Cond.lays "java/lang/IllegalArgumentException" "java/lang/Throwable" "detailMessage" "Ljava/lang/String;") ∈ lw_all := lw_g (lw_at lw_m5 122 rfl) rfl
theorem q1147 : (Jvm.Cond.lays "java/lang/IllegalArgumentException" "java/lang/Throwable" "backtrace" "Ljava/lang/Object;") ∈ lw_all := lw_g (lw_at lw_m5 123 rfl) rfl
theorem q1149 : (Jvm.Cond.instanceMethod ({ cls := "java/lang/IllegalArgumentException", name := "<init>", desc := "()V" } : Jvm.MethodName)) ∈ lw_all := lw_g (lw_at lw_m5 125 rfl) rfl
theorem q1150 : (Jvm.Cond.code ({ cls := "java/lang/IllegalArgumentException", name := "<init>", desc := "()V" } : Jvm.MethodName) prog_22_method_1_code (1 : Nat) (Option.none : Option Jvm.ClassFile.FieldType)) ∈ lw_all := lw_g (lw_at lw_m5 126 rfl) rfl
theorem q1151 : (Jvm.Cond.methodLink "java/lang/IllegalArgumentException" (1 : Nat) ({ cls := "java/lang/RuntimeException", name := "<init>", desc := "()V" } : Jvm.MethodName)) ∈ lw_all := lw_g (lw_at lw_m5 127 rfl) rfl
theorem q1152 : (Jvm.Cond.lays "java/lang/IllegalArgumentException" "java/lang/Throwable" "depth" "I") ∈ lw_all := lw_g (lw_at lw_m5 128 rfl) rfl
theorem q1153 : (Jvm.Cond.superclass "java/lang/IllegalArgumentException" "java/lang/RuntimeException") ∈ lw_all := lw_g (lw_at lw_m5 129 rfl) rfl
theorem q1655 : (Jvm.Cond.castable "java/lang/IllegalArgumentException" "java/lang/Object") ∈ lw_tbl := lw_at lw_m7 151 rfl
theorem in_J11 : ∀ w ∈ wsJ110, w ∈ lw_all := lw_in wsJ110 [1143, 1144, 1145, 1146, 1147, 1152] (by decide +kernel) (by decide +kernel)
def RJ12 : String := "java/lang/IllegalStateException"
def TJ12 : u_T := fun k => match k with
  | 0 => ("java/lang/Throwable", "cause", "Ljava/lang/Throwable;", false)
  | 1 => ("java/lang/Throwable", "stackTrace", "[Ljava/lang/StackTraceElement;", false)
  | 2 => ("java/lang/Throwable", "suppressedExceptions", "Ljava/util/List;", false)
  | 3 => ("java/lang/Throwable", "detailMessage", "Ljava/lang/String;", false)
  | 4 => ("java/lang/Throwable", "backtrace", "Ljava/lang/Object;", false)
  | _ => ("java/lang/Throwable", "depth", "I", false)
def tyJ12 : Nat → FieldType := fun k => match k with
  | 0 => .object "java/lang/Throwable"
  | 1 => .array (.object "java/lang/StackTraceElement")
  | 2 => .object "java/util/List"
  | 3 => .object "java/lang/String"
  | 4 => .object "java/lang/Object"
  | _ => .int
abbrev wsJ120 : List Cond := u_ws RJ12 TJ12 6
theorem nmJ12 : ∀ a, a < 6 → ∀ b, b < 6 → a ≠ b → (TJ12 a).2.1 ≠ (TJ12 b).2.1 := by decide +kernel
theorem tyJ12_ok : ∀ k, k < 6 → parseFieldDescriptor (TJ12 k).2.2.1 = some (tyJ12 k) := by decide +kernel
abbrev cJ12_init : ByteArray := prog_23_method_1_code
def yJ12_init : MethodName := ⟨RJ12, "<init>", "()V"⟩
theorem q92 : (Jvm.Cond.initialized "java/lang/IllegalStateException") ∈ lw_all := lw_g (lw_at lw_m1 28 rfl) rfl
theorem q296 : (Jvm.Cond.selects "java/lang/IllegalStateException" ({ cls := "java/lang/Object", name := "getClass", desc := "()Ljava/lang/Class;" } : Jvm.MethodName) ({ cls := "java/lang/Object", name := "getClass", desc := "()Ljava/lang/Class;" } : Jvm.MethodName)) ∈ lw_all := lw_g (lw_at lw_m1 232 rfl) rfl
theorem q804 : (Jvm.Cond.selects "java/lang/IllegalStateException" ({ cls := "java/lang/Throwable", name := "fillInStackTrace", desc := "()Ljava/lang/Throwable;" } : Jvm.MethodName) ({ cls := "java/lang/Throwable", name := "fillInStackTrace", desc := "()Ljava/lang/Throwable;" } : Jvm.MethodName)) ∈ lw_all := lw_g (lw_at lw_m4 20 rfl) rfl
theorem q1163 : (Jvm.Cond.instantiable "java/lang/IllegalStateException" (6 : Nat)) ∈ lw_all := lw_g (lw_at lw_m5 139 rfl) rfl
theorem q1164 : (Jvm.Cond.castable "java/lang/IllegalStateException" "java/lang/IllegalStateException") ∈ lw_tbl := lw_at lw_m5 140 rfl
theorem q1165 : (Jvm.Cond.selects "java/lang/IllegalStateException" ({ cls := "java/lang/Throwable", name := "fillInStackTrace", desc := "(I)Ljava/lang/Throwable;" } : Jvm.MethodName) ({ cls := "java/lang/Throwable", name := "fillInStackTrace", desc := "(I)Ljava/lang/Throwable;" } : Jvm.MethodName)) ∈ lw_all := lw_g (lw_at lw_m5 141 rfl) rfl
theorem q1166 : (Jvm.Cond.lays "java/lang/IllegalStateException" "java/lang/Throwable" "cause" "Ljava/lang/Throwable;") ∈ lw_all := lw_g (lw_at lw_m5 142 rfl) rfl
theorem q1167 : (Jvm.Cond.lays "java/lang/IllegalStateException" "java/lang/Throwable" "stackTrace" "[Ljava/lang/StackTraceElement;") ∈ lw_all := lw_g (lw_at lw_m5 143 rfl) rfl
theorem q1168 : (Jvm.Cond.lays "java/lang/IllegalStateException" "java/lang/Throwable" "suppressedExceptions" "Ljava/util/List;") ∈ lw_all := lw_g (lw_at lw_m5 144 rfl) rfl
theorem q1169 : (Jvm.Cond.lays "java/lang/IllegalStateException" "java/lang/Throwable" "detailMessage" "Ljava/lang/String;") ∈ lw_all := lw_g (lw_at lw_m5 145 rfl) rfl
theorem q1170 : (Jvm.Cond.lays "java/lang/IllegalStateException" "java/lang/Throwable" "backtrace" "Ljava/lang/Object;") ∈ lw_all := lw_g (lw_at lw_m5 146 rfl) rfl
theorem q1172 : (Jvm.Cond.instanceMethod ({ cls := "java/lang/IllegalStateException", name := "<init>", desc := "()V" } : Jvm.MethodName)) ∈ lw_all := lw_g (lw_at lw_m5 148 rfl) rfl
theorem q1173 : (Jvm.Cond.code ({ cls := "java/lang/IllegalStateException", name := "<init>", desc := "()V" } : Jvm.MethodName) prog_23_method_1_code (1 : Nat) (Option.none : Option Jvm.ClassFile.FieldType)) ∈ lw_all := lw_g (lw_at lw_m5 149 rfl) rfl
theorem q1174 : (Jvm.Cond.methodLink "java/lang/IllegalStateException" (1 : Nat) ({ cls := "java/lang/RuntimeException", name := "<init>", desc := "()V" } : Jvm.MethodName)) ∈ lw_all := lw_g (lw_at lw_m5 150 rfl) rfl
theorem q1175 : (Jvm.Cond.lays "java/lang/IllegalStateException" "java/lang/Throwable" "depth" "I") ∈ lw_all := lw_g (lw_at lw_m5 151 rfl) rfl
theorem q1176 : (Jvm.Cond.superclass "java/lang/IllegalStateException" "java/lang/RuntimeException") ∈ lw_all := lw_g (lw_at lw_m5 152 rfl) rfl
theorem q1656 : (Jvm.Cond.castable "java/lang/IllegalStateException" "java/lang/Object") ∈ lw_tbl := lw_at lw_m7 152 rfl
theorem in_J12 : ∀ w ∈ wsJ120, w ∈ lw_all := lw_in wsJ120 [1166, 1167, 1168, 1169, 1170, 1175] (by decide +kernel) (by decide +kernel)
def RJ13 : String := "java/lang/NegativeArraySizeException"
def TJ13 : u_T := fun k => match k with
  | 0 => ("java/lang/Throwable", "backtrace", "Ljava/lang/Object;", false)
  | 1 => ("java/lang/Throwable", "detailMessage", "Ljava/lang/String;", false)
  | 2 => ("java/lang/Throwable", "cause", "Ljava/lang/Throwable;", false)
  | 3 => ("java/lang/Throwable", "stackTrace", "[Ljava/lang/StackTraceElement;", false)
  | 4 => ("java/lang/Throwable", "depth", "I", false)
  | _ => ("java/lang/Throwable", "suppressedExceptions", "Ljava/util/List;", false)
def tyJ13 : Nat → FieldType := fun k => match k with
  | 0 => .object "java/lang/Object"
  | 1 => .object "java/lang/String"
  | 2 => .object "java/lang/Throwable"
  | 3 => .array (.object "java/lang/StackTraceElement")
  | 4 => .int
  | _ => .object "java/util/List"
abbrev wsJ130 : List Cond := u_ws RJ13 TJ13 6
theorem nmJ13 : ∀ a, a < 6 → ∀ b, b < 6 → a ≠ b → (TJ13 a).2.1 ≠ (TJ13 b).2.1 := by decide +kernel
theorem tyJ13_ok : ∀ k, k < 6 → parseFieldDescriptor (TJ13 k).2.2.1 = some (tyJ13 k) := by decide +kernel
abbrev cJ13_init : ByteArray := prog_27_method_2_code
def yJ13_init : MethodName := ⟨RJ13, "<init>", "(Ljava/lang/String;)V"⟩
theorem q93 : (Jvm.Cond.initialized "java/lang/NegativeArraySizeException") ∈ lw_all := lw_g (lw_at lw_m1 29 rfl) rfl
theorem q297 : (Jvm.Cond.selects "java/lang/NegativeArraySizeException" ({ cls := "java/lang/Object", name := "getClass", desc := "()Ljava/lang/Class;" } : Jvm.MethodName) ({ cls := "java/lang/Object", name := "getClass", desc := "()Ljava/lang/Class;" } : Jvm.MethodName)) ∈ lw_all := lw_g (lw_at lw_m1 233 rfl) rfl
theorem q805 : (Jvm.Cond.selects "java/lang/NegativeArraySizeException" ({ cls := "java/lang/Throwable", name := "fillInStackTrace", desc := "()Ljava/lang/Throwable;" } : Jvm.MethodName) ({ cls := "java/lang/Throwable", name := "fillInStackTrace", desc := "()Ljava/lang/Throwable;" } : Jvm.MethodName)) ∈ lw_all := lw_g (lw_at lw_m4 21 rfl) rfl
theorem q972 : (Jvm.Cond.instantiable "java/lang/NegativeArraySizeException" (6 : Nat)) ∈ lw_all := lw_g (lw_at lw_m4 188 rfl) rfl
theorem q973 : (Jvm.Cond.instanceMethod ({ cls := "java/lang/NegativeArraySizeException", name := "<init>", desc := "(Ljava/lang/String;)V" } : Jvm.MethodName)) ∈ lw_all := lw_g (lw_at lw_m4 189 rfl) rfl
theorem q974 : (Jvm.Cond.code ({ cls := "java/lang/NegativeArraySizeException", name := "<init>", desc := "(Ljava/lang/String;)V" } : Jvm.MethodName) prog_27_method_2_code (2 : Nat) (Option.none : Option Jvm.ClassFile.FieldType)) ∈ lw_all := lw_g (lw_at lw_m4 190 rfl) rfl
theorem q975 : (Jvm.Cond.methodLink "java/lang/NegativeArraySizeException" (7 : Nat) ({ cls := "java/lang/RuntimeException", name := "<init>", desc := "(Ljava/lang/String;)V" } : Jvm.MethodName)) ∈ lw_all := lw_g (lw_at lw_m4 191 rfl) rfl
theorem q984 : (Jvm.Cond.lays "java/lang/NegativeArraySizeException" "java/lang/Throwable" "backtrace" "Ljava/lang/Object;") ∈ lw_all := lw_g (lw_at lw_m4 200 rfl) rfl
theorem q985 : (Jvm.Cond.lays "java/lang/NegativeArraySizeException" "java/lang/Throwable" "detailMessage" "Ljava/lang/String;") ∈ lw_all := lw_g (lw_at lw_m4 201 rfl) rfl
theorem q986 : (Jvm.Cond.lays "java/lang/NegativeArraySizeException" "java/lang/Throwable" "cause" "Ljava/lang/Throwable;") ∈ lw_all := lw_g (lw_at lw_m4 202 rfl) rfl
theorem q987 : (Jvm.Cond.lays "java/lang/NegativeArraySizeException" "java/lang/Throwable" "stackTrace" "[Ljava/lang/StackTraceElement;") ∈ lw_all := lw_g (lw_at lw_m4 203 rfl) rfl
theorem q988 : (Jvm.Cond.lays "java/lang/NegativeArraySizeException" "java/lang/Throwable" "depth" "I") ∈ lw_all := lw_g (lw_at lw_m4 204 rfl) rfl
theorem q989 : (Jvm.Cond.lays "java/lang/NegativeArraySizeException" "java/lang/Throwable" "suppressedExceptions" "Ljava/util/List;") ∈ lw_all := lw_g (lw_at lw_m4 205 rfl) rfl
theorem q990 : (Jvm.Cond.superclass "java/lang/NegativeArraySizeException" "java/lang/RuntimeException") ∈ lw_all := lw_g (lw_at lw_m4 206 rfl) rfl
theorem q991 : (Jvm.Cond.castable "java/lang/NegativeArraySizeException" "java/lang/NegativeArraySizeException") ∈ lw_tbl := lw_at lw_m4 207 rfl
theorem q992 : (Jvm.Cond.selects "java/lang/NegativeArraySizeException" ({ cls := "java/lang/Throwable", name := "fillInStackTrace", desc := "(I)Ljava/lang/Throwable;" } : Jvm.MethodName) ({ cls := "java/lang/Throwable", name := "fillInStackTrace", desc := "(I)Ljava/lang/Throwable;" } : Jvm.MethodName)) ∈ lw_all := lw_g (lw_at lw_m4 208 rfl) rfl
theorem q1657 : (Jvm.Cond.castable "java/lang/NegativeArraySizeException" "java/lang/Object") ∈ lw_tbl := lw_at lw_m7 153 rfl
theorem in_J13 : ∀ w ∈ wsJ130, w ∈ lw_all := lw_in wsJ130 [984, 985, 986, 987, 988, 989] (by decide +kernel) (by decide +kernel)
def RJ14 : String := "java/lang/String"
def TJ14 : u_T := fun k => match k with
  | 0 => ("java/lang/String", "value", "[B", true)
  | _ => ("java/lang/String", "coder", "B", true)
def tyJ14 : Nat → FieldType := fun k => match k with
  | 0 => .array .byte
  | _ => .byte
abbrev wsJ140 : List Cond := u_ws RJ14 TJ14 2
theorem nmJ14 : ∀ a, a < 2 → ∀ b, b < 2 → a ≠ b → (TJ14 a).2.1 ≠ (TJ14 b).2.1 := by decide +kernel
theorem tyJ14_ok : ∀ k, k < 2 → parseFieldDescriptor (TJ14 k).2.2.1 = some (tyJ14 k) := by decide +kernel
theorem q94 : (Jvm.Cond.initialized "java/lang/String") ∈ lw_all := lw_g (lw_at lw_m1 30 rfl) rfl
theorem q993 : (Jvm.Cond.instantiable "java/lang/String" (4 : Nat)) ∈ lw_all := lw_g (lw_at lw_m4 209 rfl) rfl
theorem q994 : (Jvm.Cond.laysFinal "java/lang/String" "java/lang/String" "value" "[B") ∈ lw_all := lw_g (lw_at lw_m4 210 rfl) rfl
theorem q995 : (Jvm.Cond.soleField "java/lang/String" "value") ∈ lw_all := lw_g (lw_at lw_m4 211 rfl) rfl
theorem q996 : (Jvm.Cond.laysFinal "java/lang/String" "java/lang/String" "coder" "B") ∈ lw_all := lw_g (lw_at lw_m4 212 rfl) rfl
theorem q997 : (Jvm.Cond.soleField "java/lang/String" "coder") ∈ lw_all := lw_g (lw_at lw_m4 213 rfl) rfl
theorem q1663 : (Jvm.Cond.castable "java/lang/String" "java/lang/Object") ∈ lw_tbl := lw_at lw_m7 159 rfl
theorem in_J14 : ∀ w ∈ wsJ140, w ∈ lw_all := lw_in wsJ140 [994, 996] (by decide +kernel) (by decide +kernel)
def RJ15 : String := "java/lang/NullPointerException"
def TJ15 : u_T := fun k => match k with
  | 0 => ("java/lang/Throwable", "backtrace", "Ljava/lang/Object;", false)
  | 1 => ("java/lang/Throwable", "detailMessage", "Ljava/lang/String;", false)
  | 2 => ("java/lang/Throwable", "cause", "Ljava/lang/Throwable;", false)
  | 3 => ("java/lang/Throwable", "stackTrace", "[Ljava/lang/StackTraceElement;", false)
  | 4 => ("java/lang/Throwable", "depth", "I", false)
  | 5 => ("java/lang/Throwable", "suppressedExceptions", "Ljava/util/List;", false)
  | 6 => ("java/lang/NullPointerException", "extendedMessageState", "I", false)
  | _ => ("java/lang/NullPointerException", "extendedMessage", "Ljava/lang/String;", false)
def tyJ15 : Nat → FieldType := fun k => match k with
  | 0 => .object "java/lang/Object"
  | 1 => .object "java/lang/String"
  | 2 => .object "java/lang/Throwable"
  | 3 => .array (.object "java/lang/StackTraceElement")
  | 4 => .int
  | 5 => .object "java/util/List"
  | 6 => .int
  | _ => .object "java/lang/String"
abbrev wsJ150 : List Cond := u_ws RJ15 TJ15 8
theorem nmJ15 : ∀ a, a < 8 → ∀ b, b < 8 → a ≠ b → (TJ15 a).2.1 ≠ (TJ15 b).2.1 := by decide +kernel
theorem tyJ15_ok : ∀ k, k < 8 → parseFieldDescriptor (TJ15 k).2.2.1 = some (tyJ15 k) := by decide +kernel
abbrev cJ15_init : ByteArray := prog_28_method_1_code
def yJ15_init : MethodName := ⟨RJ15, "<init>", "()V"⟩
theorem q95 : (Jvm.Cond.initialized "java/lang/NullPointerException") ∈ lw_all := lw_g (lw_at lw_m1 31 rfl) rfl
theorem q298 : (Jvm.Cond.selects "java/lang/NullPointerException" ({ cls := "java/lang/Object", name := "getClass", desc := "()Ljava/lang/Class;" } : Jvm.MethodName) ({ cls := "java/lang/Object", name := "getClass", desc := "()Ljava/lang/Class;" } : Jvm.MethodName)) ∈ lw_all := lw_g (lw_at lw_m1 234 rfl) rfl
theorem q806 : (Jvm.Cond.selects "java/lang/NullPointerException" ({ cls := "java/lang/Throwable", name := "fillInStackTrace", desc := "()Ljava/lang/Throwable;" } : Jvm.MethodName) ({ cls := "java/lang/NullPointerException", name := "fillInStackTrace", desc := "()Ljava/lang/Throwable;" } : Jvm.MethodName)) ∈ lw_all := lw_g (lw_at lw_m4 22 rfl) rfl
theorem q807 : (Jvm.Cond.instanceMethod ({ cls := "java/lang/NullPointerException", name := "fillInStackTrace", desc := "()Ljava/lang/Throwable;" } : Jvm.MethodName)) ∈ lw_all := lw_g (lw_at lw_m4 23 rfl) rfl
theorem q808 : (Jvm.Cond.codeSync ({ cls := "java/lang/NullPointerException", name := "fillInStackTrace", desc := "()Ljava/lang/Throwable;" } : Jvm.MethodName) prog_28_method_3_code (1 : Nat) (Option.some (Jvm.ClassFile.FieldType.object "java/lang/Throwable"))) ∈ lw_all := lw_g (lw_at lw_m4 24 rfl) rfl
theorem q809 : (Jvm.Cond.methodLink "java/lang/NullPointerException" (16 : Nat) ({ cls := "java/lang/NullPointerException", name := "getExtendedNPEMessage", desc := "()Ljava/lang/String;" } : Jvm.MethodName)) ∈ lw_all := lw_g (lw_at lw_m4 25 rfl) rfl
theorem q810 : (Jvm.Cond.privateMethod ({ cls := "java/lang/NullPointerException", name := "getExtendedNPEMessage", desc := "()Ljava/lang/String;" } : Jvm.MethodName)) ∈ lw_tbl := lw_at lw_m4 26 rfl
theorem q811 : (Jvm.Cond.instanceMethod ({ cls := "java/lang/NullPointerException", name := "getExtendedNPEMessage", desc := "()Ljava/lang/String;" } : Jvm.MethodName)) ∈ lw_all := lw_g (lw_at lw_m4 27 rfl) rfl
theorem q812 : (Jvm.Cond.instantiable "java/lang/NullPointerException" (8 : Nat)) ∈ lw_all := lw_g (lw_at lw_m4 28 rfl) rfl
theorem q813 : (Jvm.Cond.native ({ cls := "java/lang/NullPointerException", name := "getExtendedNPEMessage", desc := "()Ljava/lang/String;" } : Jvm.MethodName)) ∈ lw_all := lw_g (lw_at lw_m4 29 rfl) rfl
theorem q814 : (Jvm.Cond.methodLink "java/lang/NullPointerException" (24 : Nat) ({ cls := "java/lang/RuntimeException", name := "fillInStackTrace", desc := "()Ljava/lang/Throwable;" } : Jvm.MethodName)) ∈ lw_all := lw_g (lw_at lw_m4 30 rfl) rfl
theorem q817 : (Jvm.Cond.superclass "java/lang/NullPointerException" "java/lang/RuntimeException") ∈ lw_all := lw_g (lw_at lw_m4 33 rfl) rfl
theorem q1031 : (Jvm.Cond.instanceMethod ({ cls := "java/lang/NullPointerException", name := "<init>", desc := "()V" } : Jvm.MethodName)) ∈ lw_all := lw_g (lw_at lw_m5 7 rfl) rfl
theorem q1032 : (Jvm.Cond.code ({ cls := "java/lang/NullPointerException", name := "<init>", desc := "()V" } : Jvm.MethodName) prog_28_method_1_code (1 : Nat) (Option.none : Option Jvm.ClassFile.FieldType)) ∈ lw_all := lw_g (lw_at lw_m5 8 rfl) rfl
theorem q1033 : (Jvm.Cond.methodLink "java/lang/NullPointerException" (1 : Nat) ({ cls := "java/lang/RuntimeException", name := "<init>", desc := "()V" } : Jvm.MethodName)) ∈ lw_all := lw_g (lw_at lw_m5 9 rfl) rfl
theorem q1034 : (Jvm.Cond.fieldLink "java/lang/NullPointerException" (10 : Nat) "java/lang/NullPointerException" "extendedMessageState" "I") ∈ lw_all := lw_g (lw_at lw_m5 10 rfl) rfl
theorem q1035 : (Jvm.Cond.fieldLink "java/lang/NullPointerException" (20 : Nat) "java/lang/NullPointerException" "extendedMessage" "Ljava/lang/String;") ∈ lw_all := lw_g (lw_at lw_m5 11 rfl) rfl
theorem q1036 : (Jvm.Cond.lays "java/lang/NullPointerException" "java/lang/NullPointerException" "extendedMessageState" "I") ∈ lw_all := lw_g (lw_at lw_m5 12 rfl) rfl
theorem q1037 : (Jvm.Cond.soleField "java/lang/NullPointerException" "extendedMessageState") ∈ lw_all := lw_g (lw_at lw_m5 13 rfl) rfl
theorem q1038 : (Jvm.Cond.lays "java/lang/NullPointerException" "java/lang/NullPointerException" "extendedMessage" "Ljava/lang/String;") ∈ lw_all := lw_g (lw_at lw_m5 14 rfl) rfl
theorem q1039 : (Jvm.Cond.soleField "java/lang/NullPointerException" "extendedMessage") ∈ lw_all := lw_g (lw_at lw_m5 15 rfl) rfl
theorem q1040 : (Jvm.Cond.lays "java/lang/NullPointerException" "java/lang/Throwable" "backtrace" "Ljava/lang/Object;") ∈ lw_all := lw_g (lw_at lw_m5 16 rfl) rfl
theorem q1041 : (Jvm.Cond.lays "java/lang/NullPointerException" "java/lang/Throwable" "detailMessage" "Ljava/lang/String;") ∈ lw_all := lw_g (lw_at lw_m5 17 rfl) rfl
theorem q1042 : (Jvm.Cond.lays "java/lang/NullPointerException" "java/lang/Throwable" "cause" "Ljava/lang/Throwable;") ∈ lw_all := lw_g (lw_at lw_m5 18 rfl) rfl
theorem q1043 : (Jvm.Cond.lays "java/lang/NullPointerException" "java/lang/Throwable" "stackTrace" "[Ljava/lang/StackTraceElement;") ∈ lw_all := lw_g (lw_at lw_m5 19 rfl) rfl
theorem q1044 : (Jvm.Cond.lays "java/lang/NullPointerException" "java/lang/Throwable" "depth" "I") ∈ lw_all := lw_g (lw_at lw_m5 20 rfl) rfl
theorem q1045 : (Jvm.Cond.lays "java/lang/NullPointerException" "java/lang/Throwable" "suppressedExceptions" "Ljava/util/List;") ∈ lw_all := lw_g (lw_at lw_m5 21 rfl) rfl
theorem q1046 : (Jvm.Cond.castable "java/lang/NullPointerException" "java/lang/NullPointerException") ∈ lw_tbl := lw_at lw_m5 22 rfl
theorem q1047 : (Jvm.Cond.selects "java/lang/NullPointerException" ({ cls := "java/lang/Throwable", name := "fillInStackTrace", desc := "(I)Ljava/lang/Throwable;" } : Jvm.MethodName) ({ cls := "java/lang/Throwable", name := "fillInStackTrace", desc := "(I)Ljava/lang/Throwable;" } : Jvm.MethodName)) ∈ lw_all := lw_g (lw_at lw_m5 23 rfl) rfl
theorem q1658 : (Jvm.Cond.castable "java/lang/NullPointerException" "java/lang/Object") ∈ lw_tbl := lw_at lw_m7 154 rfl
theorem in_J15 : ∀ w ∈ wsJ150, w ∈ lw_all := lw_in wsJ150 [1040, 1041, 1042, 1043, 1044, 1045, 1036, 1038] (by decide +kernel) (by decide +kernel)
def RJ16 : String := "java/lang/ClassCastException"
def TJ16 : u_T := fun k => match k with
  | 0 => ("java/lang/Throwable", "backtrace", "Ljava/lang/Object;", false)
  | 1 => ("java/lang/Throwable", "detailMessage", "Ljava/lang/String;", false)
  | 2 => ("java/lang/Throwable", "cause", "Ljava/lang/Throwable;", false)
  | 3 => ("java/lang/Throwable", "stackTrace", "[Ljava/lang/StackTraceElement;", false)
  | 4 => ("java/lang/Throwable", "depth", "I", false)
  | _ => ("java/lang/Throwable", "suppressedExceptions", "Ljava/util/List;", false)
def tyJ16 : Nat → FieldType := fun k => match k with
  | 0 => .object "java/lang/Object"
  | 1 => .object "java/lang/String"
  | 2 => .object "java/lang/Throwable"
  | 3 => .array (.object "java/lang/StackTraceElement")
  | 4 => .int
  | _ => .object "java/util/List"
abbrev wsJ160 : List Cond := u_ws RJ16 TJ16 6
theorem nmJ16 : ∀ a, a < 6 → ∀ b, b < 6 → a ≠ b → (TJ16 a).2.1 ≠ (TJ16 b).2.1 := by decide +kernel
theorem tyJ16_ok : ∀ k, k < 6 → parseFieldDescriptor (TJ16 k).2.2.1 = some (tyJ16 k) := by decide +kernel
abbrev cJ16_init : ByteArray := prog_19_method_2_code
def yJ16_init : MethodName := ⟨RJ16, "<init>", "(Ljava/lang/String;)V"⟩
theorem q96 : (Jvm.Cond.initialized "java/lang/ClassCastException") ∈ lw_all := lw_g (lw_at lw_m1 32 rfl) rfl
theorem q294 : (Jvm.Cond.selects "java/lang/ClassCastException" ({ cls := "java/lang/Object", name := "getClass", desc := "()Ljava/lang/Class;" } : Jvm.MethodName) ({ cls := "java/lang/Object", name := "getClass", desc := "()Ljava/lang/Class;" } : Jvm.MethodName)) ∈ lw_all := lw_g (lw_at lw_m1 230 rfl) rfl
theorem q802 : (Jvm.Cond.selects "java/lang/ClassCastException" ({ cls := "java/lang/Throwable", name := "fillInStackTrace", desc := "()Ljava/lang/Throwable;" } : Jvm.MethodName) ({ cls := "java/lang/Throwable", name := "fillInStackTrace", desc := "()Ljava/lang/Throwable;" } : Jvm.MethodName)) ∈ lw_all := lw_g (lw_at lw_m4 18 rfl) rfl
theorem q1050 : (Jvm.Cond.instantiable "java/lang/ClassCastException" (6 : Nat)) ∈ lw_all := lw_g (lw_at lw_m5 26 rfl) rfl
theorem q1051 : (Jvm.Cond.instanceMethod ({ cls := "java/lang/ClassCastException", name := "<init>", desc := "(Ljava/lang/String;)V" } : Jvm.MethodName)) ∈ lw_all := lw_g (lw_at lw_m5 27 rfl) rfl
theorem q1052 : (Jvm.Cond.code ({ cls := "java/lang/ClassCastException", name := "<init>", desc := "(Ljava/lang/String;)V" } : Jvm.MethodName) prog_19_method_2_code (2 : Nat) (Option.none : Option Jvm.ClassFile.FieldType)) ∈ lw_all := lw_g (lw_at lw_m5 28 rfl) rfl
theorem q1053 : (Jvm.Cond.methodLink "java/lang/ClassCastException" (7 : Nat) ({ cls := "java/lang/RuntimeException", name := "<init>", desc := "(Ljava/lang/String;)V" } : Jvm.MethodName)) ∈ lw_all := lw_g (lw_at lw_m5 29 rfl) rfl
theorem q1054 : (Jvm.Cond.lays "java/lang/ClassCastException" "java/lang/Throwable" "backtrace" "Ljava/lang/Object;") ∈ lw_all := lw_g (lw_at lw_m5 30 rfl) rfl
theorem q1055 : (Jvm.Cond.lays "java/lang/ClassCastException" "java/lang/Throwable" "detailMessage" "Ljava/lang/String;") ∈ lw_all := lw_g (lw_at lw_m5 31 rfl) rfl
theorem q1056 : (Jvm.Cond.lays "java/lang/ClassCastException" "java/lang/Throwable" "cause" "Ljava/lang/Throwable;") ∈ lw_all := lw_g (lw_at lw_m5 32 rfl) rfl
theorem q1057 : (Jvm.Cond.lays "java/lang/ClassCastException" "java/lang/Throwable" "stackTrace" "[Ljava/lang/StackTraceElement;") ∈ lw_all := lw_g (lw_at lw_m5 33 rfl) rfl
theorem q1058 : (Jvm.Cond.lays "java/lang/ClassCastException" "java/lang/Throwable" "depth" "I") ∈ lw_all := lw_g (lw_at lw_m5 34 rfl) rfl
theorem q1059 : (Jvm.Cond.lays "java/lang/ClassCastException" "java/lang/Throwable" "suppressedExceptions" "Ljava/util/List;") ∈ lw_all := lw_g (lw_at lw_m5 35 rfl) rfl
theorem q1060 : (Jvm.Cond.superclass "java/lang/ClassCastException" "java/lang/RuntimeException") ∈ lw_all := lw_g (lw_at lw_m5 36 rfl) rfl
theorem q1061 : (Jvm.Cond.castable "java/lang/ClassCastException" "java/lang/ClassCastException") ∈ lw_tbl := lw_at lw_m5 37 rfl
theorem q1062 : (Jvm.Cond.selects "java/lang/ClassCastException" ({ cls := "java/lang/Throwable", name := "fillInStackTrace", desc := "(I)Ljava/lang/Throwable;" } : Jvm.MethodName) ({ cls := "java/lang/Throwable", name := "fillInStackTrace", desc := "(I)Ljava/lang/Throwable;" } : Jvm.MethodName)) ∈ lw_all := lw_g (lw_at lw_m5 38 rfl) rfl
theorem q1659 : (Jvm.Cond.castable "java/lang/ClassCastException" "java/lang/Object") ∈ lw_tbl := lw_at lw_m7 155 rfl
theorem in_J16 : ∀ w ∈ wsJ160, w ∈ lw_all := lw_in wsJ160 [1054, 1055, 1056, 1057, 1058, 1059] (by decide +kernel) (by decide +kernel)
def RJ17 : String := "java/lang/IndexOutOfBoundsException"
abbrev cJ17_init : ByteArray := prog_24_method_2_code
def yJ17_init : MethodName := ⟨RJ17, "<init>", "(Ljava/lang/String;)V"⟩
theorem q97 : (Jvm.Cond.initialized "java/lang/IndexOutOfBoundsException") ∈ lw_all := lw_g (lw_at lw_m1 33 rfl) rfl
theorem q1007 : (Jvm.Cond.instanceMethod ({ cls := "java/lang/IndexOutOfBoundsException", name := "<init>", desc := "(Ljava/lang/String;)V" } : Jvm.MethodName)) ∈ lw_all := lw_g (lw_at lw_m4 223 rfl) rfl
theorem q1008 : (Jvm.Cond.code ({ cls := "java/lang/IndexOutOfBoundsException", name := "<init>", desc := "(Ljava/lang/String;)V" } : Jvm.MethodName) prog_24_method_2_code (2 : Nat) (Option.none : Option Jvm.ClassFile.FieldType)) ∈ lw_all := lw_g (lw_at lw_m4 224 rfl) rfl
theorem q1009 : (Jvm.Cond.methodLink "java/lang/IndexOutOfBoundsException" (7 : Nat) ({ cls := "java/lang/RuntimeException", name := "<init>", desc := "(Ljava/lang/String;)V" } : Jvm.MethodName)) ∈ lw_all := lw_g (lw_at lw_m4 225 rfl) rfl
theorem q1018 : (Jvm.Cond.declares ({ cls := "java/lang/IndexOutOfBoundsException", name := "<init>", desc := "()V" } : Jvm.MethodName)) ∈ lw_tbl := lw_at lw_m4 234 rfl
theorem q1019 : (Jvm.Cond.declares ({ cls := "java/lang/IndexOutOfBoundsException", name := "<init>", desc := "(Ljava/lang/String;)V" } : Jvm.MethodName)) ∈ lw_tbl := lw_at lw_m4 235 rfl
def RJ18 : String := "java/lang/ArrayIndexOutOfBoundsException"
def TJ18 : u_T := fun k => match k with
  | 0 => ("java/lang/Throwable", "backtrace", "Ljava/lang/Object;", false)
  | 1 => ("java/lang/Throwable", "detailMessage", "Ljava/lang/String;", false)
  | 2 => ("java/lang/Throwable", "cause", "Ljava/lang/Throwable;", false)
  | 3 => ("java/lang/Throwable", "stackTrace", "[Ljava/lang/StackTraceElement;", false)
  | 4 => ("java/lang/Throwable", "depth", "I", false)
  | _ => ("java/lang/Throwable", "suppressedExceptions", "Ljava/util/List;", false)
def tyJ18 : Nat → FieldType := fun k => match k with
  | 0 => .object "java/lang/Object"
  | 1 => .object "java/lang/String"
  | 2 => .object "java/lang/Throwable"
  | 3 => .array (.object "java/lang/StackTraceElement")
  | 4 => .int
  | _ => .object "java/util/List"
abbrev wsJ180 : List Cond := u_ws RJ18 TJ18 6
theorem nmJ18 : ∀ a, a < 6 → ∀ b, b < 6 → a ≠ b → (TJ18 a).2.1 ≠ (TJ18 b).2.1 := by decide +kernel
theorem tyJ18_ok : ∀ k, k < 6 → parseFieldDescriptor (TJ18 k).2.2.1 = some (tyJ18 k) := by decide +kernel
abbrev cJ18_init : ByteArray := prog_18_method_2_code
def yJ18_init : MethodName := ⟨RJ18, "<init>", "(Ljava/lang/String;)V"⟩
theorem q98 : (Jvm.Cond.initialized "java/lang/ArrayIndexOutOfBoundsException") ∈ lw_all := lw_g (lw_at lw_m1 34 rfl) rfl
theorem q293 : (Jvm.Cond.selects "java/lang/ArrayIndexOutOfBoundsException" ({ cls := "java/lang/Object", name := "getClass", desc := "()Ljava/lang/Class;" } : Jvm.MethodName) ({ cls := "java/lang/Object", name := "getClass", desc := "()Ljava/lang/Class;" } : Jvm.MethodName)) ∈ lw_all := lw_g (lw_at lw_m1 229 rfl) rfl
theorem q801 : (Jvm.Cond.selects "java/lang/ArrayIndexOutOfBoundsException" ({ cls := "java/lang/Throwable", name := "fillInStackTrace", desc := "()Ljava/lang/Throwable;" } : Jvm.MethodName) ({ cls := "java/lang/Throwable", name := "fillInStackTrace", desc := "()Ljava/lang/Throwable;" } : Jvm.MethodName)) ∈ lw_all := lw_g (lw_at lw_m4 17 rfl) rfl
theorem q1003 : (Jvm.Cond.instantiable "java/lang/ArrayIndexOutOfBoundsException" (6 : Nat)) ∈ lw_all := lw_g (lw_at lw_m4 219 rfl) rfl
theorem q1004 : (Jvm.Cond.instanceMethod ({ cls := "java/lang/ArrayIndexOutOfBoundsException", name := "<init>", desc := "(Ljava/lang/String;)V" } : Jvm.MethodName)) ∈ lw_all := lw_g (lw_at lw_m4 220 rfl) rfl
theorem q1005 : (Jvm.Cond.code ({ cls := "java/lang/ArrayIndexOutOfBoundsException", name := "<init>", desc := "(Ljava/lang/String;)V" } : Jvm.MethodName) prog_18_method_2_code (2 : Nat) (Option.none : Option Jvm.ClassFile.FieldType)) ∈ lw_all := lw_g (lw_at lw_m4 221 rfl) rfl
theorem q1006 : (Jvm.Cond.methodLink "java/lang/ArrayIndexOutOfBoundsException" (7 : Nat) ({ cls := "java/lang/IndexOutOfBoundsException", name := "<init>", desc := "(Ljava/lang/String;)V" } : Jvm.MethodName)) ∈ lw_all := lw_g (lw_at lw_m4 222 rfl) rfl
theorem q1010 : (Jvm.Cond.lays "java/lang/ArrayIndexOutOfBoundsException" "java/lang/Throwable" "backtrace" "Ljava/lang/Object;") ∈ lw_all := lw_g (lw_at lw_m4 226 rfl) rfl
theorem q1011 : (Jvm.Cond.lays "java/lang/ArrayIndexOutOfBoundsException" "java/lang/Throwable" "detailMessage" "Ljava/lang/String;") ∈ lw_all := lw_g (lw_at lw_m4 227 rfl) rfl
theorem q1012 : (Jvm.Cond.lays "java/lang/ArrayIndexOutOfBoundsException" "java/lang/Throwable" "cause" "Ljava/lang/Throwable;") ∈ lw_all := lw_g (lw_at lw_m4 228 rfl) rfl
theorem q1013 : (Jvm.Cond.lays "java/lang/ArrayIndexOutOfBoundsException" "java/lang/Throwable" "stackTrace" "[Ljava/lang/StackTraceElement;") ∈ lw_all := lw_g (lw_at lw_m4 229 rfl) rfl
theorem q1014 : (Jvm.Cond.lays "java/lang/ArrayIndexOutOfBoundsException" "java/lang/Throwable" "depth" "I") ∈ lw_all := lw_g (lw_at lw_m4 230 rfl) rfl
theorem q1015 : (Jvm.Cond.lays "java/lang/ArrayIndexOutOfBoundsException" "java/lang/Throwable" "suppressedExceptions" "Ljava/util/List;") ∈ lw_all := lw_g (lw_at lw_m4 231 rfl) rfl
theorem q1016 : (Jvm.Cond.superclass "java/lang/ArrayIndexOutOfBoundsException" "java/lang/IndexOutOfBoundsException") ∈ lw_all := lw_g (lw_at lw_m4 232 rfl) rfl
theorem q1017 : (Jvm.Cond.castable "java/lang/ArrayIndexOutOfBoundsException" "java/lang/ArrayIndexOutOfBoundsException") ∈ lw_tbl := lw_at lw_m4 233 rfl
theorem q1020 : (Jvm.Cond.selects "java/lang/ArrayIndexOutOfBoundsException" ({ cls := "java/lang/Throwable", name := "fillInStackTrace", desc := "(I)Ljava/lang/Throwable;" } : Jvm.MethodName) ({ cls := "java/lang/Throwable", name := "fillInStackTrace", desc := "(I)Ljava/lang/Throwable;" } : Jvm.MethodName)) ∈ lw_all := lw_g (lw_at lw_m4 236 rfl) rfl
theorem q1632 : (Jvm.Cond.castable "java/lang/ArrayIndexOutOfBoundsException" "java/lang/IndexOutOfBoundsException") ∈ lw_tbl := lw_at lw_m7 128 rfl
theorem q1660 : (Jvm.Cond.castable "java/lang/ArrayIndexOutOfBoundsException" "java/lang/Object") ∈ lw_tbl := lw_at lw_m7 156 rfl
theorem in_J18 : ∀ w ∈ wsJ180, w ∈ lw_all := lw_in wsJ180 [1010, 1011, 1012, 1013, 1014, 1015] (by decide +kernel) (by decide +kernel)
def RJ19 : String := "java/lang/Object"
abbrev cJ19_init : ByteArray := object_method_1_code
def yJ19_init : MethodName := ⟨RJ19, "<init>", "()V"⟩
theorem q125 : (Jvm.Cond.instanceMethod ({ cls := "java/lang/Object", name := "<init>", desc := "()V" } : Jvm.MethodName)) ∈ lw_all := lw_g (lw_at lw_m1 61 rfl) rfl
theorem q126 : (Jvm.Cond.code ({ cls := "java/lang/Object", name := "<init>", desc := "()V" } : Jvm.MethodName) object_method_1_code (1 : Nat) (Option.none : Option Jvm.ClassFile.FieldType)) ∈ lw_all := lw_g (lw_at lw_m1 62 rfl) rfl
theorem q277 : (Jvm.Cond.instanceMethod ({ cls := "java/lang/Object", name := "getClass", desc := "()Ljava/lang/Class;" } : Jvm.MethodName)) ∈ lw_all := lw_g (lw_at lw_m1 213 rfl) rfl
theorem q278 : (Jvm.Cond.sameMethod "java/lang/Object" "java/lang/Object" "getClass" "()Ljava/lang/Class;") ∈ lw_all := lw_g (lw_at lw_m1 214 rfl) rfl
theorem q300 : (Jvm.Cond.native ({ cls := "java/lang/Object", name := "getClass", desc := "()Ljava/lang/Class;" } : Jvm.MethodName)) ∈ lw_all := lw_g (lw_at lw_m1 236 rfl) rfl
theorem q1666 : (Jvm.Cond.declares ({ cls := "java/lang/Object", name := "getClass", desc := "()Ljava/lang/Class;" } : Jvm.MethodName)) ∈ lw_tbl := lw_at lw_m7 162 rfl
def RX0 : String := "FormulaVoiceLaw"
abbrev cX0_readings : ByteArray := method_3_code
def yX0_readings : MethodName := ⟨RX0, "readings", "(LFormulaVoice;I[J)I"⟩
abbrev cX0_where : ByteArray := method_4_code
def yX0_where : MethodName := ⟨RX0, "where", "(LFormulaVoice;I[J)I"⟩
abbrev cX0_element : ByteArray := method_5_code
def yX0_element : MethodName := ⟨RX0, "element", "(LFormulaVoice;II[J)I"⟩
theorem q64 : (Jvm.Cond.initialized "FormulaVoiceLaw") ∈ lw_all := lw_g (lw_at lw_m1 0 rfl) rfl
theorem q100 : (Jvm.Cond.methodLink "FormulaVoiceLaw" (29 : Nat) ({ cls := "FormulaVoice", name := "leaf", desc := "(II)I" } : Jvm.MethodName)) ∈ lw_all := lw_g (lw_at lw_m1 36 rfl) rfl
theorem q315 : (Jvm.Cond.methodLink "FormulaVoiceLaw" (34 : Nat) ({ cls := "FormulaVoice", name := "node", desc := "(III)I" } : Jvm.MethodName)) ∈ lw_all := lw_g (lw_at lw_m2 11 rfl) rfl
theorem q339 : (Jvm.Cond.methodLink "FormulaVoiceLaw" (39 : Nat) ({ cls := "FormulaVoice", name := "undo", desc := "()I" } : Jvm.MethodName)) ∈ lw_all := lw_g (lw_at lw_m2 35 rfl) rfl
theorem q352 : (Jvm.Cond.methodLink "FormulaVoiceLaw" (44 : Nat) ({ cls := "FormulaVoice", name := "means", desc := "(IZ)I" } : Jvm.MethodName)) ∈ lw_all := lw_g (lw_at lw_m2 48 rfl) rfl
theorem q356 : (Jvm.Cond.methodLink "FormulaVoiceLaw" (49 : Nat) ({ cls := "FormulaVoice", name := "look", desc := "(II)I" } : Jvm.MethodName)) ∈ lw_all := lw_g (lw_at lw_m2 52 rfl) rfl
theorem q426 : (Jvm.Cond.methodLink "FormulaVoiceLaw" (53 : Nat) ({ cls := "FormulaVoice", name := "alike", desc := "(II)I" } : Jvm.MethodName)) ∈ lw_all := lw_g (lw_at lw_m2 122 rfl) rfl
theorem q443 : (Jvm.Cond.methodLink "FormulaVoiceLaw" (57 : Nat) ({ cls := "FormulaVoice", name := "times", desc := "(II)I" } : Jvm.MethodName)) ∈ lw_all := lw_g (lw_at lw_m2 139 rfl) rfl
theorem q450 : (Jvm.Cond.methodLink "FormulaVoiceLaw" (61 : Nat) ({ cls := "FormulaVoice", name := "keeps", desc := "(IIZ)I" } : Jvm.MethodName)) ∈ lw_all := lw_g (lw_at lw_m2 146 rfl) rfl
theorem q461 : (Jvm.Cond.methodLink "FormulaVoiceLaw" (66 : Nat) ({ cls := "FormulaVoice", name := "words", desc := "(II)I" } : Jvm.MethodName)) ∈ lw_all := lw_g (lw_at lw_m2 157 rfl) rfl
theorem q551 : (Jvm.Cond.methodLink "FormulaVoiceLaw" (70 : Nat) ({ cls := "FormulaVoice", name := "word", desc := "(III)I" } : Jvm.MethodName)) ∈ lw_all := lw_g (lw_at lw_m3 7 rfl) rfl
theorem q555 : (Jvm.Cond.methodLink "FormulaVoiceLaw" (74 : Nat) ({ cls := "FormulaVoice", name := "sound", desc := "(III)I" } : Jvm.MethodName)) ∈ lw_all := lw_g (lw_at lw_m3 11 rfl) rfl
theorem q563 : (Jvm.Cond.methodLink "FormulaVoiceLaw" (78 : Nat) ({ cls := "FormulaVoice", name := "clear", desc := "(II)I" } : Jvm.MethodName)) ∈ lw_all := lw_g (lw_at lw_m3 19 rfl) rfl
theorem q572 : (Jvm.Cond.methodLink "FormulaVoiceLaw" (82 : Nat) ({ cls := "FormulaVoice", name := "hear", desc := "(II)I" } : Jvm.MethodName)) ∈ lw_all := lw_g (lw_at lw_m3 28 rfl) rfl
theorem q581 : (Jvm.Cond.methodLink "FormulaVoiceLaw" (86 : Nat) ({ cls := "FormulaVoice", name := "listen", desc := "(II)I" } : Jvm.MethodName)) ∈ lw_all := lw_g (lw_at lw_m3 37 rfl) rfl
theorem q590 : (Jvm.Cond.methodLink "FormulaVoiceLaw" (90 : Nat) ({ cls := "FormulaVoice", name := "hush", desc := "()I" } : Jvm.MethodName)) ∈ lw_all := lw_g (lw_at lw_m3 46 rfl) rfl
theorem q594 : (Jvm.Cond.methodLink "FormulaVoiceLaw" (94 : Nat) ({ cls := "FormulaVoice", name := "ear", desc := "(I)I" } : Jvm.MethodName)) ∈ lw_all := lw_g (lw_at lw_m3 50 rfl) rfl
theorem q598 : (Jvm.Cond.methodLink "FormulaVoiceLaw" (109 : Nat) ({ cls := "FormulaVoice", name := "write", desc := "(IJ)I" } : Jvm.MethodName)) ∈ lw_all := lw_g (lw_at lw_m3 54 rfl) rfl
theorem q672 : (Jvm.Cond.methodLink "FormulaVoiceLaw" (114 : Nat) ({ cls := "FormulaVoice", name := "place", desc := "(II)J" } : Jvm.MethodName)) ∈ lw_all := lw_g (lw_at lw_m3 128 rfl) rfl
theorem q686 : (Jvm.Cond.methodLink "FormulaVoiceLaw" (118 : Nat) ({ cls := "FormulaVoice", name := "doubt", desc := "(IJJ)I" } : Jvm.MethodName)) ∈ lw_all := lw_g (lw_at lw_m3 142 rfl) rfl
theorem q693 : (Jvm.Cond.methodLink "FormulaVoiceLaw" (123 : Nat) ({ cls := "FormulaVoice", name := "fewest", desc := "(I)I" } : Jvm.MethodName)) ∈ lw_all := lw_g (lw_at lw_m3 149 rfl) rfl
theorem q713 : (Jvm.Cond.methodLink "FormulaVoiceLaw" (127 : Nat) ({ cls := "FormulaVoice", name := "walk", desc := "(I)I" } : Jvm.MethodName)) ∈ lw_all := lw_g (lw_at lw_m3 169 rfl) rfl
theorem q717 : (Jvm.Cond.methodLink "FormulaVoiceLaw" (131 : Nat) ({ cls := "FormulaVoice", name := "go", desc := "(I)I" } : Jvm.MethodName)) ∈ lw_all := lw_g (lw_at lw_m3 173 rfl) rfl
theorem q726 : (Jvm.Cond.methodLink "FormulaVoiceLaw" (138 : Nat) ({ cls := "FormulaVoice", name := "lead", desc := "(I)I" } : Jvm.MethodName)) ∈ lw_all := lw_g (lw_at lw_m3 182 rfl) rfl
theorem q730 : (Jvm.Cond.methodLink "FormulaVoiceLaw" (142 : Nat) ({ cls := "FormulaVoice", name := "glance", desc := "(II)I" } : Jvm.MethodName)) ∈ lw_all := lw_g (lw_at lw_m3 186 rfl) rfl
theorem q734 : (Jvm.Cond.methodLink "FormulaVoiceLaw" (146 : Nat) ({ cls := "FormulaVoice", name := "changed", desc := "(II)I" } : Jvm.MethodName)) ∈ lw_all := lw_g (lw_at lw_m3 190 rfl) rfl
theorem q745 : (Jvm.Cond.methodLink "FormulaVoiceLaw" (150 : Nat) ({ cls := "FormulaVoice", name := "exchanged", desc := "(II)I" } : Jvm.MethodName)) ∈ lw_all := lw_g (lw_at lw_m3 201 rfl) rfl
theorem q752 : (Jvm.Cond.methodLink "FormulaVoiceLaw" (154 : Nat) ({ cls := "FormulaVoice", name := "count", desc := "(I)I" } : Jvm.MethodName)) ∈ lw_all := lw_g (lw_at lw_m3 208 rfl) rfl
theorem q756 : (Jvm.Cond.classLink "FormulaVoiceLaw" (8 : Nat) "FormulaVoice") ∈ lw_all := lw_g (lw_at lw_m3 212 rfl) rfl
theorem q757 : (Jvm.Cond.methodLink "FormulaVoiceLaw" (25 : Nat) ({ cls := "FormulaVoice", name := "<init>", desc := "()V" } : Jvm.MethodName)) ∈ lw_all := lw_g (lw_at lw_m3 213 rfl) rfl
theorem q952 : (Jvm.Cond.methodLink "FormulaVoiceLaw" (158 : Nat) ({ cls := "FormulaVoice", name := "keep", desc := "(III)I" } : Jvm.MethodName)) ∈ lw_all := lw_g (lw_at lw_m4 168 rfl) rfl
theorem q967 : (Jvm.Cond.methodLink "FormulaVoiceLaw" (162 : Nat) ({ cls := "FormulaVoice", name := "make", desc := "(III)I" } : Jvm.MethodName)) ∈ lw_all := lw_g (lw_at lw_m4 183 rfl) rfl
theorem q998 : (Jvm.Cond.methodLink "FormulaVoiceLaw" (170 : Nat) ({ cls := "FormulaVoice", name := "copy", desc := "(IIIII)I" } : Jvm.MethodName)) ∈ lw_all := lw_g (lw_at lw_m4 214 rfl) rfl
theorem q1026 : (Jvm.Cond.methodLink "FormulaVoiceLaw" (175 : Nat) ({ cls := "FormulaVoice", name := "weight", desc := "(I)I" } : Jvm.MethodName)) ∈ lw_all := lw_g (lw_at lw_m5 2 rfl) rfl
theorem q1090 : (Jvm.Cond.methodLink "FormulaVoiceLaw" (179 : Nat) ({ cls := "FormulaVoice", name := "toss", desc := "(I)I" } : Jvm.MethodName)) ∈ lw_all := lw_g (lw_at lw_m5 66 rfl) rfl
theorem q1131 : (Jvm.Cond.methodLink "FormulaVoiceLaw" (98 : Nat) ({ cls := "FormulaVoiceLaw", name := "readings", desc := "(LFormulaVoice;I[J)I" } : Jvm.MethodName)) ∈ lw_all := lw_g (lw_at lw_m5 107 rfl) rfl
theorem q1132 : (Jvm.Cond.static ({ cls := "FormulaVoiceLaw", name := "readings", desc := "(LFormulaVoice;I[J)I" } : Jvm.MethodName)) ∈ lw_all := lw_g (lw_at lw_m5 108 rfl) rfl
theorem q1133 : (Jvm.Cond.codeWith ({ cls := "FormulaVoiceLaw", name := "readings", desc := "(LFormulaVoice;I[J)I" } : Jvm.MethodName) method_3_code (4 : Nat) (Option.some Jvm.ClassFile.FieldType.int) [((0 : Nat), (8 : Nat), (11 : Nat), (13 : Nat))]) ∈ lw_all := lw_g (lw_at lw_m5 109 rfl) rfl
theorem q1134 : (Jvm.Cond.classLink "FormulaVoiceLaw" (13 : Nat) "java/lang/IllegalArgumentException") ∈ lw_all := lw_g (lw_at lw_m5 110 rfl) rfl
theorem q1135 : (Jvm.Cond.methodLink "FormulaVoiceLaw" (7 : Nat) ({ cls := "FormulaVoice", name := "readings", desc := "(I)J" } : Jvm.MethodName)) ∈ lw_all := lw_g (lw_at lw_m5 111 rfl) rfl
theorem q1154 : (Jvm.Cond.methodLink "FormulaVoiceLaw" (135 : Nat) ({ cls := "FormulaVoiceLaw", name := "where", desc := "(LFormulaVoice;I[J)I" } : Jvm.MethodName)) ∈ lw_all := lw_g (lw_at lw_m5 130 rfl) rfl
theorem q1155 : (Jvm.Cond.static ({ cls := "FormulaVoiceLaw", name := "where", desc := "(LFormulaVoice;I[J)I" } : Jvm.MethodName)) ∈ lw_all := lw_g (lw_at lw_m5 131 rfl) rfl
theorem q1156 : (Jvm.Cond.codeWith ({ cls := "FormulaVoiceLaw", name := "where", desc := "(LFormulaVoice;I[J)I" } : Jvm.MethodName) method_4_code (4 : Nat) (Option.some Jvm.ClassFile.FieldType.int) [((0 : Nat), (9 : Nat), (12 : Nat), (19 : Nat))]) ∈ lw_all := lw_g (lw_at lw_m5 132 rfl) rfl
theorem q1157 : (Jvm.Cond.classLink "FormulaVoiceLaw" (19 : Nat) "java/lang/IllegalStateException") ∈ lw_all := lw_g (lw_at lw_m5 133 rfl) rfl
theorem q1158 : (Jvm.Cond.methodLink "FormulaVoiceLaw" (15 : Nat) ({ cls := "FormulaVoice", name := "where", desc := "(I)I" } : Jvm.MethodName)) ∈ lw_all := lw_g (lw_at lw_m5 134 rfl) rfl
theorem q1177 : (Jvm.Cond.methodLink "FormulaVoiceLaw" (166 : Nat) ({ cls := "FormulaVoiceLaw", name := "element", desc := "(LFormulaVoice;II[J)I" } : Jvm.MethodName)) ∈ lw_all := lw_g (lw_at lw_m5 153 rfl) rfl
theorem q1178 : (Jvm.Cond.static ({ cls := "FormulaVoiceLaw", name := "element", desc := "(LFormulaVoice;II[J)I" } : Jvm.MethodName)) ∈ lw_all := lw_g (lw_at lw_m5 154 rfl) rfl
theorem q1179 : (Jvm.Cond.codeWith ({ cls := "FormulaVoiceLaw", name := "element", desc := "(LFormulaVoice;II[J)I" } : Jvm.MethodName) method_5_code (5 : Nat) (Option.some Jvm.ClassFile.FieldType.int) [((0 : Nat), (9 : Nat), (12 : Nat), (13 : Nat)), ((0 : Nat), (9 : Nat), (16 : Nat), (19 : Nat))]) ∈ lw_all := lw_g (lw_at lw_m5 155 rfl) rfl
theorem q1180 : (Jvm.Cond.methodLink "FormulaVoiceLaw" (21 : Nat) ({ cls := "FormulaVoice", name := "element", desc := "(II)J" } : Jvm.MethodName)) ∈ lw_all := lw_g (lw_at lw_m5 156 rfl) rfl
theorem q1185 : (Jvm.Cond.classLink "FormulaVoiceLaw" (26 : Nat) "FormulaVoiceModel") ∈ lw_all := lw_g (lw_at lw_m5 161 rfl) rfl
theorem q1187 : (Jvm.Cond.methodLink "FormulaVoiceLaw" (28 : Nat) ({ cls := "FormulaVoiceModel", name := "<init>", desc := "()V" } : Jvm.MethodName)) ∈ lw_all := lw_g (lw_at lw_m5 163 rfl) rfl
theorem q1297 : (Jvm.Cond.methodLink "FormulaVoiceLaw" (104 : Nat) ({ cls := "FormulaVoiceModel", name := "thrown", desc := "()I" } : Jvm.MethodName)) ∈ lw_all := lw_g (lw_at lw_m6 33 rfl) rfl
theorem q1301 : (Jvm.Cond.methodLink "FormulaVoiceLaw" (33 : Nat) ({ cls := "FormulaVoiceModel", name := "leaf", desc := "(II)I" } : Jvm.MethodName)) ∈ lw_all := lw_g (lw_at lw_m6 37 rfl) rfl
theorem q1314 : (Jvm.Cond.methodLink "FormulaVoiceLaw" (38 : Nat) ({ cls := "FormulaVoiceModel", name := "node", desc := "(III)I" } : Jvm.MethodName)) ∈ lw_all := lw_g (lw_at lw_m6 50 rfl) rfl
theorem q1326 : (Jvm.Cond.methodLink "FormulaVoiceLaw" (43 : Nat) ({ cls := "FormulaVoiceModel", name := "undo", desc := "()I" } : Jvm.MethodName)) ∈ lw_all := lw_g (lw_at lw_m6 62 rfl) rfl
theorem q1330 : (Jvm.Cond.methodLink "FormulaVoiceLaw" (48 : Nat) ({ cls := "FormulaVoiceModel", name := "means", desc := "(IZ)I" } : Jvm.MethodName)) ∈ lw_all := lw_g (lw_at lw_m6 66 rfl) rfl
theorem q1334 : (Jvm.Cond.methodLink "FormulaVoiceLaw" (52 : Nat) ({ cls := "FormulaVoiceModel", name := "look", desc := "(II)I" } : Jvm.MethodName)) ∈ lw_all := lw_g (lw_at lw_m6 70 rfl) rfl
theorem q1343 : (Jvm.Cond.methodLink "FormulaVoiceLaw" (56 : Nat) ({ cls := "FormulaVoiceModel", name := "alike", desc := "(II)I" } : Jvm.MethodName)) ∈ lw_all := lw_g (lw_at lw_m6 79 rfl) rfl
theorem q1351 : (Jvm.Cond.methodLink "FormulaVoiceLaw" (60 : Nat) ({ cls := "FormulaVoiceModel", name := "times", desc := "(II)I" } : Jvm.MethodName)) ∈ lw_all := lw_g (lw_at lw_m6 87 rfl) rfl
theorem q1359 : (Jvm.Cond.methodLink "FormulaVoiceLaw" (65 : Nat) ({ cls := "FormulaVoiceModel", name := "keeps", desc := "(IIZ)I" } : Jvm.MethodName)) ∈ lw_all := lw_g (lw_at lw_m6 95 rfl) rfl
theorem q1370 : (Jvm.Cond.methodLink "FormulaVoiceLaw" (69 : Nat) ({ cls := "FormulaVoiceModel", name := "words", desc := "(II)I" } : Jvm.MethodName)) ∈ lw_all := lw_g (lw_at lw_m6 106 rfl) rfl
theorem q1385 : (Jvm.Cond.methodLink "FormulaVoiceLaw" (73 : Nat) ({ cls := "FormulaVoiceModel", name := "word", desc := "(III)I" } : Jvm.MethodName)) ∈ lw_all := lw_g (lw_at lw_m6 121 rfl) rfl
theorem q1405 : (Jvm.Cond.methodLink "FormulaVoiceLaw" (77 : Nat) ({ cls := "FormulaVoiceModel", name := "sound", desc := "(III)I" } : Jvm.MethodName)) ∈ lw_all := lw_g (lw_at lw_m6 141 rfl) rfl
theorem q1409 : (Jvm.Cond.methodLink "FormulaVoiceLaw" (81 : Nat) ({ cls := "FormulaVoiceModel", name := "clear", desc := "(II)I" } : Jvm.MethodName)) ∈ lw_all := lw_g (lw_at lw_m6 145 rfl) rfl
theorem q1426 : (Jvm.Cond.methodLink "FormulaVoiceLaw" (85 : Nat) ({ cls := "FormulaVoiceModel", name := "hear", desc := "(II)I" } : Jvm.MethodName)) ∈ lw_all := lw_g (lw_at lw_m6 162 rfl) rfl
theorem q1431 : (Jvm.Cond.methodLink "FormulaVoiceLaw" (89 : Nat) ({ cls := "FormulaVoiceModel", name := "listen", desc := "(II)I" } : Jvm.MethodName)) ∈ lw_all := lw_g (lw_at lw_m6 167 rfl) rfl
theorem q1439 : (Jvm.Cond.methodLink "FormulaVoiceLaw" (93 : Nat) ({ cls := "FormulaVoiceModel", name := "hush", desc := "()I" } : Jvm.MethodName)) ∈ lw_all := lw_g (lw_at lw_m6 175 rfl) rfl
theorem q1443 : (Jvm.Cond.methodLink "FormulaVoiceLaw" (97 : Nat) ({ cls := "FormulaVoiceModel", name := "ear", desc := "(I)I" } : Jvm.MethodName)) ∈ lw_all := lw_g (lw_at lw_m6 179 rfl) rfl
theorem q1447 : (Jvm.Cond.methodLink "FormulaVoiceLaw" (103 : Nat) ({ cls := "FormulaVoiceModel", name := "readings", desc := "(I)J" } : Jvm.MethodName)) ∈ lw_all := lw_g (lw_at lw_m6 183 rfl) rfl
theorem q1481 : (Jvm.Cond.methodLink "FormulaVoiceLaw" (113 : Nat) ({ cls := "FormulaVoiceModel", name := "write", desc := "(IJ)I" } : Jvm.MethodName)) ∈ lw_all := lw_g (lw_at lw_m6 217 rfl) rfl
theorem q1501 : (Jvm.Cond.methodLink "FormulaVoiceLaw" (117 : Nat) ({ cls := "FormulaVoiceModel", name := "place", desc := "(II)J" } : Jvm.MethodName)) ∈ lw_all := lw_g (lw_at lw_m6 237 rfl) rfl
theorem q1519 : (Jvm.Cond.methodLink "FormulaVoiceLaw" (122 : Nat) ({ cls := "FormulaVoiceModel", name := "doubt", desc := "(IJJ)I" } : Jvm.MethodName)) ∈ lw_all := lw_g (lw_at lw_m7 15 rfl) rfl
theorem q1523 : (Jvm.Cond.methodLink "FormulaVoiceLaw" (126 : Nat) ({ cls := "FormulaVoiceModel", name := "fewest", desc := "(I)I" } : Jvm.MethodName)) ∈ lw_all := lw_g (lw_at lw_m7 19 rfl) rfl
theorem q1538 : (Jvm.Cond.methodLink "FormulaVoiceLaw" (130 : Nat) ({ cls := "FormulaVoiceModel", name := "walk", desc := "(I)I" } : Jvm.MethodName)) ∈ lw_all := lw_g (lw_at lw_m7 34 rfl) rfl
theorem q1542 : (Jvm.Cond.methodLink "FormulaVoiceLaw" (134 : Nat) ({ cls := "FormulaVoiceModel", name := "go", desc := "(I)I" } : Jvm.MethodName)) ∈ lw_all := lw_g (lw_at lw_m7 38 rfl) rfl
theorem q1551 : (Jvm.Cond.methodLink "FormulaVoiceLaw" (137 : Nat) ({ cls := "FormulaVoiceModel", name := "where", desc := "(I)I" } : Jvm.MethodName)) ∈ lw_all := lw_g (lw_at lw_m7 47 rfl) rfl
theorem q1555 : (Jvm.Cond.methodLink "FormulaVoiceLaw" (141 : Nat) ({ cls := "FormulaVoiceModel", name := "lead", desc := "(I)I" } : Jvm.MethodName)) ∈ lw_all := lw_g (lw_at lw_m7 51 rfl) rfl
theorem q1559 : (Jvm.Cond.methodLink "FormulaVoiceLaw" (145 : Nat) ({ cls := "FormulaVoiceModel", name := "glance", desc := "(II)I" } : Jvm.MethodName)) ∈ lw_all := lw_g (lw_at lw_m7 55 rfl) rfl
theorem q1567 : (Jvm.Cond.methodLink "FormulaVoiceLaw" (149 : Nat) ({ cls := "FormulaVoiceModel", name := "changed", desc := "(II)I" } : Jvm.MethodName)) ∈ lw_all := lw_g (lw_at lw_m7 63 rfl) rfl
theorem q1579 : (Jvm.Cond.methodLink "FormulaVoiceLaw" (153 : Nat) ({ cls := "FormulaVoiceModel", name := "exchanged", desc := "(II)I" } : Jvm.MethodName)) ∈ lw_all := lw_g (lw_at lw_m7 75 rfl) rfl
theorem q1587 : (Jvm.Cond.methodLink "FormulaVoiceLaw" (157 : Nat) ({ cls := "FormulaVoiceModel", name := "count", desc := "(I)I" } : Jvm.MethodName)) ∈ lw_all := lw_g (lw_at lw_m7 83 rfl) rfl
theorem q1595 : (Jvm.Cond.methodLink "FormulaVoiceLaw" (161 : Nat) ({ cls := "FormulaVoiceModel", name := "keep", desc := "(III)I" } : Jvm.MethodName)) ∈ lw_all := lw_g (lw_at lw_m7 91 rfl) rfl
theorem q1606 : (Jvm.Cond.methodLink "FormulaVoiceLaw" (165 : Nat) ({ cls := "FormulaVoiceModel", name := "make", desc := "(III)I" } : Jvm.MethodName)) ∈ lw_all := lw_g (lw_at lw_m7 102 rfl) rfl
theorem q1610 : (Jvm.Cond.methodLink "FormulaVoiceLaw" (169 : Nat) ({ cls := "FormulaVoiceModel", name := "element", desc := "(II)J" } : Jvm.MethodName)) ∈ lw_all := lw_g (lw_at lw_m7 106 rfl) rfl
theorem q1614 : (Jvm.Cond.methodLink "FormulaVoiceLaw" (174 : Nat) ({ cls := "FormulaVoiceModel", name := "copy", desc := "(IIIII)I" } : Jvm.MethodName)) ∈ lw_all := lw_g (lw_at lw_m7 110 rfl) rfl
theorem q1618 : (Jvm.Cond.methodLink "FormulaVoiceLaw" (178 : Nat) ({ cls := "FormulaVoiceModel", name := "weight", desc := "(I)I" } : Jvm.MethodName)) ∈ lw_all := lw_g (lw_at lw_m7 114 rfl) rfl
theorem q1626 : (Jvm.Cond.methodLink "FormulaVoiceLaw" (182 : Nat) ({ cls := "FormulaVoiceModel", name := "toss", desc := "(I)I" } : Jvm.MethodName)) ∈ lw_all := lw_g (lw_at lw_m7 122 rfl) rfl
theorem q1630 : (Jvm.Cond.constantLong "FormulaVoiceLaw" (107 : Nat) (4294967295 : Int64)) ∈ lw_all := lw_g (lw_at lw_m7 126 rfl) rfl
def RX1 : String := "FormulaVoice"
def TX1 : u_T := fun k => match k with
  | 0 => ("FormulaVoice", "nodes", "Ljava/util/ArrayList;", true)
  | 1 => ("FormulaVoice", "functions", "I", false)
  | 2 => ("FormulaVoice", "kept", "[I", true)
  | 3 => ("FormulaVoice", "said", "LFormulaVoice$Words;", true)
  | 4 => ("FormulaVoice", "beside", "LFormulaVoice$Words;", true)
  | 5 => ("FormulaVoice", "manner", "LFormulaVoice$Manner;", true)
  | 6 => ("FormulaVoice", "small", "Ljava/util/ArrayList;", true)
  | 7 => ("FormulaVoice", "from", "[I", true)
  | 8 => ("FormulaVoice", "ear", "[B", true)
  | 9 => ("FormulaVoice", "heard", "I", false)
  | 10 => ("FormulaVoice", "counts", "[[J", true)
  | 11 => ("FormulaVoice", "listening", "I", false)
  | 12 => ("FormulaVoice", "choice", "I", false)
  | 13 => ("FormulaVoice", "chosen", "I", false)
  | 14 => ("FormulaVoice", "before", "[B", true)
  | 15 => ("FormulaVoice", "path", "[LFormulaVoice$Node;", true)
  | 16 => ("FormulaVoice", "isSecond", "[Z", true)
  | 17 => ("FormulaVoice", "deep", "I", false)
  | _ => ("FormulaVoice", "shelves", "[LFormulaVoice$Shelf;", true)
def tyX1 : Nat → FieldType := fun k => match k with
  | 0 => .object "java/util/ArrayList"
  | 1 => .int
  | 2 => .array .int
  | 3 => .object "FormulaVoice$Words"
  | 4 => .object "FormulaVoice$Words"
  | 5 => .object "FormulaVoice$Manner"
  | 6 => .object "java/util/ArrayList"
  | 7 => .array .int
  | 8 => .array .byte
  | 9 => .int
  | 10 => .array (.array .long)
  | 11 => .int
  | 12 => .int
  | 13 => .int
  | 14 => .array .byte
  | 15 => .array (.object "FormulaVoice$Node")
  | 16 => .array .boolean
  | 17 => .int
  | _ => .array (.object "FormulaVoice$Shelf")
abbrev wsX10 : List Cond := u_ws RX1 TX1 19
theorem nmX1 : ∀ a, a < 19 → ∀ b, b < 19 → a ≠ b → (TX1 a).2.1 ≠ (TX1 b).2.1 := by decide +kernel
theorem tyX1_ok : ∀ k, k < 19 → parseFieldDescriptor (TX1 k).2.2.1 = some (tyX1 k) := by decide +kernel
abbrev cX1_leaf : ByteArray := prog_1_method_6_code
def yX1_leaf : MethodName := ⟨RX1, "leaf", "(II)I"⟩
abbrev cX1_isIn : ByteArray := prog_1_method_2_code
def yX1_isIn : MethodName := ⟨RX1, "isIn", "(JJJ)Z"⟩
abbrev cX1_made : ByteArray := prog_1_method_1_code
def yX1_made : MethodName := ⟨RX1, "made", "(IILFormulaVoice$Node;LFormulaVoice$Node;I)LFormulaVoice$Node;"⟩
abbrev cX1_adds : ByteArray := prog_1_method_5_code
def yX1_adds : MethodName := ⟨RX1, "adds", "(LFormulaVoice$Node;)I"⟩
abbrev cX1_node : ByteArray := prog_1_method_7_code
def yX1_node : MethodName := ⟨RX1, "node", "(III)I"⟩
abbrev cX1_isNode : ByteArray := prog_1_method_3_code
def yX1_isNode : MethodName := ⟨RX1, "isNode", "(I)Z"⟩
abbrev cX1_undo : ByteArray := prog_1_method_8_code
def yX1_undo : MethodName := ⟨RX1, "undo", "()I"⟩
abbrev cX1_means : ByteArray := prog_1_method_9_code
def yX1_means : MethodName := ⟨RX1, "means", "(IZ)I"⟩
abbrev cX1_look : ByteArray := prog_1_method_10_code
def yX1_look : MethodName := ⟨RX1, "look", "(II)I"⟩
abbrev cX1_alike : ByteArray := prog_1_method_11_code
def yX1_alike : MethodName := ⟨RX1, "alike", "(II)I"⟩
abbrev cX1_times : ByteArray := prog_1_method_13_code
def yX1_times : MethodName := ⟨RX1, "times", "(II)I"⟩
abbrev cX1_timesIn : ByteArray := prog_1_method_12_code
def yX1_timesIn : MethodName := ⟨RX1, "timesIn", "(LFormulaVoice$Node;LFormulaVoice$Node;)I"⟩
abbrev cX1_keeps : ByteArray := prog_1_method_15_code
def yX1_keeps : MethodName := ⟨RX1, "keeps", "(IIZ)I"⟩
abbrev cX1_isStyle : ByteArray := prog_1_method_4_code
def yX1_isStyle : MethodName := ⟨RX1, "isStyle", "(I)Z"⟩
abbrev cX1_isKeeper : ByteArray := prog_1_method_14_code
def yX1_isKeeper : MethodName := ⟨RX1, "isKeeper", "(I)Z"⟩
abbrev cX1_words : ByteArray := prog_1_method_18_code
def yX1_words : MethodName := ⟨RX1, "words", "(II)I"⟩
abbrev cX1_says : ByteArray := prog_1_method_16_code
def yX1_says : MethodName := ⟨RX1, "says", "(LFormulaVoice$Words;LFormulaVoice$Node;II)Z"⟩
abbrev cX1_saysSo : ByteArray := prog_1_method_17_code
def yX1_saysSo : MethodName := ⟨RX1, "saysSo", "(LFormulaVoice$Words;LFormulaVoice$Node;)Z"⟩
abbrev cX1_word : ByteArray := prog_1_method_19_code
def yX1_word : MethodName := ⟨RX1, "word", "(III)I"⟩
abbrev cX1_sound : ByteArray := prog_1_method_20_code
def yX1_sound : MethodName := ⟨RX1, "sound", "(III)I"⟩
abbrev cX1_clear : ByteArray := prog_1_method_22_code
def yX1_clear : MethodName := ⟨RX1, "clear", "(II)I"⟩
abbrev cX1_grows : ByteArray := prog_1_method_21_code
def yX1_grows : MethodName := ⟨RX1, "grows", "()V"⟩
abbrev cX1_hear : ByteArray := prog_1_method_24_code
def yX1_hear : MethodName := ⟨RX1, "hear", "(II)I"⟩
abbrev cX1_isWord : ByteArray := prog_1_method_23_code
def yX1_isWord : MethodName := ⟨RX1, "isWord", "(I)Z"⟩
abbrev cX1_listen : ByteArray := prog_1_method_26_code
def yX1_listen : MethodName := ⟨RX1, "listen", "(II)I"⟩
abbrev cX1_takes : ByteArray := prog_1_method_25_code
def yX1_takes : MethodName := ⟨RX1, "takes", "(LFormulaVoice$Words;)V"⟩
abbrev cX1_hush : ByteArray := prog_1_method_27_code
def yX1_hush : MethodName := ⟨RX1, "hush", "()I"⟩
abbrev cX1_ear : ByteArray := prog_1_method_28_code
def yX1_ear : MethodName := ⟨RX1, "ear", "(I)I"⟩
abbrev cX1_write : ByteArray := prog_1_method_41_code
def yX1_write : MethodName := ⟨RX1, "write", "(IJ)I"⟩
abbrev cX1_isEar : ByteArray := prog_1_method_37_code
def yX1_isEar : MethodName := ⟨RX1, "isEar", "(I)Z"⟩
abbrev cX1_listens : ByteArray := prog_1_method_36_code
def yX1_listens : MethodName := ⟨RX1, "listens", "(I)J"⟩
abbrev cX1_span : ByteArray := prog_1_method_35_code
def yX1_span : MethodName := ⟨RX1, "span", "(II)J"⟩
abbrev cX1_ofKind : ByteArray := prog_1_method_34_code
def yX1_ofKind : MethodName := ⟨RX1, "ofKind", "(IZIII)J"⟩
abbrev cX1_mayBe : ByteArray := prog_1_method_33_code
def yX1_mayBe : MethodName := ⟨RX1, "mayBe", "(IZ)Z"⟩
abbrev cX1_plain : ByteArray := prog_1_method_32_code
def yX1_plain : MethodName := ⟨RX1, "plain", "(IIII)J"⟩
abbrev cX1_isLetter : ByteArray := prog_1_method_30_code
def yX1_isLetter : MethodName := ⟨RX1, "isLetter", "(IZ)Z"⟩
abbrev cX1_numberOf : ByteArray := prog_1_method_31_code
def yX1_numberOf : MethodName := ⟨RX1, "numberOf", "(II)I"⟩
abbrev cX1_times_2 : ByteArray := prog_1_method_29_code
def yX1_times_2 : MethodName := ⟨RX1, "times", "(JJ)J"⟩
abbrev cX1_reading : ByteArray := prog_1_method_39_code
def yX1_reading : MethodName := ⟨RX1, "reading", "(IIJLjava/util/ArrayList;)LFormulaVoice$Node;"⟩
abbrev cX1_reading_2 : ByteArray := prog_1_method_40_code
def yX1_reading_2 : MethodName := ⟨RX1, "reading", "(IIIIJLjava/util/ArrayList;)LFormulaVoice$Node;"⟩
abbrev cX1_place : ByteArray := prog_1_method_44_code
def yX1_place : MethodName := ⟨RX1, "place", "(II)J"⟩
abbrev cX1_placeOf : ByteArray := prog_1_method_42_code
def yX1_placeOf : MethodName := ⟨RX1, "placeOf", "(LFormulaVoice$Node;II)J"⟩
abbrev cX1_placeOf_2 : ByteArray := prog_1_method_43_code
def yX1_placeOf_2 : MethodName := ⟨RX1, "placeOf", "(LFormulaVoice$Node;III)J"⟩
abbrev cX1_doubt : ByteArray := prog_1_method_45_code
def yX1_doubt : MethodName := ⟨RX1, "doubt", "(IJJ)I"⟩
abbrev cX1_fewest : ByteArray := prog_1_method_49_code
def yX1_fewest : MethodName := ⟨RX1, "fewest", "(I)I"⟩
abbrev cX1_keepers : ByteArray := prog_1_method_46_code
def yX1_keepers : MethodName := ⟨RX1, "keepers", "(LFormulaVoice$Node;)I"⟩
abbrev cX1_many : ByteArray := prog_1_method_50_code
def yX1_many : MethodName := ⟨RX1, "many", "(I)I"⟩
abbrev cX1_isSure : ByteArray := prog_1_method_48_code
def yX1_isSure : MethodName := ⟨RX1, "isSure", "(LFormulaVoice$Node;I)Z"⟩
abbrev cX1_chooses : ByteArray := prog_1_method_47_code
def yX1_chooses : MethodName := ⟨RX1, "chooses", "(LFormulaVoice$Node;)V"⟩
abbrev cX1_walk : ByteArray := prog_1_method_51_code
def yX1_walk : MethodName := ⟨RX1, "walk", "(I)I"⟩
abbrev cX1_go : ByteArray := prog_1_method_53_code
def yX1_go : MethodName := ⟨RX1, "go", "(I)I"⟩
abbrev cX1_goesDown : ByteArray := prog_1_method_52_code
def yX1_goesDown : MethodName := ⟨RX1, "goesDown", "(Z)Z"⟩
abbrev cX1_lead : ByteArray := prog_1_method_55_code
def yX1_lead : MethodName := ⟨RX1, "lead", "(I)I"⟩
abbrev cX1_glance : ByteArray := prog_1_method_56_code
def yX1_glance : MethodName := ⟨RX1, "glance", "(II)I"⟩
abbrev cX1_changed : ByteArray := prog_1_method_60_code
def yX1_changed : MethodName := ⟨RX1, "changed", "(II)I"⟩
abbrev cX1_difference : ByteArray := prog_1_method_57_code
def yX1_difference : MethodName := ⟨RX1, "difference", "(LFormulaVoice$Node;LFormulaVoice$Node;)I"⟩
abbrev cX1_parts : ByteArray := prog_1_method_58_code
def yX1_parts : MethodName := ⟨RX1, "parts", "(LFormulaVoice$Node;LFormulaVoice$Node;)I"⟩
abbrev cX1_exchanged : ByteArray := prog_1_method_61_code
def yX1_exchanged : MethodName := ⟨RX1, "exchanged", "(II)I"⟩
abbrev cX1_exchanges : ByteArray := prog_1_method_59_code
def yX1_exchanges : MethodName := ⟨RX1, "exchanges", "(LFormulaVoice$Node;LFormulaVoice$Node;)I"⟩
abbrev cX1_count : ByteArray := prog_1_method_62_code
def yX1_count : MethodName := ⟨RX1, "count", "(I)I"⟩
abbrev cX1_init : ByteArray := prog_1_method_63_code
def yX1_init : MethodName := ⟨RX1, "<init>", "()V"⟩
abbrev cX1_keep : ByteArray := prog_1_method_66_code
def yX1_keep : MethodName := ⟨RX1, "keep", "(III)I"⟩
abbrev cX1_isShelf : ByteArray := prog_1_method_64_code
def yX1_isShelf : MethodName := ⟨RX1, "isShelf", "(I)Z"⟩
abbrev cX1_rowOf : ByteArray := prog_1_method_67_code
def yX1_rowOf : MethodName := ⟨RX1, "rowOf", "(II)Ljava/lang/Object;"⟩
abbrev cX1_lays : ByteArray := prog_1_method_65_code
def yX1_lays : MethodName := ⟨RX1, "lays", "(LFormulaVoice$Node;[CI)I"⟩
abbrev cX1_make : ByteArray := prog_1_method_68_code
def yX1_make : MethodName := ⟨RX1, "make", "(III)I"⟩
abbrev cX1_copy : ByteArray := prog_1_method_71_code
def yX1_copy : MethodName := ⟨RX1, "copy", "(IIIII)I"⟩
abbrev cX1_sortOf : ByteArray := prog_1_method_70_code
def yX1_sortOf : MethodName := ⟨RX1, "sortOf", "(Ljava/lang/Object;)I"⟩
abbrev cX1_weight : ByteArray := prog_1_method_72_code
def yX1_weight : MethodName := ⟨RX1, "weight", "(I)I"⟩
abbrev cX1_toss : ByteArray := prog_1_method_73_code
def yX1_toss : MethodName := ⟨RX1, "toss", "(I)I"⟩
abbrev cX1_readings : ByteArray := prog_1_method_38_code
def yX1_readings : MethodName := ⟨RX1, "readings", "(I)J"⟩
abbrev cX1_where : ByteArray := prog_1_method_54_code
def yX1_where : MethodName := ⟨RX1, "where", "(I)I"⟩
abbrev cX1_element : ByteArray := prog_1_method_69_code
def yX1_element : MethodName := ⟨RX1, "element", "(II)J"⟩
theorem q65 : (Jvm.Cond.initialized "FormulaVoice") ∈ lw_all := lw_g (lw_at lw_m1 1 rfl) rfl
theorem q101 : (Jvm.Cond.instanceMethod ({ cls := "FormulaVoice", name := "leaf", desc := "(II)I" } : Jvm.MethodName)) ∈ lw_all := lw_g (lw_at lw_m1 37 rfl) rfl
theorem q102 : (Jvm.Cond.selects "FormulaVoice" ({ cls := "FormulaVoice", name := "leaf", desc := "(II)I" } : Jvm.MethodName) ({ cls := "FormulaVoice", name := "leaf", desc := "(II)I" } : Jvm.MethodName)) ∈ lw_all := lw_g (lw_at lw_m1 38 rfl) rfl
theorem q103 : (Jvm.Cond.code ({ cls := "FormulaVoice", name := "leaf", desc := "(II)I" } : Jvm.MethodName) prog_1_method_6_code (3 : Nat) (Option.some Jvm.ClassFile.FieldType.int)) ∈ lw_all := lw_g (lw_at lw_m1 39 rfl) rfl
theorem q104 : (Jvm.Cond.methodLink "FormulaVoice" (45 : Nat) ({ cls := "FormulaVoice", name := "isIn", desc := "(JJJ)Z" } : Jvm.MethodName)) ∈ lw_all := lw_g (lw_at lw_m1 40 rfl) rfl
theorem q105 : (Jvm.Cond.static ({ cls := "FormulaVoice", name := "isIn", desc := "(JJJ)Z" } : Jvm.MethodName)) ∈ lw_all := lw_g (lw_at lw_m1 41 rfl) rfl
theorem q106 : (Jvm.Cond.code ({ cls := "FormulaVoice", name := "isIn", desc := "(JJJ)Z" } : Jvm.MethodName) prog_1_method_2_code (6 : Nat) (Option.some Jvm.ClassFile.FieldType.boolean)) ∈ lw_all := lw_g (lw_at lw_m1 42 rfl) rfl
theorem q107 : (Jvm.Cond.constantLong "FormulaVoice" (55 : Nat) (9 : Int64)) ∈ lw_all := lw_g (lw_at lw_m1 43 rfl) rfl
theorem q108 : (Jvm.Cond.constantLong "FormulaVoice" (57 : Nat) (9999 : Int64)) ∈ lw_all := lw_g (lw_at lw_m1 44 rfl) rfl
theorem q109 : (Jvm.Cond.methodLink "FormulaVoice" (39 : Nat) ({ cls := "java/util/ArrayList", name := "size", desc := "()I" } : Jvm.MethodName)) ∈ lw_all := lw_g (lw_at lw_m1 45 rfl) rfl
theorem q113 : (Jvm.Cond.methodLink "FormulaVoice" (59 : Nat) ({ cls := "FormulaVoice", name := "made", desc := "(IILFormulaVoice$Node;LFormulaVoice$Node;I)LFormulaVoice$Node;" } : Jvm.MethodName)) ∈ lw_all := lw_g (lw_at lw_m1 49 rfl) rfl
theorem q114 : (Jvm.Cond.static ({ cls := "FormulaVoice", name := "made", desc := "(IILFormulaVoice$Node;LFormulaVoice$Node;I)LFormulaVoice$Node;" } : Jvm.MethodName)) ∈ lw_all := lw_g (lw_at lw_m1 50 rfl) rfl
theorem q115 : (Jvm.Cond.code ({ cls := "FormulaVoice", name := "made", desc := "(IILFormulaVoice$Node;LFormulaVoice$Node;I)LFormulaVoice$Node;" } : Jvm.MethodName) prog_1_method_1_code (5 : Nat) (Option.some (Jvm.ClassFile.FieldType.object "FormulaVoice$Node"))) ∈ lw_all := lw_g (lw_at lw_m1 51 rfl) rfl
theorem q116 : (Jvm.Cond.classLink "FormulaVoice" (1 : Nat) "FormulaVoice$Letter") ∈ lw_all := lw_g (lw_at lw_m1 52 rfl) rfl
theorem q118 : (Jvm.Cond.methodLink "FormulaVoice" (5 : Nat) ({ cls := "FormulaVoice$Letter", name := "<init>", desc := "(III)V" } : Jvm.MethodName)) ∈ lw_all := lw_g (lw_at lw_m1 54 rfl) rfl
theorem q131 : (Jvm.Cond.fieldLink "FormulaVoice" (89 : Nat) "FormulaVoice$Node" "number" "I") ∈ lw_all := lw_g (lw_at lw_m1 67 rfl) rfl
theorem q135 : (Jvm.Cond.fieldLink "FormulaVoice" (98 : Nat) "FormulaVoice$Node" "kind" "I") ∈ lw_all := lw_g (lw_at lw_m1 71 rfl) rfl
theorem q139 : (Jvm.Cond.fieldLink "FormulaVoice" (79 : Nat) "FormulaVoice$Node" "size" "I") ∈ lw_all := lw_g (lw_at lw_m1 75 rfl) rfl
theorem q143 : (Jvm.Cond.fieldLink "FormulaVoice" (111 : Nat) "FormulaVoice$Node" "depth" "I") ∈ lw_all := lw_g (lw_at lw_m1 79 rfl) rfl
theorem q155 : (Jvm.Cond.classLink "FormulaVoice" (9 : Nat) "FormulaVoice$Digits") ∈ lw_all := lw_g (lw_at lw_m1 91 rfl) rfl
theorem q157 : (Jvm.Cond.methodLink "FormulaVoice" (11 : Nat) ({ cls := "FormulaVoice$Digits", name := "<init>", desc := "(II)V" } : Jvm.MethodName)) ∈ lw_all := lw_g (lw_at lw_m1 93 rfl) rfl
theorem q167 : (Jvm.Cond.classLink "FormulaVoice" (14 : Nat) "FormulaVoice$Two") ∈ lw_all := lw_g (lw_at lw_m1 103 rfl) rfl
theorem q169 : (Jvm.Cond.methodLink "FormulaVoice" (16 : Nat) ({ cls := "FormulaVoice$Two", name := "<init>", desc := "(IILFormulaVoice$Node;LFormulaVoice$Node;)V" } : Jvm.MethodName)) ∈ lw_all := lw_g (lw_at lw_m1 105 rfl) rfl
theorem q187 : (Jvm.Cond.classLink "FormulaVoice" (19 : Nat) "FormulaVoice$Script") ∈ lw_all := lw_g (lw_at lw_m1 123 rfl) rfl
theorem q189 : (Jvm.Cond.methodLink "FormulaVoice" (21 : Nat) ({ cls := "FormulaVoice$Script", name := "<init>", desc := "(IILFormulaVoice$Node;LFormulaVoice$Node;)V" } : Jvm.MethodName)) ∈ lw_all := lw_g (lw_at lw_m1 125 rfl) rfl
theorem q200 : (Jvm.Cond.classLink "FormulaVoice" (22 : Nat) "FormulaVoice$Root") ∈ lw_all := lw_g (lw_at lw_m1 136 rfl) rfl
theorem q202 : (Jvm.Cond.methodLink "FormulaVoice" (24 : Nat) ({ cls := "FormulaVoice$Root", name := "<init>", desc := "(IILFormulaVoice$Node;)V" } : Jvm.MethodName)) ∈ lw_all := lw_g (lw_at lw_m1 138 rfl) rfl
theorem q214 : (Jvm.Cond.classLink "FormulaVoice" (27 : Nat) "FormulaVoice$Fenced") ∈ lw_all := lw_g (lw_at lw_m1 150 rfl) rfl
theorem q216 : (Jvm.Cond.methodLink "FormulaVoice" (29 : Nat) ({ cls := "FormulaVoice$Fenced", name := "<init>", desc := "(ILFormulaVoice$Node;)V" } : Jvm.MethodName)) ∈ lw_all := lw_g (lw_at lw_m1 152 rfl) rfl
theorem q226 : (Jvm.Cond.classLink "FormulaVoice" (32 : Nat) "FormulaVoice$Call") ∈ lw_all := lw_g (lw_at lw_m1 162 rfl) rfl
theorem q228 : (Jvm.Cond.methodLink "FormulaVoice" (34 : Nat) ({ cls := "FormulaVoice$Call", name := "<init>", desc := "(IILFormulaVoice$Node;)V" } : Jvm.MethodName)) ∈ lw_all := lw_g (lw_at lw_m1 164 rfl) rfl
theorem q241 : (Jvm.Cond.methodLink "FormulaVoice" (63 : Nat) ({ cls := "FormulaVoice", name := "adds", desc := "(LFormulaVoice$Node;)I" } : Jvm.MethodName)) ∈ lw_all := lw_g (lw_at lw_m1 177 rfl) rfl
theorem q242 : (Jvm.Cond.privateMethod ({ cls := "FormulaVoice", name := "adds", desc := "(LFormulaVoice$Node;)I" } : Jvm.MethodName)) ∈ lw_tbl := lw_at lw_m1 178 rfl
theorem q243 : (Jvm.Cond.instanceMethod ({ cls := "FormulaVoice", name := "adds", desc := "(LFormulaVoice$Node;)I" } : Jvm.MethodName)) ∈ lw_all := lw_g (lw_at lw_m1 179 rfl) rfl
theorem q244 : (Jvm.Cond.instantiable "FormulaVoice" (19 : Nat)) ∈ lw_all := lw_g (lw_at lw_m1 180 rfl) rfl
theorem q245 : (Jvm.Cond.code ({ cls := "FormulaVoice", name := "adds", desc := "(LFormulaVoice$Node;)I" } : Jvm.MethodName) prog_1_method_5_code (2 : Nat) (Option.some Jvm.ClassFile.FieldType.int)) ∈ lw_all := lw_g (lw_at lw_m1 181 rfl) rfl
theorem q246 : (Jvm.Cond.methodLink "FormulaVoice" (51 : Nat) ({ cls := "java/util/ArrayList", name := "add", desc := "(Ljava/lang/Object;)Z" } : Jvm.MethodName)) ∈ lw_all := lw_g (lw_at lw_m1 182 rfl) rfl
theorem q279 : (Jvm.Cond.selects "FormulaVoice" ({ cls := "java/lang/Object", name := "getClass", desc := "()Ljava/lang/Class;" } : Jvm.MethodName) ({ cls := "java/lang/Object", name := "getClass", desc := "()Ljava/lang/Class;" } : Jvm.MethodName)) ∈ lw_all := lw_g (lw_at lw_m1 215 rfl) rfl
theorem q316 : (Jvm.Cond.instanceMethod ({ cls := "FormulaVoice", name := "node", desc := "(III)I" } : Jvm.MethodName)) ∈ lw_all := lw_g (lw_at lw_m2 12 rfl) rfl
theorem q317 : (Jvm.Cond.selects "FormulaVoice" ({ cls := "FormulaVoice", name := "node", desc := "(III)I" } : Jvm.MethodName) ({ cls := "FormulaVoice", name := "node", desc := "(III)I" } : Jvm.MethodName)) ∈ lw_all := lw_g (lw_at lw_m2 13 rfl) rfl
theorem q318 : (Jvm.Cond.code ({ cls := "FormulaVoice", name := "node", desc := "(III)I" } : Jvm.MethodName) prog_1_method_7_code (5 : Nat) (Option.some Jvm.ClassFile.FieldType.int)) ∈ lw_all := lw_g (lw_at lw_m2 14 rfl) rfl
theorem q319 : (Jvm.Cond.constantLong "FormulaVoice" (67 : Nat) (2 : Int64)) ∈ lw_all := lw_g (lw_at lw_m2 15 rfl) rfl
theorem q320 : (Jvm.Cond.methodLink "FormulaVoice" (69 : Nat) ({ cls := "FormulaVoice", name := "isNode", desc := "(I)Z" } : Jvm.MethodName)) ∈ lw_all := lw_g (lw_at lw_m2 16 rfl) rfl
theorem q321 : (Jvm.Cond.privateMethod ({ cls := "FormulaVoice", name := "isNode", desc := "(I)Z" } : Jvm.MethodName)) ∈ lw_tbl := lw_at lw_m2 17 rfl
theorem q322 : (Jvm.Cond.instanceMethod ({ cls := "FormulaVoice", name := "isNode", desc := "(I)Z" } : Jvm.MethodName)) ∈ lw_all := lw_g (lw_at lw_m2 18 rfl) rfl
theorem q323 : (Jvm.Cond.code ({ cls := "FormulaVoice", name := "isNode", desc := "(I)Z" } : Jvm.MethodName) prog_1_method_3_code (2 : Nat) (Option.some Jvm.ClassFile.FieldType.boolean)) ∈ lw_all := lw_g (lw_at lw_m2 19 rfl) rfl
theorem q324 : (Jvm.Cond.methodLink "FormulaVoice" (73 : Nat) ({ cls := "java/util/ArrayList", name := "get", desc := "(I)Ljava/lang/Object;" } : Jvm.MethodName)) ∈ lw_all := lw_g (lw_at lw_m2 20 rfl) rfl
theorem q338 : (Jvm.Cond.classLink "FormulaVoice" (77 : Nat) "FormulaVoice$Node") ∈ lw_all := lw_g (lw_at lw_m2 34 rfl) rfl
theorem q340 : (Jvm.Cond.instanceMethod ({ cls := "FormulaVoice", name := "undo", desc := "()I" } : Jvm.MethodName)) ∈ lw_all := lw_g (lw_at lw_m2 36 rfl) rfl
theorem q341 : (Jvm.Cond.selects "FormulaVoice" ({ cls := "FormulaVoice", name := "undo", desc := "()I" } : Jvm.MethodName) ({ cls := "FormulaVoice", name := "undo", desc := "()I" } : Jvm.MethodName)) ∈ lw_all := lw_g (lw_at lw_m2 37 rfl) rfl
theorem q342 : (Jvm.Cond.code ({ cls := "FormulaVoice", name := "undo", desc := "()I" } : Jvm.MethodName) prog_1_method_8_code (3 : Nat) (Option.some Jvm.ClassFile.FieldType.int)) ∈ lw_all := lw_g (lw_at lw_m2 38 rfl) rfl
theorem q343 : (Jvm.Cond.methodLink "FormulaVoice" (92 : Nat) ({ cls := "java/util/ArrayList", name := "remove", desc := "(I)Ljava/lang/Object;" } : Jvm.MethodName)) ∈ lw_all := lw_g (lw_at lw_m2 39 rfl) rfl
theorem q353 : (Jvm.Cond.instanceMethod ({ cls := "FormulaVoice", name := "means", desc := "(IZ)I" } : Jvm.MethodName)) ∈ lw_all := lw_g (lw_at lw_m2 49 rfl) rfl
theorem q354 : (Jvm.Cond.selects "FormulaVoice" ({ cls := "FormulaVoice", name := "means", desc := "(IZ)I" } : Jvm.MethodName) ({ cls := "FormulaVoice", name := "means", desc := "(IZ)I" } : Jvm.MethodName)) ∈ lw_all := lw_g (lw_at lw_m2 50 rfl) rfl
theorem q355 : (Jvm.Cond.code ({ cls := "FormulaVoice", name := "means", desc := "(IZ)I" } : Jvm.MethodName) prog_1_method_9_code (4 : Nat) (Option.some Jvm.ClassFile.FieldType.int)) ∈ lw_all := lw_g (lw_at lw_m2 51 rfl) rfl
theorem q357 : (Jvm.Cond.instanceMethod ({ cls := "FormulaVoice", name := "look", desc := "(II)I" } : Jvm.MethodName)) ∈ lw_all := lw_g (lw_at lw_m2 53 rfl) rfl
theorem q358 : (Jvm.Cond.selects "FormulaVoice" ({ cls := "FormulaVoice", name := "look", desc := "(II)I" } : Jvm.MethodName) ({ cls := "FormulaVoice", name := "look", desc := "(II)I" } : Jvm.MethodName)) ∈ lw_all := lw_g (lw_at lw_m2 54 rfl) rfl
theorem q359 : (Jvm.Cond.code ({ cls := "FormulaVoice", name := "look", desc := "(II)I" } : Jvm.MethodName) prog_1_method_10_code (4 : Nat) (Option.some Jvm.ClassFile.FieldType.int)) ∈ lw_all := lw_g (lw_at lw_m2 55 rfl) rfl
theorem q360 : (Jvm.Cond.methodLink "FormulaVoice" (101 : Nat) ({ cls := "FormulaVoice$Node", name := "v", desc := "()I" } : Jvm.MethodName)) ∈ lw_all := lw_g (lw_at lw_m2 56 rfl) rfl
theorem q375 : (Jvm.Cond.methodLink "FormulaVoice" (104 : Nat) ({ cls := "FormulaVoice$Node", name := "x", desc := "()LFormulaVoice$Node;" } : Jvm.MethodName)) ∈ lw_all := lw_g (lw_at lw_m2 71 rfl) rfl
theorem q390 : (Jvm.Cond.methodLink "FormulaVoice" (108 : Nat) ({ cls := "FormulaVoice$Node", name := "y", desc := "()LFormulaVoice$Node;" } : Jvm.MethodName)) ∈ lw_all := lw_g (lw_at lw_m2 86 rfl) rfl
theorem q403 : (Jvm.Cond.methodLink "FormulaVoice" (114 : Nat) ({ cls := "FormulaVoice$Node", name := "isRight", desc := "(I)Z" } : Jvm.MethodName)) ∈ lw_all := lw_g (lw_at lw_m2 99 rfl) rfl
theorem q427 : (Jvm.Cond.instanceMethod ({ cls := "FormulaVoice", name := "alike", desc := "(II)I" } : Jvm.MethodName)) ∈ lw_all := lw_g (lw_at lw_m2 123 rfl) rfl
theorem q428 : (Jvm.Cond.selects "FormulaVoice" ({ cls := "FormulaVoice", name := "alike", desc := "(II)I" } : Jvm.MethodName) ({ cls := "FormulaVoice", name := "alike", desc := "(II)I" } : Jvm.MethodName)) ∈ lw_all := lw_g (lw_at lw_m2 124 rfl) rfl
theorem q429 : (Jvm.Cond.code ({ cls := "FormulaVoice", name := "alike", desc := "(II)I" } : Jvm.MethodName) prog_1_method_11_code (3 : Nat) (Option.some Jvm.ClassFile.FieldType.int)) ∈ lw_all := lw_g (lw_at lw_m2 125 rfl) rfl
theorem q430 : (Jvm.Cond.methodLink "FormulaVoice" (117 : Nat) ({ cls := "FormulaVoice$Node", name := "isLike", desc := "(LFormulaVoice$Node;)Z" } : Jvm.MethodName)) ∈ lw_all := lw_g (lw_at lw_m2 126 rfl) rfl
theorem q444 : (Jvm.Cond.instanceMethod ({ cls := "FormulaVoice", name := "times", desc := "(II)I" } : Jvm.MethodName)) ∈ lw_all := lw_g (lw_at lw_m2 140 rfl) rfl
theorem q445 : (Jvm.Cond.selects "FormulaVoice" ({ cls := "FormulaVoice", name := "times", desc := "(II)I" } : Jvm.MethodName) ({ cls := "FormulaVoice", name := "times", desc := "(II)I" } : Jvm.MethodName)) ∈ lw_all := lw_g (lw_at lw_m2 141 rfl) rfl
theorem q446 : (Jvm.Cond.code ({ cls := "FormulaVoice", name := "times", desc := "(II)I" } : Jvm.MethodName) prog_1_method_13_code (3 : Nat) (Option.some Jvm.ClassFile.FieldType.int)) ∈ lw_all := lw_g (lw_at lw_m2 142 rfl) rfl
theorem q447 : (Jvm.Cond.methodLink "FormulaVoice" (121 : Nat) ({ cls := "FormulaVoice", name := "timesIn", desc := "(LFormulaVoice$Node;LFormulaVoice$Node;)I" } : Jvm.MethodName)) ∈ lw_all := lw_g (lw_at lw_m2 143 rfl) rfl
theorem q448 : (Jvm.Cond.static ({ cls := "FormulaVoice", name := "timesIn", desc := "(LFormulaVoice$Node;LFormulaVoice$Node;)I" } : Jvm.MethodName)) ∈ lw_all := lw_g (lw_at lw_m2 144 rfl) rfl
theorem q449 : (Jvm.Cond.code ({ cls := "FormulaVoice", name := "timesIn", desc := "(LFormulaVoice$Node;LFormulaVoice$Node;)I" } : Jvm.MethodName) prog_1_method_12_code (3 : Nat) (Option.some Jvm.ClassFile.FieldType.int)) ∈ lw_all := lw_g (lw_at lw_m2 145 rfl) rfl
theorem q451 : (Jvm.Cond.instanceMethod ({ cls := "FormulaVoice", name := "keeps", desc := "(IIZ)I" } : Jvm.MethodName)) ∈ lw_all := lw_g (lw_at lw_m2 147 rfl) rfl
theorem q452 : (Jvm.Cond.selects "FormulaVoice" ({ cls := "FormulaVoice", name := "keeps", desc := "(IIZ)I" } : Jvm.MethodName) ({ cls := "FormulaVoice", name := "keeps", desc := "(IIZ)I" } : Jvm.MethodName)) ∈ lw_all := lw_g (lw_at lw_m2 148 rfl) rfl
theorem q453 : (Jvm.Cond.code ({ cls := "FormulaVoice", name := "keeps", desc := "(IIZ)I" } : Jvm.MethodName) prog_1_method_15_code (5 : Nat) (Option.some Jvm.ClassFile.FieldType.int)) ∈ lw_all := lw_g (lw_at lw_m2 149 rfl) rfl
theorem q454 : (Jvm.Cond.methodLink "FormulaVoice" (125 : Nat) ({ cls := "FormulaVoice", name := "isStyle", desc := "(I)Z" } : Jvm.MethodName)) ∈ lw_all := lw_g (lw_at lw_m2 150 rfl) rfl
theorem q455 : (Jvm.Cond.static ({ cls := "FormulaVoice", name := "isStyle", desc := "(I)Z" } : Jvm.MethodName)) ∈ lw_all := lw_g (lw_at lw_m2 151 rfl) rfl
theorem q456 : (Jvm.Cond.code ({ cls := "FormulaVoice", name := "isStyle", desc := "(I)Z" } : Jvm.MethodName) prog_1_method_4_code (1 : Nat) (Option.some Jvm.ClassFile.FieldType.boolean)) ∈ lw_all := lw_g (lw_at lw_m2 152 rfl) rfl
theorem q457 : (Jvm.Cond.constantLong "FormulaVoice" (49 : Nat) (7 : Int64)) ∈ lw_all := lw_g (lw_at lw_m2 153 rfl) rfl
theorem q458 : (Jvm.Cond.methodLink "FormulaVoice" (128 : Nat) ({ cls := "FormulaVoice", name := "isKeeper", desc := "(I)Z" } : Jvm.MethodName)) ∈ lw_all := lw_g (lw_at lw_m2 154 rfl) rfl
theorem q459 : (Jvm.Cond.static ({ cls := "FormulaVoice", name := "isKeeper", desc := "(I)Z" } : Jvm.MethodName)) ∈ lw_all := lw_g (lw_at lw_m2 155 rfl) rfl
theorem q460 : (Jvm.Cond.code ({ cls := "FormulaVoice", name := "isKeeper", desc := "(I)Z" } : Jvm.MethodName) prog_1_method_14_code (1 : Nat) (Option.some Jvm.ClassFile.FieldType.boolean)) ∈ lw_all := lw_g (lw_at lw_m2 156 rfl) rfl
theorem q462 : (Jvm.Cond.instanceMethod ({ cls := "FormulaVoice", name := "words", desc := "(II)I" } : Jvm.MethodName)) ∈ lw_all := lw_g (lw_at lw_m2 158 rfl) rfl
theorem q463 : (Jvm.Cond.selects "FormulaVoice" ({ cls := "FormulaVoice", name := "words", desc := "(II)I" } : Jvm.MethodName) ({ cls := "FormulaVoice", name := "words", desc := "(II)I" } : Jvm.MethodName)) ∈ lw_all := lw_g (lw_at lw_m2 159 rfl) rfl
theorem q464 : (Jvm.Cond.code ({ cls := "FormulaVoice", name := "words", desc := "(II)I" } : Jvm.MethodName) prog_1_method_18_code (3 : Nat) (Option.some Jvm.ClassFile.FieldType.int)) ∈ lw_all := lw_g (lw_at lw_m2 160 rfl) rfl
theorem q465 : (Jvm.Cond.methodLink "FormulaVoice" (164 : Nat) ({ cls := "FormulaVoice", name := "says", desc := "(LFormulaVoice$Words;LFormulaVoice$Node;II)Z" } : Jvm.MethodName)) ∈ lw_all := lw_g (lw_at lw_m2 161 rfl) rfl
theorem q466 : (Jvm.Cond.privateMethod ({ cls := "FormulaVoice", name := "says", desc := "(LFormulaVoice$Words;LFormulaVoice$Node;II)Z" } : Jvm.MethodName)) ∈ lw_tbl := lw_at lw_m2 162 rfl
theorem q467 : (Jvm.Cond.instanceMethod ({ cls := "FormulaVoice", name := "says", desc := "(LFormulaVoice$Words;LFormulaVoice$Node;II)Z" } : Jvm.MethodName)) ∈ lw_all := lw_g (lw_at lw_m2 163 rfl) rfl
theorem q468 : (Jvm.Cond.code ({ cls := "FormulaVoice", name := "says", desc := "(LFormulaVoice$Words;LFormulaVoice$Node;II)Z" } : Jvm.MethodName) prog_1_method_16_code (5 : Nat) (Option.some Jvm.ClassFile.FieldType.boolean)) ∈ lw_all := lw_g (lw_at lw_m2 164 rfl) rfl
theorem q469 : (Jvm.Cond.methodLink "FormulaVoice" (144 : Nat) ({ cls := "FormulaVoice", name := "saysSo", desc := "(LFormulaVoice$Words;LFormulaVoice$Node;)Z" } : Jvm.MethodName)) ∈ lw_all := lw_g (lw_at lw_m2 165 rfl) rfl
theorem q470 : (Jvm.Cond.privateMethod ({ cls := "FormulaVoice", name := "saysSo", desc := "(LFormulaVoice$Words;LFormulaVoice$Node;)Z" } : Jvm.MethodName)) ∈ lw_tbl := lw_at lw_m2 166 rfl
theorem q471 : (Jvm.Cond.instanceMethod ({ cls := "FormulaVoice", name := "saysSo", desc := "(LFormulaVoice$Words;LFormulaVoice$Node;)Z" } : Jvm.MethodName)) ∈ lw_all := lw_g (lw_at lw_m2 167 rfl) rfl
theorem q472 : (Jvm.Cond.codeWith ({ cls := "FormulaVoice", name := "saysSo", desc := "(LFormulaVoice$Words;LFormulaVoice$Node;)Z" } : Jvm.MethodName) prog_1_method_17_code (4 : Nat) (Option.some Jvm.ClassFile.FieldType.boolean) [((4 : Nat), (15 : Nat), (16 : Nat), (158 : Nat))]) ∈ lw_all := lw_g (lw_at lw_m2 168 rfl) rfl
theorem q473 : (Jvm.Cond.classLink "FormulaVoice" (158 : Nat) "FormulaVoice$Endless") ∈ lw_all := lw_g (lw_at lw_m2 169 rfl) rfl
theorem q474 : (Jvm.Cond.methodLink "FormulaVoice" (148 : Nat) ({ cls := "FormulaVoice$Words", name := "clear", desc := "()V" } : Jvm.MethodName)) ∈ lw_all := lw_g (lw_at lw_m2 170 rfl) rfl
theorem q478 : (Jvm.Cond.methodLink "FormulaVoice" (154 : Nat) ({ cls := "FormulaVoice$Node", name := "says", desc := "(LFormulaVoice$Words;LFormulaVoice$Manner;I)V" } : Jvm.MethodName)) ∈ lw_all := lw_g (lw_at lw_m2 174 rfl) rfl
theorem q552 : (Jvm.Cond.instanceMethod ({ cls := "FormulaVoice", name := "word", desc := "(III)I" } : Jvm.MethodName)) ∈ lw_all := lw_g (lw_at lw_m3 8 rfl) rfl
theorem q553 : (Jvm.Cond.selects "FormulaVoice" ({ cls := "FormulaVoice", name := "word", desc := "(III)I" } : Jvm.MethodName) ({ cls := "FormulaVoice", name := "word", desc := "(III)I" } : Jvm.MethodName)) ∈ lw_all := lw_g (lw_at lw_m3 9 rfl) rfl
theorem q554 : (Jvm.Cond.code ({ cls := "FormulaVoice", name := "word", desc := "(III)I" } : Jvm.MethodName) prog_1_method_19_code (4 : Nat) (Option.some Jvm.ClassFile.FieldType.int)) ∈ lw_all := lw_g (lw_at lw_m3 10 rfl) rfl
theorem q556 : (Jvm.Cond.instanceMethod ({ cls := "FormulaVoice", name := "sound", desc := "(III)I" } : Jvm.MethodName)) ∈ lw_all := lw_g (lw_at lw_m3 12 rfl) rfl
theorem q557 : (Jvm.Cond.selects "FormulaVoice" ({ cls := "FormulaVoice", name := "sound", desc := "(III)I" } : Jvm.MethodName) ({ cls := "FormulaVoice", name := "sound", desc := "(III)I" } : Jvm.MethodName)) ∈ lw_all := lw_g (lw_at lw_m3 13 rfl) rfl
theorem q558 : (Jvm.Cond.code ({ cls := "FormulaVoice", name := "sound", desc := "(III)I" } : Jvm.MethodName) prog_1_method_20_code (4 : Nat) (Option.some Jvm.ClassFile.FieldType.int)) ∈ lw_all := lw_g (lw_at lw_m3 14 rfl) rfl
theorem q559 : (Jvm.Cond.methodLink "FormulaVoice" (175 : Nat) ({ cls := "FormulaVoice$Words", name := "isAs", desc := "(LFormulaVoice$Words;)Z" } : Jvm.MethodName)) ∈ lw_all := lw_g (lw_at lw_m3 15 rfl) rfl
theorem q564 : (Jvm.Cond.instanceMethod ({ cls := "FormulaVoice", name := "clear", desc := "(II)I" } : Jvm.MethodName)) ∈ lw_all := lw_g (lw_at lw_m3 20 rfl) rfl
theorem q565 : (Jvm.Cond.selects "FormulaVoice" ({ cls := "FormulaVoice", name := "clear", desc := "(II)I" } : Jvm.MethodName) ({ cls := "FormulaVoice", name := "clear", desc := "(II)I" } : Jvm.MethodName)) ∈ lw_all := lw_g (lw_at lw_m3 21 rfl) rfl
theorem q566 : (Jvm.Cond.code ({ cls := "FormulaVoice", name := "clear", desc := "(II)I" } : Jvm.MethodName) prog_1_method_22_code (7 : Nat) (Option.some Jvm.ClassFile.FieldType.int)) ∈ lw_all := lw_g (lw_at lw_m3 22 rfl) rfl
theorem q567 : (Jvm.Cond.constantLong "FormulaVoice" (185 : Nat) (4 : Int64)) ∈ lw_all := lw_g (lw_at lw_m3 23 rfl) rfl
theorem q568 : (Jvm.Cond.methodLink "FormulaVoice" (187 : Nat) ({ cls := "FormulaVoice", name := "grows", desc := "()V" } : Jvm.MethodName)) ∈ lw_all := lw_g (lw_at lw_m3 24 rfl) rfl
theorem q569 : (Jvm.Cond.privateMethod ({ cls := "FormulaVoice", name := "grows", desc := "()V" } : Jvm.MethodName)) ∈ lw_tbl := lw_at lw_m3 25 rfl
theorem q570 : (Jvm.Cond.instanceMethod ({ cls := "FormulaVoice", name := "grows", desc := "()V" } : Jvm.MethodName)) ∈ lw_all := lw_g (lw_at lw_m3 26 rfl) rfl
theorem q571 : (Jvm.Cond.code ({ cls := "FormulaVoice", name := "grows", desc := "()V" } : Jvm.MethodName) prog_1_method_21_code (6 : Nat) (Option.none : Option Jvm.ClassFile.FieldType)) ∈ lw_all := lw_g (lw_at lw_m3 27 rfl) rfl
theorem q573 : (Jvm.Cond.instanceMethod ({ cls := "FormulaVoice", name := "hear", desc := "(II)I" } : Jvm.MethodName)) ∈ lw_all := lw_g (lw_at lw_m3 29 rfl) rfl
theorem q574 : (Jvm.Cond.selects "FormulaVoice" ({ cls := "FormulaVoice", name := "hear", desc := "(II)I" } : Jvm.MethodName) ({ cls := "FormulaVoice", name := "hear", desc := "(II)I" } : Jvm.MethodName)) ∈ lw_all := lw_g (lw_at lw_m3 30 rfl) rfl
theorem q575 : (Jvm.Cond.code ({ cls := "FormulaVoice", name := "hear", desc := "(II)I" } : Jvm.MethodName) prog_1_method_24_code (4 : Nat) (Option.some Jvm.ClassFile.FieldType.int)) ∈ lw_all := lw_g (lw_at lw_m3 31 rfl) rfl
theorem q576 : (Jvm.Cond.constantLong "FormulaVoice" (192 : Nat) (5 : Int64)) ∈ lw_all := lw_g (lw_at lw_m3 32 rfl) rfl
theorem q577 : (Jvm.Cond.methodLink "FormulaVoice" (194 : Nat) ({ cls := "FormulaVoice", name := "isWord", desc := "(I)Z" } : Jvm.MethodName)) ∈ lw_all := lw_g (lw_at lw_m3 33 rfl) rfl
theorem q578 : (Jvm.Cond.static ({ cls := "FormulaVoice", name := "isWord", desc := "(I)Z" } : Jvm.MethodName)) ∈ lw_all := lw_g (lw_at lw_m3 34 rfl) rfl
theorem q579 : (Jvm.Cond.code ({ cls := "FormulaVoice", name := "isWord", desc := "(I)Z" } : Jvm.MethodName) prog_1_method_23_code (1 : Nat) (Option.some Jvm.ClassFile.FieldType.boolean)) ∈ lw_all := lw_g (lw_at lw_m3 35 rfl) rfl
theorem q580 : (Jvm.Cond.constantLong "FormulaVoice" (190 : Nat) (30 : Int64)) ∈ lw_all := lw_g (lw_at lw_m3 36 rfl) rfl
theorem q582 : (Jvm.Cond.instanceMethod ({ cls := "FormulaVoice", name := "listen", desc := "(II)I" } : Jvm.MethodName)) ∈ lw_all := lw_g (lw_at lw_m3 38 rfl) rfl
theorem q583 : (Jvm.Cond.selects "FormulaVoice" ({ cls := "FormulaVoice", name := "listen", desc := "(II)I" } : Jvm.MethodName) ({ cls := "FormulaVoice", name := "listen", desc := "(II)I" } : Jvm.MethodName)) ∈ lw_all := lw_g (lw_at lw_m3 39 rfl) rfl
theorem q584 : (Jvm.Cond.code ({ cls := "FormulaVoice", name := "listen", desc := "(II)I" } : Jvm.MethodName) prog_1_method_26_code (4 : Nat) (Option.some Jvm.ClassFile.FieldType.int)) ∈ lw_all := lw_g (lw_at lw_m3 40 rfl) rfl
theorem q585 : (Jvm.Cond.methodLink "FormulaVoice" (209 : Nat) ({ cls := "FormulaVoice", name := "takes", desc := "(LFormulaVoice$Words;)V" } : Jvm.MethodName)) ∈ lw_all := lw_g (lw_at lw_m3 41 rfl) rfl
theorem q586 : (Jvm.Cond.privateMethod ({ cls := "FormulaVoice", name := "takes", desc := "(LFormulaVoice$Words;)V" } : Jvm.MethodName)) ∈ lw_tbl := lw_at lw_m3 42 rfl
theorem q587 : (Jvm.Cond.instanceMethod ({ cls := "FormulaVoice", name := "takes", desc := "(LFormulaVoice$Words;)V" } : Jvm.MethodName)) ∈ lw_all := lw_g (lw_at lw_m3 43 rfl) rfl
theorem q588 : (Jvm.Cond.code ({ cls := "FormulaVoice", name := "takes", desc := "(LFormulaVoice$Words;)V" } : Jvm.MethodName) prog_1_method_25_code (2 : Nat) (Option.none : Option Jvm.ClassFile.FieldType)) ∈ lw_all := lw_g (lw_at lw_m3 44 rfl) rfl
theorem q589 : (Jvm.Cond.methodLink "FormulaVoice" (203 : Nat) ({ cls := "java/lang/System", name := "arraycopy", desc := "(Ljava/lang/Object;ILjava/lang/Object;II)V" } : Jvm.MethodName)) ∈ lw_all := lw_g (lw_at lw_m3 45 rfl) rfl
theorem q591 : (Jvm.Cond.instanceMethod ({ cls := "FormulaVoice", name := "hush", desc := "()I" } : Jvm.MethodName)) ∈ lw_all := lw_g (lw_at lw_m3 47 rfl) rfl
theorem q592 : (Jvm.Cond.selects "FormulaVoice" ({ cls := "FormulaVoice", name := "hush", desc := "()I" } : Jvm.MethodName) ({ cls := "FormulaVoice", name := "hush", desc := "()I" } : Jvm.MethodName)) ∈ lw_all := lw_g (lw_at lw_m3 48 rfl) rfl
theorem q593 : (Jvm.Cond.code ({ cls := "FormulaVoice", name := "hush", desc := "()I" } : Jvm.MethodName) prog_1_method_27_code (2 : Nat) (Option.some Jvm.ClassFile.FieldType.int)) ∈ lw_all := lw_g (lw_at lw_m3 49 rfl) rfl
theorem q595 : (Jvm.Cond.instanceMethod ({ cls := "FormulaVoice", name := "ear", desc := "(I)I" } : Jvm.MethodName)) ∈ lw_all := lw_g (lw_at lw_m3 51 rfl) rfl
theorem q596 : (Jvm.Cond.selects "FormulaVoice" ({ cls := "FormulaVoice", name := "ear", desc := "(I)I" } : Jvm.MethodName) ({ cls := "FormulaVoice", name := "ear", desc := "(I)I" } : Jvm.MethodName)) ∈ lw_all := lw_g (lw_at lw_m3 52 rfl) rfl
theorem q597 : (Jvm.Cond.code ({ cls := "FormulaVoice", name := "ear", desc := "(I)I" } : Jvm.MethodName) prog_1_method_28_code (2 : Nat) (Option.some Jvm.ClassFile.FieldType.int)) ∈ lw_all := lw_g (lw_at lw_m3 53 rfl) rfl
theorem q599 : (Jvm.Cond.instanceMethod ({ cls := "FormulaVoice", name := "write", desc := "(IJ)I" } : Jvm.MethodName)) ∈ lw_all := lw_g (lw_at lw_m3 55 rfl) rfl
theorem q600 : (Jvm.Cond.selects "FormulaVoice" ({ cls := "FormulaVoice", name := "write", desc := "(IJ)I" } : Jvm.MethodName) ({ cls := "FormulaVoice", name := "write", desc := "(IJ)I" } : Jvm.MethodName)) ∈ lw_all := lw_g (lw_at lw_m3 56 rfl) rfl
theorem q601 : (Jvm.Cond.code ({ cls := "FormulaVoice", name := "write", desc := "(IJ)I" } : Jvm.MethodName) prog_1_method_41_code (7 : Nat) (Option.some Jvm.ClassFile.FieldType.int)) ∈ lw_all := lw_g (lw_at lw_m3 57 rfl) rfl
theorem q602 : (Jvm.Cond.methodLink "FormulaVoice" (256 : Nat) ({ cls := "FormulaVoice", name := "isEar", desc := "(I)Z" } : Jvm.MethodName)) ∈ lw_all := lw_g (lw_at lw_m3 58 rfl) rfl
theorem q603 : (Jvm.Cond.static ({ cls := "FormulaVoice", name := "isEar", desc := "(I)Z" } : Jvm.MethodName)) ∈ lw_all := lw_g (lw_at lw_m3 59 rfl) rfl
theorem q604 : (Jvm.Cond.code ({ cls := "FormulaVoice", name := "isEar", desc := "(I)Z" } : Jvm.MethodName) prog_1_method_37_code (1 : Nat) (Option.some Jvm.ClassFile.FieldType.boolean)) ∈ lw_all := lw_g (lw_at lw_m3 60 rfl) rfl
theorem q605 : (Jvm.Cond.constantLong "FormulaVoice" (254 : Nat) (8 : Int64)) ∈ lw_all := lw_g (lw_at lw_m3 61 rfl) rfl
theorem q606 : (Jvm.Cond.methodLink "FormulaVoice" (263 : Nat) ({ cls := "FormulaVoice", name := "listens", desc := "(I)J" } : Jvm.MethodName)) ∈ lw_all := lw_g (lw_at lw_m3 62 rfl) rfl
theorem q607 : (Jvm.Cond.privateMethod ({ cls := "FormulaVoice", name := "listens", desc := "(I)J" } : Jvm.MethodName)) ∈ lw_tbl := lw_at lw_m3 63 rfl
theorem q608 : (Jvm.Cond.instanceMethod ({ cls := "FormulaVoice", name := "listens", desc := "(I)J" } : Jvm.MethodName)) ∈ lw_all := lw_g (lw_at lw_m3 64 rfl) rfl
theorem q609 : (Jvm.Cond.code ({ cls := "FormulaVoice", name := "listens", desc := "(I)J" } : Jvm.MethodName) prog_1_method_36_code (4 : Nat) (Option.some Jvm.ClassFile.FieldType.long)) ∈ lw_all := lw_g (lw_at lw_m3 65 rfl) rfl
theorem q610 : (Jvm.Cond.methodLink "FormulaVoice" (250 : Nat) ({ cls := "FormulaVoice", name := "span", desc := "(II)J" } : Jvm.MethodName)) ∈ lw_all := lw_g (lw_at lw_m3 66 rfl) rfl
theorem q611 : (Jvm.Cond.privateMethod ({ cls := "FormulaVoice", name := "span", desc := "(II)J" } : Jvm.MethodName)) ∈ lw_tbl := lw_at lw_m3 67 rfl
theorem q612 : (Jvm.Cond.instanceMethod ({ cls := "FormulaVoice", name := "span", desc := "(II)J" } : Jvm.MethodName)) ∈ lw_all := lw_g (lw_at lw_m3 68 rfl) rfl
theorem q613 : (Jvm.Cond.code ({ cls := "FormulaVoice", name := "span", desc := "(II)J" } : Jvm.MethodName) prog_1_method_35_code (6 : Nat) (Option.some Jvm.ClassFile.FieldType.long)) ∈ lw_all := lw_g (lw_at lw_m3 69 rfl) rfl
theorem q614 : (Jvm.Cond.constantLong "FormulaVoice" (213 : Nat) (1000000000000000 : Int64)) ∈ lw_all := lw_g (lw_at lw_m3 70 rfl) rfl
theorem q615 : (Jvm.Cond.methodLink "FormulaVoice" (246 : Nat) ({ cls := "FormulaVoice", name := "ofKind", desc := "(IZIII)J" } : Jvm.MethodName)) ∈ lw_all := lw_g (lw_at lw_m3 71 rfl) rfl
theorem q616 : (Jvm.Cond.privateMethod ({ cls := "FormulaVoice", name := "ofKind", desc := "(IZIII)J" } : Jvm.MethodName)) ∈ lw_tbl := lw_at lw_m3 72 rfl
theorem q617 : (Jvm.Cond.instanceMethod ({ cls := "FormulaVoice", name := "ofKind", desc := "(IZIII)J" } : Jvm.MethodName)) ∈ lw_all := lw_g (lw_at lw_m3 73 rfl) rfl
theorem q618 : (Jvm.Cond.code ({ cls := "FormulaVoice", name := "ofKind", desc := "(IZIII)J" } : Jvm.MethodName) prog_1_method_34_code (6 : Nat) (Option.some Jvm.ClassFile.FieldType.long)) ∈ lw_all := lw_g (lw_at lw_m3 74 rfl) rfl
theorem q619 : (Jvm.Cond.methodLink "FormulaVoice" (239 : Nat) ({ cls := "FormulaVoice", name := "mayBe", desc := "(IZ)Z" } : Jvm.MethodName)) ∈ lw_all := lw_g (lw_at lw_m3 75 rfl) rfl
theorem q620 : (Jvm.Cond.privateMethod ({ cls := "FormulaVoice", name := "mayBe", desc := "(IZ)Z" } : Jvm.MethodName)) ∈ lw_tbl := lw_at lw_m3 76 rfl
theorem q621 : (Jvm.Cond.instanceMethod ({ cls := "FormulaVoice", name := "mayBe", desc := "(IZ)Z" } : Jvm.MethodName)) ∈ lw_all := lw_g (lw_at lw_m3 77 rfl) rfl
theorem q622 : (Jvm.Cond.code ({ cls := "FormulaVoice", name := "mayBe", desc := "(IZ)Z" } : Jvm.MethodName) prog_1_method_33_code (3 : Nat) (Option.some Jvm.ClassFile.FieldType.boolean)) ∈ lw_all := lw_g (lw_at lw_m3 78 rfl) rfl
theorem q623 : (Jvm.Cond.methodLink "FormulaVoice" (242 : Nat) ({ cls := "FormulaVoice", name := "plain", desc := "(IIII)J" } : Jvm.MethodName)) ∈ lw_all := lw_g (lw_at lw_m3 79 rfl) rfl
theorem q624 : (Jvm.Cond.privateMethod ({ cls := "FormulaVoice", name := "plain", desc := "(IIII)J" } : Jvm.MethodName)) ∈ lw_tbl := lw_at lw_m3 80 rfl
theorem q625 : (Jvm.Cond.instanceMethod ({ cls := "FormulaVoice", name := "plain", desc := "(IIII)J" } : Jvm.MethodName)) ∈ lw_all := lw_g (lw_at lw_m3 81 rfl) rfl
theorem q626 : (Jvm.Cond.code ({ cls := "FormulaVoice", name := "plain", desc := "(IIII)J" } : Jvm.MethodName) prog_1_method_32_code (8 : Nat) (Option.some Jvm.ClassFile.FieldType.long)) ∈ lw_all := lw_g (lw_at lw_m3 82 rfl) rfl
theorem q627 : (Jvm.Cond.methodLink "FormulaVoice" (215 : Nat) ({ cls := "FormulaVoice", name := "isLetter", desc := "(IZ)Z" } : Jvm.MethodName)) ∈ lw_all := lw_g (lw_at lw_m3 83 rfl) rfl
theorem q628 : (Jvm.Cond.privateMethod ({ cls := "FormulaVoice", name := "isLetter", desc := "(IZ)Z" } : Jvm.MethodName)) ∈ lw_tbl := lw_at lw_m3 84 rfl
theorem q629 : (Jvm.Cond.instanceMethod ({ cls := "FormulaVoice", name := "isLetter", desc := "(IZ)Z" } : Jvm.MethodName)) ∈ lw_all := lw_g (lw_at lw_m3 85 rfl) rfl
theorem q630 : (Jvm.Cond.code ({ cls := "FormulaVoice", name := "isLetter", desc := "(IZ)Z" } : Jvm.MethodName) prog_1_method_30_code (3 : Nat) (Option.some Jvm.ClassFile.FieldType.boolean)) ∈ lw_all := lw_g (lw_at lw_m3 86 rfl) rfl
theorem q631 : (Jvm.Cond.methodLink "FormulaVoice" (219 : Nat) ({ cls := "FormulaVoice", name := "numberOf", desc := "(II)I" } : Jvm.MethodName)) ∈ lw_all := lw_g (lw_at lw_m3 87 rfl) rfl
theorem q632 : (Jvm.Cond.privateMethod ({ cls := "FormulaVoice", name := "numberOf", desc := "(II)I" } : Jvm.MethodName)) ∈ lw_tbl := lw_at lw_m3 88 rfl
theorem q633 : (Jvm.Cond.instanceMethod ({ cls := "FormulaVoice", name := "numberOf", desc := "(II)I" } : Jvm.MethodName)) ∈ lw_all := lw_g (lw_at lw_m3 89 rfl) rfl
theorem q634 : (Jvm.Cond.code ({ cls := "FormulaVoice", name := "numberOf", desc := "(II)I" } : Jvm.MethodName) prog_1_method_31_code (5 : Nat) (Option.some Jvm.ClassFile.FieldType.int)) ∈ lw_all := lw_g (lw_at lw_m3 90 rfl) rfl
theorem q635 : (Jvm.Cond.methodLink "FormulaVoice" (227 : Nat) ({ cls := "FormulaVoice", name := "times", desc := "(JJ)J" } : Jvm.MethodName)) ∈ lw_all := lw_g (lw_at lw_m3 91 rfl) rfl
theorem q636 : (Jvm.Cond.static ({ cls := "FormulaVoice", name := "times", desc := "(JJ)J" } : Jvm.MethodName)) ∈ lw_all := lw_g (lw_at lw_m3 92 rfl) rfl
theorem q637 : (Jvm.Cond.code ({ cls := "FormulaVoice", name := "times", desc := "(JJ)J" } : Jvm.MethodName) prog_1_method_29_code (4 : Nat) (Option.some Jvm.ClassFile.FieldType.long)) ∈ lw_all := lw_g (lw_at lw_m3 93 rfl) rfl
theorem q638 : (Jvm.Cond.methodLink "FormulaVoice" (231 : Nat) ({ cls := "java/lang/Math", name := "min", desc := "(JJ)J" } : Jvm.MethodName)) ∈ lw_all := lw_g (lw_at lw_m3 94 rfl) rfl
theorem q641 : (Jvm.Cond.classLink "FormulaVoice" (40 : Nat) "java/util/ArrayList") ∈ lw_all := lw_g (lw_at lw_m3 97 rfl) rfl
theorem q642 : (Jvm.Cond.methodLink "FormulaVoice" (274 : Nat) ({ cls := "java/util/ArrayList", name := "<init>", desc := "()V" } : Jvm.MethodName)) ∈ lw_all := lw_g (lw_at lw_m3 98 rfl) rfl
theorem q664 : (Jvm.Cond.methodLink "FormulaVoice" (271 : Nat) ({ cls := "FormulaVoice", name := "reading", desc := "(IIJLjava/util/ArrayList;)LFormulaVoice$Node;" } : Jvm.MethodName)) ∈ lw_all := lw_g (lw_at lw_m3 120 rfl) rfl
theorem q665 : (Jvm.Cond.privateMethod ({ cls := "FormulaVoice", name := "reading", desc := "(IIJLjava/util/ArrayList;)LFormulaVoice$Node;" } : Jvm.MethodName)) ∈ lw_tbl := lw_at lw_m3 121 rfl
theorem q666 : (Jvm.Cond.instanceMethod ({ cls := "FormulaVoice", name := "reading", desc := "(IIJLjava/util/ArrayList;)LFormulaVoice$Node;" } : Jvm.MethodName)) ∈ lw_all := lw_g (lw_at lw_m3 122 rfl) rfl
theorem q667 : (Jvm.Cond.code ({ cls := "FormulaVoice", name := "reading", desc := "(IIJLjava/util/ArrayList;)LFormulaVoice$Node;" } : Jvm.MethodName) prog_1_method_39_code (14 : Nat) (Option.some (Jvm.ClassFile.FieldType.object "FormulaVoice$Node"))) ∈ lw_all := lw_g (lw_at lw_m3 123 rfl) rfl
theorem q668 : (Jvm.Cond.methodLink "FormulaVoice" (267 : Nat) ({ cls := "FormulaVoice", name := "reading", desc := "(IIIIJLjava/util/ArrayList;)LFormulaVoice$Node;" } : Jvm.MethodName)) ∈ lw_all := lw_g (lw_at lw_m3 124 rfl) rfl
theorem q669 : (Jvm.Cond.privateMethod ({ cls := "FormulaVoice", name := "reading", desc := "(IIIIJLjava/util/ArrayList;)LFormulaVoice$Node;" } : Jvm.MethodName)) ∈ lw_tbl := lw_at lw_m3 125 rfl
theorem q670 : (Jvm.Cond.instanceMethod ({ cls := "FormulaVoice", name := "reading", desc := "(IIIIJLjava/util/ArrayList;)LFormulaVoice$Node;" } : Jvm.MethodName)) ∈ lw_all := lw_g (lw_at lw_m3 126 rfl) rfl
theorem q671 : (Jvm.Cond.code ({ cls := "FormulaVoice", name := "reading", desc := "(IIIIJLjava/util/ArrayList;)LFormulaVoice$Node;" } : Jvm.MethodName) prog_1_method_40_code (13 : Nat) (Option.some (Jvm.ClassFile.FieldType.object "FormulaVoice$Node"))) ∈ lw_all := lw_g (lw_at lw_m3 127 rfl) rfl
theorem q673 : (Jvm.Cond.instanceMethod ({ cls := "FormulaVoice", name := "place", desc := "(II)J" } : Jvm.MethodName)) ∈ lw_all := lw_g (lw_at lw_m3 129 rfl) rfl
theorem q674 : (Jvm.Cond.selects "FormulaVoice" ({ cls := "FormulaVoice", name := "place", desc := "(II)J" } : Jvm.MethodName) ({ cls := "FormulaVoice", name := "place", desc := "(II)J" } : Jvm.MethodName)) ∈ lw_all := lw_g (lw_at lw_m3 130 rfl) rfl
theorem q675 : (Jvm.Cond.code ({ cls := "FormulaVoice", name := "place", desc := "(II)J" } : Jvm.MethodName) prog_1_method_44_code (5 : Nat) (Option.some Jvm.ClassFile.FieldType.long)) ∈ lw_all := lw_g (lw_at lw_m3 131 rfl) rfl
theorem q676 : (Jvm.Cond.constantLong "FormulaVoice" (279 : Nat) (-1 : Int64)) ∈ lw_all := lw_g (lw_at lw_m3 132 rfl) rfl
theorem q677 : (Jvm.Cond.constantLong "FormulaVoice" (284 : Nat) (-2 : Int64)) ∈ lw_all := lw_g (lw_at lw_m3 133 rfl) rfl
theorem q678 : (Jvm.Cond.methodLink "FormulaVoice" (281 : Nat) ({ cls := "FormulaVoice", name := "placeOf", desc := "(LFormulaVoice$Node;II)J" } : Jvm.MethodName)) ∈ lw_all := lw_g (lw_at lw_m3 134 rfl) rfl
theorem q679 : (Jvm.Cond.privateMethod ({ cls := "FormulaVoice", name := "placeOf", desc := "(LFormulaVoice$Node;II)J" } : Jvm.MethodName)) ∈ lw_tbl := lw_at lw_m3 135 rfl
theorem q680 : (Jvm.Cond.instanceMethod ({ cls := "FormulaVoice", name := "placeOf", desc := "(LFormulaVoice$Node;II)J" } : Jvm.MethodName)) ∈ lw_all := lw_g (lw_at lw_m3 136 rfl) rfl
theorem q681 : (Jvm.Cond.code ({ cls := "FormulaVoice", name := "placeOf", desc := "(LFormulaVoice$Node;II)J" } : Jvm.MethodName) prog_1_method_42_code (15 : Nat) (Option.some Jvm.ClassFile.FieldType.long)) ∈ lw_all := lw_g (lw_at lw_m3 137 rfl) rfl
theorem q682 : (Jvm.Cond.methodLink "FormulaVoice" (275 : Nat) ({ cls := "FormulaVoice", name := "placeOf", desc := "(LFormulaVoice$Node;III)J" } : Jvm.MethodName)) ∈ lw_all := lw_g (lw_at lw_m3 138 rfl) rfl
theorem q683 : (Jvm.Cond.privateMethod ({ cls := "FormulaVoice", name := "placeOf", desc := "(LFormulaVoice$Node;III)J" } : Jvm.MethodName)) ∈ lw_tbl := lw_at lw_m3 139 rfl
theorem q684 : (Jvm.Cond.instanceMethod ({ cls := "FormulaVoice", name := "placeOf", desc := "(LFormulaVoice$Node;III)J" } : Jvm.MethodName)) ∈ lw_all := lw_g (lw_at lw_m3 140 rfl) rfl
theorem q685 : (Jvm.Cond.code ({ cls := "FormulaVoice", name := "placeOf", desc := "(LFormulaVoice$Node;III)J" } : Jvm.MethodName) prog_1_method_43_code (9 : Nat) (Option.some Jvm.ClassFile.FieldType.long)) ∈ lw_all := lw_g (lw_at lw_m3 141 rfl) rfl
theorem q687 : (Jvm.Cond.instanceMethod ({ cls := "FormulaVoice", name := "doubt", desc := "(IJJ)I" } : Jvm.MethodName)) ∈ lw_all := lw_g (lw_at lw_m3 143 rfl) rfl
theorem q688 : (Jvm.Cond.selects "FormulaVoice" ({ cls := "FormulaVoice", name := "doubt", desc := "(IJJ)I" } : Jvm.MethodName) ({ cls := "FormulaVoice", name := "doubt", desc := "(IJJ)I" } : Jvm.MethodName)) ∈ lw_all := lw_g (lw_at lw_m3 144 rfl) rfl
theorem q689 : (Jvm.Cond.code ({ cls := "FormulaVoice", name := "doubt", desc := "(IJJ)I" } : Jvm.MethodName) prog_1_method_45_code (11 : Nat) (Option.some Jvm.ClassFile.FieldType.int)) ∈ lw_all := lw_g (lw_at lw_m3 145 rfl) rfl
theorem q690 : (Jvm.Cond.methodLink "FormulaVoice" (286 : Nat) ({ cls := "java/lang/Math", name := "max", desc := "(JJ)J" } : Jvm.MethodName)) ∈ lw_all := lw_g (lw_at lw_m3 146 rfl) rfl
theorem q694 : (Jvm.Cond.instanceMethod ({ cls := "FormulaVoice", name := "fewest", desc := "(I)I" } : Jvm.MethodName)) ∈ lw_all := lw_g (lw_at lw_m3 150 rfl) rfl
theorem q695 : (Jvm.Cond.selects "FormulaVoice" ({ cls := "FormulaVoice", name := "fewest", desc := "(I)I" } : Jvm.MethodName) ({ cls := "FormulaVoice", name := "fewest", desc := "(I)I" } : Jvm.MethodName)) ∈ lw_all := lw_g (lw_at lw_m3 151 rfl) rfl
theorem q696 : (Jvm.Cond.code ({ cls := "FormulaVoice", name := "fewest", desc := "(I)I" } : Jvm.MethodName) prog_1_method_49_code (6 : Nat) (Option.some Jvm.ClassFile.FieldType.int)) ∈ lw_all := lw_g (lw_at lw_m3 152 rfl) rfl
theorem q697 : (Jvm.Cond.methodLink "FormulaVoice" (289 : Nat) ({ cls := "FormulaVoice", name := "keepers", desc := "(LFormulaVoice$Node;)I" } : Jvm.MethodName)) ∈ lw_all := lw_g (lw_at lw_m3 153 rfl) rfl
theorem q698 : (Jvm.Cond.static ({ cls := "FormulaVoice", name := "keepers", desc := "(LFormulaVoice$Node;)I" } : Jvm.MethodName)) ∈ lw_all := lw_g (lw_at lw_m3 154 rfl) rfl
theorem q699 : (Jvm.Cond.code ({ cls := "FormulaVoice", name := "keepers", desc := "(LFormulaVoice$Node;)I" } : Jvm.MethodName) prog_1_method_46_code (2 : Nat) (Option.some Jvm.ClassFile.FieldType.int)) ∈ lw_all := lw_g (lw_at lw_m3 155 rfl) rfl
theorem q700 : (Jvm.Cond.methodLink "FormulaVoice" (312 : Nat) ({ cls := "FormulaVoice", name := "many", desc := "(I)I" } : Jvm.MethodName)) ∈ lw_all := lw_g (lw_at lw_m3 156 rfl) rfl
theorem q701 : (Jvm.Cond.static ({ cls := "FormulaVoice", name := "many", desc := "(I)I" } : Jvm.MethodName)) ∈ lw_all := lw_g (lw_at lw_m3 157 rfl) rfl
theorem q702 : (Jvm.Cond.code ({ cls := "FormulaVoice", name := "many", desc := "(I)I" } : Jvm.MethodName) prog_1_method_50_code (3 : Nat) (Option.some Jvm.ClassFile.FieldType.int)) ∈ lw_all := lw_g (lw_at lw_m3 158 rfl) rfl
theorem q703 : (Jvm.Cond.methodLink "FormulaVoice" (316 : Nat) ({ cls := "FormulaVoice", name := "isSure", desc := "(LFormulaVoice$Node;I)Z" } : Jvm.MethodName)) ∈ lw_all := lw_g (lw_at lw_m3 159 rfl) rfl
theorem q704 : (Jvm.Cond.privateMethod ({ cls := "FormulaVoice", name := "isSure", desc := "(LFormulaVoice$Node;I)Z" } : Jvm.MethodName)) ∈ lw_tbl := lw_at lw_m3 160 rfl
theorem q705 : (Jvm.Cond.instanceMethod ({ cls := "FormulaVoice", name := "isSure", desc := "(LFormulaVoice$Node;I)Z" } : Jvm.MethodName)) ∈ lw_all := lw_g (lw_at lw_m3 161 rfl) rfl
theorem q706 : (Jvm.Cond.codeWith ({ cls := "FormulaVoice", name := "isSure", desc := "(LFormulaVoice$Node;I)Z" } : Jvm.MethodName) prog_1_method_48_code (4 : Nat) (Option.some Jvm.ClassFile.FieldType.boolean) [((12 : Nat), (17 : Nat), (20 : Nat), (158 : Nat))]) ∈ lw_all := lw_g (lw_at lw_m3 162 rfl) rfl
theorem q707 : (Jvm.Cond.methodLink "FormulaVoice" (305 : Nat) ({ cls := "FormulaVoice", name := "chooses", desc := "(LFormulaVoice$Node;)V" } : Jvm.MethodName)) ∈ lw_all := lw_g (lw_at lw_m3 163 rfl) rfl
theorem q708 : (Jvm.Cond.privateMethod ({ cls := "FormulaVoice", name := "chooses", desc := "(LFormulaVoice$Node;)V" } : Jvm.MethodName)) ∈ lw_tbl := lw_at lw_m3 164 rfl
theorem q709 : (Jvm.Cond.instanceMethod ({ cls := "FormulaVoice", name := "chooses", desc := "(LFormulaVoice$Node;)V" } : Jvm.MethodName)) ∈ lw_all := lw_g (lw_at lw_m3 165 rfl) rfl
theorem q710 : (Jvm.Cond.code ({ cls := "FormulaVoice", name := "chooses", desc := "(LFormulaVoice$Node;)V" } : Jvm.MethodName) prog_1_method_47_code (3 : Nat) (Option.none : Option Jvm.ClassFile.FieldType)) ∈ lw_all := lw_g (lw_at lw_m3 166 rfl) rfl
theorem q711 : (Jvm.Cond.methodLink "FormulaVoice" (298 : Nat) ({ cls := "FormulaVoice$Words", name := "say", desc := "(I)V" } : Jvm.MethodName)) ∈ lw_all := lw_g (lw_at lw_m3 167 rfl) rfl
theorem q712 : (Jvm.Cond.methodLink "FormulaVoice" (302 : Nat) ({ cls := "FormulaVoice$Node", name := "tells", desc := "(LFormulaVoice$Words;LFormulaVoice$Manner;I)V" } : Jvm.MethodName)) ∈ lw_all := lw_g (lw_at lw_m3 168 rfl) rfl
theorem q714 : (Jvm.Cond.instanceMethod ({ cls := "FormulaVoice", name := "walk", desc := "(I)I" } : Jvm.MethodName)) ∈ lw_all := lw_g (lw_at lw_m3 170 rfl) rfl
theorem q715 : (Jvm.Cond.selects "FormulaVoice" ({ cls := "FormulaVoice", name := "walk", desc := "(I)I" } : Jvm.MethodName) ({ cls := "FormulaVoice", name := "walk", desc := "(I)I" } : Jvm.MethodName)) ∈ lw_all := lw_g (lw_at lw_m3 171 rfl) rfl
theorem q716 : (Jvm.Cond.code ({ cls := "FormulaVoice", name := "walk", desc := "(I)I" } : Jvm.MethodName) prog_1_method_51_code (2 : Nat) (Option.some Jvm.ClassFile.FieldType.int)) ∈ lw_all := lw_g (lw_at lw_m3 172 rfl) rfl
theorem q718 : (Jvm.Cond.instanceMethod ({ cls := "FormulaVoice", name := "go", desc := "(I)I" } : Jvm.MethodName)) ∈ lw_all := lw_g (lw_at lw_m3 174 rfl) rfl
theorem q719 : (Jvm.Cond.selects "FormulaVoice" ({ cls := "FormulaVoice", name := "go", desc := "(I)I" } : Jvm.MethodName) ({ cls := "FormulaVoice", name := "go", desc := "(I)I" } : Jvm.MethodName)) ∈ lw_all := lw_g (lw_at lw_m3 175 rfl) rfl
theorem q720 : (Jvm.Cond.code ({ cls := "FormulaVoice", name := "go", desc := "(I)I" } : Jvm.MethodName) prog_1_method_53_code (4 : Nat) (Option.some Jvm.ClassFile.FieldType.int)) ∈ lw_all := lw_g (lw_at lw_m3 176 rfl) rfl
theorem q721 : (Jvm.Cond.constantLong "FormulaVoice" (324 : Nat) (3 : Int64)) ∈ lw_all := lw_g (lw_at lw_m3 177 rfl) rfl
theorem q722 : (Jvm.Cond.methodLink "FormulaVoice" (326 : Nat) ({ cls := "FormulaVoice", name := "goesDown", desc := "(Z)Z" } : Jvm.MethodName)) ∈ lw_all := lw_g (lw_at lw_m3 178 rfl) rfl
theorem q723 : (Jvm.Cond.privateMethod ({ cls := "FormulaVoice", name := "goesDown", desc := "(Z)Z" } : Jvm.MethodName)) ∈ lw_tbl := lw_at lw_m3 179 rfl
theorem q724 : (Jvm.Cond.instanceMethod ({ cls := "FormulaVoice", name := "goesDown", desc := "(Z)Z" } : Jvm.MethodName)) ∈ lw_all := lw_g (lw_at lw_m3 180 rfl) rfl
theorem q725 : (Jvm.Cond.code ({ cls := "FormulaVoice", name := "goesDown", desc := "(Z)Z" } : Jvm.MethodName) prog_1_method_52_code (3 : Nat) (Option.some Jvm.ClassFile.FieldType.boolean)) ∈ lw_all := lw_g (lw_at lw_m3 181 rfl) rfl
theorem q727 : (Jvm.Cond.instanceMethod ({ cls := "FormulaVoice", name := "lead", desc := "(I)I" } : Jvm.MethodName)) ∈ lw_all := lw_g (lw_at lw_m3 183 rfl) rfl
theorem q728 : (Jvm.Cond.selects "FormulaVoice" ({ cls := "FormulaVoice", name := "lead", desc := "(I)I" } : Jvm.MethodName) ({ cls := "FormulaVoice", name := "lead", desc := "(I)I" } : Jvm.MethodName)) ∈ lw_all := lw_g (lw_at lw_m3 184 rfl) rfl
theorem q729 : (Jvm.Cond.code ({ cls := "FormulaVoice", name := "lead", desc := "(I)I" } : Jvm.MethodName) prog_1_method_55_code (5 : Nat) (Option.some Jvm.ClassFile.FieldType.int)) ∈ lw_all := lw_g (lw_at lw_m3 185 rfl) rfl
theorem q731 : (Jvm.Cond.instanceMethod ({ cls := "FormulaVoice", name := "glance", desc := "(II)I" } : Jvm.MethodName)) ∈ lw_all := lw_g (lw_at lw_m3 187 rfl) rfl
theorem q732 : (Jvm.Cond.selects "FormulaVoice" ({ cls := "FormulaVoice", name := "glance", desc := "(II)I" } : Jvm.MethodName) ({ cls := "FormulaVoice", name := "glance", desc := "(II)I" } : Jvm.MethodName)) ∈ lw_all := lw_g (lw_at lw_m3 188 rfl) rfl
theorem q733 : (Jvm.Cond.code ({ cls := "FormulaVoice", name := "glance", desc := "(II)I" } : Jvm.MethodName) prog_1_method_56_code (3 : Nat) (Option.some Jvm.ClassFile.FieldType.int)) ∈ lw_all := lw_g (lw_at lw_m3 189 rfl) rfl
theorem q735 : (Jvm.Cond.instanceMethod ({ cls := "FormulaVoice", name := "changed", desc := "(II)I" } : Jvm.MethodName)) ∈ lw_all := lw_g (lw_at lw_m3 191 rfl) rfl
theorem q736 : (Jvm.Cond.selects "FormulaVoice" ({ cls := "FormulaVoice", name := "changed", desc := "(II)I" } : Jvm.MethodName) ({ cls := "FormulaVoice", name := "changed", desc := "(II)I" } : Jvm.MethodName)) ∈ lw_all := lw_g (lw_at lw_m3 192 rfl) rfl
theorem q737 : (Jvm.Cond.code ({ cls := "FormulaVoice", name := "changed", desc := "(II)I" } : Jvm.MethodName) prog_1_method_60_code (3 : Nat) (Option.some Jvm.ClassFile.FieldType.int)) ∈ lw_all := lw_g (lw_at lw_m3 193 rfl) rfl
theorem q738 : (Jvm.Cond.methodLink "FormulaVoice" (338 : Nat) ({ cls := "FormulaVoice", name := "difference", desc := "(LFormulaVoice$Node;LFormulaVoice$Node;)I" } : Jvm.MethodName)) ∈ lw_all := lw_g (lw_at lw_m3 194 rfl) rfl
theorem q739 : (Jvm.Cond.static ({ cls := "FormulaVoice", name := "difference", desc := "(LFormulaVoice$Node;LFormulaVoice$Node;)I" } : Jvm.MethodName)) ∈ lw_all := lw_g (lw_at lw_m3 195 rfl) rfl
theorem q740 : (Jvm.Cond.code ({ cls := "FormulaVoice", name := "difference", desc := "(LFormulaVoice$Node;LFormulaVoice$Node;)I" } : Jvm.MethodName) prog_1_method_57_code (3 : Nat) (Option.some Jvm.ClassFile.FieldType.int)) ∈ lw_all := lw_g (lw_at lw_m3 196 rfl) rfl
theorem q741 : (Jvm.Cond.methodLink "FormulaVoice" (333 : Nat) ({ cls := "FormulaVoice", name := "parts", desc := "(LFormulaVoice$Node;LFormulaVoice$Node;)I" } : Jvm.MethodName)) ∈ lw_all := lw_g (lw_at lw_m3 197 rfl) rfl
theorem q742 : (Jvm.Cond.static ({ cls := "FormulaVoice", name := "parts", desc := "(LFormulaVoice$Node;LFormulaVoice$Node;)I" } : Jvm.MethodName)) ∈ lw_all := lw_g (lw_at lw_m3 198 rfl) rfl
theorem q743 : (Jvm.Cond.code ({ cls := "FormulaVoice", name := "parts", desc := "(LFormulaVoice$Node;LFormulaVoice$Node;)I" } : Jvm.MethodName) prog_1_method_58_code (3 : Nat) (Option.some Jvm.ClassFile.FieldType.int)) ∈ lw_all := lw_g (lw_at lw_m3 199 rfl) rfl
theorem q744 : (Jvm.Cond.methodLink "FormulaVoice" (336 : Nat) ({ cls := "java/lang/Math", name := "min", desc := "(II)I" } : Jvm.MethodName)) ∈ lw_all := lw_g (lw_at lw_m3 200 rfl) rfl
theorem q746 : (Jvm.Cond.instanceMethod ({ cls := "FormulaVoice", name := "exchanged", desc := "(II)I" } : Jvm.MethodName)) ∈ lw_all := lw_g (lw_at lw_m3 202 rfl) rfl
theorem q747 : (Jvm.Cond.selects "FormulaVoice" ({ cls := "FormulaVoice", name := "exchanged", desc := "(II)I" } : Jvm.MethodName) ({ cls := "FormulaVoice", name := "exchanged", desc := "(II)I" } : Jvm.MethodName)) ∈ lw_all := lw_g (lw_at lw_m3 203 rfl) rfl
theorem q748 : (Jvm.Cond.code ({ cls := "FormulaVoice", name := "exchanged", desc := "(II)I" } : Jvm.MethodName) prog_1_method_61_code (3 : Nat) (Option.some Jvm.ClassFile.FieldType.int)) ∈ lw_all := lw_g (lw_at lw_m3 204 rfl) rfl
theorem q749 : (Jvm.Cond.methodLink "FormulaVoice" (341 : Nat) ({ cls := "FormulaVoice", name := "exchanges", desc := "(LFormulaVoice$Node;LFormulaVoice$Node;)I" } : Jvm.MethodName)) ∈ lw_all := lw_g (lw_at lw_m3 205 rfl) rfl
theorem q750 : (Jvm.Cond.static ({ cls := "FormulaVoice", name := "exchanges", desc := "(LFormulaVoice$Node;LFormulaVoice$Node;)I" } : Jvm.MethodName)) ∈ lw_all := lw_g (lw_at lw_m3 206 rfl) rfl
theorem q751 : (Jvm.Cond.code ({ cls := "FormulaVoice", name := "exchanges", desc := "(LFormulaVoice$Node;LFormulaVoice$Node;)I" } : Jvm.MethodName) prog_1_method_59_code (3 : Nat) (Option.some Jvm.ClassFile.FieldType.int)) ∈ lw_all := lw_g (lw_at lw_m3 207 rfl) rfl
theorem q753 : (Jvm.Cond.instanceMethod ({ cls := "FormulaVoice", name := "count", desc := "(I)I" } : Jvm.MethodName)) ∈ lw_all := lw_g (lw_at lw_m3 209 rfl) rfl
theorem q754 : (Jvm.Cond.selects "FormulaVoice" ({ cls := "FormulaVoice", name := "count", desc := "(I)I" } : Jvm.MethodName) ({ cls := "FormulaVoice", name := "count", desc := "(I)I" } : Jvm.MethodName)) ∈ lw_all := lw_g (lw_at lw_m3 210 rfl) rfl
theorem q755 : (Jvm.Cond.code ({ cls := "FormulaVoice", name := "count", desc := "(I)I" } : Jvm.MethodName) prog_1_method_62_code (2 : Nat) (Option.some Jvm.ClassFile.FieldType.int)) ∈ lw_all := lw_g (lw_at lw_m3 211 rfl) rfl
theorem q758 : (Jvm.Cond.instanceMethod ({ cls := "FormulaVoice", name := "<init>", desc := "()V" } : Jvm.MethodName)) ∈ lw_all := lw_g (lw_at lw_m3 214 rfl) rfl
theorem q759 : (Jvm.Cond.code ({ cls := "FormulaVoice", name := "<init>", desc := "()V" } : Jvm.MethodName) prog_1_method_63_code (2 : Nat) (Option.none : Option Jvm.ClassFile.FieldType)) ∈ lw_all := lw_g (lw_at lw_m3 215 rfl) rfl
theorem q760 : (Jvm.Cond.methodLink "FormulaVoice" (344 : Nat) ({ cls := "java/lang/Object", name := "<init>", desc := "()V" } : Jvm.MethodName)) ∈ lw_all := lw_g (lw_at lw_m3 216 rfl) rfl
theorem q761 : (Jvm.Cond.classLink "FormulaVoice" (149 : Nat) "FormulaVoice$Words") ∈ lw_all := lw_g (lw_at lw_m3 217 rfl) rfl
theorem q763 : (Jvm.Cond.methodLinkNest "FormulaVoice" (347 : Nat) ({ cls := "FormulaVoice$Words", name := "<init>", desc := "()V" } : Jvm.MethodName) "FormulaVoice") ∈ lw_tbl := lw_at lw_m3 219 rfl
theorem q852 : (Jvm.Cond.fieldLinkNest "FormulaVoice" (168 : Nat) "FormulaVoice$Words" "at" "[B" "FormulaVoice") ∈ lw_tbl := lw_at lw_m4 68 rfl
theorem q854 : (Jvm.Cond.fieldLinkNest "FormulaVoice" (167 : Nat) "FormulaVoice$Words" "size" "I" "FormulaVoice") ∈ lw_tbl := lw_at lw_m4 70 rfl
theorem q863 : (Jvm.Cond.classLink "FormulaVoice" (140 : Nat) "FormulaVoice$Manner") ∈ lw_all := lw_g (lw_at lw_m4 79 rfl) rfl
theorem q865 : (Jvm.Cond.methodLinkNest "FormulaVoice" (348 : Nat) ({ cls := "FormulaVoice$Manner", name := "<init>", desc := "()V" } : Jvm.MethodName) "FormulaVoice") ∈ lw_tbl := lw_at lw_m4 81 rfl
theorem q870 : (Jvm.Cond.fieldLink "FormulaVoice" (139 : Nat) "FormulaVoice$Manner" "kept" "I") ∈ lw_all := lw_g (lw_at lw_m4 86 rfl) rfl
theorem q872 : (Jvm.Cond.fieldLink "FormulaVoice" (143 : Nat) "FormulaVoice$Manner" "deep" "I") ∈ lw_all := lw_g (lw_at lw_m4 88 rfl) rfl
theorem q878 : (Jvm.Cond.classLink "FormulaVoice" (349 : Nat) "[[J") ∈ lw_all := lw_g (lw_at lw_m4 94 rfl) rfl
theorem q881 : (Jvm.Cond.classLink "FormulaVoice" (350 : Nat) "FormulaVoice$Shelf") ∈ lw_all := lw_g (lw_at lw_m4 97 rfl) rfl
theorem q884 : (Jvm.Cond.methodLinkNest "FormulaVoice" (356 : Nat) ({ cls := "FormulaVoice$Shelf", name := "<init>", desc := "()V" } : Jvm.MethodName) "FormulaVoice") ∈ lw_tbl := lw_at lw_m4 100 rfl
theorem q888 : (Jvm.Cond.fieldLink "FormulaVoice" (368 : Nat) "FormulaVoice$Shelf" "held" "Ljava/lang/Object;") ∈ lw_all := lw_g (lw_at lw_m4 104 rfl) rfl
theorem q894 : (Jvm.Cond.fieldLink "FormulaVoice" (35 : Nat) "FormulaVoice" "nodes" "Ljava/util/ArrayList;") ∈ lw_all := lw_g (lw_at lw_m4 110 rfl) rfl
theorem q895 : (Jvm.Cond.fieldLink "FormulaVoice" (95 : Nat) "FormulaVoice" "functions" "I") ∈ lw_all := lw_g (lw_at lw_m4 111 rfl) rfl
theorem q896 : (Jvm.Cond.fieldLink "FormulaVoice" (131 : Nat) "FormulaVoice" "kept" "[I") ∈ lw_all := lw_g (lw_at lw_m4 112 rfl) rfl
theorem q897 : (Jvm.Cond.fieldLink "FormulaVoice" (160 : Nat) "FormulaVoice" "said" "LFormulaVoice$Words;") ∈ lw_all := lw_g (lw_at lw_m4 113 rfl) rfl
theorem q898 : (Jvm.Cond.fieldLink "FormulaVoice" (172 : Nat) "FormulaVoice" "beside" "LFormulaVoice$Words;") ∈ lw_all := lw_g (lw_at lw_m4 114 rfl) rfl
theorem q899 : (Jvm.Cond.fieldLink "FormulaVoice" (135 : Nat) "FormulaVoice" "manner" "LFormulaVoice$Manner;") ∈ lw_all := lw_g (lw_at lw_m4 115 rfl) rfl
theorem q900 : (Jvm.Cond.fieldLink "FormulaVoice" (179 : Nat) "FormulaVoice" "small" "Ljava/util/ArrayList;") ∈ lw_all := lw_g (lw_at lw_m4 116 rfl) rfl
theorem q901 : (Jvm.Cond.fieldLink "FormulaVoice" (182 : Nat) "FormulaVoice" "from" "[I") ∈ lw_all := lw_g (lw_at lw_m4 117 rfl) rfl
theorem q902 : (Jvm.Cond.fieldLink "FormulaVoice" (200 : Nat) "FormulaVoice" "ear" "[B") ∈ lw_all := lw_g (lw_at lw_m4 118 rfl) rfl
theorem q903 : (Jvm.Cond.fieldLink "FormulaVoice" (197 : Nat) "FormulaVoice" "heard" "I") ∈ lw_all := lw_g (lw_at lw_m4 119 rfl) rfl
theorem q904 : (Jvm.Cond.fieldLink "FormulaVoice" (223 : Nat) "FormulaVoice" "counts" "[[J") ∈ lw_all := lw_g (lw_at lw_m4 120 rfl) rfl
theorem q905 : (Jvm.Cond.fieldLink "FormulaVoice" (236 : Nat) "FormulaVoice" "listening" "I") ∈ lw_all := lw_g (lw_at lw_m4 121 rfl) rfl
theorem q906 : (Jvm.Cond.fieldLink "FormulaVoice" (295 : Nat) "FormulaVoice" "choice" "I") ∈ lw_all := lw_g (lw_at lw_m4 122 rfl) rfl
theorem q907 : (Jvm.Cond.fieldLink "FormulaVoice" (292 : Nat) "FormulaVoice" "chosen" "I") ∈ lw_all := lw_g (lw_at lw_m4 123 rfl) rfl
theorem q908 : (Jvm.Cond.fieldLink "FormulaVoice" (309 : Nat) "FormulaVoice" "before" "[B") ∈ lw_all := lw_g (lw_at lw_m4 124 rfl) rfl
theorem q909 : (Jvm.Cond.fieldLink "FormulaVoice" (85 : Nat) "FormulaVoice" "path" "[LFormulaVoice$Node;") ∈ lw_all := lw_g (lw_at lw_m4 125 rfl) rfl
theorem q910 : (Jvm.Cond.fieldLink "FormulaVoice" (320 : Nat) "FormulaVoice" "isSecond" "[Z") ∈ lw_all := lw_g (lw_at lw_m4 126 rfl) rfl
theorem q911 : (Jvm.Cond.fieldLink "FormulaVoice" (82 : Nat) "FormulaVoice" "deep" "I") ∈ lw_all := lw_g (lw_at lw_m4 127 rfl) rfl
theorem q912 : (Jvm.Cond.fieldLink "FormulaVoice" (352 : Nat) "FormulaVoice" "shelves" "[LFormulaVoice$Shelf;") ∈ lw_all := lw_g (lw_at lw_m4 128 rfl) rfl
theorem q913 : (Jvm.Cond.laysFinal "FormulaVoice" "FormulaVoice" "nodes" "Ljava/util/ArrayList;") ∈ lw_all := lw_g (lw_at lw_m4 129 rfl) rfl
theorem q914 : (Jvm.Cond.soleField "FormulaVoice" "nodes") ∈ lw_all := lw_g (lw_at lw_m4 130 rfl) rfl
theorem q915 : (Jvm.Cond.lays "FormulaVoice" "FormulaVoice" "functions" "I") ∈ lw_all := lw_g (lw_at lw_m4 131 rfl) rfl
theorem q916 : (Jvm.Cond.soleField "FormulaVoice" "functions") ∈ lw_all := lw_g (lw_at lw_m4 132 rfl) rfl
theorem q917 : (Jvm.Cond.laysFinal "FormulaVoice" "FormulaVoice" "kept" "[I") ∈ lw_all := lw_g (lw_at lw_m4 133 rfl) rfl
theorem q918 : (Jvm.Cond.soleField "FormulaVoice" "kept") ∈ lw_all := lw_g (lw_at lw_m4 134 rfl) rfl
theorem q919 : (Jvm.Cond.laysFinal "FormulaVoice" "FormulaVoice" "said" "LFormulaVoice$Words;") ∈ lw_all := lw_g (lw_at lw_m4 135 rfl) rfl
theorem q920 : (Jvm.Cond.soleField "FormulaVoice" "said") ∈ lw_all := lw_g (lw_at lw_m4 136 rfl) rfl
theorem q921 : (Jvm.Cond.laysFinal "FormulaVoice" "FormulaVoice" "beside" "LFormulaVoice$Words;") ∈ lw_all := lw_g (lw_at lw_m4 137 rfl) rfl
theorem q922 : (Jvm.Cond.soleField "FormulaVoice" "beside") ∈ lw_all := lw_g (lw_at lw_m4 138 rfl) rfl
theorem q923 : (Jvm.Cond.laysFinal "FormulaVoice" "FormulaVoice" "manner" "LFormulaVoice$Manner;") ∈ lw_all := lw_g (lw_at lw_m4 139 rfl) rfl
theorem q924 : (Jvm.Cond.soleField "FormulaVoice" "manner") ∈ lw_all := lw_g (lw_at lw_m4 140 rfl) rfl
theorem q925 : (Jvm.Cond.laysFinal "FormulaVoice" "FormulaVoice" "small" "Ljava/util/ArrayList;") ∈ lw_all := lw_g (lw_at lw_m4 141 rfl) rfl
theorem q926 : (Jvm.Cond.soleField "FormulaVoice" "small") ∈ lw_all := lw_g (lw_at lw_m4 142 rfl) rfl
theorem q927 : (Jvm.Cond.laysFinal "FormulaVoice" "FormulaVoice" "from" "[I") ∈ lw_all := lw_g (lw_at lw_m4 143 rfl) rfl
theorem q928 : (Jvm.Cond.soleField "FormulaVoice" "from") ∈ lw_all := lw_g (lw_at lw_m4 144 rfl) rfl
theorem q929 : (Jvm.Cond.laysFinal "FormulaVoice" "FormulaVoice" "ear" "[B") ∈ lw_all := lw_g (lw_at lw_m4 145 rfl) rfl
theorem q930 : (Jvm.Cond.soleField "FormulaVoice" "ear") ∈ lw_all := lw_g (lw_at lw_m4 146 rfl) rfl
theorem q931 : (Jvm.Cond.lays "FormulaVoice" "FormulaVoice" "heard" "I") ∈ lw_all := lw_g (lw_at lw_m4 147 rfl) rfl
theorem q932 : (Jvm.Cond.soleField "FormulaVoice" "heard") ∈ lw_all := lw_g (lw_at lw_m4 148 rfl) rfl
theorem q933 : (Jvm.Cond.laysFinal "FormulaVoice" "FormulaVoice" "counts" "[[J") ∈ lw_all := lw_g (lw_at lw_m4 149 rfl) rfl
theorem q934 : (Jvm.Cond.soleField "FormulaVoice" "counts") ∈ lw_all := lw_g (lw_at lw_m4 150 rfl) rfl
theorem q935 : (Jvm.Cond.lays "FormulaVoice" "FormulaVoice" "listening" "I") ∈ lw_all := lw_g (lw_at lw_m4 151 rfl) rfl
theorem q936 : (Jvm.Cond.soleField "FormulaVoice" "listening") ∈ lw_all := lw_g (lw_at lw_m4 152 rfl) rfl
theorem q937 : (Jvm.Cond.lays "FormulaVoice" "FormulaVoice" "choice" "I") ∈ lw_all := lw_g (lw_at lw_m4 153 rfl) rfl
theorem q938 : (Jvm.Cond.soleField "FormulaVoice" "choice") ∈ lw_all := lw_g (lw_at lw_m4 154 rfl) rfl
theorem q939 : (Jvm.Cond.lays "FormulaVoice" "FormulaVoice" "chosen" "I") ∈ lw_all := lw_g (lw_at lw_m4 155 rfl) rfl
theorem q940 : (Jvm.Cond.soleField "FormulaVoice" "chosen") ∈ lw_all := lw_g (lw_at lw_m4 156 rfl) rfl
theorem q941 : (Jvm.Cond.laysFinal "FormulaVoice" "FormulaVoice" "before" "[B") ∈ lw_all := lw_g (lw_at lw_m4 157 rfl) rfl
theorem q942 : (Jvm.Cond.soleField "FormulaVoice" "before") ∈ lw_all := lw_g (lw_at lw_m4 158 rfl) rfl
theorem q943 : (Jvm.Cond.laysFinal "FormulaVoice" "FormulaVoice" "path" "[LFormulaVoice$Node;") ∈ lw_all := lw_g (lw_at lw_m4 159 rfl) rfl
theorem q944 : (Jvm.Cond.soleField "FormulaVoice" "path") ∈ lw_all := lw_g (lw_at lw_m4 160 rfl) rfl
theorem q945 : (Jvm.Cond.laysFinal "FormulaVoice" "FormulaVoice" "isSecond" "[Z") ∈ lw_all := lw_g (lw_at lw_m4 161 rfl) rfl
theorem q946 : (Jvm.Cond.soleField "FormulaVoice" "isSecond") ∈ lw_all := lw_g (lw_at lw_m4 162 rfl) rfl
theorem q947 : (Jvm.Cond.lays "FormulaVoice" "FormulaVoice" "deep" "I") ∈ lw_all := lw_g (lw_at lw_m4 163 rfl) rfl
theorem q948 : (Jvm.Cond.soleField "FormulaVoice" "deep") ∈ lw_all := lw_g (lw_at lw_m4 164 rfl) rfl
theorem q949 : (Jvm.Cond.laysFinal "FormulaVoice" "FormulaVoice" "shelves" "[LFormulaVoice$Shelf;") ∈ lw_all := lw_g (lw_at lw_m4 165 rfl) rfl
theorem q950 : (Jvm.Cond.soleField "FormulaVoice" "shelves") ∈ lw_all := lw_g (lw_at lw_m4 166 rfl) rfl
theorem q951 : (Jvm.Cond.superclass "FormulaVoice" "java/lang/Object") ∈ lw_all := lw_g (lw_at lw_m4 167 rfl) rfl
theorem q953 : (Jvm.Cond.instanceMethod ({ cls := "FormulaVoice", name := "keep", desc := "(III)I" } : Jvm.MethodName)) ∈ lw_all := lw_g (lw_at lw_m4 169 rfl) rfl
theorem q954 : (Jvm.Cond.selects "FormulaVoice" ({ cls := "FormulaVoice", name := "keep", desc := "(III)I" } : Jvm.MethodName) ({ cls := "FormulaVoice", name := "keep", desc := "(III)I" } : Jvm.MethodName)) ∈ lw_all := lw_g (lw_at lw_m4 170 rfl) rfl
theorem q955 : (Jvm.Cond.code ({ cls := "FormulaVoice", name := "keep", desc := "(III)I" } : Jvm.MethodName) prog_1_method_66_code (4 : Nat) (Option.some Jvm.ClassFile.FieldType.int)) ∈ lw_all := lw_g (lw_at lw_m4 171 rfl) rfl
theorem q956 : (Jvm.Cond.methodLink "FormulaVoice" (361 : Nat) ({ cls := "FormulaVoice", name := "isShelf", desc := "(I)Z" } : Jvm.MethodName)) ∈ lw_all := lw_g (lw_at lw_m4 172 rfl) rfl
theorem q957 : (Jvm.Cond.static ({ cls := "FormulaVoice", name := "isShelf", desc := "(I)Z" } : Jvm.MethodName)) ∈ lw_all := lw_g (lw_at lw_m4 173 rfl) rfl
theorem q958 : (Jvm.Cond.code ({ cls := "FormulaVoice", name := "isShelf", desc := "(I)Z" } : Jvm.MethodName) prog_1_method_64_code (1 : Nat) (Option.some Jvm.ClassFile.FieldType.boolean)) ∈ lw_all := lw_g (lw_at lw_m4 174 rfl) rfl
theorem q959 : (Jvm.Cond.methodLink "FormulaVoice" (364 : Nat) ({ cls := "FormulaVoice", name := "rowOf", desc := "(II)Ljava/lang/Object;" } : Jvm.MethodName)) ∈ lw_all := lw_g (lw_at lw_m4 175 rfl) rfl
theorem q960 : (Jvm.Cond.privateMethod ({ cls := "FormulaVoice", name := "rowOf", desc := "(II)Ljava/lang/Object;" } : Jvm.MethodName)) ∈ lw_tbl := lw_at lw_m4 176 rfl
theorem q961 : (Jvm.Cond.instanceMethod ({ cls := "FormulaVoice", name := "rowOf", desc := "(II)Ljava/lang/Object;" } : Jvm.MethodName)) ∈ lw_all := lw_g (lw_at lw_m4 177 rfl) rfl
theorem q962 : (Jvm.Cond.code ({ cls := "FormulaVoice", name := "rowOf", desc := "(II)Ljava/lang/Object;" } : Jvm.MethodName) prog_1_method_67_code (5 : Nat) (Option.some (Jvm.ClassFile.FieldType.object "java/lang/Object"))) ∈ lw_all := lw_g (lw_at lw_m4 178 rfl) rfl
theorem q963 : (Jvm.Cond.methodLink "FormulaVoice" (357 : Nat) ({ cls := "FormulaVoice", name := "lays", desc := "(LFormulaVoice$Node;[CI)I" } : Jvm.MethodName)) ∈ lw_all := lw_g (lw_at lw_m4 179 rfl) rfl
theorem q964 : (Jvm.Cond.static ({ cls := "FormulaVoice", name := "lays", desc := "(LFormulaVoice$Node;[CI)I" } : Jvm.MethodName)) ∈ lw_all := lw_g (lw_at lw_m4 180 rfl) rfl
theorem q965 : (Jvm.Cond.code ({ cls := "FormulaVoice", name := "lays", desc := "(LFormulaVoice$Node;[CI)I" } : Jvm.MethodName) prog_1_method_65_code (4 : Nat) (Option.some Jvm.ClassFile.FieldType.int)) ∈ lw_all := lw_g (lw_at lw_m4 181 rfl) rfl
theorem q968 : (Jvm.Cond.instanceMethod ({ cls := "FormulaVoice", name := "make", desc := "(III)I" } : Jvm.MethodName)) ∈ lw_all := lw_g (lw_at lw_m4 184 rfl) rfl
theorem q969 : (Jvm.Cond.selects "FormulaVoice" ({ cls := "FormulaVoice", name := "make", desc := "(III)I" } : Jvm.MethodName) ({ cls := "FormulaVoice", name := "make", desc := "(III)I" } : Jvm.MethodName)) ∈ lw_all := lw_g (lw_at lw_m4 185 rfl) rfl
theorem q970 : (Jvm.Cond.codeWith ({ cls := "FormulaVoice", name := "make", desc := "(III)I" } : Jvm.MethodName) prog_1_method_68_code (5 : Nat) (Option.some Jvm.ClassFile.FieldType.int) [((29 : Nat), (59 : Nat), (60 : Nat), (372 : Nat))]) ∈ lw_all := lw_g (lw_at lw_m4 186 rfl) rfl
theorem q971 : (Jvm.Cond.classLink "FormulaVoice" (372 : Nat) "java/lang/NegativeArraySizeException") ∈ lw_all := lw_g (lw_at lw_m4 187 rfl) rfl
theorem q999 : (Jvm.Cond.instanceMethod ({ cls := "FormulaVoice", name := "copy", desc := "(IIIII)I" } : Jvm.MethodName)) ∈ lw_all := lw_g (lw_at lw_m4 215 rfl) rfl
theorem q1000 : (Jvm.Cond.selects "FormulaVoice" ({ cls := "FormulaVoice", name := "copy", desc := "(IIIII)I" } : Jvm.MethodName) ({ cls := "FormulaVoice", name := "copy", desc := "(IIIII)I" } : Jvm.MethodName)) ∈ lw_all := lw_g (lw_at lw_m4 216 rfl) rfl
theorem q1001 : (Jvm.Cond.codeWith ({ cls := "FormulaVoice", name := "copy", desc := "(IIIII)I" } : Jvm.MethodName) prog_1_method_71_code (11 : Nat) (Option.some Jvm.ClassFile.FieldType.int) [((81 : Nat), (95 : Nat), (96 : Nat), (387 : Nat))]) ∈ lw_all := lw_g (lw_at lw_m4 217 rfl) rfl
theorem q1002 : (Jvm.Cond.classLink "FormulaVoice" (387 : Nat) "java/lang/IndexOutOfBoundsException") ∈ lw_all := lw_g (lw_at lw_m4 218 rfl) rfl
theorem q1021 : (Jvm.Cond.methodLink "FormulaVoice" (383 : Nat) ({ cls := "FormulaVoice", name := "sortOf", desc := "(Ljava/lang/Object;)I" } : Jvm.MethodName)) ∈ lw_all := lw_g (lw_at lw_m4 237 rfl) rfl
theorem q1022 : (Jvm.Cond.static ({ cls := "FormulaVoice", name := "sortOf", desc := "(Ljava/lang/Object;)I" } : Jvm.MethodName)) ∈ lw_all := lw_g (lw_at lw_m4 238 rfl) rfl
theorem q1023 : (Jvm.Cond.code ({ cls := "FormulaVoice", name := "sortOf", desc := "(Ljava/lang/Object;)I" } : Jvm.MethodName) prog_1_method_70_code (1 : Nat) (Option.some Jvm.ClassFile.FieldType.int)) ∈ lw_all := lw_g (lw_at lw_m4 239 rfl) rfl
theorem q1024 : (Jvm.Cond.classLink "FormulaVoice" (374 : Nat) "[B") ∈ lw_all := lw_g (lw_at lw_m5 0 rfl) rfl
theorem q1025 : (Jvm.Cond.classLink "FormulaVoice" (375 : Nat) "[C") ∈ lw_all := lw_g (lw_at lw_m5 1 rfl) rfl
theorem q1027 : (Jvm.Cond.instanceMethod ({ cls := "FormulaVoice", name := "weight", desc := "(I)I" } : Jvm.MethodName)) ∈ lw_all := lw_g (lw_at lw_m5 3 rfl) rfl
theorem q1028 : (Jvm.Cond.selects "FormulaVoice" ({ cls := "FormulaVoice", name := "weight", desc := "(I)I" } : Jvm.MethodName) ({ cls := "FormulaVoice", name := "weight", desc := "(I)I" } : Jvm.MethodName)) ∈ lw_all := lw_g (lw_at lw_m5 4 rfl) rfl
theorem q1029 : (Jvm.Cond.codeWith ({ cls := "FormulaVoice", name := "weight", desc := "(I)I" } : Jvm.MethodName) prog_1_method_72_code (3 : Nat) (Option.some Jvm.ClassFile.FieldType.int) [((9 : Nat), (24 : Nat), (25 : Nat), (377 : Nat)), ((9 : Nat), (24 : Nat), (29 : Nat), (379 : Nat))]) ∈ lw_all := lw_g (lw_at lw_m5 5 rfl) rfl
theorem q1030 : (Jvm.Cond.classLink "FormulaVoice" (377 : Nat) "java/lang/NullPointerException") ∈ lw_all := lw_g (lw_at lw_m5 6 rfl) rfl
theorem q1049 : (Jvm.Cond.classLink "FormulaVoice" (379 : Nat) "java/lang/ClassCastException") ∈ lw_all := lw_g (lw_at lw_m5 25 rfl) rfl
theorem q1063 : (Jvm.Cond.methodLink "FormulaVoice" (389 : Nat) ({ cls := "FormulaVoice$Node", name := "weight", desc := "()I" } : Jvm.MethodName)) ∈ lw_all := lw_g (lw_at lw_m5 39 rfl) rfl
theorem q1091 : (Jvm.Cond.instanceMethod ({ cls := "FormulaVoice", name := "toss", desc := "(I)I" } : Jvm.MethodName)) ∈ lw_all := lw_g (lw_at lw_m5 67 rfl) rfl
theorem q1092 : (Jvm.Cond.selects "FormulaVoice" ({ cls := "FormulaVoice", name := "toss", desc := "(I)I" } : Jvm.MethodName) ({ cls := "FormulaVoice", name := "toss", desc := "(I)I" } : Jvm.MethodName)) ∈ lw_all := lw_g (lw_at lw_m5 68 rfl) rfl
theorem q1093 : (Jvm.Cond.codeWith ({ cls := "FormulaVoice", name := "toss", desc := "(I)I" } : Jvm.MethodName) prog_1_method_73_code (3 : Nat) (Option.some Jvm.ClassFile.FieldType.int) [((24 : Nat), (40 : Nat), (40 : Nat), (396 : Nat)), ((24 : Nat), (40 : Nat), (46 : Nat), (377 : Nat)), ((24 : Nat), (40 : Nat), (50 : Nat), (379 : Nat))]) ∈ lw_all := lw_g (lw_at lw_m5 69 rfl) rfl
theorem q1094 : (Jvm.Cond.classLink "FormulaVoice" (396 : Nat) "FormulaVoice$Tossed") ∈ lw_all := lw_g (lw_at lw_m5 70 rfl) rfl
theorem q1095 : (Jvm.Cond.methodLink "FormulaVoice" (392 : Nat) ({ cls := "FormulaVoice$Node", name := "failure", desc := "()LFormulaVoice$Tossed;" } : Jvm.MethodName)) ∈ lw_all := lw_g (lw_at lw_m5 71 rfl) rfl
theorem q1115 : (Jvm.Cond.fieldLink "FormulaVoice" (398 : Nat) "FormulaVoice$Tossed" "v" "I") ∈ lw_all := lw_g (lw_at lw_m5 91 rfl) rfl
theorem q1136 : (Jvm.Cond.instanceMethod ({ cls := "FormulaVoice", name := "readings", desc := "(I)J" } : Jvm.MethodName)) ∈ lw_all := lw_g (lw_at lw_m5 112 rfl) rfl
theorem q1137 : (Jvm.Cond.selects "FormulaVoice" ({ cls := "FormulaVoice", name := "readings", desc := "(I)J" } : Jvm.MethodName) ({ cls := "FormulaVoice", name := "readings", desc := "(I)J" } : Jvm.MethodName)) ∈ lw_all := lw_g (lw_at lw_m5 113 rfl) rfl
theorem q1138 : (Jvm.Cond.code ({ cls := "FormulaVoice", name := "readings", desc := "(I)J" } : Jvm.MethodName) prog_1_method_38_code (2 : Nat) (Option.some Jvm.ClassFile.FieldType.long)) ∈ lw_all := lw_g (lw_at lw_m5 114 rfl) rfl
theorem q1139 : (Jvm.Cond.classLink "FormulaVoice" (259 : Nat) "java/lang/IllegalArgumentException") ∈ lw_all := lw_g (lw_at lw_m5 115 rfl) rfl
theorem q1148 : (Jvm.Cond.methodLink "FormulaVoice" (261 : Nat) ({ cls := "java/lang/IllegalArgumentException", name := "<init>", desc := "()V" } : Jvm.MethodName)) ∈ lw_all := lw_g (lw_at lw_m5 124 rfl) rfl
theorem q1159 : (Jvm.Cond.instanceMethod ({ cls := "FormulaVoice", name := "where", desc := "(I)I" } : Jvm.MethodName)) ∈ lw_all := lw_g (lw_at lw_m5 135 rfl) rfl
theorem q1160 : (Jvm.Cond.selects "FormulaVoice" ({ cls := "FormulaVoice", name := "where", desc := "(I)I" } : Jvm.MethodName) ({ cls := "FormulaVoice", name := "where", desc := "(I)I" } : Jvm.MethodName)) ∈ lw_all := lw_g (lw_at lw_m5 136 rfl) rfl
theorem q1161 : (Jvm.Cond.code ({ cls := "FormulaVoice", name := "where", desc := "(I)I" } : Jvm.MethodName) prog_1_method_54_code (4 : Nat) (Option.some Jvm.ClassFile.FieldType.int)) ∈ lw_all := lw_g (lw_at lw_m5 137 rfl) rfl
theorem q1162 : (Jvm.Cond.classLink "FormulaVoice" (330 : Nat) "java/lang/IllegalStateException") ∈ lw_all := lw_g (lw_at lw_m5 138 rfl) rfl
theorem q1171 : (Jvm.Cond.methodLink "FormulaVoice" (332 : Nat) ({ cls := "java/lang/IllegalStateException", name := "<init>", desc := "()V" } : Jvm.MethodName)) ∈ lw_all := lw_g (lw_at lw_m5 147 rfl) rfl
theorem q1181 : (Jvm.Cond.instanceMethod ({ cls := "FormulaVoice", name := "element", desc := "(II)J" } : Jvm.MethodName)) ∈ lw_all := lw_g (lw_at lw_m5 157 rfl) rfl
theorem q1182 : (Jvm.Cond.selects "FormulaVoice" ({ cls := "FormulaVoice", name := "element", desc := "(II)J" } : Jvm.MethodName) ({ cls := "FormulaVoice", name := "element", desc := "(II)J" } : Jvm.MethodName)) ∈ lw_all := lw_g (lw_at lw_m5 158 rfl) rfl
theorem q1183 : (Jvm.Cond.codeWith ({ cls := "FormulaVoice", name := "element", desc := "(II)J" } : Jvm.MethodName) prog_1_method_69_code (5 : Nat) (Option.some Jvm.ClassFile.FieldType.long) [((25 : Nat), (39 : Nat), (48 : Nat), (377 : Nat)), ((40 : Nat), (47 : Nat), (48 : Nat), (377 : Nat)), ((25 : Nat), (39 : Nat), (58 : Nat), (379 : Nat)), ((40 : Nat), (47 : Nat), (58 : Nat), (379 : Nat)), ((25 : Nat), (39 : Nat), (68 : Nat), (381 : Nat)), ((40 : Nat), (47 : Nat), (68 : Nat), (381 : Nat))]) ∈ lw_all := lw_g (lw_at lw_m5 159 rfl) rfl
theorem q1184 : (Jvm.Cond.classLink "FormulaVoice" (381 : Nat) "java/lang/ArrayIndexOutOfBoundsException") ∈ lw_all := lw_g (lw_at lw_m5 160 rfl) rfl
theorem q1642 : (Jvm.Cond.castable "FormulaVoice" "java/lang/Object") ∈ lw_tbl := lw_at lw_m7 138 rfl
theorem in_X1 : ∀ w ∈ wsX10, w ∈ lw_all := lw_in wsX10 [913, 915, 917, 919, 921, 923, 925, 927, 929, 931, 933, 935, 937, 939, 941, 943, 945, 947, 949] (by decide +kernel) (by decide +kernel)
def RX2 : String := "FormulaVoice$Words"
def TX2 : u_T := fun k => match k with
  | 0 => ("FormulaVoice$Words", "at", "[B", true)
  | 1 => ("FormulaVoice$Words", "size", "I", false)
  | _ => ("FormulaVoice$Words", "endless", "LFormulaVoice$Endless;", true)
def tyX2 : Nat → FieldType := fun k => match k with
  | 0 => .array .byte
  | 1 => .int
  | _ => .object "FormulaVoice$Endless"
abbrev wsX20 : List Cond := u_ws RX2 TX2 3
theorem nmX2 : ∀ a, a < 3 → ∀ b, b < 3 → a ≠ b → (TX2 a).2.1 ≠ (TX2 b).2.1 := by decide +kernel
theorem tyX2_ok : ∀ k, k < 3 → parseFieldDescriptor (TX2 k).2.2.1 = some (tyX2 k) := by decide +kernel
abbrev cX2_clear : ByteArray := prog_14_method_2_code
def yX2_clear : MethodName := ⟨RX2, "clear", "()V"⟩
abbrev cX2_say : ByteArray := prog_14_method_3_code
def yX2_say : MethodName := ⟨RX2, "say", "(I)V"⟩
abbrev cX2_isAs : ByteArray := prog_14_method_4_code
def yX2_isAs : MethodName := ⟨RX2, "isAs", "(LFormulaVoice$Words;)Z"⟩
abbrev cX2_init : ByteArray := prog_14_method_1_code
def yX2_init : MethodName := ⟨RX2, "<init>", "()V"⟩
theorem q69 : (Jvm.Cond.initialized "FormulaVoice$Words") ∈ lw_all := lw_g (lw_at lw_m1 5 rfl) rfl
theorem q291 : (Jvm.Cond.selects "FormulaVoice$Words" ({ cls := "java/lang/Object", name := "getClass", desc := "()Ljava/lang/Class;" } : Jvm.MethodName) ({ cls := "java/lang/Object", name := "getClass", desc := "()Ljava/lang/Class;" } : Jvm.MethodName)) ∈ lw_all := lw_g (lw_at lw_m1 227 rfl) rfl
theorem q475 : (Jvm.Cond.instanceMethod ({ cls := "FormulaVoice$Words", name := "clear", desc := "()V" } : Jvm.MethodName)) ∈ lw_all := lw_g (lw_at lw_m2 171 rfl) rfl
theorem q476 : (Jvm.Cond.selects "FormulaVoice$Words" ({ cls := "FormulaVoice$Words", name := "clear", desc := "()V" } : Jvm.MethodName) ({ cls := "FormulaVoice$Words", name := "clear", desc := "()V" } : Jvm.MethodName)) ∈ lw_all := lw_g (lw_at lw_m2 172 rfl) rfl
theorem q477 : (Jvm.Cond.code ({ cls := "FormulaVoice$Words", name := "clear", desc := "()V" } : Jvm.MethodName) prog_14_method_2_code (1 : Nat) (Option.none : Option Jvm.ClassFile.FieldType)) ∈ lw_all := lw_g (lw_at lw_m2 173 rfl) rfl
theorem q490 : (Jvm.Cond.instanceMethod ({ cls := "FormulaVoice$Words", name := "say", desc := "(I)V" } : Jvm.MethodName)) ∈ lw_all := lw_g (lw_at lw_m2 186 rfl) rfl
theorem q491 : (Jvm.Cond.selects "FormulaVoice$Words" ({ cls := "FormulaVoice$Words", name := "say", desc := "(I)V" } : Jvm.MethodName) ({ cls := "FormulaVoice$Words", name := "say", desc := "(I)V" } : Jvm.MethodName)) ∈ lw_all := lw_g (lw_at lw_m2 187 rfl) rfl
theorem q492 : (Jvm.Cond.code ({ cls := "FormulaVoice$Words", name := "say", desc := "(I)V" } : Jvm.MethodName) prog_14_method_3_code (2 : Nat) (Option.none : Option Jvm.ClassFile.FieldType)) ∈ lw_all := lw_g (lw_at lw_m2 188 rfl) rfl
theorem q560 : (Jvm.Cond.instanceMethod ({ cls := "FormulaVoice$Words", name := "isAs", desc := "(LFormulaVoice$Words;)Z" } : Jvm.MethodName)) ∈ lw_all := lw_g (lw_at lw_m3 16 rfl) rfl
theorem q561 : (Jvm.Cond.selects "FormulaVoice$Words" ({ cls := "FormulaVoice$Words", name := "isAs", desc := "(LFormulaVoice$Words;)Z" } : Jvm.MethodName) ({ cls := "FormulaVoice$Words", name := "isAs", desc := "(LFormulaVoice$Words;)Z" } : Jvm.MethodName)) ∈ lw_all := lw_g (lw_at lw_m3 17 rfl) rfl
theorem q562 : (Jvm.Cond.code ({ cls := "FormulaVoice$Words", name := "isAs", desc := "(LFormulaVoice$Words;)Z" } : Jvm.MethodName) prog_14_method_4_code (4 : Nat) (Option.some Jvm.ClassFile.FieldType.boolean)) ∈ lw_all := lw_g (lw_at lw_m3 18 rfl) rfl
theorem q762 : (Jvm.Cond.instantiable "FormulaVoice$Words" (3 : Nat)) ∈ lw_all := lw_g (lw_at lw_m3 218 rfl) rfl
theorem q764 : (Jvm.Cond.instanceMethod ({ cls := "FormulaVoice$Words", name := "<init>", desc := "()V" } : Jvm.MethodName)) ∈ lw_all := lw_g (lw_at lw_m3 220 rfl) rfl
theorem q765 : (Jvm.Cond.code ({ cls := "FormulaVoice$Words", name := "<init>", desc := "()V" } : Jvm.MethodName) prog_14_method_1_code (1 : Nat) (Option.none : Option Jvm.ClassFile.FieldType)) ∈ lw_all := lw_g (lw_at lw_m3 221 rfl) rfl
theorem q766 : (Jvm.Cond.methodLink "FormulaVoice$Words" (3 : Nat) ({ cls := "java/lang/Object", name := "<init>", desc := "()V" } : Jvm.MethodName)) ∈ lw_all := lw_g (lw_at lw_m3 222 rfl) rfl
theorem q767 : (Jvm.Cond.classLink "FormulaVoice$Words" (15 : Nat) "FormulaVoice$Endless") ∈ lw_all := lw_g (lw_at lw_m3 223 rfl) rfl
theorem q826 : (Jvm.Cond.methodLinkNest "FormulaVoice$Words" (17 : Nat) ({ cls := "FormulaVoice$Endless", name := "<init>", desc := "()V" } : Jvm.MethodName) "FormulaVoice") ∈ lw_tbl := lw_at lw_m4 42 rfl
theorem q851 : (Jvm.Cond.fieldLink "FormulaVoice$Words" (9 : Nat) "FormulaVoice$Words" "at" "[B") ∈ lw_all := lw_g (lw_at lw_m4 67 rfl) rfl
theorem q853 : (Jvm.Cond.fieldLink "FormulaVoice$Words" (22 : Nat) "FormulaVoice$Words" "size" "I") ∈ lw_all := lw_g (lw_at lw_m4 69 rfl) rfl
theorem q855 : (Jvm.Cond.fieldLink "FormulaVoice$Words" (18 : Nat) "FormulaVoice$Words" "endless" "LFormulaVoice$Endless;") ∈ lw_all := lw_g (lw_at lw_m4 71 rfl) rfl
theorem q856 : (Jvm.Cond.laysFinal "FormulaVoice$Words" "FormulaVoice$Words" "at" "[B") ∈ lw_all := lw_g (lw_at lw_m4 72 rfl) rfl
theorem q857 : (Jvm.Cond.soleField "FormulaVoice$Words" "at") ∈ lw_all := lw_g (lw_at lw_m4 73 rfl) rfl
theorem q858 : (Jvm.Cond.lays "FormulaVoice$Words" "FormulaVoice$Words" "size" "I") ∈ lw_all := lw_g (lw_at lw_m4 74 rfl) rfl
theorem q859 : (Jvm.Cond.soleField "FormulaVoice$Words" "size") ∈ lw_all := lw_g (lw_at lw_m4 75 rfl) rfl
theorem q860 : (Jvm.Cond.laysFinal "FormulaVoice$Words" "FormulaVoice$Words" "endless" "LFormulaVoice$Endless;") ∈ lw_all := lw_g (lw_at lw_m4 76 rfl) rfl
theorem q861 : (Jvm.Cond.soleField "FormulaVoice$Words" "endless") ∈ lw_all := lw_g (lw_at lw_m4 77 rfl) rfl
theorem q862 : (Jvm.Cond.superclass "FormulaVoice$Words" "java/lang/Object") ∈ lw_all := lw_g (lw_at lw_m4 78 rfl) rfl
theorem q1644 : (Jvm.Cond.castable "FormulaVoice$Words" "java/lang/Object") ∈ lw_tbl := lw_at lw_m7 140 rfl
theorem in_X2 : ∀ w ∈ wsX20, w ∈ lw_all := lw_in wsX20 [856, 858, 860] (by decide +kernel) (by decide +kernel)
def RX3 : String := "FormulaVoice$Endless"
def TX3 : u_T := fun k => match k with
  | 0 => ("java/lang/Throwable", "cause", "Ljava/lang/Throwable;", false)
  | 1 => ("java/lang/Throwable", "stackTrace", "[Ljava/lang/StackTraceElement;", false)
  | 2 => ("java/lang/Throwable", "suppressedExceptions", "Ljava/util/List;", false)
  | 3 => ("java/lang/Throwable", "detailMessage", "Ljava/lang/String;", false)
  | 4 => ("java/lang/Throwable", "backtrace", "Ljava/lang/Object;", false)
  | _ => ("java/lang/Throwable", "depth", "I", false)
def tyX3 : Nat → FieldType := fun k => match k with
  | 0 => .object "java/lang/Throwable"
  | 1 => .array (.object "java/lang/StackTraceElement")
  | 2 => .object "java/util/List"
  | 3 => .object "java/lang/String"
  | 4 => .object "java/lang/Object"
  | _ => .int
abbrev wsX30 : List Cond := u_ws RX3 TX3 6
theorem nmX3 : ∀ a, a < 6 → ∀ b, b < 6 → a ≠ b → (TX3 a).2.1 ≠ (TX3 b).2.1 := by decide +kernel
theorem tyX3_ok : ∀ k, k < 6 → parseFieldDescriptor (TX3 k).2.2.1 = some (tyX3 k) := by decide +kernel
abbrev cX3_init : ByteArray := prog_4_method_1_code
def yX3_init : MethodName := ⟨RX3, "<init>", "()V"⟩
theorem q73 : (Jvm.Cond.initialized "FormulaVoice$Endless") ∈ lw_all := lw_g (lw_at lw_m1 9 rfl) rfl
theorem q282 : (Jvm.Cond.selects "FormulaVoice$Endless" ({ cls := "java/lang/Object", name := "getClass", desc := "()Ljava/lang/Class;" } : Jvm.MethodName) ({ cls := "java/lang/Object", name := "getClass", desc := "()Ljava/lang/Class;" } : Jvm.MethodName)) ∈ lw_all := lw_g (lw_at lw_m1 218 rfl) rfl
theorem q768 : (Jvm.Cond.instantiable "FormulaVoice$Endless" (6 : Nat)) ∈ lw_all := lw_g (lw_at lw_m3 224 rfl) rfl
theorem q769 : (Jvm.Cond.castable "FormulaVoice$Endless" "FormulaVoice$Endless") ∈ lw_tbl := lw_at lw_m3 225 rfl
theorem q776 : (Jvm.Cond.selects "FormulaVoice$Endless" ({ cls := "java/lang/Throwable", name := "fillInStackTrace", desc := "(I)Ljava/lang/Throwable;" } : Jvm.MethodName) ({ cls := "java/lang/Throwable", name := "fillInStackTrace", desc := "(I)Ljava/lang/Throwable;" } : Jvm.MethodName)) ∈ lw_all := lw_g (lw_at lw_m3 232 rfl) rfl
theorem q777 : (Jvm.Cond.selects "FormulaVoice$Endless" ({ cls := "java/lang/Throwable", name := "fillInStackTrace", desc := "()Ljava/lang/Throwable;" } : Jvm.MethodName) ({ cls := "java/lang/Throwable", name := "fillInStackTrace", desc := "()Ljava/lang/Throwable;" } : Jvm.MethodName)) ∈ lw_all := lw_g (lw_at lw_m3 233 rfl) rfl
theorem q778 : (Jvm.Cond.lays "FormulaVoice$Endless" "java/lang/Throwable" "cause" "Ljava/lang/Throwable;") ∈ lw_all := lw_g (lw_at lw_m3 234 rfl) rfl
theorem q780 : (Jvm.Cond.lays "FormulaVoice$Endless" "java/lang/Throwable" "stackTrace" "[Ljava/lang/StackTraceElement;") ∈ lw_all := lw_g (lw_at lw_m3 236 rfl) rfl
theorem q782 : (Jvm.Cond.lays "FormulaVoice$Endless" "java/lang/Throwable" "suppressedExceptions" "Ljava/util/List;") ∈ lw_all := lw_g (lw_at lw_m3 238 rfl) rfl
theorem q784 : (Jvm.Cond.lays "FormulaVoice$Endless" "java/lang/Throwable" "detailMessage" "Ljava/lang/String;") ∈ lw_all := lw_g (lw_at lw_m4 0 rfl) rfl
theorem q786 : (Jvm.Cond.lays "FormulaVoice$Endless" "java/lang/Throwable" "backtrace" "Ljava/lang/Object;") ∈ lw_all := lw_g (lw_at lw_m4 2 rfl) rfl
theorem q827 : (Jvm.Cond.instanceMethod ({ cls := "FormulaVoice$Endless", name := "<init>", desc := "()V" } : Jvm.MethodName)) ∈ lw_all := lw_g (lw_at lw_m4 43 rfl) rfl
theorem q828 : (Jvm.Cond.code ({ cls := "FormulaVoice$Endless", name := "<init>", desc := "()V" } : Jvm.MethodName) prog_4_method_1_code (1 : Nat) (Option.none : Option Jvm.ClassFile.FieldType)) ∈ lw_all := lw_g (lw_at lw_m4 44 rfl) rfl
theorem q829 : (Jvm.Cond.methodLink "FormulaVoice$Endless" (1 : Nat) ({ cls := "java/lang/RuntimeException", name := "<init>", desc := "()V" } : Jvm.MethodName)) ∈ lw_all := lw_g (lw_at lw_m4 45 rfl) rfl
theorem q845 : (Jvm.Cond.lays "FormulaVoice$Endless" "java/lang/Throwable" "depth" "I") ∈ lw_all := lw_g (lw_at lw_m4 61 rfl) rfl
theorem q848 : (Jvm.Cond.superclass "FormulaVoice$Endless" "java/lang/RuntimeException") ∈ lw_all := lw_g (lw_at lw_m4 64 rfl) rfl
theorem q1645 : (Jvm.Cond.castable "FormulaVoice$Endless" "java/lang/Object") ∈ lw_tbl := lw_at lw_m7 141 rfl
theorem in_X3 : ∀ w ∈ wsX30, w ∈ lw_all := lw_in wsX30 [778, 780, 782, 784, 786, 845] (by decide +kernel) (by decide +kernel)
def RX4 : String := "FormulaVoice$Manner"
def TX4 : u_T := fun k => match k with
  | 0 => ("FormulaVoice$Manner", "kept", "I", false)
  | _ => ("FormulaVoice$Manner", "deep", "I", false)
def tyX4 : Nat → FieldType := fun k => match k with
  | 0 => .int
  | _ => .int
abbrev wsX40 : List Cond := u_ws RX4 TX4 2
theorem nmX4 : ∀ a, a < 2 → ∀ b, b < 2 → a ≠ b → (TX4 a).2.1 ≠ (TX4 b).2.1 := by decide +kernel
theorem tyX4_ok : ∀ k, k < 2 → parseFieldDescriptor (TX4 k).2.2.1 = some (tyX4 k) := by decide +kernel
abbrev cX4_keeps : ByteArray := prog_7_method_2_code
def yX4_keeps : MethodName := ⟨RX4, "keeps", "(I)Z"⟩
abbrev cX4_init : ByteArray := prog_7_method_1_code
def yX4_init : MethodName := ⟨RX4, "<init>", "()V"⟩
theorem q74 : (Jvm.Cond.initialized "FormulaVoice$Manner") ∈ lw_all := lw_g (lw_at lw_m1 10 rfl) rfl
theorem q285 : (Jvm.Cond.selects "FormulaVoice$Manner" ({ cls := "java/lang/Object", name := "getClass", desc := "()Ljava/lang/Class;" } : Jvm.MethodName) ({ cls := "java/lang/Object", name := "getClass", desc := "()Ljava/lang/Class;" } : Jvm.MethodName)) ∈ lw_all := lw_g (lw_at lw_m1 221 rfl) rfl
theorem q509 : (Jvm.Cond.instanceMethod ({ cls := "FormulaVoice$Manner", name := "keeps", desc := "(I)Z" } : Jvm.MethodName)) ∈ lw_all := lw_g (lw_at lw_m2 205 rfl) rfl
theorem q510 : (Jvm.Cond.selects "FormulaVoice$Manner" ({ cls := "FormulaVoice$Manner", name := "keeps", desc := "(I)Z" } : Jvm.MethodName) ({ cls := "FormulaVoice$Manner", name := "keeps", desc := "(I)Z" } : Jvm.MethodName)) ∈ lw_all := lw_g (lw_at lw_m2 206 rfl) rfl
theorem q511 : (Jvm.Cond.code ({ cls := "FormulaVoice$Manner", name := "keeps", desc := "(I)Z" } : Jvm.MethodName) prog_7_method_2_code (2 : Nat) (Option.some Jvm.ClassFile.FieldType.boolean)) ∈ lw_all := lw_g (lw_at lw_m2 207 rfl) rfl
theorem q864 : (Jvm.Cond.instantiable "FormulaVoice$Manner" (2 : Nat)) ∈ lw_all := lw_g (lw_at lw_m4 80 rfl) rfl
theorem q866 : (Jvm.Cond.instanceMethod ({ cls := "FormulaVoice$Manner", name := "<init>", desc := "()V" } : Jvm.MethodName)) ∈ lw_all := lw_g (lw_at lw_m4 82 rfl) rfl
theorem q867 : (Jvm.Cond.code ({ cls := "FormulaVoice$Manner", name := "<init>", desc := "()V" } : Jvm.MethodName) prog_7_method_1_code (1 : Nat) (Option.none : Option Jvm.ClassFile.FieldType)) ∈ lw_all := lw_g (lw_at lw_m4 83 rfl) rfl
theorem q868 : (Jvm.Cond.methodLink "FormulaVoice$Manner" (1 : Nat) ({ cls := "java/lang/Object", name := "<init>", desc := "()V" } : Jvm.MethodName)) ∈ lw_all := lw_g (lw_at lw_m4 84 rfl) rfl
theorem q869 : (Jvm.Cond.fieldLink "FormulaVoice$Manner" (7 : Nat) "FormulaVoice$Manner" "kept" "I") ∈ lw_all := lw_g (lw_at lw_m4 85 rfl) rfl
theorem q873 : (Jvm.Cond.lays "FormulaVoice$Manner" "FormulaVoice$Manner" "kept" "I") ∈ lw_all := lw_g (lw_at lw_m4 89 rfl) rfl
theorem q874 : (Jvm.Cond.soleField "FormulaVoice$Manner" "kept") ∈ lw_all := lw_g (lw_at lw_m4 90 rfl) rfl
theorem q875 : (Jvm.Cond.lays "FormulaVoice$Manner" "FormulaVoice$Manner" "deep" "I") ∈ lw_all := lw_g (lw_at lw_m4 91 rfl) rfl
theorem q876 : (Jvm.Cond.soleField "FormulaVoice$Manner" "deep") ∈ lw_all := lw_g (lw_at lw_m4 92 rfl) rfl
theorem q877 : (Jvm.Cond.superclass "FormulaVoice$Manner" "java/lang/Object") ∈ lw_all := lw_g (lw_at lw_m4 93 rfl) rfl
theorem q1646 : (Jvm.Cond.castable "FormulaVoice$Manner" "java/lang/Object") ∈ lw_tbl := lw_at lw_m7 142 rfl
theorem in_X4 : ∀ w ∈ wsX40, w ∈ lw_all := lw_in wsX40 [873, 875] (by decide +kernel) (by decide +kernel)
def RX5 : String := "FormulaVoice$Shelf"
def TX5 : u_T := fun k => match k with
  | _ => ("FormulaVoice$Shelf", "held", "Ljava/lang/Object;", false)
def tyX5 : Nat → FieldType := fun k => match k with
  | _ => .object "java/lang/Object"
abbrev wsX50 : List Cond := u_ws RX5 TX5 1
theorem nmX5 : ∀ a, a < 1 → ∀ b, b < 1 → a ≠ b → (TX5 a).2.1 ≠ (TX5 b).2.1 := by decide +kernel
theorem tyX5_ok : ∀ k, k < 1 → parseFieldDescriptor (TX5 k).2.2.1 = some (tyX5 k) := by decide +kernel
abbrev cX5_init : ByteArray := prog_11_method_1_code
def yX5_init : MethodName := ⟨RX5, "<init>", "()V"⟩
theorem q75 : (Jvm.Cond.initialized "FormulaVoice$Shelf") ∈ lw_all := lw_g (lw_at lw_m1 11 rfl) rfl
theorem q288 : (Jvm.Cond.selects "FormulaVoice$Shelf" ({ cls := "java/lang/Object", name := "getClass", desc := "()Ljava/lang/Class;" } : Jvm.MethodName) ({ cls := "java/lang/Object", name := "getClass", desc := "()Ljava/lang/Class;" } : Jvm.MethodName)) ∈ lw_all := lw_g (lw_at lw_m1 224 rfl) rfl
theorem q883 : (Jvm.Cond.instantiable "FormulaVoice$Shelf" (1 : Nat)) ∈ lw_all := lw_g (lw_at lw_m4 99 rfl) rfl
theorem q885 : (Jvm.Cond.instanceMethod ({ cls := "FormulaVoice$Shelf", name := "<init>", desc := "()V" } : Jvm.MethodName)) ∈ lw_all := lw_g (lw_at lw_m4 101 rfl) rfl
theorem q886 : (Jvm.Cond.code ({ cls := "FormulaVoice$Shelf", name := "<init>", desc := "()V" } : Jvm.MethodName) prog_11_method_1_code (1 : Nat) (Option.none : Option Jvm.ClassFile.FieldType)) ∈ lw_all := lw_g (lw_at lw_m4 102 rfl) rfl
theorem q887 : (Jvm.Cond.methodLink "FormulaVoice$Shelf" (1 : Nat) ({ cls := "java/lang/Object", name := "<init>", desc := "()V" } : Jvm.MethodName)) ∈ lw_all := lw_g (lw_at lw_m4 103 rfl) rfl
theorem q889 : (Jvm.Cond.lays "FormulaVoice$Shelf" "FormulaVoice$Shelf" "held" "Ljava/lang/Object;") ∈ lw_all := lw_g (lw_at lw_m4 105 rfl) rfl
theorem q890 : (Jvm.Cond.soleField "FormulaVoice$Shelf" "held") ∈ lw_all := lw_g (lw_at lw_m4 106 rfl) rfl
theorem q891 : (Jvm.Cond.superclass "FormulaVoice$Shelf" "java/lang/Object") ∈ lw_all := lw_g (lw_at lw_m4 107 rfl) rfl
theorem q1641 : (Jvm.Cond.castable "FormulaVoice$Shelf" "java/lang/Object") ∈ lw_tbl := lw_at lw_m7 137 rfl
theorem in_X5 : ∀ w ∈ wsX50, w ∈ lw_all := lw_in wsX50 [889] (by decide +kernel) (by decide +kernel)
def RX6 : String := "FormulaVoiceModel"
def TX6 : u_T := fun k => match k with
  | 0 => ("FormulaVoiceModel", "nodes", "I", false)
  | 1 => ("FormulaVoiceModel", "kind", "[I", true)
  | 2 => ("FormulaVoiceModel", "value", "[I", true)
  | 3 => ("FormulaVoiceModel", "first", "[I", true)
  | 4 => ("FormulaVoiceModel", "second", "[I", true)
  | 5 => ("FormulaVoiceModel", "size", "[I", true)
  | 6 => ("FormulaVoiceModel", "depth", "[I", true)
  | 7 => ("FormulaVoiceModel", "isFunction", "[Z", true)
  | 8 => ("FormulaVoiceModel", "isKept", "[Z", true)
  | 9 => ("FormulaVoiceModel", "ear", "[I", true)
  | 10 => ("FormulaVoiceModel", "heard", "I", false)
  | 11 => ("FormulaVoiceModel", "shelf", "[I", true)
  | 12 => ("FormulaVoiceModel", "shelfKind", "[I", true)
  | 13 => ("FormulaVoiceModel", "shelfValue", "[I", true)
  | 14 => ("FormulaVoiceModel", "shelfSize", "[I", true)
  | 15 => ("FormulaVoiceModel", "rows", "[I", true)
  | 16 => ("FormulaVoiceModel", "thrown", "I", false)
  | 17 => ("FormulaVoiceModel", "said", "[I", true)
  | 18 => ("FormulaVoiceModel", "saidMany", "I", false)
  | 19 => ("FormulaVoiceModel", "mask", "I", false)
  | 20 => ("FormulaVoiceModel", "masked", "I", false)
  | 21 => ("FormulaVoiceModel", "maskMany", "I", false)
  | 22 => ("FormulaVoiceModel", "kept", "[I", true)
  | 23 => ("FormulaVoiceModel", "small", "I", false)
  | 24 => ("FormulaVoiceModel", "smallWords", "[I", true)
  | 25 => ("FormulaVoiceModel", "smallMany", "[I", true)
  | 26 => ("FormulaVoiceModel", "many", "[J", true)
  | 27 => ("FormulaVoiceModel", "all", "[J", true)
  | 28 => ("FormulaVoiceModel", "style", "I", false)
  | 29 => ("FormulaVoiceModel", "made", "I", false)
  | 30 => ("FormulaVoiceModel", "isWalk", "Z", false)
  | 31 => ("FormulaVoiceModel", "path", "[I", true)
  | 32 => ("FormulaVoiceModel", "step", "[I", true)
  | 33 => ("FormulaVoiceModel", "deep", "I", false)
  | _ => ("FormulaVoiceModel", "kindsMany", "I", false)
def tyX6 : Nat → FieldType := fun k => match k with
  | 0 => .int
  | 1 => .array .int
  | 2 => .array .int
  | 3 => .array .int
  | 4 => .array .int
  | 5 => .array .int
  | 6 => .array .int
  | 7 => .array .boolean
  | 8 => .array .boolean
  | 9 => .array .int
  | 10 => .int
  | 11 => .array .int
  | 12 => .array .int
  | 13 => .array .int
  | 14 => .array .int
  | 15 => .array .int
  | 16 => .int
  | 17 => .array .int
  | 18 => .int
  | 19 => .int
  | 20 => .int
  | 21 => .int
  | 22 => .array .int
  | 23 => .int
  | 24 => .array .int
  | 25 => .array .int
  | 26 => .array .long
  | 27 => .array .long
  | 28 => .int
  | 29 => .int
  | 30 => .boolean
  | 31 => .array .int
  | 32 => .array .int
  | 33 => .int
  | _ => .int
abbrev wsX60 : List Cond := u_ws RX6 TX6 35
theorem nmX6 : ∀ a, a < 35 → ∀ b, b < 35 → a ≠ b → (TX6 a).2.1 ≠ (TX6 b).2.1 := by decide +kernel
theorem tyX6_ok : ∀ k, k < 35 → parseFieldDescriptor (TX6 k).2.2.1 = some (tyX6 k) := by decide +kernel
abbrev cX6_init : ByteArray := prog_16_method_1_code
def yX6_init : MethodName := ⟨RX6, "<init>", "()V"⟩
abbrev cX6_thrown : ByteArray := prog_16_method_2_code
def yX6_thrown : MethodName := ⟨RX6, "thrown", "()I"⟩
abbrev cX6_leaf : ByteArray := prog_16_method_9_code
def yX6_leaf : MethodName := ⟨RX6, "leaf", "(II)I"⟩
abbrev cX6_in : ByteArray := prog_16_method_3_code
def yX6_in : MethodName := ⟨RX6, "in", "(JJJ)Z"⟩
abbrev cX6_sets : ByteArray := prog_16_method_8_code
def yX6_sets : MethodName := ⟨RX6, "sets", "(IIIII)V"⟩
abbrev cX6_node : ByteArray := prog_16_method_10_code
def yX6_node : MethodName := ⟨RX6, "node", "(III)I"⟩
abbrev cX6_isNode : ByteArray := prog_16_method_4_code
def yX6_isNode : MethodName := ⟨RX6, "isNode", "(I)Z"⟩
abbrev cX6_isTwo : ByteArray := prog_16_method_5_code
def yX6_isTwo : MethodName := ⟨RX6, "isTwo", "(I)Z"⟩
abbrev cX6_undo : ByteArray := prog_16_method_11_code
def yX6_undo : MethodName := ⟨RX6, "undo", "()I"⟩
abbrev cX6_means : ByteArray := prog_16_method_12_code
def yX6_means : MethodName := ⟨RX6, "means", "(IZ)I"⟩
abbrev cX6_look : ByteArray := prog_16_method_14_code
def yX6_look : MethodName := ⟨RX6, "look", "(II)I"⟩
abbrev cX6_isRight : ByteArray := prog_16_method_13_code
def yX6_isRight : MethodName := ⟨RX6, "isRight", "(I)Z"⟩
abbrev cX6_alike : ByteArray := prog_16_method_16_code
def yX6_alike : MethodName := ⟨RX6, "alike", "(II)I"⟩
abbrev cX6_areAlike : ByteArray := prog_16_method_15_code
def yX6_areAlike : MethodName := ⟨RX6, "areAlike", "(II)Z"⟩
abbrev cX6_times : ByteArray := prog_16_method_18_code
def yX6_times : MethodName := ⟨RX6, "times", "(II)I"⟩
abbrev cX6_has : ByteArray := prog_16_method_17_code
def yX6_has : MethodName := ⟨RX6, "has", "(II)I"⟩
abbrev cX6_keeps : ByteArray := prog_16_method_19_code
def yX6_keeps : MethodName := ⟨RX6, "keeps", "(IIZ)I"⟩
abbrev cX6_isStyle : ByteArray := prog_16_method_7_code
def yX6_isStyle : MethodName := ⟨RX6, "isStyle", "(I)Z"⟩
abbrev cX6_mayKeep : ByteArray := prog_16_method_6_code
def yX6_mayKeep : MethodName := ⟨RX6, "mayKeep", "(I)Z"⟩
abbrev cX6_words : ByteArray := prog_16_method_27_code
def yX6_words : MethodName := ⟨RX6, "words", "(II)I"⟩
abbrev cX6_length : ByteArray := prog_16_method_22_code
def yX6_length : MethodName := ⟨RX6, "length", "(II)I"⟩
abbrev cX6_own : ByteArray := prog_16_method_21_code
def yX6_own : MethodName := ⟨RX6, "own", "(I)I"⟩
abbrev cX6_digits : ByteArray := prog_16_method_20_code
def yX6_digits : MethodName := ⟨RX6, "digits", "(I)I"⟩
abbrev cX6_word : ByteArray := prog_16_method_28_code
def yX6_word : MethodName := ⟨RX6, "word", "(III)I"⟩
abbrev cX6_sayAll : ByteArray := prog_16_method_26_code
def yX6_sayAll : MethodName := ⟨RX6, "sayAll", "(II)V"⟩
abbrev cX6_say : ByteArray := prog_16_method_25_code
def yX6_say : MethodName := ⟨RX6, "say", "(II)V"⟩
abbrev cX6_keepsIt : ByteArray := prog_16_method_24_code
def yX6_keepsIt : MethodName := ⟨RX6, "keepsIt", "(II)Z"⟩
abbrev cX6_says : ByteArray := prog_16_method_23_code
def yX6_says : MethodName := ⟨RX6, "says", "(I)V"⟩
abbrev cX6_sound : ByteArray := prog_16_method_29_code
def yX6_sound : MethodName := ⟨RX6, "sound", "(III)I"⟩
abbrev cX6_clear : ByteArray := prog_16_method_33_code
def yX6_clear : MethodName := ⟨RX6, "clear", "(II)I"⟩
abbrev cX6_adds : ByteArray := prog_16_method_30_code
def yX6_adds : MethodName := ⟨RX6, "adds", "(IIII)V"⟩
abbrev cX6_grows : ByteArray := prog_16_method_31_code
def yX6_grows : MethodName := ⟨RX6, "grows", "(I)V"⟩
abbrev cX6_isSame : ByteArray := prog_16_method_32_code
def yX6_isSame : MethodName := ⟨RX6, "isSame", "(II)Z"⟩
abbrev cX6_hear : ByteArray := prog_16_method_34_code
def yX6_hear : MethodName := ⟨RX6, "hear", "(II)I"⟩
abbrev cX6_listen : ByteArray := prog_16_method_35_code
def yX6_listen : MethodName := ⟨RX6, "listen", "(II)I"⟩
abbrev cX6_hears : ByteArray := prog_16_method_36_code
def yX6_hears : MethodName := ⟨RX6, "hears", "()V"⟩
abbrev cX6_hush : ByteArray := prog_16_method_37_code
def yX6_hush : MethodName := ⟨RX6, "hush", "()I"⟩
abbrev cX6_ear : ByteArray := prog_16_method_38_code
def yX6_ear : MethodName := ⟨RX6, "ear", "(I)I"⟩
abbrev cX6_readings : ByteArray := prog_16_method_46_code
def yX6_readings : MethodName := ⟨RX6, "readings", "(I)J"⟩
abbrev cX6_counted : ByteArray := prog_16_method_45_code
def yX6_counted : MethodName := ⟨RX6, "counted", "(I)J"⟩
abbrev cX6_reckons : ByteArray := prog_16_method_44_code
def yX6_reckons : MethodName := ⟨RX6, "reckons", "(I)V"⟩
abbrev cX6_isLet : ByteArray := prog_16_method_41_code
def yX6_isLet : MethodName := ⟨RX6, "isLet", "(IZ)Z"⟩
abbrev cX6_within : ByteArray := prog_16_method_43_code
def yX6_within : MethodName := ⟨RX6, "within", "(III)J"⟩
abbrev cX6_isNumber : ByteArray := prog_16_method_42_code
def yX6_isNumber : MethodName := ⟨RX6, "isNumber", "(II)Z"⟩
abbrev cX6_times_2 : ByteArray := prog_16_method_39_code
def yX6_times_2 : MethodName := ⟨RX6, "times", "(JJ)J"⟩
abbrev cX6_plus : ByteArray := prog_16_method_40_code
def yX6_plus : MethodName := ⟨RX6, "plus", "(JJ)J"⟩
abbrev cX6_write : ByteArray := prog_16_method_50_code
def yX6_write : MethodName := ⟨RX6, "write", "(IJ)I"⟩
abbrev cX6_takes : ByteArray := prog_16_method_48_code
def yX6_takes : MethodName := ⟨RX6, "takes", "(IIJ)I"⟩
abbrev cX6_makes : ByteArray := prog_16_method_47_code
def yX6_makes : MethodName := ⟨RX6, "makes", "(IIII)I"⟩
abbrev cX6_takesTwo : ByteArray := prog_16_method_49_code
def yX6_takesTwo : MethodName := ⟨RX6, "takesTwo", "(IIIJ)I"⟩
abbrev cX6_copies : ByteArray := prog_16_method_51_code
def yX6_copies : MethodName := ⟨RX6, "copies", "(I)I"⟩
abbrev cX6_place : ByteArray := prog_16_method_55_code
def yX6_place : MethodName := ⟨RX6, "place", "(II)J"⟩
abbrev cX6_rank : ByteArray := prog_16_method_52_code
def yX6_rank : MethodName := ⟨RX6, "rank", "(III)J"⟩
abbrev cX6_inner : ByteArray := prog_16_method_53_code
def yX6_inner : MethodName := ⟨RX6, "inner", "(III)J"⟩
abbrev cX6_innerTwo : ByteArray := prog_16_method_54_code
def yX6_innerTwo : MethodName := ⟨RX6, "innerTwo", "(III)J"⟩
abbrev cX6_doubt : ByteArray := prog_16_method_56_code
def yX6_doubt : MethodName := ⟨RX6, "doubt", "(IJJ)I"⟩
abbrev cX6_fewest : ByteArray := prog_16_method_59_code
def yX6_fewest : MethodName := ⟨RX6, "fewest", "(I)I"⟩
abbrev cX6_keepable : ByteArray := prog_16_method_57_code
def yX6_keepable : MethodName := ⟨RX6, "keepable", "(I)I"⟩
abbrev cX6_bits : ByteArray := prog_16_method_58_code
def yX6_bits : MethodName := ⟨RX6, "bits", "(I)I"⟩
abbrev cX6_isOnly : ByteArray := prog_16_method_60_code
def yX6_isOnly : MethodName := ⟨RX6, "isOnly", "(III)Z"⟩
abbrev cX6_walk : ByteArray := prog_16_method_61_code
def yX6_walk : MethodName := ⟨RX6, "walk", "(I)I"⟩
abbrev cX6_go : ByteArray := prog_16_method_63_code
def yX6_go : MethodName := ⟨RX6, "go", "(I)I"⟩
abbrev cX6_down : ByteArray := prog_16_method_62_code
def yX6_down : MethodName := ⟨RX6, "down", "(I)Z"⟩
abbrev cX6_where : ByteArray := prog_16_method_64_code
def yX6_where : MethodName := ⟨RX6, "where", "(I)I"⟩
abbrev cX6_lead : ByteArray := prog_16_method_65_code
def yX6_lead : MethodName := ⟨RX6, "lead", "(I)I"⟩
abbrev cX6_glance : ByteArray := prog_16_method_67_code
def yX6_glance : MethodName := ⟨RX6, "glance", "(II)I"⟩
abbrev cX6_glanced : ByteArray := prog_16_method_66_code
def yX6_glanced : MethodName := ⟨RX6, "glanced", "(III)I"⟩
abbrev cX6_changed : ByteArray := prog_16_method_71_code
def yX6_changed : MethodName := ⟨RX6, "changed", "(II)I"⟩
abbrev cX6_difference : ByteArray := prog_16_method_69_code
def yX6_difference : MethodName := ⟨RX6, "difference", "(II)I"⟩
abbrev cX6_inside : ByteArray := prog_16_method_68_code
def yX6_inside : MethodName := ⟨RX6, "inside", "(II)I"⟩
abbrev cX6_exchanged : ByteArray := prog_16_method_72_code
def yX6_exchanged : MethodName := ⟨RX6, "exchanged", "(II)I"⟩
abbrev cX6_wholes : ByteArray := prog_16_method_70_code
def yX6_wholes : MethodName := ⟨RX6, "wholes", "(II)I"⟩
abbrev cX6_count : ByteArray := prog_16_method_74_code
def yX6_count : MethodName := ⟨RX6, "count", "(I)I"⟩
abbrev cX6_functions : ByteArray := prog_16_method_73_code
def yX6_functions : MethodName := ⟨RX6, "functions", "()I"⟩
abbrev cX6_keep : ByteArray := prog_16_method_77_code
def yX6_keep : MethodName := ⟨RX6, "keep", "(III)I"⟩
abbrev cX6_isShelf : ByteArray := prog_16_method_75_code
def yX6_isShelf : MethodName := ⟨RX6, "isShelf", "(I)Z"⟩
abbrev cX6_kinds : ByteArray := prog_16_method_76_code
def yX6_kinds : MethodName := ⟨RX6, "kinds", "(II)V"⟩
abbrev cX6_make : ByteArray := prog_16_method_78_code
def yX6_make : MethodName := ⟨RX6, "make", "(III)I"⟩
abbrev cX6_element : ByteArray := prog_16_method_79_code
def yX6_element : MethodName := ⟨RX6, "element", "(II)J"⟩
abbrev cX6_copy : ByteArray := prog_16_method_80_code
def yX6_copy : MethodName := ⟨RX6, "copy", "(IIIII)I"⟩
abbrev cX6_weight : ByteArray := prog_16_method_82_code
def yX6_weight : MethodName := ⟨RX6, "weight", "(I)I"⟩
abbrev cX6_held : ByteArray := prog_16_method_81_code
def yX6_held : MethodName := ⟨RX6, "held", "(I)I"⟩
abbrev cX6_toss : ByteArray := prog_16_method_83_code
def yX6_toss : MethodName := ⟨RX6, "toss", "(I)I"⟩
theorem q76 : (Jvm.Cond.initialized "FormulaVoiceModel") ∈ lw_all := lw_g (lw_at lw_m1 12 rfl) rfl
theorem q292 : (Jvm.Cond.selects "FormulaVoiceModel" ({ cls := "java/lang/Object", name := "getClass", desc := "()Ljava/lang/Class;" } : Jvm.MethodName) ({ cls := "java/lang/Object", name := "getClass", desc := "()Ljava/lang/Class;" } : Jvm.MethodName)) ∈ lw_all := lw_g (lw_at lw_m1 228 rfl) rfl
theorem q1186 : (Jvm.Cond.instantiable "FormulaVoiceModel" (35 : Nat)) ∈ lw_all := lw_g (lw_at lw_m5 162 rfl) rfl
theorem q1188 : (Jvm.Cond.instanceMethod ({ cls := "FormulaVoiceModel", name := "<init>", desc := "()V" } : Jvm.MethodName)) ∈ lw_all := lw_g (lw_at lw_m5 164 rfl) rfl
theorem q1189 : (Jvm.Cond.code ({ cls := "FormulaVoiceModel", name := "<init>", desc := "()V" } : Jvm.MethodName) prog_16_method_1_code (2 : Nat) (Option.none : Option Jvm.ClassFile.FieldType)) ∈ lw_all := lw_g (lw_at lw_m5 165 rfl) rfl
theorem q1190 : (Jvm.Cond.methodLink "FormulaVoiceModel" (1 : Nat) ({ cls := "java/lang/Object", name := "<init>", desc := "()V" } : Jvm.MethodName)) ∈ lw_all := lw_g (lw_at lw_m5 166 rfl) rfl
theorem q1191 : (Jvm.Cond.fieldLink "FormulaVoiceModel" (85 : Nat) "FormulaVoiceModel" "nodes" "I") ∈ lw_all := lw_g (lw_at lw_m5 167 rfl) rfl
theorem q1192 : (Jvm.Cond.fieldLink "FormulaVoiceModel" (7 : Nat) "FormulaVoiceModel" "kind" "[I") ∈ lw_all := lw_g (lw_at lw_m5 168 rfl) rfl
theorem q1193 : (Jvm.Cond.fieldLink "FormulaVoiceModel" (13 : Nat) "FormulaVoiceModel" "value" "[I") ∈ lw_all := lw_g (lw_at lw_m5 169 rfl) rfl
theorem q1194 : (Jvm.Cond.fieldLink "FormulaVoiceModel" (16 : Nat) "FormulaVoiceModel" "first" "[I") ∈ lw_all := lw_g (lw_at lw_m5 170 rfl) rfl
theorem q1195 : (Jvm.Cond.fieldLink "FormulaVoiceModel" (19 : Nat) "FormulaVoiceModel" "second" "[I") ∈ lw_all := lw_g (lw_at lw_m5 171 rfl) rfl
theorem q1196 : (Jvm.Cond.fieldLink "FormulaVoiceModel" (22 : Nat) "FormulaVoiceModel" "size" "[I") ∈ lw_all := lw_g (lw_at lw_m5 172 rfl) rfl
theorem q1197 : (Jvm.Cond.fieldLink "FormulaVoiceModel" (25 : Nat) "FormulaVoiceModel" "depth" "[I") ∈ lw_all := lw_g (lw_at lw_m5 173 rfl) rfl
theorem q1198 : (Jvm.Cond.fieldLink "FormulaVoiceModel" (28 : Nat) "FormulaVoiceModel" "isFunction" "[Z") ∈ lw_all := lw_g (lw_at lw_m5 174 rfl) rfl
theorem q1199 : (Jvm.Cond.fieldLink "FormulaVoiceModel" (32 : Nat) "FormulaVoiceModel" "isKept" "[Z") ∈ lw_all := lw_g (lw_at lw_m5 175 rfl) rfl
theorem q1200 : (Jvm.Cond.fieldLink "FormulaVoiceModel" (35 : Nat) "FormulaVoiceModel" "ear" "[I") ∈ lw_all := lw_g (lw_at lw_m5 176 rfl) rfl
theorem q1201 : (Jvm.Cond.fieldLink "FormulaVoiceModel" (184 : Nat) "FormulaVoiceModel" "heard" "I") ∈ lw_all := lw_g (lw_at lw_m5 177 rfl) rfl
theorem q1202 : (Jvm.Cond.fieldLink "FormulaVoiceModel" (38 : Nat) "FormulaVoiceModel" "shelf" "[I") ∈ lw_all := lw_g (lw_at lw_m5 178 rfl) rfl
theorem q1203 : (Jvm.Cond.fieldLink "FormulaVoiceModel" (41 : Nat) "FormulaVoiceModel" "shelfKind" "[I") ∈ lw_all := lw_g (lw_at lw_m5 179 rfl) rfl
theorem q1204 : (Jvm.Cond.fieldLink "FormulaVoiceModel" (44 : Nat) "FormulaVoiceModel" "shelfValue" "[I") ∈ lw_all := lw_g (lw_at lw_m5 180 rfl) rfl
theorem q1205 : (Jvm.Cond.fieldLink "FormulaVoiceModel" (47 : Nat) "FormulaVoiceModel" "shelfSize" "[I") ∈ lw_all := lw_g (lw_at lw_m5 181 rfl) rfl
theorem q1206 : (Jvm.Cond.fieldLink "FormulaVoiceModel" (50 : Nat) "FormulaVoiceModel" "rows" "[I") ∈ lw_all := lw_g (lw_at lw_m5 182 rfl) rfl
theorem q1207 : (Jvm.Cond.fieldLink "FormulaVoiceModel" (82 : Nat) "FormulaVoiceModel" "thrown" "I") ∈ lw_all := lw_g (lw_at lw_m5 183 rfl) rfl
theorem q1208 : (Jvm.Cond.fieldLink "FormulaVoiceModel" (53 : Nat) "FormulaVoiceModel" "said" "[I") ∈ lw_all := lw_g (lw_at lw_m5 184 rfl) rfl
theorem q1209 : (Jvm.Cond.fieldLink "FormulaVoiceModel" (144 : Nat) "FormulaVoiceModel" "saidMany" "I") ∈ lw_all := lw_g (lw_at lw_m5 185 rfl) rfl
theorem q1210 : (Jvm.Cond.fieldLink "FormulaVoiceModel" (56 : Nat) "FormulaVoiceModel" "mask" "I") ∈ lw_all := lw_g (lw_at lw_m5 186 rfl) rfl
theorem q1211 : (Jvm.Cond.fieldLink "FormulaVoiceModel" (147 : Nat) "FormulaVoiceModel" "masked" "I") ∈ lw_all := lw_g (lw_at lw_m5 187 rfl) rfl
theorem q1212 : (Jvm.Cond.fieldLink "FormulaVoiceModel" (150 : Nat) "FormulaVoiceModel" "maskMany" "I") ∈ lw_all := lw_g (lw_at lw_m5 188 rfl) rfl
theorem q1213 : (Jvm.Cond.fieldLink "FormulaVoiceModel" (60 : Nat) "FormulaVoiceModel" "kept" "[I") ∈ lw_all := lw_g (lw_at lw_m5 189 rfl) rfl
theorem q1214 : (Jvm.Cond.fieldLink "FormulaVoiceModel" (167 : Nat) "FormulaVoiceModel" "small" "I") ∈ lw_all := lw_g (lw_at lw_m5 190 rfl) rfl
theorem q1215 : (Jvm.Cond.fieldLink "FormulaVoiceModel" (63 : Nat) "FormulaVoiceModel" "smallWords" "[I") ∈ lw_all := lw_g (lw_at lw_m5 191 rfl) rfl
theorem q1216 : (Jvm.Cond.fieldLink "FormulaVoiceModel" (66 : Nat) "FormulaVoiceModel" "smallMany" "[I") ∈ lw_all := lw_g (lw_at lw_m5 192 rfl) rfl
theorem q1217 : (Jvm.Cond.fieldLink "FormulaVoiceModel" (69 : Nat) "FormulaVoiceModel" "many" "[J") ∈ lw_all := lw_g (lw_at lw_m5 193 rfl) rfl
theorem q1218 : (Jvm.Cond.fieldLink "FormulaVoiceModel" (73 : Nat) "FormulaVoiceModel" "all" "[J") ∈ lw_all := lw_g (lw_at lw_m5 194 rfl) rfl
theorem q1219 : (Jvm.Cond.fieldLink "FormulaVoiceModel" (192 : Nat) "FormulaVoiceModel" "style" "I") ∈ lw_all := lw_g (lw_at lw_m5 195 rfl) rfl
theorem q1220 : (Jvm.Cond.fieldLink "FormulaVoiceModel" (226 : Nat) "FormulaVoiceModel" "made" "I") ∈ lw_all := lw_g (lw_at lw_m5 196 rfl) rfl
theorem q1221 : (Jvm.Cond.fieldLink "FormulaVoiceModel" (111 : Nat) "FormulaVoiceModel" "isWalk" "Z") ∈ lw_all := lw_g (lw_at lw_m5 197 rfl) rfl
theorem q1222 : (Jvm.Cond.fieldLink "FormulaVoiceModel" (76 : Nat) "FormulaVoiceModel" "path" "[I") ∈ lw_all := lw_g (lw_at lw_m5 198 rfl) rfl
theorem q1223 : (Jvm.Cond.fieldLink "FormulaVoiceModel" (79 : Nat) "FormulaVoiceModel" "step" "[I") ∈ lw_all := lw_g (lw_at lw_m5 199 rfl) rfl
theorem q1224 : (Jvm.Cond.fieldLink "FormulaVoiceModel" (267 : Nat) "FormulaVoiceModel" "deep" "I") ∈ lw_all := lw_g (lw_at lw_m5 200 rfl) rfl
theorem q1225 : (Jvm.Cond.fieldLink "FormulaVoiceModel" (292 : Nat) "FormulaVoiceModel" "kindsMany" "I") ∈ lw_all := lw_g (lw_at lw_m5 201 rfl) rfl
theorem q1226 : (Jvm.Cond.lays "FormulaVoiceModel" "FormulaVoiceModel" "nodes" "I") ∈ lw_all := lw_g (lw_at lw_m5 202 rfl) rfl
theorem q1227 : (Jvm.Cond.soleField "FormulaVoiceModel" "nodes") ∈ lw_all := lw_g (lw_at lw_m5 203 rfl) rfl
theorem q1228 : (Jvm.Cond.laysFinal "FormulaVoiceModel" "FormulaVoiceModel" "kind" "[I") ∈ lw_all := lw_g (lw_at lw_m5 204 rfl) rfl
theorem q1229 : (Jvm.Cond.soleField "FormulaVoiceModel" "kind") ∈ lw_all := lw_g (lw_at lw_m5 205 rfl) rfl
theorem q1230 : (Jvm.Cond.laysFinal "FormulaVoiceModel" "FormulaVoiceModel" "value" "[I") ∈ lw_all := lw_g (lw_at lw_m5 206 rfl) rfl
theorem q1231 : (Jvm.Cond.soleField "FormulaVoiceModel" "value") ∈ lw_all := lw_g (lw_at lw_m5 207 rfl) rfl
theorem q1232 : (Jvm.Cond.laysFinal "FormulaVoiceModel" "FormulaVoiceModel" "first" "[I") ∈ lw_all := lw_g (lw_at lw_m5 208 rfl) rfl
theorem q1233 : (Jvm.Cond.soleField "FormulaVoiceModel" "first") ∈ lw_all := lw_g (lw_at lw_m5 209 rfl) rfl
theorem q1234 : (Jvm.Cond.laysFinal "FormulaVoiceModel" "FormulaVoiceModel" "second" "[I") ∈ lw_all := lw_g (lw_at lw_m5 210 rfl) rfl
theorem q1235 : (Jvm.Cond.soleField "FormulaVoiceModel" "second") ∈ lw_all := lw_g (lw_at lw_m5 211 rfl) rfl
theorem q1236 : (Jvm.Cond.laysFinal "FormulaVoiceModel" "FormulaVoiceModel" "size" "[I") ∈ lw_all := lw_g (lw_at lw_m5 212 rfl) rfl
theorem q1237 : (Jvm.Cond.soleField "FormulaVoiceModel" "size") ∈ lw_all := lw_g (lw_at lw_m5 213 rfl) rfl
theorem q1238 : (Jvm.Cond.laysFinal "FormulaVoiceModel" "FormulaVoiceModel" "depth" "[I") ∈ lw_all := lw_g (lw_at lw_m5 214 rfl) rfl
theorem q1239 : (Jvm.Cond.soleField "FormulaVoiceModel" "depth") ∈ lw_all := lw_g (lw_at lw_m5 215 rfl) rfl
theorem q1240 : (Jvm.Cond.laysFinal "FormulaVoiceModel" "FormulaVoiceModel" "isFunction" "[Z") ∈ lw_all := lw_g (lw_at lw_m5 216 rfl) rfl
theorem q1241 : (Jvm.Cond.soleField "FormulaVoiceModel" "isFunction") ∈ lw_all := lw_g (lw_at lw_m5 217 rfl) rfl
theorem q1242 : (Jvm.Cond.laysFinal "FormulaVoiceModel" "FormulaVoiceModel" "isKept" "[Z") ∈ lw_all := lw_g (lw_at lw_m5 218 rfl) rfl
theorem q1243 : (Jvm.Cond.soleField "FormulaVoiceModel" "isKept") ∈ lw_all := lw_g (lw_at lw_m5 219 rfl) rfl
theorem q1244 : (Jvm.Cond.laysFinal "FormulaVoiceModel" "FormulaVoiceModel" "ear" "[I") ∈ lw_all := lw_g (lw_at lw_m5 220 rfl) rfl
theorem q1245 : (Jvm.Cond.soleField "FormulaVoiceModel" "ear") ∈ lw_all := lw_g (lw_at lw_m5 221 rfl) rfl
theorem q1246 : (Jvm.Cond.lays "FormulaVoiceModel" "FormulaVoiceModel" "heard" "I") ∈ lw_all := lw_g (lw_at lw_m5 222 rfl) rfl
theorem q1247 : (Jvm.Cond.soleField "FormulaVoiceModel" "heard") ∈ lw_all := lw_g (lw_at lw_m5 223 rfl) rfl
theorem q1248 : (Jvm.Cond.laysFinal "FormulaVoiceModel" "FormulaVoiceModel" "shelf" "[I") ∈ lw_all := lw_g (lw_at lw_m5 224 rfl) rfl
theorem q1249 : (Jvm.Cond.soleField "FormulaVoiceModel" "shelf") ∈ lw_all := lw_g (lw_at lw_m5 225 rfl) rfl
theorem q1250 : (Jvm.Cond.laysFinal "FormulaVoiceModel" "FormulaVoiceModel" "shelfKind" "[I") ∈ lw_all := lw_g (lw_at lw_m5 226 rfl) rfl
theorem q1251 : (Jvm.Cond.soleField "FormulaVoiceModel" "shelfKind") ∈ lw_all := lw_g (lw_at lw_m5 227 rfl) rfl
theorem q1252 : (Jvm.Cond.laysFinal "FormulaVoiceModel" "FormulaVoiceModel" "shelfValue" "[I") ∈ lw_all := lw_g (lw_at lw_m5 228 rfl) rfl
theorem q1253 : (Jvm.Cond.soleField "FormulaVoiceModel" "shelfValue") ∈ lw_all := lw_g (lw_at lw_m5 229 rfl) rfl
theorem q1254 : (Jvm.Cond.laysFinal "FormulaVoiceModel" "FormulaVoiceModel" "shelfSize" "[I") ∈ lw_all := lw_g (lw_at lw_m5 230 rfl) rfl
theorem q1255 : (Jvm.Cond.soleField "FormulaVoiceModel" "shelfSize") ∈ lw_all := lw_g (lw_at lw_m5 231 rfl) rfl
theorem q1256 : (Jvm.Cond.laysFinal "FormulaVoiceModel" "FormulaVoiceModel" "rows" "[I") ∈ lw_all := lw_g (lw_at lw_m5 232 rfl) rfl
theorem q1257 : (Jvm.Cond.soleField "FormulaVoiceModel" "rows") ∈ lw_all := lw_g (lw_at lw_m5 233 rfl) rfl
theorem q1258 : (Jvm.Cond.lays "FormulaVoiceModel" "FormulaVoiceModel" "thrown" "I") ∈ lw_all := lw_g (lw_at lw_m5 234 rfl) rfl
theorem q1259 : (Jvm.Cond.soleField "FormulaVoiceModel" "thrown") ∈ lw_all := lw_g (lw_at lw_m5 235 rfl) rfl
theorem q1260 : (Jvm.Cond.laysFinal "FormulaVoiceModel" "FormulaVoiceModel" "said" "[I") ∈ lw_all := lw_g (lw_at lw_m5 236 rfl) rfl
theorem q1261 : (Jvm.Cond.soleField "FormulaVoiceModel" "said") ∈ lw_all := lw_g (lw_at lw_m5 237 rfl) rfl
theorem q1262 : (Jvm.Cond.lays "FormulaVoiceModel" "FormulaVoiceModel" "saidMany" "I") ∈ lw_all := lw_g (lw_at lw_m5 238 rfl) rfl
theorem q1263 : (Jvm.Cond.soleField "FormulaVoiceModel" "saidMany") ∈ lw_all := lw_g (lw_at lw_m5 239 rfl) rfl
theorem q1264 : (Jvm.Cond.lays "FormulaVoiceModel" "FormulaVoiceModel" "mask" "I") ∈ lw_all := lw_g (lw_at lw_m6 0 rfl) rfl
theorem q1265 : (Jvm.Cond.soleField "FormulaVoiceModel" "mask") ∈ lw_all := lw_g (lw_at lw_m6 1 rfl) rfl
theorem q1266 : (Jvm.Cond.lays "FormulaVoiceModel" "FormulaVoiceModel" "masked" "I") ∈ lw_all := lw_g (lw_at lw_m6 2 rfl) rfl
theorem q1267 : (Jvm.Cond.soleField "FormulaVoiceModel" "masked") ∈ lw_all := lw_g (lw_at lw_m6 3 rfl) rfl
theorem q1268 : (Jvm.Cond.lays "FormulaVoiceModel" "FormulaVoiceModel" "maskMany" "I") ∈ lw_all := lw_g (lw_at lw_m6 4 rfl) rfl
theorem q1269 : (Jvm.Cond.soleField "FormulaVoiceModel" "maskMany") ∈ lw_all := lw_g (lw_at lw_m6 5 rfl) rfl
theorem q1270 : (Jvm.Cond.laysFinal "FormulaVoiceModel" "FormulaVoiceModel" "kept" "[I") ∈ lw_all := lw_g (lw_at lw_m6 6 rfl) rfl
theorem q1271 : (Jvm.Cond.soleField "FormulaVoiceModel" "kept") ∈ lw_all := lw_g (lw_at lw_m6 7 rfl) rfl
theorem q1272 : (Jvm.Cond.lays "FormulaVoiceModel" "FormulaVoiceModel" "small" "I") ∈ lw_all := lw_g (lw_at lw_m6 8 rfl) rfl
theorem q1273 : (Jvm.Cond.soleField "FormulaVoiceModel" "small") ∈ lw_all := lw_g (lw_at lw_m6 9 rfl) rfl
theorem q1274 : (Jvm.Cond.laysFinal "FormulaVoiceModel" "FormulaVoiceModel" "smallWords" "[I") ∈ lw_all := lw_g (lw_at lw_m6 10 rfl) rfl
theorem q1275 : (Jvm.Cond.soleField "FormulaVoiceModel" "smallWords") ∈ lw_all := lw_g (lw_at lw_m6 11 rfl) rfl
theorem q1276 : (Jvm.Cond.laysFinal "FormulaVoiceModel" "FormulaVoiceModel" "smallMany" "[I") ∈ lw_all := lw_g (lw_at lw_m6 12 rfl) rfl
theorem q1277 : (Jvm.Cond.soleField "FormulaVoiceModel" "smallMany") ∈ lw_all := lw_g (lw_at lw_m6 13 rfl) rfl
theorem q1278 : (Jvm.Cond.laysFinal "FormulaVoiceModel" "FormulaVoiceModel" "many" "[J") ∈ lw_all := lw_g (lw_at lw_m6 14 rfl) rfl
theorem q1279 : (Jvm.Cond.soleField "FormulaVoiceModel" "many") ∈ lw_all := lw_g (lw_at lw_m6 15 rfl) rfl
theorem q1280 : (Jvm.Cond.laysFinal "FormulaVoiceModel" "FormulaVoiceModel" "all" "[J") ∈ lw_all := lw_g (lw_at lw_m6 16 rfl) rfl
theorem q1281 : (Jvm.Cond.soleField "FormulaVoiceModel" "all") ∈ lw_all := lw_g (lw_at lw_m6 17 rfl) rfl
theorem q1282 : (Jvm.Cond.lays "FormulaVoiceModel" "FormulaVoiceModel" "style" "I") ∈ lw_all := lw_g (lw_at lw_m6 18 rfl) rfl
theorem q1283 : (Jvm.Cond.soleField "FormulaVoiceModel" "style") ∈ lw_all := lw_g (lw_at lw_m6 19 rfl) rfl
theorem q1284 : (Jvm.Cond.lays "FormulaVoiceModel" "FormulaVoiceModel" "made" "I") ∈ lw_all := lw_g (lw_at lw_m6 20 rfl) rfl
theorem q1285 : (Jvm.Cond.soleField "FormulaVoiceModel" "made") ∈ lw_all := lw_g (lw_at lw_m6 21 rfl) rfl
theorem q1286 : (Jvm.Cond.lays "FormulaVoiceModel" "FormulaVoiceModel" "isWalk" "Z") ∈ lw_all := lw_g (lw_at lw_m6 22 rfl) rfl
theorem q1287 : (Jvm.Cond.soleField "FormulaVoiceModel" "isWalk") ∈ lw_all := lw_g (lw_at lw_m6 23 rfl) rfl
theorem q1288 : (Jvm.Cond.laysFinal "FormulaVoiceModel" "FormulaVoiceModel" "path" "[I") ∈ lw_all := lw_g (lw_at lw_m6 24 rfl) rfl
theorem q1289 : (Jvm.Cond.soleField "FormulaVoiceModel" "path") ∈ lw_all := lw_g (lw_at lw_m6 25 rfl) rfl
theorem q1290 : (Jvm.Cond.laysFinal "FormulaVoiceModel" "FormulaVoiceModel" "step" "[I") ∈ lw_all := lw_g (lw_at lw_m6 26 rfl) rfl
theorem q1291 : (Jvm.Cond.soleField "FormulaVoiceModel" "step") ∈ lw_all := lw_g (lw_at lw_m6 27 rfl) rfl
theorem q1292 : (Jvm.Cond.lays "FormulaVoiceModel" "FormulaVoiceModel" "deep" "I") ∈ lw_all := lw_g (lw_at lw_m6 28 rfl) rfl
theorem q1293 : (Jvm.Cond.soleField "FormulaVoiceModel" "deep") ∈ lw_all := lw_g (lw_at lw_m6 29 rfl) rfl
theorem q1294 : (Jvm.Cond.lays "FormulaVoiceModel" "FormulaVoiceModel" "kindsMany" "I") ∈ lw_all := lw_g (lw_at lw_m6 30 rfl) rfl
theorem q1295 : (Jvm.Cond.soleField "FormulaVoiceModel" "kindsMany") ∈ lw_all := lw_g (lw_at lw_m6 31 rfl) rfl
theorem q1296 : (Jvm.Cond.superclass "FormulaVoiceModel" "java/lang/Object") ∈ lw_all := lw_g (lw_at lw_m6 32 rfl) rfl
theorem q1298 : (Jvm.Cond.instanceMethod ({ cls := "FormulaVoiceModel", name := "thrown", desc := "()I" } : Jvm.MethodName)) ∈ lw_all := lw_g (lw_at lw_m6 34 rfl) rfl
theorem q1299 : (Jvm.Cond.selects "FormulaVoiceModel" ({ cls := "FormulaVoiceModel", name := "thrown", desc := "()I" } : Jvm.MethodName) ({ cls := "FormulaVoiceModel", name := "thrown", desc := "()I" } : Jvm.MethodName)) ∈ lw_all := lw_g (lw_at lw_m6 35 rfl) rfl
theorem q1300 : (Jvm.Cond.code ({ cls := "FormulaVoiceModel", name := "thrown", desc := "()I" } : Jvm.MethodName) prog_16_method_2_code (1 : Nat) (Option.some Jvm.ClassFile.FieldType.int)) ∈ lw_all := lw_g (lw_at lw_m6 36 rfl) rfl
theorem q1302 : (Jvm.Cond.instanceMethod ({ cls := "FormulaVoiceModel", name := "leaf", desc := "(II)I" } : Jvm.MethodName)) ∈ lw_all := lw_g (lw_at lw_m6 38 rfl) rfl
theorem q1303 : (Jvm.Cond.selects "FormulaVoiceModel" ({ cls := "FormulaVoiceModel", name := "leaf", desc := "(II)I" } : Jvm.MethodName) ({ cls := "FormulaVoiceModel", name := "leaf", desc := "(II)I" } : Jvm.MethodName)) ∈ lw_all := lw_g (lw_at lw_m6 39 rfl) rfl
theorem q1304 : (Jvm.Cond.code ({ cls := "FormulaVoiceModel", name := "leaf", desc := "(II)I" } : Jvm.MethodName) prog_16_method_9_code (3 : Nat) (Option.some Jvm.ClassFile.FieldType.int)) ∈ lw_all := lw_g (lw_at lw_m6 40 rfl) rfl
theorem q1305 : (Jvm.Cond.methodLink "FormulaVoiceModel" (88 : Nat) ({ cls := "FormulaVoiceModel", name := "in", desc := "(JJJ)Z" } : Jvm.MethodName)) ∈ lw_all := lw_g (lw_at lw_m6 41 rfl) rfl
theorem q1306 : (Jvm.Cond.static ({ cls := "FormulaVoiceModel", name := "in", desc := "(JJJ)Z" } : Jvm.MethodName)) ∈ lw_all := lw_g (lw_at lw_m6 42 rfl) rfl
theorem q1307 : (Jvm.Cond.code ({ cls := "FormulaVoiceModel", name := "in", desc := "(JJJ)Z" } : Jvm.MethodName) prog_16_method_3_code (6 : Nat) (Option.some Jvm.ClassFile.FieldType.boolean)) ∈ lw_all := lw_g (lw_at lw_m6 43 rfl) rfl
theorem q1308 : (Jvm.Cond.constantLong "FormulaVoiceModel" (94 : Nat) (9 : Int64)) ∈ lw_all := lw_g (lw_at lw_m6 44 rfl) rfl
theorem q1309 : (Jvm.Cond.constantLong "FormulaVoiceModel" (96 : Nat) (9999 : Int64)) ∈ lw_all := lw_g (lw_at lw_m6 45 rfl) rfl
theorem q1310 : (Jvm.Cond.methodLink "FormulaVoiceModel" (98 : Nat) ({ cls := "FormulaVoiceModel", name := "sets", desc := "(IIIII)V" } : Jvm.MethodName)) ∈ lw_all := lw_g (lw_at lw_m6 46 rfl) rfl
theorem q1311 : (Jvm.Cond.privateMethod ({ cls := "FormulaVoiceModel", name := "sets", desc := "(IIIII)V" } : Jvm.MethodName)) ∈ lw_tbl := lw_at lw_m6 47 rfl
theorem q1312 : (Jvm.Cond.instanceMethod ({ cls := "FormulaVoiceModel", name := "sets", desc := "(IIIII)V" } : Jvm.MethodName)) ∈ lw_all := lw_g (lw_at lw_m6 48 rfl) rfl
theorem q1313 : (Jvm.Cond.code ({ cls := "FormulaVoiceModel", name := "sets", desc := "(IIIII)V" } : Jvm.MethodName) prog_16_method_8_code (8 : Nat) (Option.none : Option Jvm.ClassFile.FieldType)) ∈ lw_all := lw_g (lw_at lw_m6 49 rfl) rfl
theorem q1315 : (Jvm.Cond.instanceMethod ({ cls := "FormulaVoiceModel", name := "node", desc := "(III)I" } : Jvm.MethodName)) ∈ lw_all := lw_g (lw_at lw_m6 51 rfl) rfl
theorem q1316 : (Jvm.Cond.selects "FormulaVoiceModel" ({ cls := "FormulaVoiceModel", name := "node", desc := "(III)I" } : Jvm.MethodName) ({ cls := "FormulaVoiceModel", name := "node", desc := "(III)I" } : Jvm.MethodName)) ∈ lw_all := lw_g (lw_at lw_m6 52 rfl) rfl
theorem q1317 : (Jvm.Cond.code ({ cls := "FormulaVoiceModel", name := "node", desc := "(III)I" } : Jvm.MethodName) prog_16_method_10_code (5 : Nat) (Option.some Jvm.ClassFile.FieldType.int)) ∈ lw_all := lw_g (lw_at lw_m6 53 rfl) rfl
theorem q1318 : (Jvm.Cond.constantLong "FormulaVoiceModel" (102 : Nat) (2 : Int64)) ∈ lw_all := lw_g (lw_at lw_m6 54 rfl) rfl
theorem q1319 : (Jvm.Cond.methodLink "FormulaVoiceModel" (104 : Nat) ({ cls := "FormulaVoiceModel", name := "isNode", desc := "(I)Z" } : Jvm.MethodName)) ∈ lw_all := lw_g (lw_at lw_m6 55 rfl) rfl
theorem q1320 : (Jvm.Cond.privateMethod ({ cls := "FormulaVoiceModel", name := "isNode", desc := "(I)Z" } : Jvm.MethodName)) ∈ lw_tbl := lw_at lw_m6 56 rfl
theorem q1321 : (Jvm.Cond.instanceMethod ({ cls := "FormulaVoiceModel", name := "isNode", desc := "(I)Z" } : Jvm.MethodName)) ∈ lw_all := lw_g (lw_at lw_m6 57 rfl) rfl
theorem q1322 : (Jvm.Cond.code ({ cls := "FormulaVoiceModel", name := "isNode", desc := "(I)Z" } : Jvm.MethodName) prog_16_method_4_code (2 : Nat) (Option.some Jvm.ClassFile.FieldType.boolean)) ∈ lw_all := lw_g (lw_at lw_m6 58 rfl) rfl
theorem q1323 : (Jvm.Cond.methodLink "FormulaVoiceModel" (108 : Nat) ({ cls := "FormulaVoiceModel", name := "isTwo", desc := "(I)Z" } : Jvm.MethodName)) ∈ lw_all := lw_g (lw_at lw_m6 59 rfl) rfl
theorem q1324 : (Jvm.Cond.static ({ cls := "FormulaVoiceModel", name := "isTwo", desc := "(I)Z" } : Jvm.MethodName)) ∈ lw_all := lw_g (lw_at lw_m6 60 rfl) rfl
theorem q1325 : (Jvm.Cond.code ({ cls := "FormulaVoiceModel", name := "isTwo", desc := "(I)Z" } : Jvm.MethodName) prog_16_method_5_code (1 : Nat) (Option.some Jvm.ClassFile.FieldType.boolean)) ∈ lw_all := lw_g (lw_at lw_m6 61 rfl) rfl
theorem q1327 : (Jvm.Cond.instanceMethod ({ cls := "FormulaVoiceModel", name := "undo", desc := "()I" } : Jvm.MethodName)) ∈ lw_all := lw_g (lw_at lw_m6 63 rfl) rfl
theorem q1328 : (Jvm.Cond.selects "FormulaVoiceModel" ({ cls := "FormulaVoiceModel", name := "undo", desc := "()I" } : Jvm.MethodName) ({ cls := "FormulaVoiceModel", name := "undo", desc := "()I" } : Jvm.MethodName)) ∈ lw_all := lw_g (lw_at lw_m6 64 rfl) rfl
theorem q1329 : (Jvm.Cond.code ({ cls := "FormulaVoiceModel", name := "undo", desc := "()I" } : Jvm.MethodName) prog_16_method_11_code (1 : Nat) (Option.some Jvm.ClassFile.FieldType.int)) ∈ lw_all := lw_g (lw_at lw_m6 65 rfl) rfl
theorem q1331 : (Jvm.Cond.instanceMethod ({ cls := "FormulaVoiceModel", name := "means", desc := "(IZ)I" } : Jvm.MethodName)) ∈ lw_all := lw_g (lw_at lw_m6 67 rfl) rfl
theorem q1332 : (Jvm.Cond.selects "FormulaVoiceModel" ({ cls := "FormulaVoiceModel", name := "means", desc := "(IZ)I" } : Jvm.MethodName) ({ cls := "FormulaVoiceModel", name := "means", desc := "(IZ)I" } : Jvm.MethodName)) ∈ lw_all := lw_g (lw_at lw_m6 68 rfl) rfl
theorem q1333 : (Jvm.Cond.code ({ cls := "FormulaVoiceModel", name := "means", desc := "(IZ)I" } : Jvm.MethodName) prog_16_method_12_code (4 : Nat) (Option.some Jvm.ClassFile.FieldType.int)) ∈ lw_all := lw_g (lw_at lw_m6 69 rfl) rfl
theorem q1335 : (Jvm.Cond.instanceMethod ({ cls := "FormulaVoiceModel", name := "look", desc := "(II)I" } : Jvm.MethodName)) ∈ lw_all := lw_g (lw_at lw_m6 71 rfl) rfl
theorem q1336 : (Jvm.Cond.selects "FormulaVoiceModel" ({ cls := "FormulaVoiceModel", name := "look", desc := "(II)I" } : Jvm.MethodName) ({ cls := "FormulaVoiceModel", name := "look", desc := "(II)I" } : Jvm.MethodName)) ∈ lw_all := lw_g (lw_at lw_m6 72 rfl) rfl
theorem q1337 : (Jvm.Cond.code ({ cls := "FormulaVoiceModel", name := "look", desc := "(II)I" } : Jvm.MethodName) prog_16_method_14_code (3 : Nat) (Option.some Jvm.ClassFile.FieldType.int)) ∈ lw_all := lw_g (lw_at lw_m6 73 rfl) rfl
theorem q1338 : (Jvm.Cond.constantLong "FormulaVoiceModel" (118 : Nat) (6 : Int64)) ∈ lw_all := lw_g (lw_at lw_m6 74 rfl) rfl
theorem q1339 : (Jvm.Cond.methodLink "FormulaVoiceModel" (115 : Nat) ({ cls := "FormulaVoiceModel", name := "isRight", desc := "(I)Z" } : Jvm.MethodName)) ∈ lw_all := lw_g (lw_at lw_m6 75 rfl) rfl
theorem q1340 : (Jvm.Cond.privateMethod ({ cls := "FormulaVoiceModel", name := "isRight", desc := "(I)Z" } : Jvm.MethodName)) ∈ lw_tbl := lw_at lw_m6 76 rfl
theorem q1341 : (Jvm.Cond.instanceMethod ({ cls := "FormulaVoiceModel", name := "isRight", desc := "(I)Z" } : Jvm.MethodName)) ∈ lw_all := lw_g (lw_at lw_m6 77 rfl) rfl
theorem q1342 : (Jvm.Cond.code ({ cls := "FormulaVoiceModel", name := "isRight", desc := "(I)Z" } : Jvm.MethodName) prog_16_method_13_code (3 : Nat) (Option.some Jvm.ClassFile.FieldType.boolean)) ∈ lw_all := lw_g (lw_at lw_m6 78 rfl) rfl
theorem q1344 : (Jvm.Cond.instanceMethod ({ cls := "FormulaVoiceModel", name := "alike", desc := "(II)I" } : Jvm.MethodName)) ∈ lw_all := lw_g (lw_at lw_m6 80 rfl) rfl
theorem q1345 : (Jvm.Cond.selects "FormulaVoiceModel" ({ cls := "FormulaVoiceModel", name := "alike", desc := "(II)I" } : Jvm.MethodName) ({ cls := "FormulaVoiceModel", name := "alike", desc := "(II)I" } : Jvm.MethodName)) ∈ lw_all := lw_g (lw_at lw_m6 81 rfl) rfl
theorem q1346 : (Jvm.Cond.code ({ cls := "FormulaVoiceModel", name := "alike", desc := "(II)I" } : Jvm.MethodName) prog_16_method_16_code (3 : Nat) (Option.some Jvm.ClassFile.FieldType.int)) ∈ lw_all := lw_g (lw_at lw_m6 82 rfl) rfl
theorem q1347 : (Jvm.Cond.methodLink "FormulaVoiceModel" (120 : Nat) ({ cls := "FormulaVoiceModel", name := "areAlike", desc := "(II)Z" } : Jvm.MethodName)) ∈ lw_all := lw_g (lw_at lw_m6 83 rfl) rfl
theorem q1348 : (Jvm.Cond.privateMethod ({ cls := "FormulaVoiceModel", name := "areAlike", desc := "(II)Z" } : Jvm.MethodName)) ∈ lw_tbl := lw_at lw_m6 84 rfl
theorem q1349 : (Jvm.Cond.instanceMethod ({ cls := "FormulaVoiceModel", name := "areAlike", desc := "(II)Z" } : Jvm.MethodName)) ∈ lw_all := lw_g (lw_at lw_m6 85 rfl) rfl
theorem q1350 : (Jvm.Cond.code ({ cls := "FormulaVoiceModel", name := "areAlike", desc := "(II)Z" } : Jvm.MethodName) prog_16_method_15_code (3 : Nat) (Option.some Jvm.ClassFile.FieldType.boolean)) ∈ lw_all := lw_g (lw_at lw_m6 86 rfl) rfl
theorem q1352 : (Jvm.Cond.instanceMethod ({ cls := "FormulaVoiceModel", name := "times", desc := "(II)I" } : Jvm.MethodName)) ∈ lw_all := lw_g (lw_at lw_m6 88 rfl) rfl
theorem q1353 : (Jvm.Cond.selects "FormulaVoiceModel" ({ cls := "FormulaVoiceModel", name := "times", desc := "(II)I" } : Jvm.MethodName) ({ cls := "FormulaVoiceModel", name := "times", desc := "(II)I" } : Jvm.MethodName)) ∈ lw_all := lw_g (lw_at lw_m6 89 rfl) rfl
theorem q1354 : (Jvm.Cond.code ({ cls := "FormulaVoiceModel", name := "times", desc := "(II)I" } : Jvm.MethodName) prog_16_method_18_code (3 : Nat) (Option.some Jvm.ClassFile.FieldType.int)) ∈ lw_all := lw_g (lw_at lw_m6 90 rfl) rfl
theorem q1355 : (Jvm.Cond.methodLink "FormulaVoiceModel" (124 : Nat) ({ cls := "FormulaVoiceModel", name := "has", desc := "(II)I" } : Jvm.MethodName)) ∈ lw_all := lw_g (lw_at lw_m6 91 rfl) rfl
theorem q1356 : (Jvm.Cond.privateMethod ({ cls := "FormulaVoiceModel", name := "has", desc := "(II)I" } : Jvm.MethodName)) ∈ lw_tbl := lw_at lw_m6 92 rfl
theorem q1357 : (Jvm.Cond.instanceMethod ({ cls := "FormulaVoiceModel", name := "has", desc := "(II)I" } : Jvm.MethodName)) ∈ lw_all := lw_g (lw_at lw_m6 93 rfl) rfl
theorem q1358 : (Jvm.Cond.code ({ cls := "FormulaVoiceModel", name := "has", desc := "(II)I" } : Jvm.MethodName) prog_16_method_17_code (3 : Nat) (Option.some Jvm.ClassFile.FieldType.int)) ∈ lw_all := lw_g (lw_at lw_m6 94 rfl) rfl
theorem q1360 : (Jvm.Cond.instanceMethod ({ cls := "FormulaVoiceModel", name := "keeps", desc := "(IIZ)I" } : Jvm.MethodName)) ∈ lw_all := lw_g (lw_at lw_m6 96 rfl) rfl
theorem q1361 : (Jvm.Cond.selects "FormulaVoiceModel" ({ cls := "FormulaVoiceModel", name := "keeps", desc := "(IIZ)I" } : Jvm.MethodName) ({ cls := "FormulaVoiceModel", name := "keeps", desc := "(IIZ)I" } : Jvm.MethodName)) ∈ lw_all := lw_g (lw_at lw_m6 97 rfl) rfl
theorem q1362 : (Jvm.Cond.code ({ cls := "FormulaVoiceModel", name := "keeps", desc := "(IIZ)I" } : Jvm.MethodName) prog_16_method_19_code (5 : Nat) (Option.some Jvm.ClassFile.FieldType.int)) ∈ lw_all := lw_g (lw_at lw_m6 98 rfl) rfl
theorem q1363 : (Jvm.Cond.methodLink "FormulaVoiceModel" (128 : Nat) ({ cls := "FormulaVoiceModel", name := "isStyle", desc := "(I)Z" } : Jvm.MethodName)) ∈ lw_all := lw_g (lw_at lw_m6 99 rfl) rfl
theorem q1364 : (Jvm.Cond.static ({ cls := "FormulaVoiceModel", name := "isStyle", desc := "(I)Z" } : Jvm.MethodName)) ∈ lw_all := lw_g (lw_at lw_m6 100 rfl) rfl
theorem q1365 : (Jvm.Cond.code ({ cls := "FormulaVoiceModel", name := "isStyle", desc := "(I)Z" } : Jvm.MethodName) prog_16_method_7_code (1 : Nat) (Option.some Jvm.ClassFile.FieldType.boolean)) ∈ lw_all := lw_g (lw_at lw_m6 101 rfl) rfl
theorem q1366 : (Jvm.Cond.constantLong "FormulaVoiceModel" (92 : Nat) (7 : Int64)) ∈ lw_all := lw_g (lw_at lw_m6 102 rfl) rfl
theorem q1367 : (Jvm.Cond.methodLink "FormulaVoiceModel" (131 : Nat) ({ cls := "FormulaVoiceModel", name := "mayKeep", desc := "(I)Z" } : Jvm.MethodName)) ∈ lw_all := lw_g (lw_at lw_m6 103 rfl) rfl
theorem q1368 : (Jvm.Cond.static ({ cls := "FormulaVoiceModel", name := "mayKeep", desc := "(I)Z" } : Jvm.MethodName)) ∈ lw_all := lw_g (lw_at lw_m6 104 rfl) rfl
theorem q1369 : (Jvm.Cond.code ({ cls := "FormulaVoiceModel", name := "mayKeep", desc := "(I)Z" } : Jvm.MethodName) prog_16_method_6_code (1 : Nat) (Option.some Jvm.ClassFile.FieldType.boolean)) ∈ lw_all := lw_g (lw_at lw_m6 105 rfl) rfl
theorem q1371 : (Jvm.Cond.instanceMethod ({ cls := "FormulaVoiceModel", name := "words", desc := "(II)I" } : Jvm.MethodName)) ∈ lw_all := lw_g (lw_at lw_m6 107 rfl) rfl
theorem q1372 : (Jvm.Cond.selects "FormulaVoiceModel" ({ cls := "FormulaVoiceModel", name := "words", desc := "(II)I" } : Jvm.MethodName) ({ cls := "FormulaVoiceModel", name := "words", desc := "(II)I" } : Jvm.MethodName)) ∈ lw_all := lw_g (lw_at lw_m6 108 rfl) rfl
theorem q1373 : (Jvm.Cond.code ({ cls := "FormulaVoiceModel", name := "words", desc := "(II)I" } : Jvm.MethodName) prog_16_method_27_code (4 : Nat) (Option.some Jvm.ClassFile.FieldType.int)) ∈ lw_all := lw_g (lw_at lw_m6 109 rfl) rfl
theorem q1374 : (Jvm.Cond.methodLink "FormulaVoiceModel" (141 : Nat) ({ cls := "FormulaVoiceModel", name := "length", desc := "(II)I" } : Jvm.MethodName)) ∈ lw_all := lw_g (lw_at lw_m6 110 rfl) rfl
theorem q1375 : (Jvm.Cond.privateMethod ({ cls := "FormulaVoiceModel", name := "length", desc := "(II)I" } : Jvm.MethodName)) ∈ lw_tbl := lw_at lw_m6 111 rfl
theorem q1376 : (Jvm.Cond.instanceMethod ({ cls := "FormulaVoiceModel", name := "length", desc := "(II)I" } : Jvm.MethodName)) ∈ lw_all := lw_g (lw_at lw_m6 112 rfl) rfl
theorem q1377 : (Jvm.Cond.code ({ cls := "FormulaVoiceModel", name := "length", desc := "(II)I" } : Jvm.MethodName) prog_16_method_22_code (3 : Nat) (Option.some Jvm.ClassFile.FieldType.int)) ∈ lw_all := lw_g (lw_at lw_m6 113 rfl) rfl
theorem q1378 : (Jvm.Cond.methodLink "FormulaVoiceModel" (138 : Nat) ({ cls := "FormulaVoiceModel", name := "own", desc := "(I)I" } : Jvm.MethodName)) ∈ lw_all := lw_g (lw_at lw_m6 114 rfl) rfl
theorem q1379 : (Jvm.Cond.privateMethod ({ cls := "FormulaVoiceModel", name := "own", desc := "(I)I" } : Jvm.MethodName)) ∈ lw_tbl := lw_at lw_m6 115 rfl
theorem q1380 : (Jvm.Cond.instanceMethod ({ cls := "FormulaVoiceModel", name := "own", desc := "(I)I" } : Jvm.MethodName)) ∈ lw_all := lw_g (lw_at lw_m6 116 rfl) rfl
theorem q1381 : (Jvm.Cond.code ({ cls := "FormulaVoiceModel", name := "own", desc := "(I)I" } : Jvm.MethodName) prog_16_method_21_code (2 : Nat) (Option.some Jvm.ClassFile.FieldType.int)) ∈ lw_all := lw_g (lw_at lw_m6 117 rfl) rfl
theorem q1382 : (Jvm.Cond.methodLink "FormulaVoiceModel" (134 : Nat) ({ cls := "FormulaVoiceModel", name := "digits", desc := "(I)I" } : Jvm.MethodName)) ∈ lw_all := lw_g (lw_at lw_m6 118 rfl) rfl
theorem q1383 : (Jvm.Cond.static ({ cls := "FormulaVoiceModel", name := "digits", desc := "(I)I" } : Jvm.MethodName)) ∈ lw_all := lw_g (lw_at lw_m6 119 rfl) rfl
theorem q1384 : (Jvm.Cond.code ({ cls := "FormulaVoiceModel", name := "digits", desc := "(I)I" } : Jvm.MethodName) prog_16_method_20_code (1 : Nat) (Option.some Jvm.ClassFile.FieldType.int)) ∈ lw_all := lw_g (lw_at lw_m6 120 rfl) rfl
theorem q1386 : (Jvm.Cond.instanceMethod ({ cls := "FormulaVoiceModel", name := "word", desc := "(III)I" } : Jvm.MethodName)) ∈ lw_all := lw_g (lw_at lw_m6 122 rfl) rfl
theorem q1387 : (Jvm.Cond.selects "FormulaVoiceModel" ({ cls := "FormulaVoiceModel", name := "word", desc := "(III)I" } : Jvm.MethodName) ({ cls := "FormulaVoiceModel", name := "word", desc := "(III)I" } : Jvm.MethodName)) ∈ lw_all := lw_g (lw_at lw_m6 123 rfl) rfl
theorem q1388 : (Jvm.Cond.code ({ cls := "FormulaVoiceModel", name := "word", desc := "(III)I" } : Jvm.MethodName) prog_16_method_28_code (5 : Nat) (Option.some Jvm.ClassFile.FieldType.int)) ∈ lw_all := lw_g (lw_at lw_m6 124 rfl) rfl
theorem q1389 : (Jvm.Cond.methodLink "FormulaVoiceModel" (164 : Nat) ({ cls := "FormulaVoiceModel", name := "sayAll", desc := "(II)V" } : Jvm.MethodName)) ∈ lw_all := lw_g (lw_at lw_m6 125 rfl) rfl
theorem q1390 : (Jvm.Cond.privateMethod ({ cls := "FormulaVoiceModel", name := "sayAll", desc := "(II)V" } : Jvm.MethodName)) ∈ lw_tbl := lw_at lw_m6 126 rfl
theorem q1391 : (Jvm.Cond.instanceMethod ({ cls := "FormulaVoiceModel", name := "sayAll", desc := "(II)V" } : Jvm.MethodName)) ∈ lw_all := lw_g (lw_at lw_m6 127 rfl) rfl
theorem q1392 : (Jvm.Cond.code ({ cls := "FormulaVoiceModel", name := "sayAll", desc := "(II)V" } : Jvm.MethodName) prog_16_method_26_code (3 : Nat) (Option.none : Option Jvm.ClassFile.FieldType)) ∈ lw_all := lw_g (lw_at lw_m6 128 rfl) rfl
theorem q1393 : (Jvm.Cond.methodLink "FormulaVoiceModel" (160 : Nat) ({ cls := "FormulaVoiceModel", name := "say", desc := "(II)V" } : Jvm.MethodName)) ∈ lw_all := lw_g (lw_at lw_m6 129 rfl) rfl
theorem q1394 : (Jvm.Cond.privateMethod ({ cls := "FormulaVoiceModel", name := "say", desc := "(II)V" } : Jvm.MethodName)) ∈ lw_tbl := lw_at lw_m6 130 rfl
theorem q1395 : (Jvm.Cond.instanceMethod ({ cls := "FormulaVoiceModel", name := "say", desc := "(II)V" } : Jvm.MethodName)) ∈ lw_all := lw_g (lw_at lw_m6 131 rfl) rfl
theorem q1396 : (Jvm.Cond.code ({ cls := "FormulaVoiceModel", name := "say", desc := "(II)V" } : Jvm.MethodName) prog_16_method_25_code (6 : Nat) (Option.none : Option Jvm.ClassFile.FieldType)) ∈ lw_all := lw_g (lw_at lw_m6 132 rfl) rfl
theorem q1397 : (Jvm.Cond.methodLink "FormulaVoiceModel" (153 : Nat) ({ cls := "FormulaVoiceModel", name := "keepsIt", desc := "(II)Z" } : Jvm.MethodName)) ∈ lw_all := lw_g (lw_at lw_m6 133 rfl) rfl
theorem q1398 : (Jvm.Cond.privateMethod ({ cls := "FormulaVoiceModel", name := "keepsIt", desc := "(II)Z" } : Jvm.MethodName)) ∈ lw_tbl := lw_at lw_m6 134 rfl
theorem q1399 : (Jvm.Cond.instanceMethod ({ cls := "FormulaVoiceModel", name := "keepsIt", desc := "(II)Z" } : Jvm.MethodName)) ∈ lw_all := lw_g (lw_at lw_m6 135 rfl) rfl
theorem q1400 : (Jvm.Cond.code ({ cls := "FormulaVoiceModel", name := "keepsIt", desc := "(II)Z" } : Jvm.MethodName) prog_16_method_24_code (3 : Nat) (Option.some Jvm.ClassFile.FieldType.boolean)) ∈ lw_all := lw_g (lw_at lw_m6 136 rfl) rfl
theorem q1401 : (Jvm.Cond.methodLink "FormulaVoiceModel" (156 : Nat) ({ cls := "FormulaVoiceModel", name := "says", desc := "(I)V" } : Jvm.MethodName)) ∈ lw_all := lw_g (lw_at lw_m6 137 rfl) rfl
theorem q1402 : (Jvm.Cond.privateMethod ({ cls := "FormulaVoiceModel", name := "says", desc := "(I)V" } : Jvm.MethodName)) ∈ lw_tbl := lw_at lw_m6 138 rfl
theorem q1403 : (Jvm.Cond.instanceMethod ({ cls := "FormulaVoiceModel", name := "says", desc := "(I)V" } : Jvm.MethodName)) ∈ lw_all := lw_g (lw_at lw_m6 139 rfl) rfl
theorem q1404 : (Jvm.Cond.code ({ cls := "FormulaVoiceModel", name := "says", desc := "(I)V" } : Jvm.MethodName) prog_16_method_23_code (2 : Nat) (Option.none : Option Jvm.ClassFile.FieldType)) ∈ lw_all := lw_g (lw_at lw_m6 140 rfl) rfl
theorem q1406 : (Jvm.Cond.instanceMethod ({ cls := "FormulaVoiceModel", name := "sound", desc := "(III)I" } : Jvm.MethodName)) ∈ lw_all := lw_g (lw_at lw_m6 142 rfl) rfl
theorem q1407 : (Jvm.Cond.selects "FormulaVoiceModel" ({ cls := "FormulaVoiceModel", name := "sound", desc := "(III)I" } : Jvm.MethodName) ({ cls := "FormulaVoiceModel", name := "sound", desc := "(III)I" } : Jvm.MethodName)) ∈ lw_all := lw_g (lw_at lw_m6 143 rfl) rfl
theorem q1408 : (Jvm.Cond.code ({ cls := "FormulaVoiceModel", name := "sound", desc := "(III)I" } : Jvm.MethodName) prog_16_method_29_code (8 : Nat) (Option.some Jvm.ClassFile.FieldType.int)) ∈ lw_all := lw_g (lw_at lw_m6 144 rfl) rfl
theorem q1410 : (Jvm.Cond.instanceMethod ({ cls := "FormulaVoiceModel", name := "clear", desc := "(II)I" } : Jvm.MethodName)) ∈ lw_all := lw_g (lw_at lw_m6 146 rfl) rfl
theorem q1411 : (Jvm.Cond.selects "FormulaVoiceModel" ({ cls := "FormulaVoiceModel", name := "clear", desc := "(II)I" } : Jvm.MethodName) ({ cls := "FormulaVoiceModel", name := "clear", desc := "(II)I" } : Jvm.MethodName)) ∈ lw_all := lw_g (lw_at lw_m6 147 rfl) rfl
theorem q1412 : (Jvm.Cond.code ({ cls := "FormulaVoiceModel", name := "clear", desc := "(II)I" } : Jvm.MethodName) prog_16_method_33_code (5 : Nat) (Option.some Jvm.ClassFile.FieldType.int)) ∈ lw_all := lw_g (lw_at lw_m6 148 rfl) rfl
theorem q1413 : (Jvm.Cond.constantLong "FormulaVoiceModel" (174 : Nat) (4 : Int64)) ∈ lw_all := lw_g (lw_at lw_m6 149 rfl) rfl
theorem q1414 : (Jvm.Cond.methodLink "FormulaVoiceModel" (170 : Nat) ({ cls := "FormulaVoiceModel", name := "adds", desc := "(IIII)V" } : Jvm.MethodName)) ∈ lw_all := lw_g (lw_at lw_m6 150 rfl) rfl
theorem q1415 : (Jvm.Cond.privateMethod ({ cls := "FormulaVoiceModel", name := "adds", desc := "(IIII)V" } : Jvm.MethodName)) ∈ lw_tbl := lw_at lw_m6 151 rfl
theorem q1416 : (Jvm.Cond.instanceMethod ({ cls := "FormulaVoiceModel", name := "adds", desc := "(IIII)V" } : Jvm.MethodName)) ∈ lw_all := lw_g (lw_at lw_m6 152 rfl) rfl
theorem q1417 : (Jvm.Cond.code ({ cls := "FormulaVoiceModel", name := "adds", desc := "(IIII)V" } : Jvm.MethodName) prog_16_method_30_code (5 : Nat) (Option.none : Option Jvm.ClassFile.FieldType)) ∈ lw_all := lw_g (lw_at lw_m6 153 rfl) rfl
theorem q1418 : (Jvm.Cond.methodLink "FormulaVoiceModel" (176 : Nat) ({ cls := "FormulaVoiceModel", name := "grows", desc := "(I)V" } : Jvm.MethodName)) ∈ lw_all := lw_g (lw_at lw_m6 154 rfl) rfl
theorem q1419 : (Jvm.Cond.privateMethod ({ cls := "FormulaVoiceModel", name := "grows", desc := "(I)V" } : Jvm.MethodName)) ∈ lw_tbl := lw_at lw_m6 155 rfl
theorem q1420 : (Jvm.Cond.instanceMethod ({ cls := "FormulaVoiceModel", name := "grows", desc := "(I)V" } : Jvm.MethodName)) ∈ lw_all := lw_g (lw_at lw_m6 156 rfl) rfl
theorem q1421 : (Jvm.Cond.code ({ cls := "FormulaVoiceModel", name := "grows", desc := "(I)V" } : Jvm.MethodName) prog_16_method_31_code (6 : Nat) (Option.none : Option Jvm.ClassFile.FieldType)) ∈ lw_all := lw_g (lw_at lw_m6 157 rfl) rfl
theorem q1422 : (Jvm.Cond.methodLink "FormulaVoiceModel" (179 : Nat) ({ cls := "FormulaVoiceModel", name := "isSame", desc := "(II)Z" } : Jvm.MethodName)) ∈ lw_all := lw_g (lw_at lw_m6 158 rfl) rfl
theorem q1423 : (Jvm.Cond.privateMethod ({ cls := "FormulaVoiceModel", name := "isSame", desc := "(II)Z" } : Jvm.MethodName)) ∈ lw_tbl := lw_at lw_m6 159 rfl
theorem q1424 : (Jvm.Cond.instanceMethod ({ cls := "FormulaVoiceModel", name := "isSame", desc := "(II)Z" } : Jvm.MethodName)) ∈ lw_all := lw_g (lw_at lw_m6 160 rfl) rfl
theorem q1425 : (Jvm.Cond.code ({ cls := "FormulaVoiceModel", name := "isSame", desc := "(II)Z" } : Jvm.MethodName) prog_16_method_32_code (5 : Nat) (Option.some Jvm.ClassFile.FieldType.boolean)) ∈ lw_all := lw_g (lw_at lw_m6 161 rfl) rfl
theorem q1427 : (Jvm.Cond.instanceMethod ({ cls := "FormulaVoiceModel", name := "hear", desc := "(II)I" } : Jvm.MethodName)) ∈ lw_all := lw_g (lw_at lw_m6 163 rfl) rfl
theorem q1428 : (Jvm.Cond.selects "FormulaVoiceModel" ({ cls := "FormulaVoiceModel", name := "hear", desc := "(II)I" } : Jvm.MethodName) ({ cls := "FormulaVoiceModel", name := "hear", desc := "(II)I" } : Jvm.MethodName)) ∈ lw_all := lw_g (lw_at lw_m6 164 rfl) rfl
theorem q1429 : (Jvm.Cond.code ({ cls := "FormulaVoiceModel", name := "hear", desc := "(II)I" } : Jvm.MethodName) prog_16_method_34_code (4 : Nat) (Option.some Jvm.ClassFile.FieldType.int)) ∈ lw_all := lw_g (lw_at lw_m6 165 rfl) rfl
theorem q1430 : (Jvm.Cond.constantLong "FormulaVoiceModel" (182 : Nat) (5 : Int64)) ∈ lw_all := lw_g (lw_at lw_m6 166 rfl) rfl
theorem q1432 : (Jvm.Cond.instanceMethod ({ cls := "FormulaVoiceModel", name := "listen", desc := "(II)I" } : Jvm.MethodName)) ∈ lw_all := lw_g (lw_at lw_m6 168 rfl) rfl
theorem q1433 : (Jvm.Cond.selects "FormulaVoiceModel" ({ cls := "FormulaVoiceModel", name := "listen", desc := "(II)I" } : Jvm.MethodName) ({ cls := "FormulaVoiceModel", name := "listen", desc := "(II)I" } : Jvm.MethodName)) ∈ lw_all := lw_g (lw_at lw_m6 169 rfl) rfl
theorem q1434 : (Jvm.Cond.code ({ cls := "FormulaVoiceModel", name := "listen", desc := "(II)I" } : Jvm.MethodName) prog_16_method_35_code (4 : Nat) (Option.some Jvm.ClassFile.FieldType.int)) ∈ lw_all := lw_g (lw_at lw_m6 170 rfl) rfl
theorem q1435 : (Jvm.Cond.methodLink "FormulaVoiceModel" (187 : Nat) ({ cls := "FormulaVoiceModel", name := "hears", desc := "()V" } : Jvm.MethodName)) ∈ lw_all := lw_g (lw_at lw_m6 171 rfl) rfl
theorem q1436 : (Jvm.Cond.privateMethod ({ cls := "FormulaVoiceModel", name := "hears", desc := "()V" } : Jvm.MethodName)) ∈ lw_tbl := lw_at lw_m6 172 rfl
theorem q1437 : (Jvm.Cond.instanceMethod ({ cls := "FormulaVoiceModel", name := "hears", desc := "()V" } : Jvm.MethodName)) ∈ lw_all := lw_g (lw_at lw_m6 173 rfl) rfl
theorem q1438 : (Jvm.Cond.code ({ cls := "FormulaVoiceModel", name := "hears", desc := "()V" } : Jvm.MethodName) prog_16_method_36_code (2 : Nat) (Option.none : Option Jvm.ClassFile.FieldType)) ∈ lw_all := lw_g (lw_at lw_m6 174 rfl) rfl
theorem q1440 : (Jvm.Cond.instanceMethod ({ cls := "FormulaVoiceModel", name := "hush", desc := "()I" } : Jvm.MethodName)) ∈ lw_all := lw_g (lw_at lw_m6 176 rfl) rfl
theorem q1441 : (Jvm.Cond.selects "FormulaVoiceModel" ({ cls := "FormulaVoiceModel", name := "hush", desc := "()I" } : Jvm.MethodName) ({ cls := "FormulaVoiceModel", name := "hush", desc := "()I" } : Jvm.MethodName)) ∈ lw_all := lw_g (lw_at lw_m6 177 rfl) rfl
theorem q1442 : (Jvm.Cond.code ({ cls := "FormulaVoiceModel", name := "hush", desc := "()I" } : Jvm.MethodName) prog_16_method_37_code (2 : Nat) (Option.some Jvm.ClassFile.FieldType.int)) ∈ lw_all := lw_g (lw_at lw_m6 178 rfl) rfl
theorem q1444 : (Jvm.Cond.instanceMethod ({ cls := "FormulaVoiceModel", name := "ear", desc := "(I)I" } : Jvm.MethodName)) ∈ lw_all := lw_g (lw_at lw_m6 180 rfl) rfl
theorem q1445 : (Jvm.Cond.selects "FormulaVoiceModel" ({ cls := "FormulaVoiceModel", name := "ear", desc := "(I)I" } : Jvm.MethodName) ({ cls := "FormulaVoiceModel", name := "ear", desc := "(I)I" } : Jvm.MethodName)) ∈ lw_all := lw_g (lw_at lw_m6 181 rfl) rfl
theorem q1446 : (Jvm.Cond.code ({ cls := "FormulaVoiceModel", name := "ear", desc := "(I)I" } : Jvm.MethodName) prog_16_method_38_code (2 : Nat) (Option.some Jvm.ClassFile.FieldType.int)) ∈ lw_all := lw_g (lw_at lw_m6 182 rfl) rfl
theorem q1448 : (Jvm.Cond.instanceMethod ({ cls := "FormulaVoiceModel", name := "readings", desc := "(I)J" } : Jvm.MethodName)) ∈ lw_all := lw_g (lw_at lw_m6 184 rfl) rfl
theorem q1449 : (Jvm.Cond.selects "FormulaVoiceModel" ({ cls := "FormulaVoiceModel", name := "readings", desc := "(I)J" } : Jvm.MethodName) ({ cls := "FormulaVoiceModel", name := "readings", desc := "(I)J" } : Jvm.MethodName)) ∈ lw_all := lw_g (lw_at lw_m6 185 rfl) rfl
theorem q1450 : (Jvm.Cond.code ({ cls := "FormulaVoiceModel", name := "readings", desc := "(I)J" } : Jvm.MethodName) prog_16_method_46_code (2 : Nat) (Option.some Jvm.ClassFile.FieldType.long)) ∈ lw_all := lw_g (lw_at lw_m6 186 rfl) rfl
theorem q1451 : (Jvm.Cond.constantLong "FormulaVoiceModel" (220 : Nat) (8 : Int64)) ∈ lw_all := lw_g (lw_at lw_m6 187 rfl) rfl
theorem q1452 : (Jvm.Cond.methodLink "FormulaVoiceModel" (222 : Nat) ({ cls := "FormulaVoiceModel", name := "counted", desc := "(I)J" } : Jvm.MethodName)) ∈ lw_all := lw_g (lw_at lw_m6 188 rfl) rfl
theorem q1453 : (Jvm.Cond.privateMethod ({ cls := "FormulaVoiceModel", name := "counted", desc := "(I)J" } : Jvm.MethodName)) ∈ lw_tbl := lw_at lw_m6 189 rfl
theorem q1454 : (Jvm.Cond.instanceMethod ({ cls := "FormulaVoiceModel", name := "counted", desc := "(I)J" } : Jvm.MethodName)) ∈ lw_all := lw_g (lw_at lw_m6 190 rfl) rfl
theorem q1455 : (Jvm.Cond.code ({ cls := "FormulaVoiceModel", name := "counted", desc := "(I)J" } : Jvm.MethodName) prog_16_method_45_code (2 : Nat) (Option.some Jvm.ClassFile.FieldType.long)) ∈ lw_all := lw_g (lw_at lw_m6 191 rfl) rfl
theorem q1456 : (Jvm.Cond.methodLink "FormulaVoiceModel" (217 : Nat) ({ cls := "FormulaVoiceModel", name := "reckons", desc := "(I)V" } : Jvm.MethodName)) ∈ lw_all := lw_g (lw_at lw_m6 192 rfl) rfl
theorem q1457 : (Jvm.Cond.privateMethod ({ cls := "FormulaVoiceModel", name := "reckons", desc := "(I)V" } : Jvm.MethodName)) ∈ lw_tbl := lw_at lw_m6 193 rfl
theorem q1458 : (Jvm.Cond.instanceMethod ({ cls := "FormulaVoiceModel", name := "reckons", desc := "(I)V" } : Jvm.MethodName)) ∈ lw_all := lw_g (lw_at lw_m6 194 rfl) rfl
theorem q1459 : (Jvm.Cond.code ({ cls := "FormulaVoiceModel", name := "reckons", desc := "(I)V" } : Jvm.MethodName) prog_16_method_44_code (12 : Nat) (Option.none : Option Jvm.ClassFile.FieldType)) ∈ lw_all := lw_g (lw_at lw_m6 195 rfl) rfl
theorem q1460 : (Jvm.Cond.methodLink "FormulaVoiceModel" (209 : Nat) ({ cls := "FormulaVoiceModel", name := "isLet", desc := "(IZ)Z" } : Jvm.MethodName)) ∈ lw_all := lw_g (lw_at lw_m6 196 rfl) rfl
theorem q1461 : (Jvm.Cond.privateMethod ({ cls := "FormulaVoiceModel", name := "isLet", desc := "(IZ)Z" } : Jvm.MethodName)) ∈ lw_tbl := lw_at lw_m6 197 rfl
theorem q1462 : (Jvm.Cond.instanceMethod ({ cls := "FormulaVoiceModel", name := "isLet", desc := "(IZ)Z" } : Jvm.MethodName)) ∈ lw_all := lw_g (lw_at lw_m6 198 rfl) rfl
theorem q1463 : (Jvm.Cond.code ({ cls := "FormulaVoiceModel", name := "isLet", desc := "(IZ)Z" } : Jvm.MethodName) prog_16_method_41_code (3 : Nat) (Option.some Jvm.ClassFile.FieldType.boolean)) ∈ lw_all := lw_g (lw_at lw_m6 199 rfl) rfl
theorem q1464 : (Jvm.Cond.methodLink "FormulaVoiceModel" (213 : Nat) ({ cls := "FormulaVoiceModel", name := "within", desc := "(III)J" } : Jvm.MethodName)) ∈ lw_all := lw_g (lw_at lw_m6 200 rfl) rfl
theorem q1465 : (Jvm.Cond.privateMethod ({ cls := "FormulaVoiceModel", name := "within", desc := "(III)J" } : Jvm.MethodName)) ∈ lw_tbl := lw_at lw_m6 201 rfl
theorem q1466 : (Jvm.Cond.instanceMethod ({ cls := "FormulaVoiceModel", name := "within", desc := "(III)J" } : Jvm.MethodName)) ∈ lw_all := lw_g (lw_at lw_m6 202 rfl) rfl
theorem q1467 : (Jvm.Cond.code ({ cls := "FormulaVoiceModel", name := "within", desc := "(III)J" } : Jvm.MethodName) prog_16_method_43_code (7 : Nat) (Option.some Jvm.ClassFile.FieldType.long)) ∈ lw_all := lw_g (lw_at lw_m6 203 rfl) rfl
theorem q1468 : (Jvm.Cond.methodLink "FormulaVoiceModel" (199 : Nat) ({ cls := "FormulaVoiceModel", name := "isNumber", desc := "(II)Z" } : Jvm.MethodName)) ∈ lw_all := lw_g (lw_at lw_m6 204 rfl) rfl
theorem q1469 : (Jvm.Cond.privateMethod ({ cls := "FormulaVoiceModel", name := "isNumber", desc := "(II)Z" } : Jvm.MethodName)) ∈ lw_tbl := lw_at lw_m6 205 rfl
theorem q1470 : (Jvm.Cond.instanceMethod ({ cls := "FormulaVoiceModel", name := "isNumber", desc := "(II)Z" } : Jvm.MethodName)) ∈ lw_all := lw_g (lw_at lw_m6 206 rfl) rfl
theorem q1471 : (Jvm.Cond.code ({ cls := "FormulaVoiceModel", name := "isNumber", desc := "(II)Z" } : Jvm.MethodName) prog_16_method_42_code (5 : Nat) (Option.some Jvm.ClassFile.FieldType.boolean)) ∈ lw_all := lw_g (lw_at lw_m6 207 rfl) rfl
theorem q1472 : (Jvm.Cond.constantLong "FormulaVoiceModel" (195 : Nat) (10 : Int64)) ∈ lw_all := lw_g (lw_at lw_m6 208 rfl) rfl
theorem q1473 : (Jvm.Cond.constantLong "FormulaVoiceModel" (197 : Nat) (19 : Int64)) ∈ lw_all := lw_g (lw_at lw_m6 209 rfl) rfl
theorem q1474 : (Jvm.Cond.methodLink "FormulaVoiceModel" (202 : Nat) ({ cls := "FormulaVoiceModel", name := "times", desc := "(JJ)J" } : Jvm.MethodName)) ∈ lw_all := lw_g (lw_at lw_m6 210 rfl) rfl
theorem q1475 : (Jvm.Cond.static ({ cls := "FormulaVoiceModel", name := "times", desc := "(JJ)J" } : Jvm.MethodName)) ∈ lw_all := lw_g (lw_at lw_m6 211 rfl) rfl
theorem q1476 : (Jvm.Cond.code ({ cls := "FormulaVoiceModel", name := "times", desc := "(JJ)J" } : Jvm.MethodName) prog_16_method_39_code (4 : Nat) (Option.some Jvm.ClassFile.FieldType.long)) ∈ lw_all := lw_g (lw_at lw_m6 212 rfl) rfl
theorem q1477 : (Jvm.Cond.constantLong "FormulaVoiceModel" (190 : Nat) (1000000000000000 : Int64)) ∈ lw_all := lw_g (lw_at lw_m6 213 rfl) rfl
theorem q1478 : (Jvm.Cond.methodLink "FormulaVoiceModel" (206 : Nat) ({ cls := "FormulaVoiceModel", name := "plus", desc := "(JJ)J" } : Jvm.MethodName)) ∈ lw_all := lw_g (lw_at lw_m6 214 rfl) rfl
theorem q1479 : (Jvm.Cond.static ({ cls := "FormulaVoiceModel", name := "plus", desc := "(JJ)J" } : Jvm.MethodName)) ∈ lw_all := lw_g (lw_at lw_m6 215 rfl) rfl
theorem q1480 : (Jvm.Cond.code ({ cls := "FormulaVoiceModel", name := "plus", desc := "(JJ)J" } : Jvm.MethodName) prog_16_method_40_code (4 : Nat) (Option.some Jvm.ClassFile.FieldType.long)) ∈ lw_all := lw_g (lw_at lw_m6 216 rfl) rfl
theorem q1482 : (Jvm.Cond.instanceMethod ({ cls := "FormulaVoiceModel", name := "write", desc := "(IJ)I" } : Jvm.MethodName)) ∈ lw_all := lw_g (lw_at lw_m6 218 rfl) rfl
theorem q1483 : (Jvm.Cond.selects "FormulaVoiceModel" ({ cls := "FormulaVoiceModel", name := "write", desc := "(IJ)I" } : Jvm.MethodName) ({ cls := "FormulaVoiceModel", name := "write", desc := "(IJ)I" } : Jvm.MethodName)) ∈ lw_all := lw_g (lw_at lw_m6 219 rfl) rfl
theorem q1484 : (Jvm.Cond.code ({ cls := "FormulaVoiceModel", name := "write", desc := "(IJ)I" } : Jvm.MethodName) prog_16_method_50_code (5 : Nat) (Option.some Jvm.ClassFile.FieldType.int)) ∈ lw_all := lw_g (lw_at lw_m6 220 rfl) rfl
theorem q1485 : (Jvm.Cond.methodLink "FormulaVoiceModel" (233 : Nat) ({ cls := "FormulaVoiceModel", name := "takes", desc := "(IIJ)I" } : Jvm.MethodName)) ∈ lw_all := lw_g (lw_at lw_m6 221 rfl) rfl
theorem q1486 : (Jvm.Cond.privateMethod ({ cls := "FormulaVoiceModel", name := "takes", desc := "(IIJ)I" } : Jvm.MethodName)) ∈ lw_tbl := lw_at lw_m6 222 rfl
theorem q1487 : (Jvm.Cond.instanceMethod ({ cls := "FormulaVoiceModel", name := "takes", desc := "(IIJ)I" } : Jvm.MethodName)) ∈ lw_all := lw_g (lw_at lw_m6 223 rfl) rfl
theorem q1488 : (Jvm.Cond.code ({ cls := "FormulaVoiceModel", name := "takes", desc := "(IIJ)I" } : Jvm.MethodName) prog_16_method_48_code (12 : Nat) (Option.some Jvm.ClassFile.FieldType.int)) ∈ lw_all := lw_g (lw_at lw_m6 224 rfl) rfl
theorem q1489 : (Jvm.Cond.methodLink "FormulaVoiceModel" (229 : Nat) ({ cls := "FormulaVoiceModel", name := "makes", desc := "(IIII)I" } : Jvm.MethodName)) ∈ lw_all := lw_g (lw_at lw_m6 225 rfl) rfl
theorem q1490 : (Jvm.Cond.privateMethod ({ cls := "FormulaVoiceModel", name := "makes", desc := "(IIII)I" } : Jvm.MethodName)) ∈ lw_tbl := lw_at lw_m6 226 rfl
theorem q1491 : (Jvm.Cond.instanceMethod ({ cls := "FormulaVoiceModel", name := "makes", desc := "(IIII)I" } : Jvm.MethodName)) ∈ lw_all := lw_g (lw_at lw_m6 227 rfl) rfl
theorem q1492 : (Jvm.Cond.code ({ cls := "FormulaVoiceModel", name := "makes", desc := "(IIII)I" } : Jvm.MethodName) prog_16_method_47_code (5 : Nat) (Option.some Jvm.ClassFile.FieldType.int)) ∈ lw_all := lw_g (lw_at lw_m6 228 rfl) rfl
theorem q1493 : (Jvm.Cond.methodLink "FormulaVoiceModel" (237 : Nat) ({ cls := "FormulaVoiceModel", name := "takesTwo", desc := "(IIIJ)I" } : Jvm.MethodName)) ∈ lw_all := lw_g (lw_at lw_m6 229 rfl) rfl
theorem q1494 : (Jvm.Cond.privateMethod ({ cls := "FormulaVoiceModel", name := "takesTwo", desc := "(IIIJ)I" } : Jvm.MethodName)) ∈ lw_tbl := lw_at lw_m6 230 rfl
theorem q1495 : (Jvm.Cond.instanceMethod ({ cls := "FormulaVoiceModel", name := "takesTwo", desc := "(IIIJ)I" } : Jvm.MethodName)) ∈ lw_all := lw_g (lw_at lw_m6 231 rfl) rfl
theorem q1496 : (Jvm.Cond.code ({ cls := "FormulaVoiceModel", name := "takesTwo", desc := "(IIIJ)I" } : Jvm.MethodName) prog_16_method_49_code (12 : Nat) (Option.some Jvm.ClassFile.FieldType.int)) ∈ lw_all := lw_g (lw_at lw_m6 232 rfl) rfl
theorem q1497 : (Jvm.Cond.methodLink "FormulaVoiceModel" (241 : Nat) ({ cls := "FormulaVoiceModel", name := "copies", desc := "(I)I" } : Jvm.MethodName)) ∈ lw_all := lw_g (lw_at lw_m6 233 rfl) rfl
theorem q1498 : (Jvm.Cond.privateMethod ({ cls := "FormulaVoiceModel", name := "copies", desc := "(I)I" } : Jvm.MethodName)) ∈ lw_tbl := lw_at lw_m6 234 rfl
theorem q1499 : (Jvm.Cond.instanceMethod ({ cls := "FormulaVoiceModel", name := "copies", desc := "(I)I" } : Jvm.MethodName)) ∈ lw_all := lw_g (lw_at lw_m6 235 rfl) rfl
theorem q1500 : (Jvm.Cond.code ({ cls := "FormulaVoiceModel", name := "copies", desc := "(I)I" } : Jvm.MethodName) prog_16_method_51_code (4 : Nat) (Option.some Jvm.ClassFile.FieldType.int)) ∈ lw_all := lw_g (lw_at lw_m6 236 rfl) rfl
theorem q1502 : (Jvm.Cond.instanceMethod ({ cls := "FormulaVoiceModel", name := "place", desc := "(II)J" } : Jvm.MethodName)) ∈ lw_all := lw_g (lw_at lw_m6 238 rfl) rfl
theorem q1503 : (Jvm.Cond.selects "FormulaVoiceModel" ({ cls := "FormulaVoiceModel", name := "place", desc := "(II)J" } : Jvm.MethodName) ({ cls := "FormulaVoiceModel", name := "place", desc := "(II)J" } : Jvm.MethodName)) ∈ lw_all := lw_g (lw_at lw_m6 239 rfl) rfl
theorem q1504 : (Jvm.Cond.code ({ cls := "FormulaVoiceModel", name := "place", desc := "(II)J" } : Jvm.MethodName) prog_16_method_55_code (5 : Nat) (Option.some Jvm.ClassFile.FieldType.long)) ∈ lw_all := lw_g (lw_at lw_m7 0 rfl) rfl
theorem q1505 : (Jvm.Cond.constantLong "FormulaVoiceModel" (244 : Nat) (-1 : Int64)) ∈ lw_all := lw_g (lw_at lw_m7 1 rfl) rfl
theorem q1506 : (Jvm.Cond.constantLong "FormulaVoiceModel" (255 : Nat) (-2 : Int64)) ∈ lw_all := lw_g (lw_at lw_m7 2 rfl) rfl
theorem q1507 : (Jvm.Cond.methodLink "FormulaVoiceModel" (252 : Nat) ({ cls := "FormulaVoiceModel", name := "rank", desc := "(III)J" } : Jvm.MethodName)) ∈ lw_all := lw_g (lw_at lw_m7 3 rfl) rfl
theorem q1508 : (Jvm.Cond.privateMethod ({ cls := "FormulaVoiceModel", name := "rank", desc := "(III)J" } : Jvm.MethodName)) ∈ lw_tbl := lw_at lw_m7 4 rfl
theorem q1509 : (Jvm.Cond.instanceMethod ({ cls := "FormulaVoiceModel", name := "rank", desc := "(III)J" } : Jvm.MethodName)) ∈ lw_all := lw_g (lw_at lw_m7 5 rfl) rfl
theorem q1510 : (Jvm.Cond.code ({ cls := "FormulaVoiceModel", name := "rank", desc := "(III)J" } : Jvm.MethodName) prog_16_method_52_code (8 : Nat) (Option.some Jvm.ClassFile.FieldType.long)) ∈ lw_all := lw_g (lw_at lw_m7 6 rfl) rfl
theorem q1511 : (Jvm.Cond.methodLink "FormulaVoiceModel" (246 : Nat) ({ cls := "FormulaVoiceModel", name := "inner", desc := "(III)J" } : Jvm.MethodName)) ∈ lw_all := lw_g (lw_at lw_m7 7 rfl) rfl
theorem q1512 : (Jvm.Cond.privateMethod ({ cls := "FormulaVoiceModel", name := "inner", desc := "(III)J" } : Jvm.MethodName)) ∈ lw_tbl := lw_at lw_m7 8 rfl
theorem q1513 : (Jvm.Cond.instanceMethod ({ cls := "FormulaVoiceModel", name := "inner", desc := "(III)J" } : Jvm.MethodName)) ∈ lw_all := lw_g (lw_at lw_m7 9 rfl) rfl
theorem q1514 : (Jvm.Cond.code ({ cls := "FormulaVoiceModel", name := "inner", desc := "(III)J" } : Jvm.MethodName) prog_16_method_53_code (6 : Nat) (Option.some Jvm.ClassFile.FieldType.long)) ∈ lw_all := lw_g (lw_at lw_m7 10 rfl) rfl
theorem q1515 : (Jvm.Cond.methodLink "FormulaVoiceModel" (249 : Nat) ({ cls := "FormulaVoiceModel", name := "innerTwo", desc := "(III)J" } : Jvm.MethodName)) ∈ lw_all := lw_g (lw_at lw_m7 11 rfl) rfl
theorem q1516 : (Jvm.Cond.privateMethod ({ cls := "FormulaVoiceModel", name := "innerTwo", desc := "(III)J" } : Jvm.MethodName)) ∈ lw_tbl := lw_at lw_m7 12 rfl
theorem q1517 : (Jvm.Cond.instanceMethod ({ cls := "FormulaVoiceModel", name := "innerTwo", desc := "(III)J" } : Jvm.MethodName)) ∈ lw_all := lw_g (lw_at lw_m7 13 rfl) rfl
theorem q1518 : (Jvm.Cond.code ({ cls := "FormulaVoiceModel", name := "innerTwo", desc := "(III)J" } : Jvm.MethodName) prog_16_method_54_code (13 : Nat) (Option.some Jvm.ClassFile.FieldType.long)) ∈ lw_all := lw_g (lw_at lw_m7 14 rfl) rfl
theorem q1520 : (Jvm.Cond.instanceMethod ({ cls := "FormulaVoiceModel", name := "doubt", desc := "(IJJ)I" } : Jvm.MethodName)) ∈ lw_all := lw_g (lw_at lw_m7 16 rfl) rfl
theorem q1521 : (Jvm.Cond.selects "FormulaVoiceModel" ({ cls := "FormulaVoiceModel", name := "doubt", desc := "(IJJ)I" } : Jvm.MethodName) ({ cls := "FormulaVoiceModel", name := "doubt", desc := "(IJJ)I" } : Jvm.MethodName)) ∈ lw_all := lw_g (lw_at lw_m7 17 rfl) rfl
theorem q1522 : (Jvm.Cond.code ({ cls := "FormulaVoiceModel", name := "doubt", desc := "(IJJ)I" } : Jvm.MethodName) prog_16_method_56_code (11 : Nat) (Option.some Jvm.ClassFile.FieldType.int)) ∈ lw_all := lw_g (lw_at lw_m7 18 rfl) rfl
theorem q1524 : (Jvm.Cond.instanceMethod ({ cls := "FormulaVoiceModel", name := "fewest", desc := "(I)I" } : Jvm.MethodName)) ∈ lw_all := lw_g (lw_at lw_m7 20 rfl) rfl
theorem q1525 : (Jvm.Cond.selects "FormulaVoiceModel" ({ cls := "FormulaVoiceModel", name := "fewest", desc := "(I)I" } : Jvm.MethodName) ({ cls := "FormulaVoiceModel", name := "fewest", desc := "(I)I" } : Jvm.MethodName)) ∈ lw_all := lw_g (lw_at lw_m7 21 rfl) rfl
theorem q1526 : (Jvm.Cond.code ({ cls := "FormulaVoiceModel", name := "fewest", desc := "(I)I" } : Jvm.MethodName) prog_16_method_59_code (6 : Nat) (Option.some Jvm.ClassFile.FieldType.int)) ∈ lw_all := lw_g (lw_at lw_m7 22 rfl) rfl
theorem q1527 : (Jvm.Cond.methodLink "FormulaVoiceModel" (257 : Nat) ({ cls := "FormulaVoiceModel", name := "keepable", desc := "(I)I" } : Jvm.MethodName)) ∈ lw_all := lw_g (lw_at lw_m7 23 rfl) rfl
theorem q1528 : (Jvm.Cond.privateMethod ({ cls := "FormulaVoiceModel", name := "keepable", desc := "(I)I" } : Jvm.MethodName)) ∈ lw_tbl := lw_at lw_m7 24 rfl
theorem q1529 : (Jvm.Cond.instanceMethod ({ cls := "FormulaVoiceModel", name := "keepable", desc := "(I)I" } : Jvm.MethodName)) ∈ lw_all := lw_g (lw_at lw_m7 25 rfl) rfl
theorem q1530 : (Jvm.Cond.code ({ cls := "FormulaVoiceModel", name := "keepable", desc := "(I)I" } : Jvm.MethodName) prog_16_method_57_code (2 : Nat) (Option.some Jvm.ClassFile.FieldType.int)) ∈ lw_all := lw_g (lw_at lw_m7 26 rfl) rfl
theorem q1531 : (Jvm.Cond.methodLink "FormulaVoiceModel" (260 : Nat) ({ cls := "FormulaVoiceModel", name := "bits", desc := "(I)I" } : Jvm.MethodName)) ∈ lw_all := lw_g (lw_at lw_m7 27 rfl) rfl
theorem q1532 : (Jvm.Cond.static ({ cls := "FormulaVoiceModel", name := "bits", desc := "(I)I" } : Jvm.MethodName)) ∈ lw_all := lw_g (lw_at lw_m7 28 rfl) rfl
theorem q1533 : (Jvm.Cond.code ({ cls := "FormulaVoiceModel", name := "bits", desc := "(I)I" } : Jvm.MethodName) prog_16_method_58_code (3 : Nat) (Option.some Jvm.ClassFile.FieldType.int)) ∈ lw_all := lw_g (lw_at lw_m7 29 rfl) rfl
theorem q1534 : (Jvm.Cond.methodLink "FormulaVoiceModel" (263 : Nat) ({ cls := "FormulaVoiceModel", name := "isOnly", desc := "(III)Z" } : Jvm.MethodName)) ∈ lw_all := lw_g (lw_at lw_m7 30 rfl) rfl
theorem q1535 : (Jvm.Cond.privateMethod ({ cls := "FormulaVoiceModel", name := "isOnly", desc := "(III)Z" } : Jvm.MethodName)) ∈ lw_tbl := lw_at lw_m7 31 rfl
theorem q1536 : (Jvm.Cond.instanceMethod ({ cls := "FormulaVoiceModel", name := "isOnly", desc := "(III)Z" } : Jvm.MethodName)) ∈ lw_all := lw_g (lw_at lw_m7 32 rfl) rfl
theorem q1537 : (Jvm.Cond.code ({ cls := "FormulaVoiceModel", name := "isOnly", desc := "(III)Z" } : Jvm.MethodName) prog_16_method_60_code (4 : Nat) (Option.some Jvm.ClassFile.FieldType.boolean)) ∈ lw_all := lw_g (lw_at lw_m7 33 rfl) rfl
theorem q1539 : (Jvm.Cond.instanceMethod ({ cls := "FormulaVoiceModel", name := "walk", desc := "(I)I" } : Jvm.MethodName)) ∈ lw_all := lw_g (lw_at lw_m7 35 rfl) rfl
theorem q1540 : (Jvm.Cond.selects "FormulaVoiceModel" ({ cls := "FormulaVoiceModel", name := "walk", desc := "(I)I" } : Jvm.MethodName) ({ cls := "FormulaVoiceModel", name := "walk", desc := "(I)I" } : Jvm.MethodName)) ∈ lw_all := lw_g (lw_at lw_m7 36 rfl) rfl
theorem q1541 : (Jvm.Cond.code ({ cls := "FormulaVoiceModel", name := "walk", desc := "(I)I" } : Jvm.MethodName) prog_16_method_61_code (2 : Nat) (Option.some Jvm.ClassFile.FieldType.int)) ∈ lw_all := lw_g (lw_at lw_m7 37 rfl) rfl
theorem q1543 : (Jvm.Cond.instanceMethod ({ cls := "FormulaVoiceModel", name := "go", desc := "(I)I" } : Jvm.MethodName)) ∈ lw_all := lw_g (lw_at lw_m7 39 rfl) rfl
theorem q1544 : (Jvm.Cond.selects "FormulaVoiceModel" ({ cls := "FormulaVoiceModel", name := "go", desc := "(I)I" } : Jvm.MethodName) ({ cls := "FormulaVoiceModel", name := "go", desc := "(I)I" } : Jvm.MethodName)) ∈ lw_all := lw_g (lw_at lw_m7 40 rfl) rfl
theorem q1545 : (Jvm.Cond.code ({ cls := "FormulaVoiceModel", name := "go", desc := "(I)I" } : Jvm.MethodName) prog_16_method_63_code (3 : Nat) (Option.some Jvm.ClassFile.FieldType.int)) ∈ lw_all := lw_g (lw_at lw_m7 41 rfl) rfl
theorem q1546 : (Jvm.Cond.constantLong "FormulaVoiceModel" (270 : Nat) (3 : Int64)) ∈ lw_all := lw_g (lw_at lw_m7 42 rfl) rfl
theorem q1547 : (Jvm.Cond.methodLink "FormulaVoiceModel" (272 : Nat) ({ cls := "FormulaVoiceModel", name := "down", desc := "(I)Z" } : Jvm.MethodName)) ∈ lw_all := lw_g (lw_at lw_m7 43 rfl) rfl
theorem q1548 : (Jvm.Cond.privateMethod ({ cls := "FormulaVoiceModel", name := "down", desc := "(I)Z" } : Jvm.MethodName)) ∈ lw_tbl := lw_at lw_m7 44 rfl
theorem q1549 : (Jvm.Cond.instanceMethod ({ cls := "FormulaVoiceModel", name := "down", desc := "(I)Z" } : Jvm.MethodName)) ∈ lw_all := lw_g (lw_at lw_m7 45 rfl) rfl
theorem q1550 : (Jvm.Cond.code ({ cls := "FormulaVoiceModel", name := "down", desc := "(I)Z" } : Jvm.MethodName) prog_16_method_62_code (3 : Nat) (Option.some Jvm.ClassFile.FieldType.boolean)) ∈ lw_all := lw_g (lw_at lw_m7 46 rfl) rfl
theorem q1552 : (Jvm.Cond.instanceMethod ({ cls := "FormulaVoiceModel", name := "where", desc := "(I)I" } : Jvm.MethodName)) ∈ lw_all := lw_g (lw_at lw_m7 48 rfl) rfl
theorem q1553 : (Jvm.Cond.selects "FormulaVoiceModel" ({ cls := "FormulaVoiceModel", name := "where", desc := "(I)I" } : Jvm.MethodName) ({ cls := "FormulaVoiceModel", name := "where", desc := "(I)I" } : Jvm.MethodName)) ∈ lw_all := lw_g (lw_at lw_m7 49 rfl) rfl
theorem q1554 : (Jvm.Cond.code ({ cls := "FormulaVoiceModel", name := "where", desc := "(I)I" } : Jvm.MethodName) prog_16_method_64_code (4 : Nat) (Option.some Jvm.ClassFile.FieldType.int)) ∈ lw_all := lw_g (lw_at lw_m7 50 rfl) rfl
theorem q1556 : (Jvm.Cond.instanceMethod ({ cls := "FormulaVoiceModel", name := "lead", desc := "(I)I" } : Jvm.MethodName)) ∈ lw_all := lw_g (lw_at lw_m7 52 rfl) rfl
theorem q1557 : (Jvm.Cond.selects "FormulaVoiceModel" ({ cls := "FormulaVoiceModel", name := "lead", desc := "(I)I" } : Jvm.MethodName) ({ cls := "FormulaVoiceModel", name := "lead", desc := "(I)I" } : Jvm.MethodName)) ∈ lw_all := lw_g (lw_at lw_m7 53 rfl) rfl
theorem q1558 : (Jvm.Cond.code ({ cls := "FormulaVoiceModel", name := "lead", desc := "(I)I" } : Jvm.MethodName) prog_16_method_65_code (6 : Nat) (Option.some Jvm.ClassFile.FieldType.int)) ∈ lw_all := lw_g (lw_at lw_m7 54 rfl) rfl
theorem q1560 : (Jvm.Cond.instanceMethod ({ cls := "FormulaVoiceModel", name := "glance", desc := "(II)I" } : Jvm.MethodName)) ∈ lw_all := lw_g (lw_at lw_m7 56 rfl) rfl
theorem q1561 : (Jvm.Cond.selects "FormulaVoiceModel" ({ cls := "FormulaVoiceModel", name := "glance", desc := "(II)I" } : Jvm.MethodName) ({ cls := "FormulaVoiceModel", name := "glance", desc := "(II)I" } : Jvm.MethodName)) ∈ lw_all := lw_g (lw_at lw_m7 57 rfl) rfl
theorem q1562 : (Jvm.Cond.code ({ cls := "FormulaVoiceModel", name := "glance", desc := "(II)I" } : Jvm.MethodName) prog_16_method_67_code (4 : Nat) (Option.some Jvm.ClassFile.FieldType.int)) ∈ lw_all := lw_g (lw_at lw_m7 58 rfl) rfl
theorem q1563 : (Jvm.Cond.methodLink "FormulaVoiceModel" (275 : Nat) ({ cls := "FormulaVoiceModel", name := "glanced", desc := "(III)I" } : Jvm.MethodName)) ∈ lw_all := lw_g (lw_at lw_m7 59 rfl) rfl
theorem q1564 : (Jvm.Cond.privateMethod ({ cls := "FormulaVoiceModel", name := "glanced", desc := "(III)I" } : Jvm.MethodName)) ∈ lw_tbl := lw_at lw_m7 60 rfl
theorem q1565 : (Jvm.Cond.instanceMethod ({ cls := "FormulaVoiceModel", name := "glanced", desc := "(III)I" } : Jvm.MethodName)) ∈ lw_all := lw_g (lw_at lw_m7 61 rfl) rfl
theorem q1566 : (Jvm.Cond.code ({ cls := "FormulaVoiceModel", name := "glanced", desc := "(III)I" } : Jvm.MethodName) prog_16_method_66_code (4 : Nat) (Option.some Jvm.ClassFile.FieldType.int)) ∈ lw_all := lw_g (lw_at lw_m7 62 rfl) rfl
theorem q1568 : (Jvm.Cond.instanceMethod ({ cls := "FormulaVoiceModel", name := "changed", desc := "(II)I" } : Jvm.MethodName)) ∈ lw_all := lw_g (lw_at lw_m7 64 rfl) rfl
theorem q1569 : (Jvm.Cond.selects "FormulaVoiceModel" ({ cls := "FormulaVoiceModel", name := "changed", desc := "(II)I" } : Jvm.MethodName) ({ cls := "FormulaVoiceModel", name := "changed", desc := "(II)I" } : Jvm.MethodName)) ∈ lw_all := lw_g (lw_at lw_m7 65 rfl) rfl
theorem q1570 : (Jvm.Cond.code ({ cls := "FormulaVoiceModel", name := "changed", desc := "(II)I" } : Jvm.MethodName) prog_16_method_71_code (3 : Nat) (Option.some Jvm.ClassFile.FieldType.int)) ∈ lw_all := lw_g (lw_at lw_m7 66 rfl) rfl
theorem q1571 : (Jvm.Cond.methodLink "FormulaVoiceModel" (279 : Nat) ({ cls := "FormulaVoiceModel", name := "difference", desc := "(II)I" } : Jvm.MethodName)) ∈ lw_all := lw_g (lw_at lw_m7 67 rfl) rfl
theorem q1572 : (Jvm.Cond.privateMethod ({ cls := "FormulaVoiceModel", name := "difference", desc := "(II)I" } : Jvm.MethodName)) ∈ lw_tbl := lw_at lw_m7 68 rfl
theorem q1573 : (Jvm.Cond.instanceMethod ({ cls := "FormulaVoiceModel", name := "difference", desc := "(II)I" } : Jvm.MethodName)) ∈ lw_all := lw_g (lw_at lw_m7 69 rfl) rfl
theorem q1574 : (Jvm.Cond.code ({ cls := "FormulaVoiceModel", name := "difference", desc := "(II)I" } : Jvm.MethodName) prog_16_method_69_code (5 : Nat) (Option.some Jvm.ClassFile.FieldType.int)) ∈ lw_all := lw_g (lw_at lw_m7 70 rfl) rfl
theorem q1575 : (Jvm.Cond.methodLink "FormulaVoiceModel" (282 : Nat) ({ cls := "FormulaVoiceModel", name := "inside", desc := "(II)I" } : Jvm.MethodName)) ∈ lw_all := lw_g (lw_at lw_m7 71 rfl) rfl
theorem q1576 : (Jvm.Cond.privateMethod ({ cls := "FormulaVoiceModel", name := "inside", desc := "(II)I" } : Jvm.MethodName)) ∈ lw_tbl := lw_at lw_m7 72 rfl
theorem q1577 : (Jvm.Cond.instanceMethod ({ cls := "FormulaVoiceModel", name := "inside", desc := "(II)I" } : Jvm.MethodName)) ∈ lw_all := lw_g (lw_at lw_m7 73 rfl) rfl
theorem q1578 : (Jvm.Cond.code ({ cls := "FormulaVoiceModel", name := "inside", desc := "(II)I" } : Jvm.MethodName) prog_16_method_68_code (4 : Nat) (Option.some Jvm.ClassFile.FieldType.int)) ∈ lw_all := lw_g (lw_at lw_m7 74 rfl) rfl
theorem q1580 : (Jvm.Cond.instanceMethod ({ cls := "FormulaVoiceModel", name := "exchanged", desc := "(II)I" } : Jvm.MethodName)) ∈ lw_all := lw_g (lw_at lw_m7 76 rfl) rfl
theorem q1581 : (Jvm.Cond.selects "FormulaVoiceModel" ({ cls := "FormulaVoiceModel", name := "exchanged", desc := "(II)I" } : Jvm.MethodName) ({ cls := "FormulaVoiceModel", name := "exchanged", desc := "(II)I" } : Jvm.MethodName)) ∈ lw_all := lw_g (lw_at lw_m7 77 rfl) rfl
theorem q1582 : (Jvm.Cond.code ({ cls := "FormulaVoiceModel", name := "exchanged", desc := "(II)I" } : Jvm.MethodName) prog_16_method_72_code (3 : Nat) (Option.some Jvm.ClassFile.FieldType.int)) ∈ lw_all := lw_g (lw_at lw_m7 78 rfl) rfl
theorem q1583 : (Jvm.Cond.methodLink "FormulaVoiceModel" (285 : Nat) ({ cls := "FormulaVoiceModel", name := "wholes", desc := "(II)I" } : Jvm.MethodName)) ∈ lw_all := lw_g (lw_at lw_m7 79 rfl) rfl
theorem q1584 : (Jvm.Cond.privateMethod ({ cls := "FormulaVoiceModel", name := "wholes", desc := "(II)I" } : Jvm.MethodName)) ∈ lw_tbl := lw_at lw_m7 80 rfl
theorem q1585 : (Jvm.Cond.instanceMethod ({ cls := "FormulaVoiceModel", name := "wholes", desc := "(II)I" } : Jvm.MethodName)) ∈ lw_all := lw_g (lw_at lw_m7 81 rfl) rfl
theorem q1586 : (Jvm.Cond.code ({ cls := "FormulaVoiceModel", name := "wholes", desc := "(II)I" } : Jvm.MethodName) prog_16_method_70_code (3 : Nat) (Option.some Jvm.ClassFile.FieldType.int)) ∈ lw_all := lw_g (lw_at lw_m7 82 rfl) rfl
theorem q1588 : (Jvm.Cond.instanceMethod ({ cls := "FormulaVoiceModel", name := "count", desc := "(I)I" } : Jvm.MethodName)) ∈ lw_all := lw_g (lw_at lw_m7 84 rfl) rfl
theorem q1589 : (Jvm.Cond.selects "FormulaVoiceModel" ({ cls := "FormulaVoiceModel", name := "count", desc := "(I)I" } : Jvm.MethodName) ({ cls := "FormulaVoiceModel", name := "count", desc := "(I)I" } : Jvm.MethodName)) ∈ lw_all := lw_g (lw_at lw_m7 85 rfl) rfl
theorem q1590 : (Jvm.Cond.code ({ cls := "FormulaVoiceModel", name := "count", desc := "(I)I" } : Jvm.MethodName) prog_16_method_74_code (2 : Nat) (Option.some Jvm.ClassFile.FieldType.int)) ∈ lw_all := lw_g (lw_at lw_m7 86 rfl) rfl
theorem q1591 : (Jvm.Cond.methodLink "FormulaVoiceModel" (288 : Nat) ({ cls := "FormulaVoiceModel", name := "functions", desc := "()I" } : Jvm.MethodName)) ∈ lw_all := lw_g (lw_at lw_m7 87 rfl) rfl
theorem q1592 : (Jvm.Cond.privateMethod ({ cls := "FormulaVoiceModel", name := "functions", desc := "()I" } : Jvm.MethodName)) ∈ lw_tbl := lw_at lw_m7 88 rfl
theorem q1593 : (Jvm.Cond.instanceMethod ({ cls := "FormulaVoiceModel", name := "functions", desc := "()I" } : Jvm.MethodName)) ∈ lw_all := lw_g (lw_at lw_m7 89 rfl) rfl
theorem q1594 : (Jvm.Cond.code ({ cls := "FormulaVoiceModel", name := "functions", desc := "()I" } : Jvm.MethodName) prog_16_method_73_code (3 : Nat) (Option.some Jvm.ClassFile.FieldType.int)) ∈ lw_all := lw_g (lw_at lw_m7 90 rfl) rfl
theorem q1596 : (Jvm.Cond.instanceMethod ({ cls := "FormulaVoiceModel", name := "keep", desc := "(III)I" } : Jvm.MethodName)) ∈ lw_all := lw_g (lw_at lw_m7 92 rfl) rfl
theorem q1597 : (Jvm.Cond.selects "FormulaVoiceModel" ({ cls := "FormulaVoiceModel", name := "keep", desc := "(III)I" } : Jvm.MethodName) ({ cls := "FormulaVoiceModel", name := "keep", desc := "(III)I" } : Jvm.MethodName)) ∈ lw_all := lw_g (lw_at lw_m7 93 rfl) rfl
theorem q1598 : (Jvm.Cond.code ({ cls := "FormulaVoiceModel", name := "keep", desc := "(III)I" } : Jvm.MethodName) prog_16_method_77_code (6 : Nat) (Option.some Jvm.ClassFile.FieldType.int)) ∈ lw_all := lw_g (lw_at lw_m7 94 rfl) rfl
theorem q1599 : (Jvm.Cond.methodLink "FormulaVoiceModel" (298 : Nat) ({ cls := "FormulaVoiceModel", name := "isShelf", desc := "(I)Z" } : Jvm.MethodName)) ∈ lw_all := lw_g (lw_at lw_m7 95 rfl) rfl
theorem q1600 : (Jvm.Cond.static ({ cls := "FormulaVoiceModel", name := "isShelf", desc := "(I)Z" } : Jvm.MethodName)) ∈ lw_all := lw_g (lw_at lw_m7 96 rfl) rfl
theorem q1601 : (Jvm.Cond.code ({ cls := "FormulaVoiceModel", name := "isShelf", desc := "(I)Z" } : Jvm.MethodName) prog_16_method_75_code (1 : Nat) (Option.some Jvm.ClassFile.FieldType.boolean)) ∈ lw_all := lw_g (lw_at lw_m7 97 rfl) rfl
theorem q1602 : (Jvm.Cond.methodLink "FormulaVoiceModel" (295 : Nat) ({ cls := "FormulaVoiceModel", name := "kinds", desc := "(II)V" } : Jvm.MethodName)) ∈ lw_all := lw_g (lw_at lw_m7 98 rfl) rfl
theorem q1603 : (Jvm.Cond.privateMethod ({ cls := "FormulaVoiceModel", name := "kinds", desc := "(II)V" } : Jvm.MethodName)) ∈ lw_tbl := lw_at lw_m7 99 rfl
theorem q1604 : (Jvm.Cond.instanceMethod ({ cls := "FormulaVoiceModel", name := "kinds", desc := "(II)V" } : Jvm.MethodName)) ∈ lw_all := lw_g (lw_at lw_m7 100 rfl) rfl
theorem q1605 : (Jvm.Cond.code ({ cls := "FormulaVoiceModel", name := "kinds", desc := "(II)V" } : Jvm.MethodName) prog_16_method_76_code (3 : Nat) (Option.none : Option Jvm.ClassFile.FieldType)) ∈ lw_all := lw_g (lw_at lw_m7 101 rfl) rfl
theorem q1607 : (Jvm.Cond.instanceMethod ({ cls := "FormulaVoiceModel", name := "make", desc := "(III)I" } : Jvm.MethodName)) ∈ lw_all := lw_g (lw_at lw_m7 103 rfl) rfl
theorem q1608 : (Jvm.Cond.selects "FormulaVoiceModel" ({ cls := "FormulaVoiceModel", name := "make", desc := "(III)I" } : Jvm.MethodName) ({ cls := "FormulaVoiceModel", name := "make", desc := "(III)I" } : Jvm.MethodName)) ∈ lw_all := lw_g (lw_at lw_m7 104 rfl) rfl
theorem q1609 : (Jvm.Cond.code ({ cls := "FormulaVoiceModel", name := "make", desc := "(III)I" } : Jvm.MethodName) prog_16_method_78_code (5 : Nat) (Option.some Jvm.ClassFile.FieldType.int)) ∈ lw_all := lw_g (lw_at lw_m7 105 rfl) rfl
theorem q1611 : (Jvm.Cond.instanceMethod ({ cls := "FormulaVoiceModel", name := "element", desc := "(II)J" } : Jvm.MethodName)) ∈ lw_all := lw_g (lw_at lw_m7 107 rfl) rfl
theorem q1612 : (Jvm.Cond.selects "FormulaVoiceModel" ({ cls := "FormulaVoiceModel", name := "element", desc := "(II)J" } : Jvm.MethodName) ({ cls := "FormulaVoiceModel", name := "element", desc := "(II)J" } : Jvm.MethodName)) ∈ lw_all := lw_g (lw_at lw_m7 108 rfl) rfl
theorem q1613 : (Jvm.Cond.code ({ cls := "FormulaVoiceModel", name := "element", desc := "(II)J" } : Jvm.MethodName) prog_16_method_79_code (3 : Nat) (Option.some Jvm.ClassFile.FieldType.long)) ∈ lw_all := lw_g (lw_at lw_m7 109 rfl) rfl
theorem q1615 : (Jvm.Cond.instanceMethod ({ cls := "FormulaVoiceModel", name := "copy", desc := "(IIIII)I" } : Jvm.MethodName)) ∈ lw_all := lw_g (lw_at lw_m7 111 rfl) rfl
theorem q1616 : (Jvm.Cond.selects "FormulaVoiceModel" ({ cls := "FormulaVoiceModel", name := "copy", desc := "(IIIII)I" } : Jvm.MethodName) ({ cls := "FormulaVoiceModel", name := "copy", desc := "(IIIII)I" } : Jvm.MethodName)) ∈ lw_all := lw_g (lw_at lw_m7 112 rfl) rfl
theorem q1617 : (Jvm.Cond.code ({ cls := "FormulaVoiceModel", name := "copy", desc := "(IIIII)I" } : Jvm.MethodName) prog_16_method_80_code (7 : Nat) (Option.some Jvm.ClassFile.FieldType.int)) ∈ lw_all := lw_g (lw_at lw_m7 113 rfl) rfl
theorem q1619 : (Jvm.Cond.instanceMethod ({ cls := "FormulaVoiceModel", name := "weight", desc := "(I)I" } : Jvm.MethodName)) ∈ lw_all := lw_g (lw_at lw_m7 115 rfl) rfl
theorem q1620 : (Jvm.Cond.selects "FormulaVoiceModel" ({ cls := "FormulaVoiceModel", name := "weight", desc := "(I)I" } : Jvm.MethodName) ({ cls := "FormulaVoiceModel", name := "weight", desc := "(I)I" } : Jvm.MethodName)) ∈ lw_all := lw_g (lw_at lw_m7 116 rfl) rfl
theorem q1621 : (Jvm.Cond.code ({ cls := "FormulaVoiceModel", name := "weight", desc := "(I)I" } : Jvm.MethodName) prog_16_method_82_code (4 : Nat) (Option.some Jvm.ClassFile.FieldType.int)) ∈ lw_all := lw_g (lw_at lw_m7 117 rfl) rfl
theorem q1622 : (Jvm.Cond.methodLink "FormulaVoiceModel" (301 : Nat) ({ cls := "FormulaVoiceModel", name := "held", desc := "(I)I" } : Jvm.MethodName)) ∈ lw_all := lw_g (lw_at lw_m7 118 rfl) rfl
theorem q1623 : (Jvm.Cond.privateMethod ({ cls := "FormulaVoiceModel", name := "held", desc := "(I)I" } : Jvm.MethodName)) ∈ lw_tbl := lw_at lw_m7 119 rfl
theorem q1624 : (Jvm.Cond.instanceMethod ({ cls := "FormulaVoiceModel", name := "held", desc := "(I)I" } : Jvm.MethodName)) ∈ lw_all := lw_g (lw_at lw_m7 120 rfl) rfl
theorem q1625 : (Jvm.Cond.code ({ cls := "FormulaVoiceModel", name := "held", desc := "(I)I" } : Jvm.MethodName) prog_16_method_81_code (2 : Nat) (Option.some Jvm.ClassFile.FieldType.int)) ∈ lw_all := lw_g (lw_at lw_m7 121 rfl) rfl
theorem q1627 : (Jvm.Cond.instanceMethod ({ cls := "FormulaVoiceModel", name := "toss", desc := "(I)I" } : Jvm.MethodName)) ∈ lw_all := lw_g (lw_at lw_m7 123 rfl) rfl
theorem q1628 : (Jvm.Cond.selects "FormulaVoiceModel" ({ cls := "FormulaVoiceModel", name := "toss", desc := "(I)I" } : Jvm.MethodName) ({ cls := "FormulaVoiceModel", name := "toss", desc := "(I)I" } : Jvm.MethodName)) ∈ lw_all := lw_g (lw_at lw_m7 124 rfl) rfl
theorem q1629 : (Jvm.Cond.code ({ cls := "FormulaVoiceModel", name := "toss", desc := "(I)I" } : Jvm.MethodName) prog_16_method_83_code (3 : Nat) (Option.some Jvm.ClassFile.FieldType.int)) ∈ lw_all := lw_g (lw_at lw_m7 125 rfl) rfl
theorem q1647 : (Jvm.Cond.castable "FormulaVoiceModel" "java/lang/Object") ∈ lw_tbl := lw_at lw_m7 143 rfl
theorem in_X6 : ∀ w ∈ wsX60, w ∈ lw_all := lw_in wsX60 [1226, 1228, 1230, 1232, 1234, 1236, 1238, 1240, 1242, 1244, 1246, 1248, 1250, 1252, 1254, 1256, 1258, 1260, 1262, 1264, 1266, 1268, 1270, 1272, 1274, 1276, 1278, 1280, 1282, 1284, 1286, 1288, 1290, 1292, 1294] (by decide +kernel) (by decide +kernel)
def RX7 : String := "FormulaVoice$Node"
abbrev cX7_init : ByteArray := prog_8_method_1_code
def yX7_init : MethodName := ⟨RX7, "<init>", "(IIII)V"⟩
abbrev cX7_v : ByteArray := prog_8_method_2_code
def yX7_v : MethodName := ⟨RX7, "v", "()I"⟩
abbrev cX7_x : ByteArray := prog_8_method_3_code
def yX7_x : MethodName := ⟨RX7, "x", "()LFormulaVoice$Node;"⟩
abbrev cX7_y : ByteArray := prog_8_method_4_code
def yX7_y : MethodName := ⟨RX7, "y", "()LFormulaVoice$Node;"⟩
abbrev cX7_isRight : ByteArray := prog_8_method_9_code
def yX7_isRight : MethodName := ⟨RX7, "isRight", "(I)Z"⟩
abbrev cX7_isLike : ByteArray := prog_8_method_8_code
def yX7_isLike : MethodName := ⟨RX7, "isLike", "(LFormulaVoice$Node;)Z"⟩
abbrev cX7_says : ByteArray := prog_8_method_7_code
def yX7_says : MethodName := ⟨RX7, "says", "(LFormulaVoice$Words;LFormulaVoice$Manner;I)V"⟩
abbrev cX7_mayKeep : ByteArray := prog_8_method_6_code
def yX7_mayKeep : MethodName := ⟨RX7, "mayKeep", "()Z"⟩
abbrev cX7_weight : ByteArray := prog_8_method_10_code
def yX7_weight : MethodName := ⟨RX7, "weight", "()I"⟩
abbrev cX7_failure : ByteArray := prog_8_method_11_code
def yX7_failure : MethodName := ⟨RX7, "failure", "()LFormulaVoice$Tossed;"⟩
theorem q77 : (Jvm.Cond.initialized "FormulaVoice$Node") ∈ lw_all := lw_g (lw_at lw_m1 13 rfl) rfl
theorem q122 : (Jvm.Cond.instanceMethod ({ cls := "FormulaVoice$Node", name := "<init>", desc := "(IIII)V" } : Jvm.MethodName)) ∈ lw_all := lw_g (lw_at lw_m1 58 rfl) rfl
theorem q123 : (Jvm.Cond.code ({ cls := "FormulaVoice$Node", name := "<init>", desc := "(IIII)V" } : Jvm.MethodName) prog_8_method_1_code (5 : Nat) (Option.none : Option Jvm.ClassFile.FieldType)) ∈ lw_all := lw_g (lw_at lw_m1 59 rfl) rfl
theorem q124 : (Jvm.Cond.methodLink "FormulaVoice$Node" (3 : Nat) ({ cls := "java/lang/Object", name := "<init>", desc := "()V" } : Jvm.MethodName)) ∈ lw_all := lw_g (lw_at lw_m1 60 rfl) rfl
theorem q130 : (Jvm.Cond.fieldLink "FormulaVoice$Node" (9 : Nat) "FormulaVoice$Node" "number" "I") ∈ lw_all := lw_g (lw_at lw_m1 66 rfl) rfl
theorem q132 : (Jvm.Cond.fieldLink "FormulaVoice$Node" (15 : Nat) "FormulaVoice$Node" "kind" "I") ∈ lw_all := lw_g (lw_at lw_m1 68 rfl) rfl
theorem q138 : (Jvm.Cond.fieldLink "FormulaVoice$Node" (18 : Nat) "FormulaVoice$Node" "size" "I") ∈ lw_all := lw_g (lw_at lw_m1 74 rfl) rfl
theorem q142 : (Jvm.Cond.fieldLink "FormulaVoice$Node" (21 : Nat) "FormulaVoice$Node" "depth" "I") ∈ lw_all := lw_g (lw_at lw_m1 78 rfl) rfl
theorem q147 : (Jvm.Cond.soleField "FormulaVoice$Node" "number") ∈ lw_all := lw_g (lw_at lw_m1 83 rfl) rfl
theorem q149 : (Jvm.Cond.soleField "FormulaVoice$Node" "kind") ∈ lw_all := lw_g (lw_at lw_m1 85 rfl) rfl
theorem q151 : (Jvm.Cond.soleField "FormulaVoice$Node" "size") ∈ lw_all := lw_g (lw_at lw_m1 87 rfl) rfl
theorem q153 : (Jvm.Cond.soleField "FormulaVoice$Node" "depth") ∈ lw_all := lw_g (lw_at lw_m1 89 rfl) rfl
theorem q361 : (Jvm.Cond.instanceMethod ({ cls := "FormulaVoice$Node", name := "v", desc := "()I" } : Jvm.MethodName)) ∈ lw_all := lw_g (lw_at lw_m2 57 rfl) rfl
theorem q362 : (Jvm.Cond.sameMethod "FormulaVoice$Node" "FormulaVoice$Node" "v" "()I") ∈ lw_all := lw_g (lw_at lw_m2 58 rfl) rfl
theorem q374 : (Jvm.Cond.code ({ cls := "FormulaVoice$Node", name := "v", desc := "()I" } : Jvm.MethodName) prog_8_method_2_code (1 : Nat) (Option.some Jvm.ClassFile.FieldType.int)) ∈ lw_all := lw_g (lw_at lw_m2 70 rfl) rfl
theorem q376 : (Jvm.Cond.instanceMethod ({ cls := "FormulaVoice$Node", name := "x", desc := "()LFormulaVoice$Node;" } : Jvm.MethodName)) ∈ lw_all := lw_g (lw_at lw_m2 72 rfl) rfl
theorem q377 : (Jvm.Cond.sameMethod "FormulaVoice$Node" "FormulaVoice$Node" "x" "()LFormulaVoice$Node;") ∈ lw_all := lw_g (lw_at lw_m2 73 rfl) rfl
theorem q389 : (Jvm.Cond.code ({ cls := "FormulaVoice$Node", name := "x", desc := "()LFormulaVoice$Node;" } : Jvm.MethodName) prog_8_method_3_code (1 : Nat) (Option.some (Jvm.ClassFile.FieldType.object "FormulaVoice$Node"))) ∈ lw_all := lw_g (lw_at lw_m2 85 rfl) rfl
theorem q391 : (Jvm.Cond.instanceMethod ({ cls := "FormulaVoice$Node", name := "y", desc := "()LFormulaVoice$Node;" } : Jvm.MethodName)) ∈ lw_all := lw_g (lw_at lw_m2 87 rfl) rfl
theorem q392 : (Jvm.Cond.sameMethod "FormulaVoice$Node" "FormulaVoice$Node" "y" "()LFormulaVoice$Node;") ∈ lw_all := lw_g (lw_at lw_m2 88 rfl) rfl
theorem q402 : (Jvm.Cond.code ({ cls := "FormulaVoice$Node", name := "y", desc := "()LFormulaVoice$Node;" } : Jvm.MethodName) prog_8_method_4_code (1 : Nat) (Option.some (Jvm.ClassFile.FieldType.object "FormulaVoice$Node"))) ∈ lw_all := lw_g (lw_at lw_m2 98 rfl) rfl
theorem q404 : (Jvm.Cond.instanceMethod ({ cls := "FormulaVoice$Node", name := "isRight", desc := "(I)Z" } : Jvm.MethodName)) ∈ lw_all := lw_g (lw_at lw_m2 100 rfl) rfl
theorem q405 : (Jvm.Cond.sameMethod "FormulaVoice$Node" "FormulaVoice$Node" "isRight" "(I)Z") ∈ lw_all := lw_g (lw_at lw_m2 101 rfl) rfl
theorem q411 : (Jvm.Cond.declares ({ cls := "FormulaVoice$Node", name := "isRight", desc := "(I)Z" } : Jvm.MethodName)) ∈ lw_tbl := lw_at lw_m2 107 rfl
theorem q422 : (Jvm.Cond.code ({ cls := "FormulaVoice$Node", name := "isRight", desc := "(I)Z" } : Jvm.MethodName) prog_8_method_9_code (2 : Nat) (Option.some Jvm.ClassFile.FieldType.boolean)) ∈ lw_all := lw_g (lw_at lw_m2 118 rfl) rfl
theorem q423 : (Jvm.Cond.methodLink "FormulaVoice$Node" (51 : Nat) ({ cls := "FormulaVoice$Node", name := "x", desc := "()LFormulaVoice$Node;" } : Jvm.MethodName)) ∈ lw_all := lw_g (lw_at lw_m2 119 rfl) rfl
theorem q424 : (Jvm.Cond.methodLink "FormulaVoice$Node" (62 : Nat) ({ cls := "FormulaVoice$Node", name := "isRight", desc := "(I)Z" } : Jvm.MethodName)) ∈ lw_all := lw_g (lw_at lw_m2 120 rfl) rfl
theorem q425 : (Jvm.Cond.methodLink "FormulaVoice$Node" (59 : Nat) ({ cls := "FormulaVoice$Node", name := "y", desc := "()LFormulaVoice$Node;" } : Jvm.MethodName)) ∈ lw_all := lw_g (lw_at lw_m2 121 rfl) rfl
theorem q431 : (Jvm.Cond.instanceMethod ({ cls := "FormulaVoice$Node", name := "isLike", desc := "(LFormulaVoice$Node;)Z" } : Jvm.MethodName)) ∈ lw_all := lw_g (lw_at lw_m2 127 rfl) rfl
theorem q432 : (Jvm.Cond.sameMethod "FormulaVoice$Node" "FormulaVoice$Node" "isLike" "(LFormulaVoice$Node;)Z") ∈ lw_all := lw_g (lw_at lw_m2 128 rfl) rfl
theorem q440 : (Jvm.Cond.code ({ cls := "FormulaVoice$Node", name := "isLike", desc := "(LFormulaVoice$Node;)Z" } : Jvm.MethodName) prog_8_method_8_code (2 : Nat) (Option.some Jvm.ClassFile.FieldType.boolean)) ∈ lw_all := lw_g (lw_at lw_m2 136 rfl) rfl
theorem q441 : (Jvm.Cond.methodLink "FormulaVoice$Node" (47 : Nat) ({ cls := "FormulaVoice$Node", name := "v", desc := "()I" } : Jvm.MethodName)) ∈ lw_all := lw_g (lw_at lw_m2 137 rfl) rfl
theorem q442 : (Jvm.Cond.methodLink "FormulaVoice$Node" (55 : Nat) ({ cls := "FormulaVoice$Node", name := "isLike", desc := "(LFormulaVoice$Node;)Z" } : Jvm.MethodName)) ∈ lw_all := lw_g (lw_at lw_m2 138 rfl) rfl
theorem q479 : (Jvm.Cond.instanceMethod ({ cls := "FormulaVoice$Node", name := "says", desc := "(LFormulaVoice$Words;LFormulaVoice$Manner;I)V" } : Jvm.MethodName)) ∈ lw_all := lw_g (lw_at lw_m2 175 rfl) rfl
theorem q480 : (Jvm.Cond.sameMethod "FormulaVoice$Node" "FormulaVoice$Node" "says" "(LFormulaVoice$Words;LFormulaVoice$Manner;I)V") ∈ lw_all := lw_g (lw_at lw_m2 176 rfl) rfl
theorem q488 : (Jvm.Cond.code ({ cls := "FormulaVoice$Node", name := "says", desc := "(LFormulaVoice$Words;LFormulaVoice$Manner;I)V" } : Jvm.MethodName) prog_8_method_7_code (5 : Nat) (Option.none : Option Jvm.ClassFile.FieldType)) ∈ lw_all := lw_g (lw_at lw_m2 184 rfl) rfl
theorem q489 : (Jvm.Cond.methodLink "FormulaVoice$Node" (29 : Nat) ({ cls := "FormulaVoice$Words", name := "say", desc := "(I)V" } : Jvm.MethodName)) ∈ lw_all := lw_g (lw_at lw_m2 185 rfl) rfl
theorem q493 : (Jvm.Cond.methodLink "FormulaVoice$Node" (35 : Nat) ({ cls := "FormulaVoice$Node", name := "mayKeep", desc := "()Z" } : Jvm.MethodName)) ∈ lw_all := lw_g (lw_at lw_m2 189 rfl) rfl
theorem q494 : (Jvm.Cond.instanceMethod ({ cls := "FormulaVoice$Node", name := "mayKeep", desc := "()Z" } : Jvm.MethodName)) ∈ lw_all := lw_g (lw_at lw_m2 190 rfl) rfl
theorem q495 : (Jvm.Cond.sameMethod "FormulaVoice$Node" "FormulaVoice$Node" "mayKeep" "()Z") ∈ lw_all := lw_g (lw_at lw_m2 191 rfl) rfl
theorem q507 : (Jvm.Cond.code ({ cls := "FormulaVoice$Node", name := "mayKeep", desc := "()Z" } : Jvm.MethodName) prog_8_method_6_code (1 : Nat) (Option.some Jvm.ClassFile.FieldType.boolean)) ∈ lw_all := lw_g (lw_at lw_m2 203 rfl) rfl
theorem q508 : (Jvm.Cond.methodLink "FormulaVoice$Node" (39 : Nat) ({ cls := "FormulaVoice$Manner", name := "keeps", desc := "(I)Z" } : Jvm.MethodName)) ∈ lw_all := lw_g (lw_at lw_m2 204 rfl) rfl
theorem q512 : (Jvm.Cond.methodLink "FormulaVoice$Node" (43 : Nat) ({ cls := "FormulaVoice$Node", name := "tells", desc := "(LFormulaVoice$Words;LFormulaVoice$Manner;I)V" } : Jvm.MethodName)) ∈ lw_all := lw_g (lw_at lw_m2 208 rfl) rfl
theorem q513 : (Jvm.Cond.declares ({ cls := "FormulaVoice$Node", name := "tells", desc := "(LFormulaVoice$Words;LFormulaVoice$Manner;I)V" } : Jvm.MethodName)) ∈ lw_tbl := lw_at lw_m2 209 rfl
theorem q514 : (Jvm.Cond.sameMethod "FormulaVoice$Node" "FormulaVoice$Node" "tells" "(LFormulaVoice$Words;LFormulaVoice$Manner;I)V") ∈ lw_all := lw_g (lw_at lw_m2 210 rfl) rfl
theorem q871 : (Jvm.Cond.fieldLink "FormulaVoice$Node" (24 : Nat) "FormulaVoice$Manner" "deep" "I") ∈ lw_all := lw_g (lw_at lw_m4 87 rfl) rfl
theorem q1064 : (Jvm.Cond.instanceMethod ({ cls := "FormulaVoice$Node", name := "weight", desc := "()I" } : Jvm.MethodName)) ∈ lw_all := lw_g (lw_at lw_m5 40 rfl) rfl
theorem q1065 : (Jvm.Cond.sameMethod "FormulaVoice$Node" "FormulaVoice$Node" "weight" "()I") ∈ lw_all := lw_g (lw_at lw_m5 41 rfl) rfl
theorem q1071 : (Jvm.Cond.declares ({ cls := "FormulaVoice$Node", name := "weight", desc := "()I" } : Jvm.MethodName)) ∈ lw_tbl := lw_at lw_m5 47 rfl
theorem q1089 : (Jvm.Cond.code ({ cls := "FormulaVoice$Node", name := "weight", desc := "()I" } : Jvm.MethodName) prog_8_method_10_code (1 : Nat) (Option.some Jvm.ClassFile.FieldType.int)) ∈ lw_all := lw_g (lw_at lw_m5 65 rfl) rfl
theorem q1096 : (Jvm.Cond.instanceMethod ({ cls := "FormulaVoice$Node", name := "failure", desc := "()LFormulaVoice$Tossed;" } : Jvm.MethodName)) ∈ lw_all := lw_g (lw_at lw_m5 72 rfl) rfl
theorem q1097 : (Jvm.Cond.sameMethod "FormulaVoice$Node" "FormulaVoice$Node" "failure" "()LFormulaVoice$Tossed;") ∈ lw_all := lw_g (lw_at lw_m5 73 rfl) rfl
theorem q1130 : (Jvm.Cond.code ({ cls := "FormulaVoice$Node", name := "failure", desc := "()LFormulaVoice$Tossed;" } : Jvm.MethodName) prog_8_method_11_code (1 : Nat) (Option.some (Jvm.ClassFile.FieldType.object "FormulaVoice$Tossed"))) ∈ lw_all := lw_g (lw_at lw_m5 106 rfl) rfl
theorem q1640 : (Jvm.Cond.castable "FormulaVoice$Node" "java/lang/Object") ∈ lw_tbl := lw_at lw_m7 136 rfl
def RX8 : String := "FormulaVoice$Letter"
def TX8 : u_T := fun k => match k with
  | 0 => ("FormulaVoice$Node", "number", "I", true)
  | 1 => ("FormulaVoice$Node", "kind", "I", true)
  | 2 => ("FormulaVoice$Node", "size", "I", true)
  | 3 => ("FormulaVoice$Node", "depth", "I", true)
  | _ => ("FormulaVoice$Letter", "v", "I", true)
def tyX8 : Nat → FieldType := fun k => match k with
  | 0 => .int
  | 1 => .int
  | 2 => .int
  | 3 => .int
  | _ => .int
abbrev wsX80 : List Cond := u_ws RX8 TX8 5
theorem nmX8 : ∀ a, a < 5 → ∀ b, b < 5 → a ≠ b → (TX8 a).2.1 ≠ (TX8 b).2.1 := by decide +kernel
theorem tyX8_ok : ∀ k, k < 5 → parseFieldDescriptor (TX8 k).2.2.1 = some (tyX8 k) := by decide +kernel
abbrev cX8_init : ByteArray := prog_6_method_1_code
def yX8_init : MethodName := ⟨RX8, "<init>", "(III)V"⟩
abbrev cX8_v : ByteArray := prog_6_method_2_code
def yX8_v : MethodName := ⟨RX8, "v", "()I"⟩
abbrev cX8_isRight : ByteArray := prog_6_method_5_code
def yX8_isRight : MethodName := ⟨RX8, "isRight", "(I)Z"⟩
abbrev cX8_mayKeep : ByteArray := prog_6_method_3_code
def yX8_mayKeep : MethodName := ⟨RX8, "mayKeep", "()Z"⟩
abbrev cX8_tells : ByteArray := prog_6_method_4_code
def yX8_tells : MethodName := ⟨RX8, "tells", "(LFormulaVoice$Words;LFormulaVoice$Manner;I)V"⟩
abbrev cX8_failure : ByteArray := prog_6_method_6_code
def yX8_failure : MethodName := ⟨RX8, "failure", "()LFormulaVoice$Tossed;"⟩
theorem q78 : (Jvm.Cond.initialized "FormulaVoice$Letter") ∈ lw_all := lw_g (lw_at lw_m1 14 rfl) rfl
theorem q117 : (Jvm.Cond.instantiable "FormulaVoice$Letter" (5 : Nat)) ∈ lw_all := lw_g (lw_at lw_m1 53 rfl) rfl
theorem q119 : (Jvm.Cond.instanceMethod ({ cls := "FormulaVoice$Letter", name := "<init>", desc := "(III)V" } : Jvm.MethodName)) ∈ lw_all := lw_g (lw_at lw_m1 55 rfl) rfl
theorem q120 : (Jvm.Cond.code ({ cls := "FormulaVoice$Letter", name := "<init>", desc := "(III)V" } : Jvm.MethodName) prog_6_method_1_code (4 : Nat) (Option.none : Option Jvm.ClassFile.FieldType)) ∈ lw_all := lw_g (lw_at lw_m1 56 rfl) rfl
theorem q121 : (Jvm.Cond.methodLink "FormulaVoice$Letter" (1 : Nat) ({ cls := "FormulaVoice$Node", name := "<init>", desc := "(IIII)V" } : Jvm.MethodName)) ∈ lw_all := lw_g (lw_at lw_m1 57 rfl) rfl
theorem q127 : (Jvm.Cond.fieldLink "FormulaVoice$Letter" (7 : Nat) "FormulaVoice$Letter" "v" "I") ∈ lw_all := lw_g (lw_at lw_m1 63 rfl) rfl
theorem q144 : (Jvm.Cond.laysFinal "FormulaVoice$Letter" "FormulaVoice$Letter" "v" "I") ∈ lw_all := lw_g (lw_at lw_m1 80 rfl) rfl
theorem q145 : (Jvm.Cond.soleField "FormulaVoice$Letter" "v") ∈ lw_all := lw_g (lw_at lw_m1 81 rfl) rfl
theorem q146 : (Jvm.Cond.laysFinal "FormulaVoice$Letter" "FormulaVoice$Node" "number" "I") ∈ lw_all := lw_g (lw_at lw_m1 82 rfl) rfl
theorem q148 : (Jvm.Cond.laysFinal "FormulaVoice$Letter" "FormulaVoice$Node" "kind" "I") ∈ lw_all := lw_g (lw_at lw_m1 84 rfl) rfl
theorem q150 : (Jvm.Cond.laysFinal "FormulaVoice$Letter" "FormulaVoice$Node" "size" "I") ∈ lw_all := lw_g (lw_at lw_m1 86 rfl) rfl
theorem q152 : (Jvm.Cond.laysFinal "FormulaVoice$Letter" "FormulaVoice$Node" "depth" "I") ∈ lw_all := lw_g (lw_at lw_m1 88 rfl) rfl
theorem q154 : (Jvm.Cond.superclass "FormulaVoice$Letter" "FormulaVoice$Node") ∈ lw_all := lw_g (lw_at lw_m1 90 rfl) rfl
theorem q284 : (Jvm.Cond.selects "FormulaVoice$Letter" ({ cls := "java/lang/Object", name := "getClass", desc := "()Ljava/lang/Class;" } : Jvm.MethodName) ({ cls := "java/lang/Object", name := "getClass", desc := "()Ljava/lang/Class;" } : Jvm.MethodName)) ∈ lw_all := lw_g (lw_at lw_m1 220 rfl) rfl
theorem q367 : (Jvm.Cond.instanceMethod ({ cls := "FormulaVoice$Letter", name := "v", desc := "()I" } : Jvm.MethodName)) ∈ lw_all := lw_g (lw_at lw_m2 63 rfl) rfl
theorem q368 : (Jvm.Cond.code ({ cls := "FormulaVoice$Letter", name := "v", desc := "()I" } : Jvm.MethodName) prog_6_method_2_code (1 : Nat) (Option.some Jvm.ClassFile.FieldType.int)) ∈ lw_all := lw_g (lw_at lw_m2 64 rfl) rfl
theorem q370 : (Jvm.Cond.selects "FormulaVoice$Letter" ({ cls := "FormulaVoice$Node", name := "v", desc := "()I" } : Jvm.MethodName) ({ cls := "FormulaVoice$Letter", name := "v", desc := "()I" } : Jvm.MethodName)) ∈ lw_all := lw_g (lw_at lw_m2 66 rfl) rfl
theorem q383 : (Jvm.Cond.selects "FormulaVoice$Letter" ({ cls := "FormulaVoice$Node", name := "x", desc := "()LFormulaVoice$Node;" } : Jvm.MethodName) ({ cls := "FormulaVoice$Node", name := "x", desc := "()LFormulaVoice$Node;" } : Jvm.MethodName)) ∈ lw_all := lw_g (lw_at lw_m2 79 rfl) rfl
theorem q396 : (Jvm.Cond.selects "FormulaVoice$Letter" ({ cls := "FormulaVoice$Node", name := "y", desc := "()LFormulaVoice$Node;" } : Jvm.MethodName) ({ cls := "FormulaVoice$Node", name := "y", desc := "()LFormulaVoice$Node;" } : Jvm.MethodName)) ∈ lw_all := lw_g (lw_at lw_m2 92 rfl) rfl
theorem q416 : (Jvm.Cond.selects "FormulaVoice$Letter" ({ cls := "FormulaVoice$Node", name := "isRight", desc := "(I)Z" } : Jvm.MethodName) ({ cls := "FormulaVoice$Letter", name := "isRight", desc := "(I)Z" } : Jvm.MethodName)) ∈ lw_all := lw_g (lw_at lw_m2 112 rfl) rfl
theorem q417 : (Jvm.Cond.instanceMethod ({ cls := "FormulaVoice$Letter", name := "isRight", desc := "(I)Z" } : Jvm.MethodName)) ∈ lw_all := lw_g (lw_at lw_m2 113 rfl) rfl
theorem q418 : (Jvm.Cond.code ({ cls := "FormulaVoice$Letter", name := "isRight", desc := "(I)Z" } : Jvm.MethodName) prog_6_method_5_code (2 : Nat) (Option.some Jvm.ClassFile.FieldType.boolean)) ∈ lw_all := lw_g (lw_at lw_m2 114 rfl) rfl
theorem q436 : (Jvm.Cond.selects "FormulaVoice$Letter" ({ cls := "FormulaVoice$Node", name := "isLike", desc := "(LFormulaVoice$Node;)Z" } : Jvm.MethodName) ({ cls := "FormulaVoice$Node", name := "isLike", desc := "(LFormulaVoice$Node;)Z" } : Jvm.MethodName)) ∈ lw_all := lw_g (lw_at lw_m2 132 rfl) rfl
theorem q484 : (Jvm.Cond.selects "FormulaVoice$Letter" ({ cls := "FormulaVoice$Node", name := "says", desc := "(LFormulaVoice$Words;LFormulaVoice$Manner;I)V" } : Jvm.MethodName) ({ cls := "FormulaVoice$Node", name := "says", desc := "(LFormulaVoice$Words;LFormulaVoice$Manner;I)V" } : Jvm.MethodName)) ∈ lw_all := lw_g (lw_at lw_m2 180 rfl) rfl
theorem q498 : (Jvm.Cond.instanceMethod ({ cls := "FormulaVoice$Letter", name := "mayKeep", desc := "()Z" } : Jvm.MethodName)) ∈ lw_all := lw_g (lw_at lw_m2 194 rfl) rfl
theorem q499 : (Jvm.Cond.code ({ cls := "FormulaVoice$Letter", name := "mayKeep", desc := "()Z" } : Jvm.MethodName) prog_6_method_3_code (1 : Nat) (Option.some Jvm.ClassFile.FieldType.boolean)) ∈ lw_all := lw_g (lw_at lw_m2 195 rfl) rfl
theorem q503 : (Jvm.Cond.selects "FormulaVoice$Letter" ({ cls := "FormulaVoice$Node", name := "mayKeep", desc := "()Z" } : Jvm.MethodName) ({ cls := "FormulaVoice$Letter", name := "mayKeep", desc := "()Z" } : Jvm.MethodName)) ∈ lw_all := lw_g (lw_at lw_m2 199 rfl) rfl
theorem q536 : (Jvm.Cond.selects "FormulaVoice$Letter" ({ cls := "FormulaVoice$Node", name := "tells", desc := "(LFormulaVoice$Words;LFormulaVoice$Manner;I)V" } : Jvm.MethodName) ({ cls := "FormulaVoice$Letter", name := "tells", desc := "(LFormulaVoice$Words;LFormulaVoice$Manner;I)V" } : Jvm.MethodName)) ∈ lw_all := lw_g (lw_at lw_m2 232 rfl) rfl
theorem q537 : (Jvm.Cond.instanceMethod ({ cls := "FormulaVoice$Letter", name := "tells", desc := "(LFormulaVoice$Words;LFormulaVoice$Manner;I)V" } : Jvm.MethodName)) ∈ lw_all := lw_g (lw_at lw_m2 233 rfl) rfl
theorem q538 : (Jvm.Cond.code ({ cls := "FormulaVoice$Letter", name := "tells", desc := "(LFormulaVoice$Words;LFormulaVoice$Manner;I)V" } : Jvm.MethodName) prog_6_method_4_code (4 : Nat) (Option.none : Option Jvm.ClassFile.FieldType)) ∈ lw_all := lw_g (lw_at lw_m2 234 rfl) rfl
theorem q539 : (Jvm.Cond.methodLink "FormulaVoice$Letter" (13 : Nat) ({ cls := "FormulaVoice$Words", name := "say", desc := "(I)V" } : Jvm.MethodName)) ∈ lw_all := lw_g (lw_at lw_m2 235 rfl) rfl
theorem q1076 : (Jvm.Cond.sameMethod "FormulaVoice$Letter" "FormulaVoice$Node" "weight" "()I") ∈ lw_all := lw_g (lw_at lw_m5 52 rfl) rfl
theorem q1081 : (Jvm.Cond.selects "FormulaVoice$Letter" ({ cls := "FormulaVoice$Node", name := "weight", desc := "()I" } : Jvm.MethodName) ({ cls := "FormulaVoice$Node", name := "weight", desc := "()I" } : Jvm.MethodName)) ∈ lw_all := lw_g (lw_at lw_m5 57 rfl) rfl
theorem q1121 : (Jvm.Cond.instanceMethod ({ cls := "FormulaVoice$Letter", name := "failure", desc := "()LFormulaVoice$Tossed;" } : Jvm.MethodName)) ∈ lw_all := lw_g (lw_at lw_m5 97 rfl) rfl
theorem q1122 : (Jvm.Cond.code ({ cls := "FormulaVoice$Letter", name := "failure", desc := "()LFormulaVoice$Tossed;" } : Jvm.MethodName) prog_6_method_6_code (1 : Nat) (Option.some (Jvm.ClassFile.FieldType.object "FormulaVoice$Tossed"))) ∈ lw_all := lw_g (lw_at lw_m5 98 rfl) rfl
theorem q1123 : (Jvm.Cond.classLink "FormulaVoice$Letter" (19 : Nat) "FormulaVoice$Tossed") ∈ lw_all := lw_g (lw_at lw_m5 99 rfl) rfl
theorem q1124 : (Jvm.Cond.methodLink "FormulaVoice$Letter" (21 : Nat) ({ cls := "FormulaVoice$Tossed", name := "<init>", desc := "(I)V" } : Jvm.MethodName)) ∈ lw_all := lw_g (lw_at lw_m5 100 rfl) rfl
theorem q1126 : (Jvm.Cond.selects "FormulaVoice$Letter" ({ cls := "FormulaVoice$Node", name := "failure", desc := "()LFormulaVoice$Tossed;" } : Jvm.MethodName) ({ cls := "FormulaVoice$Letter", name := "failure", desc := "()LFormulaVoice$Tossed;" } : Jvm.MethodName)) ∈ lw_all := lw_g (lw_at lw_m5 102 rfl) rfl
theorem q1636 : (Jvm.Cond.castable "FormulaVoice$Letter" "FormulaVoice$Node") ∈ lw_tbl := lw_at lw_m7 132 rfl
theorem q1648 : (Jvm.Cond.castable "FormulaVoice$Letter" "java/lang/Object") ∈ lw_tbl := lw_at lw_m7 144 rfl
theorem in_X8 : ∀ w ∈ wsX80, w ∈ lw_all := lw_in wsX80 [146, 148, 150, 152, 144] (by decide +kernel) (by decide +kernel)
def RX9 : String := "FormulaVoice$Digits"
def TX9 : u_T := fun k => match k with
  | 0 => ("FormulaVoice$Node", "number", "I", true)
  | 1 => ("FormulaVoice$Node", "kind", "I", true)
  | 2 => ("FormulaVoice$Node", "size", "I", true)
  | 3 => ("FormulaVoice$Node", "depth", "I", true)
  | _ => ("FormulaVoice$Letter", "v", "I", true)
def tyX9 : Nat → FieldType := fun k => match k with
  | 0 => .int
  | 1 => .int
  | 2 => .int
  | 3 => .int
  | _ => .int
abbrev wsX90 : List Cond := u_ws RX9 TX9 5
theorem nmX9 : ∀ a, a < 5 → ∀ b, b < 5 → a ≠ b → (TX9 a).2.1 ≠ (TX9 b).2.1 := by decide +kernel
theorem tyX9_ok : ∀ k, k < 5 → parseFieldDescriptor (TX9 k).2.2.1 = some (tyX9 k) := by decide +kernel
abbrev cX9_init : ByteArray := prog_3_method_1_code
def yX9_init : MethodName := ⟨RX9, "<init>", "(II)V"⟩
abbrev cX9_isRight : ByteArray := prog_3_method_3_code
def yX9_isRight : MethodName := ⟨RX9, "isRight", "(I)Z"⟩
abbrev cX9_tells : ByteArray := prog_3_method_2_code
def yX9_tells : MethodName := ⟨RX9, "tells", "(LFormulaVoice$Words;LFormulaVoice$Manner;I)V"⟩
abbrev cX9_weight : ByteArray := prog_3_method_4_code
def yX9_weight : MethodName := ⟨RX9, "weight", "()I"⟩
theorem q79 : (Jvm.Cond.initialized "FormulaVoice$Digits") ∈ lw_all := lw_g (lw_at lw_m1 15 rfl) rfl
theorem q128 : (Jvm.Cond.fieldLink "FormulaVoice$Digits" (9 : Nat) "FormulaVoice$Digits" "v" "I") ∈ lw_all := lw_g (lw_at lw_m1 64 rfl) rfl
theorem q129 : (Jvm.Cond.sameField "FormulaVoice$Digits" "FormulaVoice$Letter" "v" "I") ∈ lw_all := lw_g (lw_at lw_m1 65 rfl) rfl
theorem q156 : (Jvm.Cond.instantiable "FormulaVoice$Digits" (5 : Nat)) ∈ lw_all := lw_g (lw_at lw_m1 92 rfl) rfl
theorem q158 : (Jvm.Cond.instanceMethod ({ cls := "FormulaVoice$Digits", name := "<init>", desc := "(II)V" } : Jvm.MethodName)) ∈ lw_all := lw_g (lw_at lw_m1 94 rfl) rfl
theorem q159 : (Jvm.Cond.code ({ cls := "FormulaVoice$Digits", name := "<init>", desc := "(II)V" } : Jvm.MethodName) prog_3_method_1_code (3 : Nat) (Option.none : Option Jvm.ClassFile.FieldType)) ∈ lw_all := lw_g (lw_at lw_m1 95 rfl) rfl
theorem q160 : (Jvm.Cond.methodLink "FormulaVoice$Digits" (3 : Nat) ({ cls := "FormulaVoice$Letter", name := "<init>", desc := "(III)V" } : Jvm.MethodName)) ∈ lw_all := lw_g (lw_at lw_m1 96 rfl) rfl
theorem q161 : (Jvm.Cond.laysFinal "FormulaVoice$Digits" "FormulaVoice$Letter" "v" "I") ∈ lw_all := lw_g (lw_at lw_m1 97 rfl) rfl
theorem q162 : (Jvm.Cond.laysFinal "FormulaVoice$Digits" "FormulaVoice$Node" "number" "I") ∈ lw_all := lw_g (lw_at lw_m1 98 rfl) rfl
theorem q163 : (Jvm.Cond.laysFinal "FormulaVoice$Digits" "FormulaVoice$Node" "kind" "I") ∈ lw_all := lw_g (lw_at lw_m1 99 rfl) rfl
theorem q164 : (Jvm.Cond.laysFinal "FormulaVoice$Digits" "FormulaVoice$Node" "size" "I") ∈ lw_all := lw_g (lw_at lw_m1 100 rfl) rfl
theorem q165 : (Jvm.Cond.laysFinal "FormulaVoice$Digits" "FormulaVoice$Node" "depth" "I") ∈ lw_all := lw_g (lw_at lw_m1 101 rfl) rfl
theorem q166 : (Jvm.Cond.superclass "FormulaVoice$Digits" "FormulaVoice$Letter") ∈ lw_all := lw_g (lw_at lw_m1 102 rfl) rfl
theorem q281 : (Jvm.Cond.selects "FormulaVoice$Digits" ({ cls := "java/lang/Object", name := "getClass", desc := "()Ljava/lang/Class;" } : Jvm.MethodName) ({ cls := "java/lang/Object", name := "getClass", desc := "()Ljava/lang/Class;" } : Jvm.MethodName)) ∈ lw_all := lw_g (lw_at lw_m1 217 rfl) rfl
theorem q366 : (Jvm.Cond.selects "FormulaVoice$Digits" ({ cls := "FormulaVoice$Node", name := "v", desc := "()I" } : Jvm.MethodName) ({ cls := "FormulaVoice$Letter", name := "v", desc := "()I" } : Jvm.MethodName)) ∈ lw_all := lw_g (lw_at lw_m2 62 rfl) rfl
theorem q381 : (Jvm.Cond.selects "FormulaVoice$Digits" ({ cls := "FormulaVoice$Node", name := "x", desc := "()LFormulaVoice$Node;" } : Jvm.MethodName) ({ cls := "FormulaVoice$Node", name := "x", desc := "()LFormulaVoice$Node;" } : Jvm.MethodName)) ∈ lw_all := lw_g (lw_at lw_m2 77 rfl) rfl
theorem q394 : (Jvm.Cond.selects "FormulaVoice$Digits" ({ cls := "FormulaVoice$Node", name := "y", desc := "()LFormulaVoice$Node;" } : Jvm.MethodName) ({ cls := "FormulaVoice$Node", name := "y", desc := "()LFormulaVoice$Node;" } : Jvm.MethodName)) ∈ lw_all := lw_g (lw_at lw_m2 90 rfl) rfl
theorem q412 : (Jvm.Cond.selects "FormulaVoice$Digits" ({ cls := "FormulaVoice$Node", name := "isRight", desc := "(I)Z" } : Jvm.MethodName) ({ cls := "FormulaVoice$Digits", name := "isRight", desc := "(I)Z" } : Jvm.MethodName)) ∈ lw_all := lw_g (lw_at lw_m2 108 rfl) rfl
theorem q413 : (Jvm.Cond.instanceMethod ({ cls := "FormulaVoice$Digits", name := "isRight", desc := "(I)Z" } : Jvm.MethodName)) ∈ lw_all := lw_g (lw_at lw_m2 109 rfl) rfl
theorem q414 : (Jvm.Cond.code ({ cls := "FormulaVoice$Digits", name := "isRight", desc := "(I)Z" } : Jvm.MethodName) prog_3_method_3_code (2 : Nat) (Option.some Jvm.ClassFile.FieldType.boolean)) ∈ lw_all := lw_g (lw_at lw_m2 110 rfl) rfl
theorem q434 : (Jvm.Cond.selects "FormulaVoice$Digits" ({ cls := "FormulaVoice$Node", name := "isLike", desc := "(LFormulaVoice$Node;)Z" } : Jvm.MethodName) ({ cls := "FormulaVoice$Node", name := "isLike", desc := "(LFormulaVoice$Node;)Z" } : Jvm.MethodName)) ∈ lw_all := lw_g (lw_at lw_m2 130 rfl) rfl
theorem q482 : (Jvm.Cond.selects "FormulaVoice$Digits" ({ cls := "FormulaVoice$Node", name := "says", desc := "(LFormulaVoice$Words;LFormulaVoice$Manner;I)V" } : Jvm.MethodName) ({ cls := "FormulaVoice$Node", name := "says", desc := "(LFormulaVoice$Words;LFormulaVoice$Manner;I)V" } : Jvm.MethodName)) ∈ lw_all := lw_g (lw_at lw_m2 178 rfl) rfl
theorem q497 : (Jvm.Cond.selects "FormulaVoice$Digits" ({ cls := "FormulaVoice$Node", name := "mayKeep", desc := "()Z" } : Jvm.MethodName) ({ cls := "FormulaVoice$Letter", name := "mayKeep", desc := "()Z" } : Jvm.MethodName)) ∈ lw_all := lw_g (lw_at lw_m2 193 rfl) rfl
theorem q524 : (Jvm.Cond.selects "FormulaVoice$Digits" ({ cls := "FormulaVoice$Node", name := "tells", desc := "(LFormulaVoice$Words;LFormulaVoice$Manner;I)V" } : Jvm.MethodName) ({ cls := "FormulaVoice$Digits", name := "tells", desc := "(LFormulaVoice$Words;LFormulaVoice$Manner;I)V" } : Jvm.MethodName)) ∈ lw_all := lw_g (lw_at lw_m2 220 rfl) rfl
theorem q525 : (Jvm.Cond.instanceMethod ({ cls := "FormulaVoice$Digits", name := "tells", desc := "(LFormulaVoice$Words;LFormulaVoice$Manner;I)V" } : Jvm.MethodName)) ∈ lw_all := lw_g (lw_at lw_m2 221 rfl) rfl
theorem q526 : (Jvm.Cond.code ({ cls := "FormulaVoice$Digits", name := "tells", desc := "(LFormulaVoice$Words;LFormulaVoice$Manner;I)V" } : Jvm.MethodName) prog_3_method_2_code (5 : Nat) (Option.none : Option Jvm.ClassFile.FieldType)) ∈ lw_all := lw_g (lw_at lw_m2 222 rfl) rfl
theorem q527 : (Jvm.Cond.methodLink "FormulaVoice$Digits" (15 : Nat) ({ cls := "FormulaVoice$Words", name := "say", desc := "(I)V" } : Jvm.MethodName)) ∈ lw_all := lw_g (lw_at lw_m2 223 rfl) rfl
theorem q1072 : (Jvm.Cond.selects "FormulaVoice$Digits" ({ cls := "FormulaVoice$Node", name := "weight", desc := "()I" } : Jvm.MethodName) ({ cls := "FormulaVoice$Digits", name := "weight", desc := "()I" } : Jvm.MethodName)) ∈ lw_all := lw_g (lw_at lw_m5 48 rfl) rfl
theorem q1073 : (Jvm.Cond.instanceMethod ({ cls := "FormulaVoice$Digits", name := "weight", desc := "()I" } : Jvm.MethodName)) ∈ lw_all := lw_g (lw_at lw_m5 49 rfl) rfl
theorem q1074 : (Jvm.Cond.code ({ cls := "FormulaVoice$Digits", name := "weight", desc := "()I" } : Jvm.MethodName) prog_3_method_4_code (1 : Nat) (Option.some Jvm.ClassFile.FieldType.int)) ∈ lw_all := lw_g (lw_at lw_m5 50 rfl) rfl
theorem q1075 : (Jvm.Cond.methodLink "FormulaVoice$Digits" (21 : Nat) ({ cls := "FormulaVoice$Letter", name := "weight", desc := "()I" } : Jvm.MethodName)) ∈ lw_all := lw_g (lw_at lw_m5 51 rfl) rfl
theorem q1120 : (Jvm.Cond.selects "FormulaVoice$Digits" ({ cls := "FormulaVoice$Node", name := "failure", desc := "()LFormulaVoice$Tossed;" } : Jvm.MethodName) ({ cls := "FormulaVoice$Letter", name := "failure", desc := "()LFormulaVoice$Tossed;" } : Jvm.MethodName)) ∈ lw_all := lw_g (lw_at lw_m5 96 rfl) rfl
theorem q1634 : (Jvm.Cond.castable "FormulaVoice$Digits" "FormulaVoice$Node") ∈ lw_tbl := lw_at lw_m7 130 rfl
theorem q1649 : (Jvm.Cond.castable "FormulaVoice$Digits" "java/lang/Object") ∈ lw_tbl := lw_at lw_m7 145 rfl
theorem in_X9 : ∀ w ∈ wsX90, w ∈ lw_all := lw_in wsX90 [162, 163, 164, 165, 161] (by decide +kernel) (by decide +kernel)
def RX10 : String := "FormulaVoice$Two"
def TX10 : u_T := fun k => match k with
  | 0 => ("FormulaVoice$Node", "number", "I", true)
  | 1 => ("FormulaVoice$Node", "kind", "I", true)
  | 2 => ("FormulaVoice$Node", "size", "I", true)
  | 3 => ("FormulaVoice$Node", "depth", "I", true)
  | 4 => ("FormulaVoice$Two", "x", "LFormulaVoice$Node;", true)
  | _ => ("FormulaVoice$Two", "y", "LFormulaVoice$Node;", true)
def tyX10 : Nat → FieldType := fun k => match k with
  | 0 => .int
  | 1 => .int
  | 2 => .int
  | 3 => .int
  | 4 => .object "FormulaVoice$Node"
  | _ => .object "FormulaVoice$Node"
abbrev wsX100 : List Cond := u_ws RX10 TX10 6
theorem nmX10 : ∀ a, a < 6 → ∀ b, b < 6 → a ≠ b → (TX10 a).2.1 ≠ (TX10 b).2.1 := by decide +kernel
theorem tyX10_ok : ∀ k, k < 6 → parseFieldDescriptor (TX10 k).2.2.1 = some (tyX10 k) := by decide +kernel
abbrev cX10_init : ByteArray := prog_13_method_1_code
def yX10_init : MethodName := ⟨RX10, "<init>", "(IILFormulaVoice$Node;LFormulaVoice$Node;)V"⟩
abbrev cX10_x : ByteArray := prog_13_method_2_code
def yX10_x : MethodName := ⟨RX10, "x", "()LFormulaVoice$Node;"⟩
abbrev cX10_y : ByteArray := prog_13_method_3_code
def yX10_y : MethodName := ⟨RX10, "y", "()LFormulaVoice$Node;"⟩
abbrev cX10_tells : ByteArray := prog_13_method_4_code
def yX10_tells : MethodName := ⟨RX10, "tells", "(LFormulaVoice$Words;LFormulaVoice$Manner;I)V"⟩
theorem q80 : (Jvm.Cond.initialized "FormulaVoice$Two") ∈ lw_all := lw_g (lw_at lw_m1 16 rfl) rfl
theorem q133 : (Jvm.Cond.fieldLink "FormulaVoice$Two" (35 : Nat) "FormulaVoice$Two" "kind" "I") ∈ lw_all := lw_g (lw_at lw_m1 69 rfl) rfl
theorem q134 : (Jvm.Cond.sameField "FormulaVoice$Two" "FormulaVoice$Node" "kind" "I") ∈ lw_all := lw_g (lw_at lw_m1 70 rfl) rfl
theorem q136 : (Jvm.Cond.fieldLink "FormulaVoice$Two" (3 : Nat) "FormulaVoice$Node" "size" "I") ∈ lw_all := lw_g (lw_at lw_m1 72 rfl) rfl
theorem q141 : (Jvm.Cond.fieldLink "FormulaVoice$Two" (9 : Nat) "FormulaVoice$Node" "depth" "I") ∈ lw_all := lw_g (lw_at lw_m1 77 rfl) rfl
theorem q168 : (Jvm.Cond.instantiable "FormulaVoice$Two" (6 : Nat)) ∈ lw_all := lw_g (lw_at lw_m1 104 rfl) rfl
theorem q170 : (Jvm.Cond.instanceMethod ({ cls := "FormulaVoice$Two", name := "<init>", desc := "(IILFormulaVoice$Node;LFormulaVoice$Node;)V" } : Jvm.MethodName)) ∈ lw_all := lw_g (lw_at lw_m1 106 rfl) rfl
theorem q171 : (Jvm.Cond.code ({ cls := "FormulaVoice$Two", name := "<init>", desc := "(IILFormulaVoice$Node;LFormulaVoice$Node;)V" } : Jvm.MethodName) prog_13_method_1_code (5 : Nat) (Option.none : Option Jvm.ClassFile.FieldType)) ∈ lw_all := lw_g (lw_at lw_m1 107 rfl) rfl
theorem q172 : (Jvm.Cond.methodLink "FormulaVoice$Two" (12 : Nat) ({ cls := "java/lang/Math", name := "max", desc := "(II)I" } : Jvm.MethodName)) ∈ lw_all := lw_g (lw_at lw_m1 108 rfl) rfl
theorem q175 : (Jvm.Cond.methodLink "FormulaVoice$Two" (18 : Nat) ({ cls := "FormulaVoice$Node", name := "<init>", desc := "(IIII)V" } : Jvm.MethodName)) ∈ lw_all := lw_g (lw_at lw_m1 111 rfl) rfl
theorem q176 : (Jvm.Cond.fieldLink "FormulaVoice$Two" (22 : Nat) "FormulaVoice$Two" "x" "LFormulaVoice$Node;") ∈ lw_all := lw_g (lw_at lw_m1 112 rfl) rfl
theorem q177 : (Jvm.Cond.fieldLink "FormulaVoice$Two" (28 : Nat) "FormulaVoice$Two" "y" "LFormulaVoice$Node;") ∈ lw_all := lw_g (lw_at lw_m1 113 rfl) rfl
theorem q178 : (Jvm.Cond.laysFinal "FormulaVoice$Two" "FormulaVoice$Two" "x" "LFormulaVoice$Node;") ∈ lw_all := lw_g (lw_at lw_m1 114 rfl) rfl
theorem q179 : (Jvm.Cond.soleField "FormulaVoice$Two" "x") ∈ lw_all := lw_g (lw_at lw_m1 115 rfl) rfl
theorem q180 : (Jvm.Cond.laysFinal "FormulaVoice$Two" "FormulaVoice$Two" "y" "LFormulaVoice$Node;") ∈ lw_all := lw_g (lw_at lw_m1 116 rfl) rfl
theorem q181 : (Jvm.Cond.soleField "FormulaVoice$Two" "y") ∈ lw_all := lw_g (lw_at lw_m1 117 rfl) rfl
theorem q182 : (Jvm.Cond.laysFinal "FormulaVoice$Two" "FormulaVoice$Node" "number" "I") ∈ lw_all := lw_g (lw_at lw_m1 118 rfl) rfl
theorem q183 : (Jvm.Cond.laysFinal "FormulaVoice$Two" "FormulaVoice$Node" "kind" "I") ∈ lw_all := lw_g (lw_at lw_m1 119 rfl) rfl
theorem q184 : (Jvm.Cond.laysFinal "FormulaVoice$Two" "FormulaVoice$Node" "size" "I") ∈ lw_all := lw_g (lw_at lw_m1 120 rfl) rfl
theorem q185 : (Jvm.Cond.laysFinal "FormulaVoice$Two" "FormulaVoice$Node" "depth" "I") ∈ lw_all := lw_g (lw_at lw_m1 121 rfl) rfl
theorem q186 : (Jvm.Cond.superclass "FormulaVoice$Two" "FormulaVoice$Node") ∈ lw_all := lw_g (lw_at lw_m1 122 rfl) rfl
theorem q290 : (Jvm.Cond.selects "FormulaVoice$Two" ({ cls := "java/lang/Object", name := "getClass", desc := "()Ljava/lang/Class;" } : Jvm.MethodName) ({ cls := "java/lang/Object", name := "getClass", desc := "()Ljava/lang/Class;" } : Jvm.MethodName)) ∈ lw_all := lw_g (lw_at lw_m1 226 rfl) rfl
theorem q373 : (Jvm.Cond.selects "FormulaVoice$Two" ({ cls := "FormulaVoice$Node", name := "v", desc := "()I" } : Jvm.MethodName) ({ cls := "FormulaVoice$Node", name := "v", desc := "()I" } : Jvm.MethodName)) ∈ lw_all := lw_g (lw_at lw_m2 69 rfl) rfl
theorem q386 : (Jvm.Cond.instanceMethod ({ cls := "FormulaVoice$Two", name := "x", desc := "()LFormulaVoice$Node;" } : Jvm.MethodName)) ∈ lw_all := lw_g (lw_at lw_m2 82 rfl) rfl
theorem q387 : (Jvm.Cond.code ({ cls := "FormulaVoice$Two", name := "x", desc := "()LFormulaVoice$Node;" } : Jvm.MethodName) prog_13_method_2_code (1 : Nat) (Option.some (Jvm.ClassFile.FieldType.object "FormulaVoice$Node"))) ∈ lw_all := lw_g (lw_at lw_m2 83 rfl) rfl
theorem q388 : (Jvm.Cond.selects "FormulaVoice$Two" ({ cls := "FormulaVoice$Node", name := "x", desc := "()LFormulaVoice$Node;" } : Jvm.MethodName) ({ cls := "FormulaVoice$Two", name := "x", desc := "()LFormulaVoice$Node;" } : Jvm.MethodName)) ∈ lw_all := lw_g (lw_at lw_m2 84 rfl) rfl
theorem q399 : (Jvm.Cond.instanceMethod ({ cls := "FormulaVoice$Two", name := "y", desc := "()LFormulaVoice$Node;" } : Jvm.MethodName)) ∈ lw_all := lw_g (lw_at lw_m2 95 rfl) rfl
theorem q400 : (Jvm.Cond.code ({ cls := "FormulaVoice$Two", name := "y", desc := "()LFormulaVoice$Node;" } : Jvm.MethodName) prog_13_method_3_code (1 : Nat) (Option.some (Jvm.ClassFile.FieldType.object "FormulaVoice$Node"))) ∈ lw_all := lw_g (lw_at lw_m2 96 rfl) rfl
theorem q401 : (Jvm.Cond.selects "FormulaVoice$Two" ({ cls := "FormulaVoice$Node", name := "y", desc := "()LFormulaVoice$Node;" } : Jvm.MethodName) ({ cls := "FormulaVoice$Two", name := "y", desc := "()LFormulaVoice$Node;" } : Jvm.MethodName)) ∈ lw_all := lw_g (lw_at lw_m2 97 rfl) rfl
theorem q421 : (Jvm.Cond.selects "FormulaVoice$Two" ({ cls := "FormulaVoice$Node", name := "isRight", desc := "(I)Z" } : Jvm.MethodName) ({ cls := "FormulaVoice$Node", name := "isRight", desc := "(I)Z" } : Jvm.MethodName)) ∈ lw_all := lw_g (lw_at lw_m2 117 rfl) rfl
theorem q439 : (Jvm.Cond.selects "FormulaVoice$Two" ({ cls := "FormulaVoice$Node", name := "isLike", desc := "(LFormulaVoice$Node;)Z" } : Jvm.MethodName) ({ cls := "FormulaVoice$Node", name := "isLike", desc := "(LFormulaVoice$Node;)Z" } : Jvm.MethodName)) ∈ lw_all := lw_g (lw_at lw_m2 135 rfl) rfl
theorem q487 : (Jvm.Cond.selects "FormulaVoice$Two" ({ cls := "FormulaVoice$Node", name := "says", desc := "(LFormulaVoice$Words;LFormulaVoice$Manner;I)V" } : Jvm.MethodName) ({ cls := "FormulaVoice$Node", name := "says", desc := "(LFormulaVoice$Words;LFormulaVoice$Manner;I)V" } : Jvm.MethodName)) ∈ lw_all := lw_g (lw_at lw_m2 183 rfl) rfl
theorem q506 : (Jvm.Cond.selects "FormulaVoice$Two" ({ cls := "FormulaVoice$Node", name := "mayKeep", desc := "()Z" } : Jvm.MethodName) ({ cls := "FormulaVoice$Node", name := "mayKeep", desc := "()Z" } : Jvm.MethodName)) ∈ lw_all := lw_g (lw_at lw_m2 202 rfl) rfl
theorem q546 : (Jvm.Cond.instanceMethod ({ cls := "FormulaVoice$Two", name := "tells", desc := "(LFormulaVoice$Words;LFormulaVoice$Manner;I)V" } : Jvm.MethodName)) ∈ lw_all := lw_g (lw_at lw_m3 2 rfl) rfl
theorem q547 : (Jvm.Cond.code ({ cls := "FormulaVoice$Two", name := "tells", desc := "(LFormulaVoice$Words;LFormulaVoice$Manner;I)V" } : Jvm.MethodName) prog_13_method_4_code (4 : Nat) (Option.none : Option Jvm.ClassFile.FieldType)) ∈ lw_all := lw_g (lw_at lw_m3 3 rfl) rfl
theorem q548 : (Jvm.Cond.methodLink "FormulaVoice$Two" (31 : Nat) ({ cls := "FormulaVoice$Node", name := "says", desc := "(LFormulaVoice$Words;LFormulaVoice$Manner;I)V" } : Jvm.MethodName)) ∈ lw_all := lw_g (lw_at lw_m3 4 rfl) rfl
theorem q549 : (Jvm.Cond.methodLink "FormulaVoice$Two" (38 : Nat) ({ cls := "FormulaVoice$Words", name := "say", desc := "(I)V" } : Jvm.MethodName)) ∈ lw_all := lw_g (lw_at lw_m3 5 rfl) rfl
theorem q550 : (Jvm.Cond.selects "FormulaVoice$Two" ({ cls := "FormulaVoice$Node", name := "tells", desc := "(LFormulaVoice$Words;LFormulaVoice$Manner;I)V" } : Jvm.MethodName) ({ cls := "FormulaVoice$Two", name := "tells", desc := "(LFormulaVoice$Words;LFormulaVoice$Manner;I)V" } : Jvm.MethodName)) ∈ lw_all := lw_g (lw_at lw_m3 6 rfl) rfl
theorem q1087 : (Jvm.Cond.sameMethod "FormulaVoice$Two" "FormulaVoice$Node" "weight" "()I") ∈ lw_all := lw_g (lw_at lw_m5 63 rfl) rfl
theorem q1088 : (Jvm.Cond.selects "FormulaVoice$Two" ({ cls := "FormulaVoice$Node", name := "weight", desc := "()I" } : Jvm.MethodName) ({ cls := "FormulaVoice$Node", name := "weight", desc := "()I" } : Jvm.MethodName)) ∈ lw_all := lw_g (lw_at lw_m5 64 rfl) rfl
theorem q1129 : (Jvm.Cond.selects "FormulaVoice$Two" ({ cls := "FormulaVoice$Node", name := "failure", desc := "()LFormulaVoice$Tossed;" } : Jvm.MethodName) ({ cls := "FormulaVoice$Node", name := "failure", desc := "()LFormulaVoice$Tossed;" } : Jvm.MethodName)) ∈ lw_all := lw_g (lw_at lw_m5 105 rfl) rfl
theorem q1639 : (Jvm.Cond.castable "FormulaVoice$Two" "FormulaVoice$Node") ∈ lw_tbl := lw_at lw_m7 135 rfl
theorem q1650 : (Jvm.Cond.castable "FormulaVoice$Two" "java/lang/Object") ∈ lw_tbl := lw_at lw_m7 146 rfl
theorem in_X10 : ∀ w ∈ wsX100, w ∈ lw_all := lw_in wsX100 [182, 183, 184, 185, 178, 180] (by decide +kernel) (by decide +kernel)
def RX11 : String := "FormulaVoice$Script"
def TX11 : u_T := fun k => match k with
  | 0 => ("FormulaVoice$Node", "number", "I", true)
  | 1 => ("FormulaVoice$Node", "kind", "I", true)
  | 2 => ("FormulaVoice$Node", "size", "I", true)
  | 3 => ("FormulaVoice$Node", "depth", "I", true)
  | 4 => ("FormulaVoice$Two", "x", "LFormulaVoice$Node;", true)
  | _ => ("FormulaVoice$Two", "y", "LFormulaVoice$Node;", true)
def tyX11 : Nat → FieldType := fun k => match k with
  | 0 => .int
  | 1 => .int
  | 2 => .int
  | 3 => .int
  | 4 => .object "FormulaVoice$Node"
  | _ => .object "FormulaVoice$Node"
abbrev wsX110 : List Cond := u_ws RX11 TX11 6
theorem nmX11 : ∀ a, a < 6 → ∀ b, b < 6 → a ≠ b → (TX11 a).2.1 ≠ (TX11 b).2.1 := by decide +kernel
theorem tyX11_ok : ∀ k, k < 6 → parseFieldDescriptor (TX11 k).2.2.1 = some (tyX11 k) := by decide +kernel
abbrev cX11_init : ByteArray := prog_10_method_1_code
def yX11_init : MethodName := ⟨RX11, "<init>", "(IILFormulaVoice$Node;LFormulaVoice$Node;)V"⟩
abbrev cX11_weight : ByteArray := prog_10_method_2_code
def yX11_weight : MethodName := ⟨RX11, "weight", "()I"⟩
theorem q82 : (Jvm.Cond.initialized "FormulaVoice$Script") ∈ lw_all := lw_g (lw_at lw_m1 18 rfl) rfl
theorem q188 : (Jvm.Cond.instantiable "FormulaVoice$Script" (6 : Nat)) ∈ lw_all := lw_g (lw_at lw_m1 124 rfl) rfl
theorem q190 : (Jvm.Cond.instanceMethod ({ cls := "FormulaVoice$Script", name := "<init>", desc := "(IILFormulaVoice$Node;LFormulaVoice$Node;)V" } : Jvm.MethodName)) ∈ lw_all := lw_g (lw_at lw_m1 126 rfl) rfl
theorem q191 : (Jvm.Cond.code ({ cls := "FormulaVoice$Script", name := "<init>", desc := "(IILFormulaVoice$Node;LFormulaVoice$Node;)V" } : Jvm.MethodName) prog_10_method_1_code (5 : Nat) (Option.none : Option Jvm.ClassFile.FieldType)) ∈ lw_all := lw_g (lw_at lw_m1 127 rfl) rfl
theorem q192 : (Jvm.Cond.methodLink "FormulaVoice$Script" (1 : Nat) ({ cls := "FormulaVoice$Two", name := "<init>", desc := "(IILFormulaVoice$Node;LFormulaVoice$Node;)V" } : Jvm.MethodName)) ∈ lw_all := lw_g (lw_at lw_m1 128 rfl) rfl
theorem q193 : (Jvm.Cond.laysFinal "FormulaVoice$Script" "FormulaVoice$Two" "x" "LFormulaVoice$Node;") ∈ lw_all := lw_g (lw_at lw_m1 129 rfl) rfl
theorem q194 : (Jvm.Cond.laysFinal "FormulaVoice$Script" "FormulaVoice$Two" "y" "LFormulaVoice$Node;") ∈ lw_all := lw_g (lw_at lw_m1 130 rfl) rfl
theorem q195 : (Jvm.Cond.laysFinal "FormulaVoice$Script" "FormulaVoice$Node" "number" "I") ∈ lw_all := lw_g (lw_at lw_m1 131 rfl) rfl
theorem q196 : (Jvm.Cond.laysFinal "FormulaVoice$Script" "FormulaVoice$Node" "kind" "I") ∈ lw_all := lw_g (lw_at lw_m1 132 rfl) rfl
theorem q197 : (Jvm.Cond.laysFinal "FormulaVoice$Script" "FormulaVoice$Node" "size" "I") ∈ lw_all := lw_g (lw_at lw_m1 133 rfl) rfl
theorem q198 : (Jvm.Cond.laysFinal "FormulaVoice$Script" "FormulaVoice$Node" "depth" "I") ∈ lw_all := lw_g (lw_at lw_m1 134 rfl) rfl
theorem q199 : (Jvm.Cond.superclass "FormulaVoice$Script" "FormulaVoice$Two") ∈ lw_all := lw_g (lw_at lw_m1 135 rfl) rfl
theorem q287 : (Jvm.Cond.selects "FormulaVoice$Script" ({ cls := "java/lang/Object", name := "getClass", desc := "()Ljava/lang/Class;" } : Jvm.MethodName) ({ cls := "java/lang/Object", name := "getClass", desc := "()Ljava/lang/Class;" } : Jvm.MethodName)) ∈ lw_all := lw_g (lw_at lw_m1 223 rfl) rfl
theorem q372 : (Jvm.Cond.selects "FormulaVoice$Script" ({ cls := "FormulaVoice$Node", name := "v", desc := "()I" } : Jvm.MethodName) ({ cls := "FormulaVoice$Node", name := "v", desc := "()I" } : Jvm.MethodName)) ∈ lw_all := lw_g (lw_at lw_m2 68 rfl) rfl
theorem q385 : (Jvm.Cond.selects "FormulaVoice$Script" ({ cls := "FormulaVoice$Node", name := "x", desc := "()LFormulaVoice$Node;" } : Jvm.MethodName) ({ cls := "FormulaVoice$Two", name := "x", desc := "()LFormulaVoice$Node;" } : Jvm.MethodName)) ∈ lw_all := lw_g (lw_at lw_m2 81 rfl) rfl
theorem q398 : (Jvm.Cond.selects "FormulaVoice$Script" ({ cls := "FormulaVoice$Node", name := "y", desc := "()LFormulaVoice$Node;" } : Jvm.MethodName) ({ cls := "FormulaVoice$Two", name := "y", desc := "()LFormulaVoice$Node;" } : Jvm.MethodName)) ∈ lw_all := lw_g (lw_at lw_m2 94 rfl) rfl
theorem q420 : (Jvm.Cond.selects "FormulaVoice$Script" ({ cls := "FormulaVoice$Node", name := "isRight", desc := "(I)Z" } : Jvm.MethodName) ({ cls := "FormulaVoice$Node", name := "isRight", desc := "(I)Z" } : Jvm.MethodName)) ∈ lw_all := lw_g (lw_at lw_m2 116 rfl) rfl
theorem q438 : (Jvm.Cond.selects "FormulaVoice$Script" ({ cls := "FormulaVoice$Node", name := "isLike", desc := "(LFormulaVoice$Node;)Z" } : Jvm.MethodName) ({ cls := "FormulaVoice$Node", name := "isLike", desc := "(LFormulaVoice$Node;)Z" } : Jvm.MethodName)) ∈ lw_all := lw_g (lw_at lw_m2 134 rfl) rfl
theorem q486 : (Jvm.Cond.selects "FormulaVoice$Script" ({ cls := "FormulaVoice$Node", name := "says", desc := "(LFormulaVoice$Words;LFormulaVoice$Manner;I)V" } : Jvm.MethodName) ({ cls := "FormulaVoice$Node", name := "says", desc := "(LFormulaVoice$Words;LFormulaVoice$Manner;I)V" } : Jvm.MethodName)) ∈ lw_all := lw_g (lw_at lw_m2 182 rfl) rfl
theorem q505 : (Jvm.Cond.selects "FormulaVoice$Script" ({ cls := "FormulaVoice$Node", name := "mayKeep", desc := "()Z" } : Jvm.MethodName) ({ cls := "FormulaVoice$Node", name := "mayKeep", desc := "()Z" } : Jvm.MethodName)) ∈ lw_all := lw_g (lw_at lw_m2 201 rfl) rfl
theorem q545 : (Jvm.Cond.selects "FormulaVoice$Script" ({ cls := "FormulaVoice$Node", name := "tells", desc := "(LFormulaVoice$Words;LFormulaVoice$Manner;I)V" } : Jvm.MethodName) ({ cls := "FormulaVoice$Two", name := "tells", desc := "(LFormulaVoice$Words;LFormulaVoice$Manner;I)V" } : Jvm.MethodName)) ∈ lw_all := lw_g (lw_at lw_m3 1 rfl) rfl
theorem q1083 : (Jvm.Cond.selects "FormulaVoice$Script" ({ cls := "FormulaVoice$Node", name := "weight", desc := "()I" } : Jvm.MethodName) ({ cls := "FormulaVoice$Script", name := "weight", desc := "()I" } : Jvm.MethodName)) ∈ lw_all := lw_g (lw_at lw_m5 59 rfl) rfl
theorem q1084 : (Jvm.Cond.instanceMethod ({ cls := "FormulaVoice$Script", name := "weight", desc := "()I" } : Jvm.MethodName)) ∈ lw_all := lw_g (lw_at lw_m5 60 rfl) rfl
theorem q1085 : (Jvm.Cond.code ({ cls := "FormulaVoice$Script", name := "weight", desc := "()I" } : Jvm.MethodName) prog_10_method_2_code (1 : Nat) (Option.some Jvm.ClassFile.FieldType.int)) ∈ lw_all := lw_g (lw_at lw_m5 61 rfl) rfl
theorem q1086 : (Jvm.Cond.methodLink "FormulaVoice$Script" (7 : Nat) ({ cls := "FormulaVoice$Two", name := "weight", desc := "()I" } : Jvm.MethodName)) ∈ lw_all := lw_g (lw_at lw_m5 62 rfl) rfl
theorem q1128 : (Jvm.Cond.selects "FormulaVoice$Script" ({ cls := "FormulaVoice$Node", name := "failure", desc := "()LFormulaVoice$Tossed;" } : Jvm.MethodName) ({ cls := "FormulaVoice$Node", name := "failure", desc := "()LFormulaVoice$Tossed;" } : Jvm.MethodName)) ∈ lw_all := lw_g (lw_at lw_m5 104 rfl) rfl
theorem q1638 : (Jvm.Cond.castable "FormulaVoice$Script" "FormulaVoice$Node") ∈ lw_tbl := lw_at lw_m7 134 rfl
theorem q1651 : (Jvm.Cond.castable "FormulaVoice$Script" "java/lang/Object") ∈ lw_tbl := lw_at lw_m7 147 rfl
theorem in_X11 : ∀ w ∈ wsX110, w ∈ lw_all := lw_in wsX110 [195, 196, 197, 198, 193, 194] (by decide +kernel) (by decide +kernel)
def RX12 : String := "FormulaVoice$Root"
def TX12 : u_T := fun k => match k with
  | 0 => ("FormulaVoice$Node", "number", "I", true)
  | 1 => ("FormulaVoice$Node", "kind", "I", true)
  | 2 => ("FormulaVoice$Node", "size", "I", true)
  | 3 => ("FormulaVoice$Node", "depth", "I", true)
  | _ => ("FormulaVoice$Root", "x", "LFormulaVoice$Node;", true)
def tyX12 : Nat → FieldType := fun k => match k with
  | 0 => .int
  | 1 => .int
  | 2 => .int
  | 3 => .int
  | _ => .object "FormulaVoice$Node"
abbrev wsX120 : List Cond := u_ws RX12 TX12 5
theorem nmX12 : ∀ a, a < 5 → ∀ b, b < 5 → a ≠ b → (TX12 a).2.1 ≠ (TX12 b).2.1 := by decide +kernel
theorem tyX12_ok : ∀ k, k < 5 → parseFieldDescriptor (TX12 k).2.2.1 = some (tyX12 k) := by decide +kernel
abbrev cX12_init : ByteArray := prog_9_method_1_code
def yX12_init : MethodName := ⟨RX12, "<init>", "(IILFormulaVoice$Node;)V"⟩
abbrev cX12_x : ByteArray := prog_9_method_2_code
def yX12_x : MethodName := ⟨RX12, "x", "()LFormulaVoice$Node;"⟩
abbrev cX12_tells : ByteArray := prog_9_method_3_code
def yX12_tells : MethodName := ⟨RX12, "tells", "(LFormulaVoice$Words;LFormulaVoice$Manner;I)V"⟩
theorem q83 : (Jvm.Cond.initialized "FormulaVoice$Root") ∈ lw_all := lw_g (lw_at lw_m1 19 rfl) rfl
theorem q137 : (Jvm.Cond.fieldLink "FormulaVoice$Root" (3 : Nat) "FormulaVoice$Node" "size" "I") ∈ lw_all := lw_g (lw_at lw_m1 73 rfl) rfl
theorem q140 : (Jvm.Cond.fieldLink "FormulaVoice$Root" (9 : Nat) "FormulaVoice$Node" "depth" "I") ∈ lw_all := lw_g (lw_at lw_m1 76 rfl) rfl
theorem q201 : (Jvm.Cond.instantiable "FormulaVoice$Root" (5 : Nat)) ∈ lw_all := lw_g (lw_at lw_m1 137 rfl) rfl
theorem q203 : (Jvm.Cond.instanceMethod ({ cls := "FormulaVoice$Root", name := "<init>", desc := "(IILFormulaVoice$Node;)V" } : Jvm.MethodName)) ∈ lw_all := lw_g (lw_at lw_m1 139 rfl) rfl
theorem q204 : (Jvm.Cond.code ({ cls := "FormulaVoice$Root", name := "<init>", desc := "(IILFormulaVoice$Node;)V" } : Jvm.MethodName) prog_9_method_1_code (4 : Nat) (Option.none : Option Jvm.ClassFile.FieldType)) ∈ lw_all := lw_g (lw_at lw_m1 140 rfl) rfl
theorem q205 : (Jvm.Cond.methodLink "FormulaVoice$Root" (12 : Nat) ({ cls := "FormulaVoice$Node", name := "<init>", desc := "(IIII)V" } : Jvm.MethodName)) ∈ lw_all := lw_g (lw_at lw_m1 141 rfl) rfl
theorem q206 : (Jvm.Cond.fieldLink "FormulaVoice$Root" (16 : Nat) "FormulaVoice$Root" "x" "LFormulaVoice$Node;") ∈ lw_all := lw_g (lw_at lw_m1 142 rfl) rfl
theorem q207 : (Jvm.Cond.laysFinal "FormulaVoice$Root" "FormulaVoice$Root" "x" "LFormulaVoice$Node;") ∈ lw_all := lw_g (lw_at lw_m1 143 rfl) rfl
theorem q208 : (Jvm.Cond.soleField "FormulaVoice$Root" "x") ∈ lw_all := lw_g (lw_at lw_m1 144 rfl) rfl
theorem q209 : (Jvm.Cond.laysFinal "FormulaVoice$Root" "FormulaVoice$Node" "number" "I") ∈ lw_all := lw_g (lw_at lw_m1 145 rfl) rfl
theorem q210 : (Jvm.Cond.laysFinal "FormulaVoice$Root" "FormulaVoice$Node" "kind" "I") ∈ lw_all := lw_g (lw_at lw_m1 146 rfl) rfl
theorem q211 : (Jvm.Cond.laysFinal "FormulaVoice$Root" "FormulaVoice$Node" "size" "I") ∈ lw_all := lw_g (lw_at lw_m1 147 rfl) rfl
theorem q212 : (Jvm.Cond.laysFinal "FormulaVoice$Root" "FormulaVoice$Node" "depth" "I") ∈ lw_all := lw_g (lw_at lw_m1 148 rfl) rfl
theorem q213 : (Jvm.Cond.superclass "FormulaVoice$Root" "FormulaVoice$Node") ∈ lw_all := lw_g (lw_at lw_m1 149 rfl) rfl
theorem q286 : (Jvm.Cond.selects "FormulaVoice$Root" ({ cls := "java/lang/Object", name := "getClass", desc := "()Ljava/lang/Class;" } : Jvm.MethodName) ({ cls := "java/lang/Object", name := "getClass", desc := "()Ljava/lang/Class;" } : Jvm.MethodName)) ∈ lw_all := lw_g (lw_at lw_m1 222 rfl) rfl
theorem q371 : (Jvm.Cond.selects "FormulaVoice$Root" ({ cls := "FormulaVoice$Node", name := "v", desc := "()I" } : Jvm.MethodName) ({ cls := "FormulaVoice$Node", name := "v", desc := "()I" } : Jvm.MethodName)) ∈ lw_all := lw_g (lw_at lw_m2 67 rfl) rfl
theorem q379 : (Jvm.Cond.instanceMethod ({ cls := "FormulaVoice$Root", name := "x", desc := "()LFormulaVoice$Node;" } : Jvm.MethodName)) ∈ lw_all := lw_g (lw_at lw_m2 75 rfl) rfl
theorem q380 : (Jvm.Cond.code ({ cls := "FormulaVoice$Root", name := "x", desc := "()LFormulaVoice$Node;" } : Jvm.MethodName) prog_9_method_2_code (1 : Nat) (Option.some (Jvm.ClassFile.FieldType.object "FormulaVoice$Node"))) ∈ lw_all := lw_g (lw_at lw_m2 76 rfl) rfl
theorem q384 : (Jvm.Cond.selects "FormulaVoice$Root" ({ cls := "FormulaVoice$Node", name := "x", desc := "()LFormulaVoice$Node;" } : Jvm.MethodName) ({ cls := "FormulaVoice$Root", name := "x", desc := "()LFormulaVoice$Node;" } : Jvm.MethodName)) ∈ lw_all := lw_g (lw_at lw_m2 80 rfl) rfl
theorem q397 : (Jvm.Cond.selects "FormulaVoice$Root" ({ cls := "FormulaVoice$Node", name := "y", desc := "()LFormulaVoice$Node;" } : Jvm.MethodName) ({ cls := "FormulaVoice$Node", name := "y", desc := "()LFormulaVoice$Node;" } : Jvm.MethodName)) ∈ lw_all := lw_g (lw_at lw_m2 93 rfl) rfl
theorem q410 : (Jvm.Cond.sameMethod "FormulaVoice$Root" "FormulaVoice$Node" "isRight" "(I)Z") ∈ lw_all := lw_g (lw_at lw_m2 106 rfl) rfl
theorem q419 : (Jvm.Cond.selects "FormulaVoice$Root" ({ cls := "FormulaVoice$Node", name := "isRight", desc := "(I)Z" } : Jvm.MethodName) ({ cls := "FormulaVoice$Node", name := "isRight", desc := "(I)Z" } : Jvm.MethodName)) ∈ lw_all := lw_g (lw_at lw_m2 115 rfl) rfl
theorem q437 : (Jvm.Cond.selects "FormulaVoice$Root" ({ cls := "FormulaVoice$Node", name := "isLike", desc := "(LFormulaVoice$Node;)Z" } : Jvm.MethodName) ({ cls := "FormulaVoice$Node", name := "isLike", desc := "(LFormulaVoice$Node;)Z" } : Jvm.MethodName)) ∈ lw_all := lw_g (lw_at lw_m2 133 rfl) rfl
theorem q485 : (Jvm.Cond.selects "FormulaVoice$Root" ({ cls := "FormulaVoice$Node", name := "says", desc := "(LFormulaVoice$Words;LFormulaVoice$Manner;I)V" } : Jvm.MethodName) ({ cls := "FormulaVoice$Node", name := "says", desc := "(LFormulaVoice$Words;LFormulaVoice$Manner;I)V" } : Jvm.MethodName)) ∈ lw_all := lw_g (lw_at lw_m2 181 rfl) rfl
theorem q504 : (Jvm.Cond.selects "FormulaVoice$Root" ({ cls := "FormulaVoice$Node", name := "mayKeep", desc := "()Z" } : Jvm.MethodName) ({ cls := "FormulaVoice$Node", name := "mayKeep", desc := "()Z" } : Jvm.MethodName)) ∈ lw_all := lw_g (lw_at lw_m2 200 rfl) rfl
theorem q521 : (Jvm.Cond.declares ({ cls := "FormulaVoice$Root", name := "x", desc := "()LFormulaVoice$Node;" } : Jvm.MethodName)) ∈ lw_tbl := lw_at lw_m2 217 rfl
theorem q540 : (Jvm.Cond.selects "FormulaVoice$Root" ({ cls := "FormulaVoice$Node", name := "tells", desc := "(LFormulaVoice$Words;LFormulaVoice$Manner;I)V" } : Jvm.MethodName) ({ cls := "FormulaVoice$Root", name := "tells", desc := "(LFormulaVoice$Words;LFormulaVoice$Manner;I)V" } : Jvm.MethodName)) ∈ lw_all := lw_g (lw_at lw_m2 236 rfl) rfl
theorem q541 : (Jvm.Cond.instanceMethod ({ cls := "FormulaVoice$Root", name := "tells", desc := "(LFormulaVoice$Words;LFormulaVoice$Manner;I)V" } : Jvm.MethodName)) ∈ lw_all := lw_g (lw_at lw_m2 237 rfl) rfl
theorem q542 : (Jvm.Cond.code ({ cls := "FormulaVoice$Root", name := "tells", desc := "(LFormulaVoice$Words;LFormulaVoice$Manner;I)V" } : Jvm.MethodName) prog_9_method_3_code (4 : Nat) (Option.none : Option Jvm.ClassFile.FieldType)) ∈ lw_all := lw_g (lw_at lw_m2 238 rfl) rfl
theorem q543 : (Jvm.Cond.methodLink "FormulaVoice$Root" (22 : Nat) ({ cls := "FormulaVoice$Words", name := "say", desc := "(I)V" } : Jvm.MethodName)) ∈ lw_all := lw_g (lw_at lw_m2 239 rfl) rfl
theorem q544 : (Jvm.Cond.methodLink "FormulaVoice$Root" (28 : Nat) ({ cls := "FormulaVoice$Node", name := "says", desc := "(LFormulaVoice$Words;LFormulaVoice$Manner;I)V" } : Jvm.MethodName)) ∈ lw_all := lw_g (lw_at lw_m3 0 rfl) rfl
theorem q1070 : (Jvm.Cond.sameMethod "FormulaVoice$Root" "FormulaVoice$Node" "weight" "()I") ∈ lw_all := lw_g (lw_at lw_m5 46 rfl) rfl
theorem q1082 : (Jvm.Cond.selects "FormulaVoice$Root" ({ cls := "FormulaVoice$Node", name := "weight", desc := "()I" } : Jvm.MethodName) ({ cls := "FormulaVoice$Node", name := "weight", desc := "()I" } : Jvm.MethodName)) ∈ lw_all := lw_g (lw_at lw_m5 58 rfl) rfl
theorem q1127 : (Jvm.Cond.selects "FormulaVoice$Root" ({ cls := "FormulaVoice$Node", name := "failure", desc := "()LFormulaVoice$Tossed;" } : Jvm.MethodName) ({ cls := "FormulaVoice$Node", name := "failure", desc := "()LFormulaVoice$Tossed;" } : Jvm.MethodName)) ∈ lw_all := lw_g (lw_at lw_m5 103 rfl) rfl
theorem q1637 : (Jvm.Cond.castable "FormulaVoice$Root" "FormulaVoice$Node") ∈ lw_tbl := lw_at lw_m7 133 rfl
theorem q1652 : (Jvm.Cond.castable "FormulaVoice$Root" "java/lang/Object") ∈ lw_tbl := lw_at lw_m7 148 rfl
theorem in_X12 : ∀ w ∈ wsX120, w ∈ lw_all := lw_in wsX120 [209, 210, 211, 212, 207] (by decide +kernel) (by decide +kernel)
def RX13 : String := "FormulaVoice$Fenced"
def TX13 : u_T := fun k => match k with
  | 0 => ("FormulaVoice$Node", "number", "I", true)
  | 1 => ("FormulaVoice$Node", "kind", "I", true)
  | 2 => ("FormulaVoice$Node", "size", "I", true)
  | 3 => ("FormulaVoice$Node", "depth", "I", true)
  | _ => ("FormulaVoice$Root", "x", "LFormulaVoice$Node;", true)
def tyX13 : Nat → FieldType := fun k => match k with
  | 0 => .int
  | 1 => .int
  | 2 => .int
  | 3 => .int
  | _ => .object "FormulaVoice$Node"
abbrev wsX130 : List Cond := u_ws RX13 TX13 5
theorem nmX13 : ∀ a, a < 5 → ∀ b, b < 5 → a ≠ b → (TX13 a).2.1 ≠ (TX13 b).2.1 := by decide +kernel
theorem tyX13_ok : ∀ k, k < 5 → parseFieldDescriptor (TX13 k).2.2.1 = some (tyX13 k) := by decide +kernel
abbrev cX13_init : ByteArray := prog_5_method_1_code
def yX13_init : MethodName := ⟨RX13, "<init>", "(ILFormulaVoice$Node;)V"⟩
abbrev cX13_mayKeep : ByteArray := prog_5_method_2_code
def yX13_mayKeep : MethodName := ⟨RX13, "mayKeep", "()Z"⟩
abbrev cX13_tells : ByteArray := prog_5_method_3_code
def yX13_tells : MethodName := ⟨RX13, "tells", "(LFormulaVoice$Words;LFormulaVoice$Manner;I)V"⟩
abbrev cX13_weight : ByteArray := prog_5_method_4_code
def yX13_weight : MethodName := ⟨RX13, "weight", "()I"⟩
theorem q84 : (Jvm.Cond.initialized "FormulaVoice$Fenced") ∈ lw_all := lw_g (lw_at lw_m1 20 rfl) rfl
theorem q215 : (Jvm.Cond.instantiable "FormulaVoice$Fenced" (5 : Nat)) ∈ lw_all := lw_g (lw_at lw_m1 151 rfl) rfl
theorem q217 : (Jvm.Cond.instanceMethod ({ cls := "FormulaVoice$Fenced", name := "<init>", desc := "(ILFormulaVoice$Node;)V" } : Jvm.MethodName)) ∈ lw_all := lw_g (lw_at lw_m1 153 rfl) rfl
theorem q218 : (Jvm.Cond.code ({ cls := "FormulaVoice$Fenced", name := "<init>", desc := "(ILFormulaVoice$Node;)V" } : Jvm.MethodName) prog_5_method_1_code (3 : Nat) (Option.none : Option Jvm.ClassFile.FieldType)) ∈ lw_all := lw_g (lw_at lw_m1 154 rfl) rfl
theorem q219 : (Jvm.Cond.methodLink "FormulaVoice$Fenced" (3 : Nat) ({ cls := "FormulaVoice$Root", name := "<init>", desc := "(IILFormulaVoice$Node;)V" } : Jvm.MethodName)) ∈ lw_all := lw_g (lw_at lw_m1 155 rfl) rfl
theorem q220 : (Jvm.Cond.laysFinal "FormulaVoice$Fenced" "FormulaVoice$Root" "x" "LFormulaVoice$Node;") ∈ lw_all := lw_g (lw_at lw_m1 156 rfl) rfl
theorem q221 : (Jvm.Cond.laysFinal "FormulaVoice$Fenced" "FormulaVoice$Node" "number" "I") ∈ lw_all := lw_g (lw_at lw_m1 157 rfl) rfl
theorem q222 : (Jvm.Cond.laysFinal "FormulaVoice$Fenced" "FormulaVoice$Node" "kind" "I") ∈ lw_all := lw_g (lw_at lw_m1 158 rfl) rfl
theorem q223 : (Jvm.Cond.laysFinal "FormulaVoice$Fenced" "FormulaVoice$Node" "size" "I") ∈ lw_all := lw_g (lw_at lw_m1 159 rfl) rfl
theorem q224 : (Jvm.Cond.laysFinal "FormulaVoice$Fenced" "FormulaVoice$Node" "depth" "I") ∈ lw_all := lw_g (lw_at lw_m1 160 rfl) rfl
theorem q225 : (Jvm.Cond.superclass "FormulaVoice$Fenced" "FormulaVoice$Root") ∈ lw_all := lw_g (lw_at lw_m1 161 rfl) rfl
theorem q283 : (Jvm.Cond.selects "FormulaVoice$Fenced" ({ cls := "java/lang/Object", name := "getClass", desc := "()Ljava/lang/Class;" } : Jvm.MethodName) ({ cls := "java/lang/Object", name := "getClass", desc := "()Ljava/lang/Class;" } : Jvm.MethodName)) ∈ lw_all := lw_g (lw_at lw_m1 219 rfl) rfl
theorem q369 : (Jvm.Cond.selects "FormulaVoice$Fenced" ({ cls := "FormulaVoice$Node", name := "v", desc := "()I" } : Jvm.MethodName) ({ cls := "FormulaVoice$Node", name := "v", desc := "()I" } : Jvm.MethodName)) ∈ lw_all := lw_g (lw_at lw_m2 65 rfl) rfl
theorem q382 : (Jvm.Cond.selects "FormulaVoice$Fenced" ({ cls := "FormulaVoice$Node", name := "x", desc := "()LFormulaVoice$Node;" } : Jvm.MethodName) ({ cls := "FormulaVoice$Root", name := "x", desc := "()LFormulaVoice$Node;" } : Jvm.MethodName)) ∈ lw_all := lw_g (lw_at lw_m2 78 rfl) rfl
theorem q395 : (Jvm.Cond.selects "FormulaVoice$Fenced" ({ cls := "FormulaVoice$Node", name := "y", desc := "()LFormulaVoice$Node;" } : Jvm.MethodName) ({ cls := "FormulaVoice$Node", name := "y", desc := "()LFormulaVoice$Node;" } : Jvm.MethodName)) ∈ lw_all := lw_g (lw_at lw_m2 91 rfl) rfl
theorem q415 : (Jvm.Cond.selects "FormulaVoice$Fenced" ({ cls := "FormulaVoice$Node", name := "isRight", desc := "(I)Z" } : Jvm.MethodName) ({ cls := "FormulaVoice$Node", name := "isRight", desc := "(I)Z" } : Jvm.MethodName)) ∈ lw_all := lw_g (lw_at lw_m2 111 rfl) rfl
theorem q435 : (Jvm.Cond.selects "FormulaVoice$Fenced" ({ cls := "FormulaVoice$Node", name := "isLike", desc := "(LFormulaVoice$Node;)Z" } : Jvm.MethodName) ({ cls := "FormulaVoice$Node", name := "isLike", desc := "(LFormulaVoice$Node;)Z" } : Jvm.MethodName)) ∈ lw_all := lw_g (lw_at lw_m2 131 rfl) rfl
theorem q483 : (Jvm.Cond.selects "FormulaVoice$Fenced" ({ cls := "FormulaVoice$Node", name := "says", desc := "(LFormulaVoice$Words;LFormulaVoice$Manner;I)V" } : Jvm.MethodName) ({ cls := "FormulaVoice$Node", name := "says", desc := "(LFormulaVoice$Words;LFormulaVoice$Manner;I)V" } : Jvm.MethodName)) ∈ lw_all := lw_g (lw_at lw_m2 179 rfl) rfl
theorem q500 : (Jvm.Cond.selects "FormulaVoice$Fenced" ({ cls := "FormulaVoice$Node", name := "mayKeep", desc := "()Z" } : Jvm.MethodName) ({ cls := "FormulaVoice$Fenced", name := "mayKeep", desc := "()Z" } : Jvm.MethodName)) ∈ lw_all := lw_g (lw_at lw_m2 196 rfl) rfl
theorem q501 : (Jvm.Cond.instanceMethod ({ cls := "FormulaVoice$Fenced", name := "mayKeep", desc := "()Z" } : Jvm.MethodName)) ∈ lw_all := lw_g (lw_at lw_m2 197 rfl) rfl
theorem q502 : (Jvm.Cond.code ({ cls := "FormulaVoice$Fenced", name := "mayKeep", desc := "()Z" } : Jvm.MethodName) prog_5_method_2_code (1 : Nat) (Option.some Jvm.ClassFile.FieldType.boolean)) ∈ lw_all := lw_g (lw_at lw_m2 198 rfl) rfl
theorem q528 : (Jvm.Cond.selects "FormulaVoice$Fenced" ({ cls := "FormulaVoice$Node", name := "tells", desc := "(LFormulaVoice$Words;LFormulaVoice$Manner;I)V" } : Jvm.MethodName) ({ cls := "FormulaVoice$Fenced", name := "tells", desc := "(LFormulaVoice$Words;LFormulaVoice$Manner;I)V" } : Jvm.MethodName)) ∈ lw_all := lw_g (lw_at lw_m2 224 rfl) rfl
theorem q529 : (Jvm.Cond.instanceMethod ({ cls := "FormulaVoice$Fenced", name := "tells", desc := "(LFormulaVoice$Words;LFormulaVoice$Manner;I)V" } : Jvm.MethodName)) ∈ lw_all := lw_g (lw_at lw_m2 225 rfl) rfl
theorem q530 : (Jvm.Cond.code ({ cls := "FormulaVoice$Fenced", name := "tells", desc := "(LFormulaVoice$Words;LFormulaVoice$Manner;I)V" } : Jvm.MethodName) prog_5_method_3_code (4 : Nat) (Option.none : Option Jvm.ClassFile.FieldType)) ∈ lw_all := lw_g (lw_at lw_m2 226 rfl) rfl
theorem q531 : (Jvm.Cond.methodLink "FormulaVoice$Fenced" (9 : Nat) ({ cls := "FormulaVoice$Words", name := "say", desc := "(I)V" } : Jvm.MethodName)) ∈ lw_all := lw_g (lw_at lw_m2 227 rfl) rfl
theorem q532 : (Jvm.Cond.methodLink "FormulaVoice$Fenced" (15 : Nat) ({ cls := "FormulaVoice$Fenced", name := "x", desc := "()LFormulaVoice$Node;" } : Jvm.MethodName)) ∈ lw_all := lw_g (lw_at lw_m2 228 rfl) rfl
theorem q533 : (Jvm.Cond.sameMethod "FormulaVoice$Fenced" "FormulaVoice$Root" "x" "()LFormulaVoice$Node;") ∈ lw_all := lw_g (lw_at lw_m2 229 rfl) rfl
theorem q534 : (Jvm.Cond.selects "FormulaVoice$Fenced" ({ cls := "FormulaVoice$Fenced", name := "x", desc := "()LFormulaVoice$Node;" } : Jvm.MethodName) ({ cls := "FormulaVoice$Root", name := "x", desc := "()LFormulaVoice$Node;" } : Jvm.MethodName)) ∈ lw_all := lw_g (lw_at lw_m2 230 rfl) rfl
theorem q535 : (Jvm.Cond.methodLink "FormulaVoice$Fenced" (21 : Nat) ({ cls := "FormulaVoice$Node", name := "says", desc := "(LFormulaVoice$Words;LFormulaVoice$Manner;I)V" } : Jvm.MethodName)) ∈ lw_all := lw_g (lw_at lw_m2 231 rfl) rfl
theorem q1077 : (Jvm.Cond.selects "FormulaVoice$Fenced" ({ cls := "FormulaVoice$Node", name := "weight", desc := "()I" } : Jvm.MethodName) ({ cls := "FormulaVoice$Fenced", name := "weight", desc := "()I" } : Jvm.MethodName)) ∈ lw_all := lw_g (lw_at lw_m5 53 rfl) rfl
theorem q1078 : (Jvm.Cond.instanceMethod ({ cls := "FormulaVoice$Fenced", name := "weight", desc := "()I" } : Jvm.MethodName)) ∈ lw_all := lw_g (lw_at lw_m5 54 rfl) rfl
theorem q1079 : (Jvm.Cond.code ({ cls := "FormulaVoice$Fenced", name := "weight", desc := "()I" } : Jvm.MethodName) prog_5_method_4_code (1 : Nat) (Option.some Jvm.ClassFile.FieldType.int)) ∈ lw_all := lw_g (lw_at lw_m5 55 rfl) rfl
theorem q1080 : (Jvm.Cond.methodLink "FormulaVoice$Fenced" (27 : Nat) ({ cls := "FormulaVoice$Root", name := "weight", desc := "()I" } : Jvm.MethodName)) ∈ lw_all := lw_g (lw_at lw_m5 56 rfl) rfl
theorem q1125 : (Jvm.Cond.selects "FormulaVoice$Fenced" ({ cls := "FormulaVoice$Node", name := "failure", desc := "()LFormulaVoice$Tossed;" } : Jvm.MethodName) ({ cls := "FormulaVoice$Node", name := "failure", desc := "()LFormulaVoice$Tossed;" } : Jvm.MethodName)) ∈ lw_all := lw_g (lw_at lw_m5 101 rfl) rfl
theorem q1635 : (Jvm.Cond.castable "FormulaVoice$Fenced" "FormulaVoice$Node") ∈ lw_tbl := lw_at lw_m7 131 rfl
theorem q1653 : (Jvm.Cond.castable "FormulaVoice$Fenced" "java/lang/Object") ∈ lw_tbl := lw_at lw_m7 149 rfl
theorem in_X13 : ∀ w ∈ wsX130, w ∈ lw_all := lw_in wsX130 [221, 222, 223, 224, 220] (by decide +kernel) (by decide +kernel)
def RX14 : String := "FormulaVoice$Call"
def TX14 : u_T := fun k => match k with
  | 0 => ("FormulaVoice$Node", "number", "I", true)
  | 1 => ("FormulaVoice$Node", "kind", "I", true)
  | 2 => ("FormulaVoice$Node", "size", "I", true)
  | 3 => ("FormulaVoice$Node", "depth", "I", true)
  | 4 => ("FormulaVoice$Root", "x", "LFormulaVoice$Node;", true)
  | _ => ("FormulaVoice$Call", "v", "I", true)
def tyX14 : Nat → FieldType := fun k => match k with
  | 0 => .int
  | 1 => .int
  | 2 => .int
  | 3 => .int
  | 4 => .object "FormulaVoice$Node"
  | _ => .int
abbrev wsX140 : List Cond := u_ws RX14 TX14 6
theorem nmX14 : ∀ a, a < 6 → ∀ b, b < 6 → a ≠ b → (TX14 a).2.1 ≠ (TX14 b).2.1 := by decide +kernel
theorem tyX14_ok : ∀ k, k < 6 → parseFieldDescriptor (TX14 k).2.2.1 = some (tyX14 k) := by decide +kernel
abbrev cX14_init : ByteArray := prog_2_method_1_code
def yX14_init : MethodName := ⟨RX14, "<init>", "(IILFormulaVoice$Node;)V"⟩
abbrev cX14_v : ByteArray := prog_2_method_2_code
def yX14_v : MethodName := ⟨RX14, "v", "()I"⟩
abbrev cX14_isRight : ByteArray := prog_2_method_4_code
def yX14_isRight : MethodName := ⟨RX14, "isRight", "(I)Z"⟩
abbrev cX14_tells : ByteArray := prog_2_method_3_code
def yX14_tells : MethodName := ⟨RX14, "tells", "(LFormulaVoice$Words;LFormulaVoice$Manner;I)V"⟩
abbrev cX14_weight : ByteArray := prog_2_method_5_code
def yX14_weight : MethodName := ⟨RX14, "weight", "()I"⟩
abbrev cX14_failure : ByteArray := prog_2_method_6_code
def yX14_failure : MethodName := ⟨RX14, "failure", "()LFormulaVoice$Tossed;"⟩
theorem q85 : (Jvm.Cond.initialized "FormulaVoice$Call") ∈ lw_all := lw_g (lw_at lw_m1 21 rfl) rfl
theorem q227 : (Jvm.Cond.instantiable "FormulaVoice$Call" (6 : Nat)) ∈ lw_all := lw_g (lw_at lw_m1 163 rfl) rfl
theorem q229 : (Jvm.Cond.instanceMethod ({ cls := "FormulaVoice$Call", name := "<init>", desc := "(IILFormulaVoice$Node;)V" } : Jvm.MethodName)) ∈ lw_all := lw_g (lw_at lw_m1 165 rfl) rfl
theorem q230 : (Jvm.Cond.code ({ cls := "FormulaVoice$Call", name := "<init>", desc := "(IILFormulaVoice$Node;)V" } : Jvm.MethodName) prog_2_method_1_code (4 : Nat) (Option.none : Option Jvm.ClassFile.FieldType)) ∈ lw_all := lw_g (lw_at lw_m1 166 rfl) rfl
theorem q231 : (Jvm.Cond.methodLink "FormulaVoice$Call" (3 : Nat) ({ cls := "FormulaVoice$Root", name := "<init>", desc := "(IILFormulaVoice$Node;)V" } : Jvm.MethodName)) ∈ lw_all := lw_g (lw_at lw_m1 167 rfl) rfl
theorem q232 : (Jvm.Cond.fieldLink "FormulaVoice$Call" (9 : Nat) "FormulaVoice$Call" "v" "I") ∈ lw_all := lw_g (lw_at lw_m1 168 rfl) rfl
theorem q233 : (Jvm.Cond.laysFinal "FormulaVoice$Call" "FormulaVoice$Call" "v" "I") ∈ lw_all := lw_g (lw_at lw_m1 169 rfl) rfl
theorem q234 : (Jvm.Cond.soleField "FormulaVoice$Call" "v") ∈ lw_all := lw_g (lw_at lw_m1 170 rfl) rfl
theorem q235 : (Jvm.Cond.laysFinal "FormulaVoice$Call" "FormulaVoice$Root" "x" "LFormulaVoice$Node;") ∈ lw_all := lw_g (lw_at lw_m1 171 rfl) rfl
theorem q236 : (Jvm.Cond.laysFinal "FormulaVoice$Call" "FormulaVoice$Node" "number" "I") ∈ lw_all := lw_g (lw_at lw_m1 172 rfl) rfl
theorem q237 : (Jvm.Cond.laysFinal "FormulaVoice$Call" "FormulaVoice$Node" "kind" "I") ∈ lw_all := lw_g (lw_at lw_m1 173 rfl) rfl
theorem q238 : (Jvm.Cond.laysFinal "FormulaVoice$Call" "FormulaVoice$Node" "size" "I") ∈ lw_all := lw_g (lw_at lw_m1 174 rfl) rfl
theorem q239 : (Jvm.Cond.laysFinal "FormulaVoice$Call" "FormulaVoice$Node" "depth" "I") ∈ lw_all := lw_g (lw_at lw_m1 175 rfl) rfl
theorem q240 : (Jvm.Cond.superclass "FormulaVoice$Call" "FormulaVoice$Root") ∈ lw_all := lw_g (lw_at lw_m1 176 rfl) rfl
theorem q280 : (Jvm.Cond.selects "FormulaVoice$Call" ({ cls := "java/lang/Object", name := "getClass", desc := "()Ljava/lang/Class;" } : Jvm.MethodName) ({ cls := "java/lang/Object", name := "getClass", desc := "()Ljava/lang/Class;" } : Jvm.MethodName)) ∈ lw_all := lw_g (lw_at lw_m1 216 rfl) rfl
theorem q363 : (Jvm.Cond.selects "FormulaVoice$Call" ({ cls := "FormulaVoice$Node", name := "v", desc := "()I" } : Jvm.MethodName) ({ cls := "FormulaVoice$Call", name := "v", desc := "()I" } : Jvm.MethodName)) ∈ lw_all := lw_g (lw_at lw_m2 59 rfl) rfl
theorem q364 : (Jvm.Cond.instanceMethod ({ cls := "FormulaVoice$Call", name := "v", desc := "()I" } : Jvm.MethodName)) ∈ lw_all := lw_g (lw_at lw_m2 60 rfl) rfl
theorem q365 : (Jvm.Cond.code ({ cls := "FormulaVoice$Call", name := "v", desc := "()I" } : Jvm.MethodName) prog_2_method_2_code (1 : Nat) (Option.some Jvm.ClassFile.FieldType.int)) ∈ lw_all := lw_g (lw_at lw_m2 61 rfl) rfl
theorem q378 : (Jvm.Cond.selects "FormulaVoice$Call" ({ cls := "FormulaVoice$Node", name := "x", desc := "()LFormulaVoice$Node;" } : Jvm.MethodName) ({ cls := "FormulaVoice$Root", name := "x", desc := "()LFormulaVoice$Node;" } : Jvm.MethodName)) ∈ lw_all := lw_g (lw_at lw_m2 74 rfl) rfl
theorem q393 : (Jvm.Cond.selects "FormulaVoice$Call" ({ cls := "FormulaVoice$Node", name := "y", desc := "()LFormulaVoice$Node;" } : Jvm.MethodName) ({ cls := "FormulaVoice$Node", name := "y", desc := "()LFormulaVoice$Node;" } : Jvm.MethodName)) ∈ lw_all := lw_g (lw_at lw_m2 89 rfl) rfl
theorem q406 : (Jvm.Cond.selects "FormulaVoice$Call" ({ cls := "FormulaVoice$Node", name := "isRight", desc := "(I)Z" } : Jvm.MethodName) ({ cls := "FormulaVoice$Call", name := "isRight", desc := "(I)Z" } : Jvm.MethodName)) ∈ lw_all := lw_g (lw_at lw_m2 102 rfl) rfl
theorem q407 : (Jvm.Cond.instanceMethod ({ cls := "FormulaVoice$Call", name := "isRight", desc := "(I)Z" } : Jvm.MethodName)) ∈ lw_all := lw_g (lw_at lw_m2 103 rfl) rfl
theorem q408 : (Jvm.Cond.code ({ cls := "FormulaVoice$Call", name := "isRight", desc := "(I)Z" } : Jvm.MethodName) prog_2_method_4_code (2 : Nat) (Option.some Jvm.ClassFile.FieldType.boolean)) ∈ lw_all := lw_g (lw_at lw_m2 104 rfl) rfl
theorem q409 : (Jvm.Cond.methodLink "FormulaVoice$Call" (31 : Nat) ({ cls := "FormulaVoice$Root", name := "isRight", desc := "(I)Z" } : Jvm.MethodName)) ∈ lw_all := lw_g (lw_at lw_m2 105 rfl) rfl
theorem q433 : (Jvm.Cond.selects "FormulaVoice$Call" ({ cls := "FormulaVoice$Node", name := "isLike", desc := "(LFormulaVoice$Node;)Z" } : Jvm.MethodName) ({ cls := "FormulaVoice$Node", name := "isLike", desc := "(LFormulaVoice$Node;)Z" } : Jvm.MethodName)) ∈ lw_all := lw_g (lw_at lw_m2 129 rfl) rfl
theorem q481 : (Jvm.Cond.selects "FormulaVoice$Call" ({ cls := "FormulaVoice$Node", name := "says", desc := "(LFormulaVoice$Words;LFormulaVoice$Manner;I)V" } : Jvm.MethodName) ({ cls := "FormulaVoice$Node", name := "says", desc := "(LFormulaVoice$Words;LFormulaVoice$Manner;I)V" } : Jvm.MethodName)) ∈ lw_all := lw_g (lw_at lw_m2 177 rfl) rfl
theorem q496 : (Jvm.Cond.selects "FormulaVoice$Call" ({ cls := "FormulaVoice$Node", name := "mayKeep", desc := "()Z" } : Jvm.MethodName) ({ cls := "FormulaVoice$Node", name := "mayKeep", desc := "()Z" } : Jvm.MethodName)) ∈ lw_all := lw_g (lw_at lw_m2 192 rfl) rfl
theorem q515 : (Jvm.Cond.selects "FormulaVoice$Call" ({ cls := "FormulaVoice$Node", name := "tells", desc := "(LFormulaVoice$Words;LFormulaVoice$Manner;I)V" } : Jvm.MethodName) ({ cls := "FormulaVoice$Call", name := "tells", desc := "(LFormulaVoice$Words;LFormulaVoice$Manner;I)V" } : Jvm.MethodName)) ∈ lw_all := lw_g (lw_at lw_m2 211 rfl) rfl
theorem q516 : (Jvm.Cond.instanceMethod ({ cls := "FormulaVoice$Call", name := "tells", desc := "(LFormulaVoice$Words;LFormulaVoice$Manner;I)V" } : Jvm.MethodName)) ∈ lw_all := lw_g (lw_at lw_m2 212 rfl) rfl
theorem q517 : (Jvm.Cond.code ({ cls := "FormulaVoice$Call", name := "tells", desc := "(LFormulaVoice$Words;LFormulaVoice$Manner;I)V" } : Jvm.MethodName) prog_2_method_3_code (4 : Nat) (Option.none : Option Jvm.ClassFile.FieldType)) ∈ lw_all := lw_g (lw_at lw_m2 213 rfl) rfl
theorem q518 : (Jvm.Cond.methodLink "FormulaVoice$Call" (15 : Nat) ({ cls := "FormulaVoice$Words", name := "say", desc := "(I)V" } : Jvm.MethodName)) ∈ lw_all := lw_g (lw_at lw_m2 214 rfl) rfl
theorem q519 : (Jvm.Cond.methodLink "FormulaVoice$Call" (21 : Nat) ({ cls := "FormulaVoice$Call", name := "x", desc := "()LFormulaVoice$Node;" } : Jvm.MethodName)) ∈ lw_all := lw_g (lw_at lw_m2 215 rfl) rfl
theorem q520 : (Jvm.Cond.sameMethod "FormulaVoice$Call" "FormulaVoice$Root" "x" "()LFormulaVoice$Node;") ∈ lw_all := lw_g (lw_at lw_m2 216 rfl) rfl
theorem q522 : (Jvm.Cond.selects "FormulaVoice$Call" ({ cls := "FormulaVoice$Call", name := "x", desc := "()LFormulaVoice$Node;" } : Jvm.MethodName) ({ cls := "FormulaVoice$Root", name := "x", desc := "()LFormulaVoice$Node;" } : Jvm.MethodName)) ∈ lw_all := lw_g (lw_at lw_m2 218 rfl) rfl
theorem q523 : (Jvm.Cond.methodLink "FormulaVoice$Call" (25 : Nat) ({ cls := "FormulaVoice$Node", name := "says", desc := "(LFormulaVoice$Words;LFormulaVoice$Manner;I)V" } : Jvm.MethodName)) ∈ lw_all := lw_g (lw_at lw_m2 219 rfl) rfl
theorem q1066 : (Jvm.Cond.selects "FormulaVoice$Call" ({ cls := "FormulaVoice$Node", name := "weight", desc := "()I" } : Jvm.MethodName) ({ cls := "FormulaVoice$Call", name := "weight", desc := "()I" } : Jvm.MethodName)) ∈ lw_all := lw_g (lw_at lw_m5 42 rfl) rfl
theorem q1067 : (Jvm.Cond.instanceMethod ({ cls := "FormulaVoice$Call", name := "weight", desc := "()I" } : Jvm.MethodName)) ∈ lw_all := lw_g (lw_at lw_m5 43 rfl) rfl
theorem q1068 : (Jvm.Cond.code ({ cls := "FormulaVoice$Call", name := "weight", desc := "()I" } : Jvm.MethodName) prog_2_method_5_code (1 : Nat) (Option.some Jvm.ClassFile.FieldType.int)) ∈ lw_all := lw_g (lw_at lw_m5 44 rfl) rfl
theorem q1069 : (Jvm.Cond.methodLink "FormulaVoice$Call" (35 : Nat) ({ cls := "FormulaVoice$Root", name := "weight", desc := "()I" } : Jvm.MethodName)) ∈ lw_all := lw_g (lw_at lw_m5 45 rfl) rfl
theorem q1098 : (Jvm.Cond.selects "FormulaVoice$Call" ({ cls := "FormulaVoice$Node", name := "failure", desc := "()LFormulaVoice$Tossed;" } : Jvm.MethodName) ({ cls := "FormulaVoice$Call", name := "failure", desc := "()LFormulaVoice$Tossed;" } : Jvm.MethodName)) ∈ lw_all := lw_g (lw_at lw_m5 74 rfl) rfl
theorem q1099 : (Jvm.Cond.instanceMethod ({ cls := "FormulaVoice$Call", name := "failure", desc := "()LFormulaVoice$Tossed;" } : Jvm.MethodName)) ∈ lw_all := lw_g (lw_at lw_m5 75 rfl) rfl
theorem q1100 : (Jvm.Cond.code ({ cls := "FormulaVoice$Call", name := "failure", desc := "()LFormulaVoice$Tossed;" } : Jvm.MethodName) prog_2_method_6_code (1 : Nat) (Option.some (Jvm.ClassFile.FieldType.object "FormulaVoice$Tossed"))) ∈ lw_all := lw_g (lw_at lw_m5 76 rfl) rfl
theorem q1101 : (Jvm.Cond.classLink "FormulaVoice$Call" (39 : Nat) "FormulaVoice$Tossed") ∈ lw_all := lw_g (lw_at lw_m5 77 rfl) rfl
theorem q1110 : (Jvm.Cond.methodLink "FormulaVoice$Call" (41 : Nat) ({ cls := "FormulaVoice$Tossed", name := "<init>", desc := "(I)V" } : Jvm.MethodName)) ∈ lw_all := lw_g (lw_at lw_m5 86 rfl) rfl
theorem q1633 : (Jvm.Cond.castable "FormulaVoice$Call" "FormulaVoice$Node") ∈ lw_tbl := lw_at lw_m7 129 rfl
theorem q1654 : (Jvm.Cond.castable "FormulaVoice$Call" "java/lang/Object") ∈ lw_tbl := lw_at lw_m7 150 rfl
theorem in_X14 : ∀ w ∈ wsX140, w ∈ lw_all := lw_in wsX140 [236, 237, 238, 239, 235, 233] (by decide +kernel) (by decide +kernel)
def RX15 : String := "FormulaVoice$Tossed"
def TX15 : u_T := fun k => match k with
  | 0 => ("java/lang/Throwable", "cause", "Ljava/lang/Throwable;", false)
  | 1 => ("java/lang/Throwable", "stackTrace", "[Ljava/lang/StackTraceElement;", false)
  | 2 => ("java/lang/Throwable", "suppressedExceptions", "Ljava/util/List;", false)
  | 3 => ("java/lang/Throwable", "detailMessage", "Ljava/lang/String;", false)
  | 4 => ("java/lang/Throwable", "backtrace", "Ljava/lang/Object;", false)
  | 5 => ("java/lang/Throwable", "depth", "I", false)
  | _ => ("FormulaVoice$Tossed", "v", "I", true)
def tyX15 : Nat → FieldType := fun k => match k with
  | 0 => .object "java/lang/Throwable"
  | 1 => .array (.object "java/lang/StackTraceElement")
  | 2 => .object "java/util/List"
  | 3 => .object "java/lang/String"
  | 4 => .object "java/lang/Object"
  | 5 => .int
  | _ => .int
abbrev wsX150 : List Cond := u_ws RX15 TX15 7
theorem nmX15 : ∀ a, a < 7 → ∀ b, b < 7 → a ≠ b → (TX15 a).2.1 ≠ (TX15 b).2.1 := by decide +kernel
theorem tyX15_ok : ∀ k, k < 7 → parseFieldDescriptor (TX15 k).2.2.1 = some (tyX15 k) := by decide +kernel
abbrev cX15_init : ByteArray := prog_12_method_1_code
def yX15_init : MethodName := ⟨RX15, "<init>", "(I)V"⟩
theorem q99 : (Jvm.Cond.initialized "FormulaVoice$Tossed") ∈ lw_all := lw_g (lw_at lw_m1 35 rfl) rfl
theorem q289 : (Jvm.Cond.selects "FormulaVoice$Tossed" ({ cls := "java/lang/Object", name := "getClass", desc := "()Ljava/lang/Class;" } : Jvm.MethodName) ({ cls := "java/lang/Object", name := "getClass", desc := "()Ljava/lang/Class;" } : Jvm.MethodName)) ∈ lw_all := lw_g (lw_at lw_m1 225 rfl) rfl
theorem q800 : (Jvm.Cond.selects "FormulaVoice$Tossed" ({ cls := "java/lang/Throwable", name := "fillInStackTrace", desc := "()Ljava/lang/Throwable;" } : Jvm.MethodName) ({ cls := "java/lang/Throwable", name := "fillInStackTrace", desc := "()Ljava/lang/Throwable;" } : Jvm.MethodName)) ∈ lw_all := lw_g (lw_at lw_m4 16 rfl) rfl
theorem q1102 : (Jvm.Cond.instantiable "FormulaVoice$Tossed" (7 : Nat)) ∈ lw_all := lw_g (lw_at lw_m5 78 rfl) rfl
theorem q1103 : (Jvm.Cond.castable "FormulaVoice$Tossed" "FormulaVoice$Tossed") ∈ lw_tbl := lw_at lw_m5 79 rfl
theorem q1104 : (Jvm.Cond.selects "FormulaVoice$Tossed" ({ cls := "java/lang/Throwable", name := "fillInStackTrace", desc := "(I)Ljava/lang/Throwable;" } : Jvm.MethodName) ({ cls := "java/lang/Throwable", name := "fillInStackTrace", desc := "(I)Ljava/lang/Throwable;" } : Jvm.MethodName)) ∈ lw_all := lw_g (lw_at lw_m5 80 rfl) rfl
theorem q1105 : (Jvm.Cond.lays "FormulaVoice$Tossed" "java/lang/Throwable" "cause" "Ljava/lang/Throwable;") ∈ lw_all := lw_g (lw_at lw_m5 81 rfl) rfl
theorem q1106 : (Jvm.Cond.lays "FormulaVoice$Tossed" "java/lang/Throwable" "stackTrace" "[Ljava/lang/StackTraceElement;") ∈ lw_all := lw_g (lw_at lw_m5 82 rfl) rfl
theorem q1107 : (Jvm.Cond.lays "FormulaVoice$Tossed" "java/lang/Throwable" "suppressedExceptions" "Ljava/util/List;") ∈ lw_all := lw_g (lw_at lw_m5 83 rfl) rfl
theorem q1108 : (Jvm.Cond.lays "FormulaVoice$Tossed" "java/lang/Throwable" "detailMessage" "Ljava/lang/String;") ∈ lw_all := lw_g (lw_at lw_m5 84 rfl) rfl
theorem q1109 : (Jvm.Cond.lays "FormulaVoice$Tossed" "java/lang/Throwable" "backtrace" "Ljava/lang/Object;") ∈ lw_all := lw_g (lw_at lw_m5 85 rfl) rfl
theorem q1111 : (Jvm.Cond.instanceMethod ({ cls := "FormulaVoice$Tossed", name := "<init>", desc := "(I)V" } : Jvm.MethodName)) ∈ lw_all := lw_g (lw_at lw_m5 87 rfl) rfl
theorem q1112 : (Jvm.Cond.code ({ cls := "FormulaVoice$Tossed", name := "<init>", desc := "(I)V" } : Jvm.MethodName) prog_12_method_1_code (2 : Nat) (Option.none : Option Jvm.ClassFile.FieldType)) ∈ lw_all := lw_g (lw_at lw_m5 88 rfl) rfl
theorem q1113 : (Jvm.Cond.methodLink "FormulaVoice$Tossed" (1 : Nat) ({ cls := "java/lang/RuntimeException", name := "<init>", desc := "()V" } : Jvm.MethodName)) ∈ lw_all := lw_g (lw_at lw_m5 89 rfl) rfl
theorem q1114 : (Jvm.Cond.fieldLink "FormulaVoice$Tossed" (7 : Nat) "FormulaVoice$Tossed" "v" "I") ∈ lw_all := lw_g (lw_at lw_m5 90 rfl) rfl
theorem q1116 : (Jvm.Cond.laysFinal "FormulaVoice$Tossed" "FormulaVoice$Tossed" "v" "I") ∈ lw_all := lw_g (lw_at lw_m5 92 rfl) rfl
theorem q1117 : (Jvm.Cond.soleField "FormulaVoice$Tossed" "v") ∈ lw_all := lw_g (lw_at lw_m5 93 rfl) rfl
theorem q1118 : (Jvm.Cond.lays "FormulaVoice$Tossed" "java/lang/Throwable" "depth" "I") ∈ lw_all := lw_g (lw_at lw_m5 94 rfl) rfl
theorem q1119 : (Jvm.Cond.superclass "FormulaVoice$Tossed" "java/lang/RuntimeException") ∈ lw_all := lw_g (lw_at lw_m5 95 rfl) rfl
theorem q1661 : (Jvm.Cond.castable "FormulaVoice$Tossed" "java/lang/Object") ∈ lw_tbl := lw_at lw_m7 157 rfl
theorem in_X15 : ∀ w ∈ wsX150, w ∈ lw_all := lw_in wsX150 [1105, 1106, 1107, 1108, 1109, 1118, 1116] (by decide +kernel) (by decide +kernel)
theorem q1669 : (Jvm.Cond.castable "[B" "java/lang/Object") ∈ lw_tbl := lw_at lw_m7 165 rfl
theorem q1675 : (Jvm.Cond.castable "[C" "java/lang/Object") ∈ lw_tbl := lw_at lw_m7 171 rfl
theorem q1668 : (Jvm.Cond.castable "[I" "java/lang/Object") ∈ lw_tbl := lw_at lw_m7 164 rfl
theorem q1673 : (Jvm.Cond.castable "[J" "java/lang/Object") ∈ lw_tbl := lw_at lw_m7 169 rfl
theorem q1671 : (Jvm.Cond.castable "[LFormulaVoice$Node;" "java/lang/Object") ∈ lw_tbl := lw_at lw_m7 167 rfl
theorem q1672 : (Jvm.Cond.castable "[LFormulaVoice$Shelf;" "java/lang/Object") ∈ lw_tbl := lw_at lw_m7 168 rfl
theorem q1664 : (Jvm.Cond.sameMethod "[Ljava/lang/Object;" "java/lang/Object" "getClass" "()Ljava/lang/Class;") ∈ lw_all := lw_g (lw_at lw_m7 160 rfl) rfl
theorem q1665 : (Jvm.Cond.selects "[Ljava/lang/Object;" ({ cls := "java/lang/Object", name := "getClass", desc := "()Ljava/lang/Class;" } : Jvm.MethodName) ({ cls := "java/lang/Object", name := "getClass", desc := "()Ljava/lang/Class;" } : Jvm.MethodName)) ∈ lw_all := lw_g (lw_at lw_m7 161 rfl) rfl
theorem q1667 : (Jvm.Cond.castable "[Ljava/lang/Object;" "java/lang/Object") ∈ lw_tbl := lw_at lw_m7 163 rfl
theorem q1674 : (Jvm.Cond.castable "[Z" "java/lang/Object") ∈ lw_tbl := lw_at lw_m7 170 rfl
theorem q1670 : (Jvm.Cond.castable "[[J" "java/lang/Object") ∈ lw_tbl := lw_at lw_m7 166 rfl
theorem q88 : (Jvm.Cond.initialized "java/lang/System") ∈ lw_all := lw_g (lw_at lw_m1 24 rfl) rfl
theorem q311 : (Jvm.Cond.static ({ cls := "java/lang/System", name := "arraycopy", desc := "(Ljava/lang/Object;ILjava/lang/Object;II)V" } : Jvm.MethodName)) ∈ lw_all := lw_g (lw_at lw_m2 7 rfl) rfl
theorem q312 : (Jvm.Cond.native ({ cls := "java/lang/System", name := "arraycopy", desc := "(Ljava/lang/Object;ILjava/lang/Object;II)V" } : Jvm.MethodName)) ∈ lw_all := lw_g (lw_at lw_m2 8 rfl) rfl
theorem q305 : (Jvm.Cond.arrayOver (Jvm.ClassFile.FieldType.object "java/lang/Object")) ∈ lw_tbl := lw_at lw_m2 1 rfl
theorem q849 : (Jvm.Cond.arrayClass Jvm.ClassFile.FieldType.int) ∈ lw_all := lw_g (lw_at lw_m4 65 rfl) rfl
theorem q850 : (Jvm.Cond.arrayClass Jvm.ClassFile.FieldType.byte) ∈ lw_all := lw_g (lw_at lw_m4 66 rfl) rfl
theorem q879 : (Jvm.Cond.arrayOver (Jvm.ClassFile.FieldType.array Jvm.ClassFile.FieldType.long)) ∈ lw_tbl := lw_at lw_m4 95 rfl
theorem q880 : (Jvm.Cond.arrayOver (Jvm.ClassFile.FieldType.object "FormulaVoice$Node")) ∈ lw_tbl := lw_at lw_m4 96 rfl
theorem q882 : (Jvm.Cond.arrayOver (Jvm.ClassFile.FieldType.object "FormulaVoice$Shelf")) ∈ lw_tbl := lw_at lw_m4 98 rfl
theorem q892 : (Jvm.Cond.arrayClass Jvm.ClassFile.FieldType.long) ∈ lw_all := lw_g (lw_at lw_m4 108 rfl) rfl
theorem q893 : (Jvm.Cond.arrayClass Jvm.ClassFile.FieldType.boolean) ∈ lw_all := lw_g (lw_at lw_m4 109 rfl) rfl
theorem q966 : (Jvm.Cond.arrayClass Jvm.ClassFile.FieldType.char) ∈ lw_all := lw_g (lw_at lw_m4 182 rfl) rfl
