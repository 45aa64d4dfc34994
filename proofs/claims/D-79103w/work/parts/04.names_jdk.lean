/-! java/util/AbstractCollection -/
set_option maxRecDepth 100000
def RJ0 : String := "java/util/AbstractCollection"
abbrev cJ0_init : ByteArray := prog_52_method_1_code
def yJ0_init : MethodName := ⟨RJ0, "<init>", "()V"⟩
theorem dJ0_init_0 : decode cJ0_init 0 = .ok (.aload_n 0, 1) := by decide +kernel
theorem dJ0_init_1 : decode cJ0_init 1 = .ok (.invokespecial 1, 3) := by decide +kernel
theorem dJ0_init_4 : decode cJ0_init 4 = .ok (.return_, 1) := by decide +kernel
theorem q96 : (Jvm.Cond.initialized "java/util/AbstractCollection") ∈ lw_all := lw_g (lw_at lw_m1 3 rfl) rfl
theorem q191 : (Jvm.Cond.instanceMethod ({ cls := "java/util/AbstractCollection", name := "<init>", desc := "()V" } : Jvm.MethodName)) ∈ lw_all := lw_g (lw_at lw_m1 98 rfl) rfl
theorem q192 : (Jvm.Cond.code ({ cls := "java/util/AbstractCollection", name := "<init>", desc := "()V" } : Jvm.MethodName) prog_52_method_1_code (1 : Nat) (Option.none : Option Jvm.ClassFile.FieldType)) ∈ lw_all := lw_g (lw_at lw_m1 99 rfl) rfl
theorem q193 : (Jvm.Cond.methodLink "java/util/AbstractCollection" (1 : Nat) ({ cls := "java/lang/Object", name := "<init>", desc := "()V" } : Jvm.MethodName)) ∈ lw_all := lw_g (lw_at lw_m1 100 rfl) rfl
/-! java/util/AbstractSet -/
set_option maxRecDepth 100000
def RJ1 : String := "java/util/AbstractSet"
abbrev cJ1_init : ByteArray := prog_55_method_1_code
def yJ1_init : MethodName := ⟨RJ1, "<init>", "()V"⟩
theorem dJ1_init_0 : decode cJ1_init 0 = .ok (.aload_n 0, 1) := by decide +kernel
theorem dJ1_init_1 : decode cJ1_init 1 = .ok (.invokespecial 1, 3) := by decide +kernel
theorem dJ1_init_4 : decode cJ1_init 4 = .ok (.return_, 1) := by decide +kernel
theorem q97 : (Jvm.Cond.initialized "java/util/AbstractSet") ∈ lw_all := lw_g (lw_at lw_m1 4 rfl) rfl
theorem q188 : (Jvm.Cond.instanceMethod ({ cls := "java/util/AbstractSet", name := "<init>", desc := "()V" } : Jvm.MethodName)) ∈ lw_all := lw_g (lw_at lw_m1 95 rfl) rfl
theorem q189 : (Jvm.Cond.code ({ cls := "java/util/AbstractSet", name := "<init>", desc := "()V" } : Jvm.MethodName) prog_55_method_1_code (1 : Nat) (Option.none : Option Jvm.ClassFile.FieldType)) ∈ lw_all := lw_g (lw_at lw_m1 96 rfl) rfl
theorem q190 : (Jvm.Cond.methodLink "java/util/AbstractSet" (1 : Nat) ({ cls := "java/util/AbstractCollection", name := "<init>", desc := "()V" } : Jvm.MethodName)) ∈ lw_all := lw_g (lw_at lw_m1 97 rfl) rfl
/-! java/util/HashSet -/
set_option maxRecDepth 100000
def RJ2 : String := "java/util/HashSet"
abbrev cJ2_init : ByteArray := prog_69_method_5_code
def yJ2_init : MethodName := ⟨RJ2, "<init>", "(IFZ)V"⟩
def dkwJ2_init_0 : List UInt8 := [42, 183, 0, 1, 42, 187, 0, 42, 89, 27, 36, 183, 0, 44, 181, 0, 10, 177]
abbrev dktJ2_init_0 : List UInt8 := dkwJ2_init_0 ++ []
theorem dksJ2_init_0 : cJ2_init.data.toList.drop 0 = dktJ2_init_0 := by decide +kernel
theorem dJ2_init_0 : decode cJ2_init 0 = .ok (.aload_n 0, 1) := dk_42 (dk_at dksJ2_init_0 0 rfl rfl)
theorem dJ2_init_1 : decode cJ2_init 1 = .ok (.invokespecial 1, 3) := dk_183 0 1 (dk_at dksJ2_init_0 1 rfl rfl)
theorem dJ2_init_4 : decode cJ2_init 4 = .ok (.aload_n 0, 1) := dk_42 (dk_at dksJ2_init_0 4 rfl rfl)
theorem dJ2_init_5 : decode cJ2_init 5 = .ok (.new 42, 3) := dk_187 0 42 (dk_at dksJ2_init_0 5 rfl rfl)
theorem dJ2_init_8 : decode cJ2_init 8 = .ok (.dup, 1) := dk_89 (dk_at dksJ2_init_0 8 rfl rfl)
theorem dJ2_init_9 : decode cJ2_init 9 = .ok (.iload_n 1, 1) := dk_27 (dk_at dksJ2_init_0 9 rfl rfl)
theorem dJ2_init_10 : decode cJ2_init 10 = .ok (.fload_n 2, 1) := dk_36 (dk_at dksJ2_init_0 10 rfl rfl)
theorem dJ2_init_11 : decode cJ2_init 11 = .ok (.invokespecial 44, 3) := dk_183 0 44 (dk_at dksJ2_init_0 11 rfl rfl)
theorem dJ2_init_14 : decode cJ2_init 14 = .ok (.putfield 10, 3) := dk_181 0 10 (dk_at dksJ2_init_0 14 rfl rfl)
theorem dJ2_init_17 : decode cJ2_init 17 = .ok (.return_, 1) := dk_177 (dk_at dksJ2_init_0 17 rfl rfl)
abbrev cJ2_iterator : ByteArray := prog_69_method_6_code
def yJ2_iterator : MethodName := ⟨RJ2, "iterator", "()Ljava/util/Iterator;"⟩
def dkwJ2_iterator_0 : List UInt8 := [42, 180, 0, 10, 182, 0, 45, 185, 0, 49, 1, 0, 176]
abbrev dktJ2_iterator_0 : List UInt8 := dkwJ2_iterator_0 ++ []
theorem dksJ2_iterator_0 : cJ2_iterator.data.toList.drop 0 = dktJ2_iterator_0 := by decide +kernel
theorem dJ2_iterator_0 : decode cJ2_iterator 0 = .ok (.aload_n 0, 1) := dk_42 (dk_at dksJ2_iterator_0 0 rfl rfl)
theorem dJ2_iterator_1 : decode cJ2_iterator 1 = .ok (.getfield 10, 3) := dk_180 0 10 (dk_at dksJ2_iterator_0 1 rfl rfl)
theorem dJ2_iterator_4 : decode cJ2_iterator 4 = .ok (.invokevirtual 45, 3) := dk_182 0 45 (dk_at dksJ2_iterator_0 4 rfl rfl)
theorem dJ2_iterator_7 : decode cJ2_iterator 7 = .ok (.invokeinterface 49 1, 5) := by decide +kernel
theorem dJ2_iterator_12 : decode cJ2_iterator 12 = .ok (.areturn, 1) := dk_176 (dk_at dksJ2_iterator_0 12 rfl rfl)
abbrev cJ2_add : ByteArray := prog_69_method_10_code
def yJ2_add : MethodName := ⟨RJ2, "add", "(Ljava/lang/Object;)Z"⟩
def dkwJ2_add_0 : List UInt8 := [42, 180, 0, 10, 43, 178, 0, 64, 182, 0, 68, 199, 0, 7, 4, 167, 0, 4, 3, 172]
abbrev dktJ2_add_0 : List UInt8 := dkwJ2_add_0 ++ []
theorem dksJ2_add_0 : cJ2_add.data.toList.drop 0 = dktJ2_add_0 := by decide +kernel
theorem dJ2_add_0 : decode cJ2_add 0 = .ok (.aload_n 0, 1) := dk_42 (dk_at dksJ2_add_0 0 rfl rfl)
theorem dJ2_add_1 : decode cJ2_add 1 = .ok (.getfield 10, 3) := dk_180 0 10 (dk_at dksJ2_add_0 1 rfl rfl)
theorem dJ2_add_4 : decode cJ2_add 4 = .ok (.aload_n 1, 1) := dk_43 (dk_at dksJ2_add_0 4 rfl rfl)
theorem dJ2_add_5 : decode cJ2_add 5 = .ok (.getstatic 64, 3) := dk_178 0 64 (dk_at dksJ2_add_0 5 rfl rfl)
theorem dJ2_add_8 : decode cJ2_add 8 = .ok (.invokevirtual 68, 3) := dk_182 0 68 (dk_at dksJ2_add_0 8 rfl rfl)
theorem dJ2_add_11 : decode cJ2_add 11 = .ok (.ifnonnull 7, 3) := dk_199 0 7 (dk_at dksJ2_add_0 11 rfl rfl)
theorem dJ2_add_14 : decode cJ2_add 14 = .ok (.iconst 1, 1) := dk_4 (dk_at dksJ2_add_0 14 rfl rfl)
theorem dJ2_add_15 : decode cJ2_add 15 = .ok (.goto 4, 3) := dk_167 0 4 (dk_at dksJ2_add_0 15 rfl rfl)
theorem dJ2_add_18 : decode cJ2_add 18 = .ok (.iconst 0, 1) := dk_3 (dk_at dksJ2_add_0 18 rfl rfl)
theorem dJ2_add_19 : decode cJ2_add 19 = .ok (.ireturn, 1) := dk_172 (dk_at dksJ2_add_0 19 rfl rfl)
abbrev cJ2_contains : ByteArray := prog_69_method_9_code
def yJ2_contains : MethodName := ⟨RJ2, "contains", "(Ljava/lang/Object;)Z"⟩
def dkwJ2_contains_0 : List UInt8 := [42, 180, 0, 10, 43, 182, 0, 60, 172]
abbrev dktJ2_contains_0 : List UInt8 := dkwJ2_contains_0 ++ []
theorem dksJ2_contains_0 : cJ2_contains.data.toList.drop 0 = dktJ2_contains_0 := by decide +kernel
theorem dJ2_contains_0 : decode cJ2_contains 0 = .ok (.aload_n 0, 1) := dk_42 (dk_at dksJ2_contains_0 0 rfl rfl)
theorem dJ2_contains_1 : decode cJ2_contains 1 = .ok (.getfield 10, 3) := dk_180 0 10 (dk_at dksJ2_contains_0 1 rfl rfl)
theorem dJ2_contains_4 : decode cJ2_contains 4 = .ok (.aload_n 1, 1) := dk_43 (dk_at dksJ2_contains_0 4 rfl rfl)
theorem dJ2_contains_5 : decode cJ2_contains 5 = .ok (.invokevirtual 60, 3) := dk_182 0 60 (dk_at dksJ2_contains_0 5 rfl rfl)
theorem dJ2_contains_8 : decode cJ2_contains 8 = .ok (.ireturn, 1) := dk_172 (dk_at dksJ2_contains_0 8 rfl rfl)
abbrev cJ2_remove : ByteArray := prog_69_method_11_code
def yJ2_remove : MethodName := ⟨RJ2, "remove", "(Ljava/lang/Object;)Z"⟩
def dkwJ2_remove_0 : List UInt8 := [42, 180, 0, 10, 43, 182, 0, 72, 178, 0, 64, 166, 0, 7, 4, 167, 0, 4, 3, 172]
abbrev dktJ2_remove_0 : List UInt8 := dkwJ2_remove_0 ++ []
theorem dksJ2_remove_0 : cJ2_remove.data.toList.drop 0 = dktJ2_remove_0 := by decide +kernel
theorem dJ2_remove_0 : decode cJ2_remove 0 = .ok (.aload_n 0, 1) := dk_42 (dk_at dksJ2_remove_0 0 rfl rfl)
theorem dJ2_remove_1 : decode cJ2_remove 1 = .ok (.getfield 10, 3) := dk_180 0 10 (dk_at dksJ2_remove_0 1 rfl rfl)
theorem dJ2_remove_4 : decode cJ2_remove 4 = .ok (.aload_n 1, 1) := dk_43 (dk_at dksJ2_remove_0 4 rfl rfl)
theorem dJ2_remove_5 : decode cJ2_remove 5 = .ok (.invokevirtual 72, 3) := dk_182 0 72 (dk_at dksJ2_remove_0 5 rfl rfl)
theorem dJ2_remove_8 : decode cJ2_remove 8 = .ok (.getstatic 64, 3) := dk_178 0 64 (dk_at dksJ2_remove_0 8 rfl rfl)
theorem dJ2_remove_11 : decode cJ2_remove 11 = .ok (.if_acmp .ne 7, 3) := dk_166 0 7 (dk_at dksJ2_remove_0 11 rfl rfl)
theorem dJ2_remove_14 : decode cJ2_remove 14 = .ok (.iconst 1, 1) := dk_4 (dk_at dksJ2_remove_0 14 rfl rfl)
theorem dJ2_remove_15 : decode cJ2_remove 15 = .ok (.goto 4, 3) := dk_167 0 4 (dk_at dksJ2_remove_0 15 rfl rfl)
theorem dJ2_remove_18 : decode cJ2_remove 18 = .ok (.iconst 0, 1) := dk_3 (dk_at dksJ2_remove_0 18 rfl rfl)
theorem dJ2_remove_19 : decode cJ2_remove 19 = .ok (.ireturn, 1) := dk_172 (dk_at dksJ2_remove_0 19 rfl rfl)
abbrev cJ2_size : ByteArray := prog_69_method_7_code
def yJ2_size : MethodName := ⟨RJ2, "size", "()I"⟩
def dkwJ2_size_0 : List UInt8 := [42, 180, 0, 10, 182, 0, 55, 172]
abbrev dktJ2_size_0 : List UInt8 := dkwJ2_size_0 ++ []
theorem dksJ2_size_0 : cJ2_size.data.toList.drop 0 = dktJ2_size_0 := by decide +kernel
theorem dJ2_size_0 : decode cJ2_size 0 = .ok (.aload_n 0, 1) := dk_42 (dk_at dksJ2_size_0 0 rfl rfl)
theorem dJ2_size_1 : decode cJ2_size 1 = .ok (.getfield 10, 3) := dk_180 0 10 (dk_at dksJ2_size_0 1 rfl rfl)
theorem dJ2_size_4 : decode cJ2_size 4 = .ok (.invokevirtual 55, 3) := dk_182 0 55 (dk_at dksJ2_size_0 4 rfl rfl)
theorem dJ2_size_7 : decode cJ2_size 7 = .ok (.ireturn, 1) := dk_172 (dk_at dksJ2_size_0 7 rfl rfl)
theorem q98 : (Jvm.Cond.initialized "java/util/HashSet") ∈ lw_all := lw_g (lw_at lw_m1 5 rfl) rfl
theorem q185 : (Jvm.Cond.instanceMethod ({ cls := "java/util/HashSet", name := "<init>", desc := "(IFZ)V" } : Jvm.MethodName)) ∈ lw_all := lw_g (lw_at lw_m1 92 rfl) rfl
theorem q186 : (Jvm.Cond.code ({ cls := "java/util/HashSet", name := "<init>", desc := "(IFZ)V" } : Jvm.MethodName) prog_69_method_5_code (4 : Nat) (Option.none : Option Jvm.ClassFile.FieldType)) ∈ lw_all := lw_g (lw_at lw_m1 93 rfl) rfl
theorem q187 : (Jvm.Cond.methodLink "java/util/HashSet" (1 : Nat) ({ cls := "java/util/AbstractSet", name := "<init>", desc := "()V" } : Jvm.MethodName)) ∈ lw_all := lw_g (lw_at lw_m1 94 rfl) rfl
theorem q194 : (Jvm.Cond.classLink "java/util/HashSet" (42 : Nat) "java/util/LinkedHashMap") ∈ lw_all := lw_g (lw_at lw_m1 101 rfl) rfl
theorem q196 : (Jvm.Cond.methodLink "java/util/HashSet" (44 : Nat) ({ cls := "java/util/LinkedHashMap", name := "<init>", desc := "(IF)V" } : Jvm.MethodName)) ∈ lw_all := lw_g (lw_at lw_m1 103 rfl) rfl
theorem q1084 : (Jvm.Cond.fieldLink "java/util/HashSet" (10 : Nat) "java/util/HashSet" "map" "Ljava/util/HashMap;") ∈ lw_all := lw_g (lw_at lw_m5 31 rfl) rfl
theorem q1086 : (Jvm.Cond.soleField "java/util/HashSet" "map") ∈ lw_all := lw_g (lw_at lw_m5 33 rfl) rfl
theorem q1390 : (Jvm.Cond.declares ({ cls := "java/util/HashSet", name := "iterator", desc := "()Ljava/util/Iterator;" } : Jvm.MethodName)) ∈ lw_tbl := lw_at lw_m6 97 rfl
theorem q1392 : (Jvm.Cond.instanceMethod ({ cls := "java/util/HashSet", name := "iterator", desc := "()Ljava/util/Iterator;" } : Jvm.MethodName)) ∈ lw_all := lw_g (lw_at lw_m6 99 rfl) rfl
theorem q1393 : (Jvm.Cond.code ({ cls := "java/util/HashSet", name := "iterator", desc := "()Ljava/util/Iterator;" } : Jvm.MethodName) prog_69_method_6_code (1 : Nat) (Option.some (Jvm.ClassFile.FieldType.object "java/util/Iterator"))) ∈ lw_all := lw_g (lw_at lw_m6 100 rfl) rfl
theorem q1394 : (Jvm.Cond.methodLink "java/util/HashSet" (45 : Nat) ({ cls := "java/util/HashMap", name := "keySet", desc := "()Ljava/util/Set;" } : Jvm.MethodName)) ∈ lw_all := lw_g (lw_at lw_m6 101 rfl) rfl
theorem q1419 : (Jvm.Cond.interfaceEntry "java/util/HashSet" (49 : Nat)) ∈ lw_tbl := lw_at lw_m6 126 rfl
theorem q1420 : (Jvm.Cond.methodLink "java/util/HashSet" (49 : Nat) ({ cls := "java/util/Set", name := "iterator", desc := "()Ljava/util/Iterator;" } : Jvm.MethodName)) ∈ lw_all := lw_g (lw_at lw_m6 127 rfl) rfl
theorem q1488 : (Jvm.Cond.publicMethod ({ cls := "java/util/HashSet", name := "iterator", desc := "()Ljava/util/Iterator;" } : Jvm.MethodName)) ∈ lw_tbl := lw_at lw_m6 195 rfl
theorem q1632 : (Jvm.Cond.declares ({ cls := "java/util/HashSet", name := "add", desc := "(Ljava/lang/Object;)Z" } : Jvm.MethodName)) ∈ lw_tbl := lw_at lw_m7 99 rfl
theorem q1634 : (Jvm.Cond.instanceMethod ({ cls := "java/util/HashSet", name := "add", desc := "(Ljava/lang/Object;)Z" } : Jvm.MethodName)) ∈ lw_all := lw_g (lw_at lw_m7 101 rfl) rfl
theorem q1635 : (Jvm.Cond.code ({ cls := "java/util/HashSet", name := "add", desc := "(Ljava/lang/Object;)Z" } : Jvm.MethodName) prog_69_method_10_code (2 : Nat) (Option.some Jvm.ClassFile.FieldType.boolean)) ∈ lw_all := lw_g (lw_at lw_m7 102 rfl) rfl
theorem q1636 : (Jvm.Cond.fieldLink "java/util/HashSet" (64 : Nat) "java/util/HashSet" "PRESENT" "Ljava/lang/Object;") ∈ lw_all := lw_g (lw_at lw_m7 103 rfl) rfl
theorem q1637 : (Jvm.Cond.laysStatic "java/util/HashSet" "PRESENT" "Ljava/lang/Object;") ∈ lw_tbl := lw_at lw_m7 104 rfl
theorem q1638 : (Jvm.Cond.methodLink "java/util/HashSet" (68 : Nat) ({ cls := "java/util/HashMap", name := "put", desc := "(Ljava/lang/Object;Ljava/lang/Object;)Ljava/lang/Object;" } : Jvm.MethodName)) ∈ lw_all := lw_g (lw_at lw_m7 105 rfl) rfl
theorem q2433 : (Jvm.Cond.declares ({ cls := "java/util/HashSet", name := "contains", desc := "(Ljava/lang/Object;)Z" } : Jvm.MethodName)) ∈ lw_tbl := lw_at lw_m10 180 rfl
theorem q2435 : (Jvm.Cond.instanceMethod ({ cls := "java/util/HashSet", name := "contains", desc := "(Ljava/lang/Object;)Z" } : Jvm.MethodName)) ∈ lw_all := lw_g (lw_at lw_m10 182 rfl) rfl
theorem q2436 : (Jvm.Cond.code ({ cls := "java/util/HashSet", name := "contains", desc := "(Ljava/lang/Object;)Z" } : Jvm.MethodName) prog_69_method_9_code (2 : Nat) (Option.some Jvm.ClassFile.FieldType.boolean)) ∈ lw_all := lw_g (lw_at lw_m10 183 rfl) rfl
theorem q2437 : (Jvm.Cond.methodLink "java/util/HashSet" (60 : Nat) ({ cls := "java/util/HashMap", name := "containsKey", desc := "(Ljava/lang/Object;)Z" } : Jvm.MethodName)) ∈ lw_all := lw_g (lw_at lw_m10 184 rfl) rfl
theorem q2467 : (Jvm.Cond.declares ({ cls := "java/util/HashSet", name := "remove", desc := "(Ljava/lang/Object;)Z" } : Jvm.MethodName)) ∈ lw_tbl := lw_at lw_m10 214 rfl
theorem q2469 : (Jvm.Cond.instanceMethod ({ cls := "java/util/HashSet", name := "remove", desc := "(Ljava/lang/Object;)Z" } : Jvm.MethodName)) ∈ lw_all := lw_g (lw_at lw_m10 216 rfl) rfl
theorem q2470 : (Jvm.Cond.code ({ cls := "java/util/HashSet", name := "remove", desc := "(Ljava/lang/Object;)Z" } : Jvm.MethodName) prog_69_method_11_code (2 : Nat) (Option.some Jvm.ClassFile.FieldType.boolean)) ∈ lw_all := lw_g (lw_at lw_m10 217 rfl) rfl
theorem q2471 : (Jvm.Cond.methodLink "java/util/HashSet" (72 : Nat) ({ cls := "java/util/HashMap", name := "remove", desc := "(Ljava/lang/Object;)Ljava/lang/Object;" } : Jvm.MethodName)) ∈ lw_all := lw_g (lw_at lw_m10 218 rfl) rfl
theorem q2969 : (Jvm.Cond.declares ({ cls := "java/util/HashSet", name := "size", desc := "()I" } : Jvm.MethodName)) ∈ lw_tbl := lw_at lw_m12 236 rfl
theorem q2971 : (Jvm.Cond.instanceMethod ({ cls := "java/util/HashSet", name := "size", desc := "()I" } : Jvm.MethodName)) ∈ lw_all := lw_g (lw_at lw_m12 238 rfl) rfl
theorem q2972 : (Jvm.Cond.code ({ cls := "java/util/HashSet", name := "size", desc := "()I" } : Jvm.MethodName) prog_69_method_7_code (1 : Nat) (Option.some Jvm.ClassFile.FieldType.int)) ∈ lw_all := lw_g (lw_at lw_m12 239 rfl) rfl
theorem q2973 : (Jvm.Cond.methodLink "java/util/HashSet" (55 : Nat) ({ cls := "java/util/HashMap", name := "size", desc := "()I" } : Jvm.MethodName)) ∈ lw_all := lw_g (lw_at lw_m13 0 rfl) rfl
/-! java/util/LinkedHashSet -/
set_option maxRecDepth 100000
def RJ3 : String := "java/util/LinkedHashSet"
def TJ3 : u_T := fun k => match k with
  | _ => ("java/util/HashSet", "map", "Ljava/util/HashMap;", false)
def tyJ3 : Nat → FieldType := fun k => match k with
  | _ => .object "java/util/HashMap"
abbrev wsJ30 : List Cond := u_ws RJ3 TJ3 1
theorem nmJ3 : ∀ a, a < 1 → ∀ b, b < 1 → a ≠ b → (TJ3 a).2.1 ≠ (TJ3 b).2.1 := by decide +kernel
theorem tyJ3_ok : ∀ k, k < 1 → parseFieldDescriptor (TJ3 k).2.2.1 = some (tyJ3 k) := by decide +kernel
abbrev cJ3_init : ByteArray := prog_76_method_3_code
def yJ3_init : MethodName := ⟨RJ3, "<init>", "()V"⟩
def dkwJ3_init_0 : List UInt8 := [42, 16, 16, 18, 7, 4, 183, 0, 1, 177]
abbrev dktJ3_init_0 : List UInt8 := dkwJ3_init_0 ++ []
theorem dksJ3_init_0 : cJ3_init.data.toList.drop 0 = dktJ3_init_0 := by decide +kernel
theorem dJ3_init_0 : decode cJ3_init 0 = .ok (.aload_n 0, 1) := dk_42 (dk_at dksJ3_init_0 0 rfl rfl)
theorem dJ3_init_1 : decode cJ3_init 1 = .ok (.bipush 16, 2) := dk_16 16 (dk_at dksJ3_init_0 1 rfl rfl)
theorem dJ3_init_3 : decode cJ3_init 3 = .ok (.ldc 7, 2) := dk_18 7 (dk_at dksJ3_init_0 3 rfl rfl)
theorem dJ3_init_5 : decode cJ3_init 5 = .ok (.iconst 1, 1) := dk_4 (dk_at dksJ3_init_0 5 rfl rfl)
theorem dJ3_init_6 : decode cJ3_init 6 = .ok (.invokespecial 1, 3) := dk_183 0 1 (dk_at dksJ3_init_0 6 rfl rfl)
theorem dJ3_init_9 : decode cJ3_init 9 = .ok (.return_, 1) := dk_177 (dk_at dksJ3_init_0 9 rfl rfl)
theorem q99 : (Jvm.Cond.initialized "java/util/LinkedHashSet") ∈ lw_all := lw_g (lw_at lw_m1 6 rfl) rfl
theorem q179 : (Jvm.Cond.instantiable "java/util/LinkedHashSet" (1 : Nat)) ∈ lw_all := lw_g (lw_at lw_m1 86 rfl) rfl
theorem q181 : (Jvm.Cond.instanceMethod ({ cls := "java/util/LinkedHashSet", name := "<init>", desc := "()V" } : Jvm.MethodName)) ∈ lw_all := lw_g (lw_at lw_m1 88 rfl) rfl
theorem q182 : (Jvm.Cond.code ({ cls := "java/util/LinkedHashSet", name := "<init>", desc := "()V" } : Jvm.MethodName) prog_76_method_3_code (1 : Nat) (Option.none : Option Jvm.ClassFile.FieldType)) ∈ lw_all := lw_g (lw_at lw_m1 89 rfl) rfl
theorem q183 : (Jvm.Cond.constantFloat "java/util/LinkedHashSet" (7 : Nat) (1061158912 : UInt32)) ∈ lw_all := lw_g (lw_at lw_m1 90 rfl) rfl
theorem q184 : (Jvm.Cond.methodLink "java/util/LinkedHashSet" (1 : Nat) ({ cls := "java/util/HashSet", name := "<init>", desc := "(IFZ)V" } : Jvm.MethodName)) ∈ lw_all := lw_g (lw_at lw_m1 91 rfl) rfl
theorem q917 : (Jvm.Cond.selects "java/util/LinkedHashSet" ({ cls := "java/lang/Object", name := "getClass", desc := "()Ljava/lang/Class;" } : Jvm.MethodName) ({ cls := "java/lang/Object", name := "getClass", desc := "()Ljava/lang/Class;" } : Jvm.MethodName)) ∈ lw_all := lw_g (lw_at lw_m4 104 rfl) rfl
theorem q1085 : (Jvm.Cond.lays "java/util/LinkedHashSet" "java/util/HashSet" "map" "Ljava/util/HashMap;") ∈ lw_all := lw_g (lw_at lw_m5 32 rfl) rfl
theorem q1087 : (Jvm.Cond.superclass "java/util/LinkedHashSet" "java/util/HashSet") ∈ lw_all := lw_g (lw_at lw_m5 34 rfl) rfl
theorem q1389 : (Jvm.Cond.sameMethod "java/util/LinkedHashSet" "java/util/HashSet" "iterator" "()Ljava/util/Iterator;") ∈ lw_all := lw_g (lw_at lw_m6 96 rfl) rfl
theorem q1391 : (Jvm.Cond.selects "java/util/LinkedHashSet" ({ cls := "java/util/LinkedHashSet", name := "iterator", desc := "()Ljava/util/Iterator;" } : Jvm.MethodName) ({ cls := "java/util/HashSet", name := "iterator", desc := "()Ljava/util/Iterator;" } : Jvm.MethodName)) ∈ lw_all := lw_g (lw_at lw_m6 98 rfl) rfl
theorem q1485 : (Jvm.Cond.castable "java/util/LinkedHashSet" "java/util/Set") ∈ lw_tbl := lw_at lw_m6 192 rfl
theorem q1486 : (Jvm.Cond.selects "java/util/LinkedHashSet" ({ cls := "java/util/Set", name := "iterator", desc := "()Ljava/util/Iterator;" } : Jvm.MethodName) ({ cls := "java/util/HashSet", name := "iterator", desc := "()Ljava/util/Iterator;" } : Jvm.MethodName)) ∈ lw_all := lw_g (lw_at lw_m6 193 rfl) rfl
theorem q1487 : (Jvm.Cond.unhidden "java/util/LinkedHashSet" "iterator" "()Ljava/util/Iterator;") ∈ lw_tbl := lw_at lw_m6 194 rfl
theorem q1631 : (Jvm.Cond.sameMethod "java/util/LinkedHashSet" "java/util/HashSet" "add" "(Ljava/lang/Object;)Z") ∈ lw_all := lw_g (lw_at lw_m7 98 rfl) rfl
theorem q1633 : (Jvm.Cond.selects "java/util/LinkedHashSet" ({ cls := "java/util/LinkedHashSet", name := "add", desc := "(Ljava/lang/Object;)Z" } : Jvm.MethodName) ({ cls := "java/util/HashSet", name := "add", desc := "(Ljava/lang/Object;)Z" } : Jvm.MethodName)) ∈ lw_all := lw_g (lw_at lw_m7 100 rfl) rfl
theorem q2432 : (Jvm.Cond.sameMethod "java/util/LinkedHashSet" "java/util/HashSet" "contains" "(Ljava/lang/Object;)Z") ∈ lw_all := lw_g (lw_at lw_m10 179 rfl) rfl
theorem q2434 : (Jvm.Cond.selects "java/util/LinkedHashSet" ({ cls := "java/util/LinkedHashSet", name := "contains", desc := "(Ljava/lang/Object;)Z" } : Jvm.MethodName) ({ cls := "java/util/HashSet", name := "contains", desc := "(Ljava/lang/Object;)Z" } : Jvm.MethodName)) ∈ lw_all := lw_g (lw_at lw_m10 181 rfl) rfl
theorem q2466 : (Jvm.Cond.sameMethod "java/util/LinkedHashSet" "java/util/HashSet" "remove" "(Ljava/lang/Object;)Z") ∈ lw_all := lw_g (lw_at lw_m10 213 rfl) rfl
theorem q2468 : (Jvm.Cond.selects "java/util/LinkedHashSet" ({ cls := "java/util/LinkedHashSet", name := "remove", desc := "(Ljava/lang/Object;)Z" } : Jvm.MethodName) ({ cls := "java/util/HashSet", name := "remove", desc := "(Ljava/lang/Object;)Z" } : Jvm.MethodName)) ∈ lw_all := lw_g (lw_at lw_m10 215 rfl) rfl
theorem q2618 : (Jvm.Cond.castable "java/util/LinkedHashSet" "java/lang/Iterable") ∈ lw_tbl := lw_at lw_m11 125 rfl
theorem q2619 : (Jvm.Cond.selects "java/util/LinkedHashSet" ({ cls := "java/lang/Iterable", name := "iterator", desc := "()Ljava/util/Iterator;" } : Jvm.MethodName) ({ cls := "java/util/HashSet", name := "iterator", desc := "()Ljava/util/Iterator;" } : Jvm.MethodName)) ∈ lw_all := lw_g (lw_at lw_m11 126 rfl) rfl
theorem q2968 : (Jvm.Cond.sameMethod "java/util/LinkedHashSet" "java/util/HashSet" "size" "()I") ∈ lw_all := lw_g (lw_at lw_m12 235 rfl) rfl
theorem q2970 : (Jvm.Cond.selects "java/util/LinkedHashSet" ({ cls := "java/util/LinkedHashSet", name := "size", desc := "()I" } : Jvm.MethodName) ({ cls := "java/util/HashSet", name := "size", desc := "()I" } : Jvm.MethodName)) ∈ lw_all := lw_g (lw_at lw_m12 237 rfl) rfl
theorem q3746 : (Jvm.Cond.castable "java/util/LinkedHashSet" "java/util/SequencedSet") ∈ lw_tbl := lw_at lw_m16 53 rfl
theorem q3766 : (Jvm.Cond.castable "java/util/LinkedHashSet" "java/lang/Object") ∈ lw_tbl := lw_at lw_m16 73 rfl
theorem in_J3 : ∀ w ∈ wsJ30, w ∈ lw_all := lw_in wsJ30 [1085] (by decide +kernel) (by decide +kernel)
/-! java/util/AbstractMap -/
set_option maxRecDepth 100000
def RJ4 : String := "java/util/AbstractMap"
abbrev cJ4_init : ByteArray := prog_54_method_1_code
def yJ4_init : MethodName := ⟨RJ4, "<init>", "()V"⟩
theorem dJ4_init_0 : decode cJ4_init 0 = .ok (.aload_n 0, 1) := by decide +kernel
theorem dJ4_init_1 : decode cJ4_init 1 = .ok (.invokespecial 1, 3) := by decide +kernel
theorem dJ4_init_4 : decode cJ4_init 4 = .ok (.return_, 1) := by decide +kernel
theorem q100 : (Jvm.Cond.initialized "java/util/AbstractMap") ∈ lw_all := lw_g (lw_at lw_m1 7 rfl) rfl
theorem q203 : (Jvm.Cond.instanceMethod ({ cls := "java/util/AbstractMap", name := "<init>", desc := "()V" } : Jvm.MethodName)) ∈ lw_all := lw_g (lw_at lw_m1 110 rfl) rfl
theorem q204 : (Jvm.Cond.code ({ cls := "java/util/AbstractMap", name := "<init>", desc := "()V" } : Jvm.MethodName) prog_54_method_1_code (1 : Nat) (Option.none : Option Jvm.ClassFile.FieldType)) ∈ lw_all := lw_g (lw_at lw_m1 111 rfl) rfl
theorem q205 : (Jvm.Cond.methodLink "java/util/AbstractMap" (1 : Nat) ({ cls := "java/lang/Object", name := "<init>", desc := "()V" } : Jvm.MethodName)) ∈ lw_all := lw_g (lw_at lw_m1 112 rfl) rfl
theorem q1080 : (Jvm.Cond.soleField "java/util/AbstractMap" "keySet") ∈ lw_all := lw_g (lw_at lw_m5 27 rfl) rfl
theorem q1082 : (Jvm.Cond.soleField "java/util/AbstractMap" "values") ∈ lw_all := lw_g (lw_at lw_m5 29 rfl) rfl
/-! java/util/HashMap -/
set_option maxRecDepth 100000
def RJ5 : String := "java/util/HashMap"
abbrev cJ5_init : ByteArray := prog_63_method_5_code
def yJ5_init : MethodName := ⟨RJ5, "<init>", "(IF)V"⟩
def dkwJ5_init_4 : List UInt8 := [181, 0, 88, 177]
abbrev dktJ5_init_4 : List UInt8 := dkwJ5_init_4 ++ []
def dkwJ5_init_3 : List UInt8 := [182, 0, 56, 36, 182, 0, 78, 182, 0, 63, 183, 0, 67, 191, 42, 36, 181, 0, 81, 42, 27, 184, 0, 85]
abbrev dktJ5_init_3 : List UInt8 := dkwJ5_init_3 ++ dktJ5_init_4
def dkwJ5_init_2 : List UInt8 := [158, 0, 10, 36, 184, 0, 70, 153, 0, 30, 187, 0, 49, 89, 187, 0, 51, 89, 183, 0, 53, 18, 76]
abbrev dktJ5_init_2 : List UInt8 := dkwJ5_init_2 ++ dktJ5_init_3
def dkwJ5_init_1 : List UInt8 := [27, 182, 0, 60, 182, 0, 63, 183, 0, 67, 191, 27, 18, 42, 164, 0, 6, 18, 42, 60, 36, 11, 150]
abbrev dktJ5_init_1 : List UInt8 := dkwJ5_init_1 ++ dktJ5_init_2
def dkwJ5_init_0 : List UInt8 := [42, 183, 0, 43, 27, 156, 0, 30, 187, 0, 49, 89, 187, 0, 51, 89, 183, 0, 53, 18, 54, 182, 0, 56]
abbrev dktJ5_init_0 : List UInt8 := dkwJ5_init_0 ++ dktJ5_init_1
theorem dksJ5_init_0 : cJ5_init.data.toList.drop 0 = dktJ5_init_0 := by decide +kernel
theorem dksJ5_init_1 : cJ5_init.data.toList.drop 24 = dktJ5_init_1 := dk_seg dksJ5_init_0 24 rfl rfl
theorem dksJ5_init_2 : cJ5_init.data.toList.drop 47 = dktJ5_init_2 := dk_seg dksJ5_init_1 23 rfl rfl
theorem dksJ5_init_3 : cJ5_init.data.toList.drop 70 = dktJ5_init_3 := dk_seg dksJ5_init_2 23 rfl rfl
theorem dksJ5_init_4 : cJ5_init.data.toList.drop 94 = dktJ5_init_4 := dk_seg dksJ5_init_3 24 rfl rfl
theorem dJ5_init_0 : decode cJ5_init 0 = .ok (.aload_n 0, 1) := dk_42 (dk_at dksJ5_init_0 0 rfl rfl)
theorem dJ5_init_1 : decode cJ5_init 1 = .ok (.invokespecial 43, 3) := dk_183 0 43 (dk_at dksJ5_init_0 1 rfl rfl)
theorem dJ5_init_4 : decode cJ5_init 4 = .ok (.iload_n 1, 1) := dk_27 (dk_at dksJ5_init_0 4 rfl rfl)
theorem dJ5_init_5 : decode cJ5_init 5 = .ok (.ifCond .ge 30, 3) := dk_156 0 30 (dk_at dksJ5_init_0 5 rfl rfl)
theorem dJ5_init_8 : decode cJ5_init 8 = .ok (.new 49, 3) := dk_187 0 49 (dk_at dksJ5_init_0 8 rfl rfl)
theorem dJ5_init_11 : decode cJ5_init 11 = .ok (.dup, 1) := dk_89 (dk_at dksJ5_init_0 11 rfl rfl)
theorem dJ5_init_12 : decode cJ5_init 12 = .ok (.new 51, 3) := dk_187 0 51 (dk_at dksJ5_init_0 12 rfl rfl)
theorem dJ5_init_15 : decode cJ5_init 15 = .ok (.dup, 1) := dk_89 (dk_at dksJ5_init_0 15 rfl rfl)
theorem dJ5_init_16 : decode cJ5_init 16 = .ok (.invokespecial 53, 3) := dk_183 0 53 (dk_at dksJ5_init_0 16 rfl rfl)
theorem dJ5_init_19 : decode cJ5_init 19 = .ok (.ldc 54, 2) := dk_18 54 (dk_at dksJ5_init_0 19 rfl rfl)
theorem dJ5_init_21 : decode cJ5_init 21 = .ok (.invokevirtual 56, 3) := dk_182 0 56 (dk_at dksJ5_init_0 21 rfl rfl)
theorem dJ5_init_24 : decode cJ5_init 24 = .ok (.iload_n 1, 1) := dk_27 (dk_at dksJ5_init_1 0 rfl rfl)
theorem dJ5_init_25 : decode cJ5_init 25 = .ok (.invokevirtual 60, 3) := dk_182 0 60 (dk_at dksJ5_init_1 1 rfl rfl)
theorem dJ5_init_28 : decode cJ5_init 28 = .ok (.invokevirtual 63, 3) := dk_182 0 63 (dk_at dksJ5_init_1 4 rfl rfl)
theorem dJ5_init_31 : decode cJ5_init 31 = .ok (.invokespecial 67, 3) := dk_183 0 67 (dk_at dksJ5_init_1 7 rfl rfl)
theorem dJ5_init_34 : decode cJ5_init 34 = .ok (.athrow, 1) := dk_191 (dk_at dksJ5_init_1 10 rfl rfl)
theorem dJ5_init_35 : decode cJ5_init 35 = .ok (.iload_n 1, 1) := dk_27 (dk_at dksJ5_init_1 11 rfl rfl)
theorem dJ5_init_36 : decode cJ5_init 36 = .ok (.ldc 42, 2) := dk_18 42 (dk_at dksJ5_init_1 12 rfl rfl)
theorem dJ5_init_38 : decode cJ5_init 38 = .ok (.if_icmp .le 6, 3) := dk_164 0 6 (dk_at dksJ5_init_1 14 rfl rfl)
theorem dJ5_init_41 : decode cJ5_init 41 = .ok (.ldc 42, 2) := dk_18 42 (dk_at dksJ5_init_1 17 rfl rfl)
theorem dJ5_init_43 : decode cJ5_init 43 = .ok (.istore_n 1, 1) := dk_60 (dk_at dksJ5_init_1 19 rfl rfl)
theorem dJ5_init_44 : decode cJ5_init 44 = .ok (.fload_n 2, 1) := dk_36 (dk_at dksJ5_init_1 20 rfl rfl)
theorem dJ5_init_45 : decode cJ5_init 45 = .ok (.fconst 0, 1) := dk_11 (dk_at dksJ5_init_1 21 rfl rfl)
theorem dJ5_init_46 : decode cJ5_init 46 = .ok (.fcmp .g, 1) := dk_150 (dk_at dksJ5_init_1 22 rfl rfl)
theorem dJ5_init_47 : decode cJ5_init 47 = .ok (.ifCond .le 10, 3) := dk_158 0 10 (dk_at dksJ5_init_2 0 rfl rfl)
theorem dJ5_init_50 : decode cJ5_init 50 = .ok (.fload_n 2, 1) := dk_36 (dk_at dksJ5_init_2 3 rfl rfl)
theorem dJ5_init_51 : decode cJ5_init 51 = .ok (.invokestatic 70, 3) := dk_184 0 70 (dk_at dksJ5_init_2 4 rfl rfl)
theorem dJ5_init_54 : decode cJ5_init 54 = .ok (.ifCond .eq 30, 3) := dk_153 0 30 (dk_at dksJ5_init_2 7 rfl rfl)
theorem dJ5_init_57 : decode cJ5_init 57 = .ok (.new 49, 3) := dk_187 0 49 (dk_at dksJ5_init_2 10 rfl rfl)
theorem dJ5_init_60 : decode cJ5_init 60 = .ok (.dup, 1) := dk_89 (dk_at dksJ5_init_2 13 rfl rfl)
theorem dJ5_init_61 : decode cJ5_init 61 = .ok (.new 51, 3) := dk_187 0 51 (dk_at dksJ5_init_2 14 rfl rfl)
theorem dJ5_init_64 : decode cJ5_init 64 = .ok (.dup, 1) := dk_89 (dk_at dksJ5_init_2 17 rfl rfl)
theorem dJ5_init_65 : decode cJ5_init 65 = .ok (.invokespecial 53, 3) := dk_183 0 53 (dk_at dksJ5_init_2 18 rfl rfl)
theorem dJ5_init_68 : decode cJ5_init 68 = .ok (.ldc 76, 2) := dk_18 76 (dk_at dksJ5_init_2 21 rfl rfl)
theorem dJ5_init_70 : decode cJ5_init 70 = .ok (.invokevirtual 56, 3) := dk_182 0 56 (dk_at dksJ5_init_3 0 rfl rfl)
theorem dJ5_init_73 : decode cJ5_init 73 = .ok (.fload_n 2, 1) := dk_36 (dk_at dksJ5_init_3 3 rfl rfl)
theorem dJ5_init_74 : decode cJ5_init 74 = .ok (.invokevirtual 78, 3) := dk_182 0 78 (dk_at dksJ5_init_3 4 rfl rfl)
theorem dJ5_init_77 : decode cJ5_init 77 = .ok (.invokevirtual 63, 3) := dk_182 0 63 (dk_at dksJ5_init_3 7 rfl rfl)
theorem dJ5_init_80 : decode cJ5_init 80 = .ok (.invokespecial 67, 3) := dk_183 0 67 (dk_at dksJ5_init_3 10 rfl rfl)
theorem dJ5_init_83 : decode cJ5_init 83 = .ok (.athrow, 1) := dk_191 (dk_at dksJ5_init_3 13 rfl rfl)
theorem dJ5_init_84 : decode cJ5_init 84 = .ok (.aload_n 0, 1) := dk_42 (dk_at dksJ5_init_3 14 rfl rfl)
theorem dJ5_init_85 : decode cJ5_init 85 = .ok (.fload_n 2, 1) := dk_36 (dk_at dksJ5_init_3 15 rfl rfl)
theorem dJ5_init_86 : decode cJ5_init 86 = .ok (.putfield 81, 3) := dk_181 0 81 (dk_at dksJ5_init_3 16 rfl rfl)
theorem dJ5_init_89 : decode cJ5_init 89 = .ok (.aload_n 0, 1) := dk_42 (dk_at dksJ5_init_3 19 rfl rfl)
theorem dJ5_init_90 : decode cJ5_init 90 = .ok (.iload_n 1, 1) := dk_27 (dk_at dksJ5_init_3 20 rfl rfl)
theorem dJ5_init_91 : decode cJ5_init 91 = .ok (.invokestatic 85, 3) := dk_184 0 85 (dk_at dksJ5_init_3 21 rfl rfl)
theorem dJ5_init_94 : decode cJ5_init 94 = .ok (.putfield 88, 3) := dk_181 0 88 (dk_at dksJ5_init_4 0 rfl rfl)
theorem dJ5_init_97 : decode cJ5_init 97 = .ok (.return_, 1) := dk_177 (dk_at dksJ5_init_4 3 rfl rfl)
abbrev cJ5_tableSizeFor : ByteArray := prog_63_method_4_code
def yJ5_tableSizeFor : MethodName := ⟨RJ5, "tableSizeFor", "(I)I"⟩
def dkwJ5_tableSizeFor_1 : List UInt8 := [18, 42, 167, 0, 6, 27, 4, 96, 172]
abbrev dktJ5_tableSizeFor_1 : List UInt8 := dkwJ5_tableSizeFor_1 ++ []
def dkwJ5_tableSizeFor_0 : List UInt8 := [2, 26, 4, 100, 184, 0, 34, 124, 60, 27, 156, 0, 7, 4, 167, 0, 17, 27, 18, 42, 161, 0, 8]
abbrev dktJ5_tableSizeFor_0 : List UInt8 := dkwJ5_tableSizeFor_0 ++ dktJ5_tableSizeFor_1
theorem dksJ5_tableSizeFor_0 : cJ5_tableSizeFor.data.toList.drop 0 = dktJ5_tableSizeFor_0 := by decide +kernel
theorem dksJ5_tableSizeFor_1 : cJ5_tableSizeFor.data.toList.drop 23 = dktJ5_tableSizeFor_1 := dk_seg dksJ5_tableSizeFor_0 23 rfl rfl
theorem dJ5_tableSizeFor_0 : decode cJ5_tableSizeFor 0 = .ok (.iconst (-1), 1) := dk_2 (dk_at dksJ5_tableSizeFor_0 0 rfl rfl)
theorem dJ5_tableSizeFor_1 : decode cJ5_tableSizeFor 1 = .ok (.iload_n 0, 1) := dk_26 (dk_at dksJ5_tableSizeFor_0 1 rfl rfl)
theorem dJ5_tableSizeFor_2 : decode cJ5_tableSizeFor 2 = .ok (.iconst 1, 1) := dk_4 (dk_at dksJ5_tableSizeFor_0 2 rfl rfl)
theorem dJ5_tableSizeFor_3 : decode cJ5_tableSizeFor 3 = .ok (.isub, 1) := dk_100 (dk_at dksJ5_tableSizeFor_0 3 rfl rfl)
theorem dJ5_tableSizeFor_4 : decode cJ5_tableSizeFor 4 = .ok (.invokestatic 34, 3) := dk_184 0 34 (dk_at dksJ5_tableSizeFor_0 4 rfl rfl)
theorem dJ5_tableSizeFor_7 : decode cJ5_tableSizeFor 7 = .ok (.iushr, 1) := dk_124 (dk_at dksJ5_tableSizeFor_0 7 rfl rfl)
theorem dJ5_tableSizeFor_8 : decode cJ5_tableSizeFor 8 = .ok (.istore_n 1, 1) := dk_60 (dk_at dksJ5_tableSizeFor_0 8 rfl rfl)
theorem dJ5_tableSizeFor_9 : decode cJ5_tableSizeFor 9 = .ok (.iload_n 1, 1) := dk_27 (dk_at dksJ5_tableSizeFor_0 9 rfl rfl)
theorem dJ5_tableSizeFor_10 : decode cJ5_tableSizeFor 10 = .ok (.ifCond .ge 7, 3) := dk_156 0 7 (dk_at dksJ5_tableSizeFor_0 10 rfl rfl)
theorem dJ5_tableSizeFor_13 : decode cJ5_tableSizeFor 13 = .ok (.iconst 1, 1) := dk_4 (dk_at dksJ5_tableSizeFor_0 13 rfl rfl)
theorem dJ5_tableSizeFor_14 : decode cJ5_tableSizeFor 14 = .ok (.goto 17, 3) := dk_167 0 17 (dk_at dksJ5_tableSizeFor_0 14 rfl rfl)
theorem dJ5_tableSizeFor_17 : decode cJ5_tableSizeFor 17 = .ok (.iload_n 1, 1) := dk_27 (dk_at dksJ5_tableSizeFor_0 17 rfl rfl)
theorem dJ5_tableSizeFor_18 : decode cJ5_tableSizeFor 18 = .ok (.ldc 42, 2) := dk_18 42 (dk_at dksJ5_tableSizeFor_0 18 rfl rfl)
theorem dJ5_tableSizeFor_20 : decode cJ5_tableSizeFor 20 = .ok (.if_icmp .lt 8, 3) := dk_161 0 8 (dk_at dksJ5_tableSizeFor_0 20 rfl rfl)
theorem dJ5_tableSizeFor_23 : decode cJ5_tableSizeFor 23 = .ok (.ldc 42, 2) := dk_18 42 (dk_at dksJ5_tableSizeFor_1 0 rfl rfl)
theorem dJ5_tableSizeFor_25 : decode cJ5_tableSizeFor 25 = .ok (.goto 6, 3) := dk_167 0 6 (dk_at dksJ5_tableSizeFor_1 2 rfl rfl)
theorem dJ5_tableSizeFor_28 : decode cJ5_tableSizeFor 28 = .ok (.iload_n 1, 1) := dk_27 (dk_at dksJ5_tableSizeFor_1 5 rfl rfl)
theorem dJ5_tableSizeFor_29 : decode cJ5_tableSizeFor 29 = .ok (.iconst 1, 1) := dk_4 (dk_at dksJ5_tableSizeFor_1 6 rfl rfl)
theorem dJ5_tableSizeFor_30 : decode cJ5_tableSizeFor 30 = .ok (.iadd, 1) := dk_96 (dk_at dksJ5_tableSizeFor_1 7 rfl rfl)
theorem dJ5_tableSizeFor_31 : decode cJ5_tableSizeFor 31 = .ok (.ireturn, 1) := dk_172 (dk_at dksJ5_tableSizeFor_1 8 rfl rfl)
abbrev cJ5_put : ByteArray := prog_63_method_15_code
def yJ5_put : MethodName := ⟨RJ5, "put", "(Ljava/lang/Object;Ljava/lang/Object;)Ljava/lang/Object;"⟩
def dkwJ5_put_0 : List UInt8 := [42, 43, 184, 0, 149, 43, 44, 3, 4, 182, 0, 152, 176]
abbrev dktJ5_put_0 : List UInt8 := dkwJ5_put_0 ++ []
theorem dksJ5_put_0 : cJ5_put.data.toList.drop 0 = dktJ5_put_0 := by decide +kernel
theorem dJ5_put_0 : decode cJ5_put 0 = .ok (.aload_n 0, 1) := dk_42 (dk_at dksJ5_put_0 0 rfl rfl)
theorem dJ5_put_1 : decode cJ5_put 1 = .ok (.aload_n 1, 1) := dk_43 (dk_at dksJ5_put_0 1 rfl rfl)
theorem dJ5_put_2 : decode cJ5_put 2 = .ok (.invokestatic 149, 3) := dk_184 0 149 (dk_at dksJ5_put_0 2 rfl rfl)
theorem dJ5_put_5 : decode cJ5_put 5 = .ok (.aload_n 1, 1) := dk_43 (dk_at dksJ5_put_0 5 rfl rfl)
theorem dJ5_put_6 : decode cJ5_put 6 = .ok (.aload_n 2, 1) := dk_44 (dk_at dksJ5_put_0 6 rfl rfl)
theorem dJ5_put_7 : decode cJ5_put 7 = .ok (.iconst 0, 1) := dk_3 (dk_at dksJ5_put_0 7 rfl rfl)
theorem dJ5_put_8 : decode cJ5_put 8 = .ok (.iconst 1, 1) := dk_4 (dk_at dksJ5_put_0 8 rfl rfl)
theorem dJ5_put_9 : decode cJ5_put 9 = .ok (.invokevirtual 152, 3) := dk_182 0 152 (dk_at dksJ5_put_0 9 rfl rfl)
theorem dJ5_put_12 : decode cJ5_put 12 = .ok (.areturn, 1) := dk_176 (dk_at dksJ5_put_0 12 rfl rfl)
abbrev cJ5_hash : ByteArray := prog_63_method_1_code
def yJ5_hash : MethodName := ⟨RJ5, "hash", "(Ljava/lang/Object;)I"⟩
def dkwJ5_hash_0 : List UInt8 := [42, 199, 0, 7, 3, 167, 0, 14, 42, 182, 0, 1, 89, 60, 27, 16, 16, 124, 130, 172]
abbrev dktJ5_hash_0 : List UInt8 := dkwJ5_hash_0 ++ []
theorem dksJ5_hash_0 : cJ5_hash.data.toList.drop 0 = dktJ5_hash_0 := by decide +kernel
theorem dJ5_hash_0 : decode cJ5_hash 0 = .ok (.aload_n 0, 1) := dk_42 (dk_at dksJ5_hash_0 0 rfl rfl)
theorem dJ5_hash_1 : decode cJ5_hash 1 = .ok (.ifnonnull 7, 3) := dk_199 0 7 (dk_at dksJ5_hash_0 1 rfl rfl)
theorem dJ5_hash_4 : decode cJ5_hash 4 = .ok (.iconst 0, 1) := dk_3 (dk_at dksJ5_hash_0 4 rfl rfl)
theorem dJ5_hash_5 : decode cJ5_hash 5 = .ok (.goto 14, 3) := dk_167 0 14 (dk_at dksJ5_hash_0 5 rfl rfl)
theorem dJ5_hash_8 : decode cJ5_hash 8 = .ok (.aload_n 0, 1) := dk_42 (dk_at dksJ5_hash_0 8 rfl rfl)
theorem dJ5_hash_9 : decode cJ5_hash 9 = .ok (.invokevirtual 1, 3) := dk_182 0 1 (dk_at dksJ5_hash_0 9 rfl rfl)
theorem dJ5_hash_12 : decode cJ5_hash 12 = .ok (.dup, 1) := dk_89 (dk_at dksJ5_hash_0 12 rfl rfl)
theorem dJ5_hash_13 : decode cJ5_hash 13 = .ok (.istore_n 1, 1) := dk_60 (dk_at dksJ5_hash_0 13 rfl rfl)
theorem dJ5_hash_14 : decode cJ5_hash 14 = .ok (.iload_n 1, 1) := dk_27 (dk_at dksJ5_hash_0 14 rfl rfl)
theorem dJ5_hash_15 : decode cJ5_hash 15 = .ok (.bipush 16, 2) := dk_16 16 (dk_at dksJ5_hash_0 15 rfl rfl)
theorem dJ5_hash_17 : decode cJ5_hash 17 = .ok (.iushr, 1) := dk_124 (dk_at dksJ5_hash_0 17 rfl rfl)
theorem dJ5_hash_18 : decode cJ5_hash 18 = .ok (.ixor, 1) := dk_130 (dk_at dksJ5_hash_0 18 rfl rfl)
theorem dJ5_hash_19 : decode cJ5_hash 19 = .ok (.ireturn, 1) := dk_172 (dk_at dksJ5_hash_0 19 rfl rfl)
abbrev cJ5_putVal : ByteArray := prog_63_method_16_code
def yJ5_putVal : MethodName := ⟨RJ5, "putVal", "(ILjava/lang/Object;Ljava/lang/Object;ZZ)Ljava/lang/Object;"⟩
def dkwJ5_putVal_12 : List UInt8 := [181, 0, 156, 42, 180, 0, 88, 164, 0, 8, 42, 182, 0, 117, 87, 42, 21, 5, 182, 0, 205, 1, 176]
abbrev dktJ5_putVal_12 : List UInt8 := dkwJ5_putVal_12 ++ []
def dkwJ5_putVal_11 : List UInt8 := [182, 0, 198, 25, 12, 176, 42, 89, 180, 0, 202, 4, 96, 181, 0, 202, 42, 89, 180, 0, 156, 4, 96, 90]
abbrev dktJ5_putVal_11 : List UInt8 := dkwJ5_putVal_11 ++ dktJ5_putVal_12
def dkwJ5_putVal_10 : List UInt8 := [180, 0, 162, 58, 12, 21, 4, 153, 0, 8, 25, 12, 199, 0, 9, 25, 10, 45, 181, 0, 162, 42, 25, 10]
abbrev dktJ5_putVal_10 : List UInt8 := dkwJ5_putVal_10 ++ dktJ5_putVal_11
def dkwJ5_putVal_9 : List UInt8 := [153, 0, 6, 167, 0, 13, 25, 10, 58, 7, 132, 12, 1, 167, 255, 171, 25, 10, 198, 0, 35, 25, 10]
abbrev dktJ5_putVal_9 : List UInt8 := dkwJ5_putVal_9 ++ dktJ5_putVal_10
def dkwJ5_putVal_8 : List UInt8 := [25, 10, 180, 0, 170, 89, 58, 11, 44, 165, 0, 29, 44, 198, 0, 15, 44, 25, 11, 182, 0, 173]
abbrev dktJ5_putVal_8 : List UInt8 := dkwJ5_putVal_8 ++ dktJ5_putVal_9
def dkwJ5_putVal_7 : List UInt8 := [16, 7, 161, 0, 60, 42, 25, 6, 27, 182, 0, 194, 167, 0, 50, 25, 10, 180, 0, 168, 27, 160, 0, 31]
abbrev dktJ5_putVal_7 : List UInt8 := dkwJ5_putVal_7 ++ dktJ5_putVal_8
def dkwJ5_putVal_6 : List UInt8 := [180, 0, 177, 89, 58, 10, 199, 0, 33, 25, 7, 42, 27, 44, 45, 1, 182, 0, 186, 181, 0, 177, 21, 12]
abbrev dktJ5_putVal_6 : List UInt8 := dkwJ5_putVal_6 ++ dktJ5_putVal_7
def dkwJ5_putVal_5 : List UInt8 := [192, 0, 180, 42, 25, 6, 27, 44, 45, 182, 0, 190, 58, 10, 167, 0, 94, 3, 54, 12, 25, 7]
abbrev dktJ5_putVal_5 : List UInt8 := dkwJ5_putVal_5 ++ dktJ5_putVal_6
def dkwJ5_putVal_4 : List UInt8 := [182, 0, 173, 153, 0, 10, 25, 7, 58, 10, 167, 0, 121, 25, 7, 193, 0, 180, 153, 0, 22, 25, 7]
abbrev dktJ5_putVal_4 : List UInt8 := dkwJ5_putVal_4 ++ dktJ5_putVal_5
def dkwJ5_putVal_3 : List UInt8 := [160, 0, 35, 25, 7, 180, 0, 170, 89, 58, 11, 44, 165, 0, 16, 44, 198, 0, 19, 44, 25, 11]
abbrev dktJ5_putVal_3 : List UInt8 := dkwJ5_putVal_3 ++ dktJ5_putVal_4
def dkwJ5_putVal_2 : List UInt8 := [25, 6, 21, 9, 42, 27, 44, 45, 1, 182, 0, 186, 83, 167, 0, 199, 25, 7, 180, 0, 168, 27]
abbrev dktJ5_putVal_2 : List UInt8 := dkwJ5_putVal_2 ++ dktJ5_putVal_3
def dkwJ5_putVal_1 : List UInt8 := [58, 6, 190, 54, 8, 25, 6, 21, 8, 4, 100, 27, 126, 89, 54, 9, 50, 89, 58, 7, 199, 0, 19]
abbrev dktJ5_putVal_1 : List UInt8 := dkwJ5_putVal_1 ++ dktJ5_putVal_2
def dkwJ5_putVal_0 : List UInt8 := [42, 180, 0, 105, 89, 58, 6, 198, 0, 12, 25, 6, 190, 89, 54, 8, 154, 0, 13, 42, 182, 0, 117, 89]
abbrev dktJ5_putVal_0 : List UInt8 := dkwJ5_putVal_0 ++ dktJ5_putVal_1
theorem dksJ5_putVal_0 : cJ5_putVal.data.toList.drop 0 = dktJ5_putVal_0 := by decide +kernel
theorem dksJ5_putVal_1 : cJ5_putVal.data.toList.drop 24 = dktJ5_putVal_1 := dk_seg dksJ5_putVal_0 24 rfl rfl
theorem dksJ5_putVal_2 : cJ5_putVal.data.toList.drop 47 = dktJ5_putVal_2 := dk_seg dksJ5_putVal_1 23 rfl rfl
theorem dksJ5_putVal_3 : cJ5_putVal.data.toList.drop 69 = dktJ5_putVal_3 := dk_seg dksJ5_putVal_2 22 rfl rfl
theorem dksJ5_putVal_4 : cJ5_putVal.data.toList.drop 91 = dktJ5_putVal_4 := dk_seg dksJ5_putVal_3 22 rfl rfl
theorem dksJ5_putVal_5 : cJ5_putVal.data.toList.drop 114 = dktJ5_putVal_5 := dk_seg dksJ5_putVal_4 23 rfl rfl
theorem dksJ5_putVal_6 : cJ5_putVal.data.toList.drop 136 = dktJ5_putVal_6 := dk_seg dksJ5_putVal_5 22 rfl rfl
theorem dksJ5_putVal_7 : cJ5_putVal.data.toList.drop 160 = dktJ5_putVal_7 := dk_seg dksJ5_putVal_6 24 rfl rfl
theorem dksJ5_putVal_8 : cJ5_putVal.data.toList.drop 184 = dktJ5_putVal_8 := dk_seg dksJ5_putVal_7 24 rfl rfl
theorem dksJ5_putVal_9 : cJ5_putVal.data.toList.drop 206 = dktJ5_putVal_9 := dk_seg dksJ5_putVal_8 22 rfl rfl
theorem dksJ5_putVal_10 : cJ5_putVal.data.toList.drop 229 = dktJ5_putVal_10 := dk_seg dksJ5_putVal_9 23 rfl rfl
theorem dksJ5_putVal_11 : cJ5_putVal.data.toList.drop 253 = dktJ5_putVal_11 := dk_seg dksJ5_putVal_10 24 rfl rfl
theorem dksJ5_putVal_12 : cJ5_putVal.data.toList.drop 277 = dktJ5_putVal_12 := dk_seg dksJ5_putVal_11 24 rfl rfl
theorem dJ5_putVal_0 : decode cJ5_putVal 0 = .ok (.aload_n 0, 1) := dk_42 (dk_at dksJ5_putVal_0 0 rfl rfl)
theorem dJ5_putVal_1 : decode cJ5_putVal 1 = .ok (.getfield 105, 3) := dk_180 0 105 (dk_at dksJ5_putVal_0 1 rfl rfl)
theorem dJ5_putVal_4 : decode cJ5_putVal 4 = .ok (.dup, 1) := dk_89 (dk_at dksJ5_putVal_0 4 rfl rfl)
theorem dJ5_putVal_5 : decode cJ5_putVal 5 = .ok (.astore 6, 2) := dk_58 6 (dk_at dksJ5_putVal_0 5 rfl rfl)
theorem dJ5_putVal_7 : decode cJ5_putVal 7 = .ok (.ifnull 12, 3) := dk_198 0 12 (dk_at dksJ5_putVal_0 7 rfl rfl)
theorem dJ5_putVal_10 : decode cJ5_putVal 10 = .ok (.aload 6, 2) := dk_25 6 (dk_at dksJ5_putVal_0 10 rfl rfl)
theorem dJ5_putVal_12 : decode cJ5_putVal 12 = .ok (.arraylength, 1) := dk_190 (dk_at dksJ5_putVal_0 12 rfl rfl)
theorem dJ5_putVal_13 : decode cJ5_putVal 13 = .ok (.dup, 1) := dk_89 (dk_at dksJ5_putVal_0 13 rfl rfl)
theorem dJ5_putVal_14 : decode cJ5_putVal 14 = .ok (.istore 8, 2) := dk_54 8 (dk_at dksJ5_putVal_0 14 rfl rfl)
theorem dJ5_putVal_16 : decode cJ5_putVal 16 = .ok (.ifCond .ne 13, 3) := dk_154 0 13 (dk_at dksJ5_putVal_0 16 rfl rfl)
theorem dJ5_putVal_19 : decode cJ5_putVal 19 = .ok (.aload_n 0, 1) := dk_42 (dk_at dksJ5_putVal_0 19 rfl rfl)
theorem dJ5_putVal_20 : decode cJ5_putVal 20 = .ok (.invokevirtual 117, 3) := dk_182 0 117 (dk_at dksJ5_putVal_0 20 rfl rfl)
theorem dJ5_putVal_23 : decode cJ5_putVal 23 = .ok (.dup, 1) := dk_89 (dk_at dksJ5_putVal_0 23 rfl rfl)
theorem dJ5_putVal_24 : decode cJ5_putVal 24 = .ok (.astore 6, 2) := dk_58 6 (dk_at dksJ5_putVal_1 0 rfl rfl)
theorem dJ5_putVal_26 : decode cJ5_putVal 26 = .ok (.arraylength, 1) := dk_190 (dk_at dksJ5_putVal_1 2 rfl rfl)
theorem dJ5_putVal_27 : decode cJ5_putVal 27 = .ok (.istore 8, 2) := dk_54 8 (dk_at dksJ5_putVal_1 3 rfl rfl)
theorem dJ5_putVal_29 : decode cJ5_putVal 29 = .ok (.aload 6, 2) := dk_25 6 (dk_at dksJ5_putVal_1 5 rfl rfl)
theorem dJ5_putVal_31 : decode cJ5_putVal 31 = .ok (.iload 8, 2) := dk_21 8 (dk_at dksJ5_putVal_1 7 rfl rfl)
theorem dJ5_putVal_33 : decode cJ5_putVal 33 = .ok (.iconst 1, 1) := dk_4 (dk_at dksJ5_putVal_1 9 rfl rfl)
theorem dJ5_putVal_34 : decode cJ5_putVal 34 = .ok (.isub, 1) := dk_100 (dk_at dksJ5_putVal_1 10 rfl rfl)
theorem dJ5_putVal_35 : decode cJ5_putVal 35 = .ok (.iload_n 1, 1) := dk_27 (dk_at dksJ5_putVal_1 11 rfl rfl)
theorem dJ5_putVal_36 : decode cJ5_putVal 36 = .ok (.iand, 1) := dk_126 (dk_at dksJ5_putVal_1 12 rfl rfl)
theorem dJ5_putVal_37 : decode cJ5_putVal 37 = .ok (.dup, 1) := dk_89 (dk_at dksJ5_putVal_1 13 rfl rfl)
theorem dJ5_putVal_38 : decode cJ5_putVal 38 = .ok (.istore 9, 2) := dk_54 9 (dk_at dksJ5_putVal_1 14 rfl rfl)
theorem dJ5_putVal_40 : decode cJ5_putVal 40 = .ok (.aaload, 1) := dk_50 (dk_at dksJ5_putVal_1 16 rfl rfl)
theorem dJ5_putVal_41 : decode cJ5_putVal 41 = .ok (.dup, 1) := dk_89 (dk_at dksJ5_putVal_1 17 rfl rfl)
theorem dJ5_putVal_42 : decode cJ5_putVal 42 = .ok (.astore 7, 2) := dk_58 7 (dk_at dksJ5_putVal_1 18 rfl rfl)
theorem dJ5_putVal_44 : decode cJ5_putVal 44 = .ok (.ifnonnull 19, 3) := dk_199 0 19 (dk_at dksJ5_putVal_1 20 rfl rfl)
theorem dJ5_putVal_47 : decode cJ5_putVal 47 = .ok (.aload 6, 2) := dk_25 6 (dk_at dksJ5_putVal_2 0 rfl rfl)
theorem dJ5_putVal_49 : decode cJ5_putVal 49 = .ok (.iload 9, 2) := dk_21 9 (dk_at dksJ5_putVal_2 2 rfl rfl)
theorem dJ5_putVal_51 : decode cJ5_putVal 51 = .ok (.aload_n 0, 1) := dk_42 (dk_at dksJ5_putVal_2 4 rfl rfl)
theorem dJ5_putVal_52 : decode cJ5_putVal 52 = .ok (.iload_n 1, 1) := dk_27 (dk_at dksJ5_putVal_2 5 rfl rfl)
theorem dJ5_putVal_53 : decode cJ5_putVal 53 = .ok (.aload_n 2, 1) := dk_44 (dk_at dksJ5_putVal_2 6 rfl rfl)
theorem dJ5_putVal_54 : decode cJ5_putVal 54 = .ok (.aload_n 3, 1) := dk_45 (dk_at dksJ5_putVal_2 7 rfl rfl)
theorem dJ5_putVal_55 : decode cJ5_putVal 55 = .ok (.aconst_null, 1) := dk_1 (dk_at dksJ5_putVal_2 8 rfl rfl)
theorem dJ5_putVal_56 : decode cJ5_putVal 56 = .ok (.invokevirtual 186, 3) := dk_182 0 186 (dk_at dksJ5_putVal_2 9 rfl rfl)
theorem dJ5_putVal_59 : decode cJ5_putVal 59 = .ok (.aastore, 1) := dk_83 (dk_at dksJ5_putVal_2 12 rfl rfl)
theorem dJ5_putVal_60 : decode cJ5_putVal 60 = .ok (.goto 199, 3) := dk_167 0 199 (dk_at dksJ5_putVal_2 13 rfl rfl)
theorem dJ5_putVal_63 : decode cJ5_putVal 63 = .ok (.aload 7, 2) := dk_25 7 (dk_at dksJ5_putVal_2 16 rfl rfl)
theorem dJ5_putVal_65 : decode cJ5_putVal 65 = .ok (.getfield 168, 3) := dk_180 0 168 (dk_at dksJ5_putVal_2 18 rfl rfl)
theorem dJ5_putVal_68 : decode cJ5_putVal 68 = .ok (.iload_n 1, 1) := dk_27 (dk_at dksJ5_putVal_2 21 rfl rfl)
theorem dJ5_putVal_69 : decode cJ5_putVal 69 = .ok (.if_icmp .ne 35, 3) := dk_160 0 35 (dk_at dksJ5_putVal_3 0 rfl rfl)
theorem dJ5_putVal_72 : decode cJ5_putVal 72 = .ok (.aload 7, 2) := dk_25 7 (dk_at dksJ5_putVal_3 3 rfl rfl)
theorem dJ5_putVal_74 : decode cJ5_putVal 74 = .ok (.getfield 170, 3) := dk_180 0 170 (dk_at dksJ5_putVal_3 5 rfl rfl)
theorem dJ5_putVal_77 : decode cJ5_putVal 77 = .ok (.dup, 1) := dk_89 (dk_at dksJ5_putVal_3 8 rfl rfl)
theorem dJ5_putVal_78 : decode cJ5_putVal 78 = .ok (.astore 11, 2) := dk_58 11 (dk_at dksJ5_putVal_3 9 rfl rfl)
theorem dJ5_putVal_80 : decode cJ5_putVal 80 = .ok (.aload_n 2, 1) := dk_44 (dk_at dksJ5_putVal_3 11 rfl rfl)
theorem dJ5_putVal_81 : decode cJ5_putVal 81 = .ok (.if_acmp .eq 16, 3) := dk_165 0 16 (dk_at dksJ5_putVal_3 12 rfl rfl)
theorem dJ5_putVal_84 : decode cJ5_putVal 84 = .ok (.aload_n 2, 1) := dk_44 (dk_at dksJ5_putVal_3 15 rfl rfl)
theorem dJ5_putVal_85 : decode cJ5_putVal 85 = .ok (.ifnull 19, 3) := dk_198 0 19 (dk_at dksJ5_putVal_3 16 rfl rfl)
theorem dJ5_putVal_88 : decode cJ5_putVal 88 = .ok (.aload_n 2, 1) := dk_44 (dk_at dksJ5_putVal_3 19 rfl rfl)
theorem dJ5_putVal_89 : decode cJ5_putVal 89 = .ok (.aload 11, 2) := dk_25 11 (dk_at dksJ5_putVal_3 20 rfl rfl)
theorem dJ5_putVal_91 : decode cJ5_putVal 91 = .ok (.invokevirtual 173, 3) := dk_182 0 173 (dk_at dksJ5_putVal_4 0 rfl rfl)
theorem dJ5_putVal_94 : decode cJ5_putVal 94 = .ok (.ifCond .eq 10, 3) := dk_153 0 10 (dk_at dksJ5_putVal_4 3 rfl rfl)
theorem dJ5_putVal_97 : decode cJ5_putVal 97 = .ok (.aload 7, 2) := dk_25 7 (dk_at dksJ5_putVal_4 6 rfl rfl)
theorem dJ5_putVal_99 : decode cJ5_putVal 99 = .ok (.astore 10, 2) := dk_58 10 (dk_at dksJ5_putVal_4 8 rfl rfl)
theorem dJ5_putVal_101 : decode cJ5_putVal 101 = .ok (.goto 121, 3) := dk_167 0 121 (dk_at dksJ5_putVal_4 10 rfl rfl)
theorem dJ5_putVal_104 : decode cJ5_putVal 104 = .ok (.aload 7, 2) := dk_25 7 (dk_at dksJ5_putVal_4 13 rfl rfl)
theorem dJ5_putVal_106 : decode cJ5_putVal 106 = .ok (.instanceof 180, 3) := dk_193 0 180 (dk_at dksJ5_putVal_4 15 rfl rfl)
theorem dJ5_putVal_109 : decode cJ5_putVal 109 = .ok (.ifCond .eq 22, 3) := dk_153 0 22 (dk_at dksJ5_putVal_4 18 rfl rfl)
theorem dJ5_putVal_112 : decode cJ5_putVal 112 = .ok (.aload 7, 2) := dk_25 7 (dk_at dksJ5_putVal_4 21 rfl rfl)
theorem dJ5_putVal_114 : decode cJ5_putVal 114 = .ok (.checkcast 180, 3) := dk_192 0 180 (dk_at dksJ5_putVal_5 0 rfl rfl)
theorem dJ5_putVal_117 : decode cJ5_putVal 117 = .ok (.aload_n 0, 1) := dk_42 (dk_at dksJ5_putVal_5 3 rfl rfl)
theorem dJ5_putVal_118 : decode cJ5_putVal 118 = .ok (.aload 6, 2) := dk_25 6 (dk_at dksJ5_putVal_5 4 rfl rfl)
theorem dJ5_putVal_120 : decode cJ5_putVal 120 = .ok (.iload_n 1, 1) := dk_27 (dk_at dksJ5_putVal_5 6 rfl rfl)
theorem dJ5_putVal_121 : decode cJ5_putVal 121 = .ok (.aload_n 2, 1) := dk_44 (dk_at dksJ5_putVal_5 7 rfl rfl)
theorem dJ5_putVal_122 : decode cJ5_putVal 122 = .ok (.aload_n 3, 1) := dk_45 (dk_at dksJ5_putVal_5 8 rfl rfl)
theorem dJ5_putVal_123 : decode cJ5_putVal 123 = .ok (.invokevirtual 190, 3) := dk_182 0 190 (dk_at dksJ5_putVal_5 9 rfl rfl)
theorem dJ5_putVal_126 : decode cJ5_putVal 126 = .ok (.astore 10, 2) := dk_58 10 (dk_at dksJ5_putVal_5 12 rfl rfl)
theorem dJ5_putVal_128 : decode cJ5_putVal 128 = .ok (.goto 94, 3) := dk_167 0 94 (dk_at dksJ5_putVal_5 14 rfl rfl)
theorem dJ5_putVal_131 : decode cJ5_putVal 131 = .ok (.iconst 0, 1) := dk_3 (dk_at dksJ5_putVal_5 17 rfl rfl)
theorem dJ5_putVal_132 : decode cJ5_putVal 132 = .ok (.istore 12, 2) := dk_54 12 (dk_at dksJ5_putVal_5 18 rfl rfl)
theorem dJ5_putVal_134 : decode cJ5_putVal 134 = .ok (.aload 7, 2) := dk_25 7 (dk_at dksJ5_putVal_5 20 rfl rfl)
theorem dJ5_putVal_136 : decode cJ5_putVal 136 = .ok (.getfield 177, 3) := dk_180 0 177 (dk_at dksJ5_putVal_6 0 rfl rfl)
theorem dJ5_putVal_139 : decode cJ5_putVal 139 = .ok (.dup, 1) := dk_89 (dk_at dksJ5_putVal_6 3 rfl rfl)
theorem dJ5_putVal_140 : decode cJ5_putVal 140 = .ok (.astore 10, 2) := dk_58 10 (dk_at dksJ5_putVal_6 4 rfl rfl)
theorem dJ5_putVal_142 : decode cJ5_putVal 142 = .ok (.ifnonnull 33, 3) := dk_199 0 33 (dk_at dksJ5_putVal_6 6 rfl rfl)
theorem dJ5_putVal_145 : decode cJ5_putVal 145 = .ok (.aload 7, 2) := dk_25 7 (dk_at dksJ5_putVal_6 9 rfl rfl)
theorem dJ5_putVal_147 : decode cJ5_putVal 147 = .ok (.aload_n 0, 1) := dk_42 (dk_at dksJ5_putVal_6 11 rfl rfl)
theorem dJ5_putVal_148 : decode cJ5_putVal 148 = .ok (.iload_n 1, 1) := dk_27 (dk_at dksJ5_putVal_6 12 rfl rfl)
theorem dJ5_putVal_149 : decode cJ5_putVal 149 = .ok (.aload_n 2, 1) := dk_44 (dk_at dksJ5_putVal_6 13 rfl rfl)
theorem dJ5_putVal_150 : decode cJ5_putVal 150 = .ok (.aload_n 3, 1) := dk_45 (dk_at dksJ5_putVal_6 14 rfl rfl)
theorem dJ5_putVal_151 : decode cJ5_putVal 151 = .ok (.aconst_null, 1) := dk_1 (dk_at dksJ5_putVal_6 15 rfl rfl)
theorem dJ5_putVal_152 : decode cJ5_putVal 152 = .ok (.invokevirtual 186, 3) := dk_182 0 186 (dk_at dksJ5_putVal_6 16 rfl rfl)
theorem dJ5_putVal_155 : decode cJ5_putVal 155 = .ok (.putfield 177, 3) := dk_181 0 177 (dk_at dksJ5_putVal_6 19 rfl rfl)
theorem dJ5_putVal_158 : decode cJ5_putVal 158 = .ok (.iload 12, 2) := dk_21 12 (dk_at dksJ5_putVal_6 22 rfl rfl)
theorem dJ5_putVal_160 : decode cJ5_putVal 160 = .ok (.bipush 7, 2) := dk_16 7 (dk_at dksJ5_putVal_7 0 rfl rfl)
theorem dJ5_putVal_162 : decode cJ5_putVal 162 = .ok (.if_icmp .lt 60, 3) := dk_161 0 60 (dk_at dksJ5_putVal_7 2 rfl rfl)
theorem dJ5_putVal_165 : decode cJ5_putVal 165 = .ok (.aload_n 0, 1) := dk_42 (dk_at dksJ5_putVal_7 5 rfl rfl)
theorem dJ5_putVal_166 : decode cJ5_putVal 166 = .ok (.aload 6, 2) := dk_25 6 (dk_at dksJ5_putVal_7 6 rfl rfl)
theorem dJ5_putVal_168 : decode cJ5_putVal 168 = .ok (.iload_n 1, 1) := dk_27 (dk_at dksJ5_putVal_7 8 rfl rfl)
theorem dJ5_putVal_169 : decode cJ5_putVal 169 = .ok (.invokevirtual 194, 3) := dk_182 0 194 (dk_at dksJ5_putVal_7 9 rfl rfl)
theorem dJ5_putVal_172 : decode cJ5_putVal 172 = .ok (.goto 50, 3) := dk_167 0 50 (dk_at dksJ5_putVal_7 12 rfl rfl)
theorem dJ5_putVal_175 : decode cJ5_putVal 175 = .ok (.aload 10, 2) := dk_25 10 (dk_at dksJ5_putVal_7 15 rfl rfl)
theorem dJ5_putVal_177 : decode cJ5_putVal 177 = .ok (.getfield 168, 3) := dk_180 0 168 (dk_at dksJ5_putVal_7 17 rfl rfl)
theorem dJ5_putVal_180 : decode cJ5_putVal 180 = .ok (.iload_n 1, 1) := dk_27 (dk_at dksJ5_putVal_7 20 rfl rfl)
theorem dJ5_putVal_181 : decode cJ5_putVal 181 = .ok (.if_icmp .ne 31, 3) := dk_160 0 31 (dk_at dksJ5_putVal_7 21 rfl rfl)
theorem dJ5_putVal_184 : decode cJ5_putVal 184 = .ok (.aload 10, 2) := dk_25 10 (dk_at dksJ5_putVal_8 0 rfl rfl)
theorem dJ5_putVal_186 : decode cJ5_putVal 186 = .ok (.getfield 170, 3) := dk_180 0 170 (dk_at dksJ5_putVal_8 2 rfl rfl)
theorem dJ5_putVal_189 : decode cJ5_putVal 189 = .ok (.dup, 1) := dk_89 (dk_at dksJ5_putVal_8 5 rfl rfl)
theorem dJ5_putVal_190 : decode cJ5_putVal 190 = .ok (.astore 11, 2) := dk_58 11 (dk_at dksJ5_putVal_8 6 rfl rfl)
theorem dJ5_putVal_192 : decode cJ5_putVal 192 = .ok (.aload_n 2, 1) := dk_44 (dk_at dksJ5_putVal_8 8 rfl rfl)
theorem dJ5_putVal_193 : decode cJ5_putVal 193 = .ok (.if_acmp .eq 29, 3) := dk_165 0 29 (dk_at dksJ5_putVal_8 9 rfl rfl)
theorem dJ5_putVal_196 : decode cJ5_putVal 196 = .ok (.aload_n 2, 1) := dk_44 (dk_at dksJ5_putVal_8 12 rfl rfl)
theorem dJ5_putVal_197 : decode cJ5_putVal 197 = .ok (.ifnull 15, 3) := dk_198 0 15 (dk_at dksJ5_putVal_8 13 rfl rfl)
theorem dJ5_putVal_200 : decode cJ5_putVal 200 = .ok (.aload_n 2, 1) := dk_44 (dk_at dksJ5_putVal_8 16 rfl rfl)
theorem dJ5_putVal_201 : decode cJ5_putVal 201 = .ok (.aload 11, 2) := dk_25 11 (dk_at dksJ5_putVal_8 17 rfl rfl)
theorem dJ5_putVal_203 : decode cJ5_putVal 203 = .ok (.invokevirtual 173, 3) := dk_182 0 173 (dk_at dksJ5_putVal_8 19 rfl rfl)
theorem dJ5_putVal_206 : decode cJ5_putVal 206 = .ok (.ifCond .eq 6, 3) := dk_153 0 6 (dk_at dksJ5_putVal_9 0 rfl rfl)
theorem dJ5_putVal_209 : decode cJ5_putVal 209 = .ok (.goto 13, 3) := dk_167 0 13 (dk_at dksJ5_putVal_9 3 rfl rfl)
theorem dJ5_putVal_212 : decode cJ5_putVal 212 = .ok (.aload 10, 2) := dk_25 10 (dk_at dksJ5_putVal_9 6 rfl rfl)
theorem dJ5_putVal_214 : decode cJ5_putVal 214 = .ok (.astore 7, 2) := dk_58 7 (dk_at dksJ5_putVal_9 8 rfl rfl)
theorem dJ5_putVal_216 : decode cJ5_putVal 216 = .ok (.iinc 12 1, 3) := dk_132 12 1 (dk_at dksJ5_putVal_9 10 rfl rfl)
theorem dJ5_putVal_219 : decode cJ5_putVal 219 = .ok (.goto (-85), 3) := dk_167 255 171 (dk_at dksJ5_putVal_9 13 rfl rfl)
theorem dJ5_putVal_222 : decode cJ5_putVal 222 = .ok (.aload 10, 2) := dk_25 10 (dk_at dksJ5_putVal_9 16 rfl rfl)
theorem dJ5_putVal_224 : decode cJ5_putVal 224 = .ok (.ifnull 35, 3) := dk_198 0 35 (dk_at dksJ5_putVal_9 18 rfl rfl)
theorem dJ5_putVal_227 : decode cJ5_putVal 227 = .ok (.aload 10, 2) := dk_25 10 (dk_at dksJ5_putVal_9 21 rfl rfl)
theorem dJ5_putVal_229 : decode cJ5_putVal 229 = .ok (.getfield 162, 3) := dk_180 0 162 (dk_at dksJ5_putVal_10 0 rfl rfl)
theorem dJ5_putVal_232 : decode cJ5_putVal 232 = .ok (.astore 12, 2) := dk_58 12 (dk_at dksJ5_putVal_10 3 rfl rfl)
theorem dJ5_putVal_234 : decode cJ5_putVal 234 = .ok (.iload 4, 2) := dk_21 4 (dk_at dksJ5_putVal_10 5 rfl rfl)
theorem dJ5_putVal_236 : decode cJ5_putVal 236 = .ok (.ifCond .eq 8, 3) := dk_153 0 8 (dk_at dksJ5_putVal_10 7 rfl rfl)
theorem dJ5_putVal_239 : decode cJ5_putVal 239 = .ok (.aload 12, 2) := dk_25 12 (dk_at dksJ5_putVal_10 10 rfl rfl)
theorem dJ5_putVal_241 : decode cJ5_putVal 241 = .ok (.ifnonnull 9, 3) := dk_199 0 9 (dk_at dksJ5_putVal_10 12 rfl rfl)
theorem dJ5_putVal_244 : decode cJ5_putVal 244 = .ok (.aload 10, 2) := dk_25 10 (dk_at dksJ5_putVal_10 15 rfl rfl)
theorem dJ5_putVal_246 : decode cJ5_putVal 246 = .ok (.aload_n 3, 1) := dk_45 (dk_at dksJ5_putVal_10 17 rfl rfl)
theorem dJ5_putVal_247 : decode cJ5_putVal 247 = .ok (.putfield 162, 3) := dk_181 0 162 (dk_at dksJ5_putVal_10 18 rfl rfl)
theorem dJ5_putVal_250 : decode cJ5_putVal 250 = .ok (.aload_n 0, 1) := dk_42 (dk_at dksJ5_putVal_10 21 rfl rfl)
theorem dJ5_putVal_251 : decode cJ5_putVal 251 = .ok (.aload 10, 2) := dk_25 10 (dk_at dksJ5_putVal_10 22 rfl rfl)
theorem dJ5_putVal_253 : decode cJ5_putVal 253 = .ok (.invokevirtual 198, 3) := dk_182 0 198 (dk_at dksJ5_putVal_11 0 rfl rfl)
theorem dJ5_putVal_256 : decode cJ5_putVal 256 = .ok (.aload 12, 2) := dk_25 12 (dk_at dksJ5_putVal_11 3 rfl rfl)
theorem dJ5_putVal_258 : decode cJ5_putVal 258 = .ok (.areturn, 1) := dk_176 (dk_at dksJ5_putVal_11 5 rfl rfl)
theorem dJ5_putVal_259 : decode cJ5_putVal 259 = .ok (.aload_n 0, 1) := dk_42 (dk_at dksJ5_putVal_11 6 rfl rfl)
theorem dJ5_putVal_260 : decode cJ5_putVal 260 = .ok (.dup, 1) := dk_89 (dk_at dksJ5_putVal_11 7 rfl rfl)
theorem dJ5_putVal_261 : decode cJ5_putVal 261 = .ok (.getfield 202, 3) := dk_180 0 202 (dk_at dksJ5_putVal_11 8 rfl rfl)
theorem dJ5_putVal_264 : decode cJ5_putVal 264 = .ok (.iconst 1, 1) := dk_4 (dk_at dksJ5_putVal_11 11 rfl rfl)
theorem dJ5_putVal_265 : decode cJ5_putVal 265 = .ok (.iadd, 1) := dk_96 (dk_at dksJ5_putVal_11 12 rfl rfl)
theorem dJ5_putVal_266 : decode cJ5_putVal 266 = .ok (.putfield 202, 3) := dk_181 0 202 (dk_at dksJ5_putVal_11 13 rfl rfl)
theorem dJ5_putVal_269 : decode cJ5_putVal 269 = .ok (.aload_n 0, 1) := dk_42 (dk_at dksJ5_putVal_11 16 rfl rfl)
theorem dJ5_putVal_270 : decode cJ5_putVal 270 = .ok (.dup, 1) := dk_89 (dk_at dksJ5_putVal_11 17 rfl rfl)
theorem dJ5_putVal_271 : decode cJ5_putVal 271 = .ok (.getfield 156, 3) := dk_180 0 156 (dk_at dksJ5_putVal_11 18 rfl rfl)
theorem dJ5_putVal_274 : decode cJ5_putVal 274 = .ok (.iconst 1, 1) := dk_4 (dk_at dksJ5_putVal_11 21 rfl rfl)
theorem dJ5_putVal_275 : decode cJ5_putVal 275 = .ok (.iadd, 1) := dk_96 (dk_at dksJ5_putVal_11 22 rfl rfl)
theorem dJ5_putVal_276 : decode cJ5_putVal 276 = .ok (.dup_x1, 1) := dk_90 (dk_at dksJ5_putVal_11 23 rfl rfl)
theorem dJ5_putVal_277 : decode cJ5_putVal 277 = .ok (.putfield 156, 3) := dk_181 0 156 (dk_at dksJ5_putVal_12 0 rfl rfl)
theorem dJ5_putVal_280 : decode cJ5_putVal 280 = .ok (.aload_n 0, 1) := dk_42 (dk_at dksJ5_putVal_12 3 rfl rfl)
theorem dJ5_putVal_281 : decode cJ5_putVal 281 = .ok (.getfield 88, 3) := dk_180 0 88 (dk_at dksJ5_putVal_12 4 rfl rfl)
theorem dJ5_putVal_284 : decode cJ5_putVal 284 = .ok (.if_icmp .le 8, 3) := dk_164 0 8 (dk_at dksJ5_putVal_12 7 rfl rfl)
theorem dJ5_putVal_287 : decode cJ5_putVal 287 = .ok (.aload_n 0, 1) := dk_42 (dk_at dksJ5_putVal_12 10 rfl rfl)
theorem dJ5_putVal_288 : decode cJ5_putVal 288 = .ok (.invokevirtual 117, 3) := dk_182 0 117 (dk_at dksJ5_putVal_12 11 rfl rfl)
theorem dJ5_putVal_291 : decode cJ5_putVal 291 = .ok (.pop, 1) := dk_87 (dk_at dksJ5_putVal_12 14 rfl rfl)
theorem dJ5_putVal_292 : decode cJ5_putVal 292 = .ok (.aload_n 0, 1) := dk_42 (dk_at dksJ5_putVal_12 15 rfl rfl)
theorem dJ5_putVal_293 : decode cJ5_putVal 293 = .ok (.iload 5, 2) := dk_21 5 (dk_at dksJ5_putVal_12 16 rfl rfl)
theorem dJ5_putVal_295 : decode cJ5_putVal 295 = .ok (.invokevirtual 205, 3) := dk_182 0 205 (dk_at dksJ5_putVal_12 18 rfl rfl)
theorem dJ5_putVal_298 : decode cJ5_putVal 298 = .ok (.aconst_null, 1) := dk_1 (dk_at dksJ5_putVal_12 21 rfl rfl)
theorem dJ5_putVal_299 : decode cJ5_putVal 299 = .ok (.areturn, 1) := dk_176 (dk_at dksJ5_putVal_12 22 rfl rfl)
abbrev cJ5_resize : ByteArray := prog_63_method_17_code
def yJ5_resize : MethodName := ⟨RJ5, "resize", "()[Ljava/util/HashMap$Node;"⟩
def dkwJ5_resize_15 : List UInt8 := [25, 6, 176]
abbrev dktJ5_resize_15 : List UInt8 := dkwJ5_resize_15 ++ []
def dkwJ5_resize_14 : List UInt8 := [198, 0, 18, 25, 12, 1, 181, 0, 177, 25, 6, 21, 7, 28, 96, 25, 11, 83, 132, 7, 1, 167, 255, 57]
abbrev dktJ5_resize_14 : List UInt8 := dkwJ5_resize_14 ++ dktJ5_resize_15
def dkwJ5_resize_13 : List UInt8 := [199, 255, 185, 25, 10, 198, 0, 16, 25, 10, 1, 181, 0, 177, 25, 6, 21, 7, 25, 9, 83, 25, 12]
abbrev dktJ5_resize_13 : List UInt8 := dkwJ5_resize_13 ++ dktJ5_resize_14
def dkwJ5_resize_12 : List UInt8 := [25, 8, 58, 11, 167, 0, 10, 25, 12, 25, 8, 181, 0, 177, 25, 8, 58, 12, 25, 13, 89, 58, 8]
abbrev dktJ5_resize_12 : List UInt8 := dkwJ5_resize_12 ++ dktJ5_resize_13
def dkwJ5_resize_11 : List UInt8 := [58, 9, 167, 0, 10, 25, 10, 25, 8, 181, 0, 177, 25, 8, 58, 10, 167, 0, 26, 25, 12, 199, 0, 10]
abbrev dktJ5_resize_11 : List UInt8 := dkwJ5_resize_11 ++ dktJ5_resize_12
def dkwJ5_resize_10 : List UInt8 := [25, 8, 180, 0, 177, 58, 13, 25, 8, 180, 0, 168, 28, 126, 154, 0, 29, 25, 10, 199, 0, 10, 25, 8]
abbrev dktJ5_resize_10 : List UInt8 := dkwJ5_resize_10 ++ dktJ5_resize_11
def dkwJ5_resize_9 : List UInt8 := [42, 25, 6, 21, 7, 28, 182, 0, 211, 167, 0, 127, 1, 58, 9, 1, 58, 10, 1, 58, 11, 1, 58, 12]
abbrev dktJ5_resize_9 : List UInt8 := dkwJ5_resize_9 ++ dktJ5_resize_10
def dkwJ5_resize_8 : List UInt8 := [21, 4, 4, 100, 126, 25, 8, 83, 167, 0, 152, 25, 8, 193, 0, 180, 153, 0, 20, 25, 8, 192, 0, 180]
abbrev dktJ5_resize_8 : List UInt8 := dkwJ5_resize_8 ++ dktJ5_resize_9
def dkwJ5_resize_7 : List UInt8 := [198, 0, 183, 43, 21, 7, 1, 83, 25, 8, 180, 0, 177, 199, 0, 21, 25, 6, 25, 8, 180, 0, 168]
abbrev dktJ5_resize_7 : List UInt8 := dkwJ5_resize_7 ++ dktJ5_resize_8
def dkwJ5_resize_6 : List UInt8 := [181, 0, 105, 43, 198, 0, 208, 3, 54, 7, 21, 7, 28, 162, 0, 199, 43, 21, 7, 50, 89, 58, 8]
abbrev dktJ5_resize_6 : List UInt8 := dkwJ5_resize_6 ++ dktJ5_resize_7
def dkwJ5_resize_5 : List UInt8 := [167, 0, 5, 18, 209, 54, 5, 42, 21, 5, 181, 0, 88, 21, 4, 189, 0, 163, 58, 6, 42, 25, 6]
abbrev dktJ5_resize_5 : List UInt8 := dkwJ5_resize_5 ++ dktJ5_resize_6
def dkwJ5_resize_4 : List UInt8 := [180, 0, 81, 106, 56, 6, 21, 4, 18, 42, 162, 0, 17, 23, 6, 18, 210, 150, 156, 0, 9, 23, 6, 139]
abbrev dktJ5_resize_4 : List UInt8 := dkwJ5_resize_4 ++ dktJ5_resize_5
def dkwJ5_resize_3 : List UInt8 := [54, 4, 167, 0, 11, 16, 16, 54, 4, 16, 12, 54, 5, 21, 5, 154, 0, 38, 21, 4, 134, 42]
abbrev dktJ5_resize_3 : List UInt8 := dkwJ5_resize_3 ++ dktJ5_resize_4
def dkwJ5_resize_2 : List UInt8 := [18, 42, 162, 0, 35, 28, 16, 16, 161, 0, 29, 29, 4, 120, 54, 5, 167, 0, 21, 29, 158, 0, 9, 29]
abbrev dktJ5_resize_2 : List UInt8 := dkwJ5_resize_2 ++ dktJ5_resize_3
def dkwJ5_resize_1 : List UInt8 := [28, 158, 0, 42, 28, 18, 42, 161, 0, 11, 42, 18, 209, 181, 0, 88, 43, 176, 28, 4, 120, 89, 54, 4]
abbrev dktJ5_resize_1 : List UInt8 := dkwJ5_resize_1 ++ dktJ5_resize_2
def dkwJ5_resize_0 : List UInt8 := [42, 180, 0, 105, 76, 43, 199, 0, 7, 3, 167, 0, 5, 43, 190, 61, 42, 180, 0, 88, 62, 3, 54, 5]
abbrev dktJ5_resize_0 : List UInt8 := dkwJ5_resize_0 ++ dktJ5_resize_1
theorem dksJ5_resize_0 : cJ5_resize.data.toList.drop 0 = dktJ5_resize_0 := by decide +kernel
theorem dksJ5_resize_1 : cJ5_resize.data.toList.drop 24 = dktJ5_resize_1 := dk_seg dksJ5_resize_0 24 rfl rfl
theorem dksJ5_resize_2 : cJ5_resize.data.toList.drop 48 = dktJ5_resize_2 := dk_seg dksJ5_resize_1 24 rfl rfl
theorem dksJ5_resize_3 : cJ5_resize.data.toList.drop 72 = dktJ5_resize_3 := dk_seg dksJ5_resize_2 24 rfl rfl
theorem dksJ5_resize_4 : cJ5_resize.data.toList.drop 94 = dktJ5_resize_4 := dk_seg dksJ5_resize_3 22 rfl rfl
theorem dksJ5_resize_5 : cJ5_resize.data.toList.drop 118 = dktJ5_resize_5 := dk_seg dksJ5_resize_4 24 rfl rfl
theorem dksJ5_resize_6 : cJ5_resize.data.toList.drop 141 = dktJ5_resize_6 := dk_seg dksJ5_resize_5 23 rfl rfl
theorem dksJ5_resize_7 : cJ5_resize.data.toList.drop 164 = dktJ5_resize_7 := dk_seg dksJ5_resize_6 23 rfl rfl
theorem dksJ5_resize_8 : cJ5_resize.data.toList.drop 187 = dktJ5_resize_8 := dk_seg dksJ5_resize_7 23 rfl rfl
theorem dksJ5_resize_9 : cJ5_resize.data.toList.drop 211 = dktJ5_resize_9 := dk_seg dksJ5_resize_8 24 rfl rfl
theorem dksJ5_resize_10 : cJ5_resize.data.toList.drop 235 = dktJ5_resize_10 := dk_seg dksJ5_resize_9 24 rfl rfl
theorem dksJ5_resize_11 : cJ5_resize.data.toList.drop 259 = dktJ5_resize_11 := dk_seg dksJ5_resize_10 24 rfl rfl
theorem dksJ5_resize_12 : cJ5_resize.data.toList.drop 283 = dktJ5_resize_12 := dk_seg dksJ5_resize_11 24 rfl rfl
theorem dksJ5_resize_13 : cJ5_resize.data.toList.drop 306 = dktJ5_resize_13 := dk_seg dksJ5_resize_12 23 rfl rfl
theorem dksJ5_resize_14 : cJ5_resize.data.toList.drop 329 = dktJ5_resize_14 := dk_seg dksJ5_resize_13 23 rfl rfl
theorem dksJ5_resize_15 : cJ5_resize.data.toList.drop 353 = dktJ5_resize_15 := dk_seg dksJ5_resize_14 24 rfl rfl
theorem dJ5_resize_0 : decode cJ5_resize 0 = .ok (.aload_n 0, 1) := dk_42 (dk_at dksJ5_resize_0 0 rfl rfl)
theorem dJ5_resize_1 : decode cJ5_resize 1 = .ok (.getfield 105, 3) := dk_180 0 105 (dk_at dksJ5_resize_0 1 rfl rfl)
theorem dJ5_resize_4 : decode cJ5_resize 4 = .ok (.astore_n 1, 1) := dk_76 (dk_at dksJ5_resize_0 4 rfl rfl)
theorem dJ5_resize_5 : decode cJ5_resize 5 = .ok (.aload_n 1, 1) := dk_43 (dk_at dksJ5_resize_0 5 rfl rfl)
theorem dJ5_resize_6 : decode cJ5_resize 6 = .ok (.ifnonnull 7, 3) := dk_199 0 7 (dk_at dksJ5_resize_0 6 rfl rfl)
theorem dJ5_resize_9 : decode cJ5_resize 9 = .ok (.iconst 0, 1) := dk_3 (dk_at dksJ5_resize_0 9 rfl rfl)
theorem dJ5_resize_10 : decode cJ5_resize 10 = .ok (.goto 5, 3) := dk_167 0 5 (dk_at dksJ5_resize_0 10 rfl rfl)
theorem dJ5_resize_13 : decode cJ5_resize 13 = .ok (.aload_n 1, 1) := dk_43 (dk_at dksJ5_resize_0 13 rfl rfl)
theorem dJ5_resize_14 : decode cJ5_resize 14 = .ok (.arraylength, 1) := dk_190 (dk_at dksJ5_resize_0 14 rfl rfl)
theorem dJ5_resize_15 : decode cJ5_resize 15 = .ok (.istore_n 2, 1) := dk_61 (dk_at dksJ5_resize_0 15 rfl rfl)
theorem dJ5_resize_16 : decode cJ5_resize 16 = .ok (.aload_n 0, 1) := dk_42 (dk_at dksJ5_resize_0 16 rfl rfl)
theorem dJ5_resize_17 : decode cJ5_resize 17 = .ok (.getfield 88, 3) := dk_180 0 88 (dk_at dksJ5_resize_0 17 rfl rfl)
theorem dJ5_resize_20 : decode cJ5_resize 20 = .ok (.istore_n 3, 1) := dk_62 (dk_at dksJ5_resize_0 20 rfl rfl)
theorem dJ5_resize_21 : decode cJ5_resize 21 = .ok (.iconst 0, 1) := dk_3 (dk_at dksJ5_resize_0 21 rfl rfl)
theorem dJ5_resize_22 : decode cJ5_resize 22 = .ok (.istore 5, 2) := dk_54 5 (dk_at dksJ5_resize_0 22 rfl rfl)
theorem dJ5_resize_24 : decode cJ5_resize 24 = .ok (.iload_n 2, 1) := dk_28 (dk_at dksJ5_resize_1 0 rfl rfl)
theorem dJ5_resize_25 : decode cJ5_resize 25 = .ok (.ifCond .le 42, 3) := dk_158 0 42 (dk_at dksJ5_resize_1 1 rfl rfl)
theorem dJ5_resize_28 : decode cJ5_resize 28 = .ok (.iload_n 2, 1) := dk_28 (dk_at dksJ5_resize_1 4 rfl rfl)
theorem dJ5_resize_29 : decode cJ5_resize 29 = .ok (.ldc 42, 2) := dk_18 42 (dk_at dksJ5_resize_1 5 rfl rfl)
theorem dJ5_resize_31 : decode cJ5_resize 31 = .ok (.if_icmp .lt 11, 3) := dk_161 0 11 (dk_at dksJ5_resize_1 7 rfl rfl)
theorem dJ5_resize_34 : decode cJ5_resize 34 = .ok (.aload_n 0, 1) := dk_42 (dk_at dksJ5_resize_1 10 rfl rfl)
theorem dJ5_resize_35 : decode cJ5_resize 35 = .ok (.ldc 209, 2) := dk_18 209 (dk_at dksJ5_resize_1 11 rfl rfl)
theorem dJ5_resize_37 : decode cJ5_resize 37 = .ok (.putfield 88, 3) := dk_181 0 88 (dk_at dksJ5_resize_1 13 rfl rfl)
theorem dJ5_resize_40 : decode cJ5_resize 40 = .ok (.aload_n 1, 1) := dk_43 (dk_at dksJ5_resize_1 16 rfl rfl)
theorem dJ5_resize_41 : decode cJ5_resize 41 = .ok (.areturn, 1) := dk_176 (dk_at dksJ5_resize_1 17 rfl rfl)
theorem dJ5_resize_42 : decode cJ5_resize 42 = .ok (.iload_n 2, 1) := dk_28 (dk_at dksJ5_resize_1 18 rfl rfl)
theorem dJ5_resize_43 : decode cJ5_resize 43 = .ok (.iconst 1, 1) := dk_4 (dk_at dksJ5_resize_1 19 rfl rfl)
theorem dJ5_resize_44 : decode cJ5_resize 44 = .ok (.ishl, 1) := dk_120 (dk_at dksJ5_resize_1 20 rfl rfl)
theorem dJ5_resize_45 : decode cJ5_resize 45 = .ok (.dup, 1) := dk_89 (dk_at dksJ5_resize_1 21 rfl rfl)
theorem dJ5_resize_46 : decode cJ5_resize 46 = .ok (.istore 4, 2) := dk_54 4 (dk_at dksJ5_resize_1 22 rfl rfl)
theorem dJ5_resize_48 : decode cJ5_resize 48 = .ok (.ldc 42, 2) := dk_18 42 (dk_at dksJ5_resize_2 0 rfl rfl)
theorem dJ5_resize_50 : decode cJ5_resize 50 = .ok (.if_icmp .ge 35, 3) := dk_162 0 35 (dk_at dksJ5_resize_2 2 rfl rfl)
theorem dJ5_resize_53 : decode cJ5_resize 53 = .ok (.iload_n 2, 1) := dk_28 (dk_at dksJ5_resize_2 5 rfl rfl)
theorem dJ5_resize_54 : decode cJ5_resize 54 = .ok (.bipush 16, 2) := dk_16 16 (dk_at dksJ5_resize_2 6 rfl rfl)
theorem dJ5_resize_56 : decode cJ5_resize 56 = .ok (.if_icmp .lt 29, 3) := dk_161 0 29 (dk_at dksJ5_resize_2 8 rfl rfl)
theorem dJ5_resize_59 : decode cJ5_resize 59 = .ok (.iload_n 3, 1) := dk_29 (dk_at dksJ5_resize_2 11 rfl rfl)
theorem dJ5_resize_60 : decode cJ5_resize 60 = .ok (.iconst 1, 1) := dk_4 (dk_at dksJ5_resize_2 12 rfl rfl)
theorem dJ5_resize_61 : decode cJ5_resize 61 = .ok (.ishl, 1) := dk_120 (dk_at dksJ5_resize_2 13 rfl rfl)
theorem dJ5_resize_62 : decode cJ5_resize 62 = .ok (.istore 5, 2) := dk_54 5 (dk_at dksJ5_resize_2 14 rfl rfl)
theorem dJ5_resize_64 : decode cJ5_resize 64 = .ok (.goto 21, 3) := dk_167 0 21 (dk_at dksJ5_resize_2 16 rfl rfl)
theorem dJ5_resize_67 : decode cJ5_resize 67 = .ok (.iload_n 3, 1) := dk_29 (dk_at dksJ5_resize_2 19 rfl rfl)
theorem dJ5_resize_68 : decode cJ5_resize 68 = .ok (.ifCond .le 9, 3) := dk_158 0 9 (dk_at dksJ5_resize_2 20 rfl rfl)
theorem dJ5_resize_71 : decode cJ5_resize 71 = .ok (.iload_n 3, 1) := dk_29 (dk_at dksJ5_resize_2 23 rfl rfl)
theorem dJ5_resize_72 : decode cJ5_resize 72 = .ok (.istore 4, 2) := dk_54 4 (dk_at dksJ5_resize_3 0 rfl rfl)
theorem dJ5_resize_74 : decode cJ5_resize 74 = .ok (.goto 11, 3) := dk_167 0 11 (dk_at dksJ5_resize_3 2 rfl rfl)
theorem dJ5_resize_77 : decode cJ5_resize 77 = .ok (.bipush 16, 2) := dk_16 16 (dk_at dksJ5_resize_3 5 rfl rfl)
theorem dJ5_resize_79 : decode cJ5_resize 79 = .ok (.istore 4, 2) := dk_54 4 (dk_at dksJ5_resize_3 7 rfl rfl)
theorem dJ5_resize_81 : decode cJ5_resize 81 = .ok (.bipush 12, 2) := dk_16 12 (dk_at dksJ5_resize_3 9 rfl rfl)
theorem dJ5_resize_83 : decode cJ5_resize 83 = .ok (.istore 5, 2) := dk_54 5 (dk_at dksJ5_resize_3 11 rfl rfl)
theorem dJ5_resize_85 : decode cJ5_resize 85 = .ok (.iload 5, 2) := dk_21 5 (dk_at dksJ5_resize_3 13 rfl rfl)
theorem dJ5_resize_87 : decode cJ5_resize 87 = .ok (.ifCond .ne 38, 3) := dk_154 0 38 (dk_at dksJ5_resize_3 15 rfl rfl)
theorem dJ5_resize_90 : decode cJ5_resize 90 = .ok (.iload 4, 2) := dk_21 4 (dk_at dksJ5_resize_3 18 rfl rfl)
theorem dJ5_resize_92 : decode cJ5_resize 92 = .ok (.i2f, 1) := dk_134 (dk_at dksJ5_resize_3 20 rfl rfl)
theorem dJ5_resize_93 : decode cJ5_resize 93 = .ok (.aload_n 0, 1) := dk_42 (dk_at dksJ5_resize_3 21 rfl rfl)
theorem dJ5_resize_94 : decode cJ5_resize 94 = .ok (.getfield 81, 3) := dk_180 0 81 (dk_at dksJ5_resize_4 0 rfl rfl)
theorem dJ5_resize_97 : decode cJ5_resize 97 = .ok (.fmul, 1) := dk_106 (dk_at dksJ5_resize_4 3 rfl rfl)
theorem dJ5_resize_98 : decode cJ5_resize 98 = .ok (.fstore 6, 2) := dk_56 6 (dk_at dksJ5_resize_4 4 rfl rfl)
theorem dJ5_resize_100 : decode cJ5_resize 100 = .ok (.iload 4, 2) := dk_21 4 (dk_at dksJ5_resize_4 6 rfl rfl)
theorem dJ5_resize_102 : decode cJ5_resize 102 = .ok (.ldc 42, 2) := dk_18 42 (dk_at dksJ5_resize_4 8 rfl rfl)
theorem dJ5_resize_104 : decode cJ5_resize 104 = .ok (.if_icmp .ge 17, 3) := dk_162 0 17 (dk_at dksJ5_resize_4 10 rfl rfl)
theorem dJ5_resize_107 : decode cJ5_resize 107 = .ok (.fload 6, 2) := dk_23 6 (dk_at dksJ5_resize_4 13 rfl rfl)
theorem dJ5_resize_109 : decode cJ5_resize 109 = .ok (.ldc 210, 2) := dk_18 210 (dk_at dksJ5_resize_4 15 rfl rfl)
theorem dJ5_resize_111 : decode cJ5_resize 111 = .ok (.fcmp .g, 1) := dk_150 (dk_at dksJ5_resize_4 17 rfl rfl)
theorem dJ5_resize_112 : decode cJ5_resize 112 = .ok (.ifCond .ge 9, 3) := dk_156 0 9 (dk_at dksJ5_resize_4 18 rfl rfl)
theorem dJ5_resize_115 : decode cJ5_resize 115 = .ok (.fload 6, 2) := dk_23 6 (dk_at dksJ5_resize_4 21 rfl rfl)
theorem dJ5_resize_117 : decode cJ5_resize 117 = .ok (.f2i, 1) := dk_139 (dk_at dksJ5_resize_4 23 rfl rfl)
theorem dJ5_resize_118 : decode cJ5_resize 118 = .ok (.goto 5, 3) := dk_167 0 5 (dk_at dksJ5_resize_5 0 rfl rfl)
theorem dJ5_resize_121 : decode cJ5_resize 121 = .ok (.ldc 209, 2) := dk_18 209 (dk_at dksJ5_resize_5 3 rfl rfl)
theorem dJ5_resize_123 : decode cJ5_resize 123 = .ok (.istore 5, 2) := dk_54 5 (dk_at dksJ5_resize_5 5 rfl rfl)
theorem dJ5_resize_125 : decode cJ5_resize 125 = .ok (.aload_n 0, 1) := dk_42 (dk_at dksJ5_resize_5 7 rfl rfl)
theorem dJ5_resize_126 : decode cJ5_resize 126 = .ok (.iload 5, 2) := dk_21 5 (dk_at dksJ5_resize_5 8 rfl rfl)
theorem dJ5_resize_128 : decode cJ5_resize 128 = .ok (.putfield 88, 3) := dk_181 0 88 (dk_at dksJ5_resize_5 10 rfl rfl)
theorem dJ5_resize_131 : decode cJ5_resize 131 = .ok (.iload 4, 2) := dk_21 4 (dk_at dksJ5_resize_5 13 rfl rfl)
theorem dJ5_resize_133 : decode cJ5_resize 133 = .ok (.anewarray 163, 3) := dk_189 0 163 (dk_at dksJ5_resize_5 15 rfl rfl)
theorem dJ5_resize_136 : decode cJ5_resize 136 = .ok (.astore 6, 2) := dk_58 6 (dk_at dksJ5_resize_5 18 rfl rfl)
theorem dJ5_resize_138 : decode cJ5_resize 138 = .ok (.aload_n 0, 1) := dk_42 (dk_at dksJ5_resize_5 20 rfl rfl)
theorem dJ5_resize_139 : decode cJ5_resize 139 = .ok (.aload 6, 2) := dk_25 6 (dk_at dksJ5_resize_5 21 rfl rfl)
theorem dJ5_resize_141 : decode cJ5_resize 141 = .ok (.putfield 105, 3) := dk_181 0 105 (dk_at dksJ5_resize_6 0 rfl rfl)
theorem dJ5_resize_144 : decode cJ5_resize 144 = .ok (.aload_n 1, 1) := dk_43 (dk_at dksJ5_resize_6 3 rfl rfl)
theorem dJ5_resize_145 : decode cJ5_resize 145 = .ok (.ifnull 208, 3) := dk_198 0 208 (dk_at dksJ5_resize_6 4 rfl rfl)
theorem dJ5_resize_148 : decode cJ5_resize 148 = .ok (.iconst 0, 1) := dk_3 (dk_at dksJ5_resize_6 7 rfl rfl)
theorem dJ5_resize_149 : decode cJ5_resize 149 = .ok (.istore 7, 2) := dk_54 7 (dk_at dksJ5_resize_6 8 rfl rfl)
theorem dJ5_resize_151 : decode cJ5_resize 151 = .ok (.iload 7, 2) := dk_21 7 (dk_at dksJ5_resize_6 10 rfl rfl)
theorem dJ5_resize_153 : decode cJ5_resize 153 = .ok (.iload_n 2, 1) := dk_28 (dk_at dksJ5_resize_6 12 rfl rfl)
theorem dJ5_resize_154 : decode cJ5_resize 154 = .ok (.if_icmp .ge 199, 3) := dk_162 0 199 (dk_at dksJ5_resize_6 13 rfl rfl)
theorem dJ5_resize_157 : decode cJ5_resize 157 = .ok (.aload_n 1, 1) := dk_43 (dk_at dksJ5_resize_6 16 rfl rfl)
theorem dJ5_resize_158 : decode cJ5_resize 158 = .ok (.iload 7, 2) := dk_21 7 (dk_at dksJ5_resize_6 17 rfl rfl)
theorem dJ5_resize_160 : decode cJ5_resize 160 = .ok (.aaload, 1) := dk_50 (dk_at dksJ5_resize_6 19 rfl rfl)
theorem dJ5_resize_161 : decode cJ5_resize 161 = .ok (.dup, 1) := dk_89 (dk_at dksJ5_resize_6 20 rfl rfl)
theorem dJ5_resize_162 : decode cJ5_resize 162 = .ok (.astore 8, 2) := dk_58 8 (dk_at dksJ5_resize_6 21 rfl rfl)
theorem dJ5_resize_164 : decode cJ5_resize 164 = .ok (.ifnull 183, 3) := dk_198 0 183 (dk_at dksJ5_resize_7 0 rfl rfl)
theorem dJ5_resize_167 : decode cJ5_resize 167 = .ok (.aload_n 1, 1) := dk_43 (dk_at dksJ5_resize_7 3 rfl rfl)
theorem dJ5_resize_168 : decode cJ5_resize 168 = .ok (.iload 7, 2) := dk_21 7 (dk_at dksJ5_resize_7 4 rfl rfl)
theorem dJ5_resize_170 : decode cJ5_resize 170 = .ok (.aconst_null, 1) := dk_1 (dk_at dksJ5_resize_7 6 rfl rfl)
theorem dJ5_resize_171 : decode cJ5_resize 171 = .ok (.aastore, 1) := dk_83 (dk_at dksJ5_resize_7 7 rfl rfl)
theorem dJ5_resize_172 : decode cJ5_resize 172 = .ok (.aload 8, 2) := dk_25 8 (dk_at dksJ5_resize_7 8 rfl rfl)
theorem dJ5_resize_174 : decode cJ5_resize 174 = .ok (.getfield 177, 3) := dk_180 0 177 (dk_at dksJ5_resize_7 10 rfl rfl)
theorem dJ5_resize_177 : decode cJ5_resize 177 = .ok (.ifnonnull 21, 3) := dk_199 0 21 (dk_at dksJ5_resize_7 13 rfl rfl)
theorem dJ5_resize_180 : decode cJ5_resize 180 = .ok (.aload 6, 2) := dk_25 6 (dk_at dksJ5_resize_7 16 rfl rfl)
theorem dJ5_resize_182 : decode cJ5_resize 182 = .ok (.aload 8, 2) := dk_25 8 (dk_at dksJ5_resize_7 18 rfl rfl)
theorem dJ5_resize_184 : decode cJ5_resize 184 = .ok (.getfield 168, 3) := dk_180 0 168 (dk_at dksJ5_resize_7 20 rfl rfl)
theorem dJ5_resize_187 : decode cJ5_resize 187 = .ok (.iload 4, 2) := dk_21 4 (dk_at dksJ5_resize_8 0 rfl rfl)
theorem dJ5_resize_189 : decode cJ5_resize 189 = .ok (.iconst 1, 1) := dk_4 (dk_at dksJ5_resize_8 2 rfl rfl)
theorem dJ5_resize_190 : decode cJ5_resize 190 = .ok (.isub, 1) := dk_100 (dk_at dksJ5_resize_8 3 rfl rfl)
theorem dJ5_resize_191 : decode cJ5_resize 191 = .ok (.iand, 1) := dk_126 (dk_at dksJ5_resize_8 4 rfl rfl)
theorem dJ5_resize_192 : decode cJ5_resize 192 = .ok (.aload 8, 2) := dk_25 8 (dk_at dksJ5_resize_8 5 rfl rfl)
theorem dJ5_resize_194 : decode cJ5_resize 194 = .ok (.aastore, 1) := dk_83 (dk_at dksJ5_resize_8 7 rfl rfl)
theorem dJ5_resize_195 : decode cJ5_resize 195 = .ok (.goto 152, 3) := dk_167 0 152 (dk_at dksJ5_resize_8 8 rfl rfl)
theorem dJ5_resize_198 : decode cJ5_resize 198 = .ok (.aload 8, 2) := dk_25 8 (dk_at dksJ5_resize_8 11 rfl rfl)
theorem dJ5_resize_200 : decode cJ5_resize 200 = .ok (.instanceof 180, 3) := dk_193 0 180 (dk_at dksJ5_resize_8 13 rfl rfl)
theorem dJ5_resize_203 : decode cJ5_resize 203 = .ok (.ifCond .eq 20, 3) := dk_153 0 20 (dk_at dksJ5_resize_8 16 rfl rfl)
theorem dJ5_resize_206 : decode cJ5_resize 206 = .ok (.aload 8, 2) := dk_25 8 (dk_at dksJ5_resize_8 19 rfl rfl)
theorem dJ5_resize_208 : decode cJ5_resize 208 = .ok (.checkcast 180, 3) := dk_192 0 180 (dk_at dksJ5_resize_8 21 rfl rfl)
theorem dJ5_resize_211 : decode cJ5_resize 211 = .ok (.aload_n 0, 1) := dk_42 (dk_at dksJ5_resize_9 0 rfl rfl)
theorem dJ5_resize_212 : decode cJ5_resize 212 = .ok (.aload 6, 2) := dk_25 6 (dk_at dksJ5_resize_9 1 rfl rfl)
theorem dJ5_resize_214 : decode cJ5_resize 214 = .ok (.iload 7, 2) := dk_21 7 (dk_at dksJ5_resize_9 3 rfl rfl)
theorem dJ5_resize_216 : decode cJ5_resize 216 = .ok (.iload_n 2, 1) := dk_28 (dk_at dksJ5_resize_9 5 rfl rfl)
theorem dJ5_resize_217 : decode cJ5_resize 217 = .ok (.invokevirtual 211, 3) := dk_182 0 211 (dk_at dksJ5_resize_9 6 rfl rfl)
theorem dJ5_resize_220 : decode cJ5_resize 220 = .ok (.goto 127, 3) := dk_167 0 127 (dk_at dksJ5_resize_9 9 rfl rfl)
theorem dJ5_resize_223 : decode cJ5_resize 223 = .ok (.aconst_null, 1) := dk_1 (dk_at dksJ5_resize_9 12 rfl rfl)
theorem dJ5_resize_224 : decode cJ5_resize 224 = .ok (.astore 9, 2) := dk_58 9 (dk_at dksJ5_resize_9 13 rfl rfl)
theorem dJ5_resize_226 : decode cJ5_resize 226 = .ok (.aconst_null, 1) := dk_1 (dk_at dksJ5_resize_9 15 rfl rfl)
theorem dJ5_resize_227 : decode cJ5_resize 227 = .ok (.astore 10, 2) := dk_58 10 (dk_at dksJ5_resize_9 16 rfl rfl)
theorem dJ5_resize_229 : decode cJ5_resize 229 = .ok (.aconst_null, 1) := dk_1 (dk_at dksJ5_resize_9 18 rfl rfl)
theorem dJ5_resize_230 : decode cJ5_resize 230 = .ok (.astore 11, 2) := dk_58 11 (dk_at dksJ5_resize_9 19 rfl rfl)
theorem dJ5_resize_232 : decode cJ5_resize 232 = .ok (.aconst_null, 1) := dk_1 (dk_at dksJ5_resize_9 21 rfl rfl)
theorem dJ5_resize_233 : decode cJ5_resize 233 = .ok (.astore 12, 2) := dk_58 12 (dk_at dksJ5_resize_9 22 rfl rfl)
theorem dJ5_resize_235 : decode cJ5_resize 235 = .ok (.aload 8, 2) := dk_25 8 (dk_at dksJ5_resize_10 0 rfl rfl)
theorem dJ5_resize_237 : decode cJ5_resize 237 = .ok (.getfield 177, 3) := dk_180 0 177 (dk_at dksJ5_resize_10 2 rfl rfl)
theorem dJ5_resize_240 : decode cJ5_resize 240 = .ok (.astore 13, 2) := dk_58 13 (dk_at dksJ5_resize_10 5 rfl rfl)
theorem dJ5_resize_242 : decode cJ5_resize 242 = .ok (.aload 8, 2) := dk_25 8 (dk_at dksJ5_resize_10 7 rfl rfl)
theorem dJ5_resize_244 : decode cJ5_resize 244 = .ok (.getfield 168, 3) := dk_180 0 168 (dk_at dksJ5_resize_10 9 rfl rfl)
theorem dJ5_resize_247 : decode cJ5_resize 247 = .ok (.iload_n 2, 1) := dk_28 (dk_at dksJ5_resize_10 12 rfl rfl)
theorem dJ5_resize_248 : decode cJ5_resize 248 = .ok (.iand, 1) := dk_126 (dk_at dksJ5_resize_10 13 rfl rfl)
theorem dJ5_resize_249 : decode cJ5_resize 249 = .ok (.ifCond .ne 29, 3) := dk_154 0 29 (dk_at dksJ5_resize_10 14 rfl rfl)
theorem dJ5_resize_252 : decode cJ5_resize 252 = .ok (.aload 10, 2) := dk_25 10 (dk_at dksJ5_resize_10 17 rfl rfl)
theorem dJ5_resize_254 : decode cJ5_resize 254 = .ok (.ifnonnull 10, 3) := dk_199 0 10 (dk_at dksJ5_resize_10 19 rfl rfl)
theorem dJ5_resize_257 : decode cJ5_resize 257 = .ok (.aload 8, 2) := dk_25 8 (dk_at dksJ5_resize_10 22 rfl rfl)
theorem dJ5_resize_259 : decode cJ5_resize 259 = .ok (.astore 9, 2) := dk_58 9 (dk_at dksJ5_resize_11 0 rfl rfl)
theorem dJ5_resize_261 : decode cJ5_resize 261 = .ok (.goto 10, 3) := dk_167 0 10 (dk_at dksJ5_resize_11 2 rfl rfl)
theorem dJ5_resize_264 : decode cJ5_resize 264 = .ok (.aload 10, 2) := dk_25 10 (dk_at dksJ5_resize_11 5 rfl rfl)
theorem dJ5_resize_266 : decode cJ5_resize 266 = .ok (.aload 8, 2) := dk_25 8 (dk_at dksJ5_resize_11 7 rfl rfl)
theorem dJ5_resize_268 : decode cJ5_resize 268 = .ok (.putfield 177, 3) := dk_181 0 177 (dk_at dksJ5_resize_11 9 rfl rfl)
theorem dJ5_resize_271 : decode cJ5_resize 271 = .ok (.aload 8, 2) := dk_25 8 (dk_at dksJ5_resize_11 12 rfl rfl)
theorem dJ5_resize_273 : decode cJ5_resize 273 = .ok (.astore 10, 2) := dk_58 10 (dk_at dksJ5_resize_11 14 rfl rfl)
theorem dJ5_resize_275 : decode cJ5_resize 275 = .ok (.goto 26, 3) := dk_167 0 26 (dk_at dksJ5_resize_11 16 rfl rfl)
theorem dJ5_resize_278 : decode cJ5_resize 278 = .ok (.aload 12, 2) := dk_25 12 (dk_at dksJ5_resize_11 19 rfl rfl)
theorem dJ5_resize_280 : decode cJ5_resize 280 = .ok (.ifnonnull 10, 3) := dk_199 0 10 (dk_at dksJ5_resize_11 21 rfl rfl)
theorem dJ5_resize_283 : decode cJ5_resize 283 = .ok (.aload 8, 2) := dk_25 8 (dk_at dksJ5_resize_12 0 rfl rfl)
theorem dJ5_resize_285 : decode cJ5_resize 285 = .ok (.astore 11, 2) := dk_58 11 (dk_at dksJ5_resize_12 2 rfl rfl)
theorem dJ5_resize_287 : decode cJ5_resize 287 = .ok (.goto 10, 3) := dk_167 0 10 (dk_at dksJ5_resize_12 4 rfl rfl)
theorem dJ5_resize_290 : decode cJ5_resize 290 = .ok (.aload 12, 2) := dk_25 12 (dk_at dksJ5_resize_12 7 rfl rfl)
theorem dJ5_resize_292 : decode cJ5_resize 292 = .ok (.aload 8, 2) := dk_25 8 (dk_at dksJ5_resize_12 9 rfl rfl)
theorem dJ5_resize_294 : decode cJ5_resize 294 = .ok (.putfield 177, 3) := dk_181 0 177 (dk_at dksJ5_resize_12 11 rfl rfl)
theorem dJ5_resize_297 : decode cJ5_resize 297 = .ok (.aload 8, 2) := dk_25 8 (dk_at dksJ5_resize_12 14 rfl rfl)
theorem dJ5_resize_299 : decode cJ5_resize 299 = .ok (.astore 12, 2) := dk_58 12 (dk_at dksJ5_resize_12 16 rfl rfl)
theorem dJ5_resize_301 : decode cJ5_resize 301 = .ok (.aload 13, 2) := dk_25 13 (dk_at dksJ5_resize_12 18 rfl rfl)
theorem dJ5_resize_303 : decode cJ5_resize 303 = .ok (.dup, 1) := dk_89 (dk_at dksJ5_resize_12 20 rfl rfl)
theorem dJ5_resize_304 : decode cJ5_resize 304 = .ok (.astore 8, 2) := dk_58 8 (dk_at dksJ5_resize_12 21 rfl rfl)
theorem dJ5_resize_306 : decode cJ5_resize 306 = .ok (.ifnonnull (-71), 3) := dk_199 255 185 (dk_at dksJ5_resize_13 0 rfl rfl)
theorem dJ5_resize_309 : decode cJ5_resize 309 = .ok (.aload 10, 2) := dk_25 10 (dk_at dksJ5_resize_13 3 rfl rfl)
theorem dJ5_resize_311 : decode cJ5_resize 311 = .ok (.ifnull 16, 3) := dk_198 0 16 (dk_at dksJ5_resize_13 5 rfl rfl)
theorem dJ5_resize_314 : decode cJ5_resize 314 = .ok (.aload 10, 2) := dk_25 10 (dk_at dksJ5_resize_13 8 rfl rfl)
theorem dJ5_resize_316 : decode cJ5_resize 316 = .ok (.aconst_null, 1) := dk_1 (dk_at dksJ5_resize_13 10 rfl rfl)
theorem dJ5_resize_317 : decode cJ5_resize 317 = .ok (.putfield 177, 3) := dk_181 0 177 (dk_at dksJ5_resize_13 11 rfl rfl)
theorem dJ5_resize_320 : decode cJ5_resize 320 = .ok (.aload 6, 2) := dk_25 6 (dk_at dksJ5_resize_13 14 rfl rfl)
theorem dJ5_resize_322 : decode cJ5_resize 322 = .ok (.iload 7, 2) := dk_21 7 (dk_at dksJ5_resize_13 16 rfl rfl)
theorem dJ5_resize_324 : decode cJ5_resize 324 = .ok (.aload 9, 2) := dk_25 9 (dk_at dksJ5_resize_13 18 rfl rfl)
theorem dJ5_resize_326 : decode cJ5_resize 326 = .ok (.aastore, 1) := dk_83 (dk_at dksJ5_resize_13 20 rfl rfl)
theorem dJ5_resize_327 : decode cJ5_resize 327 = .ok (.aload 12, 2) := dk_25 12 (dk_at dksJ5_resize_13 21 rfl rfl)
theorem dJ5_resize_329 : decode cJ5_resize 329 = .ok (.ifnull 18, 3) := dk_198 0 18 (dk_at dksJ5_resize_14 0 rfl rfl)
theorem dJ5_resize_332 : decode cJ5_resize 332 = .ok (.aload 12, 2) := dk_25 12 (dk_at dksJ5_resize_14 3 rfl rfl)
theorem dJ5_resize_334 : decode cJ5_resize 334 = .ok (.aconst_null, 1) := dk_1 (dk_at dksJ5_resize_14 5 rfl rfl)
theorem dJ5_resize_335 : decode cJ5_resize 335 = .ok (.putfield 177, 3) := dk_181 0 177 (dk_at dksJ5_resize_14 6 rfl rfl)
theorem dJ5_resize_338 : decode cJ5_resize 338 = .ok (.aload 6, 2) := dk_25 6 (dk_at dksJ5_resize_14 9 rfl rfl)
theorem dJ5_resize_340 : decode cJ5_resize 340 = .ok (.iload 7, 2) := dk_21 7 (dk_at dksJ5_resize_14 11 rfl rfl)
theorem dJ5_resize_342 : decode cJ5_resize 342 = .ok (.iload_n 2, 1) := dk_28 (dk_at dksJ5_resize_14 13 rfl rfl)
theorem dJ5_resize_343 : decode cJ5_resize 343 = .ok (.iadd, 1) := dk_96 (dk_at dksJ5_resize_14 14 rfl rfl)
theorem dJ5_resize_344 : decode cJ5_resize 344 = .ok (.aload 11, 2) := dk_25 11 (dk_at dksJ5_resize_14 15 rfl rfl)
theorem dJ5_resize_346 : decode cJ5_resize 346 = .ok (.aastore, 1) := dk_83 (dk_at dksJ5_resize_14 17 rfl rfl)
theorem dJ5_resize_347 : decode cJ5_resize 347 = .ok (.iinc 7 1, 3) := dk_132 7 1 (dk_at dksJ5_resize_14 18 rfl rfl)
theorem dJ5_resize_350 : decode cJ5_resize 350 = .ok (.goto (-199), 3) := dk_167 255 57 (dk_at dksJ5_resize_14 21 rfl rfl)
theorem dJ5_resize_353 : decode cJ5_resize 353 = .ok (.aload 6, 2) := dk_25 6 (dk_at dksJ5_resize_15 0 rfl rfl)
theorem dJ5_resize_355 : decode cJ5_resize 355 = .ok (.areturn, 1) := dk_176 (dk_at dksJ5_resize_15 2 rfl rfl)
abbrev cJ5_comparableClassFor : ByteArray := prog_63_method_2_code
def yJ5_comparableClassFor : MethodName := ⟨RJ5, "comparableClassFor", "(Ljava/lang/Object;)Ljava/lang/Class;"⟩
abbrev cJ5_compareComparables : ByteArray := prog_63_method_3_code
def yJ5_compareComparables : MethodName := ⟨RJ5, "compareComparables", "(Ljava/lang/Class;Ljava/lang/Object;Ljava/lang/Object;)I"⟩
abbrev cJ5_treeifyBin : ByteArray := prog_63_method_18_code
def yJ5_treeifyBin : MethodName := ⟨RJ5, "treeifyBin", "([Ljava/util/HashMap$Node;I)V"⟩
abbrev cJ5_containsKey : ByteArray := prog_63_method_14_code
def yJ5_containsKey : MethodName := ⟨RJ5, "containsKey", "(Ljava/lang/Object;)Z"⟩
def dkwJ5_containsKey_0 : List UInt8 := [42, 43, 182, 0, 158, 198, 0, 7, 4, 167, 0, 4, 3, 172]
abbrev dktJ5_containsKey_0 : List UInt8 := dkwJ5_containsKey_0 ++ []
theorem dksJ5_containsKey_0 : cJ5_containsKey.data.toList.drop 0 = dktJ5_containsKey_0 := by decide +kernel
theorem dJ5_containsKey_0 : decode cJ5_containsKey 0 = .ok (.aload_n 0, 1) := dk_42 (dk_at dksJ5_containsKey_0 0 rfl rfl)
theorem dJ5_containsKey_1 : decode cJ5_containsKey 1 = .ok (.aload_n 1, 1) := dk_43 (dk_at dksJ5_containsKey_0 1 rfl rfl)
theorem dJ5_containsKey_2 : decode cJ5_containsKey 2 = .ok (.invokevirtual 158, 3) := dk_182 0 158 (dk_at dksJ5_containsKey_0 2 rfl rfl)
theorem dJ5_containsKey_5 : decode cJ5_containsKey 5 = .ok (.ifnull 7, 3) := dk_198 0 7 (dk_at dksJ5_containsKey_0 5 rfl rfl)
theorem dJ5_containsKey_8 : decode cJ5_containsKey 8 = .ok (.iconst 1, 1) := dk_4 (dk_at dksJ5_containsKey_0 8 rfl rfl)
theorem dJ5_containsKey_9 : decode cJ5_containsKey 9 = .ok (.goto 4, 3) := dk_167 0 4 (dk_at dksJ5_containsKey_0 9 rfl rfl)
theorem dJ5_containsKey_12 : decode cJ5_containsKey 12 = .ok (.iconst 0, 1) := dk_3 (dk_at dksJ5_containsKey_0 12 rfl rfl)
theorem dJ5_containsKey_13 : decode cJ5_containsKey 13 = .ok (.ireturn, 1) := dk_172 (dk_at dksJ5_containsKey_0 13 rfl rfl)
abbrev cJ5_getNode : ByteArray := prog_63_method_13_code
def yJ5_getNode : MethodName := ⟨RJ5, "getNode", "(Ljava/lang/Object;)Ljava/util/HashMap$Node;"⟩
def dkwJ5_getNode_6 : List UInt8 := [89, 58, 4, 199, 255, 210, 1, 176]
abbrev dktJ5_getNode_6 : List UInt8 := dkwJ5_getNode_6 ++ []
def dkwJ5_getNode_5 : List UInt8 := [165, 0, 16, 43, 198, 0, 15, 43, 25, 7, 182, 0, 173, 153, 0, 6, 25, 4, 176, 25, 4, 180, 0, 177]
abbrev dktJ5_getNode_5 : List UInt8 := dkwJ5_getNode_5 ++ dktJ5_getNode_6
def dkwJ5_getNode_4 : List UInt8 := [43, 182, 0, 182, 176, 25, 4, 180, 0, 168, 21, 6, 160, 0, 31, 25, 4, 180, 0, 170, 89, 58, 7, 43]
abbrev dktJ5_getNode_4 : List UInt8 := dkwJ5_getNode_4 ++ dktJ5_getNode_5
def dkwJ5_getNode_3 : List UInt8 := [176, 45, 180, 0, 177, 89, 58, 4, 198, 0, 70, 45, 193, 0, 180, 153, 0, 14, 45, 192, 0, 180, 21, 6]
abbrev dktJ5_getNode_3 : List UInt8 := dkwJ5_getNode_3 ++ dktJ5_getNode_4
def dkwJ5_getNode_2 : List UInt8 := [180, 0, 170, 89, 58, 7, 43, 165, 0, 16, 43, 198, 0, 14, 43, 25, 7, 182, 0, 173, 153, 0, 5, 45]
abbrev dktJ5_getNode_2 : List UInt8 := dkwJ5_getNode_2 ++ dktJ5_getNode_3
def dkwJ5_getNode_1 : List UInt8 := [184, 0, 149, 89, 54, 6, 126, 50, 89, 78, 198, 0, 115, 45, 180, 0, 168, 21, 6, 160, 0, 29, 45]
abbrev dktJ5_getNode_1 : List UInt8 := dkwJ5_getNode_1 ++ dktJ5_getNode_2
def dkwJ5_getNode_0 : List UInt8 := [42, 180, 0, 105, 89, 77, 198, 0, 142, 44, 190, 89, 54, 5, 158, 0, 134, 44, 21, 5, 4, 100, 43]
abbrev dktJ5_getNode_0 : List UInt8 := dkwJ5_getNode_0 ++ dktJ5_getNode_1
theorem dksJ5_getNode_0 : cJ5_getNode.data.toList.drop 0 = dktJ5_getNode_0 := by decide +kernel
theorem dksJ5_getNode_1 : cJ5_getNode.data.toList.drop 23 = dktJ5_getNode_1 := dk_seg dksJ5_getNode_0 23 rfl rfl
theorem dksJ5_getNode_2 : cJ5_getNode.data.toList.drop 46 = dktJ5_getNode_2 := dk_seg dksJ5_getNode_1 23 rfl rfl
theorem dksJ5_getNode_3 : cJ5_getNode.data.toList.drop 70 = dktJ5_getNode_3 := dk_seg dksJ5_getNode_2 24 rfl rfl
theorem dksJ5_getNode_4 : cJ5_getNode.data.toList.drop 94 = dktJ5_getNode_4 := dk_seg dksJ5_getNode_3 24 rfl rfl
theorem dksJ5_getNode_5 : cJ5_getNode.data.toList.drop 118 = dktJ5_getNode_5 := dk_seg dksJ5_getNode_4 24 rfl rfl
theorem dksJ5_getNode_6 : cJ5_getNode.data.toList.drop 142 = dktJ5_getNode_6 := dk_seg dksJ5_getNode_5 24 rfl rfl
theorem dJ5_getNode_0 : decode cJ5_getNode 0 = .ok (.aload_n 0, 1) := dk_42 (dk_at dksJ5_getNode_0 0 rfl rfl)
theorem dJ5_getNode_1 : decode cJ5_getNode 1 = .ok (.getfield 105, 3) := dk_180 0 105 (dk_at dksJ5_getNode_0 1 rfl rfl)
theorem dJ5_getNode_4 : decode cJ5_getNode 4 = .ok (.dup, 1) := dk_89 (dk_at dksJ5_getNode_0 4 rfl rfl)
theorem dJ5_getNode_5 : decode cJ5_getNode 5 = .ok (.astore_n 2, 1) := dk_77 (dk_at dksJ5_getNode_0 5 rfl rfl)
theorem dJ5_getNode_6 : decode cJ5_getNode 6 = .ok (.ifnull 142, 3) := dk_198 0 142 (dk_at dksJ5_getNode_0 6 rfl rfl)
theorem dJ5_getNode_9 : decode cJ5_getNode 9 = .ok (.aload_n 2, 1) := dk_44 (dk_at dksJ5_getNode_0 9 rfl rfl)
theorem dJ5_getNode_10 : decode cJ5_getNode 10 = .ok (.arraylength, 1) := dk_190 (dk_at dksJ5_getNode_0 10 rfl rfl)
theorem dJ5_getNode_11 : decode cJ5_getNode 11 = .ok (.dup, 1) := dk_89 (dk_at dksJ5_getNode_0 11 rfl rfl)
theorem dJ5_getNode_12 : decode cJ5_getNode 12 = .ok (.istore 5, 2) := dk_54 5 (dk_at dksJ5_getNode_0 12 rfl rfl)
theorem dJ5_getNode_14 : decode cJ5_getNode 14 = .ok (.ifCond .le 134, 3) := dk_158 0 134 (dk_at dksJ5_getNode_0 14 rfl rfl)
theorem dJ5_getNode_17 : decode cJ5_getNode 17 = .ok (.aload_n 2, 1) := dk_44 (dk_at dksJ5_getNode_0 17 rfl rfl)
theorem dJ5_getNode_18 : decode cJ5_getNode 18 = .ok (.iload 5, 2) := dk_21 5 (dk_at dksJ5_getNode_0 18 rfl rfl)
theorem dJ5_getNode_20 : decode cJ5_getNode 20 = .ok (.iconst 1, 1) := dk_4 (dk_at dksJ5_getNode_0 20 rfl rfl)
theorem dJ5_getNode_21 : decode cJ5_getNode 21 = .ok (.isub, 1) := dk_100 (dk_at dksJ5_getNode_0 21 rfl rfl)
theorem dJ5_getNode_22 : decode cJ5_getNode 22 = .ok (.aload_n 1, 1) := dk_43 (dk_at dksJ5_getNode_0 22 rfl rfl)
theorem dJ5_getNode_23 : decode cJ5_getNode 23 = .ok (.invokestatic 149, 3) := dk_184 0 149 (dk_at dksJ5_getNode_1 0 rfl rfl)
theorem dJ5_getNode_26 : decode cJ5_getNode 26 = .ok (.dup, 1) := dk_89 (dk_at dksJ5_getNode_1 3 rfl rfl)
theorem dJ5_getNode_27 : decode cJ5_getNode 27 = .ok (.istore 6, 2) := dk_54 6 (dk_at dksJ5_getNode_1 4 rfl rfl)
theorem dJ5_getNode_29 : decode cJ5_getNode 29 = .ok (.iand, 1) := dk_126 (dk_at dksJ5_getNode_1 6 rfl rfl)
theorem dJ5_getNode_30 : decode cJ5_getNode 30 = .ok (.aaload, 1) := dk_50 (dk_at dksJ5_getNode_1 7 rfl rfl)
theorem dJ5_getNode_31 : decode cJ5_getNode 31 = .ok (.dup, 1) := dk_89 (dk_at dksJ5_getNode_1 8 rfl rfl)
theorem dJ5_getNode_32 : decode cJ5_getNode 32 = .ok (.astore_n 3, 1) := dk_78 (dk_at dksJ5_getNode_1 9 rfl rfl)
theorem dJ5_getNode_33 : decode cJ5_getNode 33 = .ok (.ifnull 115, 3) := dk_198 0 115 (dk_at dksJ5_getNode_1 10 rfl rfl)
theorem dJ5_getNode_36 : decode cJ5_getNode 36 = .ok (.aload_n 3, 1) := dk_45 (dk_at dksJ5_getNode_1 13 rfl rfl)
theorem dJ5_getNode_37 : decode cJ5_getNode 37 = .ok (.getfield 168, 3) := dk_180 0 168 (dk_at dksJ5_getNode_1 14 rfl rfl)
theorem dJ5_getNode_40 : decode cJ5_getNode 40 = .ok (.iload 6, 2) := dk_21 6 (dk_at dksJ5_getNode_1 17 rfl rfl)
theorem dJ5_getNode_42 : decode cJ5_getNode 42 = .ok (.if_icmp .ne 29, 3) := dk_160 0 29 (dk_at dksJ5_getNode_1 19 rfl rfl)
theorem dJ5_getNode_45 : decode cJ5_getNode 45 = .ok (.aload_n 3, 1) := dk_45 (dk_at dksJ5_getNode_1 22 rfl rfl)
theorem dJ5_getNode_46 : decode cJ5_getNode 46 = .ok (.getfield 170, 3) := dk_180 0 170 (dk_at dksJ5_getNode_2 0 rfl rfl)
theorem dJ5_getNode_49 : decode cJ5_getNode 49 = .ok (.dup, 1) := dk_89 (dk_at dksJ5_getNode_2 3 rfl rfl)
theorem dJ5_getNode_50 : decode cJ5_getNode 50 = .ok (.astore 7, 2) := dk_58 7 (dk_at dksJ5_getNode_2 4 rfl rfl)
theorem dJ5_getNode_52 : decode cJ5_getNode 52 = .ok (.aload_n 1, 1) := dk_43 (dk_at dksJ5_getNode_2 6 rfl rfl)
theorem dJ5_getNode_53 : decode cJ5_getNode 53 = .ok (.if_acmp .eq 16, 3) := dk_165 0 16 (dk_at dksJ5_getNode_2 7 rfl rfl)
theorem dJ5_getNode_56 : decode cJ5_getNode 56 = .ok (.aload_n 1, 1) := dk_43 (dk_at dksJ5_getNode_2 10 rfl rfl)
theorem dJ5_getNode_57 : decode cJ5_getNode 57 = .ok (.ifnull 14, 3) := dk_198 0 14 (dk_at dksJ5_getNode_2 11 rfl rfl)
theorem dJ5_getNode_60 : decode cJ5_getNode 60 = .ok (.aload_n 1, 1) := dk_43 (dk_at dksJ5_getNode_2 14 rfl rfl)
theorem dJ5_getNode_61 : decode cJ5_getNode 61 = .ok (.aload 7, 2) := dk_25 7 (dk_at dksJ5_getNode_2 15 rfl rfl)
theorem dJ5_getNode_63 : decode cJ5_getNode 63 = .ok (.invokevirtual 173, 3) := dk_182 0 173 (dk_at dksJ5_getNode_2 17 rfl rfl)
theorem dJ5_getNode_66 : decode cJ5_getNode 66 = .ok (.ifCond .eq 5, 3) := dk_153 0 5 (dk_at dksJ5_getNode_2 20 rfl rfl)
theorem dJ5_getNode_69 : decode cJ5_getNode 69 = .ok (.aload_n 3, 1) := dk_45 (dk_at dksJ5_getNode_2 23 rfl rfl)
theorem dJ5_getNode_70 : decode cJ5_getNode 70 = .ok (.areturn, 1) := dk_176 (dk_at dksJ5_getNode_3 0 rfl rfl)
theorem dJ5_getNode_71 : decode cJ5_getNode 71 = .ok (.aload_n 3, 1) := dk_45 (dk_at dksJ5_getNode_3 1 rfl rfl)
theorem dJ5_getNode_72 : decode cJ5_getNode 72 = .ok (.getfield 177, 3) := dk_180 0 177 (dk_at dksJ5_getNode_3 2 rfl rfl)
theorem dJ5_getNode_75 : decode cJ5_getNode 75 = .ok (.dup, 1) := dk_89 (dk_at dksJ5_getNode_3 5 rfl rfl)
theorem dJ5_getNode_76 : decode cJ5_getNode 76 = .ok (.astore 4, 2) := dk_58 4 (dk_at dksJ5_getNode_3 6 rfl rfl)
theorem dJ5_getNode_78 : decode cJ5_getNode 78 = .ok (.ifnull 70, 3) := dk_198 0 70 (dk_at dksJ5_getNode_3 8 rfl rfl)
theorem dJ5_getNode_81 : decode cJ5_getNode 81 = .ok (.aload_n 3, 1) := dk_45 (dk_at dksJ5_getNode_3 11 rfl rfl)
theorem dJ5_getNode_82 : decode cJ5_getNode 82 = .ok (.instanceof 180, 3) := dk_193 0 180 (dk_at dksJ5_getNode_3 12 rfl rfl)
theorem dJ5_getNode_85 : decode cJ5_getNode 85 = .ok (.ifCond .eq 14, 3) := dk_153 0 14 (dk_at dksJ5_getNode_3 15 rfl rfl)
theorem dJ5_getNode_88 : decode cJ5_getNode 88 = .ok (.aload_n 3, 1) := dk_45 (dk_at dksJ5_getNode_3 18 rfl rfl)
theorem dJ5_getNode_89 : decode cJ5_getNode 89 = .ok (.checkcast 180, 3) := dk_192 0 180 (dk_at dksJ5_getNode_3 19 rfl rfl)
theorem dJ5_getNode_92 : decode cJ5_getNode 92 = .ok (.iload 6, 2) := dk_21 6 (dk_at dksJ5_getNode_3 22 rfl rfl)
theorem dJ5_getNode_94 : decode cJ5_getNode 94 = .ok (.aload_n 1, 1) := dk_43 (dk_at dksJ5_getNode_4 0 rfl rfl)
theorem dJ5_getNode_95 : decode cJ5_getNode 95 = .ok (.invokevirtual 182, 3) := dk_182 0 182 (dk_at dksJ5_getNode_4 1 rfl rfl)
theorem dJ5_getNode_98 : decode cJ5_getNode 98 = .ok (.areturn, 1) := dk_176 (dk_at dksJ5_getNode_4 4 rfl rfl)
theorem dJ5_getNode_99 : decode cJ5_getNode 99 = .ok (.aload 4, 2) := dk_25 4 (dk_at dksJ5_getNode_4 5 rfl rfl)
theorem dJ5_getNode_101 : decode cJ5_getNode 101 = .ok (.getfield 168, 3) := dk_180 0 168 (dk_at dksJ5_getNode_4 7 rfl rfl)
theorem dJ5_getNode_104 : decode cJ5_getNode 104 = .ok (.iload 6, 2) := dk_21 6 (dk_at dksJ5_getNode_4 10 rfl rfl)
theorem dJ5_getNode_106 : decode cJ5_getNode 106 = .ok (.if_icmp .ne 31, 3) := dk_160 0 31 (dk_at dksJ5_getNode_4 12 rfl rfl)
theorem dJ5_getNode_109 : decode cJ5_getNode 109 = .ok (.aload 4, 2) := dk_25 4 (dk_at dksJ5_getNode_4 15 rfl rfl)
theorem dJ5_getNode_111 : decode cJ5_getNode 111 = .ok (.getfield 170, 3) := dk_180 0 170 (dk_at dksJ5_getNode_4 17 rfl rfl)
theorem dJ5_getNode_114 : decode cJ5_getNode 114 = .ok (.dup, 1) := dk_89 (dk_at dksJ5_getNode_4 20 rfl rfl)
theorem dJ5_getNode_115 : decode cJ5_getNode 115 = .ok (.astore 7, 2) := dk_58 7 (dk_at dksJ5_getNode_4 21 rfl rfl)
theorem dJ5_getNode_117 : decode cJ5_getNode 117 = .ok (.aload_n 1, 1) := dk_43 (dk_at dksJ5_getNode_4 23 rfl rfl)
theorem dJ5_getNode_118 : decode cJ5_getNode 118 = .ok (.if_acmp .eq 16, 3) := dk_165 0 16 (dk_at dksJ5_getNode_5 0 rfl rfl)
theorem dJ5_getNode_121 : decode cJ5_getNode 121 = .ok (.aload_n 1, 1) := dk_43 (dk_at dksJ5_getNode_5 3 rfl rfl)
theorem dJ5_getNode_122 : decode cJ5_getNode 122 = .ok (.ifnull 15, 3) := dk_198 0 15 (dk_at dksJ5_getNode_5 4 rfl rfl)
theorem dJ5_getNode_125 : decode cJ5_getNode 125 = .ok (.aload_n 1, 1) := dk_43 (dk_at dksJ5_getNode_5 7 rfl rfl)
theorem dJ5_getNode_126 : decode cJ5_getNode 126 = .ok (.aload 7, 2) := dk_25 7 (dk_at dksJ5_getNode_5 8 rfl rfl)
theorem dJ5_getNode_128 : decode cJ5_getNode 128 = .ok (.invokevirtual 173, 3) := dk_182 0 173 (dk_at dksJ5_getNode_5 10 rfl rfl)
theorem dJ5_getNode_131 : decode cJ5_getNode 131 = .ok (.ifCond .eq 6, 3) := dk_153 0 6 (dk_at dksJ5_getNode_5 13 rfl rfl)
theorem dJ5_getNode_134 : decode cJ5_getNode 134 = .ok (.aload 4, 2) := dk_25 4 (dk_at dksJ5_getNode_5 16 rfl rfl)
theorem dJ5_getNode_136 : decode cJ5_getNode 136 = .ok (.areturn, 1) := dk_176 (dk_at dksJ5_getNode_5 18 rfl rfl)
theorem dJ5_getNode_137 : decode cJ5_getNode 137 = .ok (.aload 4, 2) := dk_25 4 (dk_at dksJ5_getNode_5 19 rfl rfl)
theorem dJ5_getNode_139 : decode cJ5_getNode 139 = .ok (.getfield 177, 3) := dk_180 0 177 (dk_at dksJ5_getNode_5 21 rfl rfl)
theorem dJ5_getNode_142 : decode cJ5_getNode 142 = .ok (.dup, 1) := dk_89 (dk_at dksJ5_getNode_6 0 rfl rfl)
theorem dJ5_getNode_143 : decode cJ5_getNode 143 = .ok (.astore 4, 2) := dk_58 4 (dk_at dksJ5_getNode_6 1 rfl rfl)
theorem dJ5_getNode_145 : decode cJ5_getNode 145 = .ok (.ifnonnull (-46), 3) := dk_199 255 210 (dk_at dksJ5_getNode_6 3 rfl rfl)
theorem dJ5_getNode_148 : decode cJ5_getNode 148 = .ok (.aconst_null, 1) := dk_1 (dk_at dksJ5_getNode_6 6 rfl rfl)
theorem dJ5_getNode_149 : decode cJ5_getNode 149 = .ok (.areturn, 1) := dk_176 (dk_at dksJ5_getNode_6 7 rfl rfl)
abbrev cJ5_remove : ByteArray := prog_63_method_20_code
def yJ5_remove : MethodName := ⟨RJ5, "remove", "(Ljava/lang/Object;)Ljava/lang/Object;"⟩
def dkwJ5_remove_1 : List UInt8 := [180, 0, 162, 176]
abbrev dktJ5_remove_1 : List UInt8 := dkwJ5_remove_1 ++ []
def dkwJ5_remove_0 : List UInt8 := [42, 43, 184, 0, 149, 43, 1, 3, 4, 182, 0, 228, 89, 77, 199, 0, 7, 1, 167, 0, 7, 44]
abbrev dktJ5_remove_0 : List UInt8 := dkwJ5_remove_0 ++ dktJ5_remove_1
theorem dksJ5_remove_0 : cJ5_remove.data.toList.drop 0 = dktJ5_remove_0 := by decide +kernel
theorem dksJ5_remove_1 : cJ5_remove.data.toList.drop 22 = dktJ5_remove_1 := dk_seg dksJ5_remove_0 22 rfl rfl
theorem dJ5_remove_0 : decode cJ5_remove 0 = .ok (.aload_n 0, 1) := dk_42 (dk_at dksJ5_remove_0 0 rfl rfl)
theorem dJ5_remove_1 : decode cJ5_remove 1 = .ok (.aload_n 1, 1) := dk_43 (dk_at dksJ5_remove_0 1 rfl rfl)
theorem dJ5_remove_2 : decode cJ5_remove 2 = .ok (.invokestatic 149, 3) := dk_184 0 149 (dk_at dksJ5_remove_0 2 rfl rfl)
theorem dJ5_remove_5 : decode cJ5_remove 5 = .ok (.aload_n 1, 1) := dk_43 (dk_at dksJ5_remove_0 5 rfl rfl)
theorem dJ5_remove_6 : decode cJ5_remove 6 = .ok (.aconst_null, 1) := dk_1 (dk_at dksJ5_remove_0 6 rfl rfl)
theorem dJ5_remove_7 : decode cJ5_remove 7 = .ok (.iconst 0, 1) := dk_3 (dk_at dksJ5_remove_0 7 rfl rfl)
theorem dJ5_remove_8 : decode cJ5_remove 8 = .ok (.iconst 1, 1) := dk_4 (dk_at dksJ5_remove_0 8 rfl rfl)
theorem dJ5_remove_9 : decode cJ5_remove 9 = .ok (.invokevirtual 228, 3) := dk_182 0 228 (dk_at dksJ5_remove_0 9 rfl rfl)
theorem dJ5_remove_12 : decode cJ5_remove 12 = .ok (.dup, 1) := dk_89 (dk_at dksJ5_remove_0 12 rfl rfl)
theorem dJ5_remove_13 : decode cJ5_remove 13 = .ok (.astore_n 2, 1) := dk_77 (dk_at dksJ5_remove_0 13 rfl rfl)
theorem dJ5_remove_14 : decode cJ5_remove 14 = .ok (.ifnonnull 7, 3) := dk_199 0 7 (dk_at dksJ5_remove_0 14 rfl rfl)
theorem dJ5_remove_17 : decode cJ5_remove 17 = .ok (.aconst_null, 1) := dk_1 (dk_at dksJ5_remove_0 17 rfl rfl)
theorem dJ5_remove_18 : decode cJ5_remove 18 = .ok (.goto 7, 3) := dk_167 0 7 (dk_at dksJ5_remove_0 18 rfl rfl)
theorem dJ5_remove_21 : decode cJ5_remove 21 = .ok (.aload_n 2, 1) := dk_44 (dk_at dksJ5_remove_0 21 rfl rfl)
theorem dJ5_remove_22 : decode cJ5_remove 22 = .ok (.getfield 162, 3) := dk_180 0 162 (dk_at dksJ5_remove_1 0 rfl rfl)
theorem dJ5_remove_25 : decode cJ5_remove 25 = .ok (.areturn, 1) := dk_176 (dk_at dksJ5_remove_1 3 rfl rfl)
abbrev cJ5_removeNode : ByteArray := prog_63_method_21_code
def yJ5_removeNode : MethodName := ⟨RJ5, "removeNode", "(ILjava/lang/Object;Ljava/lang/Object;ZZ)Ljava/util/HashMap$Node;"⟩
def dkwJ5_removeNode_12 : List UInt8 := [181, 0, 156, 42, 25, 10, 182, 0, 236, 25, 10, 176, 1, 176]
abbrev dktJ5_removeNode_12 : List UInt8 := dkwJ5_removeNode_12 ++ []
def dkwJ5_removeNode_11 : List UInt8 := [180, 0, 177, 181, 0, 177, 42, 89, 180, 0, 202, 4, 96, 181, 0, 202, 42, 89, 180, 0, 156, 4, 100]
abbrev dktJ5_removeNode_11 : List UInt8 := dkwJ5_removeNode_11 ++ dktJ5_removeNode_12
def dkwJ5_removeNode_10 : List UInt8 := [25, 10, 25, 7, 166, 0, 16, 25, 6, 21, 9, 25, 10, 180, 0, 177, 83, 167, 0, 13, 25, 7, 25, 10]
abbrev dktJ5_removeNode_10 : List UInt8 := dkwJ5_removeNode_10 ++ dktJ5_removeNode_11
def dkwJ5_removeNode_9 : List UInt8 := [25, 10, 193, 0, 180, 153, 0, 19, 25, 10, 192, 0, 180, 42, 25, 6, 21, 5, 182, 0, 232, 167, 0, 33]
abbrev dktJ5_removeNode_9 : List UInt8 := dkwJ5_removeNode_9 ++ dktJ5_removeNode_10
def dkwJ5_removeNode_8 : List UInt8 := [180, 0, 162, 89, 58, 13, 45, 165, 0, 16, 45, 198, 0, 95, 45, 25, 13, 182, 0, 173, 153, 0, 86]
abbrev dktJ5_removeNode_8 : List UInt8 := dkwJ5_removeNode_8 ++ dktJ5_removeNode_9
def dkwJ5_removeNode_7 : List UInt8 := [25, 11, 180, 0, 177, 89, 58, 11, 199, 255, 203, 25, 10, 198, 0, 116, 21, 4, 153, 0, 28, 25, 10]
abbrev dktJ5_removeNode_7 : List UInt8 := dkwJ5_removeNode_7 ++ dktJ5_removeNode_8
def dkwJ5_removeNode_6 : List UInt8 := [198, 0, 19, 44, 25, 12, 182, 0, 173, 153, 0, 10, 25, 11, 58, 10, 167, 0, 18, 25, 11, 58, 7]
abbrev dktJ5_removeNode_6 : List UInt8 := dkwJ5_removeNode_6 ++ dktJ5_removeNode_7
def dkwJ5_removeNode_5 : List UInt8 := [25, 11, 180, 0, 168, 27, 160, 0, 35, 25, 11, 180, 0, 170, 89, 58, 12, 44, 165, 0, 16, 44]
abbrev dktJ5_removeNode_5 : List UInt8 := dkwJ5_removeNode_5 ++ dktJ5_removeNode_6
def dkwJ5_removeNode_4 : List UInt8 := [25, 7, 193, 0, 180, 153, 0, 18, 25, 7, 192, 0, 180, 27, 44, 182, 0, 182, 58, 10, 167, 0, 59]
abbrev dktJ5_removeNode_4 : List UInt8 := dkwJ5_removeNode_4 ++ dktJ5_removeNode_5
def dkwJ5_removeNode_3 : List UInt8 := [182, 0, 173, 153, 0, 10, 25, 7, 58, 10, 167, 0, 93, 25, 7, 180, 0, 177, 89, 58, 11, 198, 0, 82]
abbrev dktJ5_removeNode_3 : List UInt8 := dkwJ5_removeNode_3 ++ dktJ5_removeNode_4
def dkwJ5_removeNode_2 : List UInt8 := [160, 0, 35, 25, 7, 180, 0, 170, 89, 58, 12, 44, 165, 0, 16, 44, 198, 0, 19, 44, 25, 12]
abbrev dktJ5_removeNode_2 : List UInt8 := dkwJ5_removeNode_2 ++ dktJ5_removeNode_3
def dkwJ5_removeNode_1 : List UInt8 := [100, 27, 126, 89, 54, 9, 50, 89, 58, 7, 198, 0, 255, 1, 58, 10, 25, 7, 180, 0, 168, 27]
abbrev dktJ5_removeNode_1 : List UInt8 := dkwJ5_removeNode_1 ++ dktJ5_removeNode_2
def dkwJ5_removeNode_0 : List UInt8 := [42, 180, 0, 105, 89, 58, 6, 198, 1, 26, 25, 6, 190, 89, 54, 8, 158, 1, 17, 25, 6, 21, 8, 4]
abbrev dktJ5_removeNode_0 : List UInt8 := dkwJ5_removeNode_0 ++ dktJ5_removeNode_1
theorem dksJ5_removeNode_0 : cJ5_removeNode.data.toList.drop 0 = dktJ5_removeNode_0 := by decide +kernel
theorem dksJ5_removeNode_1 : cJ5_removeNode.data.toList.drop 24 = dktJ5_removeNode_1 := dk_seg dksJ5_removeNode_0 24 rfl rfl
theorem dksJ5_removeNode_2 : cJ5_removeNode.data.toList.drop 46 = dktJ5_removeNode_2 := dk_seg dksJ5_removeNode_1 22 rfl rfl
theorem dksJ5_removeNode_3 : cJ5_removeNode.data.toList.drop 68 = dktJ5_removeNode_3 := dk_seg dksJ5_removeNode_2 22 rfl rfl
theorem dksJ5_removeNode_4 : cJ5_removeNode.data.toList.drop 92 = dktJ5_removeNode_4 := dk_seg dksJ5_removeNode_3 24 rfl rfl
theorem dksJ5_removeNode_5 : cJ5_removeNode.data.toList.drop 115 = dktJ5_removeNode_5 := dk_seg dksJ5_removeNode_4 23 rfl rfl
theorem dksJ5_removeNode_6 : cJ5_removeNode.data.toList.drop 137 = dktJ5_removeNode_6 := dk_seg dksJ5_removeNode_5 22 rfl rfl
theorem dksJ5_removeNode_7 : cJ5_removeNode.data.toList.drop 160 = dktJ5_removeNode_7 := dk_seg dksJ5_removeNode_6 23 rfl rfl
theorem dksJ5_removeNode_8 : cJ5_removeNode.data.toList.drop 183 = dktJ5_removeNode_8 := dk_seg dksJ5_removeNode_7 23 rfl rfl
theorem dksJ5_removeNode_9 : cJ5_removeNode.data.toList.drop 206 = dktJ5_removeNode_9 := dk_seg dksJ5_removeNode_8 23 rfl rfl
theorem dksJ5_removeNode_10 : cJ5_removeNode.data.toList.drop 230 = dktJ5_removeNode_10 := dk_seg dksJ5_removeNode_9 24 rfl rfl
theorem dksJ5_removeNode_11 : cJ5_removeNode.data.toList.drop 254 = dktJ5_removeNode_11 := dk_seg dksJ5_removeNode_10 24 rfl rfl
theorem dksJ5_removeNode_12 : cJ5_removeNode.data.toList.drop 277 = dktJ5_removeNode_12 := dk_seg dksJ5_removeNode_11 23 rfl rfl
theorem dJ5_removeNode_0 : decode cJ5_removeNode 0 = .ok (.aload_n 0, 1) := dk_42 (dk_at dksJ5_removeNode_0 0 rfl rfl)
theorem dJ5_removeNode_1 : decode cJ5_removeNode 1 = .ok (.getfield 105, 3) := dk_180 0 105 (dk_at dksJ5_removeNode_0 1 rfl rfl)
theorem dJ5_removeNode_4 : decode cJ5_removeNode 4 = .ok (.dup, 1) := dk_89 (dk_at dksJ5_removeNode_0 4 rfl rfl)
theorem dJ5_removeNode_5 : decode cJ5_removeNode 5 = .ok (.astore 6, 2) := dk_58 6 (dk_at dksJ5_removeNode_0 5 rfl rfl)
theorem dJ5_removeNode_7 : decode cJ5_removeNode 7 = .ok (.ifnull 282, 3) := dk_198 1 26 (dk_at dksJ5_removeNode_0 7 rfl rfl)
theorem dJ5_removeNode_10 : decode cJ5_removeNode 10 = .ok (.aload 6, 2) := dk_25 6 (dk_at dksJ5_removeNode_0 10 rfl rfl)
theorem dJ5_removeNode_12 : decode cJ5_removeNode 12 = .ok (.arraylength, 1) := dk_190 (dk_at dksJ5_removeNode_0 12 rfl rfl)
theorem dJ5_removeNode_13 : decode cJ5_removeNode 13 = .ok (.dup, 1) := dk_89 (dk_at dksJ5_removeNode_0 13 rfl rfl)
theorem dJ5_removeNode_14 : decode cJ5_removeNode 14 = .ok (.istore 8, 2) := dk_54 8 (dk_at dksJ5_removeNode_0 14 rfl rfl)
theorem dJ5_removeNode_16 : decode cJ5_removeNode 16 = .ok (.ifCond .le 273, 3) := dk_158 1 17 (dk_at dksJ5_removeNode_0 16 rfl rfl)
theorem dJ5_removeNode_19 : decode cJ5_removeNode 19 = .ok (.aload 6, 2) := dk_25 6 (dk_at dksJ5_removeNode_0 19 rfl rfl)
theorem dJ5_removeNode_21 : decode cJ5_removeNode 21 = .ok (.iload 8, 2) := dk_21 8 (dk_at dksJ5_removeNode_0 21 rfl rfl)
theorem dJ5_removeNode_23 : decode cJ5_removeNode 23 = .ok (.iconst 1, 1) := dk_4 (dk_at dksJ5_removeNode_0 23 rfl rfl)
theorem dJ5_removeNode_24 : decode cJ5_removeNode 24 = .ok (.isub, 1) := dk_100 (dk_at dksJ5_removeNode_1 0 rfl rfl)
theorem dJ5_removeNode_25 : decode cJ5_removeNode 25 = .ok (.iload_n 1, 1) := dk_27 (dk_at dksJ5_removeNode_1 1 rfl rfl)
theorem dJ5_removeNode_26 : decode cJ5_removeNode 26 = .ok (.iand, 1) := dk_126 (dk_at dksJ5_removeNode_1 2 rfl rfl)
theorem dJ5_removeNode_27 : decode cJ5_removeNode 27 = .ok (.dup, 1) := dk_89 (dk_at dksJ5_removeNode_1 3 rfl rfl)
theorem dJ5_removeNode_28 : decode cJ5_removeNode 28 = .ok (.istore 9, 2) := dk_54 9 (dk_at dksJ5_removeNode_1 4 rfl rfl)
theorem dJ5_removeNode_30 : decode cJ5_removeNode 30 = .ok (.aaload, 1) := dk_50 (dk_at dksJ5_removeNode_1 6 rfl rfl)
theorem dJ5_removeNode_31 : decode cJ5_removeNode 31 = .ok (.dup, 1) := dk_89 (dk_at dksJ5_removeNode_1 7 rfl rfl)
theorem dJ5_removeNode_32 : decode cJ5_removeNode 32 = .ok (.astore 7, 2) := dk_58 7 (dk_at dksJ5_removeNode_1 8 rfl rfl)
theorem dJ5_removeNode_34 : decode cJ5_removeNode 34 = .ok (.ifnull 255, 3) := dk_198 0 255 (dk_at dksJ5_removeNode_1 10 rfl rfl)
theorem dJ5_removeNode_37 : decode cJ5_removeNode 37 = .ok (.aconst_null, 1) := dk_1 (dk_at dksJ5_removeNode_1 13 rfl rfl)
theorem dJ5_removeNode_38 : decode cJ5_removeNode 38 = .ok (.astore 10, 2) := dk_58 10 (dk_at dksJ5_removeNode_1 14 rfl rfl)
theorem dJ5_removeNode_40 : decode cJ5_removeNode 40 = .ok (.aload 7, 2) := dk_25 7 (dk_at dksJ5_removeNode_1 16 rfl rfl)
theorem dJ5_removeNode_42 : decode cJ5_removeNode 42 = .ok (.getfield 168, 3) := dk_180 0 168 (dk_at dksJ5_removeNode_1 18 rfl rfl)
theorem dJ5_removeNode_45 : decode cJ5_removeNode 45 = .ok (.iload_n 1, 1) := dk_27 (dk_at dksJ5_removeNode_1 21 rfl rfl)
theorem dJ5_removeNode_46 : decode cJ5_removeNode 46 = .ok (.if_icmp .ne 35, 3) := dk_160 0 35 (dk_at dksJ5_removeNode_2 0 rfl rfl)
theorem dJ5_removeNode_49 : decode cJ5_removeNode 49 = .ok (.aload 7, 2) := dk_25 7 (dk_at dksJ5_removeNode_2 3 rfl rfl)
theorem dJ5_removeNode_51 : decode cJ5_removeNode 51 = .ok (.getfield 170, 3) := dk_180 0 170 (dk_at dksJ5_removeNode_2 5 rfl rfl)
theorem dJ5_removeNode_54 : decode cJ5_removeNode 54 = .ok (.dup, 1) := dk_89 (dk_at dksJ5_removeNode_2 8 rfl rfl)
theorem dJ5_removeNode_55 : decode cJ5_removeNode 55 = .ok (.astore 12, 2) := dk_58 12 (dk_at dksJ5_removeNode_2 9 rfl rfl)
theorem dJ5_removeNode_57 : decode cJ5_removeNode 57 = .ok (.aload_n 2, 1) := dk_44 (dk_at dksJ5_removeNode_2 11 rfl rfl)
theorem dJ5_removeNode_58 : decode cJ5_removeNode 58 = .ok (.if_acmp .eq 16, 3) := dk_165 0 16 (dk_at dksJ5_removeNode_2 12 rfl rfl)
theorem dJ5_removeNode_61 : decode cJ5_removeNode 61 = .ok (.aload_n 2, 1) := dk_44 (dk_at dksJ5_removeNode_2 15 rfl rfl)
theorem dJ5_removeNode_62 : decode cJ5_removeNode 62 = .ok (.ifnull 19, 3) := dk_198 0 19 (dk_at dksJ5_removeNode_2 16 rfl rfl)
theorem dJ5_removeNode_65 : decode cJ5_removeNode 65 = .ok (.aload_n 2, 1) := dk_44 (dk_at dksJ5_removeNode_2 19 rfl rfl)
theorem dJ5_removeNode_66 : decode cJ5_removeNode 66 = .ok (.aload 12, 2) := dk_25 12 (dk_at dksJ5_removeNode_2 20 rfl rfl)
theorem dJ5_removeNode_68 : decode cJ5_removeNode 68 = .ok (.invokevirtual 173, 3) := dk_182 0 173 (dk_at dksJ5_removeNode_3 0 rfl rfl)
theorem dJ5_removeNode_71 : decode cJ5_removeNode 71 = .ok (.ifCond .eq 10, 3) := dk_153 0 10 (dk_at dksJ5_removeNode_3 3 rfl rfl)
theorem dJ5_removeNode_74 : decode cJ5_removeNode 74 = .ok (.aload 7, 2) := dk_25 7 (dk_at dksJ5_removeNode_3 6 rfl rfl)
theorem dJ5_removeNode_76 : decode cJ5_removeNode 76 = .ok (.astore 10, 2) := dk_58 10 (dk_at dksJ5_removeNode_3 8 rfl rfl)
theorem dJ5_removeNode_78 : decode cJ5_removeNode 78 = .ok (.goto 93, 3) := dk_167 0 93 (dk_at dksJ5_removeNode_3 10 rfl rfl)
theorem dJ5_removeNode_81 : decode cJ5_removeNode 81 = .ok (.aload 7, 2) := dk_25 7 (dk_at dksJ5_removeNode_3 13 rfl rfl)
theorem dJ5_removeNode_83 : decode cJ5_removeNode 83 = .ok (.getfield 177, 3) := dk_180 0 177 (dk_at dksJ5_removeNode_3 15 rfl rfl)
theorem dJ5_removeNode_86 : decode cJ5_removeNode 86 = .ok (.dup, 1) := dk_89 (dk_at dksJ5_removeNode_3 18 rfl rfl)
theorem dJ5_removeNode_87 : decode cJ5_removeNode 87 = .ok (.astore 11, 2) := dk_58 11 (dk_at dksJ5_removeNode_3 19 rfl rfl)
theorem dJ5_removeNode_89 : decode cJ5_removeNode 89 = .ok (.ifnull 82, 3) := dk_198 0 82 (dk_at dksJ5_removeNode_3 21 rfl rfl)
theorem dJ5_removeNode_92 : decode cJ5_removeNode 92 = .ok (.aload 7, 2) := dk_25 7 (dk_at dksJ5_removeNode_4 0 rfl rfl)
theorem dJ5_removeNode_94 : decode cJ5_removeNode 94 = .ok (.instanceof 180, 3) := dk_193 0 180 (dk_at dksJ5_removeNode_4 2 rfl rfl)
theorem dJ5_removeNode_97 : decode cJ5_removeNode 97 = .ok (.ifCond .eq 18, 3) := dk_153 0 18 (dk_at dksJ5_removeNode_4 5 rfl rfl)
theorem dJ5_removeNode_100 : decode cJ5_removeNode 100 = .ok (.aload 7, 2) := dk_25 7 (dk_at dksJ5_removeNode_4 8 rfl rfl)
theorem dJ5_removeNode_102 : decode cJ5_removeNode 102 = .ok (.checkcast 180, 3) := dk_192 0 180 (dk_at dksJ5_removeNode_4 10 rfl rfl)
theorem dJ5_removeNode_105 : decode cJ5_removeNode 105 = .ok (.iload_n 1, 1) := dk_27 (dk_at dksJ5_removeNode_4 13 rfl rfl)
theorem dJ5_removeNode_106 : decode cJ5_removeNode 106 = .ok (.aload_n 2, 1) := dk_44 (dk_at dksJ5_removeNode_4 14 rfl rfl)
theorem dJ5_removeNode_107 : decode cJ5_removeNode 107 = .ok (.invokevirtual 182, 3) := dk_182 0 182 (dk_at dksJ5_removeNode_4 15 rfl rfl)
theorem dJ5_removeNode_110 : decode cJ5_removeNode 110 = .ok (.astore 10, 2) := dk_58 10 (dk_at dksJ5_removeNode_4 18 rfl rfl)
theorem dJ5_removeNode_112 : decode cJ5_removeNode 112 = .ok (.goto 59, 3) := dk_167 0 59 (dk_at dksJ5_removeNode_4 20 rfl rfl)
theorem dJ5_removeNode_115 : decode cJ5_removeNode 115 = .ok (.aload 11, 2) := dk_25 11 (dk_at dksJ5_removeNode_5 0 rfl rfl)
theorem dJ5_removeNode_117 : decode cJ5_removeNode 117 = .ok (.getfield 168, 3) := dk_180 0 168 (dk_at dksJ5_removeNode_5 2 rfl rfl)
theorem dJ5_removeNode_120 : decode cJ5_removeNode 120 = .ok (.iload_n 1, 1) := dk_27 (dk_at dksJ5_removeNode_5 5 rfl rfl)
theorem dJ5_removeNode_121 : decode cJ5_removeNode 121 = .ok (.if_icmp .ne 35, 3) := dk_160 0 35 (dk_at dksJ5_removeNode_5 6 rfl rfl)
theorem dJ5_removeNode_124 : decode cJ5_removeNode 124 = .ok (.aload 11, 2) := dk_25 11 (dk_at dksJ5_removeNode_5 9 rfl rfl)
theorem dJ5_removeNode_126 : decode cJ5_removeNode 126 = .ok (.getfield 170, 3) := dk_180 0 170 (dk_at dksJ5_removeNode_5 11 rfl rfl)
theorem dJ5_removeNode_129 : decode cJ5_removeNode 129 = .ok (.dup, 1) := dk_89 (dk_at dksJ5_removeNode_5 14 rfl rfl)
theorem dJ5_removeNode_130 : decode cJ5_removeNode 130 = .ok (.astore 12, 2) := dk_58 12 (dk_at dksJ5_removeNode_5 15 rfl rfl)
theorem dJ5_removeNode_132 : decode cJ5_removeNode 132 = .ok (.aload_n 2, 1) := dk_44 (dk_at dksJ5_removeNode_5 17 rfl rfl)
theorem dJ5_removeNode_133 : decode cJ5_removeNode 133 = .ok (.if_acmp .eq 16, 3) := dk_165 0 16 (dk_at dksJ5_removeNode_5 18 rfl rfl)
theorem dJ5_removeNode_136 : decode cJ5_removeNode 136 = .ok (.aload_n 2, 1) := dk_44 (dk_at dksJ5_removeNode_5 21 rfl rfl)
theorem dJ5_removeNode_137 : decode cJ5_removeNode 137 = .ok (.ifnull 19, 3) := dk_198 0 19 (dk_at dksJ5_removeNode_6 0 rfl rfl)
theorem dJ5_removeNode_140 : decode cJ5_removeNode 140 = .ok (.aload_n 2, 1) := dk_44 (dk_at dksJ5_removeNode_6 3 rfl rfl)
theorem dJ5_removeNode_141 : decode cJ5_removeNode 141 = .ok (.aload 12, 2) := dk_25 12 (dk_at dksJ5_removeNode_6 4 rfl rfl)
theorem dJ5_removeNode_143 : decode cJ5_removeNode 143 = .ok (.invokevirtual 173, 3) := dk_182 0 173 (dk_at dksJ5_removeNode_6 6 rfl rfl)
theorem dJ5_removeNode_146 : decode cJ5_removeNode 146 = .ok (.ifCond .eq 10, 3) := dk_153 0 10 (dk_at dksJ5_removeNode_6 9 rfl rfl)
theorem dJ5_removeNode_149 : decode cJ5_removeNode 149 = .ok (.aload 11, 2) := dk_25 11 (dk_at dksJ5_removeNode_6 12 rfl rfl)
theorem dJ5_removeNode_151 : decode cJ5_removeNode 151 = .ok (.astore 10, 2) := dk_58 10 (dk_at dksJ5_removeNode_6 14 rfl rfl)
theorem dJ5_removeNode_153 : decode cJ5_removeNode 153 = .ok (.goto 18, 3) := dk_167 0 18 (dk_at dksJ5_removeNode_6 16 rfl rfl)
theorem dJ5_removeNode_156 : decode cJ5_removeNode 156 = .ok (.aload 11, 2) := dk_25 11 (dk_at dksJ5_removeNode_6 19 rfl rfl)
theorem dJ5_removeNode_158 : decode cJ5_removeNode 158 = .ok (.astore 7, 2) := dk_58 7 (dk_at dksJ5_removeNode_6 21 rfl rfl)
theorem dJ5_removeNode_160 : decode cJ5_removeNode 160 = .ok (.aload 11, 2) := dk_25 11 (dk_at dksJ5_removeNode_7 0 rfl rfl)
theorem dJ5_removeNode_162 : decode cJ5_removeNode 162 = .ok (.getfield 177, 3) := dk_180 0 177 (dk_at dksJ5_removeNode_7 2 rfl rfl)
theorem dJ5_removeNode_165 : decode cJ5_removeNode 165 = .ok (.dup, 1) := dk_89 (dk_at dksJ5_removeNode_7 5 rfl rfl)
theorem dJ5_removeNode_166 : decode cJ5_removeNode 166 = .ok (.astore 11, 2) := dk_58 11 (dk_at dksJ5_removeNode_7 6 rfl rfl)
theorem dJ5_removeNode_168 : decode cJ5_removeNode 168 = .ok (.ifnonnull (-53), 3) := dk_199 255 203 (dk_at dksJ5_removeNode_7 8 rfl rfl)
theorem dJ5_removeNode_171 : decode cJ5_removeNode 171 = .ok (.aload 10, 2) := dk_25 10 (dk_at dksJ5_removeNode_7 11 rfl rfl)
theorem dJ5_removeNode_173 : decode cJ5_removeNode 173 = .ok (.ifnull 116, 3) := dk_198 0 116 (dk_at dksJ5_removeNode_7 13 rfl rfl)
theorem dJ5_removeNode_176 : decode cJ5_removeNode 176 = .ok (.iload 4, 2) := dk_21 4 (dk_at dksJ5_removeNode_7 16 rfl rfl)
theorem dJ5_removeNode_178 : decode cJ5_removeNode 178 = .ok (.ifCond .eq 28, 3) := dk_153 0 28 (dk_at dksJ5_removeNode_7 18 rfl rfl)
theorem dJ5_removeNode_181 : decode cJ5_removeNode 181 = .ok (.aload 10, 2) := dk_25 10 (dk_at dksJ5_removeNode_7 21 rfl rfl)
theorem dJ5_removeNode_183 : decode cJ5_removeNode 183 = .ok (.getfield 162, 3) := dk_180 0 162 (dk_at dksJ5_removeNode_8 0 rfl rfl)
theorem dJ5_removeNode_186 : decode cJ5_removeNode 186 = .ok (.dup, 1) := dk_89 (dk_at dksJ5_removeNode_8 3 rfl rfl)
theorem dJ5_removeNode_187 : decode cJ5_removeNode 187 = .ok (.astore 13, 2) := dk_58 13 (dk_at dksJ5_removeNode_8 4 rfl rfl)
theorem dJ5_removeNode_189 : decode cJ5_removeNode 189 = .ok (.aload_n 3, 1) := dk_45 (dk_at dksJ5_removeNode_8 6 rfl rfl)
theorem dJ5_removeNode_190 : decode cJ5_removeNode 190 = .ok (.if_acmp .eq 16, 3) := dk_165 0 16 (dk_at dksJ5_removeNode_8 7 rfl rfl)
theorem dJ5_removeNode_193 : decode cJ5_removeNode 193 = .ok (.aload_n 3, 1) := dk_45 (dk_at dksJ5_removeNode_8 10 rfl rfl)
theorem dJ5_removeNode_194 : decode cJ5_removeNode 194 = .ok (.ifnull 95, 3) := dk_198 0 95 (dk_at dksJ5_removeNode_8 11 rfl rfl)
theorem dJ5_removeNode_197 : decode cJ5_removeNode 197 = .ok (.aload_n 3, 1) := dk_45 (dk_at dksJ5_removeNode_8 14 rfl rfl)
theorem dJ5_removeNode_198 : decode cJ5_removeNode 198 = .ok (.aload 13, 2) := dk_25 13 (dk_at dksJ5_removeNode_8 15 rfl rfl)
theorem dJ5_removeNode_200 : decode cJ5_removeNode 200 = .ok (.invokevirtual 173, 3) := dk_182 0 173 (dk_at dksJ5_removeNode_8 17 rfl rfl)
theorem dJ5_removeNode_203 : decode cJ5_removeNode 203 = .ok (.ifCond .eq 86, 3) := dk_153 0 86 (dk_at dksJ5_removeNode_8 20 rfl rfl)
theorem dJ5_removeNode_206 : decode cJ5_removeNode 206 = .ok (.aload 10, 2) := dk_25 10 (dk_at dksJ5_removeNode_9 0 rfl rfl)
theorem dJ5_removeNode_208 : decode cJ5_removeNode 208 = .ok (.instanceof 180, 3) := dk_193 0 180 (dk_at dksJ5_removeNode_9 2 rfl rfl)
theorem dJ5_removeNode_211 : decode cJ5_removeNode 211 = .ok (.ifCond .eq 19, 3) := dk_153 0 19 (dk_at dksJ5_removeNode_9 5 rfl rfl)
theorem dJ5_removeNode_214 : decode cJ5_removeNode 214 = .ok (.aload 10, 2) := dk_25 10 (dk_at dksJ5_removeNode_9 8 rfl rfl)
theorem dJ5_removeNode_216 : decode cJ5_removeNode 216 = .ok (.checkcast 180, 3) := dk_192 0 180 (dk_at dksJ5_removeNode_9 10 rfl rfl)
theorem dJ5_removeNode_219 : decode cJ5_removeNode 219 = .ok (.aload_n 0, 1) := dk_42 (dk_at dksJ5_removeNode_9 13 rfl rfl)
theorem dJ5_removeNode_220 : decode cJ5_removeNode 220 = .ok (.aload 6, 2) := dk_25 6 (dk_at dksJ5_removeNode_9 14 rfl rfl)
theorem dJ5_removeNode_222 : decode cJ5_removeNode 222 = .ok (.iload 5, 2) := dk_21 5 (dk_at dksJ5_removeNode_9 16 rfl rfl)
theorem dJ5_removeNode_224 : decode cJ5_removeNode 224 = .ok (.invokevirtual 232, 3) := dk_182 0 232 (dk_at dksJ5_removeNode_9 18 rfl rfl)
theorem dJ5_removeNode_227 : decode cJ5_removeNode 227 = .ok (.goto 33, 3) := dk_167 0 33 (dk_at dksJ5_removeNode_9 21 rfl rfl)
theorem dJ5_removeNode_230 : decode cJ5_removeNode 230 = .ok (.aload 10, 2) := dk_25 10 (dk_at dksJ5_removeNode_10 0 rfl rfl)
theorem dJ5_removeNode_232 : decode cJ5_removeNode 232 = .ok (.aload 7, 2) := dk_25 7 (dk_at dksJ5_removeNode_10 2 rfl rfl)
theorem dJ5_removeNode_234 : decode cJ5_removeNode 234 = .ok (.if_acmp .ne 16, 3) := dk_166 0 16 (dk_at dksJ5_removeNode_10 4 rfl rfl)
theorem dJ5_removeNode_237 : decode cJ5_removeNode 237 = .ok (.aload 6, 2) := dk_25 6 (dk_at dksJ5_removeNode_10 7 rfl rfl)
theorem dJ5_removeNode_239 : decode cJ5_removeNode 239 = .ok (.iload 9, 2) := dk_21 9 (dk_at dksJ5_removeNode_10 9 rfl rfl)
theorem dJ5_removeNode_241 : decode cJ5_removeNode 241 = .ok (.aload 10, 2) := dk_25 10 (dk_at dksJ5_removeNode_10 11 rfl rfl)
theorem dJ5_removeNode_243 : decode cJ5_removeNode 243 = .ok (.getfield 177, 3) := dk_180 0 177 (dk_at dksJ5_removeNode_10 13 rfl rfl)
theorem dJ5_removeNode_246 : decode cJ5_removeNode 246 = .ok (.aastore, 1) := dk_83 (dk_at dksJ5_removeNode_10 16 rfl rfl)
theorem dJ5_removeNode_247 : decode cJ5_removeNode 247 = .ok (.goto 13, 3) := dk_167 0 13 (dk_at dksJ5_removeNode_10 17 rfl rfl)
theorem dJ5_removeNode_250 : decode cJ5_removeNode 250 = .ok (.aload 7, 2) := dk_25 7 (dk_at dksJ5_removeNode_10 20 rfl rfl)
theorem dJ5_removeNode_252 : decode cJ5_removeNode 252 = .ok (.aload 10, 2) := dk_25 10 (dk_at dksJ5_removeNode_10 22 rfl rfl)
theorem dJ5_removeNode_254 : decode cJ5_removeNode 254 = .ok (.getfield 177, 3) := dk_180 0 177 (dk_at dksJ5_removeNode_11 0 rfl rfl)
theorem dJ5_removeNode_257 : decode cJ5_removeNode 257 = .ok (.putfield 177, 3) := dk_181 0 177 (dk_at dksJ5_removeNode_11 3 rfl rfl)
theorem dJ5_removeNode_260 : decode cJ5_removeNode 260 = .ok (.aload_n 0, 1) := dk_42 (dk_at dksJ5_removeNode_11 6 rfl rfl)
theorem dJ5_removeNode_261 : decode cJ5_removeNode 261 = .ok (.dup, 1) := dk_89 (dk_at dksJ5_removeNode_11 7 rfl rfl)
theorem dJ5_removeNode_262 : decode cJ5_removeNode 262 = .ok (.getfield 202, 3) := dk_180 0 202 (dk_at dksJ5_removeNode_11 8 rfl rfl)
theorem dJ5_removeNode_265 : decode cJ5_removeNode 265 = .ok (.iconst 1, 1) := dk_4 (dk_at dksJ5_removeNode_11 11 rfl rfl)
theorem dJ5_removeNode_266 : decode cJ5_removeNode 266 = .ok (.iadd, 1) := dk_96 (dk_at dksJ5_removeNode_11 12 rfl rfl)
theorem dJ5_removeNode_267 : decode cJ5_removeNode 267 = .ok (.putfield 202, 3) := dk_181 0 202 (dk_at dksJ5_removeNode_11 13 rfl rfl)
theorem dJ5_removeNode_270 : decode cJ5_removeNode 270 = .ok (.aload_n 0, 1) := dk_42 (dk_at dksJ5_removeNode_11 16 rfl rfl)
theorem dJ5_removeNode_271 : decode cJ5_removeNode 271 = .ok (.dup, 1) := dk_89 (dk_at dksJ5_removeNode_11 17 rfl rfl)
theorem dJ5_removeNode_272 : decode cJ5_removeNode 272 = .ok (.getfield 156, 3) := dk_180 0 156 (dk_at dksJ5_removeNode_11 18 rfl rfl)
theorem dJ5_removeNode_275 : decode cJ5_removeNode 275 = .ok (.iconst 1, 1) := dk_4 (dk_at dksJ5_removeNode_11 21 rfl rfl)
theorem dJ5_removeNode_276 : decode cJ5_removeNode 276 = .ok (.isub, 1) := dk_100 (dk_at dksJ5_removeNode_11 22 rfl rfl)
theorem dJ5_removeNode_277 : decode cJ5_removeNode 277 = .ok (.putfield 156, 3) := dk_181 0 156 (dk_at dksJ5_removeNode_12 0 rfl rfl)
theorem dJ5_removeNode_280 : decode cJ5_removeNode 280 = .ok (.aload_n 0, 1) := dk_42 (dk_at dksJ5_removeNode_12 3 rfl rfl)
theorem dJ5_removeNode_281 : decode cJ5_removeNode 281 = .ok (.aload 10, 2) := dk_25 10 (dk_at dksJ5_removeNode_12 4 rfl rfl)
theorem dJ5_removeNode_283 : decode cJ5_removeNode 283 = .ok (.invokevirtual 236, 3) := dk_182 0 236 (dk_at dksJ5_removeNode_12 6 rfl rfl)
theorem dJ5_removeNode_286 : decode cJ5_removeNode 286 = .ok (.aload 10, 2) := dk_25 10 (dk_at dksJ5_removeNode_12 9 rfl rfl)
theorem dJ5_removeNode_288 : decode cJ5_removeNode 288 = .ok (.areturn, 1) := dk_176 (dk_at dksJ5_removeNode_12 11 rfl rfl)
theorem dJ5_removeNode_289 : decode cJ5_removeNode 289 = .ok (.aconst_null, 1) := dk_1 (dk_at dksJ5_removeNode_12 12 rfl rfl)
theorem dJ5_removeNode_290 : decode cJ5_removeNode 290 = .ok (.areturn, 1) := dk_176 (dk_at dksJ5_removeNode_12 13 rfl rfl)
abbrev cJ5_size : ByteArray := prog_63_method_10_code
def yJ5_size : MethodName := ⟨RJ5, "size", "()I"⟩
theorem dJ5_size_0 : decode cJ5_size 0 = .ok (.aload_n 0, 1) := by decide +kernel
theorem dJ5_size_1 : decode cJ5_size 1 = .ok (.getfield 156, 3) := by decide +kernel
theorem dJ5_size_4 : decode cJ5_size 4 = .ok (.ireturn, 1) := by decide +kernel
theorem q101 : (Jvm.Cond.initialized "java/util/HashMap") ∈ lw_all := lw_g (lw_at lw_m1 8 rfl) rfl
theorem q200 : (Jvm.Cond.instanceMethod ({ cls := "java/util/HashMap", name := "<init>", desc := "(IF)V" } : Jvm.MethodName)) ∈ lw_all := lw_g (lw_at lw_m1 107 rfl) rfl
theorem q201 : (Jvm.Cond.code ({ cls := "java/util/HashMap", name := "<init>", desc := "(IF)V" } : Jvm.MethodName) prog_63_method_5_code (3 : Nat) (Option.none : Option Jvm.ClassFile.FieldType)) ∈ lw_all := lw_g (lw_at lw_m1 108 rfl) rfl
theorem q202 : (Jvm.Cond.methodLink "java/util/HashMap" (43 : Nat) ({ cls := "java/util/AbstractMap", name := "<init>", desc := "()V" } : Jvm.MethodName)) ∈ lw_all := lw_g (lw_at lw_m1 109 rfl) rfl
theorem q206 : (Jvm.Cond.classLink "java/util/HashMap" (49 : Nat) "java/lang/IllegalArgumentException") ∈ lw_all := lw_g (lw_at lw_m1 113 rfl) rfl
theorem q253 : (Jvm.Cond.classLink "java/util/HashMap" (51 : Nat) "java/lang/StringBuilder") ∈ lw_all := lw_g (lw_at lw_m1 160 rfl) rfl
theorem q255 : (Jvm.Cond.methodLink "java/util/HashMap" (53 : Nat) ({ cls := "java/lang/StringBuilder", name := "<init>", desc := "()V" } : Jvm.MethodName)) ∈ lw_all := lw_g (lw_at lw_m1 162 rfl) rfl
theorem q286 : (Jvm.Cond.stringRef "java/util/HashMap" (54 : Nat) "Illegal initial capacity: ") ∈ lw_tbl := lw_at lw_m1 193 rfl
theorem q287 : (Jvm.Cond.methodLink "java/util/HashMap" (56 : Nat) ({ cls := "java/lang/StringBuilder", name := "append", desc := "(Ljava/lang/String;)Ljava/lang/StringBuilder;" } : Jvm.MethodName)) ∈ lw_all := lw_g (lw_at lw_m1 194 rfl) rfl
theorem q407 : (Jvm.Cond.methodLink "java/util/HashMap" (60 : Nat) ({ cls := "java/lang/StringBuilder", name := "append", desc := "(I)Ljava/lang/StringBuilder;" } : Jvm.MethodName)) ∈ lw_all := lw_g (lw_at lw_m2 74 rfl) rfl
theorem q432 : (Jvm.Cond.methodLink "java/util/HashMap" (63 : Nat) ({ cls := "java/lang/StringBuilder", name := "toString", desc := "()Ljava/lang/String;" } : Jvm.MethodName)) ∈ lw_all := lw_g (lw_at lw_m2 99 rfl) rfl
theorem q526 : (Jvm.Cond.methodLink "java/util/HashMap" (67 : Nat) ({ cls := "java/lang/IllegalArgumentException", name := "<init>", desc := "(Ljava/lang/String;)V" } : Jvm.MethodName)) ∈ lw_all := lw_g (lw_at lw_m2 193 rfl) rfl
theorem q527 : (Jvm.Cond.constant "java/util/HashMap" (42 : Nat) (1073741824 : Int32)) ∈ lw_all := lw_g (lw_at lw_m2 194 rfl) rfl
theorem q528 : (Jvm.Cond.methodLink "java/util/HashMap" (70 : Nat) ({ cls := "java/lang/Float", name := "isNaN", desc := "(F)Z" } : Jvm.MethodName)) ∈ lw_all := lw_g (lw_at lw_m2 195 rfl) rfl
theorem q531 : (Jvm.Cond.stringRef "java/util/HashMap" (76 : Nat) "Illegal load factor: ") ∈ lw_tbl := lw_at lw_m2 198 rfl
theorem q532 : (Jvm.Cond.methodLink "java/util/HashMap" (78 : Nat) ({ cls := "java/lang/StringBuilder", name := "append", desc := "(F)Ljava/lang/StringBuilder;" } : Jvm.MethodName)) ∈ lw_all := lw_g (lw_at lw_m2 199 rfl) rfl
theorem q1034 : (Jvm.Cond.methodLink "java/util/HashMap" (85 : Nat) ({ cls := "java/util/HashMap", name := "tableSizeFor", desc := "(I)I" } : Jvm.MethodName)) ∈ lw_all := lw_g (lw_at lw_m4 221 rfl) rfl
theorem q1035 : (Jvm.Cond.static ({ cls := "java/util/HashMap", name := "tableSizeFor", desc := "(I)I" } : Jvm.MethodName)) ∈ lw_all := lw_g (lw_at lw_m4 222 rfl) rfl
theorem q1036 : (Jvm.Cond.code ({ cls := "java/util/HashMap", name := "tableSizeFor", desc := "(I)I" } : Jvm.MethodName) prog_63_method_4_code (2 : Nat) (Option.some Jvm.ClassFile.FieldType.int)) ∈ lw_all := lw_g (lw_at lw_m4 223 rfl) rfl
theorem q1037 : (Jvm.Cond.methodLink "java/util/HashMap" (34 : Nat) ({ cls := "java/lang/Integer", name := "numberOfLeadingZeros", desc := "(I)I" } : Jvm.MethodName)) ∈ lw_all := lw_g (lw_at lw_m4 224 rfl) rfl
theorem q1045 : (Jvm.Cond.fieldLink "java/util/HashMap" (105 : Nat) "java/util/HashMap" "table" "[Ljava/util/HashMap$Node;") ∈ lw_all := lw_g (lw_at lw_m4 232 rfl) rfl
theorem q1047 : (Jvm.Cond.fieldLink "java/util/HashMap" (156 : Nat) "java/util/HashMap" "size" "I") ∈ lw_all := lw_g (lw_at lw_m4 234 rfl) rfl
theorem q1052 : (Jvm.Cond.fieldLink "java/util/HashMap" (202 : Nat) "java/util/HashMap" "modCount" "I") ∈ lw_all := lw_g (lw_at lw_m4 239 rfl) rfl
theorem q1053 : (Jvm.Cond.fieldLink "java/util/HashMap" (88 : Nat) "java/util/HashMap" "threshold" "I") ∈ lw_all := lw_g (lw_at lw_m5 0 rfl) rfl
theorem q1054 : (Jvm.Cond.fieldLink "java/util/HashMap" (81 : Nat) "java/util/HashMap" "loadFactor" "F") ∈ lw_all := lw_g (lw_at lw_m5 1 rfl) rfl
theorem q1055 : (Jvm.Cond.fieldLink "java/util/HashMap" (239 : Nat) "java/util/HashMap" "keySet" "Ljava/util/Set;") ∈ lw_all := lw_g (lw_at lw_m5 2 rfl) rfl
theorem q1056 : (Jvm.Cond.sameField "java/util/HashMap" "java/util/AbstractMap" "keySet" "Ljava/util/Set;") ∈ lw_all := lw_g (lw_at lw_m5 3 rfl) rfl
theorem q1068 : (Jvm.Cond.soleField "java/util/HashMap" "table") ∈ lw_all := lw_g (lw_at lw_m5 15 rfl) rfl
theorem q1070 : (Jvm.Cond.soleField "java/util/HashMap" "entrySet") ∈ lw_all := lw_g (lw_at lw_m5 17 rfl) rfl
theorem q1072 : (Jvm.Cond.soleField "java/util/HashMap" "size") ∈ lw_all := lw_g (lw_at lw_m5 19 rfl) rfl
theorem q1074 : (Jvm.Cond.soleField "java/util/HashMap" "modCount") ∈ lw_all := lw_g (lw_at lw_m5 21 rfl) rfl
theorem q1076 : (Jvm.Cond.soleField "java/util/HashMap" "threshold") ∈ lw_all := lw_g (lw_at lw_m5 23 rfl) rfl
theorem q1078 : (Jvm.Cond.soleField "java/util/HashMap" "loadFactor") ∈ lw_all := lw_g (lw_at lw_m5 25 rfl) rfl
theorem q1395 : (Jvm.Cond.instanceMethod ({ cls := "java/util/HashMap", name := "keySet", desc := "()Ljava/util/Set;" } : Jvm.MethodName)) ∈ lw_all := lw_g (lw_at lw_m6 102 rfl) rfl
theorem q1396 : (Jvm.Cond.sameMethod "java/util/HashMap" "java/util/HashMap" "keySet" "()Ljava/util/Set;") ∈ lw_all := lw_g (lw_at lw_m6 103 rfl) rfl
theorem q1418 : (Jvm.Cond.declares ({ cls := "java/util/HashMap", name := "keySet", desc := "()Ljava/util/Set;" } : Jvm.MethodName)) ∈ lw_tbl := lw_at lw_m6 125 rfl
theorem q1639 : (Jvm.Cond.instanceMethod ({ cls := "java/util/HashMap", name := "put", desc := "(Ljava/lang/Object;Ljava/lang/Object;)Ljava/lang/Object;" } : Jvm.MethodName)) ∈ lw_all := lw_g (lw_at lw_m7 106 rfl) rfl
theorem q1640 : (Jvm.Cond.sameMethod "java/util/HashMap" "java/util/HashMap" "put" "(Ljava/lang/Object;Ljava/lang/Object;)Ljava/lang/Object;") ∈ lw_all := lw_g (lw_at lw_m7 107 rfl) rfl
theorem q1642 : (Jvm.Cond.code ({ cls := "java/util/HashMap", name := "put", desc := "(Ljava/lang/Object;Ljava/lang/Object;)Ljava/lang/Object;" } : Jvm.MethodName) prog_63_method_15_code (3 : Nat) (Option.some (Jvm.ClassFile.FieldType.object "java/lang/Object"))) ∈ lw_all := lw_g (lw_at lw_m7 109 rfl) rfl
theorem q1643 : (Jvm.Cond.methodLink "java/util/HashMap" (149 : Nat) ({ cls := "java/util/HashMap", name := "hash", desc := "(Ljava/lang/Object;)I" } : Jvm.MethodName)) ∈ lw_all := lw_g (lw_at lw_m7 110 rfl) rfl
theorem q1644 : (Jvm.Cond.static ({ cls := "java/util/HashMap", name := "hash", desc := "(Ljava/lang/Object;)I" } : Jvm.MethodName)) ∈ lw_all := lw_g (lw_at lw_m7 111 rfl) rfl
theorem q1645 : (Jvm.Cond.code ({ cls := "java/util/HashMap", name := "hash", desc := "(Ljava/lang/Object;)I" } : Jvm.MethodName) prog_63_method_1_code (2 : Nat) (Option.some Jvm.ClassFile.FieldType.int)) ∈ lw_all := lw_g (lw_at lw_m7 112 rfl) rfl
theorem q1647 : (Jvm.Cond.methodLink "java/util/HashMap" (1 : Nat) ({ cls := "java/lang/Object", name := "hashCode", desc := "()I" } : Jvm.MethodName)) ∈ lw_all := lw_g (lw_at lw_m7 114 rfl) rfl
theorem q1742 : (Jvm.Cond.methodLink "java/util/HashMap" (152 : Nat) ({ cls := "java/util/HashMap", name := "putVal", desc := "(ILjava/lang/Object;Ljava/lang/Object;ZZ)Ljava/lang/Object;" } : Jvm.MethodName)) ∈ lw_all := lw_g (lw_at lw_m7 209 rfl) rfl
theorem q1743 : (Jvm.Cond.instanceMethod ({ cls := "java/util/HashMap", name := "putVal", desc := "(ILjava/lang/Object;Ljava/lang/Object;ZZ)Ljava/lang/Object;" } : Jvm.MethodName)) ∈ lw_all := lw_g (lw_at lw_m7 210 rfl) rfl
theorem q1744 : (Jvm.Cond.sameMethod "java/util/HashMap" "java/util/HashMap" "putVal" "(ILjava/lang/Object;Ljava/lang/Object;ZZ)Ljava/lang/Object;") ∈ lw_all := lw_g (lw_at lw_m7 211 rfl) rfl
theorem q1746 : (Jvm.Cond.code ({ cls := "java/util/HashMap", name := "putVal", desc := "(ILjava/lang/Object;Ljava/lang/Object;ZZ)Ljava/lang/Object;" } : Jvm.MethodName) prog_63_method_16_code (13 : Nat) (Option.some (Jvm.ClassFile.FieldType.object "java/lang/Object"))) ∈ lw_all := lw_g (lw_at lw_m7 213 rfl) rfl
theorem q1747 : (Jvm.Cond.methodLink "java/util/HashMap" (117 : Nat) ({ cls := "java/util/HashMap", name := "resize", desc := "()[Ljava/util/HashMap$Node;" } : Jvm.MethodName)) ∈ lw_all := lw_g (lw_at lw_m7 214 rfl) rfl
theorem q1748 : (Jvm.Cond.instanceMethod ({ cls := "java/util/HashMap", name := "resize", desc := "()[Ljava/util/HashMap$Node;" } : Jvm.MethodName)) ∈ lw_all := lw_g (lw_at lw_m7 215 rfl) rfl
theorem q1749 : (Jvm.Cond.sameMethod "java/util/HashMap" "java/util/HashMap" "resize" "()[Ljava/util/HashMap$Node;") ∈ lw_all := lw_g (lw_at lw_m7 216 rfl) rfl
theorem q1751 : (Jvm.Cond.code ({ cls := "java/util/HashMap", name := "resize", desc := "()[Ljava/util/HashMap$Node;" } : Jvm.MethodName) prog_63_method_17_code (14 : Nat) (Option.some (Jvm.ClassFile.FieldType.array (Jvm.ClassFile.FieldType.object "java/util/HashMap$Node")))) ∈ lw_all := lw_g (lw_at lw_m7 218 rfl) rfl
theorem q1752 : (Jvm.Cond.constant "java/util/HashMap" (209 : Nat) (2147483647 : Int32)) ∈ lw_all := lw_g (lw_at lw_m7 219 rfl) rfl
theorem q1753 : (Jvm.Cond.constantFloat "java/util/HashMap" (210 : Nat) (1317011456 : UInt32)) ∈ lw_all := lw_g (lw_at lw_m7 220 rfl) rfl
theorem q1754 : (Jvm.Cond.classLink "java/util/HashMap" (163 : Nat) "java/util/HashMap$Node") ∈ lw_all := lw_g (lw_at lw_m7 221 rfl) rfl
theorem q1756 : (Jvm.Cond.classLink "java/util/HashMap" (180 : Nat) "java/util/HashMap$TreeNode") ∈ lw_all := lw_g (lw_at lw_m7 223 rfl) rfl
theorem q1757 : (Jvm.Cond.methodLink "java/util/HashMap" (211 : Nat) ({ cls := "java/util/HashMap$TreeNode", name := "split", desc := "(Ljava/util/HashMap;[Ljava/util/HashMap$Node;II)V" } : Jvm.MethodName)) ∈ lw_all := lw_g (lw_at lw_m7 224 rfl) rfl
theorem q1767 : (Jvm.Cond.instanceMethod ({ cls := "java/util/HashMap", name := "replacementNode", desc := "(Ljava/util/HashMap$Node;Ljava/util/HashMap$Node;)Ljava/util/HashMap$Node;" } : Jvm.MethodName)) ∈ lw_all := lw_g (lw_at lw_m7 234 rfl) rfl
theorem q1768 : (Jvm.Cond.sameMethod "java/util/HashMap" "java/util/HashMap" "replacementNode" "(Ljava/util/HashMap$Node;Ljava/util/HashMap$Node;)Ljava/util/HashMap$Node;") ∈ lw_all := lw_g (lw_at lw_m7 235 rfl) rfl
theorem q1790 : (Jvm.Cond.fieldLink "java/util/HashMap" (168 : Nat) "java/util/HashMap$Node" "hash" "I") ∈ lw_all := lw_g (lw_at lw_m8 17 rfl) rfl
theorem q1797 : (Jvm.Cond.fieldLink "java/util/HashMap" (170 : Nat) "java/util/HashMap$Node" "key" "Ljava/lang/Object;") ∈ lw_all := lw_g (lw_at lw_m8 24 rfl) rfl
theorem q1801 : (Jvm.Cond.fieldLink "java/util/HashMap" (162 : Nat) "java/util/HashMap$Node" "value" "Ljava/lang/Object;") ∈ lw_all := lw_g (lw_at lw_m8 28 rfl) rfl
theorem q1807 : (Jvm.Cond.fieldLink "java/util/HashMap" (177 : Nat) "java/util/HashMap$Node" "next" "Ljava/util/HashMap$Node;") ∈ lw_all := lw_g (lw_at lw_m8 34 rfl) rfl
theorem q1808 : (Jvm.Cond.fieldLink "java/util/HashMap" (223 : Nat) "java/util/HashMap$TreeNode" "next" "Ljava/util/HashMap$Node;") ∈ lw_all := lw_g (lw_at lw_m8 35 rfl) rfl
theorem q1826 : (Jvm.Cond.declares ({ cls := "java/util/HashMap", name := "replacementNode", desc := "(Ljava/util/HashMap$Node;Ljava/util/HashMap$Node;)Ljava/util/HashMap$Node;" } : Jvm.MethodName)) ∈ lw_tbl := lw_at lw_m8 53 rfl
theorem q1832 : (Jvm.Cond.static ({ cls := "java/util/HashMap", name := "comparableClassFor", desc := "(Ljava/lang/Object;)Ljava/lang/Class;" } : Jvm.MethodName)) ∈ lw_all := lw_g (lw_at lw_m8 59 rfl) rfl
theorem q1833 : (Jvm.Cond.code ({ cls := "java/util/HashMap", name := "comparableClassFor", desc := "(Ljava/lang/Object;)Ljava/lang/Class;" } : Jvm.MethodName) prog_63_method_2_code (9 : Nat) (Option.some (Jvm.ClassFile.FieldType.object "java/lang/Class"))) ∈ lw_all := lw_g (lw_at lw_m8 60 rfl) rfl
theorem q1834 : (Jvm.Cond.classLink "java/util/HashMap" (7 : Nat) "java/lang/Comparable") ∈ lw_all := lw_g (lw_at lw_m8 61 rfl) rfl
theorem q1835 : (Jvm.Cond.methodLink "java/util/HashMap" (9 : Nat) ({ cls := "java/lang/Object", name := "getClass", desc := "()Ljava/lang/Class;" } : Jvm.MethodName)) ∈ lw_all := lw_g (lw_at lw_m8 62 rfl) rfl
theorem q1836 : (Jvm.Cond.classLink "java/util/HashMap" (13 : Nat) "java/lang/String") ∈ lw_all := lw_g (lw_at lw_m8 63 rfl) rfl
theorem q1838 : (Jvm.Cond.static ({ cls := "java/util/HashMap", name := "compareComparables", desc := "(Ljava/lang/Class;Ljava/lang/Object;Ljava/lang/Object;)I" } : Jvm.MethodName)) ∈ lw_all := lw_g (lw_at lw_m8 65 rfl) rfl
theorem q1839 : (Jvm.Cond.code ({ cls := "java/util/HashMap", name := "compareComparables", desc := "(Ljava/lang/Class;Ljava/lang/Object;Ljava/lang/Object;)I" } : Jvm.MethodName) prog_63_method_3_code (3 : Nat) (Option.some Jvm.ClassFile.FieldType.int)) ∈ lw_all := lw_g (lw_at lw_m8 66 rfl) rfl
theorem q1840 : (Jvm.Cond.interfaceEntry "java/util/HashMap" (30 : Nat)) ∈ lw_tbl := lw_at lw_m8 67 rfl
theorem q1841 : (Jvm.Cond.methodLink "java/util/HashMap" (30 : Nat) ({ cls := "java/lang/Comparable", name := "compareTo", desc := "(Ljava/lang/Object;)I" } : Jvm.MethodName)) ∈ lw_all := lw_g (lw_at lw_m8 68 rfl) rfl
theorem q2046 : (Jvm.Cond.methodLink "java/util/HashMap" (186 : Nat) ({ cls := "java/util/HashMap", name := "newNode", desc := "(ILjava/lang/Object;Ljava/lang/Object;Ljava/util/HashMap$Node;)Ljava/util/HashMap$Node;" } : Jvm.MethodName)) ∈ lw_all := lw_g (lw_at lw_m9 33 rfl) rfl
theorem q2047 : (Jvm.Cond.instanceMethod ({ cls := "java/util/HashMap", name := "newNode", desc := "(ILjava/lang/Object;Ljava/lang/Object;Ljava/util/HashMap$Node;)Ljava/util/HashMap$Node;" } : Jvm.MethodName)) ∈ lw_all := lw_g (lw_at lw_m9 34 rfl) rfl
theorem q2048 : (Jvm.Cond.sameMethod "java/util/HashMap" "java/util/HashMap" "newNode" "(ILjava/lang/Object;Ljava/lang/Object;Ljava/util/HashMap$Node;)Ljava/util/HashMap$Node;") ∈ lw_all := lw_g (lw_at lw_m9 35 rfl) rfl
theorem q2056 : (Jvm.Cond.declares ({ cls := "java/util/HashMap", name := "newNode", desc := "(ILjava/lang/Object;Ljava/lang/Object;Ljava/util/HashMap$Node;)Ljava/util/HashMap$Node;" } : Jvm.MethodName)) ∈ lw_tbl := lw_at lw_m9 43 rfl
theorem q2058 : (Jvm.Cond.methodLink "java/util/HashMap" (173 : Nat) ({ cls := "java/lang/Object", name := "equals", desc := "(Ljava/lang/Object;)Z" } : Jvm.MethodName)) ∈ lw_all := lw_g (lw_at lw_m9 45 rfl) rfl
theorem q2105 : (Jvm.Cond.methodLink "java/util/HashMap" (190 : Nat) ({ cls := "java/util/HashMap$TreeNode", name := "putTreeVal", desc := "(Ljava/util/HashMap;[Ljava/util/HashMap$Node;ILjava/lang/Object;Ljava/lang/Object;)Ljava/util/HashMap$TreeNode;" } : Jvm.MethodName)) ∈ lw_all := lw_g (lw_at lw_m9 92 rfl) rfl
theorem q2119 : (Jvm.Cond.instanceMethod ({ cls := "java/util/HashMap", name := "newTreeNode", desc := "(ILjava/lang/Object;Ljava/lang/Object;Ljava/util/HashMap$Node;)Ljava/util/HashMap$TreeNode;" } : Jvm.MethodName)) ∈ lw_all := lw_g (lw_at lw_m9 106 rfl) rfl
theorem q2120 : (Jvm.Cond.sameMethod "java/util/HashMap" "java/util/HashMap" "newTreeNode" "(ILjava/lang/Object;Ljava/lang/Object;Ljava/util/HashMap$Node;)Ljava/util/HashMap$TreeNode;") ∈ lw_all := lw_g (lw_at lw_m9 107 rfl) rfl
theorem q2134 : (Jvm.Cond.fieldLink "java/util/HashMap" (219 : Nat) "java/util/HashMap$TreeNode" "prev" "Ljava/util/HashMap$TreeNode;") ∈ lw_all := lw_g (lw_at lw_m9 121 rfl) rfl
theorem q2153 : (Jvm.Cond.declares ({ cls := "java/util/HashMap", name := "newTreeNode", desc := "(ILjava/lang/Object;Ljava/lang/Object;Ljava/util/HashMap$Node;)Ljava/util/HashMap$TreeNode;" } : Jvm.MethodName)) ∈ lw_tbl := lw_at lw_m9 140 rfl
theorem q2154 : (Jvm.Cond.methodLink "java/util/HashMap" (194 : Nat) ({ cls := "java/util/HashMap", name := "treeifyBin", desc := "([Ljava/util/HashMap$Node;I)V" } : Jvm.MethodName)) ∈ lw_all := lw_g (lw_at lw_m9 141 rfl) rfl
theorem q2155 : (Jvm.Cond.instanceMethod ({ cls := "java/util/HashMap", name := "treeifyBin", desc := "([Ljava/util/HashMap$Node;I)V" } : Jvm.MethodName)) ∈ lw_all := lw_g (lw_at lw_m9 142 rfl) rfl
theorem q2156 : (Jvm.Cond.sameMethod "java/util/HashMap" "java/util/HashMap" "treeifyBin" "([Ljava/util/HashMap$Node;I)V") ∈ lw_all := lw_g (lw_at lw_m9 143 rfl) rfl
theorem q2158 : (Jvm.Cond.code ({ cls := "java/util/HashMap", name := "treeifyBin", desc := "([Ljava/util/HashMap$Node;I)V" } : Jvm.MethodName) prog_63_method_18_code (9 : Nat) (Option.none : Option Jvm.ClassFile.FieldType)) ∈ lw_all := lw_g (lw_at lw_m9 145 rfl) rfl
theorem q2159 : (Jvm.Cond.methodLink "java/util/HashMap" (215 : Nat) ({ cls := "java/util/HashMap", name := "replacementTreeNode", desc := "(Ljava/util/HashMap$Node;Ljava/util/HashMap$Node;)Ljava/util/HashMap$TreeNode;" } : Jvm.MethodName)) ∈ lw_all := lw_g (lw_at lw_m9 146 rfl) rfl
theorem q2160 : (Jvm.Cond.instanceMethod ({ cls := "java/util/HashMap", name := "replacementTreeNode", desc := "(Ljava/util/HashMap$Node;Ljava/util/HashMap$Node;)Ljava/util/HashMap$TreeNode;" } : Jvm.MethodName)) ∈ lw_all := lw_g (lw_at lw_m9 147 rfl) rfl
theorem q2161 : (Jvm.Cond.sameMethod "java/util/HashMap" "java/util/HashMap" "replacementTreeNode" "(Ljava/util/HashMap$Node;Ljava/util/HashMap$Node;)Ljava/util/HashMap$TreeNode;") ∈ lw_all := lw_g (lw_at lw_m9 148 rfl) rfl
theorem q2165 : (Jvm.Cond.declares ({ cls := "java/util/HashMap", name := "replacementTreeNode", desc := "(Ljava/util/HashMap$Node;Ljava/util/HashMap$Node;)Ljava/util/HashMap$TreeNode;" } : Jvm.MethodName)) ∈ lw_tbl := lw_at lw_m9 152 rfl
theorem q2166 : (Jvm.Cond.methodLink "java/util/HashMap" (224 : Nat) ({ cls := "java/util/HashMap$TreeNode", name := "treeify", desc := "([Ljava/util/HashMap$Node;)V" } : Jvm.MethodName)) ∈ lw_all := lw_g (lw_at lw_m9 153 rfl) rfl
theorem q2167 : (Jvm.Cond.methodLink "java/util/HashMap" (198 : Nat) ({ cls := "java/util/HashMap", name := "afterNodeAccess", desc := "(Ljava/util/HashMap$Node;)V" } : Jvm.MethodName)) ∈ lw_all := lw_g (lw_at lw_m9 154 rfl) rfl
theorem q2168 : (Jvm.Cond.instanceMethod ({ cls := "java/util/HashMap", name := "afterNodeAccess", desc := "(Ljava/util/HashMap$Node;)V" } : Jvm.MethodName)) ∈ lw_all := lw_g (lw_at lw_m9 155 rfl) rfl
theorem q2169 : (Jvm.Cond.sameMethod "java/util/HashMap" "java/util/HashMap" "afterNodeAccess" "(Ljava/util/HashMap$Node;)V") ∈ lw_all := lw_g (lw_at lw_m9 156 rfl) rfl
theorem q2173 : (Jvm.Cond.declares ({ cls := "java/util/HashMap", name := "afterNodeAccess", desc := "(Ljava/util/HashMap$Node;)V" } : Jvm.MethodName)) ∈ lw_tbl := lw_at lw_m9 160 rfl
theorem q2174 : (Jvm.Cond.methodLink "java/util/HashMap" (205 : Nat) ({ cls := "java/util/HashMap", name := "afterNodeInsertion", desc := "(Z)V" } : Jvm.MethodName)) ∈ lw_all := lw_g (lw_at lw_m9 161 rfl) rfl
theorem q2175 : (Jvm.Cond.instanceMethod ({ cls := "java/util/HashMap", name := "afterNodeInsertion", desc := "(Z)V" } : Jvm.MethodName)) ∈ lw_all := lw_g (lw_at lw_m9 162 rfl) rfl
theorem q2176 : (Jvm.Cond.sameMethod "java/util/HashMap" "java/util/HashMap" "afterNodeInsertion" "(Z)V") ∈ lw_all := lw_g (lw_at lw_m9 163 rfl) rfl
theorem q2184 : (Jvm.Cond.declares ({ cls := "java/util/HashMap", name := "afterNodeInsertion", desc := "(Z)V" } : Jvm.MethodName)) ∈ lw_tbl := lw_at lw_m9 171 rfl
theorem q2438 : (Jvm.Cond.instanceMethod ({ cls := "java/util/HashMap", name := "containsKey", desc := "(Ljava/lang/Object;)Z" } : Jvm.MethodName)) ∈ lw_all := lw_g (lw_at lw_m10 185 rfl) rfl
theorem q2439 : (Jvm.Cond.sameMethod "java/util/HashMap" "java/util/HashMap" "containsKey" "(Ljava/lang/Object;)Z") ∈ lw_all := lw_g (lw_at lw_m10 186 rfl) rfl
theorem q2441 : (Jvm.Cond.code ({ cls := "java/util/HashMap", name := "containsKey", desc := "(Ljava/lang/Object;)Z" } : Jvm.MethodName) prog_63_method_14_code (2 : Nat) (Option.some Jvm.ClassFile.FieldType.boolean)) ∈ lw_all := lw_g (lw_at lw_m10 188 rfl) rfl
theorem q2442 : (Jvm.Cond.methodLink "java/util/HashMap" (158 : Nat) ({ cls := "java/util/HashMap", name := "getNode", desc := "(Ljava/lang/Object;)Ljava/util/HashMap$Node;" } : Jvm.MethodName)) ∈ lw_all := lw_g (lw_at lw_m10 189 rfl) rfl
theorem q2443 : (Jvm.Cond.instanceMethod ({ cls := "java/util/HashMap", name := "getNode", desc := "(Ljava/lang/Object;)Ljava/util/HashMap$Node;" } : Jvm.MethodName)) ∈ lw_all := lw_g (lw_at lw_m10 190 rfl) rfl
theorem q2444 : (Jvm.Cond.sameMethod "java/util/HashMap" "java/util/HashMap" "getNode" "(Ljava/lang/Object;)Ljava/util/HashMap$Node;") ∈ lw_all := lw_g (lw_at lw_m10 191 rfl) rfl
theorem q2446 : (Jvm.Cond.code ({ cls := "java/util/HashMap", name := "getNode", desc := "(Ljava/lang/Object;)Ljava/util/HashMap$Node;" } : Jvm.MethodName) prog_63_method_13_code (8 : Nat) (Option.some (Jvm.ClassFile.FieldType.object "java/util/HashMap$Node"))) ∈ lw_all := lw_g (lw_at lw_m10 193 rfl) rfl
theorem q2447 : (Jvm.Cond.methodLink "java/util/HashMap" (182 : Nat) ({ cls := "java/util/HashMap$TreeNode", name := "getTreeNode", desc := "(ILjava/lang/Object;)Ljava/util/HashMap$TreeNode;" } : Jvm.MethodName)) ∈ lw_all := lw_g (lw_at lw_m10 194 rfl) rfl
theorem q2472 : (Jvm.Cond.instanceMethod ({ cls := "java/util/HashMap", name := "remove", desc := "(Ljava/lang/Object;)Ljava/lang/Object;" } : Jvm.MethodName)) ∈ lw_all := lw_g (lw_at lw_m10 219 rfl) rfl
theorem q2473 : (Jvm.Cond.sameMethod "java/util/HashMap" "java/util/HashMap" "remove" "(Ljava/lang/Object;)Ljava/lang/Object;") ∈ lw_all := lw_g (lw_at lw_m10 220 rfl) rfl
theorem q2475 : (Jvm.Cond.code ({ cls := "java/util/HashMap", name := "remove", desc := "(Ljava/lang/Object;)Ljava/lang/Object;" } : Jvm.MethodName) prog_63_method_20_code (3 : Nat) (Option.some (Jvm.ClassFile.FieldType.object "java/lang/Object"))) ∈ lw_all := lw_g (lw_at lw_m10 222 rfl) rfl
theorem q2476 : (Jvm.Cond.methodLink "java/util/HashMap" (228 : Nat) ({ cls := "java/util/HashMap", name := "removeNode", desc := "(ILjava/lang/Object;Ljava/lang/Object;ZZ)Ljava/util/HashMap$Node;" } : Jvm.MethodName)) ∈ lw_all := lw_g (lw_at lw_m10 223 rfl) rfl
theorem q2477 : (Jvm.Cond.instanceMethod ({ cls := "java/util/HashMap", name := "removeNode", desc := "(ILjava/lang/Object;Ljava/lang/Object;ZZ)Ljava/util/HashMap$Node;" } : Jvm.MethodName)) ∈ lw_all := lw_g (lw_at lw_m10 224 rfl) rfl
theorem q2478 : (Jvm.Cond.sameMethod "java/util/HashMap" "java/util/HashMap" "removeNode" "(ILjava/lang/Object;Ljava/lang/Object;ZZ)Ljava/util/HashMap$Node;") ∈ lw_all := lw_g (lw_at lw_m10 225 rfl) rfl
theorem q2480 : (Jvm.Cond.code ({ cls := "java/util/HashMap", name := "removeNode", desc := "(ILjava/lang/Object;Ljava/lang/Object;ZZ)Ljava/util/HashMap$Node;" } : Jvm.MethodName) prog_63_method_21_code (14 : Nat) (Option.some (Jvm.ClassFile.FieldType.object "java/util/HashMap$Node"))) ∈ lw_all := lw_g (lw_at lw_m10 227 rfl) rfl
theorem q2481 : (Jvm.Cond.methodLink "java/util/HashMap" (232 : Nat) ({ cls := "java/util/HashMap$TreeNode", name := "removeTreeNode", desc := "(Ljava/util/HashMap;[Ljava/util/HashMap$Node;Z)V" } : Jvm.MethodName)) ∈ lw_all := lw_g (lw_at lw_m10 228 rfl) rfl
theorem q2488 : (Jvm.Cond.methodLink "java/util/HashMap" (236 : Nat) ({ cls := "java/util/HashMap", name := "afterNodeRemoval", desc := "(Ljava/util/HashMap$Node;)V" } : Jvm.MethodName)) ∈ lw_all := lw_g (lw_at lw_m10 235 rfl) rfl
theorem q2489 : (Jvm.Cond.instanceMethod ({ cls := "java/util/HashMap", name := "afterNodeRemoval", desc := "(Ljava/util/HashMap$Node;)V" } : Jvm.MethodName)) ∈ lw_all := lw_g (lw_at lw_m10 236 rfl) rfl
theorem q2490 : (Jvm.Cond.sameMethod "java/util/HashMap" "java/util/HashMap" "afterNodeRemoval" "(Ljava/util/HashMap$Node;)V") ∈ lw_all := lw_g (lw_at lw_m10 237 rfl) rfl
theorem q2494 : (Jvm.Cond.declares ({ cls := "java/util/HashMap", name := "afterNodeRemoval", desc := "(Ljava/util/HashMap$Node;)V" } : Jvm.MethodName)) ∈ lw_tbl := lw_at lw_m11 1 rfl
theorem q2974 : (Jvm.Cond.instanceMethod ({ cls := "java/util/HashMap", name := "size", desc := "()I" } : Jvm.MethodName)) ∈ lw_all := lw_g (lw_at lw_m13 1 rfl) rfl
theorem q2975 : (Jvm.Cond.sameMethod "java/util/HashMap" "java/util/HashMap" "size" "()I") ∈ lw_all := lw_g (lw_at lw_m13 2 rfl) rfl
theorem q2977 : (Jvm.Cond.code ({ cls := "java/util/HashMap", name := "size", desc := "()I" } : Jvm.MethodName) prog_63_method_10_code (1 : Nat) (Option.some Jvm.ClassFile.FieldType.int)) ∈ lw_all := lw_g (lw_at lw_m13 4 rfl) rfl
/-! java/util/LinkedHashMap -/
set_option maxRecDepth 100000
def RJ6 : String := "java/util/LinkedHashMap"
def TJ6 : u_T := fun k => match k with
  | 0 => ("java/util/HashMap", "table", "[Ljava/util/HashMap$Node;", false)
  | 1 => ("java/util/HashMap", "entrySet", "Ljava/util/Set;", false)
  | 2 => ("java/util/HashMap", "size", "I", false)
  | 3 => ("java/util/HashMap", "modCount", "I", false)
  | 4 => ("java/util/HashMap", "threshold", "I", false)
  | 5 => ("java/util/HashMap", "loadFactor", "F", true)
  | 6 => ("java/util/AbstractMap", "keySet", "Ljava/util/Set;", false)
  | 7 => ("java/util/AbstractMap", "values", "Ljava/util/Collection;", false)
  | 8 => ("java/util/LinkedHashMap", "head", "Ljava/util/LinkedHashMap$Entry;", false)
  | 9 => ("java/util/LinkedHashMap", "tail", "Ljava/util/LinkedHashMap$Entry;", false)
  | 10 => ("java/util/LinkedHashMap", "accessOrder", "Z", true)
  | _ => ("java/util/LinkedHashMap", "putMode", "I", false)
def tyJ6 : Nat → FieldType := fun k => match k with
  | 0 => .array (.object "java/util/HashMap$Node")
  | 1 => .object "java/util/Set"
  | 2 => .int
  | 3 => .int
  | 4 => .int
  | 5 => .float
  | 6 => .object "java/util/Set"
  | 7 => .object "java/util/Collection"
  | 8 => .object "java/util/LinkedHashMap$Entry"
  | 9 => .object "java/util/LinkedHashMap$Entry"
  | 10 => .boolean
  | _ => .int
abbrev wsJ60 : List Cond := u_ws RJ6 TJ6 12
theorem nmJ6 : ∀ a, a < 12 → ∀ b, b < 12 → a ≠ b → (TJ6 a).2.1 ≠ (TJ6 b).2.1 := by decide +kernel
theorem tyJ6_ok : ∀ k, k < 12 → parseFieldDescriptor (TJ6 k).2.2.1 = some (tyJ6 k) := by decide +kernel
abbrev cJ6_init : ByteArray := prog_71_method_14_code
def yJ6_init : MethodName := ⟨RJ6, "<init>", "(IF)V"⟩
def dkwJ6_init_0 : List UInt8 := [42, 27, 36, 183, 0, 81, 42, 3, 181, 0, 1, 42, 3, 181, 0, 64, 177]
abbrev dktJ6_init_0 : List UInt8 := dkwJ6_init_0 ++ []
theorem dksJ6_init_0 : cJ6_init.data.toList.drop 0 = dktJ6_init_0 := by decide +kernel
theorem dJ6_init_0 : decode cJ6_init 0 = .ok (.aload_n 0, 1) := dk_42 (dk_at dksJ6_init_0 0 rfl rfl)
theorem dJ6_init_1 : decode cJ6_init 1 = .ok (.iload_n 1, 1) := dk_27 (dk_at dksJ6_init_0 1 rfl rfl)
theorem dJ6_init_2 : decode cJ6_init 2 = .ok (.fload_n 2, 1) := dk_36 (dk_at dksJ6_init_0 2 rfl rfl)
theorem dJ6_init_3 : decode cJ6_init 3 = .ok (.invokespecial 81, 3) := dk_183 0 81 (dk_at dksJ6_init_0 3 rfl rfl)
theorem dJ6_init_6 : decode cJ6_init 6 = .ok (.aload_n 0, 1) := dk_42 (dk_at dksJ6_init_0 6 rfl rfl)
theorem dJ6_init_7 : decode cJ6_init 7 = .ok (.iconst 0, 1) := dk_3 (dk_at dksJ6_init_0 7 rfl rfl)
theorem dJ6_init_8 : decode cJ6_init 8 = .ok (.putfield 1, 3) := dk_181 0 1 (dk_at dksJ6_init_0 8 rfl rfl)
theorem dJ6_init_11 : decode cJ6_init 11 = .ok (.aload_n 0, 1) := dk_42 (dk_at dksJ6_init_0 11 rfl rfl)
theorem dJ6_init_12 : decode cJ6_init 12 = .ok (.iconst 0, 1) := dk_3 (dk_at dksJ6_init_0 12 rfl rfl)
theorem dJ6_init_13 : decode cJ6_init 13 = .ok (.putfield 64, 3) := dk_181 0 64 (dk_at dksJ6_init_0 13 rfl rfl)
theorem dJ6_init_16 : decode cJ6_init 16 = .ok (.return_, 1) := dk_177 (dk_at dksJ6_init_0 16 rfl rfl)
abbrev cJ6_keySet : ByteArray := prog_71_method_24_code
def yJ6_keySet : MethodName := ⟨RJ6, "keySet", "()Ljava/util/Set;"⟩
theorem dJ6_keySet_0 : decode cJ6_keySet 0 = .ok (.aload_n 0, 1) := by decide +kernel
theorem dJ6_keySet_1 : decode cJ6_keySet 1 = .ok (.invokevirtual 113, 3) := by decide +kernel
theorem dJ6_keySet_4 : decode cJ6_keySet 4 = .ok (.areturn, 1) := by decide +kernel
abbrev cJ6_sequencedKeySet : ByteArray := prog_71_method_25_code
def yJ6_sequencedKeySet : MethodName := ⟨RJ6, "sequencedKeySet", "()Ljava/util/SequencedSet;"⟩
def dkwJ6_sequencedKeySet_1 : List UInt8 := [44, 176, 43, 192, 0, 126, 176]
abbrev dktJ6_sequencedKeySet_1 : List UInt8 := dkwJ6_sequencedKeySet_1 ++ []
def dkwJ6_sequencedKeySet_0 : List UInt8 := [42, 180, 0, 117, 76, 43, 199, 0, 20, 187, 0, 121, 89, 42, 3, 183, 0, 123, 77, 42, 44, 181, 0, 117]
abbrev dktJ6_sequencedKeySet_0 : List UInt8 := dkwJ6_sequencedKeySet_0 ++ dktJ6_sequencedKeySet_1
theorem dksJ6_sequencedKeySet_0 : cJ6_sequencedKeySet.data.toList.drop 0 = dktJ6_sequencedKeySet_0 := by decide +kernel
theorem dksJ6_sequencedKeySet_1 : cJ6_sequencedKeySet.data.toList.drop 24 = dktJ6_sequencedKeySet_1 := dk_seg dksJ6_sequencedKeySet_0 24 rfl rfl
theorem dJ6_sequencedKeySet_0 : decode cJ6_sequencedKeySet 0 = .ok (.aload_n 0, 1) := dk_42 (dk_at dksJ6_sequencedKeySet_0 0 rfl rfl)
theorem dJ6_sequencedKeySet_1 : decode cJ6_sequencedKeySet 1 = .ok (.getfield 117, 3) := dk_180 0 117 (dk_at dksJ6_sequencedKeySet_0 1 rfl rfl)
theorem dJ6_sequencedKeySet_4 : decode cJ6_sequencedKeySet 4 = .ok (.astore_n 1, 1) := dk_76 (dk_at dksJ6_sequencedKeySet_0 4 rfl rfl)
theorem dJ6_sequencedKeySet_5 : decode cJ6_sequencedKeySet 5 = .ok (.aload_n 1, 1) := dk_43 (dk_at dksJ6_sequencedKeySet_0 5 rfl rfl)
theorem dJ6_sequencedKeySet_6 : decode cJ6_sequencedKeySet 6 = .ok (.ifnonnull 20, 3) := dk_199 0 20 (dk_at dksJ6_sequencedKeySet_0 6 rfl rfl)
theorem dJ6_sequencedKeySet_9 : decode cJ6_sequencedKeySet 9 = .ok (.new 121, 3) := dk_187 0 121 (dk_at dksJ6_sequencedKeySet_0 9 rfl rfl)
theorem dJ6_sequencedKeySet_12 : decode cJ6_sequencedKeySet 12 = .ok (.dup, 1) := dk_89 (dk_at dksJ6_sequencedKeySet_0 12 rfl rfl)
theorem dJ6_sequencedKeySet_13 : decode cJ6_sequencedKeySet 13 = .ok (.aload_n 0, 1) := dk_42 (dk_at dksJ6_sequencedKeySet_0 13 rfl rfl)
theorem dJ6_sequencedKeySet_14 : decode cJ6_sequencedKeySet 14 = .ok (.iconst 0, 1) := dk_3 (dk_at dksJ6_sequencedKeySet_0 14 rfl rfl)
theorem dJ6_sequencedKeySet_15 : decode cJ6_sequencedKeySet 15 = .ok (.invokespecial 123, 3) := dk_183 0 123 (dk_at dksJ6_sequencedKeySet_0 15 rfl rfl)
theorem dJ6_sequencedKeySet_18 : decode cJ6_sequencedKeySet 18 = .ok (.astore_n 2, 1) := dk_77 (dk_at dksJ6_sequencedKeySet_0 18 rfl rfl)
theorem dJ6_sequencedKeySet_19 : decode cJ6_sequencedKeySet 19 = .ok (.aload_n 0, 1) := dk_42 (dk_at dksJ6_sequencedKeySet_0 19 rfl rfl)
theorem dJ6_sequencedKeySet_20 : decode cJ6_sequencedKeySet 20 = .ok (.aload_n 2, 1) := dk_44 (dk_at dksJ6_sequencedKeySet_0 20 rfl rfl)
theorem dJ6_sequencedKeySet_21 : decode cJ6_sequencedKeySet 21 = .ok (.putfield 117, 3) := dk_181 0 117 (dk_at dksJ6_sequencedKeySet_0 21 rfl rfl)
theorem dJ6_sequencedKeySet_24 : decode cJ6_sequencedKeySet 24 = .ok (.aload_n 2, 1) := dk_44 (dk_at dksJ6_sequencedKeySet_1 0 rfl rfl)
theorem dJ6_sequencedKeySet_25 : decode cJ6_sequencedKeySet 25 = .ok (.areturn, 1) := dk_176 (dk_at dksJ6_sequencedKeySet_1 1 rfl rfl)
theorem dJ6_sequencedKeySet_26 : decode cJ6_sequencedKeySet 26 = .ok (.aload_n 1, 1) := dk_43 (dk_at dksJ6_sequencedKeySet_1 2 rfl rfl)
theorem dJ6_sequencedKeySet_27 : decode cJ6_sequencedKeySet 27 = .ok (.checkcast 126, 3) := dk_192 0 126 (dk_at dksJ6_sequencedKeySet_1 3 rfl rfl)
theorem dJ6_sequencedKeySet_30 : decode cJ6_sequencedKeySet 30 = .ok (.areturn, 1) := dk_176 (dk_at dksJ6_sequencedKeySet_1 6 rfl rfl)
abbrev cJ6_replacementNode : ByteArray := prog_71_method_5_code
def yJ6_replacementNode : MethodName := ⟨RJ6, "replacementNode", "(Ljava/util/HashMap$Node;Ljava/util/HashMap$Node;)Ljava/util/HashMap$Node;"⟩
def dkwJ6_replacementNode_1 : List UInt8 := [183, 0, 28, 58, 4, 42, 45, 25, 4, 182, 0, 46, 25, 4, 176]
abbrev dktJ6_replacementNode_1 : List UInt8 := dkwJ6_replacementNode_1 ++ []
def dkwJ6_replacementNode_0 : List UInt8 := [43, 192, 0, 15, 78, 187, 0, 15, 89, 45, 180, 0, 36, 45, 180, 0, 39, 45, 180, 0, 43, 44]
abbrev dktJ6_replacementNode_0 : List UInt8 := dkwJ6_replacementNode_0 ++ dktJ6_replacementNode_1
theorem dksJ6_replacementNode_0 : cJ6_replacementNode.data.toList.drop 0 = dktJ6_replacementNode_0 := by decide +kernel
theorem dksJ6_replacementNode_1 : cJ6_replacementNode.data.toList.drop 22 = dktJ6_replacementNode_1 := dk_seg dksJ6_replacementNode_0 22 rfl rfl
theorem dJ6_replacementNode_0 : decode cJ6_replacementNode 0 = .ok (.aload_n 1, 1) := dk_43 (dk_at dksJ6_replacementNode_0 0 rfl rfl)
theorem dJ6_replacementNode_1 : decode cJ6_replacementNode 1 = .ok (.checkcast 15, 3) := dk_192 0 15 (dk_at dksJ6_replacementNode_0 1 rfl rfl)
theorem dJ6_replacementNode_4 : decode cJ6_replacementNode 4 = .ok (.astore_n 3, 1) := dk_78 (dk_at dksJ6_replacementNode_0 4 rfl rfl)
theorem dJ6_replacementNode_5 : decode cJ6_replacementNode 5 = .ok (.new 15, 3) := dk_187 0 15 (dk_at dksJ6_replacementNode_0 5 rfl rfl)
theorem dJ6_replacementNode_8 : decode cJ6_replacementNode 8 = .ok (.dup, 1) := dk_89 (dk_at dksJ6_replacementNode_0 8 rfl rfl)
theorem dJ6_replacementNode_9 : decode cJ6_replacementNode 9 = .ok (.aload_n 3, 1) := dk_45 (dk_at dksJ6_replacementNode_0 9 rfl rfl)
theorem dJ6_replacementNode_10 : decode cJ6_replacementNode 10 = .ok (.getfield 36, 3) := dk_180 0 36 (dk_at dksJ6_replacementNode_0 10 rfl rfl)
theorem dJ6_replacementNode_13 : decode cJ6_replacementNode 13 = .ok (.aload_n 3, 1) := dk_45 (dk_at dksJ6_replacementNode_0 13 rfl rfl)
theorem dJ6_replacementNode_14 : decode cJ6_replacementNode 14 = .ok (.getfield 39, 3) := dk_180 0 39 (dk_at dksJ6_replacementNode_0 14 rfl rfl)
theorem dJ6_replacementNode_17 : decode cJ6_replacementNode 17 = .ok (.aload_n 3, 1) := dk_45 (dk_at dksJ6_replacementNode_0 17 rfl rfl)
theorem dJ6_replacementNode_18 : decode cJ6_replacementNode 18 = .ok (.getfield 43, 3) := dk_180 0 43 (dk_at dksJ6_replacementNode_0 18 rfl rfl)
theorem dJ6_replacementNode_21 : decode cJ6_replacementNode 21 = .ok (.aload_n 2, 1) := dk_44 (dk_at dksJ6_replacementNode_0 21 rfl rfl)
theorem dJ6_replacementNode_22 : decode cJ6_replacementNode 22 = .ok (.invokespecial 28, 3) := dk_183 0 28 (dk_at dksJ6_replacementNode_1 0 rfl rfl)
theorem dJ6_replacementNode_25 : decode cJ6_replacementNode 25 = .ok (.astore 4, 2) := dk_58 4 (dk_at dksJ6_replacementNode_1 3 rfl rfl)
theorem dJ6_replacementNode_27 : decode cJ6_replacementNode 27 = .ok (.aload_n 0, 1) := dk_42 (dk_at dksJ6_replacementNode_1 5 rfl rfl)
theorem dJ6_replacementNode_28 : decode cJ6_replacementNode 28 = .ok (.aload_n 3, 1) := dk_45 (dk_at dksJ6_replacementNode_1 6 rfl rfl)
theorem dJ6_replacementNode_29 : decode cJ6_replacementNode 29 = .ok (.aload 4, 2) := dk_25 4 (dk_at dksJ6_replacementNode_1 7 rfl rfl)
theorem dJ6_replacementNode_31 : decode cJ6_replacementNode 31 = .ok (.invokevirtual 46, 3) := dk_182 0 46 (dk_at dksJ6_replacementNode_1 9 rfl rfl)
theorem dJ6_replacementNode_34 : decode cJ6_replacementNode 34 = .ok (.aload 4, 2) := dk_25 4 (dk_at dksJ6_replacementNode_1 12 rfl rfl)
theorem dJ6_replacementNode_36 : decode cJ6_replacementNode 36 = .ok (.areturn, 1) := dk_176 (dk_at dksJ6_replacementNode_1 14 rfl rfl)
abbrev cJ6_transferLinks : ByteArray := prog_71_method_2_code
def yJ6_transferLinks : MethodName := ⟨RJ6, "transferLinks", "(Ljava/util/LinkedHashMap$Entry;Ljava/util/LinkedHashMap$Entry;)V"⟩
def dkwJ6_transferLinks_2 : List UInt8 := [181, 0, 11, 167, 0, 9, 25, 4, 44, 181, 0, 19, 177]
abbrev dktJ6_transferLinks_2 : List UInt8 := dkwJ6_transferLinks_2 ++ []
def dkwJ6_transferLinks_1 : List UInt8 := [199, 0, 11, 42, 44, 181, 0, 7, 167, 0, 8, 45, 44, 181, 0, 14, 25, 4, 199, 0, 11, 42, 44]
abbrev dktJ6_transferLinks_1 : List UInt8 := dkwJ6_transferLinks_1 ++ dktJ6_transferLinks_2
def dkwJ6_transferLinks_0 : List UInt8 := [44, 43, 180, 0, 19, 90, 181, 0, 19, 78, 44, 43, 180, 0, 14, 90, 181, 0, 14, 58, 4, 45]
abbrev dktJ6_transferLinks_0 : List UInt8 := dkwJ6_transferLinks_0 ++ dktJ6_transferLinks_1
theorem dksJ6_transferLinks_0 : cJ6_transferLinks.data.toList.drop 0 = dktJ6_transferLinks_0 := by decide +kernel
theorem dksJ6_transferLinks_1 : cJ6_transferLinks.data.toList.drop 22 = dktJ6_transferLinks_1 := dk_seg dksJ6_transferLinks_0 22 rfl rfl
theorem dksJ6_transferLinks_2 : cJ6_transferLinks.data.toList.drop 45 = dktJ6_transferLinks_2 := dk_seg dksJ6_transferLinks_1 23 rfl rfl
theorem dJ6_transferLinks_0 : decode cJ6_transferLinks 0 = .ok (.aload_n 2, 1) := dk_44 (dk_at dksJ6_transferLinks_0 0 rfl rfl)
theorem dJ6_transferLinks_1 : decode cJ6_transferLinks 1 = .ok (.aload_n 1, 1) := dk_43 (dk_at dksJ6_transferLinks_0 1 rfl rfl)
theorem dJ6_transferLinks_2 : decode cJ6_transferLinks 2 = .ok (.getfield 19, 3) := dk_180 0 19 (dk_at dksJ6_transferLinks_0 2 rfl rfl)
theorem dJ6_transferLinks_5 : decode cJ6_transferLinks 5 = .ok (.dup_x1, 1) := dk_90 (dk_at dksJ6_transferLinks_0 5 rfl rfl)
theorem dJ6_transferLinks_6 : decode cJ6_transferLinks 6 = .ok (.putfield 19, 3) := dk_181 0 19 (dk_at dksJ6_transferLinks_0 6 rfl rfl)
theorem dJ6_transferLinks_9 : decode cJ6_transferLinks 9 = .ok (.astore_n 3, 1) := dk_78 (dk_at dksJ6_transferLinks_0 9 rfl rfl)
theorem dJ6_transferLinks_10 : decode cJ6_transferLinks 10 = .ok (.aload_n 2, 1) := dk_44 (dk_at dksJ6_transferLinks_0 10 rfl rfl)
theorem dJ6_transferLinks_11 : decode cJ6_transferLinks 11 = .ok (.aload_n 1, 1) := dk_43 (dk_at dksJ6_transferLinks_0 11 rfl rfl)
theorem dJ6_transferLinks_12 : decode cJ6_transferLinks 12 = .ok (.getfield 14, 3) := dk_180 0 14 (dk_at dksJ6_transferLinks_0 12 rfl rfl)
theorem dJ6_transferLinks_15 : decode cJ6_transferLinks 15 = .ok (.dup_x1, 1) := dk_90 (dk_at dksJ6_transferLinks_0 15 rfl rfl)
theorem dJ6_transferLinks_16 : decode cJ6_transferLinks 16 = .ok (.putfield 14, 3) := dk_181 0 14 (dk_at dksJ6_transferLinks_0 16 rfl rfl)
theorem dJ6_transferLinks_19 : decode cJ6_transferLinks 19 = .ok (.astore 4, 2) := dk_58 4 (dk_at dksJ6_transferLinks_0 19 rfl rfl)
theorem dJ6_transferLinks_21 : decode cJ6_transferLinks 21 = .ok (.aload_n 3, 1) := dk_45 (dk_at dksJ6_transferLinks_0 21 rfl rfl)
theorem dJ6_transferLinks_22 : decode cJ6_transferLinks 22 = .ok (.ifnonnull 11, 3) := dk_199 0 11 (dk_at dksJ6_transferLinks_1 0 rfl rfl)
theorem dJ6_transferLinks_25 : decode cJ6_transferLinks 25 = .ok (.aload_n 0, 1) := dk_42 (dk_at dksJ6_transferLinks_1 3 rfl rfl)
theorem dJ6_transferLinks_26 : decode cJ6_transferLinks 26 = .ok (.aload_n 2, 1) := dk_44 (dk_at dksJ6_transferLinks_1 4 rfl rfl)
theorem dJ6_transferLinks_27 : decode cJ6_transferLinks 27 = .ok (.putfield 7, 3) := dk_181 0 7 (dk_at dksJ6_transferLinks_1 5 rfl rfl)
theorem dJ6_transferLinks_30 : decode cJ6_transferLinks 30 = .ok (.goto 8, 3) := dk_167 0 8 (dk_at dksJ6_transferLinks_1 8 rfl rfl)
theorem dJ6_transferLinks_33 : decode cJ6_transferLinks 33 = .ok (.aload_n 3, 1) := dk_45 (dk_at dksJ6_transferLinks_1 11 rfl rfl)
theorem dJ6_transferLinks_34 : decode cJ6_transferLinks 34 = .ok (.aload_n 2, 1) := dk_44 (dk_at dksJ6_transferLinks_1 12 rfl rfl)
theorem dJ6_transferLinks_35 : decode cJ6_transferLinks 35 = .ok (.putfield 14, 3) := dk_181 0 14 (dk_at dksJ6_transferLinks_1 13 rfl rfl)
theorem dJ6_transferLinks_38 : decode cJ6_transferLinks 38 = .ok (.aload 4, 2) := dk_25 4 (dk_at dksJ6_transferLinks_1 16 rfl rfl)
theorem dJ6_transferLinks_40 : decode cJ6_transferLinks 40 = .ok (.ifnonnull 11, 3) := dk_199 0 11 (dk_at dksJ6_transferLinks_1 18 rfl rfl)
theorem dJ6_transferLinks_43 : decode cJ6_transferLinks 43 = .ok (.aload_n 0, 1) := dk_42 (dk_at dksJ6_transferLinks_1 21 rfl rfl)
theorem dJ6_transferLinks_44 : decode cJ6_transferLinks 44 = .ok (.aload_n 2, 1) := dk_44 (dk_at dksJ6_transferLinks_1 22 rfl rfl)
theorem dJ6_transferLinks_45 : decode cJ6_transferLinks 45 = .ok (.putfield 11, 3) := dk_181 0 11 (dk_at dksJ6_transferLinks_2 0 rfl rfl)
theorem dJ6_transferLinks_48 : decode cJ6_transferLinks 48 = .ok (.goto 9, 3) := dk_167 0 9 (dk_at dksJ6_transferLinks_2 3 rfl rfl)
theorem dJ6_transferLinks_51 : decode cJ6_transferLinks 51 = .ok (.aload 4, 2) := dk_25 4 (dk_at dksJ6_transferLinks_2 6 rfl rfl)
theorem dJ6_transferLinks_53 : decode cJ6_transferLinks 53 = .ok (.aload_n 2, 1) := dk_44 (dk_at dksJ6_transferLinks_2 8 rfl rfl)
theorem dJ6_transferLinks_54 : decode cJ6_transferLinks 54 = .ok (.putfield 19, 3) := dk_181 0 19 (dk_at dksJ6_transferLinks_2 9 rfl rfl)
theorem dJ6_transferLinks_57 : decode cJ6_transferLinks 57 = .ok (.return_, 1) := dk_177 (dk_at dksJ6_transferLinks_2 12 rfl rfl)
abbrev cJ6_newNode : ByteArray := prog_71_method_4_code
def yJ6_newNode : MethodName := ⟨RJ6, "newNode", "(ILjava/lang/Object;Ljava/lang/Object;Ljava/util/HashMap$Node;)Ljava/util/HashMap$Node;"⟩
def dkwJ6_newNode_0 : List UInt8 := [187, 0, 15, 89, 27, 44, 45, 25, 4, 183, 0, 28, 58, 5, 42, 25, 5, 182, 0, 32, 25, 5, 176]
abbrev dktJ6_newNode_0 : List UInt8 := dkwJ6_newNode_0 ++ []
theorem dksJ6_newNode_0 : cJ6_newNode.data.toList.drop 0 = dktJ6_newNode_0 := by decide +kernel
theorem dJ6_newNode_0 : decode cJ6_newNode 0 = .ok (.new 15, 3) := dk_187 0 15 (dk_at dksJ6_newNode_0 0 rfl rfl)
theorem dJ6_newNode_3 : decode cJ6_newNode 3 = .ok (.dup, 1) := dk_89 (dk_at dksJ6_newNode_0 3 rfl rfl)
theorem dJ6_newNode_4 : decode cJ6_newNode 4 = .ok (.iload_n 1, 1) := dk_27 (dk_at dksJ6_newNode_0 4 rfl rfl)
theorem dJ6_newNode_5 : decode cJ6_newNode 5 = .ok (.aload_n 2, 1) := dk_44 (dk_at dksJ6_newNode_0 5 rfl rfl)
theorem dJ6_newNode_6 : decode cJ6_newNode 6 = .ok (.aload_n 3, 1) := dk_45 (dk_at dksJ6_newNode_0 6 rfl rfl)
theorem dJ6_newNode_7 : decode cJ6_newNode 7 = .ok (.aload 4, 2) := dk_25 4 (dk_at dksJ6_newNode_0 7 rfl rfl)
theorem dJ6_newNode_9 : decode cJ6_newNode 9 = .ok (.invokespecial 28, 3) := dk_183 0 28 (dk_at dksJ6_newNode_0 9 rfl rfl)
theorem dJ6_newNode_12 : decode cJ6_newNode 12 = .ok (.astore 5, 2) := dk_58 5 (dk_at dksJ6_newNode_0 12 rfl rfl)
theorem dJ6_newNode_14 : decode cJ6_newNode 14 = .ok (.aload_n 0, 1) := dk_42 (dk_at dksJ6_newNode_0 14 rfl rfl)
theorem dJ6_newNode_15 : decode cJ6_newNode 15 = .ok (.aload 5, 2) := dk_25 5 (dk_at dksJ6_newNode_0 15 rfl rfl)
theorem dJ6_newNode_17 : decode cJ6_newNode 17 = .ok (.invokevirtual 32, 3) := dk_182 0 32 (dk_at dksJ6_newNode_0 17 rfl rfl)
theorem dJ6_newNode_20 : decode cJ6_newNode 20 = .ok (.aload 5, 2) := dk_25 5 (dk_at dksJ6_newNode_0 20 rfl rfl)
theorem dJ6_newNode_22 : decode cJ6_newNode 22 = .ok (.areturn, 1) := dk_176 (dk_at dksJ6_newNode_0 22 rfl rfl)
abbrev cJ6_linkNodeAtEnd : ByteArray := prog_71_method_1_code
def yJ6_linkNodeAtEnd : MethodName := ⟨RJ6, "linkNodeAtEnd", "(Ljava/util/LinkedHashMap$Entry;)V"⟩
def dkwJ6_linkNodeAtEnd_3 : List UInt8 := [181, 0, 14, 177]
abbrev dktJ6_linkNodeAtEnd_3 : List UInt8 := dkwJ6_linkNodeAtEnd_3 ++ []
def dkwJ6_linkNodeAtEnd_2 : List UInt8 := [42, 43, 181, 0, 11, 44, 199, 0, 11, 42, 43, 181, 0, 7, 167, 0, 13, 43, 44, 181, 0, 19, 44, 43]
abbrev dktJ6_linkNodeAtEnd_2 : List UInt8 := dkwJ6_linkNodeAtEnd_2 ++ dktJ6_linkNodeAtEnd_3
def dkwJ6_linkNodeAtEnd_1 : List UInt8 := [181, 0, 11, 167, 0, 13, 43, 44, 181, 0, 14, 44, 43, 181, 0, 19, 167, 0, 35, 42, 180, 0, 11, 77]
abbrev dktJ6_linkNodeAtEnd_1 : List UInt8 := dkwJ6_linkNodeAtEnd_1 ++ dktJ6_linkNodeAtEnd_2
def dkwJ6_linkNodeAtEnd_0 : List UInt8 := [42, 180, 0, 1, 4, 160, 0, 38, 42, 180, 0, 7, 77, 42, 43, 181, 0, 7, 44, 199, 0, 11, 42, 43]
abbrev dktJ6_linkNodeAtEnd_0 : List UInt8 := dkwJ6_linkNodeAtEnd_0 ++ dktJ6_linkNodeAtEnd_1
theorem dksJ6_linkNodeAtEnd_0 : cJ6_linkNodeAtEnd.data.toList.drop 0 = dktJ6_linkNodeAtEnd_0 := by decide +kernel
theorem dksJ6_linkNodeAtEnd_1 : cJ6_linkNodeAtEnd.data.toList.drop 24 = dktJ6_linkNodeAtEnd_1 := dk_seg dksJ6_linkNodeAtEnd_0 24 rfl rfl
theorem dksJ6_linkNodeAtEnd_2 : cJ6_linkNodeAtEnd.data.toList.drop 48 = dktJ6_linkNodeAtEnd_2 := dk_seg dksJ6_linkNodeAtEnd_1 24 rfl rfl
theorem dksJ6_linkNodeAtEnd_3 : cJ6_linkNodeAtEnd.data.toList.drop 72 = dktJ6_linkNodeAtEnd_3 := dk_seg dksJ6_linkNodeAtEnd_2 24 rfl rfl
theorem dJ6_linkNodeAtEnd_0 : decode cJ6_linkNodeAtEnd 0 = .ok (.aload_n 0, 1) := dk_42 (dk_at dksJ6_linkNodeAtEnd_0 0 rfl rfl)
theorem dJ6_linkNodeAtEnd_1 : decode cJ6_linkNodeAtEnd 1 = .ok (.getfield 1, 3) := dk_180 0 1 (dk_at dksJ6_linkNodeAtEnd_0 1 rfl rfl)
theorem dJ6_linkNodeAtEnd_4 : decode cJ6_linkNodeAtEnd 4 = .ok (.iconst 1, 1) := dk_4 (dk_at dksJ6_linkNodeAtEnd_0 4 rfl rfl)
theorem dJ6_linkNodeAtEnd_5 : decode cJ6_linkNodeAtEnd 5 = .ok (.if_icmp .ne 38, 3) := dk_160 0 38 (dk_at dksJ6_linkNodeAtEnd_0 5 rfl rfl)
theorem dJ6_linkNodeAtEnd_8 : decode cJ6_linkNodeAtEnd 8 = .ok (.aload_n 0, 1) := dk_42 (dk_at dksJ6_linkNodeAtEnd_0 8 rfl rfl)
theorem dJ6_linkNodeAtEnd_9 : decode cJ6_linkNodeAtEnd 9 = .ok (.getfield 7, 3) := dk_180 0 7 (dk_at dksJ6_linkNodeAtEnd_0 9 rfl rfl)
theorem dJ6_linkNodeAtEnd_12 : decode cJ6_linkNodeAtEnd 12 = .ok (.astore_n 2, 1) := dk_77 (dk_at dksJ6_linkNodeAtEnd_0 12 rfl rfl)
theorem dJ6_linkNodeAtEnd_13 : decode cJ6_linkNodeAtEnd 13 = .ok (.aload_n 0, 1) := dk_42 (dk_at dksJ6_linkNodeAtEnd_0 13 rfl rfl)
theorem dJ6_linkNodeAtEnd_14 : decode cJ6_linkNodeAtEnd 14 = .ok (.aload_n 1, 1) := dk_43 (dk_at dksJ6_linkNodeAtEnd_0 14 rfl rfl)
theorem dJ6_linkNodeAtEnd_15 : decode cJ6_linkNodeAtEnd 15 = .ok (.putfield 7, 3) := dk_181 0 7 (dk_at dksJ6_linkNodeAtEnd_0 15 rfl rfl)
theorem dJ6_linkNodeAtEnd_18 : decode cJ6_linkNodeAtEnd 18 = .ok (.aload_n 2, 1) := dk_44 (dk_at dksJ6_linkNodeAtEnd_0 18 rfl rfl)
theorem dJ6_linkNodeAtEnd_19 : decode cJ6_linkNodeAtEnd 19 = .ok (.ifnonnull 11, 3) := dk_199 0 11 (dk_at dksJ6_linkNodeAtEnd_0 19 rfl rfl)
theorem dJ6_linkNodeAtEnd_22 : decode cJ6_linkNodeAtEnd 22 = .ok (.aload_n 0, 1) := dk_42 (dk_at dksJ6_linkNodeAtEnd_0 22 rfl rfl)
theorem dJ6_linkNodeAtEnd_23 : decode cJ6_linkNodeAtEnd 23 = .ok (.aload_n 1, 1) := dk_43 (dk_at dksJ6_linkNodeAtEnd_0 23 rfl rfl)
theorem dJ6_linkNodeAtEnd_24 : decode cJ6_linkNodeAtEnd 24 = .ok (.putfield 11, 3) := dk_181 0 11 (dk_at dksJ6_linkNodeAtEnd_1 0 rfl rfl)
theorem dJ6_linkNodeAtEnd_27 : decode cJ6_linkNodeAtEnd 27 = .ok (.goto 13, 3) := dk_167 0 13 (dk_at dksJ6_linkNodeAtEnd_1 3 rfl rfl)
theorem dJ6_linkNodeAtEnd_30 : decode cJ6_linkNodeAtEnd 30 = .ok (.aload_n 1, 1) := dk_43 (dk_at dksJ6_linkNodeAtEnd_1 6 rfl rfl)
theorem dJ6_linkNodeAtEnd_31 : decode cJ6_linkNodeAtEnd 31 = .ok (.aload_n 2, 1) := dk_44 (dk_at dksJ6_linkNodeAtEnd_1 7 rfl rfl)
theorem dJ6_linkNodeAtEnd_32 : decode cJ6_linkNodeAtEnd 32 = .ok (.putfield 14, 3) := dk_181 0 14 (dk_at dksJ6_linkNodeAtEnd_1 8 rfl rfl)
theorem dJ6_linkNodeAtEnd_35 : decode cJ6_linkNodeAtEnd 35 = .ok (.aload_n 2, 1) := dk_44 (dk_at dksJ6_linkNodeAtEnd_1 11 rfl rfl)
theorem dJ6_linkNodeAtEnd_36 : decode cJ6_linkNodeAtEnd 36 = .ok (.aload_n 1, 1) := dk_43 (dk_at dksJ6_linkNodeAtEnd_1 12 rfl rfl)
theorem dJ6_linkNodeAtEnd_37 : decode cJ6_linkNodeAtEnd 37 = .ok (.putfield 19, 3) := dk_181 0 19 (dk_at dksJ6_linkNodeAtEnd_1 13 rfl rfl)
theorem dJ6_linkNodeAtEnd_40 : decode cJ6_linkNodeAtEnd 40 = .ok (.goto 35, 3) := dk_167 0 35 (dk_at dksJ6_linkNodeAtEnd_1 16 rfl rfl)
theorem dJ6_linkNodeAtEnd_43 : decode cJ6_linkNodeAtEnd 43 = .ok (.aload_n 0, 1) := dk_42 (dk_at dksJ6_linkNodeAtEnd_1 19 rfl rfl)
theorem dJ6_linkNodeAtEnd_44 : decode cJ6_linkNodeAtEnd 44 = .ok (.getfield 11, 3) := dk_180 0 11 (dk_at dksJ6_linkNodeAtEnd_1 20 rfl rfl)
theorem dJ6_linkNodeAtEnd_47 : decode cJ6_linkNodeAtEnd 47 = .ok (.astore_n 2, 1) := dk_77 (dk_at dksJ6_linkNodeAtEnd_1 23 rfl rfl)
theorem dJ6_linkNodeAtEnd_48 : decode cJ6_linkNodeAtEnd 48 = .ok (.aload_n 0, 1) := dk_42 (dk_at dksJ6_linkNodeAtEnd_2 0 rfl rfl)
theorem dJ6_linkNodeAtEnd_49 : decode cJ6_linkNodeAtEnd 49 = .ok (.aload_n 1, 1) := dk_43 (dk_at dksJ6_linkNodeAtEnd_2 1 rfl rfl)
theorem dJ6_linkNodeAtEnd_50 : decode cJ6_linkNodeAtEnd 50 = .ok (.putfield 11, 3) := dk_181 0 11 (dk_at dksJ6_linkNodeAtEnd_2 2 rfl rfl)
theorem dJ6_linkNodeAtEnd_53 : decode cJ6_linkNodeAtEnd 53 = .ok (.aload_n 2, 1) := dk_44 (dk_at dksJ6_linkNodeAtEnd_2 5 rfl rfl)
theorem dJ6_linkNodeAtEnd_54 : decode cJ6_linkNodeAtEnd 54 = .ok (.ifnonnull 11, 3) := dk_199 0 11 (dk_at dksJ6_linkNodeAtEnd_2 6 rfl rfl)
theorem dJ6_linkNodeAtEnd_57 : decode cJ6_linkNodeAtEnd 57 = .ok (.aload_n 0, 1) := dk_42 (dk_at dksJ6_linkNodeAtEnd_2 9 rfl rfl)
theorem dJ6_linkNodeAtEnd_58 : decode cJ6_linkNodeAtEnd 58 = .ok (.aload_n 1, 1) := dk_43 (dk_at dksJ6_linkNodeAtEnd_2 10 rfl rfl)
theorem dJ6_linkNodeAtEnd_59 : decode cJ6_linkNodeAtEnd 59 = .ok (.putfield 7, 3) := dk_181 0 7 (dk_at dksJ6_linkNodeAtEnd_2 11 rfl rfl)
theorem dJ6_linkNodeAtEnd_62 : decode cJ6_linkNodeAtEnd 62 = .ok (.goto 13, 3) := dk_167 0 13 (dk_at dksJ6_linkNodeAtEnd_2 14 rfl rfl)
theorem dJ6_linkNodeAtEnd_65 : decode cJ6_linkNodeAtEnd 65 = .ok (.aload_n 1, 1) := dk_43 (dk_at dksJ6_linkNodeAtEnd_2 17 rfl rfl)
theorem dJ6_linkNodeAtEnd_66 : decode cJ6_linkNodeAtEnd 66 = .ok (.aload_n 2, 1) := dk_44 (dk_at dksJ6_linkNodeAtEnd_2 18 rfl rfl)
theorem dJ6_linkNodeAtEnd_67 : decode cJ6_linkNodeAtEnd 67 = .ok (.putfield 19, 3) := dk_181 0 19 (dk_at dksJ6_linkNodeAtEnd_2 19 rfl rfl)
theorem dJ6_linkNodeAtEnd_70 : decode cJ6_linkNodeAtEnd 70 = .ok (.aload_n 2, 1) := dk_44 (dk_at dksJ6_linkNodeAtEnd_2 22 rfl rfl)
theorem dJ6_linkNodeAtEnd_71 : decode cJ6_linkNodeAtEnd 71 = .ok (.aload_n 1, 1) := dk_43 (dk_at dksJ6_linkNodeAtEnd_2 23 rfl rfl)
theorem dJ6_linkNodeAtEnd_72 : decode cJ6_linkNodeAtEnd 72 = .ok (.putfield 14, 3) := dk_181 0 14 (dk_at dksJ6_linkNodeAtEnd_3 0 rfl rfl)
theorem dJ6_linkNodeAtEnd_75 : decode cJ6_linkNodeAtEnd 75 = .ok (.return_, 1) := dk_177 (dk_at dksJ6_linkNodeAtEnd_3 3 rfl rfl)
abbrev cJ6_newTreeNode : ByteArray := prog_71_method_6_code
def yJ6_newTreeNode : MethodName := ⟨RJ6, "newTreeNode", "(ILjava/lang/Object;Ljava/lang/Object;Ljava/util/HashMap$Node;)Ljava/util/HashMap$TreeNode;"⟩
def dkwJ6_newTreeNode_0 : List UInt8 := [187, 0, 50, 89, 27, 44, 45, 25, 4, 183, 0, 52, 58, 5, 42, 25, 5, 182, 0, 32, 25, 5, 176]
abbrev dktJ6_newTreeNode_0 : List UInt8 := dkwJ6_newTreeNode_0 ++ []
theorem dksJ6_newTreeNode_0 : cJ6_newTreeNode.data.toList.drop 0 = dktJ6_newTreeNode_0 := by decide +kernel
theorem dJ6_newTreeNode_0 : decode cJ6_newTreeNode 0 = .ok (.new 50, 3) := dk_187 0 50 (dk_at dksJ6_newTreeNode_0 0 rfl rfl)
theorem dJ6_newTreeNode_3 : decode cJ6_newTreeNode 3 = .ok (.dup, 1) := dk_89 (dk_at dksJ6_newTreeNode_0 3 rfl rfl)
theorem dJ6_newTreeNode_4 : decode cJ6_newTreeNode 4 = .ok (.iload_n 1, 1) := dk_27 (dk_at dksJ6_newTreeNode_0 4 rfl rfl)
theorem dJ6_newTreeNode_5 : decode cJ6_newTreeNode 5 = .ok (.aload_n 2, 1) := dk_44 (dk_at dksJ6_newTreeNode_0 5 rfl rfl)
theorem dJ6_newTreeNode_6 : decode cJ6_newTreeNode 6 = .ok (.aload_n 3, 1) := dk_45 (dk_at dksJ6_newTreeNode_0 6 rfl rfl)
theorem dJ6_newTreeNode_7 : decode cJ6_newTreeNode 7 = .ok (.aload 4, 2) := dk_25 4 (dk_at dksJ6_newTreeNode_0 7 rfl rfl)
theorem dJ6_newTreeNode_9 : decode cJ6_newTreeNode 9 = .ok (.invokespecial 52, 3) := dk_183 0 52 (dk_at dksJ6_newTreeNode_0 9 rfl rfl)
theorem dJ6_newTreeNode_12 : decode cJ6_newTreeNode 12 = .ok (.astore 5, 2) := dk_58 5 (dk_at dksJ6_newTreeNode_0 12 rfl rfl)
theorem dJ6_newTreeNode_14 : decode cJ6_newTreeNode 14 = .ok (.aload_n 0, 1) := dk_42 (dk_at dksJ6_newTreeNode_0 14 rfl rfl)
theorem dJ6_newTreeNode_15 : decode cJ6_newTreeNode 15 = .ok (.aload 5, 2) := dk_25 5 (dk_at dksJ6_newTreeNode_0 15 rfl rfl)
theorem dJ6_newTreeNode_17 : decode cJ6_newTreeNode 17 = .ok (.invokevirtual 32, 3) := dk_182 0 32 (dk_at dksJ6_newTreeNode_0 17 rfl rfl)
theorem dJ6_newTreeNode_20 : decode cJ6_newTreeNode 20 = .ok (.aload 5, 2) := dk_25 5 (dk_at dksJ6_newTreeNode_0 20 rfl rfl)
theorem dJ6_newTreeNode_22 : decode cJ6_newTreeNode 22 = .ok (.areturn, 1) := dk_176 (dk_at dksJ6_newTreeNode_0 22 rfl rfl)
abbrev cJ6_replacementTreeNode : ByteArray := prog_71_method_7_code
def yJ6_replacementTreeNode : MethodName := ⟨RJ6, "replacementTreeNode", "(Ljava/util/HashMap$Node;Ljava/util/HashMap$Node;)Ljava/util/HashMap$TreeNode;"⟩
def dkwJ6_replacementTreeNode_1 : List UInt8 := [183, 0, 52, 58, 4, 42, 45, 25, 4, 182, 0, 46, 25, 4, 176]
abbrev dktJ6_replacementTreeNode_1 : List UInt8 := dkwJ6_replacementTreeNode_1 ++ []
def dkwJ6_replacementTreeNode_0 : List UInt8 := [43, 192, 0, 15, 78, 187, 0, 50, 89, 45, 180, 0, 36, 45, 180, 0, 39, 45, 180, 0, 43, 44]
abbrev dktJ6_replacementTreeNode_0 : List UInt8 := dkwJ6_replacementTreeNode_0 ++ dktJ6_replacementTreeNode_1
theorem dksJ6_replacementTreeNode_0 : cJ6_replacementTreeNode.data.toList.drop 0 = dktJ6_replacementTreeNode_0 := by decide +kernel
theorem dksJ6_replacementTreeNode_1 : cJ6_replacementTreeNode.data.toList.drop 22 = dktJ6_replacementTreeNode_1 := dk_seg dksJ6_replacementTreeNode_0 22 rfl rfl
theorem dJ6_replacementTreeNode_0 : decode cJ6_replacementTreeNode 0 = .ok (.aload_n 1, 1) := dk_43 (dk_at dksJ6_replacementTreeNode_0 0 rfl rfl)
theorem dJ6_replacementTreeNode_1 : decode cJ6_replacementTreeNode 1 = .ok (.checkcast 15, 3) := dk_192 0 15 (dk_at dksJ6_replacementTreeNode_0 1 rfl rfl)
theorem dJ6_replacementTreeNode_4 : decode cJ6_replacementTreeNode 4 = .ok (.astore_n 3, 1) := dk_78 (dk_at dksJ6_replacementTreeNode_0 4 rfl rfl)
theorem dJ6_replacementTreeNode_5 : decode cJ6_replacementTreeNode 5 = .ok (.new 50, 3) := dk_187 0 50 (dk_at dksJ6_replacementTreeNode_0 5 rfl rfl)
theorem dJ6_replacementTreeNode_8 : decode cJ6_replacementTreeNode 8 = .ok (.dup, 1) := dk_89 (dk_at dksJ6_replacementTreeNode_0 8 rfl rfl)
theorem dJ6_replacementTreeNode_9 : decode cJ6_replacementTreeNode 9 = .ok (.aload_n 3, 1) := dk_45 (dk_at dksJ6_replacementTreeNode_0 9 rfl rfl)
theorem dJ6_replacementTreeNode_10 : decode cJ6_replacementTreeNode 10 = .ok (.getfield 36, 3) := dk_180 0 36 (dk_at dksJ6_replacementTreeNode_0 10 rfl rfl)
theorem dJ6_replacementTreeNode_13 : decode cJ6_replacementTreeNode 13 = .ok (.aload_n 3, 1) := dk_45 (dk_at dksJ6_replacementTreeNode_0 13 rfl rfl)
theorem dJ6_replacementTreeNode_14 : decode cJ6_replacementTreeNode 14 = .ok (.getfield 39, 3) := dk_180 0 39 (dk_at dksJ6_replacementTreeNode_0 14 rfl rfl)
theorem dJ6_replacementTreeNode_17 : decode cJ6_replacementTreeNode 17 = .ok (.aload_n 3, 1) := dk_45 (dk_at dksJ6_replacementTreeNode_0 17 rfl rfl)
theorem dJ6_replacementTreeNode_18 : decode cJ6_replacementTreeNode 18 = .ok (.getfield 43, 3) := dk_180 0 43 (dk_at dksJ6_replacementTreeNode_0 18 rfl rfl)
theorem dJ6_replacementTreeNode_21 : decode cJ6_replacementTreeNode 21 = .ok (.aload_n 2, 1) := dk_44 (dk_at dksJ6_replacementTreeNode_0 21 rfl rfl)
theorem dJ6_replacementTreeNode_22 : decode cJ6_replacementTreeNode 22 = .ok (.invokespecial 52, 3) := dk_183 0 52 (dk_at dksJ6_replacementTreeNode_1 0 rfl rfl)
theorem dJ6_replacementTreeNode_25 : decode cJ6_replacementTreeNode 25 = .ok (.astore 4, 2) := dk_58 4 (dk_at dksJ6_replacementTreeNode_1 3 rfl rfl)
theorem dJ6_replacementTreeNode_27 : decode cJ6_replacementTreeNode 27 = .ok (.aload_n 0, 1) := dk_42 (dk_at dksJ6_replacementTreeNode_1 5 rfl rfl)
theorem dJ6_replacementTreeNode_28 : decode cJ6_replacementTreeNode 28 = .ok (.aload_n 3, 1) := dk_45 (dk_at dksJ6_replacementTreeNode_1 6 rfl rfl)
theorem dJ6_replacementTreeNode_29 : decode cJ6_replacementTreeNode 29 = .ok (.aload 4, 2) := dk_25 4 (dk_at dksJ6_replacementTreeNode_1 7 rfl rfl)
theorem dJ6_replacementTreeNode_31 : decode cJ6_replacementTreeNode 31 = .ok (.invokevirtual 46, 3) := dk_182 0 46 (dk_at dksJ6_replacementTreeNode_1 9 rfl rfl)
theorem dJ6_replacementTreeNode_34 : decode cJ6_replacementTreeNode 34 = .ok (.aload 4, 2) := dk_25 4 (dk_at dksJ6_replacementTreeNode_1 12 rfl rfl)
theorem dJ6_replacementTreeNode_36 : decode cJ6_replacementTreeNode 36 = .ok (.areturn, 1) := dk_176 (dk_at dksJ6_replacementTreeNode_1 14 rfl rfl)
abbrev cJ6_afterNodeAccess : ByteArray := prog_71_method_10_code
def yJ6_afterNodeAccess : MethodName := ⟨RJ6, "afterNodeAccess", "(Ljava/util/HashMap$Node;)V"⟩
def dkwJ6_afterNodeAccess_11 : List UInt8 := [181, 0, 7, 42, 89, 180, 0, 68, 4, 96, 181, 0, 68, 177]
abbrev dktJ6_afterNodeAccess_11 : List UInt8 := dkwJ6_afterNodeAccess_11 ++ []
def dkwJ6_afterNodeAccess_10 : List UInt8 := [25, 4, 181, 0, 11, 167, 0, 15, 25, 4, 45, 181, 0, 14, 45, 25, 4, 181, 0, 19, 42, 25, 4]
abbrev dktJ6_afterNodeAccess_10 : List UInt8 := dkwJ6_afterNodeAccess_10 ++ dktJ6_afterNodeAccess_11
def dkwJ6_afterNodeAccess_9 : List UInt8 := [25, 5, 198, 0, 13, 25, 5, 25, 6, 181, 0, 14, 167, 0, 6, 25, 6, 78, 45, 199, 0, 12, 42]
abbrev dktJ6_afterNodeAccess_9 : List UInt8 := dkwJ6_afterNodeAccess_9 ++ dktJ6_afterNodeAccess_10
def dkwJ6_afterNodeAccess_8 : List UInt8 := [181, 0, 19, 25, 6, 199, 0, 12, 42, 25, 5, 181, 0, 11, 167, 0, 10, 25, 6, 25, 5, 181, 0, 19]
abbrev dktJ6_afterNodeAccess_8 : List UInt8 := dkwJ6_afterNodeAccess_8 ++ dktJ6_afterNodeAccess_9
def dkwJ6_afterNodeAccess_7 : List UInt8 := [43, 192, 0, 15, 58, 4, 25, 4, 180, 0, 19, 58, 5, 25, 4, 180, 0, 14, 58, 6, 25, 4, 1]
abbrev dktJ6_afterNodeAccess_7 : List UInt8 := dkwJ6_afterNodeAccess_7 ++ dktJ6_afterNodeAccess_8
def dkwJ6_afterNodeAccess_6 : List UInt8 := [181, 0, 68, 167, 0, 127, 42, 180, 0, 1, 4, 160, 0, 119, 42, 180, 0, 7, 89, 78, 43, 165, 0, 109]
abbrev dktJ6_afterNodeAccess_6 : List UInt8 := dkwJ6_afterNodeAccess_6 ++ dktJ6_afterNodeAccess_7
def dkwJ6_afterNodeAccess_5 : List UInt8 := [181, 0, 19, 44, 25, 4, 181, 0, 14, 42, 25, 4, 181, 0, 11, 42, 89, 180, 0, 68, 4, 96]
abbrev dktJ6_afterNodeAccess_5 : List UInt8 := dkwJ6_afterNodeAccess_5 ++ dktJ6_afterNodeAccess_6
def dkwJ6_afterNodeAccess_4 : List UInt8 := [167, 0, 6, 25, 5, 77, 44, 199, 0, 12, 42, 25, 4, 181, 0, 7, 167, 0, 15, 25, 4, 44]
abbrev dktJ6_afterNodeAccess_4 : List UInt8 := dkwJ6_afterNodeAccess_4 ++ dktJ6_afterNodeAccess_5
def dkwJ6_afterNodeAccess_3 : List UInt8 := [167, 0, 10, 25, 5, 25, 6, 181, 0, 14, 25, 6, 198, 0, 13, 25, 6, 25, 5, 181, 0, 19]
abbrev dktJ6_afterNodeAccess_3 : List UInt8 := dkwJ6_afterNodeAccess_3 ++ dktJ6_afterNodeAccess_4
def dkwJ6_afterNodeAccess_2 : List UInt8 := [180, 0, 14, 58, 6, 25, 4, 1, 181, 0, 14, 25, 5, 199, 0, 12, 42, 25, 6, 181, 0, 7]
abbrev dktJ6_afterNodeAccess_2 : List UInt8 := dkwJ6_afterNodeAccess_2 ++ dktJ6_afterNodeAccess_3
def dkwJ6_afterNodeAccess_1 : List UInt8 := [180, 0, 11, 89, 77, 43, 165, 0, 112, 43, 192, 0, 15, 58, 4, 25, 4, 180, 0, 19, 58, 5, 25, 4]
abbrev dktJ6_afterNodeAccess_1 : List UInt8 := dkwJ6_afterNodeAccess_1 ++ dktJ6_afterNodeAccess_2
def dkwJ6_afterNodeAccess_0 : List UInt8 := [42, 180, 0, 1, 5, 159, 0, 17, 42, 180, 0, 1, 154, 0, 129, 42, 180, 0, 64, 153, 0, 122, 42]
abbrev dktJ6_afterNodeAccess_0 : List UInt8 := dkwJ6_afterNodeAccess_0 ++ dktJ6_afterNodeAccess_1
theorem dksJ6_afterNodeAccess_0 : cJ6_afterNodeAccess.data.toList.drop 0 = dktJ6_afterNodeAccess_0 := by decide +kernel
theorem dksJ6_afterNodeAccess_1 : cJ6_afterNodeAccess.data.toList.drop 23 = dktJ6_afterNodeAccess_1 := dk_seg dksJ6_afterNodeAccess_0 23 rfl rfl
theorem dksJ6_afterNodeAccess_2 : cJ6_afterNodeAccess.data.toList.drop 47 = dktJ6_afterNodeAccess_2 := dk_seg dksJ6_afterNodeAccess_1 24 rfl rfl
theorem dksJ6_afterNodeAccess_3 : cJ6_afterNodeAccess.data.toList.drop 69 = dktJ6_afterNodeAccess_3 := dk_seg dksJ6_afterNodeAccess_2 22 rfl rfl
theorem dksJ6_afterNodeAccess_4 : cJ6_afterNodeAccess.data.toList.drop 91 = dktJ6_afterNodeAccess_4 := dk_seg dksJ6_afterNodeAccess_3 22 rfl rfl
theorem dksJ6_afterNodeAccess_5 : cJ6_afterNodeAccess.data.toList.drop 113 = dktJ6_afterNodeAccess_5 := dk_seg dksJ6_afterNodeAccess_4 22 rfl rfl
theorem dksJ6_afterNodeAccess_6 : cJ6_afterNodeAccess.data.toList.drop 135 = dktJ6_afterNodeAccess_6 := dk_seg dksJ6_afterNodeAccess_5 22 rfl rfl
theorem dksJ6_afterNodeAccess_7 : cJ6_afterNodeAccess.data.toList.drop 159 = dktJ6_afterNodeAccess_7 := dk_seg dksJ6_afterNodeAccess_6 24 rfl rfl
theorem dksJ6_afterNodeAccess_8 : cJ6_afterNodeAccess.data.toList.drop 182 = dktJ6_afterNodeAccess_8 := dk_seg dksJ6_afterNodeAccess_7 23 rfl rfl
theorem dksJ6_afterNodeAccess_9 : cJ6_afterNodeAccess.data.toList.drop 206 = dktJ6_afterNodeAccess_9 := dk_seg dksJ6_afterNodeAccess_8 24 rfl rfl
theorem dksJ6_afterNodeAccess_10 : cJ6_afterNodeAccess.data.toList.drop 229 = dktJ6_afterNodeAccess_10 := dk_seg dksJ6_afterNodeAccess_9 23 rfl rfl
theorem dksJ6_afterNodeAccess_11 : cJ6_afterNodeAccess.data.toList.drop 252 = dktJ6_afterNodeAccess_11 := dk_seg dksJ6_afterNodeAccess_10 23 rfl rfl
theorem dJ6_afterNodeAccess_0 : decode cJ6_afterNodeAccess 0 = .ok (.aload_n 0, 1) := dk_42 (dk_at dksJ6_afterNodeAccess_0 0 rfl rfl)
theorem dJ6_afterNodeAccess_1 : decode cJ6_afterNodeAccess 1 = .ok (.getfield 1, 3) := dk_180 0 1 (dk_at dksJ6_afterNodeAccess_0 1 rfl rfl)
theorem dJ6_afterNodeAccess_4 : decode cJ6_afterNodeAccess 4 = .ok (.iconst 2, 1) := dk_5 (dk_at dksJ6_afterNodeAccess_0 4 rfl rfl)
theorem dJ6_afterNodeAccess_5 : decode cJ6_afterNodeAccess 5 = .ok (.if_icmp .eq 17, 3) := dk_159 0 17 (dk_at dksJ6_afterNodeAccess_0 5 rfl rfl)
theorem dJ6_afterNodeAccess_8 : decode cJ6_afterNodeAccess 8 = .ok (.aload_n 0, 1) := dk_42 (dk_at dksJ6_afterNodeAccess_0 8 rfl rfl)
theorem dJ6_afterNodeAccess_9 : decode cJ6_afterNodeAccess 9 = .ok (.getfield 1, 3) := dk_180 0 1 (dk_at dksJ6_afterNodeAccess_0 9 rfl rfl)
theorem dJ6_afterNodeAccess_12 : decode cJ6_afterNodeAccess 12 = .ok (.ifCond .ne 129, 3) := dk_154 0 129 (dk_at dksJ6_afterNodeAccess_0 12 rfl rfl)
theorem dJ6_afterNodeAccess_15 : decode cJ6_afterNodeAccess 15 = .ok (.aload_n 0, 1) := dk_42 (dk_at dksJ6_afterNodeAccess_0 15 rfl rfl)
theorem dJ6_afterNodeAccess_16 : decode cJ6_afterNodeAccess 16 = .ok (.getfield 64, 3) := dk_180 0 64 (dk_at dksJ6_afterNodeAccess_0 16 rfl rfl)
theorem dJ6_afterNodeAccess_19 : decode cJ6_afterNodeAccess 19 = .ok (.ifCond .eq 122, 3) := dk_153 0 122 (dk_at dksJ6_afterNodeAccess_0 19 rfl rfl)
theorem dJ6_afterNodeAccess_22 : decode cJ6_afterNodeAccess 22 = .ok (.aload_n 0, 1) := dk_42 (dk_at dksJ6_afterNodeAccess_0 22 rfl rfl)
theorem dJ6_afterNodeAccess_23 : decode cJ6_afterNodeAccess 23 = .ok (.getfield 11, 3) := dk_180 0 11 (dk_at dksJ6_afterNodeAccess_1 0 rfl rfl)
theorem dJ6_afterNodeAccess_26 : decode cJ6_afterNodeAccess 26 = .ok (.dup, 1) := dk_89 (dk_at dksJ6_afterNodeAccess_1 3 rfl rfl)
theorem dJ6_afterNodeAccess_27 : decode cJ6_afterNodeAccess 27 = .ok (.astore_n 2, 1) := dk_77 (dk_at dksJ6_afterNodeAccess_1 4 rfl rfl)
theorem dJ6_afterNodeAccess_28 : decode cJ6_afterNodeAccess 28 = .ok (.aload_n 1, 1) := dk_43 (dk_at dksJ6_afterNodeAccess_1 5 rfl rfl)
theorem dJ6_afterNodeAccess_29 : decode cJ6_afterNodeAccess 29 = .ok (.if_acmp .eq 112, 3) := dk_165 0 112 (dk_at dksJ6_afterNodeAccess_1 6 rfl rfl)
theorem dJ6_afterNodeAccess_32 : decode cJ6_afterNodeAccess 32 = .ok (.aload_n 1, 1) := dk_43 (dk_at dksJ6_afterNodeAccess_1 9 rfl rfl)
theorem dJ6_afterNodeAccess_33 : decode cJ6_afterNodeAccess 33 = .ok (.checkcast 15, 3) := dk_192 0 15 (dk_at dksJ6_afterNodeAccess_1 10 rfl rfl)
theorem dJ6_afterNodeAccess_36 : decode cJ6_afterNodeAccess 36 = .ok (.astore 4, 2) := dk_58 4 (dk_at dksJ6_afterNodeAccess_1 13 rfl rfl)
theorem dJ6_afterNodeAccess_38 : decode cJ6_afterNodeAccess 38 = .ok (.aload 4, 2) := dk_25 4 (dk_at dksJ6_afterNodeAccess_1 15 rfl rfl)
theorem dJ6_afterNodeAccess_40 : decode cJ6_afterNodeAccess 40 = .ok (.getfield 19, 3) := dk_180 0 19 (dk_at dksJ6_afterNodeAccess_1 17 rfl rfl)
theorem dJ6_afterNodeAccess_43 : decode cJ6_afterNodeAccess 43 = .ok (.astore 5, 2) := dk_58 5 (dk_at dksJ6_afterNodeAccess_1 20 rfl rfl)
theorem dJ6_afterNodeAccess_45 : decode cJ6_afterNodeAccess 45 = .ok (.aload 4, 2) := dk_25 4 (dk_at dksJ6_afterNodeAccess_1 22 rfl rfl)
theorem dJ6_afterNodeAccess_47 : decode cJ6_afterNodeAccess 47 = .ok (.getfield 14, 3) := dk_180 0 14 (dk_at dksJ6_afterNodeAccess_2 0 rfl rfl)
theorem dJ6_afterNodeAccess_50 : decode cJ6_afterNodeAccess 50 = .ok (.astore 6, 2) := dk_58 6 (dk_at dksJ6_afterNodeAccess_2 3 rfl rfl)
theorem dJ6_afterNodeAccess_52 : decode cJ6_afterNodeAccess 52 = .ok (.aload 4, 2) := dk_25 4 (dk_at dksJ6_afterNodeAccess_2 5 rfl rfl)
theorem dJ6_afterNodeAccess_54 : decode cJ6_afterNodeAccess 54 = .ok (.aconst_null, 1) := dk_1 (dk_at dksJ6_afterNodeAccess_2 7 rfl rfl)
theorem dJ6_afterNodeAccess_55 : decode cJ6_afterNodeAccess 55 = .ok (.putfield 14, 3) := dk_181 0 14 (dk_at dksJ6_afterNodeAccess_2 8 rfl rfl)
theorem dJ6_afterNodeAccess_58 : decode cJ6_afterNodeAccess 58 = .ok (.aload 5, 2) := dk_25 5 (dk_at dksJ6_afterNodeAccess_2 11 rfl rfl)
theorem dJ6_afterNodeAccess_60 : decode cJ6_afterNodeAccess 60 = .ok (.ifnonnull 12, 3) := dk_199 0 12 (dk_at dksJ6_afterNodeAccess_2 13 rfl rfl)
theorem dJ6_afterNodeAccess_63 : decode cJ6_afterNodeAccess 63 = .ok (.aload_n 0, 1) := dk_42 (dk_at dksJ6_afterNodeAccess_2 16 rfl rfl)
theorem dJ6_afterNodeAccess_64 : decode cJ6_afterNodeAccess 64 = .ok (.aload 6, 2) := dk_25 6 (dk_at dksJ6_afterNodeAccess_2 17 rfl rfl)
theorem dJ6_afterNodeAccess_66 : decode cJ6_afterNodeAccess 66 = .ok (.putfield 7, 3) := dk_181 0 7 (dk_at dksJ6_afterNodeAccess_2 19 rfl rfl)
theorem dJ6_afterNodeAccess_69 : decode cJ6_afterNodeAccess 69 = .ok (.goto 10, 3) := dk_167 0 10 (dk_at dksJ6_afterNodeAccess_3 0 rfl rfl)
theorem dJ6_afterNodeAccess_72 : decode cJ6_afterNodeAccess 72 = .ok (.aload 5, 2) := dk_25 5 (dk_at dksJ6_afterNodeAccess_3 3 rfl rfl)
theorem dJ6_afterNodeAccess_74 : decode cJ6_afterNodeAccess 74 = .ok (.aload 6, 2) := dk_25 6 (dk_at dksJ6_afterNodeAccess_3 5 rfl rfl)
theorem dJ6_afterNodeAccess_76 : decode cJ6_afterNodeAccess 76 = .ok (.putfield 14, 3) := dk_181 0 14 (dk_at dksJ6_afterNodeAccess_3 7 rfl rfl)
theorem dJ6_afterNodeAccess_79 : decode cJ6_afterNodeAccess 79 = .ok (.aload 6, 2) := dk_25 6 (dk_at dksJ6_afterNodeAccess_3 10 rfl rfl)
theorem dJ6_afterNodeAccess_81 : decode cJ6_afterNodeAccess 81 = .ok (.ifnull 13, 3) := dk_198 0 13 (dk_at dksJ6_afterNodeAccess_3 12 rfl rfl)
theorem dJ6_afterNodeAccess_84 : decode cJ6_afterNodeAccess 84 = .ok (.aload 6, 2) := dk_25 6 (dk_at dksJ6_afterNodeAccess_3 15 rfl rfl)
theorem dJ6_afterNodeAccess_86 : decode cJ6_afterNodeAccess 86 = .ok (.aload 5, 2) := dk_25 5 (dk_at dksJ6_afterNodeAccess_3 17 rfl rfl)
theorem dJ6_afterNodeAccess_88 : decode cJ6_afterNodeAccess 88 = .ok (.putfield 19, 3) := dk_181 0 19 (dk_at dksJ6_afterNodeAccess_3 19 rfl rfl)
theorem dJ6_afterNodeAccess_91 : decode cJ6_afterNodeAccess 91 = .ok (.goto 6, 3) := dk_167 0 6 (dk_at dksJ6_afterNodeAccess_4 0 rfl rfl)
theorem dJ6_afterNodeAccess_94 : decode cJ6_afterNodeAccess 94 = .ok (.aload 5, 2) := dk_25 5 (dk_at dksJ6_afterNodeAccess_4 3 rfl rfl)
theorem dJ6_afterNodeAccess_96 : decode cJ6_afterNodeAccess 96 = .ok (.astore_n 2, 1) := dk_77 (dk_at dksJ6_afterNodeAccess_4 5 rfl rfl)
theorem dJ6_afterNodeAccess_97 : decode cJ6_afterNodeAccess 97 = .ok (.aload_n 2, 1) := dk_44 (dk_at dksJ6_afterNodeAccess_4 6 rfl rfl)
theorem dJ6_afterNodeAccess_98 : decode cJ6_afterNodeAccess 98 = .ok (.ifnonnull 12, 3) := dk_199 0 12 (dk_at dksJ6_afterNodeAccess_4 7 rfl rfl)
theorem dJ6_afterNodeAccess_101 : decode cJ6_afterNodeAccess 101 = .ok (.aload_n 0, 1) := dk_42 (dk_at dksJ6_afterNodeAccess_4 10 rfl rfl)
theorem dJ6_afterNodeAccess_102 : decode cJ6_afterNodeAccess 102 = .ok (.aload 4, 2) := dk_25 4 (dk_at dksJ6_afterNodeAccess_4 11 rfl rfl)
theorem dJ6_afterNodeAccess_104 : decode cJ6_afterNodeAccess 104 = .ok (.putfield 7, 3) := dk_181 0 7 (dk_at dksJ6_afterNodeAccess_4 13 rfl rfl)
theorem dJ6_afterNodeAccess_107 : decode cJ6_afterNodeAccess 107 = .ok (.goto 15, 3) := dk_167 0 15 (dk_at dksJ6_afterNodeAccess_4 16 rfl rfl)
theorem dJ6_afterNodeAccess_110 : decode cJ6_afterNodeAccess 110 = .ok (.aload 4, 2) := dk_25 4 (dk_at dksJ6_afterNodeAccess_4 19 rfl rfl)
theorem dJ6_afterNodeAccess_112 : decode cJ6_afterNodeAccess 112 = .ok (.aload_n 2, 1) := dk_44 (dk_at dksJ6_afterNodeAccess_4 21 rfl rfl)
theorem dJ6_afterNodeAccess_113 : decode cJ6_afterNodeAccess 113 = .ok (.putfield 19, 3) := dk_181 0 19 (dk_at dksJ6_afterNodeAccess_5 0 rfl rfl)
theorem dJ6_afterNodeAccess_116 : decode cJ6_afterNodeAccess 116 = .ok (.aload_n 2, 1) := dk_44 (dk_at dksJ6_afterNodeAccess_5 3 rfl rfl)
theorem dJ6_afterNodeAccess_117 : decode cJ6_afterNodeAccess 117 = .ok (.aload 4, 2) := dk_25 4 (dk_at dksJ6_afterNodeAccess_5 4 rfl rfl)
theorem dJ6_afterNodeAccess_119 : decode cJ6_afterNodeAccess 119 = .ok (.putfield 14, 3) := dk_181 0 14 (dk_at dksJ6_afterNodeAccess_5 6 rfl rfl)
theorem dJ6_afterNodeAccess_122 : decode cJ6_afterNodeAccess 122 = .ok (.aload_n 0, 1) := dk_42 (dk_at dksJ6_afterNodeAccess_5 9 rfl rfl)
theorem dJ6_afterNodeAccess_123 : decode cJ6_afterNodeAccess 123 = .ok (.aload 4, 2) := dk_25 4 (dk_at dksJ6_afterNodeAccess_5 10 rfl rfl)
theorem dJ6_afterNodeAccess_125 : decode cJ6_afterNodeAccess 125 = .ok (.putfield 11, 3) := dk_181 0 11 (dk_at dksJ6_afterNodeAccess_5 12 rfl rfl)
theorem dJ6_afterNodeAccess_128 : decode cJ6_afterNodeAccess 128 = .ok (.aload_n 0, 1) := dk_42 (dk_at dksJ6_afterNodeAccess_5 15 rfl rfl)
theorem dJ6_afterNodeAccess_129 : decode cJ6_afterNodeAccess 129 = .ok (.dup, 1) := dk_89 (dk_at dksJ6_afterNodeAccess_5 16 rfl rfl)
theorem dJ6_afterNodeAccess_130 : decode cJ6_afterNodeAccess 130 = .ok (.getfield 68, 3) := dk_180 0 68 (dk_at dksJ6_afterNodeAccess_5 17 rfl rfl)
theorem dJ6_afterNodeAccess_133 : decode cJ6_afterNodeAccess 133 = .ok (.iconst 1, 1) := dk_4 (dk_at dksJ6_afterNodeAccess_5 20 rfl rfl)
theorem dJ6_afterNodeAccess_134 : decode cJ6_afterNodeAccess 134 = .ok (.iadd, 1) := dk_96 (dk_at dksJ6_afterNodeAccess_5 21 rfl rfl)
theorem dJ6_afterNodeAccess_135 : decode cJ6_afterNodeAccess 135 = .ok (.putfield 68, 3) := dk_181 0 68 (dk_at dksJ6_afterNodeAccess_6 0 rfl rfl)
theorem dJ6_afterNodeAccess_138 : decode cJ6_afterNodeAccess 138 = .ok (.goto 127, 3) := dk_167 0 127 (dk_at dksJ6_afterNodeAccess_6 3 rfl rfl)
theorem dJ6_afterNodeAccess_141 : decode cJ6_afterNodeAccess 141 = .ok (.aload_n 0, 1) := dk_42 (dk_at dksJ6_afterNodeAccess_6 6 rfl rfl)
theorem dJ6_afterNodeAccess_142 : decode cJ6_afterNodeAccess 142 = .ok (.getfield 1, 3) := dk_180 0 1 (dk_at dksJ6_afterNodeAccess_6 7 rfl rfl)
theorem dJ6_afterNodeAccess_145 : decode cJ6_afterNodeAccess 145 = .ok (.iconst 1, 1) := dk_4 (dk_at dksJ6_afterNodeAccess_6 10 rfl rfl)
theorem dJ6_afterNodeAccess_146 : decode cJ6_afterNodeAccess 146 = .ok (.if_icmp .ne 119, 3) := dk_160 0 119 (dk_at dksJ6_afterNodeAccess_6 11 rfl rfl)
theorem dJ6_afterNodeAccess_149 : decode cJ6_afterNodeAccess 149 = .ok (.aload_n 0, 1) := dk_42 (dk_at dksJ6_afterNodeAccess_6 14 rfl rfl)
theorem dJ6_afterNodeAccess_150 : decode cJ6_afterNodeAccess 150 = .ok (.getfield 7, 3) := dk_180 0 7 (dk_at dksJ6_afterNodeAccess_6 15 rfl rfl)
theorem dJ6_afterNodeAccess_153 : decode cJ6_afterNodeAccess 153 = .ok (.dup, 1) := dk_89 (dk_at dksJ6_afterNodeAccess_6 18 rfl rfl)
theorem dJ6_afterNodeAccess_154 : decode cJ6_afterNodeAccess 154 = .ok (.astore_n 3, 1) := dk_78 (dk_at dksJ6_afterNodeAccess_6 19 rfl rfl)
theorem dJ6_afterNodeAccess_155 : decode cJ6_afterNodeAccess 155 = .ok (.aload_n 1, 1) := dk_43 (dk_at dksJ6_afterNodeAccess_6 20 rfl rfl)
theorem dJ6_afterNodeAccess_156 : decode cJ6_afterNodeAccess 156 = .ok (.if_acmp .eq 109, 3) := dk_165 0 109 (dk_at dksJ6_afterNodeAccess_6 21 rfl rfl)
theorem dJ6_afterNodeAccess_159 : decode cJ6_afterNodeAccess 159 = .ok (.aload_n 1, 1) := dk_43 (dk_at dksJ6_afterNodeAccess_7 0 rfl rfl)
theorem dJ6_afterNodeAccess_160 : decode cJ6_afterNodeAccess 160 = .ok (.checkcast 15, 3) := dk_192 0 15 (dk_at dksJ6_afterNodeAccess_7 1 rfl rfl)
theorem dJ6_afterNodeAccess_163 : decode cJ6_afterNodeAccess 163 = .ok (.astore 4, 2) := dk_58 4 (dk_at dksJ6_afterNodeAccess_7 4 rfl rfl)
theorem dJ6_afterNodeAccess_165 : decode cJ6_afterNodeAccess 165 = .ok (.aload 4, 2) := dk_25 4 (dk_at dksJ6_afterNodeAccess_7 6 rfl rfl)
theorem dJ6_afterNodeAccess_167 : decode cJ6_afterNodeAccess 167 = .ok (.getfield 19, 3) := dk_180 0 19 (dk_at dksJ6_afterNodeAccess_7 8 rfl rfl)
theorem dJ6_afterNodeAccess_170 : decode cJ6_afterNodeAccess 170 = .ok (.astore 5, 2) := dk_58 5 (dk_at dksJ6_afterNodeAccess_7 11 rfl rfl)
theorem dJ6_afterNodeAccess_172 : decode cJ6_afterNodeAccess 172 = .ok (.aload 4, 2) := dk_25 4 (dk_at dksJ6_afterNodeAccess_7 13 rfl rfl)
theorem dJ6_afterNodeAccess_174 : decode cJ6_afterNodeAccess 174 = .ok (.getfield 14, 3) := dk_180 0 14 (dk_at dksJ6_afterNodeAccess_7 15 rfl rfl)
theorem dJ6_afterNodeAccess_177 : decode cJ6_afterNodeAccess 177 = .ok (.astore 6, 2) := dk_58 6 (dk_at dksJ6_afterNodeAccess_7 18 rfl rfl)
theorem dJ6_afterNodeAccess_179 : decode cJ6_afterNodeAccess 179 = .ok (.aload 4, 2) := dk_25 4 (dk_at dksJ6_afterNodeAccess_7 20 rfl rfl)
theorem dJ6_afterNodeAccess_181 : decode cJ6_afterNodeAccess 181 = .ok (.aconst_null, 1) := dk_1 (dk_at dksJ6_afterNodeAccess_7 22 rfl rfl)
theorem dJ6_afterNodeAccess_182 : decode cJ6_afterNodeAccess 182 = .ok (.putfield 19, 3) := dk_181 0 19 (dk_at dksJ6_afterNodeAccess_8 0 rfl rfl)
theorem dJ6_afterNodeAccess_185 : decode cJ6_afterNodeAccess 185 = .ok (.aload 6, 2) := dk_25 6 (dk_at dksJ6_afterNodeAccess_8 3 rfl rfl)
theorem dJ6_afterNodeAccess_187 : decode cJ6_afterNodeAccess 187 = .ok (.ifnonnull 12, 3) := dk_199 0 12 (dk_at dksJ6_afterNodeAccess_8 5 rfl rfl)
theorem dJ6_afterNodeAccess_190 : decode cJ6_afterNodeAccess 190 = .ok (.aload_n 0, 1) := dk_42 (dk_at dksJ6_afterNodeAccess_8 8 rfl rfl)
theorem dJ6_afterNodeAccess_191 : decode cJ6_afterNodeAccess 191 = .ok (.aload 5, 2) := dk_25 5 (dk_at dksJ6_afterNodeAccess_8 9 rfl rfl)
theorem dJ6_afterNodeAccess_193 : decode cJ6_afterNodeAccess 193 = .ok (.putfield 11, 3) := dk_181 0 11 (dk_at dksJ6_afterNodeAccess_8 11 rfl rfl)
theorem dJ6_afterNodeAccess_196 : decode cJ6_afterNodeAccess 196 = .ok (.goto 10, 3) := dk_167 0 10 (dk_at dksJ6_afterNodeAccess_8 14 rfl rfl)
theorem dJ6_afterNodeAccess_199 : decode cJ6_afterNodeAccess 199 = .ok (.aload 6, 2) := dk_25 6 (dk_at dksJ6_afterNodeAccess_8 17 rfl rfl)
theorem dJ6_afterNodeAccess_201 : decode cJ6_afterNodeAccess 201 = .ok (.aload 5, 2) := dk_25 5 (dk_at dksJ6_afterNodeAccess_8 19 rfl rfl)
theorem dJ6_afterNodeAccess_203 : decode cJ6_afterNodeAccess 203 = .ok (.putfield 19, 3) := dk_181 0 19 (dk_at dksJ6_afterNodeAccess_8 21 rfl rfl)
theorem dJ6_afterNodeAccess_206 : decode cJ6_afterNodeAccess 206 = .ok (.aload 5, 2) := dk_25 5 (dk_at dksJ6_afterNodeAccess_9 0 rfl rfl)
theorem dJ6_afterNodeAccess_208 : decode cJ6_afterNodeAccess 208 = .ok (.ifnull 13, 3) := dk_198 0 13 (dk_at dksJ6_afterNodeAccess_9 2 rfl rfl)
theorem dJ6_afterNodeAccess_211 : decode cJ6_afterNodeAccess 211 = .ok (.aload 5, 2) := dk_25 5 (dk_at dksJ6_afterNodeAccess_9 5 rfl rfl)
theorem dJ6_afterNodeAccess_213 : decode cJ6_afterNodeAccess 213 = .ok (.aload 6, 2) := dk_25 6 (dk_at dksJ6_afterNodeAccess_9 7 rfl rfl)
theorem dJ6_afterNodeAccess_215 : decode cJ6_afterNodeAccess 215 = .ok (.putfield 14, 3) := dk_181 0 14 (dk_at dksJ6_afterNodeAccess_9 9 rfl rfl)
theorem dJ6_afterNodeAccess_218 : decode cJ6_afterNodeAccess 218 = .ok (.goto 6, 3) := dk_167 0 6 (dk_at dksJ6_afterNodeAccess_9 12 rfl rfl)
theorem dJ6_afterNodeAccess_221 : decode cJ6_afterNodeAccess 221 = .ok (.aload 6, 2) := dk_25 6 (dk_at dksJ6_afterNodeAccess_9 15 rfl rfl)
theorem dJ6_afterNodeAccess_223 : decode cJ6_afterNodeAccess 223 = .ok (.astore_n 3, 1) := dk_78 (dk_at dksJ6_afterNodeAccess_9 17 rfl rfl)
theorem dJ6_afterNodeAccess_224 : decode cJ6_afterNodeAccess 224 = .ok (.aload_n 3, 1) := dk_45 (dk_at dksJ6_afterNodeAccess_9 18 rfl rfl)
theorem dJ6_afterNodeAccess_225 : decode cJ6_afterNodeAccess 225 = .ok (.ifnonnull 12, 3) := dk_199 0 12 (dk_at dksJ6_afterNodeAccess_9 19 rfl rfl)
theorem dJ6_afterNodeAccess_228 : decode cJ6_afterNodeAccess 228 = .ok (.aload_n 0, 1) := dk_42 (dk_at dksJ6_afterNodeAccess_9 22 rfl rfl)
theorem dJ6_afterNodeAccess_229 : decode cJ6_afterNodeAccess 229 = .ok (.aload 4, 2) := dk_25 4 (dk_at dksJ6_afterNodeAccess_10 0 rfl rfl)
theorem dJ6_afterNodeAccess_231 : decode cJ6_afterNodeAccess 231 = .ok (.putfield 11, 3) := dk_181 0 11 (dk_at dksJ6_afterNodeAccess_10 2 rfl rfl)
theorem dJ6_afterNodeAccess_234 : decode cJ6_afterNodeAccess 234 = .ok (.goto 15, 3) := dk_167 0 15 (dk_at dksJ6_afterNodeAccess_10 5 rfl rfl)
theorem dJ6_afterNodeAccess_237 : decode cJ6_afterNodeAccess 237 = .ok (.aload 4, 2) := dk_25 4 (dk_at dksJ6_afterNodeAccess_10 8 rfl rfl)
theorem dJ6_afterNodeAccess_239 : decode cJ6_afterNodeAccess 239 = .ok (.aload_n 3, 1) := dk_45 (dk_at dksJ6_afterNodeAccess_10 10 rfl rfl)
theorem dJ6_afterNodeAccess_240 : decode cJ6_afterNodeAccess 240 = .ok (.putfield 14, 3) := dk_181 0 14 (dk_at dksJ6_afterNodeAccess_10 11 rfl rfl)
theorem dJ6_afterNodeAccess_243 : decode cJ6_afterNodeAccess 243 = .ok (.aload_n 3, 1) := dk_45 (dk_at dksJ6_afterNodeAccess_10 14 rfl rfl)
theorem dJ6_afterNodeAccess_244 : decode cJ6_afterNodeAccess 244 = .ok (.aload 4, 2) := dk_25 4 (dk_at dksJ6_afterNodeAccess_10 15 rfl rfl)
theorem dJ6_afterNodeAccess_246 : decode cJ6_afterNodeAccess 246 = .ok (.putfield 19, 3) := dk_181 0 19 (dk_at dksJ6_afterNodeAccess_10 17 rfl rfl)
theorem dJ6_afterNodeAccess_249 : decode cJ6_afterNodeAccess 249 = .ok (.aload_n 0, 1) := dk_42 (dk_at dksJ6_afterNodeAccess_10 20 rfl rfl)
theorem dJ6_afterNodeAccess_250 : decode cJ6_afterNodeAccess 250 = .ok (.aload 4, 2) := dk_25 4 (dk_at dksJ6_afterNodeAccess_10 21 rfl rfl)
theorem dJ6_afterNodeAccess_252 : decode cJ6_afterNodeAccess 252 = .ok (.putfield 7, 3) := dk_181 0 7 (dk_at dksJ6_afterNodeAccess_11 0 rfl rfl)
theorem dJ6_afterNodeAccess_255 : decode cJ6_afterNodeAccess 255 = .ok (.aload_n 0, 1) := dk_42 (dk_at dksJ6_afterNodeAccess_11 3 rfl rfl)
theorem dJ6_afterNodeAccess_256 : decode cJ6_afterNodeAccess 256 = .ok (.dup, 1) := dk_89 (dk_at dksJ6_afterNodeAccess_11 4 rfl rfl)
theorem dJ6_afterNodeAccess_257 : decode cJ6_afterNodeAccess 257 = .ok (.getfield 68, 3) := dk_180 0 68 (dk_at dksJ6_afterNodeAccess_11 5 rfl rfl)
theorem dJ6_afterNodeAccess_260 : decode cJ6_afterNodeAccess 260 = .ok (.iconst 1, 1) := dk_4 (dk_at dksJ6_afterNodeAccess_11 8 rfl rfl)
theorem dJ6_afterNodeAccess_261 : decode cJ6_afterNodeAccess 261 = .ok (.iadd, 1) := dk_96 (dk_at dksJ6_afterNodeAccess_11 9 rfl rfl)
theorem dJ6_afterNodeAccess_262 : decode cJ6_afterNodeAccess 262 = .ok (.putfield 68, 3) := dk_181 0 68 (dk_at dksJ6_afterNodeAccess_11 10 rfl rfl)
theorem dJ6_afterNodeAccess_265 : decode cJ6_afterNodeAccess 265 = .ok (.return_, 1) := dk_177 (dk_at dksJ6_afterNodeAccess_11 13 rfl rfl)
abbrev cJ6_afterNodeInsertion : ByteArray := prog_71_method_9_code
def yJ6_afterNodeInsertion : MethodName := ⟨RJ6, "afterNodeInsertion", "(Z)V"⟩
def dkwJ6_afterNodeInsertion_1 : List UInt8 := [180, 0, 39, 78, 42, 45, 184, 0, 57, 45, 1, 3, 4, 182, 0, 60, 87, 177]
abbrev dktJ6_afterNodeInsertion_1 : List UInt8 := dkwJ6_afterNodeInsertion_1 ++ []
def dkwJ6_afterNodeInsertion_0 : List UInt8 := [27, 153, 0, 38, 42, 180, 0, 7, 89, 77, 198, 0, 29, 42, 44, 182, 0, 53, 153, 0, 21, 44]
abbrev dktJ6_afterNodeInsertion_0 : List UInt8 := dkwJ6_afterNodeInsertion_0 ++ dktJ6_afterNodeInsertion_1
theorem dksJ6_afterNodeInsertion_0 : cJ6_afterNodeInsertion.data.toList.drop 0 = dktJ6_afterNodeInsertion_0 := by decide +kernel
theorem dksJ6_afterNodeInsertion_1 : cJ6_afterNodeInsertion.data.toList.drop 22 = dktJ6_afterNodeInsertion_1 := dk_seg dksJ6_afterNodeInsertion_0 22 rfl rfl
theorem dJ6_afterNodeInsertion_0 : decode cJ6_afterNodeInsertion 0 = .ok (.iload_n 1, 1) := dk_27 (dk_at dksJ6_afterNodeInsertion_0 0 rfl rfl)
theorem dJ6_afterNodeInsertion_1 : decode cJ6_afterNodeInsertion 1 = .ok (.ifCond .eq 38, 3) := dk_153 0 38 (dk_at dksJ6_afterNodeInsertion_0 1 rfl rfl)
theorem dJ6_afterNodeInsertion_4 : decode cJ6_afterNodeInsertion 4 = .ok (.aload_n 0, 1) := dk_42 (dk_at dksJ6_afterNodeInsertion_0 4 rfl rfl)
theorem dJ6_afterNodeInsertion_5 : decode cJ6_afterNodeInsertion 5 = .ok (.getfield 7, 3) := dk_180 0 7 (dk_at dksJ6_afterNodeInsertion_0 5 rfl rfl)
theorem dJ6_afterNodeInsertion_8 : decode cJ6_afterNodeInsertion 8 = .ok (.dup, 1) := dk_89 (dk_at dksJ6_afterNodeInsertion_0 8 rfl rfl)
theorem dJ6_afterNodeInsertion_9 : decode cJ6_afterNodeInsertion 9 = .ok (.astore_n 2, 1) := dk_77 (dk_at dksJ6_afterNodeInsertion_0 9 rfl rfl)
theorem dJ6_afterNodeInsertion_10 : decode cJ6_afterNodeInsertion 10 = .ok (.ifnull 29, 3) := dk_198 0 29 (dk_at dksJ6_afterNodeInsertion_0 10 rfl rfl)
theorem dJ6_afterNodeInsertion_13 : decode cJ6_afterNodeInsertion 13 = .ok (.aload_n 0, 1) := dk_42 (dk_at dksJ6_afterNodeInsertion_0 13 rfl rfl)
theorem dJ6_afterNodeInsertion_14 : decode cJ6_afterNodeInsertion 14 = .ok (.aload_n 2, 1) := dk_44 (dk_at dksJ6_afterNodeInsertion_0 14 rfl rfl)
theorem dJ6_afterNodeInsertion_15 : decode cJ6_afterNodeInsertion 15 = .ok (.invokevirtual 53, 3) := dk_182 0 53 (dk_at dksJ6_afterNodeInsertion_0 15 rfl rfl)
theorem dJ6_afterNodeInsertion_18 : decode cJ6_afterNodeInsertion 18 = .ok (.ifCond .eq 21, 3) := dk_153 0 21 (dk_at dksJ6_afterNodeInsertion_0 18 rfl rfl)
theorem dJ6_afterNodeInsertion_21 : decode cJ6_afterNodeInsertion 21 = .ok (.aload_n 2, 1) := dk_44 (dk_at dksJ6_afterNodeInsertion_0 21 rfl rfl)
theorem dJ6_afterNodeInsertion_22 : decode cJ6_afterNodeInsertion 22 = .ok (.getfield 39, 3) := dk_180 0 39 (dk_at dksJ6_afterNodeInsertion_1 0 rfl rfl)
theorem dJ6_afterNodeInsertion_25 : decode cJ6_afterNodeInsertion 25 = .ok (.astore_n 3, 1) := dk_78 (dk_at dksJ6_afterNodeInsertion_1 3 rfl rfl)
theorem dJ6_afterNodeInsertion_26 : decode cJ6_afterNodeInsertion 26 = .ok (.aload_n 0, 1) := dk_42 (dk_at dksJ6_afterNodeInsertion_1 4 rfl rfl)
theorem dJ6_afterNodeInsertion_27 : decode cJ6_afterNodeInsertion 27 = .ok (.aload_n 3, 1) := dk_45 (dk_at dksJ6_afterNodeInsertion_1 5 rfl rfl)
theorem dJ6_afterNodeInsertion_28 : decode cJ6_afterNodeInsertion 28 = .ok (.invokestatic 57, 3) := dk_184 0 57 (dk_at dksJ6_afterNodeInsertion_1 6 rfl rfl)
theorem dJ6_afterNodeInsertion_31 : decode cJ6_afterNodeInsertion 31 = .ok (.aload_n 3, 1) := dk_45 (dk_at dksJ6_afterNodeInsertion_1 9 rfl rfl)
theorem dJ6_afterNodeInsertion_32 : decode cJ6_afterNodeInsertion 32 = .ok (.aconst_null, 1) := dk_1 (dk_at dksJ6_afterNodeInsertion_1 10 rfl rfl)
theorem dJ6_afterNodeInsertion_33 : decode cJ6_afterNodeInsertion 33 = .ok (.iconst 0, 1) := dk_3 (dk_at dksJ6_afterNodeInsertion_1 11 rfl rfl)
theorem dJ6_afterNodeInsertion_34 : decode cJ6_afterNodeInsertion 34 = .ok (.iconst 1, 1) := dk_4 (dk_at dksJ6_afterNodeInsertion_1 12 rfl rfl)
theorem dJ6_afterNodeInsertion_35 : decode cJ6_afterNodeInsertion 35 = .ok (.invokevirtual 60, 3) := dk_182 0 60 (dk_at dksJ6_afterNodeInsertion_1 13 rfl rfl)
theorem dJ6_afterNodeInsertion_38 : decode cJ6_afterNodeInsertion 38 = .ok (.pop, 1) := dk_87 (dk_at dksJ6_afterNodeInsertion_1 16 rfl rfl)
theorem dJ6_afterNodeInsertion_39 : decode cJ6_afterNodeInsertion 39 = .ok (.return_, 1) := dk_177 (dk_at dksJ6_afterNodeInsertion_1 17 rfl rfl)
abbrev cJ6_removeEldestEntry : ByteArray := prog_71_method_23_code
def yJ6_removeEldestEntry : MethodName := ⟨RJ6, "removeEldestEntry", "(Ljava/util/Map$Entry;)Z"⟩
theorem dJ6_removeEldestEntry_0 : decode cJ6_removeEldestEntry 0 = .ok (.iconst 0, 1) := by decide +kernel
theorem dJ6_removeEldestEntry_1 : decode cJ6_removeEldestEntry 1 = .ok (.ireturn, 1) := by decide +kernel
abbrev cJ6_afterNodeRemoval : ByteArray := prog_71_method_8_code
def yJ6_afterNodeRemoval : MethodName := ⟨RJ6, "afterNodeRemoval", "(Ljava/util/HashMap$Node;)V"⟩
def dkwJ6_afterNodeRemoval_2 : List UInt8 := [199, 0, 11, 42, 45, 181, 0, 11, 167, 0, 9, 25, 4, 45, 181, 0, 19, 177]
abbrev dktJ6_afterNodeRemoval_2 : List UInt8 := dkwJ6_afterNodeRemoval_2 ++ []
def dkwJ6_afterNodeRemoval_1 : List UInt8 := [181, 0, 19, 45, 199, 0, 12, 42, 25, 4, 181, 0, 7, 167, 0, 9, 45, 25, 4, 181, 0, 14, 25, 4]
abbrev dktJ6_afterNodeRemoval_1 : List UInt8 := dkwJ6_afterNodeRemoval_1 ++ dktJ6_afterNodeRemoval_2
def dkwJ6_afterNodeRemoval_0 : List UInt8 := [43, 192, 0, 15, 77, 44, 180, 0, 19, 78, 44, 180, 0, 14, 58, 4, 44, 44, 1, 90, 181, 0, 14]
abbrev dktJ6_afterNodeRemoval_0 : List UInt8 := dkwJ6_afterNodeRemoval_0 ++ dktJ6_afterNodeRemoval_1
theorem dksJ6_afterNodeRemoval_0 : cJ6_afterNodeRemoval.data.toList.drop 0 = dktJ6_afterNodeRemoval_0 := by decide +kernel
theorem dksJ6_afterNodeRemoval_1 : cJ6_afterNodeRemoval.data.toList.drop 23 = dktJ6_afterNodeRemoval_1 := dk_seg dksJ6_afterNodeRemoval_0 23 rfl rfl
theorem dksJ6_afterNodeRemoval_2 : cJ6_afterNodeRemoval.data.toList.drop 47 = dktJ6_afterNodeRemoval_2 := dk_seg dksJ6_afterNodeRemoval_1 24 rfl rfl
theorem dJ6_afterNodeRemoval_0 : decode cJ6_afterNodeRemoval 0 = .ok (.aload_n 1, 1) := dk_43 (dk_at dksJ6_afterNodeRemoval_0 0 rfl rfl)
theorem dJ6_afterNodeRemoval_1 : decode cJ6_afterNodeRemoval 1 = .ok (.checkcast 15, 3) := dk_192 0 15 (dk_at dksJ6_afterNodeRemoval_0 1 rfl rfl)
theorem dJ6_afterNodeRemoval_4 : decode cJ6_afterNodeRemoval 4 = .ok (.astore_n 2, 1) := dk_77 (dk_at dksJ6_afterNodeRemoval_0 4 rfl rfl)
theorem dJ6_afterNodeRemoval_5 : decode cJ6_afterNodeRemoval 5 = .ok (.aload_n 2, 1) := dk_44 (dk_at dksJ6_afterNodeRemoval_0 5 rfl rfl)
theorem dJ6_afterNodeRemoval_6 : decode cJ6_afterNodeRemoval 6 = .ok (.getfield 19, 3) := dk_180 0 19 (dk_at dksJ6_afterNodeRemoval_0 6 rfl rfl)
theorem dJ6_afterNodeRemoval_9 : decode cJ6_afterNodeRemoval 9 = .ok (.astore_n 3, 1) := dk_78 (dk_at dksJ6_afterNodeRemoval_0 9 rfl rfl)
theorem dJ6_afterNodeRemoval_10 : decode cJ6_afterNodeRemoval 10 = .ok (.aload_n 2, 1) := dk_44 (dk_at dksJ6_afterNodeRemoval_0 10 rfl rfl)
theorem dJ6_afterNodeRemoval_11 : decode cJ6_afterNodeRemoval 11 = .ok (.getfield 14, 3) := dk_180 0 14 (dk_at dksJ6_afterNodeRemoval_0 11 rfl rfl)
theorem dJ6_afterNodeRemoval_14 : decode cJ6_afterNodeRemoval 14 = .ok (.astore 4, 2) := dk_58 4 (dk_at dksJ6_afterNodeRemoval_0 14 rfl rfl)
theorem dJ6_afterNodeRemoval_16 : decode cJ6_afterNodeRemoval 16 = .ok (.aload_n 2, 1) := dk_44 (dk_at dksJ6_afterNodeRemoval_0 16 rfl rfl)
theorem dJ6_afterNodeRemoval_17 : decode cJ6_afterNodeRemoval 17 = .ok (.aload_n 2, 1) := dk_44 (dk_at dksJ6_afterNodeRemoval_0 17 rfl rfl)
theorem dJ6_afterNodeRemoval_18 : decode cJ6_afterNodeRemoval 18 = .ok (.aconst_null, 1) := dk_1 (dk_at dksJ6_afterNodeRemoval_0 18 rfl rfl)
theorem dJ6_afterNodeRemoval_19 : decode cJ6_afterNodeRemoval 19 = .ok (.dup_x1, 1) := dk_90 (dk_at dksJ6_afterNodeRemoval_0 19 rfl rfl)
theorem dJ6_afterNodeRemoval_20 : decode cJ6_afterNodeRemoval 20 = .ok (.putfield 14, 3) := dk_181 0 14 (dk_at dksJ6_afterNodeRemoval_0 20 rfl rfl)
theorem dJ6_afterNodeRemoval_23 : decode cJ6_afterNodeRemoval 23 = .ok (.putfield 19, 3) := dk_181 0 19 (dk_at dksJ6_afterNodeRemoval_1 0 rfl rfl)
theorem dJ6_afterNodeRemoval_26 : decode cJ6_afterNodeRemoval 26 = .ok (.aload_n 3, 1) := dk_45 (dk_at dksJ6_afterNodeRemoval_1 3 rfl rfl)
theorem dJ6_afterNodeRemoval_27 : decode cJ6_afterNodeRemoval 27 = .ok (.ifnonnull 12, 3) := dk_199 0 12 (dk_at dksJ6_afterNodeRemoval_1 4 rfl rfl)
theorem dJ6_afterNodeRemoval_30 : decode cJ6_afterNodeRemoval 30 = .ok (.aload_n 0, 1) := dk_42 (dk_at dksJ6_afterNodeRemoval_1 7 rfl rfl)
theorem dJ6_afterNodeRemoval_31 : decode cJ6_afterNodeRemoval 31 = .ok (.aload 4, 2) := dk_25 4 (dk_at dksJ6_afterNodeRemoval_1 8 rfl rfl)
theorem dJ6_afterNodeRemoval_33 : decode cJ6_afterNodeRemoval 33 = .ok (.putfield 7, 3) := dk_181 0 7 (dk_at dksJ6_afterNodeRemoval_1 10 rfl rfl)
theorem dJ6_afterNodeRemoval_36 : decode cJ6_afterNodeRemoval 36 = .ok (.goto 9, 3) := dk_167 0 9 (dk_at dksJ6_afterNodeRemoval_1 13 rfl rfl)
theorem dJ6_afterNodeRemoval_39 : decode cJ6_afterNodeRemoval 39 = .ok (.aload_n 3, 1) := dk_45 (dk_at dksJ6_afterNodeRemoval_1 16 rfl rfl)
theorem dJ6_afterNodeRemoval_40 : decode cJ6_afterNodeRemoval 40 = .ok (.aload 4, 2) := dk_25 4 (dk_at dksJ6_afterNodeRemoval_1 17 rfl rfl)
theorem dJ6_afterNodeRemoval_42 : decode cJ6_afterNodeRemoval 42 = .ok (.putfield 14, 3) := dk_181 0 14 (dk_at dksJ6_afterNodeRemoval_1 19 rfl rfl)
theorem dJ6_afterNodeRemoval_45 : decode cJ6_afterNodeRemoval 45 = .ok (.aload 4, 2) := dk_25 4 (dk_at dksJ6_afterNodeRemoval_1 22 rfl rfl)
theorem dJ6_afterNodeRemoval_47 : decode cJ6_afterNodeRemoval 47 = .ok (.ifnonnull 11, 3) := dk_199 0 11 (dk_at dksJ6_afterNodeRemoval_2 0 rfl rfl)
theorem dJ6_afterNodeRemoval_50 : decode cJ6_afterNodeRemoval 50 = .ok (.aload_n 0, 1) := dk_42 (dk_at dksJ6_afterNodeRemoval_2 3 rfl rfl)
theorem dJ6_afterNodeRemoval_51 : decode cJ6_afterNodeRemoval 51 = .ok (.aload_n 3, 1) := dk_45 (dk_at dksJ6_afterNodeRemoval_2 4 rfl rfl)
theorem dJ6_afterNodeRemoval_52 : decode cJ6_afterNodeRemoval 52 = .ok (.putfield 11, 3) := dk_181 0 11 (dk_at dksJ6_afterNodeRemoval_2 5 rfl rfl)
theorem dJ6_afterNodeRemoval_55 : decode cJ6_afterNodeRemoval 55 = .ok (.goto 9, 3) := dk_167 0 9 (dk_at dksJ6_afterNodeRemoval_2 8 rfl rfl)
theorem dJ6_afterNodeRemoval_58 : decode cJ6_afterNodeRemoval 58 = .ok (.aload 4, 2) := dk_25 4 (dk_at dksJ6_afterNodeRemoval_2 11 rfl rfl)
theorem dJ6_afterNodeRemoval_60 : decode cJ6_afterNodeRemoval 60 = .ok (.aload_n 3, 1) := dk_45 (dk_at dksJ6_afterNodeRemoval_2 13 rfl rfl)
theorem dJ6_afterNodeRemoval_61 : decode cJ6_afterNodeRemoval 61 = .ok (.putfield 19, 3) := dk_181 0 19 (dk_at dksJ6_afterNodeRemoval_2 14 rfl rfl)
theorem dJ6_afterNodeRemoval_64 : decode cJ6_afterNodeRemoval 64 = .ok (.return_, 1) := dk_177 (dk_at dksJ6_afterNodeRemoval_2 17 rfl rfl)
theorem q102 : (Jvm.Cond.initialized "java/util/LinkedHashMap") ∈ lw_all := lw_g (lw_at lw_m1 9 rfl) rfl
theorem q195 : (Jvm.Cond.instantiable "java/util/LinkedHashMap" (12 : Nat)) ∈ lw_all := lw_g (lw_at lw_m1 102 rfl) rfl
theorem q197 : (Jvm.Cond.instanceMethod ({ cls := "java/util/LinkedHashMap", name := "<init>", desc := "(IF)V" } : Jvm.MethodName)) ∈ lw_all := lw_g (lw_at lw_m1 104 rfl) rfl
theorem q198 : (Jvm.Cond.code ({ cls := "java/util/LinkedHashMap", name := "<init>", desc := "(IF)V" } : Jvm.MethodName) prog_71_method_14_code (3 : Nat) (Option.none : Option Jvm.ClassFile.FieldType)) ∈ lw_all := lw_g (lw_at lw_m1 105 rfl) rfl
theorem q199 : (Jvm.Cond.methodLink "java/util/LinkedHashMap" (81 : Nat) ({ cls := "java/util/HashMap", name := "<init>", desc := "(IF)V" } : Jvm.MethodName)) ∈ lw_all := lw_g (lw_at lw_m1 106 rfl) rfl
theorem q913 : (Jvm.Cond.selects "java/util/LinkedHashMap" ({ cls := "java/lang/Object", name := "getClass", desc := "()Ljava/lang/Class;" } : Jvm.MethodName) ({ cls := "java/lang/Object", name := "getClass", desc := "()Ljava/lang/Class;" } : Jvm.MethodName)) ∈ lw_all := lw_g (lw_at lw_m4 100 rfl) rfl
theorem q1038 : (Jvm.Cond.fieldLink "java/util/LinkedHashMap" (7 : Nat) "java/util/LinkedHashMap" "head" "Ljava/util/LinkedHashMap$Entry;") ∈ lw_all := lw_g (lw_at lw_m4 225 rfl) rfl
theorem q1041 : (Jvm.Cond.fieldLink "java/util/LinkedHashMap" (11 : Nat) "java/util/LinkedHashMap" "tail" "Ljava/util/LinkedHashMap$Entry;") ∈ lw_all := lw_g (lw_at lw_m4 228 rfl) rfl
theorem q1042 : (Jvm.Cond.fieldLink "java/util/LinkedHashMap" (64 : Nat) "java/util/LinkedHashMap" "accessOrder" "Z") ∈ lw_all := lw_g (lw_at lw_m4 229 rfl) rfl
theorem q1043 : (Jvm.Cond.fieldLink "java/util/LinkedHashMap" (1 : Nat) "java/util/LinkedHashMap" "putMode" "I") ∈ lw_all := lw_g (lw_at lw_m4 230 rfl) rfl
theorem q1050 : (Jvm.Cond.sameField "java/util/LinkedHashMap" "java/util/HashMap" "modCount" "I") ∈ lw_all := lw_g (lw_at lw_m4 237 rfl) rfl
theorem q1051 : (Jvm.Cond.fieldLink "java/util/LinkedHashMap" (68 : Nat) "java/util/LinkedHashMap" "modCount" "I") ∈ lw_all := lw_g (lw_at lw_m4 238 rfl) rfl
theorem q1057 : (Jvm.Cond.fieldLink "java/util/LinkedHashMap" (117 : Nat) "java/util/LinkedHashMap" "keySet" "Ljava/util/Set;") ∈ lw_all := lw_g (lw_at lw_m5 4 rfl) rfl
theorem q1058 : (Jvm.Cond.sameField "java/util/LinkedHashMap" "java/util/AbstractMap" "keySet" "Ljava/util/Set;") ∈ lw_all := lw_g (lw_at lw_m5 5 rfl) rfl
theorem q1059 : (Jvm.Cond.lays "java/util/LinkedHashMap" "java/util/LinkedHashMap" "head" "Ljava/util/LinkedHashMap$Entry;") ∈ lw_all := lw_g (lw_at lw_m5 6 rfl) rfl
theorem q1060 : (Jvm.Cond.soleField "java/util/LinkedHashMap" "head") ∈ lw_all := lw_g (lw_at lw_m5 7 rfl) rfl
theorem q1061 : (Jvm.Cond.lays "java/util/LinkedHashMap" "java/util/LinkedHashMap" "tail" "Ljava/util/LinkedHashMap$Entry;") ∈ lw_all := lw_g (lw_at lw_m5 8 rfl) rfl
theorem q1062 : (Jvm.Cond.soleField "java/util/LinkedHashMap" "tail") ∈ lw_all := lw_g (lw_at lw_m5 9 rfl) rfl
theorem q1063 : (Jvm.Cond.laysFinal "java/util/LinkedHashMap" "java/util/LinkedHashMap" "accessOrder" "Z") ∈ lw_all := lw_g (lw_at lw_m5 10 rfl) rfl
theorem q1064 : (Jvm.Cond.soleField "java/util/LinkedHashMap" "accessOrder") ∈ lw_all := lw_g (lw_at lw_m5 11 rfl) rfl
theorem q1065 : (Jvm.Cond.lays "java/util/LinkedHashMap" "java/util/LinkedHashMap" "putMode" "I") ∈ lw_all := lw_g (lw_at lw_m5 12 rfl) rfl
theorem q1066 : (Jvm.Cond.soleField "java/util/LinkedHashMap" "putMode") ∈ lw_all := lw_g (lw_at lw_m5 13 rfl) rfl
theorem q1067 : (Jvm.Cond.lays "java/util/LinkedHashMap" "java/util/HashMap" "table" "[Ljava/util/HashMap$Node;") ∈ lw_all := lw_g (lw_at lw_m5 14 rfl) rfl
theorem q1069 : (Jvm.Cond.lays "java/util/LinkedHashMap" "java/util/HashMap" "entrySet" "Ljava/util/Set;") ∈ lw_all := lw_g (lw_at lw_m5 16 rfl) rfl
theorem q1071 : (Jvm.Cond.lays "java/util/LinkedHashMap" "java/util/HashMap" "size" "I") ∈ lw_all := lw_g (lw_at lw_m5 18 rfl) rfl
theorem q1073 : (Jvm.Cond.lays "java/util/LinkedHashMap" "java/util/HashMap" "modCount" "I") ∈ lw_all := lw_g (lw_at lw_m5 20 rfl) rfl
theorem q1075 : (Jvm.Cond.lays "java/util/LinkedHashMap" "java/util/HashMap" "threshold" "I") ∈ lw_all := lw_g (lw_at lw_m5 22 rfl) rfl
theorem q1077 : (Jvm.Cond.laysFinal "java/util/LinkedHashMap" "java/util/HashMap" "loadFactor" "F") ∈ lw_all := lw_g (lw_at lw_m5 24 rfl) rfl
theorem q1079 : (Jvm.Cond.lays "java/util/LinkedHashMap" "java/util/AbstractMap" "keySet" "Ljava/util/Set;") ∈ lw_all := lw_g (lw_at lw_m5 26 rfl) rfl
theorem q1081 : (Jvm.Cond.lays "java/util/LinkedHashMap" "java/util/AbstractMap" "values" "Ljava/util/Collection;") ∈ lw_all := lw_g (lw_at lw_m5 28 rfl) rfl
theorem q1083 : (Jvm.Cond.superclass "java/util/LinkedHashMap" "java/util/HashMap") ∈ lw_all := lw_g (lw_at lw_m5 30 rfl) rfl
theorem q1397 : (Jvm.Cond.selects "java/util/LinkedHashMap" ({ cls := "java/util/HashMap", name := "keySet", desc := "()Ljava/util/Set;" } : Jvm.MethodName) ({ cls := "java/util/LinkedHashMap", name := "keySet", desc := "()Ljava/util/Set;" } : Jvm.MethodName)) ∈ lw_all := lw_g (lw_at lw_m6 104 rfl) rfl
theorem q1398 : (Jvm.Cond.instanceMethod ({ cls := "java/util/LinkedHashMap", name := "keySet", desc := "()Ljava/util/Set;" } : Jvm.MethodName)) ∈ lw_all := lw_g (lw_at lw_m6 105 rfl) rfl
theorem q1399 : (Jvm.Cond.code ({ cls := "java/util/LinkedHashMap", name := "keySet", desc := "()Ljava/util/Set;" } : Jvm.MethodName) prog_71_method_24_code (1 : Nat) (Option.some (Jvm.ClassFile.FieldType.object "java/util/Set"))) ∈ lw_all := lw_g (lw_at lw_m6 106 rfl) rfl
theorem q1400 : (Jvm.Cond.methodLink "java/util/LinkedHashMap" (113 : Nat) ({ cls := "java/util/LinkedHashMap", name := "sequencedKeySet", desc := "()Ljava/util/SequencedSet;" } : Jvm.MethodName)) ∈ lw_all := lw_g (lw_at lw_m6 107 rfl) rfl
theorem q1401 : (Jvm.Cond.instanceMethod ({ cls := "java/util/LinkedHashMap", name := "sequencedKeySet", desc := "()Ljava/util/SequencedSet;" } : Jvm.MethodName)) ∈ lw_all := lw_g (lw_at lw_m6 108 rfl) rfl
theorem q1402 : (Jvm.Cond.selects "java/util/LinkedHashMap" ({ cls := "java/util/LinkedHashMap", name := "sequencedKeySet", desc := "()Ljava/util/SequencedSet;" } : Jvm.MethodName) ({ cls := "java/util/LinkedHashMap", name := "sequencedKeySet", desc := "()Ljava/util/SequencedSet;" } : Jvm.MethodName)) ∈ lw_all := lw_g (lw_at lw_m6 109 rfl) rfl
theorem q1403 : (Jvm.Cond.code ({ cls := "java/util/LinkedHashMap", name := "sequencedKeySet", desc := "()Ljava/util/SequencedSet;" } : Jvm.MethodName) prog_71_method_25_code (3 : Nat) (Option.some (Jvm.ClassFile.FieldType.object "java/util/SequencedSet"))) ∈ lw_all := lw_g (lw_at lw_m6 110 rfl) rfl
theorem q1404 : (Jvm.Cond.classLink "java/util/LinkedHashMap" (121 : Nat) "java/util/LinkedHashMap$LinkedKeySet") ∈ lw_all := lw_g (lw_at lw_m6 111 rfl) rfl
theorem q1406 : (Jvm.Cond.methodLink "java/util/LinkedHashMap" (123 : Nat) ({ cls := "java/util/LinkedHashMap$LinkedKeySet", name := "<init>", desc := "(Ljava/util/LinkedHashMap;Z)V" } : Jvm.MethodName)) ∈ lw_all := lw_g (lw_at lw_m6 113 rfl) rfl
theorem q1417 : (Jvm.Cond.classLink "java/util/LinkedHashMap" (126 : Nat) "java/util/SequencedSet") ∈ lw_all := lw_g (lw_at lw_m6 124 rfl) rfl
theorem q1641 : (Jvm.Cond.selects "java/util/LinkedHashMap" ({ cls := "java/util/HashMap", name := "put", desc := "(Ljava/lang/Object;Ljava/lang/Object;)Ljava/lang/Object;" } : Jvm.MethodName) ({ cls := "java/util/HashMap", name := "put", desc := "(Ljava/lang/Object;Ljava/lang/Object;)Ljava/lang/Object;" } : Jvm.MethodName)) ∈ lw_all := lw_g (lw_at lw_m7 108 rfl) rfl
theorem q1745 : (Jvm.Cond.selects "java/util/LinkedHashMap" ({ cls := "java/util/HashMap", name := "putVal", desc := "(ILjava/lang/Object;Ljava/lang/Object;ZZ)Ljava/lang/Object;" } : Jvm.MethodName) ({ cls := "java/util/HashMap", name := "putVal", desc := "(ILjava/lang/Object;Ljava/lang/Object;ZZ)Ljava/lang/Object;" } : Jvm.MethodName)) ∈ lw_all := lw_g (lw_at lw_m7 212 rfl) rfl
theorem q1750 : (Jvm.Cond.selects "java/util/LinkedHashMap" ({ cls := "java/util/HashMap", name := "resize", desc := "()[Ljava/util/HashMap$Node;" } : Jvm.MethodName) ({ cls := "java/util/HashMap", name := "resize", desc := "()[Ljava/util/HashMap$Node;" } : Jvm.MethodName)) ∈ lw_all := lw_g (lw_at lw_m7 217 rfl) rfl
theorem q1769 : (Jvm.Cond.selects "java/util/LinkedHashMap" ({ cls := "java/util/HashMap", name := "replacementNode", desc := "(Ljava/util/HashMap$Node;Ljava/util/HashMap$Node;)Ljava/util/HashMap$Node;" } : Jvm.MethodName) ({ cls := "java/util/LinkedHashMap", name := "replacementNode", desc := "(Ljava/util/HashMap$Node;Ljava/util/HashMap$Node;)Ljava/util/HashMap$Node;" } : Jvm.MethodName)) ∈ lw_all := lw_g (lw_at lw_m7 236 rfl) rfl
theorem q1770 : (Jvm.Cond.instanceMethod ({ cls := "java/util/LinkedHashMap", name := "replacementNode", desc := "(Ljava/util/HashMap$Node;Ljava/util/HashMap$Node;)Ljava/util/HashMap$Node;" } : Jvm.MethodName)) ∈ lw_all := lw_g (lw_at lw_m7 237 rfl) rfl
theorem q1771 : (Jvm.Cond.code ({ cls := "java/util/LinkedHashMap", name := "replacementNode", desc := "(Ljava/util/HashMap$Node;Ljava/util/HashMap$Node;)Ljava/util/HashMap$Node;" } : Jvm.MethodName) prog_71_method_5_code (5 : Nat) (Option.some (Jvm.ClassFile.FieldType.object "java/util/HashMap$Node"))) ∈ lw_all := lw_g (lw_at lw_m7 238 rfl) rfl
theorem q1772 : (Jvm.Cond.classLink "java/util/LinkedHashMap" (15 : Nat) "java/util/LinkedHashMap$Entry") ∈ lw_all := lw_g (lw_at lw_m7 239 rfl) rfl
theorem q1774 : (Jvm.Cond.methodLink "java/util/LinkedHashMap" (28 : Nat) ({ cls := "java/util/LinkedHashMap$Entry", name := "<init>", desc := "(ILjava/lang/Object;Ljava/lang/Object;Ljava/util/HashMap$Node;)V" } : Jvm.MethodName)) ∈ lw_all := lw_g (lw_at lw_m8 1 rfl) rfl
theorem q1781 : (Jvm.Cond.fieldLink "java/util/LinkedHashMap" (19 : Nat) "java/util/LinkedHashMap$Entry" "before" "Ljava/util/LinkedHashMap$Entry;") ∈ lw_all := lw_g (lw_at lw_m8 8 rfl) rfl
theorem q1783 : (Jvm.Cond.fieldLink "java/util/LinkedHashMap" (14 : Nat) "java/util/LinkedHashMap$Entry" "after" "Ljava/util/LinkedHashMap$Entry;") ∈ lw_all := lw_g (lw_at lw_m8 10 rfl) rfl
theorem q1788 : (Jvm.Cond.fieldLink "java/util/LinkedHashMap" (36 : Nat) "java/util/LinkedHashMap$Entry" "hash" "I") ∈ lw_all := lw_g (lw_at lw_m8 15 rfl) rfl
theorem q1795 : (Jvm.Cond.fieldLink "java/util/LinkedHashMap" (39 : Nat) "java/util/LinkedHashMap$Entry" "key" "Ljava/lang/Object;") ∈ lw_all := lw_g (lw_at lw_m8 22 rfl) rfl
theorem q1799 : (Jvm.Cond.fieldLink "java/util/LinkedHashMap" (43 : Nat) "java/util/LinkedHashMap$Entry" "value" "Ljava/lang/Object;") ∈ lw_all := lw_g (lw_at lw_m8 26 rfl) rfl
theorem q1822 : (Jvm.Cond.methodLink "java/util/LinkedHashMap" (46 : Nat) ({ cls := "java/util/LinkedHashMap", name := "transferLinks", desc := "(Ljava/util/LinkedHashMap$Entry;Ljava/util/LinkedHashMap$Entry;)V" } : Jvm.MethodName)) ∈ lw_all := lw_g (lw_at lw_m8 49 rfl) rfl
theorem q1823 : (Jvm.Cond.privateMethod ({ cls := "java/util/LinkedHashMap", name := "transferLinks", desc := "(Ljava/util/LinkedHashMap$Entry;Ljava/util/LinkedHashMap$Entry;)V" } : Jvm.MethodName)) ∈ lw_tbl := lw_at lw_m8 50 rfl
theorem q1824 : (Jvm.Cond.instanceMethod ({ cls := "java/util/LinkedHashMap", name := "transferLinks", desc := "(Ljava/util/LinkedHashMap$Entry;Ljava/util/LinkedHashMap$Entry;)V" } : Jvm.MethodName)) ∈ lw_all := lw_g (lw_at lw_m8 51 rfl) rfl
theorem q1825 : (Jvm.Cond.code ({ cls := "java/util/LinkedHashMap", name := "transferLinks", desc := "(Ljava/util/LinkedHashMap$Entry;Ljava/util/LinkedHashMap$Entry;)V" } : Jvm.MethodName) prog_71_method_2_code (5 : Nat) (Option.none : Option Jvm.ClassFile.FieldType)) ∈ lw_all := lw_g (lw_at lw_m8 52 rfl) rfl
theorem q2049 : (Jvm.Cond.selects "java/util/LinkedHashMap" ({ cls := "java/util/HashMap", name := "newNode", desc := "(ILjava/lang/Object;Ljava/lang/Object;Ljava/util/HashMap$Node;)Ljava/util/HashMap$Node;" } : Jvm.MethodName) ({ cls := "java/util/LinkedHashMap", name := "newNode", desc := "(ILjava/lang/Object;Ljava/lang/Object;Ljava/util/HashMap$Node;)Ljava/util/HashMap$Node;" } : Jvm.MethodName)) ∈ lw_all := lw_g (lw_at lw_m9 36 rfl) rfl
theorem q2050 : (Jvm.Cond.instanceMethod ({ cls := "java/util/LinkedHashMap", name := "newNode", desc := "(ILjava/lang/Object;Ljava/lang/Object;Ljava/util/HashMap$Node;)Ljava/util/HashMap$Node;" } : Jvm.MethodName)) ∈ lw_all := lw_g (lw_at lw_m9 37 rfl) rfl
theorem q2051 : (Jvm.Cond.code ({ cls := "java/util/LinkedHashMap", name := "newNode", desc := "(ILjava/lang/Object;Ljava/lang/Object;Ljava/util/HashMap$Node;)Ljava/util/HashMap$Node;" } : Jvm.MethodName) prog_71_method_4_code (6 : Nat) (Option.some (Jvm.ClassFile.FieldType.object "java/util/HashMap$Node"))) ∈ lw_all := lw_g (lw_at lw_m9 38 rfl) rfl
theorem q2052 : (Jvm.Cond.methodLink "java/util/LinkedHashMap" (32 : Nat) ({ cls := "java/util/LinkedHashMap", name := "linkNodeAtEnd", desc := "(Ljava/util/LinkedHashMap$Entry;)V" } : Jvm.MethodName)) ∈ lw_all := lw_g (lw_at lw_m9 39 rfl) rfl
theorem q2053 : (Jvm.Cond.privateMethod ({ cls := "java/util/LinkedHashMap", name := "linkNodeAtEnd", desc := "(Ljava/util/LinkedHashMap$Entry;)V" } : Jvm.MethodName)) ∈ lw_tbl := lw_at lw_m9 40 rfl
theorem q2054 : (Jvm.Cond.instanceMethod ({ cls := "java/util/LinkedHashMap", name := "linkNodeAtEnd", desc := "(Ljava/util/LinkedHashMap$Entry;)V" } : Jvm.MethodName)) ∈ lw_all := lw_g (lw_at lw_m9 41 rfl) rfl
theorem q2055 : (Jvm.Cond.code ({ cls := "java/util/LinkedHashMap", name := "linkNodeAtEnd", desc := "(Ljava/util/LinkedHashMap$Entry;)V" } : Jvm.MethodName) prog_71_method_1_code (3 : Nat) (Option.none : Option Jvm.ClassFile.FieldType)) ∈ lw_all := lw_g (lw_at lw_m9 42 rfl) rfl
theorem q2121 : (Jvm.Cond.selects "java/util/LinkedHashMap" ({ cls := "java/util/HashMap", name := "newTreeNode", desc := "(ILjava/lang/Object;Ljava/lang/Object;Ljava/util/HashMap$Node;)Ljava/util/HashMap$TreeNode;" } : Jvm.MethodName) ({ cls := "java/util/LinkedHashMap", name := "newTreeNode", desc := "(ILjava/lang/Object;Ljava/lang/Object;Ljava/util/HashMap$Node;)Ljava/util/HashMap$TreeNode;" } : Jvm.MethodName)) ∈ lw_all := lw_g (lw_at lw_m9 108 rfl) rfl
theorem q2122 : (Jvm.Cond.instanceMethod ({ cls := "java/util/LinkedHashMap", name := "newTreeNode", desc := "(ILjava/lang/Object;Ljava/lang/Object;Ljava/util/HashMap$Node;)Ljava/util/HashMap$TreeNode;" } : Jvm.MethodName)) ∈ lw_all := lw_g (lw_at lw_m9 109 rfl) rfl
theorem q2123 : (Jvm.Cond.code ({ cls := "java/util/LinkedHashMap", name := "newTreeNode", desc := "(ILjava/lang/Object;Ljava/lang/Object;Ljava/util/HashMap$Node;)Ljava/util/HashMap$TreeNode;" } : Jvm.MethodName) prog_71_method_6_code (6 : Nat) (Option.some (Jvm.ClassFile.FieldType.object "java/util/HashMap$TreeNode"))) ∈ lw_all := lw_g (lw_at lw_m9 110 rfl) rfl
theorem q2124 : (Jvm.Cond.classLink "java/util/LinkedHashMap" (50 : Nat) "java/util/HashMap$TreeNode") ∈ lw_all := lw_g (lw_at lw_m9 111 rfl) rfl
theorem q2126 : (Jvm.Cond.methodLink "java/util/LinkedHashMap" (52 : Nat) ({ cls := "java/util/HashMap$TreeNode", name := "<init>", desc := "(ILjava/lang/Object;Ljava/lang/Object;Ljava/util/HashMap$Node;)V" } : Jvm.MethodName)) ∈ lw_all := lw_g (lw_at lw_m9 113 rfl) rfl
theorem q2157 : (Jvm.Cond.selects "java/util/LinkedHashMap" ({ cls := "java/util/HashMap", name := "treeifyBin", desc := "([Ljava/util/HashMap$Node;I)V" } : Jvm.MethodName) ({ cls := "java/util/HashMap", name := "treeifyBin", desc := "([Ljava/util/HashMap$Node;I)V" } : Jvm.MethodName)) ∈ lw_all := lw_g (lw_at lw_m9 144 rfl) rfl
theorem q2162 : (Jvm.Cond.selects "java/util/LinkedHashMap" ({ cls := "java/util/HashMap", name := "replacementTreeNode", desc := "(Ljava/util/HashMap$Node;Ljava/util/HashMap$Node;)Ljava/util/HashMap$TreeNode;" } : Jvm.MethodName) ({ cls := "java/util/LinkedHashMap", name := "replacementTreeNode", desc := "(Ljava/util/HashMap$Node;Ljava/util/HashMap$Node;)Ljava/util/HashMap$TreeNode;" } : Jvm.MethodName)) ∈ lw_all := lw_g (lw_at lw_m9 149 rfl) rfl
theorem q2163 : (Jvm.Cond.instanceMethod ({ cls := "java/util/LinkedHashMap", name := "replacementTreeNode", desc := "(Ljava/util/HashMap$Node;Ljava/util/HashMap$Node;)Ljava/util/HashMap$TreeNode;" } : Jvm.MethodName)) ∈ lw_all := lw_g (lw_at lw_m9 150 rfl) rfl
theorem q2164 : (Jvm.Cond.code ({ cls := "java/util/LinkedHashMap", name := "replacementTreeNode", desc := "(Ljava/util/HashMap$Node;Ljava/util/HashMap$Node;)Ljava/util/HashMap$TreeNode;" } : Jvm.MethodName) prog_71_method_7_code (5 : Nat) (Option.some (Jvm.ClassFile.FieldType.object "java/util/HashMap$TreeNode"))) ∈ lw_all := lw_g (lw_at lw_m9 151 rfl) rfl
theorem q2170 : (Jvm.Cond.selects "java/util/LinkedHashMap" ({ cls := "java/util/HashMap", name := "afterNodeAccess", desc := "(Ljava/util/HashMap$Node;)V" } : Jvm.MethodName) ({ cls := "java/util/LinkedHashMap", name := "afterNodeAccess", desc := "(Ljava/util/HashMap$Node;)V" } : Jvm.MethodName)) ∈ lw_all := lw_g (lw_at lw_m9 157 rfl) rfl
theorem q2171 : (Jvm.Cond.instanceMethod ({ cls := "java/util/LinkedHashMap", name := "afterNodeAccess", desc := "(Ljava/util/HashMap$Node;)V" } : Jvm.MethodName)) ∈ lw_all := lw_g (lw_at lw_m9 158 rfl) rfl
theorem q2172 : (Jvm.Cond.code ({ cls := "java/util/LinkedHashMap", name := "afterNodeAccess", desc := "(Ljava/util/HashMap$Node;)V" } : Jvm.MethodName) prog_71_method_10_code (7 : Nat) (Option.none : Option Jvm.ClassFile.FieldType)) ∈ lw_all := lw_g (lw_at lw_m9 159 rfl) rfl
theorem q2177 : (Jvm.Cond.selects "java/util/LinkedHashMap" ({ cls := "java/util/HashMap", name := "afterNodeInsertion", desc := "(Z)V" } : Jvm.MethodName) ({ cls := "java/util/LinkedHashMap", name := "afterNodeInsertion", desc := "(Z)V" } : Jvm.MethodName)) ∈ lw_all := lw_g (lw_at lw_m9 164 rfl) rfl
theorem q2178 : (Jvm.Cond.instanceMethod ({ cls := "java/util/LinkedHashMap", name := "afterNodeInsertion", desc := "(Z)V" } : Jvm.MethodName)) ∈ lw_all := lw_g (lw_at lw_m9 165 rfl) rfl
theorem q2179 : (Jvm.Cond.code ({ cls := "java/util/LinkedHashMap", name := "afterNodeInsertion", desc := "(Z)V" } : Jvm.MethodName) prog_71_method_9_code (4 : Nat) (Option.none : Option Jvm.ClassFile.FieldType)) ∈ lw_all := lw_g (lw_at lw_m9 166 rfl) rfl
theorem q2180 : (Jvm.Cond.methodLink "java/util/LinkedHashMap" (53 : Nat) ({ cls := "java/util/LinkedHashMap", name := "removeEldestEntry", desc := "(Ljava/util/Map$Entry;)Z" } : Jvm.MethodName)) ∈ lw_all := lw_g (lw_at lw_m9 167 rfl) rfl
theorem q2181 : (Jvm.Cond.instanceMethod ({ cls := "java/util/LinkedHashMap", name := "removeEldestEntry", desc := "(Ljava/util/Map$Entry;)Z" } : Jvm.MethodName)) ∈ lw_all := lw_g (lw_at lw_m9 168 rfl) rfl
theorem q2182 : (Jvm.Cond.selects "java/util/LinkedHashMap" ({ cls := "java/util/LinkedHashMap", name := "removeEldestEntry", desc := "(Ljava/util/Map$Entry;)Z" } : Jvm.MethodName) ({ cls := "java/util/LinkedHashMap", name := "removeEldestEntry", desc := "(Ljava/util/Map$Entry;)Z" } : Jvm.MethodName)) ∈ lw_all := lw_g (lw_at lw_m9 169 rfl) rfl
theorem q2183 : (Jvm.Cond.code ({ cls := "java/util/LinkedHashMap", name := "removeEldestEntry", desc := "(Ljava/util/Map$Entry;)Z" } : Jvm.MethodName) prog_71_method_23_code (2 : Nat) (Option.some Jvm.ClassFile.FieldType.boolean)) ∈ lw_all := lw_g (lw_at lw_m9 170 rfl) rfl
theorem q2440 : (Jvm.Cond.selects "java/util/LinkedHashMap" ({ cls := "java/util/HashMap", name := "containsKey", desc := "(Ljava/lang/Object;)Z" } : Jvm.MethodName) ({ cls := "java/util/HashMap", name := "containsKey", desc := "(Ljava/lang/Object;)Z" } : Jvm.MethodName)) ∈ lw_all := lw_g (lw_at lw_m10 187 rfl) rfl
theorem q2445 : (Jvm.Cond.selects "java/util/LinkedHashMap" ({ cls := "java/util/HashMap", name := "getNode", desc := "(Ljava/lang/Object;)Ljava/util/HashMap$Node;" } : Jvm.MethodName) ({ cls := "java/util/HashMap", name := "getNode", desc := "(Ljava/lang/Object;)Ljava/util/HashMap$Node;" } : Jvm.MethodName)) ∈ lw_all := lw_g (lw_at lw_m10 192 rfl) rfl
theorem q2474 : (Jvm.Cond.selects "java/util/LinkedHashMap" ({ cls := "java/util/HashMap", name := "remove", desc := "(Ljava/lang/Object;)Ljava/lang/Object;" } : Jvm.MethodName) ({ cls := "java/util/HashMap", name := "remove", desc := "(Ljava/lang/Object;)Ljava/lang/Object;" } : Jvm.MethodName)) ∈ lw_all := lw_g (lw_at lw_m10 221 rfl) rfl
theorem q2479 : (Jvm.Cond.selects "java/util/LinkedHashMap" ({ cls := "java/util/HashMap", name := "removeNode", desc := "(ILjava/lang/Object;Ljava/lang/Object;ZZ)Ljava/util/HashMap$Node;" } : Jvm.MethodName) ({ cls := "java/util/HashMap", name := "removeNode", desc := "(ILjava/lang/Object;Ljava/lang/Object;ZZ)Ljava/util/HashMap$Node;" } : Jvm.MethodName)) ∈ lw_all := lw_g (lw_at lw_m10 226 rfl) rfl
theorem q2491 : (Jvm.Cond.selects "java/util/LinkedHashMap" ({ cls := "java/util/HashMap", name := "afterNodeRemoval", desc := "(Ljava/util/HashMap$Node;)V" } : Jvm.MethodName) ({ cls := "java/util/LinkedHashMap", name := "afterNodeRemoval", desc := "(Ljava/util/HashMap$Node;)V" } : Jvm.MethodName)) ∈ lw_all := lw_g (lw_at lw_m10 238 rfl) rfl
theorem q2492 : (Jvm.Cond.instanceMethod ({ cls := "java/util/LinkedHashMap", name := "afterNodeRemoval", desc := "(Ljava/util/HashMap$Node;)V" } : Jvm.MethodName)) ∈ lw_all := lw_g (lw_at lw_m10 239 rfl) rfl
theorem q2493 : (Jvm.Cond.code ({ cls := "java/util/LinkedHashMap", name := "afterNodeRemoval", desc := "(Ljava/util/HashMap$Node;)V" } : Jvm.MethodName) prog_71_method_8_code (5 : Nat) (Option.none : Option Jvm.ClassFile.FieldType)) ∈ lw_all := lw_g (lw_at lw_m11 0 rfl) rfl
theorem q2976 : (Jvm.Cond.selects "java/util/LinkedHashMap" ({ cls := "java/util/HashMap", name := "size", desc := "()I" } : Jvm.MethodName) ({ cls := "java/util/HashMap", name := "size", desc := "()I" } : Jvm.MethodName)) ∈ lw_all := lw_g (lw_at lw_m13 3 rfl) rfl
theorem q3767 : (Jvm.Cond.castable "java/util/LinkedHashMap" "java/lang/Object") ∈ lw_tbl := lw_at lw_m16 74 rfl
theorem in_J6 : ∀ w ∈ wsJ60, w ∈ lw_all := lw_in wsJ60 [1067, 1069, 1071, 1073, 1075, 1077, 1079, 1081, 1059, 1061, 1063, 1065] (by decide +kernel) (by decide +kernel)
/-! java/lang/Throwable -/
set_option maxRecDepth 100000
def RJ7 : String := "java/lang/Throwable"
def TJ7 : u_T := fun k => match k with
  | 0 => ("java/lang/Throwable", "cause", "Ljava/lang/Throwable;", false)
  | 1 => ("java/lang/Throwable", "stackTrace", "[Ljava/lang/StackTraceElement;", false)
  | 2 => ("java/lang/Throwable", "suppressedExceptions", "Ljava/util/List;", false)
  | 3 => ("java/lang/Throwable", "detailMessage", "Ljava/lang/String;", false)
  | _ => ("java/lang/Throwable", "backtrace", "Ljava/lang/Object;", false)
def tyJ7 : Nat → FieldType := fun k => match k with
  | 0 => .object "java/lang/Throwable"
  | 1 => .array (.object "java/lang/StackTraceElement")
  | 2 => .object "java/util/List"
  | 3 => .object "java/lang/String"
  | _ => .object "java/lang/Object"
abbrev wsJ70 : List Cond := u_ws RJ7 TJ7 5
theorem nmJ7 : ∀ a, a < 5 → ∀ b, b < 5 → a ≠ b → (TJ7 a).2.1 ≠ (TJ7 b).2.1 := by decide +kernel
theorem tyJ7_ok : ∀ k, k < 5 → parseFieldDescriptor (TJ7 k).2.2.1 = some (tyJ7 k) := by decide +kernel
abbrev cJ7_init : ByteArray := prog_48_method_1_code
def yJ7_init : MethodName := ⟨RJ7, "<init>", "()V"⟩
abbrev cJ7_init_2 : ByteArray := prog_48_method_2_code
def yJ7_init_2 : MethodName := ⟨RJ7, "<init>", "(Ljava/lang/String;)V"⟩
abbrev cJ7_toString : ByteArray := prog_48_method_11_code
def yJ7_toString : MethodName := ⟨RJ7, "toString", "()Ljava/lang/String;"⟩
abbrev cJ7_getLocalizedMessage : ByteArray := prog_48_method_7_code
def yJ7_getLocalizedMessage : MethodName := ⟨RJ7, "getLocalizedMessage", "()Ljava/lang/String;"⟩
abbrev cJ7_getMessage : ByteArray := prog_48_method_6_code
def yJ7_getMessage : MethodName := ⟨RJ7, "getMessage", "()Ljava/lang/String;"⟩
abbrev cJ7_init_3 : ByteArray := prog_48_method_3_code
def yJ7_init_3 : MethodName := ⟨RJ7, "<init>", "(Ljava/lang/String;Ljava/lang/Throwable;)V"⟩
abbrev cJ7_init_4 : ByteArray := prog_48_method_5_code
def yJ7_init_4 : MethodName := ⟨RJ7, "<init>", "(Ljava/lang/String;Ljava/lang/Throwable;ZZ)V"⟩
theorem q103 : (Jvm.Cond.initialized "java/lang/Throwable") ∈ lw_all := lw_g (lw_at lw_m1 10 rfl) rfl
theorem q213 : (Jvm.Cond.declares ({ cls := "java/lang/Throwable", name := "<init>", desc := "()V" } : Jvm.MethodName)) ∈ lw_tbl := lw_at lw_m1 120 rfl
theorem q214 : (Jvm.Cond.declares ({ cls := "java/lang/Throwable", name := "<init>", desc := "(Ljava/lang/String;)V" } : Jvm.MethodName)) ∈ lw_tbl := lw_at lw_m1 121 rfl
theorem q218 : (Jvm.Cond.lays "java/lang/Throwable" "java/lang/Throwable" "cause" "Ljava/lang/Throwable;") ∈ lw_all := lw_g (lw_at lw_m1 125 rfl) rfl
theorem q220 : (Jvm.Cond.lays "java/lang/Throwable" "java/lang/Throwable" "stackTrace" "[Ljava/lang/StackTraceElement;") ∈ lw_all := lw_g (lw_at lw_m1 127 rfl) rfl
theorem q222 : (Jvm.Cond.lays "java/lang/Throwable" "java/lang/Throwable" "suppressedExceptions" "Ljava/util/List;") ∈ lw_all := lw_g (lw_at lw_m1 129 rfl) rfl
theorem q224 : (Jvm.Cond.lays "java/lang/Throwable" "java/lang/Throwable" "detailMessage" "Ljava/lang/String;") ∈ lw_all := lw_g (lw_at lw_m1 131 rfl) rfl
theorem q226 : (Jvm.Cond.lays "java/lang/Throwable" "java/lang/Throwable" "backtrace" "Ljava/lang/Object;") ∈ lw_all := lw_g (lw_at lw_m1 133 rfl) rfl
theorem q227 : (Jvm.Cond.fieldLink "java/lang/Throwable" (198 : Nat) "java/lang/Throwable" "backtrace" "Ljava/lang/Object;") ∈ lw_all := lw_g (lw_at lw_m1 134 rfl) rfl
theorem q228 : (Jvm.Cond.superclass "java/lang/Throwable" "java/lang/Object") ∈ lw_all := lw_g (lw_at lw_m1 135 rfl) rfl
theorem q229 : (Jvm.Cond.instanceMethod ({ cls := "java/lang/Throwable", name := "<init>", desc := "()V" } : Jvm.MethodName)) ∈ lw_all := lw_g (lw_at lw_m1 136 rfl) rfl
theorem q230 : (Jvm.Cond.code ({ cls := "java/lang/Throwable", name := "<init>", desc := "()V" } : Jvm.MethodName) prog_48_method_1_code (1 : Nat) (Option.none : Option Jvm.ClassFile.FieldType)) ∈ lw_all := lw_g (lw_at lw_m1 137 rfl) rfl
theorem q231 : (Jvm.Cond.methodLink "java/lang/Throwable" (1 : Nat) ({ cls := "java/lang/Object", name := "<init>", desc := "()V" } : Jvm.MethodName)) ∈ lw_all := lw_g (lw_at lw_m1 138 rfl) rfl
theorem q232 : (Jvm.Cond.fieldLink "java/lang/Throwable" (13 : Nat) "java/lang/Throwable" "UNASSIGNED_STACK" "[Ljava/lang/StackTraceElement;") ∈ lw_all := lw_g (lw_at lw_m1 139 rfl) rfl
theorem q233 : (Jvm.Cond.laysStatic "java/lang/Throwable" "UNASSIGNED_STACK" "[Ljava/lang/StackTraceElement;") ∈ lw_tbl := lw_at lw_m1 140 rfl
theorem q234 : (Jvm.Cond.fieldLink "java/lang/Throwable" (20 : Nat) "java/lang/Throwable" "SUPPRESSED_SENTINEL" "Ljava/util/List;") ∈ lw_all := lw_g (lw_at lw_m1 141 rfl) rfl
theorem q235 : (Jvm.Cond.laysStatic "java/lang/Throwable" "SUPPRESSED_SENTINEL" "Ljava/util/List;") ∈ lw_tbl := lw_at lw_m1 142 rfl
theorem q236 : (Jvm.Cond.methodLink "java/lang/Throwable" (27 : Nat) ({ cls := "java/lang/Throwable", name := "fillInStackTrace", desc := "()Ljava/lang/Throwable;" } : Jvm.MethodName)) ∈ lw_all := lw_g (lw_at lw_m1 143 rfl) rfl
theorem q237 : (Jvm.Cond.instanceMethod ({ cls := "java/lang/Throwable", name := "fillInStackTrace", desc := "()Ljava/lang/Throwable;" } : Jvm.MethodName)) ∈ lw_all := lw_g (lw_at lw_m1 144 rfl) rfl
theorem q238 : (Jvm.Cond.sameMethod "java/lang/Throwable" "java/lang/Throwable" "fillInStackTrace" "()Ljava/lang/Throwable;") ∈ lw_all := lw_g (lw_at lw_m1 145 rfl) rfl
theorem q247 : (Jvm.Cond.codeSync ({ cls := "java/lang/Throwable", name := "fillInStackTrace", desc := "()Ljava/lang/Throwable;" } : Jvm.MethodName) prog_48_method_18_code (1 : Nat) (Option.some (Jvm.ClassFile.FieldType.object "java/lang/Throwable"))) ∈ lw_all := lw_g (lw_at lw_m1 154 rfl) rfl
theorem q248 : (Jvm.Cond.methodLink "java/lang/Throwable" (202 : Nat) ({ cls := "java/lang/Throwable", name := "fillInStackTrace", desc := "(I)Ljava/lang/Throwable;" } : Jvm.MethodName)) ∈ lw_all := lw_g (lw_at lw_m1 155 rfl) rfl
theorem q249 : (Jvm.Cond.privateMethod ({ cls := "java/lang/Throwable", name := "fillInStackTrace", desc := "(I)Ljava/lang/Throwable;" } : Jvm.MethodName)) ∈ lw_tbl := lw_at lw_m1 156 rfl
theorem q250 : (Jvm.Cond.instanceMethod ({ cls := "java/lang/Throwable", name := "fillInStackTrace", desc := "(I)Ljava/lang/Throwable;" } : Jvm.MethodName)) ∈ lw_all := lw_g (lw_at lw_m1 157 rfl) rfl
theorem q251 : (Jvm.Cond.instantiable "java/lang/Throwable" (6 : Nat)) ∈ lw_all := lw_g (lw_at lw_m1 158 rfl) rfl
theorem q252 : (Jvm.Cond.native ({ cls := "java/lang/Throwable", name := "fillInStackTrace", desc := "(I)Ljava/lang/Throwable;" } : Jvm.MethodName)) ∈ lw_all := lw_g (lw_at lw_m1 159 rfl) rfl
theorem q485 : (Jvm.Cond.instanceMethod ({ cls := "java/lang/Throwable", name := "<init>", desc := "(Ljava/lang/String;)V" } : Jvm.MethodName)) ∈ lw_all := lw_g (lw_at lw_m2 152 rfl) rfl
theorem q486 : (Jvm.Cond.code ({ cls := "java/lang/Throwable", name := "<init>", desc := "(Ljava/lang/String;)V" } : Jvm.MethodName) prog_48_method_2_code (2 : Nat) (Option.none : Option Jvm.ClassFile.FieldType)) ∈ lw_all := lw_g (lw_at lw_m2 153 rfl) rfl
theorem q487 : (Jvm.Cond.fieldLink "java/lang/Throwable" (198 : Nat) "java/lang/Throwable" "backtrace" "Ljava/lang/Object;") ∈ lw_all := lw_g (lw_at lw_m2 154 rfl) rfl
theorem q488 : (Jvm.Cond.fieldLink "java/lang/Throwable" (31 : Nat) "java/lang/Throwable" "detailMessage" "Ljava/lang/String;") ∈ lw_all := lw_g (lw_at lw_m2 155 rfl) rfl
theorem q489 : (Jvm.Cond.fieldLink "java/lang/Throwable" (7 : Nat) "java/lang/Throwable" "cause" "Ljava/lang/Throwable;") ∈ lw_all := lw_g (lw_at lw_m2 156 rfl) rfl
theorem q490 : (Jvm.Cond.fieldLink "java/lang/Throwable" (17 : Nat) "java/lang/Throwable" "stackTrace" "[Ljava/lang/StackTraceElement;") ∈ lw_all := lw_g (lw_at lw_m2 157 rfl) rfl
theorem q491 : (Jvm.Cond.fieldLink "java/lang/Throwable" (24 : Nat) "java/lang/Throwable" "suppressedExceptions" "Ljava/util/List;") ∈ lw_all := lw_g (lw_at lw_m2 158 rfl) rfl
theorem q492 : (Jvm.Cond.soleField "java/lang/Throwable" "backtrace") ∈ lw_all := lw_g (lw_at lw_m2 159 rfl) rfl
theorem q493 : (Jvm.Cond.soleField "java/lang/Throwable" "detailMessage") ∈ lw_all := lw_g (lw_at lw_m2 160 rfl) rfl
theorem q494 : (Jvm.Cond.soleField "java/lang/Throwable" "cause") ∈ lw_all := lw_g (lw_at lw_m2 161 rfl) rfl
theorem q495 : (Jvm.Cond.soleField "java/lang/Throwable" "stackTrace") ∈ lw_all := lw_g (lw_at lw_m2 162 rfl) rfl
theorem q497 : (Jvm.Cond.soleField "java/lang/Throwable" "depth") ∈ lw_all := lw_g (lw_at lw_m2 164 rfl) rfl
theorem q498 : (Jvm.Cond.soleField "java/lang/Throwable" "suppressedExceptions") ∈ lw_all := lw_g (lw_at lw_m2 165 rfl) rfl
theorem q873 : (Jvm.Cond.instanceMethod ({ cls := "java/lang/Throwable", name := "toString", desc := "()Ljava/lang/String;" } : Jvm.MethodName)) ∈ lw_all := lw_g (lw_at lw_m4 60 rfl) rfl
theorem q874 : (Jvm.Cond.code ({ cls := "java/lang/Throwable", name := "toString", desc := "()Ljava/lang/String;" } : Jvm.MethodName) prog_48_method_11_code (3 : Nat) (Option.some (Jvm.ClassFile.FieldType.object "java/lang/String"))) ∈ lw_all := lw_g (lw_at lw_m4 61 rfl) rfl
theorem q875 : (Jvm.Cond.methodLink "java/lang/Throwable" (69 : Nat) ({ cls := "java/lang/Object", name := "getClass", desc := "()Ljava/lang/Class;" } : Jvm.MethodName)) ∈ lw_all := lw_g (lw_at lw_m4 62 rfl) rfl
theorem q922 : (Jvm.Cond.methodLink "java/lang/Throwable" (78 : Nat) ({ cls := "java/lang/Throwable", name := "getLocalizedMessage", desc := "()Ljava/lang/String;" } : Jvm.MethodName)) ∈ lw_all := lw_g (lw_at lw_m4 109 rfl) rfl
theorem q923 : (Jvm.Cond.instanceMethod ({ cls := "java/lang/Throwable", name := "getLocalizedMessage", desc := "()Ljava/lang/String;" } : Jvm.MethodName)) ∈ lw_all := lw_g (lw_at lw_m4 110 rfl) rfl
theorem q924 : (Jvm.Cond.sameMethod "java/lang/Throwable" "java/lang/Throwable" "getLocalizedMessage" "()Ljava/lang/String;") ∈ lw_all := lw_g (lw_at lw_m4 111 rfl) rfl
theorem q934 : (Jvm.Cond.code ({ cls := "java/lang/Throwable", name := "getLocalizedMessage", desc := "()Ljava/lang/String;" } : Jvm.MethodName) prog_48_method_7_code (1 : Nat) (Option.some (Jvm.ClassFile.FieldType.object "java/lang/String"))) ∈ lw_all := lw_g (lw_at lw_m4 121 rfl) rfl
theorem q935 : (Jvm.Cond.methodLink "java/lang/Throwable" (39 : Nat) ({ cls := "java/lang/Throwable", name := "getMessage", desc := "()Ljava/lang/String;" } : Jvm.MethodName)) ∈ lw_all := lw_g (lw_at lw_m4 122 rfl) rfl
theorem q936 : (Jvm.Cond.instanceMethod ({ cls := "java/lang/Throwable", name := "getMessage", desc := "()Ljava/lang/String;" } : Jvm.MethodName)) ∈ lw_all := lw_g (lw_at lw_m4 123 rfl) rfl
theorem q937 : (Jvm.Cond.sameMethod "java/lang/Throwable" "java/lang/Throwable" "getMessage" "()Ljava/lang/String;") ∈ lw_all := lw_g (lw_at lw_m4 124 rfl) rfl
theorem q947 : (Jvm.Cond.code ({ cls := "java/lang/Throwable", name := "getMessage", desc := "()Ljava/lang/String;" } : Jvm.MethodName) prog_48_method_6_code (1 : Nat) (Option.some (Jvm.ClassFile.FieldType.object "java/lang/String"))) ∈ lw_all := lw_g (lw_at lw_m4 134 rfl) rfl
theorem q948 : (Jvm.Cond.classLink "java/lang/Throwable" (44 : Nat) "java/lang/StringBuilder") ∈ lw_all := lw_g (lw_at lw_m4 135 rfl) rfl
theorem q949 : (Jvm.Cond.methodLink "java/lang/Throwable" (46 : Nat) ({ cls := "java/lang/StringBuilder", name := "<init>", desc := "()V" } : Jvm.MethodName)) ∈ lw_all := lw_g (lw_at lw_m4 136 rfl) rfl
theorem q950 : (Jvm.Cond.methodLink "java/lang/Throwable" (49 : Nat) ({ cls := "java/lang/StringBuilder", name := "append", desc := "(Ljava/lang/String;)Ljava/lang/StringBuilder;" } : Jvm.MethodName)) ∈ lw_all := lw_g (lw_at lw_m4 137 rfl) rfl
theorem q951 : (Jvm.Cond.stringRef "java/lang/Throwable" (81 : Nat) ": ") ∈ lw_tbl := lw_at lw_m4 138 rfl
theorem q952 : (Jvm.Cond.methodLink "java/lang/Throwable" (60 : Nat) ({ cls := "java/lang/StringBuilder", name := "toString", desc := "()Ljava/lang/String;" } : Jvm.MethodName)) ∈ lw_all := lw_g (lw_at lw_m4 139 rfl) rfl
theorem q995 : (Jvm.Cond.declares ({ cls := "java/lang/Throwable", name := "initCause", desc := "(Ljava/lang/Throwable;)Ljava/lang/Throwable;" } : Jvm.MethodName)) ∈ lw_tbl := lw_at lw_m4 182 rfl
theorem q997 : (Jvm.Cond.instanceMethod ({ cls := "java/lang/Throwable", name := "initCause", desc := "(Ljava/lang/Throwable;)Ljava/lang/Throwable;" } : Jvm.MethodName)) ∈ lw_all := lw_g (lw_at lw_m4 184 rfl) rfl
theorem q998 : (Jvm.Cond.codeSync ({ cls := "java/lang/Throwable", name := "initCause", desc := "(Ljava/lang/Throwable;)Ljava/lang/Throwable;" } : Jvm.MethodName) prog_48_method_9_code (2 : Nat) (Option.some (Jvm.ClassFile.FieldType.object "java/lang/Throwable"))) ∈ lw_all := lw_g (lw_at lw_m4 185 rfl) rfl
theorem q999 : (Jvm.Cond.classLink "java/lang/Throwable" (42 : Nat) "java/lang/IllegalStateException") ∈ lw_all := lw_g (lw_at lw_m4 186 rfl) rfl
theorem q1008 : (Jvm.Cond.stringRef "java/lang/Throwable" (47 : Nat) "Can't overwrite cause with ") ∈ lw_tbl := lw_at lw_m4 195 rfl
theorem q1009 : (Jvm.Cond.stringRef "java/lang/Throwable" (53 : Nat) "a null") ∈ lw_tbl := lw_at lw_m4 196 rfl
theorem q1010 : (Jvm.Cond.methodLink "java/lang/Throwable" (55 : Nat) ({ cls := "java/util/Objects", name := "toString", desc := "(Ljava/lang/Object;Ljava/lang/String;)Ljava/lang/String;" } : Jvm.MethodName)) ∈ lw_all := lw_g (lw_at lw_m4 197 rfl) rfl
theorem q1014 : (Jvm.Cond.methodLink "java/lang/Throwable" (61 : Nat) ({ cls := "java/lang/IllegalStateException", name := "<init>", desc := "(Ljava/lang/String;Ljava/lang/Throwable;)V" } : Jvm.MethodName)) ∈ lw_all := lw_g (lw_at lw_m4 201 rfl) rfl
theorem q1024 : (Jvm.Cond.instanceMethod ({ cls := "java/lang/Throwable", name := "<init>", desc := "(Ljava/lang/String;Ljava/lang/Throwable;)V" } : Jvm.MethodName)) ∈ lw_all := lw_g (lw_at lw_m4 211 rfl) rfl
theorem q1025 : (Jvm.Cond.code ({ cls := "java/lang/Throwable", name := "<init>", desc := "(Ljava/lang/String;Ljava/lang/Throwable;)V" } : Jvm.MethodName) prog_48_method_3_code (3 : Nat) (Option.none : Option Jvm.ClassFile.FieldType)) ∈ lw_all := lw_g (lw_at lw_m4 212 rfl) rfl
theorem q1028 : (Jvm.Cond.classLink "java/lang/Throwable" (64 : Nat) "java/lang/IllegalArgumentException") ∈ lw_all := lw_g (lw_at lw_m4 215 rfl) rfl
theorem q1029 : (Jvm.Cond.stringRef "java/lang/Throwable" (66 : Nat) "Self-causation not permitted") ∈ lw_tbl := lw_at lw_m4 216 rfl
theorem q1030 : (Jvm.Cond.methodLink "java/lang/Throwable" (68 : Nat) ({ cls := "java/lang/IllegalArgumentException", name := "<init>", desc := "(Ljava/lang/String;Ljava/lang/Throwable;)V" } : Jvm.MethodName)) ∈ lw_all := lw_g (lw_at lw_m4 217 rfl) rfl
theorem q3090 : (Jvm.Cond.instanceMethod ({ cls := "java/lang/Throwable", name := "<init>", desc := "(Ljava/lang/String;Ljava/lang/Throwable;ZZ)V" } : Jvm.MethodName)) ∈ lw_all := lw_g (lw_at lw_m13 117 rfl) rfl
theorem q3091 : (Jvm.Cond.code ({ cls := "java/lang/Throwable", name := "<init>", desc := "(Ljava/lang/String;Ljava/lang/Throwable;ZZ)V" } : Jvm.MethodName) prog_48_method_5_code (5 : Nat) (Option.none : Option Jvm.ClassFile.FieldType)) ∈ lw_all := lw_g (lw_at lw_m13 118 rfl) rfl
theorem q3722 : (Jvm.Cond.sameMethod "java/lang/Throwable" "java/lang/Throwable" "fillInStackTrace" "(I)Ljava/lang/Throwable;") ∈ lw_all := lw_g (lw_at lw_m16 29 rfl) rfl
theorem q3804 : (Jvm.Cond.castable "java/lang/Throwable" "java/lang/Object") ∈ lw_tbl := lw_at lw_m16 111 rfl
theorem in_J7 : ∀ w ∈ wsJ70, w ∈ lw_all := lw_in wsJ70 [218, 220, 222, 224, 226] (by decide +kernel) (by decide +kernel)
/-! java/lang/Exception -/
set_option maxRecDepth 100000
def RJ8 : String := "java/lang/Exception"
abbrev cJ8_init : ByteArray := prog_29_method_2_code
def yJ8_init : MethodName := ⟨RJ8, "<init>", "(Ljava/lang/String;)V"⟩
def dkwJ8_init_0 : List UInt8 := [42, 43, 183, 0, 7, 177]
abbrev dktJ8_init_0 : List UInt8 := dkwJ8_init_0 ++ []
theorem dksJ8_init_0 : cJ8_init.data.toList.drop 0 = dktJ8_init_0 := by decide +kernel
theorem dJ8_init_0 : decode cJ8_init 0 = .ok (.aload_n 0, 1) := dk_42 (dk_at dksJ8_init_0 0 rfl rfl)
theorem dJ8_init_1 : decode cJ8_init 1 = .ok (.aload_n 1, 1) := dk_43 (dk_at dksJ8_init_0 1 rfl rfl)
theorem dJ8_init_2 : decode cJ8_init 2 = .ok (.invokespecial 7, 3) := dk_183 0 7 (dk_at dksJ8_init_0 2 rfl rfl)
theorem dJ8_init_5 : decode cJ8_init 5 = .ok (.return_, 1) := dk_177 (dk_at dksJ8_init_0 5 rfl rfl)
abbrev cJ8_init_2 : ByteArray := prog_29_method_3_code
def yJ8_init_2 : MethodName := ⟨RJ8, "<init>", "(Ljava/lang/String;Ljava/lang/Throwable;)V"⟩
def dkwJ8_init_2_0 : List UInt8 := [42, 43, 44, 183, 0, 10, 177]
abbrev dktJ8_init_2_0 : List UInt8 := dkwJ8_init_2_0 ++ []
theorem dksJ8_init_2_0 : cJ8_init_2.data.toList.drop 0 = dktJ8_init_2_0 := by decide +kernel
theorem dJ8_init_2_0 : decode cJ8_init_2 0 = .ok (.aload_n 0, 1) := dk_42 (dk_at dksJ8_init_2_0 0 rfl rfl)
theorem dJ8_init_2_1 : decode cJ8_init_2 1 = .ok (.aload_n 1, 1) := dk_43 (dk_at dksJ8_init_2_0 1 rfl rfl)
theorem dJ8_init_2_2 : decode cJ8_init_2 2 = .ok (.aload_n 2, 1) := dk_44 (dk_at dksJ8_init_2_0 2 rfl rfl)
theorem dJ8_init_2_3 : decode cJ8_init_2 3 = .ok (.invokespecial 10, 3) := dk_183 0 10 (dk_at dksJ8_init_2_0 3 rfl rfl)
theorem dJ8_init_2_6 : decode cJ8_init_2 6 = .ok (.return_, 1) := dk_177 (dk_at dksJ8_init_2_0 6 rfl rfl)
abbrev cJ8_init_3 : ByteArray := prog_29_method_1_code
def yJ8_init_3 : MethodName := ⟨RJ8, "<init>", "()V"⟩
theorem dJ8_init_3_0 : decode cJ8_init_3 0 = .ok (.aload_n 0, 1) := by decide +kernel
theorem dJ8_init_3_1 : decode cJ8_init_3 1 = .ok (.invokespecial 1, 3) := by decide +kernel
theorem dJ8_init_3_4 : decode cJ8_init_3 4 = .ok (.return_, 1) := by decide +kernel
abbrev cJ8_init_4 : ByteArray := prog_29_method_5_code
def yJ8_init_4 : MethodName := ⟨RJ8, "<init>", "(Ljava/lang/String;Ljava/lang/Throwable;ZZ)V"⟩
def dkwJ8_init_4_0 : List UInt8 := [42, 43, 44, 29, 21, 4, 183, 0, 16, 177]
abbrev dktJ8_init_4_0 : List UInt8 := dkwJ8_init_4_0 ++ []
theorem dksJ8_init_4_0 : cJ8_init_4.data.toList.drop 0 = dktJ8_init_4_0 := by decide +kernel
theorem dJ8_init_4_0 : decode cJ8_init_4 0 = .ok (.aload_n 0, 1) := dk_42 (dk_at dksJ8_init_4_0 0 rfl rfl)
theorem dJ8_init_4_1 : decode cJ8_init_4 1 = .ok (.aload_n 1, 1) := dk_43 (dk_at dksJ8_init_4_0 1 rfl rfl)
theorem dJ8_init_4_2 : decode cJ8_init_4 2 = .ok (.aload_n 2, 1) := dk_44 (dk_at dksJ8_init_4_0 2 rfl rfl)
theorem dJ8_init_4_3 : decode cJ8_init_4 3 = .ok (.iload_n 3, 1) := dk_29 (dk_at dksJ8_init_4_0 3 rfl rfl)
theorem dJ8_init_4_4 : decode cJ8_init_4 4 = .ok (.iload 4, 2) := dk_21 4 (dk_at dksJ8_init_4_0 4 rfl rfl)
theorem dJ8_init_4_6 : decode cJ8_init_4 6 = .ok (.invokespecial 16, 3) := dk_183 0 16 (dk_at dksJ8_init_4_0 6 rfl rfl)
theorem dJ8_init_4_9 : decode cJ8_init_4 9 = .ok (.return_, 1) := dk_177 (dk_at dksJ8_init_4_0 9 rfl rfl)
theorem q104 : (Jvm.Cond.initialized "java/lang/Exception") ∈ lw_all := lw_g (lw_at lw_m1 11 rfl) rfl
theorem q211 : (Jvm.Cond.declares ({ cls := "java/lang/Exception", name := "<init>", desc := "()V" } : Jvm.MethodName)) ∈ lw_tbl := lw_at lw_m1 118 rfl
theorem q212 : (Jvm.Cond.declares ({ cls := "java/lang/Exception", name := "<init>", desc := "(Ljava/lang/String;)V" } : Jvm.MethodName)) ∈ lw_tbl := lw_at lw_m1 119 rfl
theorem q482 : (Jvm.Cond.instanceMethod ({ cls := "java/lang/Exception", name := "<init>", desc := "(Ljava/lang/String;)V" } : Jvm.MethodName)) ∈ lw_all := lw_g (lw_at lw_m2 149 rfl) rfl
theorem q483 : (Jvm.Cond.code ({ cls := "java/lang/Exception", name := "<init>", desc := "(Ljava/lang/String;)V" } : Jvm.MethodName) prog_29_method_2_code (2 : Nat) (Option.none : Option Jvm.ClassFile.FieldType)) ∈ lw_all := lw_g (lw_at lw_m2 150 rfl) rfl
theorem q484 : (Jvm.Cond.methodLink "java/lang/Exception" (7 : Nat) ({ cls := "java/lang/Throwable", name := "<init>", desc := "(Ljava/lang/String;)V" } : Jvm.MethodName)) ∈ lw_all := lw_g (lw_at lw_m2 151 rfl) rfl
theorem q1021 : (Jvm.Cond.instanceMethod ({ cls := "java/lang/Exception", name := "<init>", desc := "(Ljava/lang/String;Ljava/lang/Throwable;)V" } : Jvm.MethodName)) ∈ lw_all := lw_g (lw_at lw_m4 208 rfl) rfl
theorem q1022 : (Jvm.Cond.code ({ cls := "java/lang/Exception", name := "<init>", desc := "(Ljava/lang/String;Ljava/lang/Throwable;)V" } : Jvm.MethodName) prog_29_method_3_code (3 : Nat) (Option.none : Option Jvm.ClassFile.FieldType)) ∈ lw_all := lw_g (lw_at lw_m4 209 rfl) rfl
theorem q1023 : (Jvm.Cond.methodLink "java/lang/Exception" (10 : Nat) ({ cls := "java/lang/Throwable", name := "<init>", desc := "(Ljava/lang/String;Ljava/lang/Throwable;)V" } : Jvm.MethodName)) ∈ lw_all := lw_g (lw_at lw_m4 210 rfl) rfl
theorem q1553 : (Jvm.Cond.instanceMethod ({ cls := "java/lang/Exception", name := "<init>", desc := "()V" } : Jvm.MethodName)) ∈ lw_all := lw_g (lw_at lw_m7 20 rfl) rfl
theorem q1554 : (Jvm.Cond.code ({ cls := "java/lang/Exception", name := "<init>", desc := "()V" } : Jvm.MethodName) prog_29_method_1_code (1 : Nat) (Option.none : Option Jvm.ClassFile.FieldType)) ∈ lw_all := lw_g (lw_at lw_m7 21 rfl) rfl
theorem q1555 : (Jvm.Cond.methodLink "java/lang/Exception" (1 : Nat) ({ cls := "java/lang/Throwable", name := "<init>", desc := "()V" } : Jvm.MethodName)) ∈ lw_all := lw_g (lw_at lw_m7 22 rfl) rfl
theorem q3087 : (Jvm.Cond.instanceMethod ({ cls := "java/lang/Exception", name := "<init>", desc := "(Ljava/lang/String;Ljava/lang/Throwable;ZZ)V" } : Jvm.MethodName)) ∈ lw_all := lw_g (lw_at lw_m13 114 rfl) rfl
theorem q3088 : (Jvm.Cond.code ({ cls := "java/lang/Exception", name := "<init>", desc := "(Ljava/lang/String;Ljava/lang/Throwable;ZZ)V" } : Jvm.MethodName) prog_29_method_5_code (5 : Nat) (Option.none : Option Jvm.ClassFile.FieldType)) ∈ lw_all := lw_g (lw_at lw_m13 115 rfl) rfl
theorem q3089 : (Jvm.Cond.methodLink "java/lang/Exception" (16 : Nat) ({ cls := "java/lang/Throwable", name := "<init>", desc := "(Ljava/lang/String;Ljava/lang/Throwable;ZZ)V" } : Jvm.MethodName)) ∈ lw_all := lw_g (lw_at lw_m13 116 rfl) rfl
/-! java/lang/RuntimeException -/
set_option maxRecDepth 100000
def RJ9 : String := "java/lang/RuntimeException"
abbrev cJ9_init : ByteArray := prog_40_method_2_code
def yJ9_init : MethodName := ⟨RJ9, "<init>", "(Ljava/lang/String;)V"⟩
abbrev cJ9_init_2 : ByteArray := prog_40_method_3_code
def yJ9_init_2 : MethodName := ⟨RJ9, "<init>", "(Ljava/lang/String;Ljava/lang/Throwable;)V"⟩
abbrev cJ9_init_3 : ByteArray := prog_40_method_1_code
def yJ9_init_3 : MethodName := ⟨RJ9, "<init>", "()V"⟩
theorem q105 : (Jvm.Cond.initialized "java/lang/RuntimeException") ∈ lw_all := lw_g (lw_at lw_m1 12 rfl) rfl
theorem q209 : (Jvm.Cond.declares ({ cls := "java/lang/RuntimeException", name := "<init>", desc := "()V" } : Jvm.MethodName)) ∈ lw_tbl := lw_at lw_m1 116 rfl
theorem q210 : (Jvm.Cond.declares ({ cls := "java/lang/RuntimeException", name := "<init>", desc := "(Ljava/lang/String;)V" } : Jvm.MethodName)) ∈ lw_tbl := lw_at lw_m1 117 rfl
theorem q479 : (Jvm.Cond.instanceMethod ({ cls := "java/lang/RuntimeException", name := "<init>", desc := "(Ljava/lang/String;)V" } : Jvm.MethodName)) ∈ lw_all := lw_g (lw_at lw_m2 146 rfl) rfl
theorem q480 : (Jvm.Cond.code ({ cls := "java/lang/RuntimeException", name := "<init>", desc := "(Ljava/lang/String;)V" } : Jvm.MethodName) prog_40_method_2_code (2 : Nat) (Option.none : Option Jvm.ClassFile.FieldType)) ∈ lw_all := lw_g (lw_at lw_m2 147 rfl) rfl
theorem q481 : (Jvm.Cond.methodLink "java/lang/RuntimeException" (7 : Nat) ({ cls := "java/lang/Exception", name := "<init>", desc := "(Ljava/lang/String;)V" } : Jvm.MethodName)) ∈ lw_all := lw_g (lw_at lw_m2 148 rfl) rfl
theorem q1018 : (Jvm.Cond.instanceMethod ({ cls := "java/lang/RuntimeException", name := "<init>", desc := "(Ljava/lang/String;Ljava/lang/Throwable;)V" } : Jvm.MethodName)) ∈ lw_all := lw_g (lw_at lw_m4 205 rfl) rfl
theorem q1019 : (Jvm.Cond.code ({ cls := "java/lang/RuntimeException", name := "<init>", desc := "(Ljava/lang/String;Ljava/lang/Throwable;)V" } : Jvm.MethodName) prog_40_method_3_code (3 : Nat) (Option.none : Option Jvm.ClassFile.FieldType)) ∈ lw_all := lw_g (lw_at lw_m4 206 rfl) rfl
theorem q1020 : (Jvm.Cond.methodLink "java/lang/RuntimeException" (10 : Nat) ({ cls := "java/lang/Exception", name := "<init>", desc := "(Ljava/lang/String;Ljava/lang/Throwable;)V" } : Jvm.MethodName)) ∈ lw_all := lw_g (lw_at lw_m4 207 rfl) rfl
theorem q1550 : (Jvm.Cond.instanceMethod ({ cls := "java/lang/RuntimeException", name := "<init>", desc := "()V" } : Jvm.MethodName)) ∈ lw_all := lw_g (lw_at lw_m7 17 rfl) rfl
theorem q1551 : (Jvm.Cond.code ({ cls := "java/lang/RuntimeException", name := "<init>", desc := "()V" } : Jvm.MethodName) prog_40_method_1_code (1 : Nat) (Option.none : Option Jvm.ClassFile.FieldType)) ∈ lw_all := lw_g (lw_at lw_m7 18 rfl) rfl
theorem q1552 : (Jvm.Cond.methodLink "java/lang/RuntimeException" (1 : Nat) ({ cls := "java/lang/Exception", name := "<init>", desc := "()V" } : Jvm.MethodName)) ∈ lw_all := lw_g (lw_at lw_m7 19 rfl) rfl
/-! java/lang/IllegalArgumentException -/
set_option maxRecDepth 100000
def RJ10 : String := "java/lang/IllegalArgumentException"
def TJ10 : u_T := fun k => match k with
  | 0 => ("java/lang/Throwable", "cause", "Ljava/lang/Throwable;", false)
  | 1 => ("java/lang/Throwable", "stackTrace", "[Ljava/lang/StackTraceElement;", false)
  | 2 => ("java/lang/Throwable", "suppressedExceptions", "Ljava/util/List;", false)
  | 3 => ("java/lang/Throwable", "detailMessage", "Ljava/lang/String;", false)
  | 4 => ("java/lang/Throwable", "backtrace", "Ljava/lang/Object;", false)
  | _ => ("java/lang/Throwable", "depth", "I", false)
def tyJ10 : Nat → FieldType := fun k => match k with
  | 0 => .object "java/lang/Throwable"
  | 1 => .array (.object "java/lang/StackTraceElement")
  | 2 => .object "java/util/List"
  | 3 => .object "java/lang/String"
  | 4 => .object "java/lang/Object"
  | _ => .int
abbrev wsJ100 : List Cond := u_ws RJ10 TJ10 6
theorem nmJ10 : ∀ a, a < 6 → ∀ b, b < 6 → a ≠ b → (TJ10 a).2.1 ≠ (TJ10 b).2.1 := by decide +kernel
theorem tyJ10_ok : ∀ k, k < 6 → parseFieldDescriptor (TJ10 k).2.2.1 = some (tyJ10 k) := by decide +kernel
abbrev cJ10_init : ByteArray := prog_31_method_2_code
def yJ10_init : MethodName := ⟨RJ10, "<init>", "(Ljava/lang/String;)V"⟩
abbrev cJ10_init_2 : ByteArray := prog_31_method_3_code
def yJ10_init_2 : MethodName := ⟨RJ10, "<init>", "(Ljava/lang/String;Ljava/lang/Throwable;)V"⟩
abbrev cJ10_init_3 : ByteArray := prog_31_method_1_code
def yJ10_init_3 : MethodName := ⟨RJ10, "<init>", "()V"⟩
theorem q106 : (Jvm.Cond.initialized "java/lang/IllegalArgumentException") ∈ lw_all := lw_g (lw_at lw_m1 13 rfl) rfl
theorem q207 : (Jvm.Cond.instantiable "java/lang/IllegalArgumentException" (6 : Nat)) ∈ lw_all := lw_g (lw_at lw_m1 114 rfl) rfl
theorem q208 : (Jvm.Cond.castable "java/lang/IllegalArgumentException" "java/lang/IllegalArgumentException") ∈ lw_tbl := lw_at lw_m1 115 rfl
theorem q215 : (Jvm.Cond.selects "java/lang/IllegalArgumentException" ({ cls := "java/lang/Throwable", name := "fillInStackTrace", desc := "(I)Ljava/lang/Throwable;" } : Jvm.MethodName) ({ cls := "java/lang/Throwable", name := "fillInStackTrace", desc := "(I)Ljava/lang/Throwable;" } : Jvm.MethodName)) ∈ lw_all := lw_g (lw_at lw_m1 122 rfl) rfl
theorem q216 : (Jvm.Cond.selects "java/lang/IllegalArgumentException" ({ cls := "java/lang/Throwable", name := "fillInStackTrace", desc := "()Ljava/lang/Throwable;" } : Jvm.MethodName) ({ cls := "java/lang/Throwable", name := "fillInStackTrace", desc := "()Ljava/lang/Throwable;" } : Jvm.MethodName)) ∈ lw_all := lw_g (lw_at lw_m1 123 rfl) rfl
theorem q217 : (Jvm.Cond.lays "java/lang/IllegalArgumentException" "java/lang/Throwable" "cause" "Ljava/lang/Throwable;") ∈ lw_all := lw_g (lw_at lw_m1 124 rfl) rfl
theorem q219 : (Jvm.Cond.lays "java/lang/IllegalArgumentException" "java/lang/Throwable" "stackTrace" "[Ljava/lang/StackTraceElement;") ∈ lw_all := lw_g (lw_at lw_m1 126 rfl) rfl
theorem q221 : (Jvm.Cond.lays "java/lang/IllegalArgumentException" "java/lang/Throwable" "suppressedExceptions" "Ljava/util/List;") ∈ lw_all := lw_g (lw_at lw_m1 128 rfl) rfl
theorem q223 : (Jvm.Cond.lays "java/lang/IllegalArgumentException" "java/lang/Throwable" "detailMessage" "Ljava/lang/String;") ∈ lw_all := lw_g (lw_at lw_m1 130 rfl) rfl
theorem q225 : (Jvm.Cond.lays "java/lang/IllegalArgumentException" "java/lang/Throwable" "backtrace" "Ljava/lang/Object;") ∈ lw_all := lw_g (lw_at lw_m1 132 rfl) rfl
theorem q476 : (Jvm.Cond.instanceMethod ({ cls := "java/lang/IllegalArgumentException", name := "<init>", desc := "(Ljava/lang/String;)V" } : Jvm.MethodName)) ∈ lw_all := lw_g (lw_at lw_m2 143 rfl) rfl
theorem q477 : (Jvm.Cond.code ({ cls := "java/lang/IllegalArgumentException", name := "<init>", desc := "(Ljava/lang/String;)V" } : Jvm.MethodName) prog_31_method_2_code (2 : Nat) (Option.none : Option Jvm.ClassFile.FieldType)) ∈ lw_all := lw_g (lw_at lw_m2 144 rfl) rfl
theorem q478 : (Jvm.Cond.methodLink "java/lang/IllegalArgumentException" (7 : Nat) ({ cls := "java/lang/RuntimeException", name := "<init>", desc := "(Ljava/lang/String;)V" } : Jvm.MethodName)) ∈ lw_all := lw_g (lw_at lw_m2 145 rfl) rfl
theorem q496 : (Jvm.Cond.lays "java/lang/IllegalArgumentException" "java/lang/Throwable" "depth" "I") ∈ lw_all := lw_g (lw_at lw_m2 163 rfl) rfl
theorem q499 : (Jvm.Cond.superclass "java/lang/IllegalArgumentException" "java/lang/RuntimeException") ∈ lw_all := lw_g (lw_at lw_m2 166 rfl) rfl
theorem q897 : (Jvm.Cond.selects "java/lang/IllegalArgumentException" ({ cls := "java/lang/Object", name := "getClass", desc := "()Ljava/lang/Class;" } : Jvm.MethodName) ({ cls := "java/lang/Object", name := "getClass", desc := "()Ljava/lang/Class;" } : Jvm.MethodName)) ∈ lw_all := lw_g (lw_at lw_m4 84 rfl) rfl
theorem q929 : (Jvm.Cond.selects "java/lang/IllegalArgumentException" ({ cls := "java/lang/Throwable", name := "getLocalizedMessage", desc := "()Ljava/lang/String;" } : Jvm.MethodName) ({ cls := "java/lang/Throwable", name := "getLocalizedMessage", desc := "()Ljava/lang/String;" } : Jvm.MethodName)) ∈ lw_all := lw_g (lw_at lw_m4 116 rfl) rfl
theorem q942 : (Jvm.Cond.selects "java/lang/IllegalArgumentException" ({ cls := "java/lang/Throwable", name := "getMessage", desc := "()Ljava/lang/String;" } : Jvm.MethodName) ({ cls := "java/lang/Throwable", name := "getMessage", desc := "()Ljava/lang/String;" } : Jvm.MethodName)) ∈ lw_all := lw_g (lw_at lw_m4 129 rfl) rfl
theorem q957 : (Jvm.Cond.selects "java/lang/IllegalArgumentException" ({ cls := "java/lang/Object", name := "toString", desc := "()Ljava/lang/String;" } : Jvm.MethodName) ({ cls := "java/lang/Throwable", name := "toString", desc := "()Ljava/lang/String;" } : Jvm.MethodName)) ∈ lw_all := lw_g (lw_at lw_m4 144 rfl) rfl
theorem q1031 : (Jvm.Cond.instanceMethod ({ cls := "java/lang/IllegalArgumentException", name := "<init>", desc := "(Ljava/lang/String;Ljava/lang/Throwable;)V" } : Jvm.MethodName)) ∈ lw_all := lw_g (lw_at lw_m4 218 rfl) rfl
theorem q1032 : (Jvm.Cond.code ({ cls := "java/lang/IllegalArgumentException", name := "<init>", desc := "(Ljava/lang/String;Ljava/lang/Throwable;)V" } : Jvm.MethodName) prog_31_method_3_code (3 : Nat) (Option.none : Option Jvm.ClassFile.FieldType)) ∈ lw_all := lw_g (lw_at lw_m4 219 rfl) rfl
theorem q1033 : (Jvm.Cond.methodLink "java/lang/IllegalArgumentException" (10 : Nat) ({ cls := "java/lang/RuntimeException", name := "<init>", desc := "(Ljava/lang/String;Ljava/lang/Throwable;)V" } : Jvm.MethodName)) ∈ lw_all := lw_g (lw_at lw_m4 220 rfl) rfl
theorem q1671 : (Jvm.Cond.selects "java/lang/IllegalArgumentException" ({ cls := "java/lang/Object", name := "hashCode", desc := "()I" } : Jvm.MethodName) ({ cls := "java/lang/Object", name := "hashCode", desc := "()I" } : Jvm.MethodName)) ∈ lw_all := lw_g (lw_at lw_m7 138 rfl) rfl
theorem q2083 : (Jvm.Cond.selects "java/lang/IllegalArgumentException" ({ cls := "java/lang/Object", name := "equals", desc := "(Ljava/lang/Object;)Z" } : Jvm.MethodName) ({ cls := "java/lang/Object", name := "equals", desc := "(Ljava/lang/Object;)Z" } : Jvm.MethodName)) ∈ lw_all := lw_g (lw_at lw_m9 70 rfl) rfl
theorem q2413 : (Jvm.Cond.instanceMethod ({ cls := "java/lang/IllegalArgumentException", name := "<init>", desc := "()V" } : Jvm.MethodName)) ∈ lw_all := lw_g (lw_at lw_m10 160 rfl) rfl
theorem q2414 : (Jvm.Cond.code ({ cls := "java/lang/IllegalArgumentException", name := "<init>", desc := "()V" } : Jvm.MethodName) prog_31_method_1_code (1 : Nat) (Option.none : Option Jvm.ClassFile.FieldType)) ∈ lw_all := lw_g (lw_at lw_m10 161 rfl) rfl
theorem q2415 : (Jvm.Cond.methodLink "java/lang/IllegalArgumentException" (1 : Nat) ({ cls := "java/lang/RuntimeException", name := "<init>", desc := "()V" } : Jvm.MethodName)) ∈ lw_all := lw_g (lw_at lw_m10 162 rfl) rfl
theorem q3752 : (Jvm.Cond.castable "java/lang/IllegalArgumentException" "java/lang/Throwable") ∈ lw_tbl := lw_at lw_m16 59 rfl
theorem q3768 : (Jvm.Cond.castable "java/lang/IllegalArgumentException" "java/lang/Object") ∈ lw_tbl := lw_at lw_m16 75 rfl
theorem in_J10 : ∀ w ∈ wsJ100, w ∈ lw_all := lw_in wsJ100 [217, 219, 221, 223, 225, 496] (by decide +kernel) (by decide +kernel)
/-! jdk/internal/util/ArraysSupport -/
set_option maxRecDepth 100000
def RJ15 : String := "jdk/internal/util/ArraysSupport"
abbrev cJ15_newLength : ByteArray := prog_93_method_27_code
def yJ15_newLength : MethodName := ⟨RJ15, "newLength", "(III)I"⟩
def dkwJ15_newLength_1 : List UInt8 := [184, 0, 201, 172]
abbrev dktJ15_newLength_1 : List UInt8 := dkwJ15_newLength_1 ++ []
def dkwJ15_newLength_0 : List UInt8 := [26, 27, 28, 184, 0, 194, 96, 62, 3, 29, 162, 0, 11, 29, 18, 200, 163, 0, 5, 29, 172, 26, 27]
abbrev dktJ15_newLength_0 : List UInt8 := dkwJ15_newLength_0 ++ dktJ15_newLength_1
theorem dksJ15_newLength_0 : cJ15_newLength.data.toList.drop 0 = dktJ15_newLength_0 := by decide +kernel
theorem dksJ15_newLength_1 : cJ15_newLength.data.toList.drop 23 = dktJ15_newLength_1 := dk_seg dksJ15_newLength_0 23 rfl rfl
theorem dJ15_newLength_0 : decode cJ15_newLength 0 = .ok (.iload_n 0, 1) := dk_26 (dk_at dksJ15_newLength_0 0 rfl rfl)
theorem dJ15_newLength_1 : decode cJ15_newLength 1 = .ok (.iload_n 1, 1) := dk_27 (dk_at dksJ15_newLength_0 1 rfl rfl)
theorem dJ15_newLength_2 : decode cJ15_newLength 2 = .ok (.iload_n 2, 1) := dk_28 (dk_at dksJ15_newLength_0 2 rfl rfl)
theorem dJ15_newLength_3 : decode cJ15_newLength 3 = .ok (.invokestatic 194, 3) := dk_184 0 194 (dk_at dksJ15_newLength_0 3 rfl rfl)
theorem dJ15_newLength_6 : decode cJ15_newLength 6 = .ok (.iadd, 1) := dk_96 (dk_at dksJ15_newLength_0 6 rfl rfl)
theorem dJ15_newLength_7 : decode cJ15_newLength 7 = .ok (.istore_n 3, 1) := dk_62 (dk_at dksJ15_newLength_0 7 rfl rfl)
theorem dJ15_newLength_8 : decode cJ15_newLength 8 = .ok (.iconst 0, 1) := dk_3 (dk_at dksJ15_newLength_0 8 rfl rfl)
theorem dJ15_newLength_9 : decode cJ15_newLength 9 = .ok (.iload_n 3, 1) := dk_29 (dk_at dksJ15_newLength_0 9 rfl rfl)
theorem dJ15_newLength_10 : decode cJ15_newLength 10 = .ok (.if_icmp .ge 11, 3) := dk_162 0 11 (dk_at dksJ15_newLength_0 10 rfl rfl)
theorem dJ15_newLength_13 : decode cJ15_newLength 13 = .ok (.iload_n 3, 1) := dk_29 (dk_at dksJ15_newLength_0 13 rfl rfl)
theorem dJ15_newLength_14 : decode cJ15_newLength 14 = .ok (.ldc 200, 2) := dk_18 200 (dk_at dksJ15_newLength_0 14 rfl rfl)
theorem dJ15_newLength_16 : decode cJ15_newLength 16 = .ok (.if_icmp .gt 5, 3) := dk_163 0 5 (dk_at dksJ15_newLength_0 16 rfl rfl)
theorem dJ15_newLength_19 : decode cJ15_newLength 19 = .ok (.iload_n 3, 1) := dk_29 (dk_at dksJ15_newLength_0 19 rfl rfl)
theorem dJ15_newLength_20 : decode cJ15_newLength 20 = .ok (.ireturn, 1) := dk_172 (dk_at dksJ15_newLength_0 20 rfl rfl)
theorem dJ15_newLength_21 : decode cJ15_newLength 21 = .ok (.iload_n 0, 1) := dk_26 (dk_at dksJ15_newLength_0 21 rfl rfl)
theorem dJ15_newLength_22 : decode cJ15_newLength 22 = .ok (.iload_n 1, 1) := dk_27 (dk_at dksJ15_newLength_0 22 rfl rfl)
theorem dJ15_newLength_23 : decode cJ15_newLength 23 = .ok (.invokestatic 201, 3) := dk_184 0 201 (dk_at dksJ15_newLength_1 0 rfl rfl)
theorem dJ15_newLength_26 : decode cJ15_newLength 26 = .ok (.ireturn, 1) := dk_172 (dk_at dksJ15_newLength_1 3 rfl rfl)
abbrev cJ15_hugeLength : ByteArray := prog_93_method_28_code
def yJ15_hugeLength : MethodName := ⟨RJ15, "hugeLength", "(II)I"⟩
abbrev cJ15_vectorizedHashCode : ByteArray := prog_93_method_4_code
def yJ15_vectorizedHashCode : MethodName := ⟨RJ15, "vectorizedHashCode", "(Ljava/lang/Object;IIII)I"⟩
abbrev cJ15_signedHashCode : ByteArray := prog_93_method_5_code
def yJ15_signedHashCode : MethodName := ⟨RJ15, "signedHashCode", "(I[BII)I"⟩
abbrev cJ15_utf16hashCode : ByteArray := prog_93_method_10_code
def yJ15_utf16hashCode : MethodName := ⟨RJ15, "utf16hashCode", "(I[BII)I"⟩
abbrev cJ15_hashCode : ByteArray := prog_93_method_7_code
def yJ15_hashCode : MethodName := ⟨RJ15, "hashCode", "(I[CII)I"⟩
abbrev cJ15_hashCode_2 : ByteArray := prog_93_method_6_code
def yJ15_hashCode_2 : MethodName := ⟨RJ15, "hashCode", "(I[BII)I"⟩
abbrev cJ15_hashCode_3 : ByteArray := prog_93_method_8_code
def yJ15_hashCode_3 : MethodName := ⟨RJ15, "hashCode", "(I[SII)I"⟩
abbrev cJ15_hashCode_4 : ByteArray := prog_93_method_9_code
def yJ15_hashCode_4 : MethodName := ⟨RJ15, "hashCode", "(I[III)I"⟩
abbrev cJ15_mismatch : ByteArray := prog_93_method_13_code
def yJ15_mismatch : MethodName := ⟨RJ15, "mismatch", "([B[BI)I"⟩
abbrev cJ15_vectorizedMismatch : ByteArray := prog_93_method_3_code
def yJ15_vectorizedMismatch : MethodName := ⟨RJ15, "vectorizedMismatch", "(Ljava/lang/Object;JLjava/lang/Object;JII)I"⟩
theorem q111 : (Jvm.Cond.initialized "jdk/internal/util/ArraysSupport") ∈ lw_all := lw_g (lw_at lw_m1 18 rfl) rfl
theorem q307 : (Jvm.Cond.static ({ cls := "jdk/internal/util/ArraysSupport", name := "newLength", desc := "(III)I" } : Jvm.MethodName)) ∈ lw_all := lw_g (lw_at lw_m1 214 rfl) rfl
theorem q308 : (Jvm.Cond.code ({ cls := "jdk/internal/util/ArraysSupport", name := "newLength", desc := "(III)I" } : Jvm.MethodName) prog_93_method_27_code (4 : Nat) (Option.some Jvm.ClassFile.FieldType.int)) ∈ lw_all := lw_g (lw_at lw_m1 215 rfl) rfl
theorem q309 : (Jvm.Cond.methodLink "jdk/internal/util/ArraysSupport" (194 : Nat) ({ cls := "java/lang/Math", name := "max", desc := "(II)I" } : Jvm.MethodName)) ∈ lw_all := lw_g (lw_at lw_m1 216 rfl) rfl
theorem q312 : (Jvm.Cond.constant "jdk/internal/util/ArraysSupport" (200 : Nat) (2147483639 : Int32)) ∈ lw_all := lw_g (lw_at lw_m1 219 rfl) rfl
theorem q313 : (Jvm.Cond.methodLink "jdk/internal/util/ArraysSupport" (201 : Nat) ({ cls := "jdk/internal/util/ArraysSupport", name := "hugeLength", desc := "(II)I" } : Jvm.MethodName)) ∈ lw_all := lw_g (lw_at lw_m1 220 rfl) rfl
theorem q314 : (Jvm.Cond.static ({ cls := "jdk/internal/util/ArraysSupport", name := "hugeLength", desc := "(II)I" } : Jvm.MethodName)) ∈ lw_all := lw_g (lw_at lw_m1 221 rfl) rfl
theorem q315 : (Jvm.Cond.code ({ cls := "jdk/internal/util/ArraysSupport", name := "hugeLength", desc := "(II)I" } : Jvm.MethodName) prog_93_method_28_code (3 : Nat) (Option.some Jvm.ClassFile.FieldType.int)) ∈ lw_all := lw_g (lw_at lw_m1 222 rfl) rfl
theorem q1687 : (Jvm.Cond.static ({ cls := "jdk/internal/util/ArraysSupport", name := "vectorizedHashCode", desc := "(Ljava/lang/Object;IIII)I" } : Jvm.MethodName)) ∈ lw_all := lw_g (lw_at lw_m7 154 rfl) rfl
theorem q1688 : (Jvm.Cond.code ({ cls := "jdk/internal/util/ArraysSupport", name := "vectorizedHashCode", desc := "(Ljava/lang/Object;IIII)I" } : Jvm.MethodName) prog_93_method_4_code (5 : Nat) (Option.some Jvm.ClassFile.FieldType.int)) ∈ lw_all := lw_g (lw_at lw_m7 155 rfl) rfl
theorem q1689 : (Jvm.Cond.classLink "jdk/internal/util/ArraysSupport" (60 : Nat) "[B") ∈ lw_all := lw_g (lw_at lw_m7 156 rfl) rfl
theorem q1690 : (Jvm.Cond.methodLink "jdk/internal/util/ArraysSupport" (62 : Nat) ({ cls := "jdk/internal/util/ArraysSupport", name := "signedHashCode", desc := "(I[BII)I" } : Jvm.MethodName)) ∈ lw_all := lw_g (lw_at lw_m7 157 rfl) rfl
theorem q1691 : (Jvm.Cond.static ({ cls := "jdk/internal/util/ArraysSupport", name := "signedHashCode", desc := "(I[BII)I" } : Jvm.MethodName)) ∈ lw_all := lw_g (lw_at lw_m7 158 rfl) rfl
theorem q1692 : (Jvm.Cond.code ({ cls := "jdk/internal/util/ArraysSupport", name := "signedHashCode", desc := "(I[BII)I" } : Jvm.MethodName) prog_93_method_5_code (6 : Nat) (Option.some Jvm.ClassFile.FieldType.int)) ∈ lw_all := lw_g (lw_at lw_m7 159 rfl) rfl
theorem q1693 : (Jvm.Cond.methodLink "jdk/internal/util/ArraysSupport" (66 : Nat) ({ cls := "jdk/internal/util/ArraysSupport", name := "utf16hashCode", desc := "(I[BII)I" } : Jvm.MethodName)) ∈ lw_all := lw_g (lw_at lw_m7 160 rfl) rfl
theorem q1694 : (Jvm.Cond.static ({ cls := "jdk/internal/util/ArraysSupport", name := "utf16hashCode", desc := "(I[BII)I" } : Jvm.MethodName)) ∈ lw_all := lw_g (lw_at lw_m7 161 rfl) rfl
theorem q1695 : (Jvm.Cond.code ({ cls := "jdk/internal/util/ArraysSupport", name := "utf16hashCode", desc := "(I[BII)I" } : Jvm.MethodName) prog_93_method_10_code (6 : Nat) (Option.some Jvm.ClassFile.FieldType.int)) ∈ lw_all := lw_g (lw_at lw_m7 162 rfl) rfl
theorem q1696 : (Jvm.Cond.fieldLink "jdk/internal/util/ArraysSupport" (106 : Nat) "jdk/internal/util/ArraysSupport" "JLA" "Ljdk/internal/access/JavaLangAccess;") ∈ lw_all := lw_g (lw_at lw_m7 163 rfl) rfl
theorem q1697 : (Jvm.Cond.laysStatic "jdk/internal/util/ArraysSupport" "JLA" "Ljdk/internal/access/JavaLangAccess;") ∈ lw_tbl := lw_at lw_m7 164 rfl
theorem q1698 : (Jvm.Cond.interfaceEntry "jdk/internal/util/ArraysSupport" (110 : Nat)) ∈ lw_tbl := lw_at lw_m7 165 rfl
theorem q1699 : (Jvm.Cond.methodLink "jdk/internal/util/ArraysSupport" (110 : Nat) ({ cls := "jdk/internal/access/JavaLangAccess", name := "getUTF16Char", desc := "([BI)C" } : Jvm.MethodName)) ∈ lw_all := lw_g (lw_at lw_m7 166 rfl) rfl
theorem q1709 : (Jvm.Cond.classLink "jdk/internal/util/ArraysSupport" (69 : Nat) "[C") ∈ lw_all := lw_g (lw_at lw_m7 176 rfl) rfl
theorem q1710 : (Jvm.Cond.methodLink "jdk/internal/util/ArraysSupport" (71 : Nat) ({ cls := "jdk/internal/util/ArraysSupport", name := "hashCode", desc := "(I[CII)I" } : Jvm.MethodName)) ∈ lw_all := lw_g (lw_at lw_m7 177 rfl) rfl
theorem q1711 : (Jvm.Cond.static ({ cls := "jdk/internal/util/ArraysSupport", name := "hashCode", desc := "(I[CII)I" } : Jvm.MethodName)) ∈ lw_all := lw_g (lw_at lw_m7 178 rfl) rfl
theorem q1712 : (Jvm.Cond.code ({ cls := "jdk/internal/util/ArraysSupport", name := "hashCode", desc := "(I[CII)I" } : Jvm.MethodName) prog_93_method_7_code (6 : Nat) (Option.some Jvm.ClassFile.FieldType.int)) ∈ lw_all := lw_g (lw_at lw_m7 179 rfl) rfl
theorem q1713 : (Jvm.Cond.methodLink "jdk/internal/util/ArraysSupport" (75 : Nat) ({ cls := "jdk/internal/util/ArraysSupport", name := "hashCode", desc := "(I[BII)I" } : Jvm.MethodName)) ∈ lw_all := lw_g (lw_at lw_m7 180 rfl) rfl
theorem q1714 : (Jvm.Cond.static ({ cls := "jdk/internal/util/ArraysSupport", name := "hashCode", desc := "(I[BII)I" } : Jvm.MethodName)) ∈ lw_all := lw_g (lw_at lw_m7 181 rfl) rfl
theorem q1715 : (Jvm.Cond.code ({ cls := "jdk/internal/util/ArraysSupport", name := "hashCode", desc := "(I[BII)I" } : Jvm.MethodName) prog_93_method_6_code (6 : Nat) (Option.some Jvm.ClassFile.FieldType.int)) ∈ lw_all := lw_g (lw_at lw_m7 182 rfl) rfl
theorem q1716 : (Jvm.Cond.classLink "jdk/internal/util/ArraysSupport" (77 : Nat) "[S") ∈ lw_all := lw_g (lw_at lw_m7 183 rfl) rfl
theorem q1717 : (Jvm.Cond.methodLink "jdk/internal/util/ArraysSupport" (79 : Nat) ({ cls := "jdk/internal/util/ArraysSupport", name := "hashCode", desc := "(I[SII)I" } : Jvm.MethodName)) ∈ lw_all := lw_g (lw_at lw_m7 184 rfl) rfl
theorem q1718 : (Jvm.Cond.static ({ cls := "jdk/internal/util/ArraysSupport", name := "hashCode", desc := "(I[SII)I" } : Jvm.MethodName)) ∈ lw_all := lw_g (lw_at lw_m7 185 rfl) rfl
theorem q1719 : (Jvm.Cond.code ({ cls := "jdk/internal/util/ArraysSupport", name := "hashCode", desc := "(I[SII)I" } : Jvm.MethodName) prog_93_method_8_code (6 : Nat) (Option.some Jvm.ClassFile.FieldType.int)) ∈ lw_all := lw_g (lw_at lw_m7 186 rfl) rfl
theorem q1720 : (Jvm.Cond.classLink "jdk/internal/util/ArraysSupport" (82 : Nat) "[I") ∈ lw_all := lw_g (lw_at lw_m7 187 rfl) rfl
theorem q1721 : (Jvm.Cond.methodLink "jdk/internal/util/ArraysSupport" (84 : Nat) ({ cls := "jdk/internal/util/ArraysSupport", name := "hashCode", desc := "(I[III)I" } : Jvm.MethodName)) ∈ lw_all := lw_g (lw_at lw_m7 188 rfl) rfl
theorem q1722 : (Jvm.Cond.static ({ cls := "jdk/internal/util/ArraysSupport", name := "hashCode", desc := "(I[III)I" } : Jvm.MethodName)) ∈ lw_all := lw_g (lw_at lw_m7 189 rfl) rfl
theorem q1723 : (Jvm.Cond.code ({ cls := "jdk/internal/util/ArraysSupport", name := "hashCode", desc := "(I[III)I" } : Jvm.MethodName) prog_93_method_9_code (6 : Nat) (Option.some Jvm.ClassFile.FieldType.int)) ∈ lw_all := lw_g (lw_at lw_m7 190 rfl) rfl
theorem q1724 : (Jvm.Cond.classLink "jdk/internal/util/ArraysSupport" (87 : Nat) "java/lang/IllegalArgumentException") ∈ lw_all := lw_g (lw_at lw_m7 191 rfl) rfl
theorem q1725 : (Jvm.Cond.classLink "jdk/internal/util/ArraysSupport" (89 : Nat) "java/lang/StringBuilder") ∈ lw_all := lw_g (lw_at lw_m7 192 rfl) rfl
theorem q1726 : (Jvm.Cond.methodLink "jdk/internal/util/ArraysSupport" (91 : Nat) ({ cls := "java/lang/StringBuilder", name := "<init>", desc := "()V" } : Jvm.MethodName)) ∈ lw_all := lw_g (lw_at lw_m7 193 rfl) rfl
theorem q1727 : (Jvm.Cond.stringRef "jdk/internal/util/ArraysSupport" (92 : Nat) "unrecognized basic type: ") ∈ lw_tbl := lw_at lw_m7 194 rfl
theorem q1728 : (Jvm.Cond.methodLink "jdk/internal/util/ArraysSupport" (94 : Nat) ({ cls := "java/lang/StringBuilder", name := "append", desc := "(Ljava/lang/String;)Ljava/lang/StringBuilder;" } : Jvm.MethodName)) ∈ lw_all := lw_g (lw_at lw_m7 195 rfl) rfl
theorem q1729 : (Jvm.Cond.methodLink "jdk/internal/util/ArraysSupport" (98 : Nat) ({ cls := "java/lang/StringBuilder", name := "append", desc := "(I)Ljava/lang/StringBuilder;" } : Jvm.MethodName)) ∈ lw_all := lw_g (lw_at lw_m7 196 rfl) rfl
theorem q1730 : (Jvm.Cond.methodLink "jdk/internal/util/ArraysSupport" (101 : Nat) ({ cls := "java/lang/StringBuilder", name := "toString", desc := "()Ljava/lang/String;" } : Jvm.MethodName)) ∈ lw_all := lw_g (lw_at lw_m7 197 rfl) rfl
theorem q1731 : (Jvm.Cond.methodLink "jdk/internal/util/ArraysSupport" (105 : Nat) ({ cls := "java/lang/IllegalArgumentException", name := "<init>", desc := "(Ljava/lang/String;)V" } : Jvm.MethodName)) ∈ lw_all := lw_g (lw_at lw_m7 198 rfl) rfl
theorem q1877 : (Jvm.Cond.static ({ cls := "jdk/internal/util/ArraysSupport", name := "mismatch", desc := "([B[BI)I" } : Jvm.MethodName)) ∈ lw_all := lw_g (lw_at lw_m8 104 rfl) rfl
theorem q1878 : (Jvm.Cond.code ({ cls := "jdk/internal/util/ArraysSupport", name := "mismatch", desc := "([B[BI)I" } : Jvm.MethodName) prog_93_method_13_code (4 : Nat) (Option.some Jvm.ClassFile.FieldType.int)) ∈ lw_all := lw_g (lw_at lw_m8 105 rfl) rfl
theorem q1879 : (Jvm.Cond.fieldLink "jdk/internal/util/ArraysSupport" (126 : Nat) "jdk/internal/misc/Unsafe" "ARRAY_BYTE_BASE_OFFSET" "I") ∈ lw_all := lw_g (lw_at lw_m8 106 rfl) rfl
theorem q1881 : (Jvm.Cond.fieldLink "jdk/internal/util/ArraysSupport" (129 : Nat) "jdk/internal/util/ArraysSupport" "LOG2_ARRAY_BYTE_INDEX_SCALE" "I") ∈ lw_all := lw_g (lw_at lw_m8 108 rfl) rfl
theorem q1882 : (Jvm.Cond.laysStatic "jdk/internal/util/ArraysSupport" "LOG2_ARRAY_BYTE_INDEX_SCALE" "I") ∈ lw_tbl := lw_at lw_m8 109 rfl
theorem q1883 : (Jvm.Cond.methodLink "jdk/internal/util/ArraysSupport" (122 : Nat) ({ cls := "jdk/internal/util/ArraysSupport", name := "vectorizedMismatch", desc := "(Ljava/lang/Object;JLjava/lang/Object;JII)I" } : Jvm.MethodName)) ∈ lw_all := lw_g (lw_at lw_m8 110 rfl) rfl
theorem q1884 : (Jvm.Cond.static ({ cls := "jdk/internal/util/ArraysSupport", name := "vectorizedMismatch", desc := "(Ljava/lang/Object;JLjava/lang/Object;JII)I" } : Jvm.MethodName)) ∈ lw_all := lw_g (lw_at lw_m8 111 rfl) rfl
theorem q1885 : (Jvm.Cond.code ({ cls := "jdk/internal/util/ArraysSupport", name := "vectorizedMismatch", desc := "(Ljava/lang/Object;JLjava/lang/Object;JII)I" } : Jvm.MethodName) prog_93_method_3_code (19 : Nat) (Option.some Jvm.ClassFile.FieldType.int)) ∈ lw_all := lw_g (lw_at lw_m8 112 rfl) rfl
theorem q1886 : (Jvm.Cond.fieldLink "jdk/internal/util/ArraysSupport" (20 : Nat) "jdk/internal/util/ArraysSupport" "LOG2_ARRAY_LONG_INDEX_SCALE" "I") ∈ lw_all := lw_g (lw_at lw_m8 113 rfl) rfl
theorem q1887 : (Jvm.Cond.laysStatic "jdk/internal/util/ArraysSupport" "LOG2_ARRAY_LONG_INDEX_SCALE" "I") ∈ lw_tbl := lw_at lw_m8 114 rfl
theorem q1888 : (Jvm.Cond.fieldLink "jdk/internal/util/ArraysSupport" (26 : Nat) "jdk/internal/util/ArraysSupport" "U" "Ljdk/internal/misc/Unsafe;") ∈ lw_all := lw_g (lw_at lw_m8 115 rfl) rfl
theorem q1889 : (Jvm.Cond.laysStatic "jdk/internal/util/ArraysSupport" "U" "Ljdk/internal/misc/Unsafe;") ∈ lw_tbl := lw_at lw_m8 116 rfl
theorem q1890 : (Jvm.Cond.methodLink "jdk/internal/util/ArraysSupport" (30 : Nat) ({ cls := "jdk/internal/misc/Unsafe", name := "getLongUnaligned", desc := "(Ljava/lang/Object;J)J" } : Jvm.MethodName)) ∈ lw_all := lw_g (lw_at lw_m8 117 rfl) rfl
theorem q1942 : (Jvm.Cond.fieldLink "jdk/internal/util/ArraysSupport" (36 : Nat) "jdk/internal/util/ArraysSupport" "BIG_ENDIAN" "Z") ∈ lw_all := lw_g (lw_at lw_m8 169 rfl) rfl
theorem q1943 : (Jvm.Cond.laysStatic "jdk/internal/util/ArraysSupport" "BIG_ENDIAN" "Z") ∈ lw_tbl := lw_at lw_m8 170 rfl
theorem q1944 : (Jvm.Cond.methodLink "jdk/internal/util/ArraysSupport" (40 : Nat) ({ cls := "java/lang/Long", name := "numberOfLeadingZeros", desc := "(J)I" } : Jvm.MethodName)) ∈ lw_all := lw_g (lw_at lw_m8 171 rfl) rfl
theorem q1948 : (Jvm.Cond.fieldLink "jdk/internal/util/ArraysSupport" (46 : Nat) "jdk/internal/util/ArraysSupport" "LOG2_BYTE_BIT_SIZE" "I") ∈ lw_all := lw_g (lw_at lw_m8 175 rfl) rfl
theorem q1949 : (Jvm.Cond.laysStatic "jdk/internal/util/ArraysSupport" "LOG2_BYTE_BIT_SIZE" "I") ∈ lw_tbl := lw_at lw_m8 176 rfl
theorem q1950 : (Jvm.Cond.methodLink "jdk/internal/util/ArraysSupport" (49 : Nat) ({ cls := "java/lang/Long", name := "numberOfTrailingZeros", desc := "(J)I" } : Jvm.MethodName)) ∈ lw_all := lw_g (lw_at lw_m8 177 rfl) rfl
theorem q1954 : (Jvm.Cond.fieldLink "jdk/internal/util/ArraysSupport" (51 : Nat) "jdk/internal/util/ArraysSupport" "LOG2_ARRAY_INT_INDEX_SCALE" "I") ∈ lw_all := lw_g (lw_at lw_m8 181 rfl) rfl
theorem q1955 : (Jvm.Cond.laysStatic "jdk/internal/util/ArraysSupport" "LOG2_ARRAY_INT_INDEX_SCALE" "I") ∈ lw_tbl := lw_at lw_m8 182 rfl
theorem q1956 : (Jvm.Cond.methodLink "jdk/internal/util/ArraysSupport" (54 : Nat) ({ cls := "jdk/internal/misc/Unsafe", name := "getIntUnaligned", desc := "(Ljava/lang/Object;J)I" } : Jvm.MethodName)) ∈ lw_all := lw_g (lw_at lw_m8 183 rfl) rfl
theorem q1973 : (Jvm.Cond.methodLink "jdk/internal/util/ArraysSupport" (58 : Nat) ({ cls := "java/lang/Integer", name := "numberOfLeadingZeros", desc := "(I)I" } : Jvm.MethodName)) ∈ lw_all := lw_g (lw_at lw_m8 200 rfl) rfl
theorem q1974 : (Jvm.Cond.methodLink "jdk/internal/util/ArraysSupport" (11 : Nat) ({ cls := "java/lang/Integer", name := "numberOfTrailingZeros", desc := "(I)I" } : Jvm.MethodName)) ∈ lw_all := lw_g (lw_at lw_m8 201 rfl) rfl
/-! java/lang/Math -/
set_option maxRecDepth 100000
def RJ16 : String := "java/lang/Math"
abbrev cJ16_max : ByteArray := prog_38_method_65_code
def yJ16_max : MethodName := ⟨RJ16, "max", "(II)I"⟩
def dkwJ16_max_0 : List UInt8 := [26, 27, 161, 0, 7, 26, 167, 0, 4, 27, 172]
abbrev dktJ16_max_0 : List UInt8 := dkwJ16_max_0 ++ []
theorem dksJ16_max_0 : cJ16_max.data.toList.drop 0 = dktJ16_max_0 := by decide +kernel
theorem dJ16_max_0 : decode cJ16_max 0 = .ok (.iload_n 0, 1) := dk_26 (dk_at dksJ16_max_0 0 rfl rfl)
theorem dJ16_max_1 : decode cJ16_max 1 = .ok (.iload_n 1, 1) := dk_27 (dk_at dksJ16_max_0 1 rfl rfl)
theorem dJ16_max_2 : decode cJ16_max 2 = .ok (.if_icmp .lt 7, 3) := dk_161 0 7 (dk_at dksJ16_max_0 2 rfl rfl)
theorem dJ16_max_5 : decode cJ16_max 5 = .ok (.iload_n 0, 1) := dk_26 (dk_at dksJ16_max_0 5 rfl rfl)
theorem dJ16_max_6 : decode cJ16_max 6 = .ok (.goto 4, 3) := dk_167 0 4 (dk_at dksJ16_max_0 6 rfl rfl)
theorem dJ16_max_9 : decode cJ16_max 9 = .ok (.iload_n 1, 1) := dk_27 (dk_at dksJ16_max_0 9 rfl rfl)
theorem dJ16_max_10 : decode cJ16_max 10 = .ok (.ireturn, 1) := dk_172 (dk_at dksJ16_max_0 10 rfl rfl)
abbrev cJ16_min : ByteArray := prog_38_method_69_code
def yJ16_min : MethodName := ⟨RJ16, "min", "(II)I"⟩
def dkwJ16_min_0 : List UInt8 := [26, 27, 163, 0, 7, 26, 167, 0, 4, 27, 172]
abbrev dktJ16_min_0 : List UInt8 := dkwJ16_min_0 ++ []
theorem dksJ16_min_0 : cJ16_min.data.toList.drop 0 = dktJ16_min_0 := by decide +kernel
theorem dJ16_min_0 : decode cJ16_min 0 = .ok (.iload_n 0, 1) := dk_26 (dk_at dksJ16_min_0 0 rfl rfl)
theorem dJ16_min_1 : decode cJ16_min 1 = .ok (.iload_n 1, 1) := dk_27 (dk_at dksJ16_min_0 1 rfl rfl)
theorem dJ16_min_2 : decode cJ16_min 2 = .ok (.if_icmp .gt 7, 3) := dk_163 0 7 (dk_at dksJ16_min_0 2 rfl rfl)
theorem dJ16_min_5 : decode cJ16_min 5 = .ok (.iload_n 0, 1) := dk_26 (dk_at dksJ16_min_0 5 rfl rfl)
theorem dJ16_min_6 : decode cJ16_min 6 = .ok (.goto 4, 3) := dk_167 0 4 (dk_at dksJ16_min_0 6 rfl rfl)
theorem dJ16_min_9 : decode cJ16_min 9 = .ok (.iload_n 1, 1) := dk_27 (dk_at dksJ16_min_0 9 rfl rfl)
theorem dJ16_min_10 : decode cJ16_min 10 = .ok (.ireturn, 1) := dk_172 (dk_at dksJ16_min_0 10 rfl rfl)
abbrev cJ16_multiplyHigh : ByteArray := prog_38_method_45_code
def yJ16_multiplyHigh : MethodName := ⟨RJ16, "multiplyHigh", "(JJ)J"⟩
theorem q112 : (Jvm.Cond.initialized "java/lang/Math") ∈ lw_all := lw_g (lw_at lw_m1 19 rfl) rfl
theorem q310 : (Jvm.Cond.static ({ cls := "java/lang/Math", name := "max", desc := "(II)I" } : Jvm.MethodName)) ∈ lw_all := lw_g (lw_at lw_m1 217 rfl) rfl
theorem q311 : (Jvm.Cond.code ({ cls := "java/lang/Math", name := "max", desc := "(II)I" } : Jvm.MethodName) prog_38_method_65_code (2 : Nat) (Option.some Jvm.ClassFile.FieldType.int)) ∈ lw_all := lw_g (lw_at lw_m1 218 rfl) rfl
theorem q328 : (Jvm.Cond.static ({ cls := "java/lang/Math", name := "min", desc := "(II)I" } : Jvm.MethodName)) ∈ lw_all := lw_g (lw_at lw_m1 235 rfl) rfl
theorem q329 : (Jvm.Cond.code ({ cls := "java/lang/Math", name := "min", desc := "(II)I" } : Jvm.MethodName) prog_38_method_69_code (2 : Nat) (Option.some Jvm.ClassFile.FieldType.int)) ∈ lw_all := lw_g (lw_at lw_m1 236 rfl) rfl
theorem q605 : (Jvm.Cond.static ({ cls := "java/lang/Math", name := "multiplyHigh", desc := "(JJ)J" } : Jvm.MethodName)) ∈ lw_all := lw_g (lw_at lw_m3 32 rfl) rfl
theorem q606 : (Jvm.Cond.code ({ cls := "java/lang/Math", name := "multiplyHigh", desc := "(JJ)J" } : Jvm.MethodName) prog_38_method_45_code (20 : Nat) (Option.some Jvm.ClassFile.FieldType.long)) ∈ lw_all := lw_g (lw_at lw_m3 33 rfl) rfl
theorem q607 : (Jvm.Cond.constantLong "java/lang/Math" (138 : Nat) (4294967295 : Int64)) ∈ lw_all := lw_g (lw_at lw_m3 34 rfl) rfl
/-! java/util/Arrays -/
set_option maxRecDepth 100000
def RJ17 : String := "java/util/Arrays"
abbrev cJ17_copyOf : ByteArray := prog_60_method_121_code
def yJ17_copyOf : MethodName := ⟨RJ17, "copyOf", "([BI)[B"⟩
def dkwJ17_copyOf_1 : List UInt8 := [27, 184, 1, 48, 184, 0, 150, 44, 176]
abbrev dktJ17_copyOf_1 : List UInt8 := dkwJ17_copyOf_1 ++ []
def dkwJ17_copyOf_0 : List UInt8 := [27, 42, 190, 160, 0, 11, 42, 182, 1, 54, 192, 1, 55, 176, 27, 188, 8, 77, 42, 3, 44, 3, 42, 190]
abbrev dktJ17_copyOf_0 : List UInt8 := dkwJ17_copyOf_0 ++ dktJ17_copyOf_1
theorem dksJ17_copyOf_0 : cJ17_copyOf.data.toList.drop 0 = dktJ17_copyOf_0 := by decide +kernel
theorem dksJ17_copyOf_1 : cJ17_copyOf.data.toList.drop 24 = dktJ17_copyOf_1 := dk_seg dksJ17_copyOf_0 24 rfl rfl
theorem dJ17_copyOf_0 : decode cJ17_copyOf 0 = .ok (.iload_n 1, 1) := dk_27 (dk_at dksJ17_copyOf_0 0 rfl rfl)
theorem dJ17_copyOf_1 : decode cJ17_copyOf 1 = .ok (.aload_n 0, 1) := dk_42 (dk_at dksJ17_copyOf_0 1 rfl rfl)
theorem dJ17_copyOf_2 : decode cJ17_copyOf 2 = .ok (.arraylength, 1) := dk_190 (dk_at dksJ17_copyOf_0 2 rfl rfl)
theorem dJ17_copyOf_3 : decode cJ17_copyOf 3 = .ok (.if_icmp .ne 11, 3) := dk_160 0 11 (dk_at dksJ17_copyOf_0 3 rfl rfl)
theorem dJ17_copyOf_6 : decode cJ17_copyOf 6 = .ok (.aload_n 0, 1) := dk_42 (dk_at dksJ17_copyOf_0 6 rfl rfl)
theorem dJ17_copyOf_7 : decode cJ17_copyOf 7 = .ok (.invokevirtual 310, 3) := dk_182 1 54 (dk_at dksJ17_copyOf_0 7 rfl rfl)
theorem dJ17_copyOf_10 : decode cJ17_copyOf 10 = .ok (.checkcast 311, 3) := dk_192 1 55 (dk_at dksJ17_copyOf_0 10 rfl rfl)
theorem dJ17_copyOf_13 : decode cJ17_copyOf 13 = .ok (.areturn, 1) := dk_176 (dk_at dksJ17_copyOf_0 13 rfl rfl)
theorem dJ17_copyOf_14 : decode cJ17_copyOf 14 = .ok (.iload_n 1, 1) := dk_27 (dk_at dksJ17_copyOf_0 14 rfl rfl)
theorem dJ17_copyOf_15 : decode cJ17_copyOf 15 = .ok (.newarray .byte, 2) := dk_188_8 (dk_at dksJ17_copyOf_0 15 rfl rfl)
theorem dJ17_copyOf_17 : decode cJ17_copyOf 17 = .ok (.astore_n 2, 1) := dk_77 (dk_at dksJ17_copyOf_0 17 rfl rfl)
theorem dJ17_copyOf_18 : decode cJ17_copyOf 18 = .ok (.aload_n 0, 1) := dk_42 (dk_at dksJ17_copyOf_0 18 rfl rfl)
theorem dJ17_copyOf_19 : decode cJ17_copyOf 19 = .ok (.iconst 0, 1) := dk_3 (dk_at dksJ17_copyOf_0 19 rfl rfl)
theorem dJ17_copyOf_20 : decode cJ17_copyOf 20 = .ok (.aload_n 2, 1) := dk_44 (dk_at dksJ17_copyOf_0 20 rfl rfl)
theorem dJ17_copyOf_21 : decode cJ17_copyOf 21 = .ok (.iconst 0, 1) := dk_3 (dk_at dksJ17_copyOf_0 21 rfl rfl)
theorem dJ17_copyOf_22 : decode cJ17_copyOf 22 = .ok (.aload_n 0, 1) := dk_42 (dk_at dksJ17_copyOf_0 22 rfl rfl)
theorem dJ17_copyOf_23 : decode cJ17_copyOf 23 = .ok (.arraylength, 1) := dk_190 (dk_at dksJ17_copyOf_0 23 rfl rfl)
theorem dJ17_copyOf_24 : decode cJ17_copyOf 24 = .ok (.iload_n 1, 1) := dk_27 (dk_at dksJ17_copyOf_1 0 rfl rfl)
theorem dJ17_copyOf_25 : decode cJ17_copyOf 25 = .ok (.invokestatic 304, 3) := dk_184 1 48 (dk_at dksJ17_copyOf_1 1 rfl rfl)
theorem dJ17_copyOf_28 : decode cJ17_copyOf 28 = .ok (.invokestatic 150, 3) := dk_184 0 150 (dk_at dksJ17_copyOf_1 4 rfl rfl)
theorem dJ17_copyOf_31 : decode cJ17_copyOf 31 = .ok (.aload_n 2, 1) := dk_44 (dk_at dksJ17_copyOf_1 7 rfl rfl)
theorem dJ17_copyOf_32 : decode cJ17_copyOf 32 = .ok (.areturn, 1) := dk_176 (dk_at dksJ17_copyOf_1 8 rfl rfl)
abbrev cJ17_copyOfRange : ByteArray := prog_60_method_132_code
def yJ17_copyOfRange : MethodName := ⟨RJ17, "copyOfRange", "([BII)[B"⟩
abbrev cJ17_copyOfRangeByte : ByteArray := prog_60_method_133_code
def yJ17_copyOfRangeByte : MethodName := ⟨RJ17, "copyOfRangeByte", "([BII)[B"⟩
abbrev cJ17_checkLength : ByteArray := prog_60_method_131_code
def yJ17_checkLength : MethodName := ⟨RJ17, "checkLength", "(II)V"⟩
abbrev cJ17_copyOf_2 : ByteArray := prog_60_method_119_code
def yJ17_copyOf_2 : MethodName := ⟨RJ17, "copyOf", "([Ljava/lang/Object;I)[Ljava/lang/Object;"⟩
def dkwJ17_copyOf_2_0 : List UInt8 := [42, 27, 42, 182, 0, 86, 184, 1, 44, 176]
abbrev dktJ17_copyOf_2_0 : List UInt8 := dkwJ17_copyOf_2_0 ++ []
theorem dksJ17_copyOf_2_0 : cJ17_copyOf_2.data.toList.drop 0 = dktJ17_copyOf_2_0 := by decide +kernel
theorem dJ17_copyOf_2_0 : decode cJ17_copyOf_2 0 = .ok (.aload_n 0, 1) := dk_42 (dk_at dksJ17_copyOf_2_0 0 rfl rfl)
theorem dJ17_copyOf_2_1 : decode cJ17_copyOf_2 1 = .ok (.iload_n 1, 1) := dk_27 (dk_at dksJ17_copyOf_2_0 1 rfl rfl)
theorem dJ17_copyOf_2_2 : decode cJ17_copyOf_2 2 = .ok (.aload_n 0, 1) := dk_42 (dk_at dksJ17_copyOf_2_0 2 rfl rfl)
theorem dJ17_copyOf_2_3 : decode cJ17_copyOf_2 3 = .ok (.invokevirtual 86, 3) := dk_182 0 86 (dk_at dksJ17_copyOf_2_0 3 rfl rfl)
theorem dJ17_copyOf_2_6 : decode cJ17_copyOf_2 6 = .ok (.invokestatic 300, 3) := dk_184 1 44 (dk_at dksJ17_copyOf_2_0 6 rfl rfl)
theorem dJ17_copyOf_2_9 : decode cJ17_copyOf_2 9 = .ok (.areturn, 1) := dk_176 (dk_at dksJ17_copyOf_2_0 9 rfl rfl)
abbrev cJ17_copyOf_3 : ByteArray := prog_60_method_120_code
def yJ17_copyOf_3 : MethodName := ⟨RJ17, "copyOf", "([Ljava/lang/Object;ILjava/lang/Class;)[Ljava/lang/Object;"⟩
def dkwJ17_copyOf_3_1 : List UInt8 := [78, 42, 3, 45, 3, 42, 190, 27, 184, 1, 48, 184, 0, 150, 45, 176]
abbrev dktJ17_copyOf_3_1 : List UInt8 := dkwJ17_copyOf_3_1 ++ []
def dkwJ17_copyOf_3_0 : List UInt8 := [44, 18, 110, 166, 0, 10, 27, 189, 0, 2, 167, 0, 14, 44, 182, 0, 90, 27, 184, 0, 95, 192, 0, 110]
abbrev dktJ17_copyOf_3_0 : List UInt8 := dkwJ17_copyOf_3_0 ++ dktJ17_copyOf_3_1
theorem dksJ17_copyOf_3_0 : cJ17_copyOf_3.data.toList.drop 0 = dktJ17_copyOf_3_0 := by decide +kernel
theorem dksJ17_copyOf_3_1 : cJ17_copyOf_3.data.toList.drop 24 = dktJ17_copyOf_3_1 := dk_seg dksJ17_copyOf_3_0 24 rfl rfl
theorem dJ17_copyOf_3_0 : decode cJ17_copyOf_3 0 = .ok (.aload_n 2, 1) := dk_44 (dk_at dksJ17_copyOf_3_0 0 rfl rfl)
theorem dJ17_copyOf_3_1 : decode cJ17_copyOf_3 1 = .ok (.ldc 110, 2) := dk_18 110 (dk_at dksJ17_copyOf_3_0 1 rfl rfl)
theorem dJ17_copyOf_3_3 : decode cJ17_copyOf_3 3 = .ok (.if_acmp .ne 10, 3) := dk_166 0 10 (dk_at dksJ17_copyOf_3_0 3 rfl rfl)
theorem dJ17_copyOf_3_6 : decode cJ17_copyOf_3 6 = .ok (.iload_n 1, 1) := dk_27 (dk_at dksJ17_copyOf_3_0 6 rfl rfl)
theorem dJ17_copyOf_3_7 : decode cJ17_copyOf_3 7 = .ok (.anewarray 2, 3) := dk_189 0 2 (dk_at dksJ17_copyOf_3_0 7 rfl rfl)
theorem dJ17_copyOf_3_10 : decode cJ17_copyOf_3 10 = .ok (.goto 14, 3) := dk_167 0 14 (dk_at dksJ17_copyOf_3_0 10 rfl rfl)
theorem dJ17_copyOf_3_13 : decode cJ17_copyOf_3 13 = .ok (.aload_n 2, 1) := dk_44 (dk_at dksJ17_copyOf_3_0 13 rfl rfl)
theorem dJ17_copyOf_3_14 : decode cJ17_copyOf_3 14 = .ok (.invokevirtual 90, 3) := dk_182 0 90 (dk_at dksJ17_copyOf_3_0 14 rfl rfl)
theorem dJ17_copyOf_3_17 : decode cJ17_copyOf_3 17 = .ok (.iload_n 1, 1) := dk_27 (dk_at dksJ17_copyOf_3_0 17 rfl rfl)
theorem dJ17_copyOf_3_18 : decode cJ17_copyOf_3 18 = .ok (.invokestatic 95, 3) := dk_184 0 95 (dk_at dksJ17_copyOf_3_0 18 rfl rfl)
theorem dJ17_copyOf_3_21 : decode cJ17_copyOf_3 21 = .ok (.checkcast 110, 3) := dk_192 0 110 (dk_at dksJ17_copyOf_3_0 21 rfl rfl)
theorem dJ17_copyOf_3_24 : decode cJ17_copyOf_3 24 = .ok (.astore_n 3, 1) := dk_78 (dk_at dksJ17_copyOf_3_1 0 rfl rfl)
theorem dJ17_copyOf_3_25 : decode cJ17_copyOf_3 25 = .ok (.aload_n 0, 1) := dk_42 (dk_at dksJ17_copyOf_3_1 1 rfl rfl)
theorem dJ17_copyOf_3_26 : decode cJ17_copyOf_3 26 = .ok (.iconst 0, 1) := dk_3 (dk_at dksJ17_copyOf_3_1 2 rfl rfl)
theorem dJ17_copyOf_3_27 : decode cJ17_copyOf_3 27 = .ok (.aload_n 3, 1) := dk_45 (dk_at dksJ17_copyOf_3_1 3 rfl rfl)
theorem dJ17_copyOf_3_28 : decode cJ17_copyOf_3 28 = .ok (.iconst 0, 1) := dk_3 (dk_at dksJ17_copyOf_3_1 4 rfl rfl)
theorem dJ17_copyOf_3_29 : decode cJ17_copyOf_3 29 = .ok (.aload_n 0, 1) := dk_42 (dk_at dksJ17_copyOf_3_1 5 rfl rfl)
theorem dJ17_copyOf_3_30 : decode cJ17_copyOf_3 30 = .ok (.arraylength, 1) := dk_190 (dk_at dksJ17_copyOf_3_1 6 rfl rfl)
theorem dJ17_copyOf_3_31 : decode cJ17_copyOf_3 31 = .ok (.iload_n 1, 1) := dk_27 (dk_at dksJ17_copyOf_3_1 7 rfl rfl)
theorem dJ17_copyOf_3_32 : decode cJ17_copyOf_3 32 = .ok (.invokestatic 304, 3) := dk_184 1 48 (dk_at dksJ17_copyOf_3_1 8 rfl rfl)
theorem dJ17_copyOf_3_35 : decode cJ17_copyOf_3 35 = .ok (.invokestatic 150, 3) := dk_184 0 150 (dk_at dksJ17_copyOf_3_1 11 rfl rfl)
theorem dJ17_copyOf_3_38 : decode cJ17_copyOf_3 38 = .ok (.aload_n 3, 1) := dk_45 (dk_at dksJ17_copyOf_3_1 14 rfl rfl)
theorem dJ17_copyOf_3_39 : decode cJ17_copyOf_3 39 = .ok (.areturn, 1) := dk_176 (dk_at dksJ17_copyOf_3_1 15 rfl rfl)
theorem q113 : (Jvm.Cond.initialized "java/util/Arrays") ∈ lw_all := lw_g (lw_at lw_m1 20 rfl) rfl
theorem q318 : (Jvm.Cond.static ({ cls := "java/util/Arrays", name := "copyOf", desc := "([BI)[B" } : Jvm.MethodName)) ∈ lw_all := lw_g (lw_at lw_m1 225 rfl) rfl
theorem q319 : (Jvm.Cond.code ({ cls := "java/util/Arrays", name := "copyOf", desc := "([BI)[B" } : Jvm.MethodName) prog_60_method_121_code (3 : Nat) (Option.some (Jvm.ClassFile.FieldType.array Jvm.ClassFile.FieldType.byte))) ∈ lw_all := lw_g (lw_at lw_m1 226 rfl) rfl
theorem q320 : (Jvm.Cond.methodLink "java/util/Arrays" (310 : Nat) ({ cls := "[B", name := "clone", desc := "()Ljava/lang/Object;" } : Jvm.MethodName)) ∈ lw_all := lw_g (lw_at lw_m1 227 rfl) rfl
theorem q326 : (Jvm.Cond.classLink "java/util/Arrays" (311 : Nat) "[B") ∈ lw_all := lw_g (lw_at lw_m1 233 rfl) rfl
theorem q327 : (Jvm.Cond.methodLink "java/util/Arrays" (304 : Nat) ({ cls := "java/lang/Math", name := "min", desc := "(II)I" } : Jvm.MethodName)) ∈ lw_all := lw_g (lw_at lw_m1 234 rfl) rfl
theorem q330 : (Jvm.Cond.methodLink "java/util/Arrays" (150 : Nat) ({ cls := "java/lang/System", name := "arraycopy", desc := "(Ljava/lang/Object;ILjava/lang/Object;II)V" } : Jvm.MethodName)) ∈ lw_all := lw_g (lw_at lw_m1 237 rfl) rfl
theorem q460 : (Jvm.Cond.static ({ cls := "java/util/Arrays", name := "copyOfRange", desc := "([BII)[B" } : Jvm.MethodName)) ∈ lw_all := lw_g (lw_at lw_m2 127 rfl) rfl
theorem q461 : (Jvm.Cond.code ({ cls := "java/util/Arrays", name := "copyOfRange", desc := "([BII)[B" } : Jvm.MethodName) prog_60_method_132_code (3 : Nat) (Option.some (Jvm.ClassFile.FieldType.array Jvm.ClassFile.FieldType.byte))) ∈ lw_all := lw_g (lw_at lw_m2 128 rfl) rfl
theorem q462 : (Jvm.Cond.methodLink "java/util/Arrays" (339 : Nat) ({ cls := "java/util/Arrays", name := "copyOfRangeByte", desc := "([BII)[B" } : Jvm.MethodName)) ∈ lw_all := lw_g (lw_at lw_m2 129 rfl) rfl
theorem q463 : (Jvm.Cond.static ({ cls := "java/util/Arrays", name := "copyOfRangeByte", desc := "([BII)[B" } : Jvm.MethodName)) ∈ lw_all := lw_g (lw_at lw_m2 130 rfl) rfl
theorem q464 : (Jvm.Cond.code ({ cls := "java/util/Arrays", name := "copyOfRangeByte", desc := "([BII)[B" } : Jvm.MethodName) prog_60_method_133_code (5 : Nat) (Option.some (Jvm.ClassFile.FieldType.array Jvm.ClassFile.FieldType.byte))) ∈ lw_all := lw_g (lw_at lw_m2 131 rfl) rfl
theorem q465 : (Jvm.Cond.methodLink "java/util/Arrays" (343 : Nat) ({ cls := "java/util/Arrays", name := "checkLength", desc := "(II)V" } : Jvm.MethodName)) ∈ lw_all := lw_g (lw_at lw_m2 132 rfl) rfl
theorem q466 : (Jvm.Cond.static ({ cls := "java/util/Arrays", name := "checkLength", desc := "(II)V" } : Jvm.MethodName)) ∈ lw_all := lw_g (lw_at lw_m2 133 rfl) rfl
theorem q467 : (Jvm.Cond.code ({ cls := "java/util/Arrays", name := "checkLength", desc := "(II)V" } : Jvm.MethodName) prog_60_method_131_code (2 : Nat) (Option.none : Option Jvm.ClassFile.FieldType)) ∈ lw_all := lw_g (lw_at lw_m2 134 rfl) rfl
theorem q468 : (Jvm.Cond.classLink "java/util/Arrays" (43 : Nat) "java/lang/IllegalArgumentException") ∈ lw_all := lw_g (lw_at lw_m2 135 rfl) rfl
theorem q469 : (Jvm.Cond.classLink "java/util/Arrays" (45 : Nat) "java/lang/StringBuilder") ∈ lw_all := lw_g (lw_at lw_m2 136 rfl) rfl
theorem q470 : (Jvm.Cond.methodLink "java/util/Arrays" (47 : Nat) ({ cls := "java/lang/StringBuilder", name := "<init>", desc := "()V" } : Jvm.MethodName)) ∈ lw_all := lw_g (lw_at lw_m2 137 rfl) rfl
theorem q471 : (Jvm.Cond.methodLink "java/util/Arrays" (54 : Nat) ({ cls := "java/lang/StringBuilder", name := "append", desc := "(I)Ljava/lang/StringBuilder;" } : Jvm.MethodName)) ∈ lw_all := lw_g (lw_at lw_m2 138 rfl) rfl
theorem q472 : (Jvm.Cond.stringRef "java/util/Arrays" (337 : Nat) " > ") ∈ lw_tbl := lw_at lw_m2 139 rfl
theorem q473 : (Jvm.Cond.methodLink "java/util/Arrays" (50 : Nat) ({ cls := "java/lang/StringBuilder", name := "append", desc := "(Ljava/lang/String;)Ljava/lang/StringBuilder;" } : Jvm.MethodName)) ∈ lw_all := lw_g (lw_at lw_m2 140 rfl) rfl
theorem q474 : (Jvm.Cond.methodLink "java/util/Arrays" (61 : Nat) ({ cls := "java/lang/StringBuilder", name := "toString", desc := "()Ljava/lang/String;" } : Jvm.MethodName)) ∈ lw_all := lw_g (lw_at lw_m2 141 rfl) rfl
theorem q475 : (Jvm.Cond.methodLink "java/util/Arrays" (65 : Nat) ({ cls := "java/lang/IllegalArgumentException", name := "<init>", desc := "(Ljava/lang/String;)V" } : Jvm.MethodName)) ∈ lw_all := lw_g (lw_at lw_m2 142 rfl) rfl
theorem q2245 : (Jvm.Cond.static ({ cls := "java/util/Arrays", name := "copyOf", desc := "([Ljava/lang/Object;I)[Ljava/lang/Object;" } : Jvm.MethodName)) ∈ lw_all := lw_g (lw_at lw_m9 232 rfl) rfl
theorem q2246 : (Jvm.Cond.code ({ cls := "java/util/Arrays", name := "copyOf", desc := "([Ljava/lang/Object;I)[Ljava/lang/Object;" } : Jvm.MethodName) prog_60_method_119_code (2 : Nat) (Option.some (Jvm.ClassFile.FieldType.array (Jvm.ClassFile.FieldType.object "java/lang/Object")))) ∈ lw_all := lw_g (lw_at lw_m9 233 rfl) rfl
theorem q2247 : (Jvm.Cond.methodLink "java/util/Arrays" (86 : Nat) ({ cls := "java/lang/Object", name := "getClass", desc := "()Ljava/lang/Class;" } : Jvm.MethodName)) ∈ lw_all := lw_g (lw_at lw_m9 234 rfl) rfl
theorem q2248 : (Jvm.Cond.methodLink "java/util/Arrays" (300 : Nat) ({ cls := "java/util/Arrays", name := "copyOf", desc := "([Ljava/lang/Object;ILjava/lang/Class;)[Ljava/lang/Object;" } : Jvm.MethodName)) ∈ lw_all := lw_g (lw_at lw_m9 235 rfl) rfl
theorem q2249 : (Jvm.Cond.static ({ cls := "java/util/Arrays", name := "copyOf", desc := "([Ljava/lang/Object;ILjava/lang/Class;)[Ljava/lang/Object;" } : Jvm.MethodName)) ∈ lw_all := lw_g (lw_at lw_m9 236 rfl) rfl
theorem q2250 : (Jvm.Cond.code ({ cls := "java/util/Arrays", name := "copyOf", desc := "([Ljava/lang/Object;ILjava/lang/Class;)[Ljava/lang/Object;" } : Jvm.MethodName) prog_60_method_120_code (4 : Nat) (Option.some (Jvm.ClassFile.FieldType.array (Jvm.ClassFile.FieldType.object "java/lang/Object")))) ∈ lw_all := lw_g (lw_at lw_m9 237 rfl) rfl
theorem q2251 : (Jvm.Cond.classLink "java/util/Arrays" (110 : Nat) "[Ljava/lang/Object;") ∈ lw_all := lw_g (lw_at lw_m9 238 rfl) rfl
theorem q2252 : (Jvm.Cond.classLink "java/util/Arrays" (2 : Nat) "java/lang/Object") ∈ lw_all := lw_g (lw_at lw_m9 239 rfl) rfl
/-! jdk/internal/util/Preconditions -/
set_option maxRecDepth 100000
def RJ18 : String := "jdk/internal/util/Preconditions"
abbrev cJ18_checkFromToIndex : ByteArray := prog_94_method_12_code
def yJ18_checkFromToIndex : MethodName := ⟨RJ18, "checkFromToIndex", "(IIILjava/util/function/BiFunction;)I"⟩
abbrev cJ18_checkFromIndexSize : ByteArray := prog_94_method_13_code
def yJ18_checkFromIndexSize : MethodName := ⟨RJ18, "checkFromIndexSize", "(IIILjava/util/function/BiFunction;)I"⟩
abbrev cJ18_checkIndex : ByteArray := prog_94_method_11_code
def yJ18_checkIndex : MethodName := ⟨RJ18, "checkIndex", "(IILjava/util/function/BiFunction;)I"⟩
def dkwJ18_checkIndex_0 : List UInt8 := [26, 155, 0, 8, 26, 27, 161, 0, 10, 44, 26, 27, 184, 0, 95, 191, 26, 172]
abbrev dktJ18_checkIndex_0 : List UInt8 := dkwJ18_checkIndex_0 ++ []
theorem dksJ18_checkIndex_0 : cJ18_checkIndex.data.toList.drop 0 = dktJ18_checkIndex_0 := by decide +kernel
theorem dJ18_checkIndex_0 : decode cJ18_checkIndex 0 = .ok (.iload_n 0, 1) := dk_26 (dk_at dksJ18_checkIndex_0 0 rfl rfl)
theorem dJ18_checkIndex_1 : decode cJ18_checkIndex 1 = .ok (.ifCond .lt 8, 3) := dk_155 0 8 (dk_at dksJ18_checkIndex_0 1 rfl rfl)
theorem dJ18_checkIndex_4 : decode cJ18_checkIndex 4 = .ok (.iload_n 0, 1) := dk_26 (dk_at dksJ18_checkIndex_0 4 rfl rfl)
theorem dJ18_checkIndex_5 : decode cJ18_checkIndex 5 = .ok (.iload_n 1, 1) := dk_27 (dk_at dksJ18_checkIndex_0 5 rfl rfl)
theorem dJ18_checkIndex_6 : decode cJ18_checkIndex 6 = .ok (.if_icmp .lt 10, 3) := dk_161 0 10 (dk_at dksJ18_checkIndex_0 6 rfl rfl)
theorem dJ18_checkIndex_9 : decode cJ18_checkIndex 9 = .ok (.aload_n 2, 1) := dk_44 (dk_at dksJ18_checkIndex_0 9 rfl rfl)
theorem dJ18_checkIndex_10 : decode cJ18_checkIndex 10 = .ok (.iload_n 0, 1) := dk_26 (dk_at dksJ18_checkIndex_0 10 rfl rfl)
theorem dJ18_checkIndex_11 : decode cJ18_checkIndex 11 = .ok (.iload_n 1, 1) := dk_27 (dk_at dksJ18_checkIndex_0 11 rfl rfl)
theorem dJ18_checkIndex_12 : decode cJ18_checkIndex 12 = .ok (.invokestatic 95, 3) := dk_184 0 95 (dk_at dksJ18_checkIndex_0 12 rfl rfl)
theorem dJ18_checkIndex_15 : decode cJ18_checkIndex 15 = .ok (.athrow, 1) := dk_191 (dk_at dksJ18_checkIndex_0 15 rfl rfl)
theorem dJ18_checkIndex_16 : decode cJ18_checkIndex 16 = .ok (.iload_n 0, 1) := dk_26 (dk_at dksJ18_checkIndex_0 16 rfl rfl)
theorem dJ18_checkIndex_17 : decode cJ18_checkIndex 17 = .ok (.ireturn, 1) := dk_172 (dk_at dksJ18_checkIndex_0 17 rfl rfl)
theorem q115 : (Jvm.Cond.initialized "jdk/internal/util/Preconditions") ∈ lw_all := lw_g (lw_at lw_m1 22 rfl) rfl
theorem q351 : (Jvm.Cond.laysStatic "jdk/internal/util/Preconditions" "SIOOBE_FORMATTER" "Ljava/util/function/BiFunction;") ∈ lw_tbl := lw_at lw_m2 18 rfl
theorem q353 : (Jvm.Cond.static ({ cls := "jdk/internal/util/Preconditions", name := "checkFromToIndex", desc := "(IIILjava/util/function/BiFunction;)I" } : Jvm.MethodName)) ∈ lw_all := lw_g (lw_at lw_m2 20 rfl) rfl
theorem q354 : (Jvm.Cond.code ({ cls := "jdk/internal/util/Preconditions", name := "checkFromToIndex", desc := "(IIILjava/util/function/BiFunction;)I" } : Jvm.MethodName) prog_94_method_12_code (4 : Nat) (Option.some Jvm.ClassFile.FieldType.int)) ∈ lw_all := lw_g (lw_at lw_m2 21 rfl) rfl
theorem q399 : (Jvm.Cond.static ({ cls := "jdk/internal/util/Preconditions", name := "checkFromIndexSize", desc := "(IIILjava/util/function/BiFunction;)I" } : Jvm.MethodName)) ∈ lw_all := lw_g (lw_at lw_m2 66 rfl) rfl
theorem q400 : (Jvm.Cond.code ({ cls := "jdk/internal/util/Preconditions", name := "checkFromIndexSize", desc := "(IIILjava/util/function/BiFunction;)I" } : Jvm.MethodName) prog_94_method_13_code (4 : Nat) (Option.some Jvm.ClassFile.FieldType.int)) ∈ lw_all := lw_g (lw_at lw_m2 67 rfl) rfl
theorem q707 : (Jvm.Cond.static ({ cls := "jdk/internal/util/Preconditions", name := "checkIndex", desc := "(IILjava/util/function/BiFunction;)I" } : Jvm.MethodName)) ∈ lw_all := lw_g (lw_at lw_m3 134 rfl) rfl
theorem q708 : (Jvm.Cond.code ({ cls := "jdk/internal/util/Preconditions", name := "checkIndex", desc := "(IILjava/util/function/BiFunction;)I" } : Jvm.MethodName) prog_94_method_11_code (3 : Nat) (Option.some Jvm.ClassFile.FieldType.int)) ∈ lw_all := lw_g (lw_at lw_m3 135 rfl) rfl
theorem q779 : (Jvm.Cond.laysStatic "jdk/internal/util/Preconditions" "IOOBE_FORMATTER" "Ljava/util/function/BiFunction;") ∈ lw_tbl := lw_at lw_m3 206 rfl
/-! java/lang/Number -/
set_option maxRecDepth 100000
def RJ20 : String := "java/lang/Number"
abbrev cJ20_init : ByteArray := prog_39_method_1_code
def yJ20_init : MethodName := ⟨RJ20, "<init>", "()V"⟩
theorem dJ20_init_0 : decode cJ20_init 0 = .ok (.aload_n 0, 1) := by decide +kernel
theorem dJ20_init_1 : decode cJ20_init 1 = .ok (.invokespecial 1, 3) := by decide +kernel
theorem dJ20_init_4 : decode cJ20_init 4 = .ok (.return_, 1) := by decide +kernel
theorem q117 : (Jvm.Cond.initialized "java/lang/Number") ∈ lw_all := lw_g (lw_at lw_m1 24 rfl) rfl
theorem q2560 : (Jvm.Cond.instanceMethod ({ cls := "java/lang/Number", name := "<init>", desc := "()V" } : Jvm.MethodName)) ∈ lw_all := lw_g (lw_at lw_m11 67 rfl) rfl
theorem q2561 : (Jvm.Cond.code ({ cls := "java/lang/Number", name := "<init>", desc := "()V" } : Jvm.MethodName) prog_39_method_1_code (1 : Nat) (Option.none : Option Jvm.ClassFile.FieldType)) ∈ lw_all := lw_g (lw_at lw_m11 68 rfl) rfl
theorem q2562 : (Jvm.Cond.methodLink "java/lang/Number" (1 : Nat) ({ cls := "java/lang/Object", name := "<init>", desc := "()V" } : Jvm.MethodName)) ∈ lw_all := lw_g (lw_at lw_m11 69 rfl) rfl
/-! java/lang/Integer -/
set_option maxRecDepth 100000
def RJ21 : String := "java/lang/Integer"
def TJ21 : u_T := fun k => match k with
  | _ => ("java/lang/Integer", "value", "I", true)
def tyJ21 : Nat → FieldType := fun k => match k with
  | _ => .int
abbrev wsJ210 : List Cond := u_ws RJ21 TJ21 1
theorem nmJ21 : ∀ a, a < 1 → ∀ b, b < 1 → a ≠ b → (TJ21 a).2.1 ≠ (TJ21 b).2.1 := by decide +kernel
theorem tyJ21_ok : ∀ k, k < 1 → parseFieldDescriptor (TJ21 k).2.2.1 = some (tyJ21 k) := by decide +kernel
abbrev cJ21_stringSize : ByteArray := prog_34_method_13_code
def yJ21_stringSize : MethodName := ⟨RJ21, "stringSize", "(I)I"⟩
abbrev cJ21_getChars : ByteArray := prog_34_method_12_code
def yJ21_getChars : MethodName := ⟨RJ21, "getChars", "(II[B)I"⟩
abbrev cJ21_numberOfLeadingZeros : ByteArray := prog_34_method_47_code
def yJ21_numberOfLeadingZeros : MethodName := ⟨RJ21, "numberOfLeadingZeros", "(I)I"⟩
abbrev cJ21_toString : ByteArray := prog_34_method_31_code
def yJ21_toString : MethodName := ⟨RJ21, "toString", "()Ljava/lang/String;"⟩
abbrev cJ21_toString_2 : ByteArray := prog_34_method_10_code
def yJ21_toString_2 : MethodName := ⟨RJ21, "toString", "(I)Ljava/lang/String;"⟩
abbrev cJ21_numberOfTrailingZeros : ByteArray := prog_34_method_48_code
def yJ21_numberOfTrailingZeros : MethodName := ⟨RJ21, "numberOfTrailingZeros", "(I)I"⟩
def dkwJ21_numberOfTrailingZeros_3 : List UInt8 := [5, 124, 59, 27, 26, 4, 124, 96, 172]
abbrev dktJ21_numberOfTrailingZeros_3 : List UInt8 := dkwJ21_numberOfTrailingZeros_3 ++ []
def dkwJ21_numberOfTrailingZeros_2 : List UInt8 := [124, 59, 26, 16, 16, 164, 0, 10, 132, 1, 4, 26, 7, 124, 59, 26, 7, 164, 0, 10, 132, 1, 2, 26]
abbrev dktJ21_numberOfTrailingZeros_2 : List UInt8 := dkwJ21_numberOfTrailingZeros_2 ++ dktJ21_numberOfTrailingZeros_3
def dkwJ21_numberOfTrailingZeros_1 : List UInt8 := [164, 0, 11, 132, 1, 16, 26, 16, 16, 124, 59, 26, 17, 1, 0, 164, 0, 11, 132, 1, 8, 26, 16, 8]
abbrev dktJ21_numberOfTrailingZeros_1 : List UInt8 := dkwJ21_numberOfTrailingZeros_1 ++ dktJ21_numberOfTrailingZeros_2
def dkwJ21_numberOfTrailingZeros_0 : List UInt8 := [26, 2, 130, 26, 4, 100, 126, 59, 26, 157, 0, 8, 26, 16, 32, 126, 172, 4, 60, 26, 19, 1, 8]
abbrev dktJ21_numberOfTrailingZeros_0 : List UInt8 := dkwJ21_numberOfTrailingZeros_0 ++ dktJ21_numberOfTrailingZeros_1
theorem dksJ21_numberOfTrailingZeros_0 : cJ21_numberOfTrailingZeros.data.toList.drop 0 = dktJ21_numberOfTrailingZeros_0 := by decide +kernel
theorem dksJ21_numberOfTrailingZeros_1 : cJ21_numberOfTrailingZeros.data.toList.drop 23 = dktJ21_numberOfTrailingZeros_1 := dk_seg dksJ21_numberOfTrailingZeros_0 23 rfl rfl
theorem dksJ21_numberOfTrailingZeros_2 : cJ21_numberOfTrailingZeros.data.toList.drop 47 = dktJ21_numberOfTrailingZeros_2 := dk_seg dksJ21_numberOfTrailingZeros_1 24 rfl rfl
theorem dksJ21_numberOfTrailingZeros_3 : cJ21_numberOfTrailingZeros.data.toList.drop 71 = dktJ21_numberOfTrailingZeros_3 := dk_seg dksJ21_numberOfTrailingZeros_2 24 rfl rfl
theorem dJ21_numberOfTrailingZeros_0 : decode cJ21_numberOfTrailingZeros 0 = .ok (.iload_n 0, 1) := dk_26 (dk_at dksJ21_numberOfTrailingZeros_0 0 rfl rfl)
theorem dJ21_numberOfTrailingZeros_1 : decode cJ21_numberOfTrailingZeros 1 = .ok (.iconst (-1), 1) := dk_2 (dk_at dksJ21_numberOfTrailingZeros_0 1 rfl rfl)
theorem dJ21_numberOfTrailingZeros_2 : decode cJ21_numberOfTrailingZeros 2 = .ok (.ixor, 1) := dk_130 (dk_at dksJ21_numberOfTrailingZeros_0 2 rfl rfl)
theorem dJ21_numberOfTrailingZeros_3 : decode cJ21_numberOfTrailingZeros 3 = .ok (.iload_n 0, 1) := dk_26 (dk_at dksJ21_numberOfTrailingZeros_0 3 rfl rfl)
theorem dJ21_numberOfTrailingZeros_4 : decode cJ21_numberOfTrailingZeros 4 = .ok (.iconst 1, 1) := dk_4 (dk_at dksJ21_numberOfTrailingZeros_0 4 rfl rfl)
theorem dJ21_numberOfTrailingZeros_5 : decode cJ21_numberOfTrailingZeros 5 = .ok (.isub, 1) := dk_100 (dk_at dksJ21_numberOfTrailingZeros_0 5 rfl rfl)
theorem dJ21_numberOfTrailingZeros_6 : decode cJ21_numberOfTrailingZeros 6 = .ok (.iand, 1) := dk_126 (dk_at dksJ21_numberOfTrailingZeros_0 6 rfl rfl)
theorem dJ21_numberOfTrailingZeros_7 : decode cJ21_numberOfTrailingZeros 7 = .ok (.istore_n 0, 1) := dk_59 (dk_at dksJ21_numberOfTrailingZeros_0 7 rfl rfl)
theorem dJ21_numberOfTrailingZeros_8 : decode cJ21_numberOfTrailingZeros 8 = .ok (.iload_n 0, 1) := dk_26 (dk_at dksJ21_numberOfTrailingZeros_0 8 rfl rfl)
theorem dJ21_numberOfTrailingZeros_9 : decode cJ21_numberOfTrailingZeros 9 = .ok (.ifCond .gt 8, 3) := dk_157 0 8 (dk_at dksJ21_numberOfTrailingZeros_0 9 rfl rfl)
theorem dJ21_numberOfTrailingZeros_12 : decode cJ21_numberOfTrailingZeros 12 = .ok (.iload_n 0, 1) := dk_26 (dk_at dksJ21_numberOfTrailingZeros_0 12 rfl rfl)
theorem dJ21_numberOfTrailingZeros_13 : decode cJ21_numberOfTrailingZeros 13 = .ok (.bipush 32, 2) := dk_16 32 (dk_at dksJ21_numberOfTrailingZeros_0 13 rfl rfl)
theorem dJ21_numberOfTrailingZeros_15 : decode cJ21_numberOfTrailingZeros 15 = .ok (.iand, 1) := dk_126 (dk_at dksJ21_numberOfTrailingZeros_0 15 rfl rfl)
theorem dJ21_numberOfTrailingZeros_16 : decode cJ21_numberOfTrailingZeros 16 = .ok (.ireturn, 1) := dk_172 (dk_at dksJ21_numberOfTrailingZeros_0 16 rfl rfl)
theorem dJ21_numberOfTrailingZeros_17 : decode cJ21_numberOfTrailingZeros 17 = .ok (.iconst 1, 1) := dk_4 (dk_at dksJ21_numberOfTrailingZeros_0 17 rfl rfl)
theorem dJ21_numberOfTrailingZeros_18 : decode cJ21_numberOfTrailingZeros 18 = .ok (.istore_n 1, 1) := dk_60 (dk_at dksJ21_numberOfTrailingZeros_0 18 rfl rfl)
theorem dJ21_numberOfTrailingZeros_19 : decode cJ21_numberOfTrailingZeros 19 = .ok (.iload_n 0, 1) := dk_26 (dk_at dksJ21_numberOfTrailingZeros_0 19 rfl rfl)
theorem dJ21_numberOfTrailingZeros_20 : decode cJ21_numberOfTrailingZeros 20 = .ok (.ldc_w 264, 3) := dk_19 1 8 (dk_at dksJ21_numberOfTrailingZeros_0 20 rfl rfl)
theorem dJ21_numberOfTrailingZeros_23 : decode cJ21_numberOfTrailingZeros 23 = .ok (.if_icmp .le 11, 3) := dk_164 0 11 (dk_at dksJ21_numberOfTrailingZeros_1 0 rfl rfl)
theorem dJ21_numberOfTrailingZeros_26 : decode cJ21_numberOfTrailingZeros 26 = .ok (.iinc 1 16, 3) := dk_132 1 16 (dk_at dksJ21_numberOfTrailingZeros_1 3 rfl rfl)
theorem dJ21_numberOfTrailingZeros_29 : decode cJ21_numberOfTrailingZeros 29 = .ok (.iload_n 0, 1) := dk_26 (dk_at dksJ21_numberOfTrailingZeros_1 6 rfl rfl)
theorem dJ21_numberOfTrailingZeros_30 : decode cJ21_numberOfTrailingZeros 30 = .ok (.bipush 16, 2) := dk_16 16 (dk_at dksJ21_numberOfTrailingZeros_1 7 rfl rfl)
theorem dJ21_numberOfTrailingZeros_32 : decode cJ21_numberOfTrailingZeros 32 = .ok (.iushr, 1) := dk_124 (dk_at dksJ21_numberOfTrailingZeros_1 9 rfl rfl)
theorem dJ21_numberOfTrailingZeros_33 : decode cJ21_numberOfTrailingZeros 33 = .ok (.istore_n 0, 1) := dk_59 (dk_at dksJ21_numberOfTrailingZeros_1 10 rfl rfl)
theorem dJ21_numberOfTrailingZeros_34 : decode cJ21_numberOfTrailingZeros 34 = .ok (.iload_n 0, 1) := dk_26 (dk_at dksJ21_numberOfTrailingZeros_1 11 rfl rfl)
theorem dJ21_numberOfTrailingZeros_35 : decode cJ21_numberOfTrailingZeros 35 = .ok (.sipush 256, 3) := dk_17 1 0 (dk_at dksJ21_numberOfTrailingZeros_1 12 rfl rfl)
theorem dJ21_numberOfTrailingZeros_38 : decode cJ21_numberOfTrailingZeros 38 = .ok (.if_icmp .le 11, 3) := dk_164 0 11 (dk_at dksJ21_numberOfTrailingZeros_1 15 rfl rfl)
theorem dJ21_numberOfTrailingZeros_41 : decode cJ21_numberOfTrailingZeros 41 = .ok (.iinc 1 8, 3) := dk_132 1 8 (dk_at dksJ21_numberOfTrailingZeros_1 18 rfl rfl)
theorem dJ21_numberOfTrailingZeros_44 : decode cJ21_numberOfTrailingZeros 44 = .ok (.iload_n 0, 1) := dk_26 (dk_at dksJ21_numberOfTrailingZeros_1 21 rfl rfl)
theorem dJ21_numberOfTrailingZeros_45 : decode cJ21_numberOfTrailingZeros 45 = .ok (.bipush 8, 2) := dk_16 8 (dk_at dksJ21_numberOfTrailingZeros_1 22 rfl rfl)
theorem dJ21_numberOfTrailingZeros_47 : decode cJ21_numberOfTrailingZeros 47 = .ok (.iushr, 1) := dk_124 (dk_at dksJ21_numberOfTrailingZeros_2 0 rfl rfl)
theorem dJ21_numberOfTrailingZeros_48 : decode cJ21_numberOfTrailingZeros 48 = .ok (.istore_n 0, 1) := dk_59 (dk_at dksJ21_numberOfTrailingZeros_2 1 rfl rfl)
theorem dJ21_numberOfTrailingZeros_49 : decode cJ21_numberOfTrailingZeros 49 = .ok (.iload_n 0, 1) := dk_26 (dk_at dksJ21_numberOfTrailingZeros_2 2 rfl rfl)
theorem dJ21_numberOfTrailingZeros_50 : decode cJ21_numberOfTrailingZeros 50 = .ok (.bipush 16, 2) := dk_16 16 (dk_at dksJ21_numberOfTrailingZeros_2 3 rfl rfl)
theorem dJ21_numberOfTrailingZeros_52 : decode cJ21_numberOfTrailingZeros 52 = .ok (.if_icmp .le 10, 3) := dk_164 0 10 (dk_at dksJ21_numberOfTrailingZeros_2 5 rfl rfl)
theorem dJ21_numberOfTrailingZeros_55 : decode cJ21_numberOfTrailingZeros 55 = .ok (.iinc 1 4, 3) := dk_132 1 4 (dk_at dksJ21_numberOfTrailingZeros_2 8 rfl rfl)
theorem dJ21_numberOfTrailingZeros_58 : decode cJ21_numberOfTrailingZeros 58 = .ok (.iload_n 0, 1) := dk_26 (dk_at dksJ21_numberOfTrailingZeros_2 11 rfl rfl)
theorem dJ21_numberOfTrailingZeros_59 : decode cJ21_numberOfTrailingZeros 59 = .ok (.iconst 4, 1) := dk_7 (dk_at dksJ21_numberOfTrailingZeros_2 12 rfl rfl)
theorem dJ21_numberOfTrailingZeros_60 : decode cJ21_numberOfTrailingZeros 60 = .ok (.iushr, 1) := dk_124 (dk_at dksJ21_numberOfTrailingZeros_2 13 rfl rfl)
theorem dJ21_numberOfTrailingZeros_61 : decode cJ21_numberOfTrailingZeros 61 = .ok (.istore_n 0, 1) := dk_59 (dk_at dksJ21_numberOfTrailingZeros_2 14 rfl rfl)
theorem dJ21_numberOfTrailingZeros_62 : decode cJ21_numberOfTrailingZeros 62 = .ok (.iload_n 0, 1) := dk_26 (dk_at dksJ21_numberOfTrailingZeros_2 15 rfl rfl)
theorem dJ21_numberOfTrailingZeros_63 : decode cJ21_numberOfTrailingZeros 63 = .ok (.iconst 4, 1) := dk_7 (dk_at dksJ21_numberOfTrailingZeros_2 16 rfl rfl)
theorem dJ21_numberOfTrailingZeros_64 : decode cJ21_numberOfTrailingZeros 64 = .ok (.if_icmp .le 10, 3) := dk_164 0 10 (dk_at dksJ21_numberOfTrailingZeros_2 17 rfl rfl)
theorem dJ21_numberOfTrailingZeros_67 : decode cJ21_numberOfTrailingZeros 67 = .ok (.iinc 1 2, 3) := dk_132 1 2 (dk_at dksJ21_numberOfTrailingZeros_2 20 rfl rfl)
theorem dJ21_numberOfTrailingZeros_70 : decode cJ21_numberOfTrailingZeros 70 = .ok (.iload_n 0, 1) := dk_26 (dk_at dksJ21_numberOfTrailingZeros_2 23 rfl rfl)
theorem dJ21_numberOfTrailingZeros_71 : decode cJ21_numberOfTrailingZeros 71 = .ok (.iconst 2, 1) := dk_5 (dk_at dksJ21_numberOfTrailingZeros_3 0 rfl rfl)
theorem dJ21_numberOfTrailingZeros_72 : decode cJ21_numberOfTrailingZeros 72 = .ok (.iushr, 1) := dk_124 (dk_at dksJ21_numberOfTrailingZeros_3 1 rfl rfl)
theorem dJ21_numberOfTrailingZeros_73 : decode cJ21_numberOfTrailingZeros 73 = .ok (.istore_n 0, 1) := dk_59 (dk_at dksJ21_numberOfTrailingZeros_3 2 rfl rfl)
theorem dJ21_numberOfTrailingZeros_74 : decode cJ21_numberOfTrailingZeros 74 = .ok (.iload_n 1, 1) := dk_27 (dk_at dksJ21_numberOfTrailingZeros_3 3 rfl rfl)
theorem dJ21_numberOfTrailingZeros_75 : decode cJ21_numberOfTrailingZeros 75 = .ok (.iload_n 0, 1) := dk_26 (dk_at dksJ21_numberOfTrailingZeros_3 4 rfl rfl)
theorem dJ21_numberOfTrailingZeros_76 : decode cJ21_numberOfTrailingZeros 76 = .ok (.iconst 1, 1) := dk_4 (dk_at dksJ21_numberOfTrailingZeros_3 5 rfl rfl)
theorem dJ21_numberOfTrailingZeros_77 : decode cJ21_numberOfTrailingZeros 77 = .ok (.iushr, 1) := dk_124 (dk_at dksJ21_numberOfTrailingZeros_3 6 rfl rfl)
theorem dJ21_numberOfTrailingZeros_78 : decode cJ21_numberOfTrailingZeros 78 = .ok (.iadd, 1) := dk_96 (dk_at dksJ21_numberOfTrailingZeros_3 7 rfl rfl)
theorem dJ21_numberOfTrailingZeros_79 : decode cJ21_numberOfTrailingZeros 79 = .ok (.ireturn, 1) := dk_172 (dk_at dksJ21_numberOfTrailingZeros_3 8 rfl rfl)
abbrev cJ21_hashCode : ByteArray := prog_34_method_32_code
def yJ21_hashCode : MethodName := ⟨RJ21, "hashCode", "()I"⟩
abbrev cJ21_hashCode_2 : ByteArray := prog_34_method_33_code
def yJ21_hashCode_2 : MethodName := ⟨RJ21, "hashCode", "(I)I"⟩
abbrev cJ21_compareTo : ByteArray := prog_34_method_63_code
def yJ21_compareTo : MethodName := ⟨RJ21, "compareTo", "(Ljava/lang/Object;)I"⟩
abbrev cJ21_compareTo_2 : ByteArray := prog_34_method_39_code
def yJ21_compareTo_2 : MethodName := ⟨RJ21, "compareTo", "(Ljava/lang/Integer;)I"⟩
abbrev cJ21_compare : ByteArray := prog_34_method_40_code
def yJ21_compare : MethodName := ⟨RJ21, "compare", "(II)I"⟩
abbrev cJ21_equals : ByteArray := prog_34_method_34_code
def yJ21_equals : MethodName := ⟨RJ21, "equals", "(Ljava/lang/Object;)Z"⟩
abbrev cJ21_intValue : ByteArray := prog_34_method_27_code
def yJ21_intValue : MethodName := ⟨RJ21, "intValue", "()I"⟩
theorem dJ21_intValue_0 : decode cJ21_intValue 0 = .ok (.aload_n 0, 1) := by decide +kernel
theorem dJ21_intValue_1 : decode cJ21_intValue 1 = .ok (.getfield 205, 3) := by decide +kernel
theorem dJ21_intValue_4 : decode cJ21_intValue 4 = .ok (.ireturn, 1) := by decide +kernel
abbrev cJ21_valueOf : ByteArray := prog_34_method_22_code
def yJ21_valueOf : MethodName := ⟨RJ21, "valueOf", "(I)Ljava/lang/Integer;"⟩
def dkwJ21_valueOf_1 : List UInt8 := [187, 0, 1, 89, 26, 183, 0, 199, 176]
abbrev dktJ21_valueOf_1 : List UInt8 := dkwJ21_valueOf_1 ++ []
def dkwJ21_valueOf_0 : List UInt8 := [26, 16, 128, 161, 0, 20, 26, 178, 0, 191, 163, 0, 13, 178, 0, 195, 26, 17, 0, 128, 96, 50, 176]
abbrev dktJ21_valueOf_0 : List UInt8 := dkwJ21_valueOf_0 ++ dktJ21_valueOf_1
theorem dksJ21_valueOf_0 : cJ21_valueOf.data.toList.drop 0 = dktJ21_valueOf_0 := by decide +kernel
theorem dksJ21_valueOf_1 : cJ21_valueOf.data.toList.drop 23 = dktJ21_valueOf_1 := dk_seg dksJ21_valueOf_0 23 rfl rfl
theorem dJ21_valueOf_0 : decode cJ21_valueOf 0 = .ok (.iload_n 0, 1) := dk_26 (dk_at dksJ21_valueOf_0 0 rfl rfl)
theorem dJ21_valueOf_1 : decode cJ21_valueOf 1 = .ok (.bipush (-128), 2) := dk_16 128 (dk_at dksJ21_valueOf_0 1 rfl rfl)
theorem dJ21_valueOf_3 : decode cJ21_valueOf 3 = .ok (.if_icmp .lt 20, 3) := dk_161 0 20 (dk_at dksJ21_valueOf_0 3 rfl rfl)
theorem dJ21_valueOf_6 : decode cJ21_valueOf 6 = .ok (.iload_n 0, 1) := dk_26 (dk_at dksJ21_valueOf_0 6 rfl rfl)
theorem dJ21_valueOf_7 : decode cJ21_valueOf 7 = .ok (.getstatic 191, 3) := dk_178 0 191 (dk_at dksJ21_valueOf_0 7 rfl rfl)
theorem dJ21_valueOf_10 : decode cJ21_valueOf 10 = .ok (.if_icmp .gt 13, 3) := dk_163 0 13 (dk_at dksJ21_valueOf_0 10 rfl rfl)
theorem dJ21_valueOf_13 : decode cJ21_valueOf 13 = .ok (.getstatic 195, 3) := dk_178 0 195 (dk_at dksJ21_valueOf_0 13 rfl rfl)
theorem dJ21_valueOf_16 : decode cJ21_valueOf 16 = .ok (.iload_n 0, 1) := dk_26 (dk_at dksJ21_valueOf_0 16 rfl rfl)
theorem dJ21_valueOf_17 : decode cJ21_valueOf 17 = .ok (.sipush 128, 3) := dk_17 0 128 (dk_at dksJ21_valueOf_0 17 rfl rfl)
theorem dJ21_valueOf_20 : decode cJ21_valueOf 20 = .ok (.iadd, 1) := dk_96 (dk_at dksJ21_valueOf_0 20 rfl rfl)
theorem dJ21_valueOf_21 : decode cJ21_valueOf 21 = .ok (.aaload, 1) := dk_50 (dk_at dksJ21_valueOf_0 21 rfl rfl)
theorem dJ21_valueOf_22 : decode cJ21_valueOf 22 = .ok (.areturn, 1) := dk_176 (dk_at dksJ21_valueOf_0 22 rfl rfl)
theorem dJ21_valueOf_23 : decode cJ21_valueOf 23 = .ok (.new 1, 3) := dk_187 0 1 (dk_at dksJ21_valueOf_1 0 rfl rfl)
theorem dJ21_valueOf_26 : decode cJ21_valueOf 26 = .ok (.dup, 1) := dk_89 (dk_at dksJ21_valueOf_1 3 rfl rfl)
theorem dJ21_valueOf_27 : decode cJ21_valueOf 27 = .ok (.iload_n 0, 1) := dk_26 (dk_at dksJ21_valueOf_1 4 rfl rfl)
theorem dJ21_valueOf_28 : decode cJ21_valueOf 28 = .ok (.invokespecial 199, 3) := dk_183 0 199 (dk_at dksJ21_valueOf_1 5 rfl rfl)
theorem dJ21_valueOf_31 : decode cJ21_valueOf 31 = .ok (.areturn, 1) := dk_176 (dk_at dksJ21_valueOf_1 8 rfl rfl)
abbrev cJ21_init : ByteArray := prog_34_method_23_code
def yJ21_init : MethodName := ⟨RJ21, "<init>", "(I)V"⟩
def dkwJ21_init_0 : List UInt8 := [42, 183, 0, 202, 42, 27, 181, 0, 205, 177]
abbrev dktJ21_init_0 : List UInt8 := dkwJ21_init_0 ++ []
theorem dksJ21_init_0 : cJ21_init.data.toList.drop 0 = dktJ21_init_0 := by decide +kernel
theorem dJ21_init_0 : decode cJ21_init 0 = .ok (.aload_n 0, 1) := dk_42 (dk_at dksJ21_init_0 0 rfl rfl)
theorem dJ21_init_1 : decode cJ21_init 1 = .ok (.invokespecial 202, 3) := dk_183 0 202 (dk_at dksJ21_init_0 1 rfl rfl)
theorem dJ21_init_4 : decode cJ21_init 4 = .ok (.aload_n 0, 1) := dk_42 (dk_at dksJ21_init_0 4 rfl rfl)
theorem dJ21_init_5 : decode cJ21_init 5 = .ok (.iload_n 1, 1) := dk_27 (dk_at dksJ21_init_0 5 rfl rfl)
theorem dJ21_init_6 : decode cJ21_init 6 = .ok (.putfield 205, 3) := dk_181 0 205 (dk_at dksJ21_init_0 6 rfl rfl)
theorem dJ21_init_9 : decode cJ21_init 9 = .ok (.return_, 1) := dk_177 (dk_at dksJ21_init_0 9 rfl rfl)
theorem q118 : (Jvm.Cond.initialized "java/lang/Integer") ∈ lw_all := lw_g (lw_at lw_m1 25 rfl) rfl
theorem q415 : (Jvm.Cond.static ({ cls := "java/lang/Integer", name := "stringSize", desc := "(I)I" } : Jvm.MethodName)) ∈ lw_all := lw_g (lw_at lw_m2 82 rfl) rfl
theorem q416 : (Jvm.Cond.code ({ cls := "java/lang/Integer", name := "stringSize", desc := "(I)I" } : Jvm.MethodName) prog_34_method_13_code (4 : Nat) (Option.some Jvm.ClassFile.FieldType.int)) ∈ lw_all := lw_g (lw_at lw_m2 83 rfl) rfl
theorem q418 : (Jvm.Cond.static ({ cls := "java/lang/Integer", name := "getChars", desc := "(II[B)I" } : Jvm.MethodName)) ∈ lw_all := lw_g (lw_at lw_m2 85 rfl) rfl
theorem q419 : (Jvm.Cond.code ({ cls := "java/lang/Integer", name := "getChars", desc := "(II[B)I" } : Jvm.MethodName) prog_34_method_12_code (7 : Nat) (Option.some Jvm.ClassFile.FieldType.int)) ∈ lw_all := lw_g (lw_at lw_m2 86 rfl) rfl
theorem q420 : (Jvm.Cond.fieldLink "java/lang/Integer" (83 : Nat) "java/lang/Integer" "DigitOnes" "[B") ∈ lw_all := lw_g (lw_at lw_m2 87 rfl) rfl
theorem q421 : (Jvm.Cond.laysStatic "java/lang/Integer" "DigitOnes" "[B") ∈ lw_tbl := lw_at lw_m2 88 rfl
theorem q422 : (Jvm.Cond.fieldLink "java/lang/Integer" (87 : Nat) "java/lang/Integer" "DigitTens" "[B") ∈ lw_all := lw_g (lw_at lw_m2 89 rfl) rfl
theorem q423 : (Jvm.Cond.laysStatic "java/lang/Integer" "DigitTens" "[B") ∈ lw_tbl := lw_at lw_m2 90 rfl
theorem q577 : (Jvm.Cond.static ({ cls := "java/lang/Integer", name := "numberOfLeadingZeros", desc := "(I)I" } : Jvm.MethodName)) ∈ lw_all := lw_g (lw_at lw_m3 4 rfl) rfl
theorem q578 : (Jvm.Cond.code ({ cls := "java/lang/Integer", name := "numberOfLeadingZeros", desc := "(I)I" } : Jvm.MethodName) prog_34_method_47_code (2 : Nat) (Option.some Jvm.ClassFile.FieldType.int)) ∈ lw_all := lw_g (lw_at lw_m3 5 rfl) rfl
theorem q579 : (Jvm.Cond.constant "java/lang/Integer" (264 : Nat) (65536 : Int32)) ∈ lw_all := lw_g (lw_at lw_m3 6 rfl) rfl
theorem q900 : (Jvm.Cond.selects "java/lang/Integer" ({ cls := "java/lang/Object", name := "getClass", desc := "()Ljava/lang/Class;" } : Jvm.MethodName) ({ cls := "java/lang/Object", name := "getClass", desc := "()Ljava/lang/Class;" } : Jvm.MethodName)) ∈ lw_all := lw_g (lw_at lw_m4 87 rfl) rfl
theorem q960 : (Jvm.Cond.selects "java/lang/Integer" ({ cls := "java/lang/Object", name := "toString", desc := "()Ljava/lang/String;" } : Jvm.MethodName) ({ cls := "java/lang/Integer", name := "toString", desc := "()Ljava/lang/String;" } : Jvm.MethodName)) ∈ lw_all := lw_g (lw_at lw_m4 147 rfl) rfl
theorem q961 : (Jvm.Cond.instanceMethod ({ cls := "java/lang/Integer", name := "toString", desc := "()Ljava/lang/String;" } : Jvm.MethodName)) ∈ lw_all := lw_g (lw_at lw_m4 148 rfl) rfl
theorem q962 : (Jvm.Cond.code ({ cls := "java/lang/Integer", name := "toString", desc := "()Ljava/lang/String;" } : Jvm.MethodName) prog_34_method_31_code (1 : Nat) (Option.some (Jvm.ClassFile.FieldType.object "java/lang/String"))) ∈ lw_all := lw_g (lw_at lw_m4 149 rfl) rfl
theorem q963 : (Jvm.Cond.methodLink "java/lang/Integer" (9 : Nat) ({ cls := "java/lang/Integer", name := "toString", desc := "(I)Ljava/lang/String;" } : Jvm.MethodName)) ∈ lw_all := lw_g (lw_at lw_m4 150 rfl) rfl
theorem q964 : (Jvm.Cond.static ({ cls := "java/lang/Integer", name := "toString", desc := "(I)Ljava/lang/String;" } : Jvm.MethodName)) ∈ lw_all := lw_g (lw_at lw_m4 151 rfl) rfl
theorem q965 : (Jvm.Cond.code ({ cls := "java/lang/Integer", name := "toString", desc := "(I)Ljava/lang/String;" } : Jvm.MethodName) prog_34_method_10_code (3 : Nat) (Option.some (Jvm.ClassFile.FieldType.object "java/lang/String"))) ∈ lw_all := lw_g (lw_at lw_m4 152 rfl) rfl
theorem q966 : (Jvm.Cond.methodLink "java/lang/Integer" (72 : Nat) ({ cls := "java/lang/Integer", name := "stringSize", desc := "(I)I" } : Jvm.MethodName)) ∈ lw_all := lw_g (lw_at lw_m4 153 rfl) rfl
theorem q967 : (Jvm.Cond.fieldLink "java/lang/Integer" (13 : Nat) "java/lang/String" "COMPACT_STRINGS" "Z") ∈ lw_all := lw_g (lw_at lw_m4 154 rfl) rfl
theorem q968 : (Jvm.Cond.methodLink "java/lang/Integer" (75 : Nat) ({ cls := "java/lang/Integer", name := "getChars", desc := "(II[B)I" } : Jvm.MethodName)) ∈ lw_all := lw_g (lw_at lw_m4 155 rfl) rfl
theorem q969 : (Jvm.Cond.classLink "java/lang/Integer" (5 : Nat) "java/lang/String") ∈ lw_all := lw_g (lw_at lw_m4 156 rfl) rfl
theorem q970 : (Jvm.Cond.methodLink "java/lang/Integer" (65 : Nat) ({ cls := "java/lang/String", name := "<init>", desc := "([BB)V" } : Jvm.MethodName)) ∈ lw_all := lw_g (lw_at lw_m4 157 rfl) rfl
theorem q973 : (Jvm.Cond.methodLink "java/lang/Integer" (79 : Nat) ({ cls := "java/lang/StringUTF16", name := "getChars", desc := "(II[B)I" } : Jvm.MethodName)) ∈ lw_all := lw_g (lw_at lw_m4 160 rfl) rfl
theorem q1621 : (Jvm.Cond.static ({ cls := "java/lang/Integer", name := "numberOfTrailingZeros", desc := "(I)I" } : Jvm.MethodName)) ∈ lw_all := lw_g (lw_at lw_m7 88 rfl) rfl
theorem q1622 : (Jvm.Cond.code ({ cls := "java/lang/Integer", name := "numberOfTrailingZeros", desc := "(I)I" } : Jvm.MethodName) prog_34_method_48_code (2 : Nat) (Option.some Jvm.ClassFile.FieldType.int)) ∈ lw_all := lw_g (lw_at lw_m7 89 rfl) rfl
theorem q1674 : (Jvm.Cond.selects "java/lang/Integer" ({ cls := "java/lang/Object", name := "hashCode", desc := "()I" } : Jvm.MethodName) ({ cls := "java/lang/Integer", name := "hashCode", desc := "()I" } : Jvm.MethodName)) ∈ lw_all := lw_g (lw_at lw_m7 141 rfl) rfl
theorem q1675 : (Jvm.Cond.instanceMethod ({ cls := "java/lang/Integer", name := "hashCode", desc := "()I" } : Jvm.MethodName)) ∈ lw_all := lw_g (lw_at lw_m7 142 rfl) rfl
theorem q1676 : (Jvm.Cond.code ({ cls := "java/lang/Integer", name := "hashCode", desc := "()I" } : Jvm.MethodName) prog_34_method_32_code (1 : Nat) (Option.some Jvm.ClassFile.FieldType.int)) ∈ lw_all := lw_g (lw_at lw_m7 143 rfl) rfl
theorem q1677 : (Jvm.Cond.methodLink "java/lang/Integer" (208 : Nat) ({ cls := "java/lang/Integer", name := "hashCode", desc := "(I)I" } : Jvm.MethodName)) ∈ lw_all := lw_g (lw_at lw_m7 144 rfl) rfl
theorem q1678 : (Jvm.Cond.static ({ cls := "java/lang/Integer", name := "hashCode", desc := "(I)I" } : Jvm.MethodName)) ∈ lw_all := lw_g (lw_at lw_m7 145 rfl) rfl
theorem q1679 : (Jvm.Cond.code ({ cls := "java/lang/Integer", name := "hashCode", desc := "(I)I" } : Jvm.MethodName) prog_34_method_33_code (1 : Nat) (Option.some Jvm.ClassFile.FieldType.int)) ∈ lw_all := lw_g (lw_at lw_m7 146 rfl) rfl
theorem q1844 : (Jvm.Cond.castable "java/lang/Integer" "java/lang/Comparable") ∈ lw_tbl := lw_at lw_m8 71 rfl
theorem q1845 : (Jvm.Cond.selects "java/lang/Integer" ({ cls := "java/lang/Comparable", name := "compareTo", desc := "(Ljava/lang/Object;)I" } : Jvm.MethodName) ({ cls := "java/lang/Integer", name := "compareTo", desc := "(Ljava/lang/Object;)I" } : Jvm.MethodName)) ∈ lw_all := lw_g (lw_at lw_m8 72 rfl) rfl
theorem q1846 : (Jvm.Cond.unhidden "java/lang/Integer" "compareTo" "(Ljava/lang/Object;)I") ∈ lw_tbl := lw_at lw_m8 73 rfl
theorem q1847 : (Jvm.Cond.instanceMethod ({ cls := "java/lang/Integer", name := "compareTo", desc := "(Ljava/lang/Object;)I" } : Jvm.MethodName)) ∈ lw_all := lw_g (lw_at lw_m8 74 rfl) rfl
theorem q1848 : (Jvm.Cond.publicMethod ({ cls := "java/lang/Integer", name := "compareTo", desc := "(Ljava/lang/Object;)I" } : Jvm.MethodName)) ∈ lw_tbl := lw_at lw_m8 75 rfl
theorem q1849 : (Jvm.Cond.code ({ cls := "java/lang/Integer", name := "compareTo", desc := "(Ljava/lang/Object;)I" } : Jvm.MethodName) prog_34_method_63_code (2 : Nat) (Option.some Jvm.ClassFile.FieldType.int)) ∈ lw_all := lw_g (lw_at lw_m8 76 rfl) rfl
theorem q1850 : (Jvm.Cond.classLink "java/lang/Integer" (1 : Nat) "java/lang/Integer") ∈ lw_all := lw_g (lw_at lw_m8 77 rfl) rfl
theorem q1851 : (Jvm.Cond.methodLink "java/lang/Integer" (284 : Nat) ({ cls := "java/lang/Integer", name := "compareTo", desc := "(Ljava/lang/Integer;)I" } : Jvm.MethodName)) ∈ lw_all := lw_g (lw_at lw_m8 78 rfl) rfl
theorem q1852 : (Jvm.Cond.instanceMethod ({ cls := "java/lang/Integer", name := "compareTo", desc := "(Ljava/lang/Integer;)I" } : Jvm.MethodName)) ∈ lw_all := lw_g (lw_at lw_m8 79 rfl) rfl
theorem q1853 : (Jvm.Cond.selects "java/lang/Integer" ({ cls := "java/lang/Integer", name := "compareTo", desc := "(Ljava/lang/Integer;)I" } : Jvm.MethodName) ({ cls := "java/lang/Integer", name := "compareTo", desc := "(Ljava/lang/Integer;)I" } : Jvm.MethodName)) ∈ lw_all := lw_g (lw_at lw_m8 80 rfl) rfl
theorem q1854 : (Jvm.Cond.code ({ cls := "java/lang/Integer", name := "compareTo", desc := "(Ljava/lang/Integer;)I" } : Jvm.MethodName) prog_34_method_39_code (2 : Nat) (Option.some Jvm.ClassFile.FieldType.int)) ∈ lw_all := lw_g (lw_at lw_m8 81 rfl) rfl
theorem q1855 : (Jvm.Cond.methodLink "java/lang/Integer" (259 : Nat) ({ cls := "java/lang/Integer", name := "compare", desc := "(II)I" } : Jvm.MethodName)) ∈ lw_all := lw_g (lw_at lw_m8 82 rfl) rfl
theorem q1856 : (Jvm.Cond.static ({ cls := "java/lang/Integer", name := "compare", desc := "(II)I" } : Jvm.MethodName)) ∈ lw_all := lw_g (lw_at lw_m8 83 rfl) rfl
theorem q1857 : (Jvm.Cond.code ({ cls := "java/lang/Integer", name := "compare", desc := "(II)I" } : Jvm.MethodName) prog_34_method_40_code (2 : Nat) (Option.some Jvm.ClassFile.FieldType.int)) ∈ lw_all := lw_g (lw_at lw_m8 84 rfl) rfl
theorem q2086 : (Jvm.Cond.selects "java/lang/Integer" ({ cls := "java/lang/Object", name := "equals", desc := "(Ljava/lang/Object;)Z" } : Jvm.MethodName) ({ cls := "java/lang/Integer", name := "equals", desc := "(Ljava/lang/Object;)Z" } : Jvm.MethodName)) ∈ lw_all := lw_g (lw_at lw_m9 73 rfl) rfl
theorem q2087 : (Jvm.Cond.instanceMethod ({ cls := "java/lang/Integer", name := "equals", desc := "(Ljava/lang/Object;)Z" } : Jvm.MethodName)) ∈ lw_all := lw_g (lw_at lw_m9 74 rfl) rfl
theorem q2088 : (Jvm.Cond.code ({ cls := "java/lang/Integer", name := "equals", desc := "(Ljava/lang/Object;)Z" } : Jvm.MethodName) prog_34_method_34_code (2 : Nat) (Option.some Jvm.ClassFile.FieldType.boolean)) ∈ lw_all := lw_g (lw_at lw_m9 75 rfl) rfl
theorem q2089 : (Jvm.Cond.methodLink "java/lang/Integer" (211 : Nat) ({ cls := "java/lang/Integer", name := "intValue", desc := "()I" } : Jvm.MethodName)) ∈ lw_all := lw_g (lw_at lw_m9 76 rfl) rfl
theorem q2090 : (Jvm.Cond.instanceMethod ({ cls := "java/lang/Integer", name := "intValue", desc := "()I" } : Jvm.MethodName)) ∈ lw_all := lw_g (lw_at lw_m9 77 rfl) rfl
theorem q2091 : (Jvm.Cond.selects "java/lang/Integer" ({ cls := "java/lang/Integer", name := "intValue", desc := "()I" } : Jvm.MethodName) ({ cls := "java/lang/Integer", name := "intValue", desc := "()I" } : Jvm.MethodName)) ∈ lw_all := lw_g (lw_at lw_m9 78 rfl) rfl
theorem q2092 : (Jvm.Cond.code ({ cls := "java/lang/Integer", name := "intValue", desc := "()I" } : Jvm.MethodName) prog_34_method_27_code (1 : Nat) (Option.some Jvm.ClassFile.FieldType.int)) ∈ lw_all := lw_g (lw_at lw_m9 79 rfl) rfl
theorem q2549 : (Jvm.Cond.static ({ cls := "java/lang/Integer", name := "valueOf", desc := "(I)Ljava/lang/Integer;" } : Jvm.MethodName)) ∈ lw_all := lw_g (lw_at lw_m11 56 rfl) rfl
theorem q2550 : (Jvm.Cond.code ({ cls := "java/lang/Integer", name := "valueOf", desc := "(I)Ljava/lang/Integer;" } : Jvm.MethodName) prog_34_method_22_code (1 : Nat) (Option.some (Jvm.ClassFile.FieldType.object "java/lang/Integer"))) ∈ lw_all := lw_g (lw_at lw_m11 57 rfl) rfl
theorem q2551 : (Jvm.Cond.fieldLink "java/lang/Integer" (191 : Nat) "java/lang/Integer$IntegerCache" "high" "I") ∈ lw_all := lw_g (lw_at lw_m11 58 rfl) rfl
theorem q2553 : (Jvm.Cond.fieldLink "java/lang/Integer" (195 : Nat) "java/lang/Integer$IntegerCache" "cache" "[Ljava/lang/Integer;") ∈ lw_all := lw_g (lw_at lw_m11 60 rfl) rfl
theorem q2555 : (Jvm.Cond.instantiable "java/lang/Integer" (1 : Nat)) ∈ lw_all := lw_g (lw_at lw_m11 62 rfl) rfl
theorem q2556 : (Jvm.Cond.methodLink "java/lang/Integer" (199 : Nat) ({ cls := "java/lang/Integer", name := "<init>", desc := "(I)V" } : Jvm.MethodName)) ∈ lw_all := lw_g (lw_at lw_m11 63 rfl) rfl
theorem q2557 : (Jvm.Cond.instanceMethod ({ cls := "java/lang/Integer", name := "<init>", desc := "(I)V" } : Jvm.MethodName)) ∈ lw_all := lw_g (lw_at lw_m11 64 rfl) rfl
theorem q2558 : (Jvm.Cond.code ({ cls := "java/lang/Integer", name := "<init>", desc := "(I)V" } : Jvm.MethodName) prog_34_method_23_code (2 : Nat) (Option.none : Option Jvm.ClassFile.FieldType)) ∈ lw_all := lw_g (lw_at lw_m11 65 rfl) rfl
theorem q2559 : (Jvm.Cond.methodLink "java/lang/Integer" (202 : Nat) ({ cls := "java/lang/Number", name := "<init>", desc := "()V" } : Jvm.MethodName)) ∈ lw_all := lw_g (lw_at lw_m11 66 rfl) rfl
theorem q2563 : (Jvm.Cond.fieldLink "java/lang/Integer" (205 : Nat) "java/lang/Integer" "value" "I") ∈ lw_all := lw_g (lw_at lw_m11 70 rfl) rfl
theorem q2564 : (Jvm.Cond.laysFinal "java/lang/Integer" "java/lang/Integer" "value" "I") ∈ lw_all := lw_g (lw_at lw_m11 71 rfl) rfl
theorem q2565 : (Jvm.Cond.soleField "java/lang/Integer" "value") ∈ lw_all := lw_g (lw_at lw_m11 72 rfl) rfl
theorem q2566 : (Jvm.Cond.superclass "java/lang/Integer" "java/lang/Number") ∈ lw_all := lw_g (lw_at lw_m11 73 rfl) rfl
theorem q3792 : (Jvm.Cond.castable "java/lang/Integer" "java/lang/Object") ∈ lw_tbl := lw_at lw_m16 99 rfl
theorem in_J21 : ∀ w ∈ wsJ210, w ∈ lw_all := lw_in wsJ210 [2564] (by decide +kernel) (by decide +kernel)
/-! java/lang/Float -/
set_option maxRecDepth 100000
def RJ22 : String := "java/lang/Float"
abbrev cJ22_isNaN : ByteArray := prog_30_method_6_code
def yJ22_isNaN : MethodName := ⟨RJ22, "isNaN", "(F)Z"⟩
def dkwJ22_isNaN_0 : List UInt8 := [34, 34, 149, 153, 0, 7, 4, 167, 0, 4, 3, 172]
abbrev dktJ22_isNaN_0 : List UInt8 := dkwJ22_isNaN_0 ++ []
theorem dksJ22_isNaN_0 : cJ22_isNaN.data.toList.drop 0 = dktJ22_isNaN_0 := by decide +kernel
theorem dJ22_isNaN_0 : decode cJ22_isNaN 0 = .ok (.fload_n 0, 1) := dk_34 (dk_at dksJ22_isNaN_0 0 rfl rfl)
theorem dJ22_isNaN_1 : decode cJ22_isNaN 1 = .ok (.fload_n 0, 1) := dk_34 (dk_at dksJ22_isNaN_0 1 rfl rfl)
theorem dJ22_isNaN_2 : decode cJ22_isNaN 2 = .ok (.fcmp .l, 1) := dk_149 (dk_at dksJ22_isNaN_0 2 rfl rfl)
theorem dJ22_isNaN_3 : decode cJ22_isNaN 3 = .ok (.ifCond .eq 7, 3) := dk_153 0 7 (dk_at dksJ22_isNaN_0 3 rfl rfl)
theorem dJ22_isNaN_6 : decode cJ22_isNaN 6 = .ok (.iconst 1, 1) := dk_4 (dk_at dksJ22_isNaN_0 6 rfl rfl)
theorem dJ22_isNaN_7 : decode cJ22_isNaN 7 = .ok (.goto 4, 3) := dk_167 0 4 (dk_at dksJ22_isNaN_0 7 rfl rfl)
theorem dJ22_isNaN_10 : decode cJ22_isNaN 10 = .ok (.iconst 0, 1) := dk_3 (dk_at dksJ22_isNaN_0 10 rfl rfl)
theorem dJ22_isNaN_11 : decode cJ22_isNaN 11 = .ok (.ireturn, 1) := dk_172 (dk_at dksJ22_isNaN_0 11 rfl rfl)
theorem q119 : (Jvm.Cond.initialized "java/lang/Float") ∈ lw_all := lw_g (lw_at lw_m1 26 rfl) rfl
theorem q529 : (Jvm.Cond.static ({ cls := "java/lang/Float", name := "isNaN", desc := "(F)Z" } : Jvm.MethodName)) ∈ lw_all := lw_g (lw_at lw_m2 196 rfl) rfl
theorem q530 : (Jvm.Cond.code ({ cls := "java/lang/Float", name := "isNaN", desc := "(F)Z" } : Jvm.MethodName) prog_30_method_6_code (1 : Nat) (Option.some Jvm.ClassFile.FieldType.boolean)) ∈ lw_all := lw_g (lw_at lw_m2 197 rfl) rfl
theorem q564 : (Jvm.Cond.static ({ cls := "java/lang/Float", name := "floatToRawIntBits", desc := "(F)I" } : Jvm.MethodName)) ∈ lw_all := lw_g (lw_at lw_m2 231 rfl) rfl
theorem q565 : (Jvm.Cond.native ({ cls := "java/lang/Float", name := "floatToRawIntBits", desc := "(F)I" } : Jvm.MethodName)) ∈ lw_all := lw_g (lw_at lw_m2 232 rfl) rfl
/-! java/lang/IllegalStateException -/
set_option maxRecDepth 100000
def RJ27 : String := "java/lang/IllegalStateException"
def TJ27 : u_T := fun k => match k with
  | 0 => ("java/lang/Throwable", "cause", "Ljava/lang/Throwable;", false)
  | 1 => ("java/lang/Throwable", "stackTrace", "[Ljava/lang/StackTraceElement;", false)
  | 2 => ("java/lang/Throwable", "suppressedExceptions", "Ljava/util/List;", false)
  | 3 => ("java/lang/Throwable", "detailMessage", "Ljava/lang/String;", false)
  | 4 => ("java/lang/Throwable", "backtrace", "Ljava/lang/Object;", false)
  | _ => ("java/lang/Throwable", "depth", "I", false)
def tyJ27 : Nat → FieldType := fun k => match k with
  | 0 => .object "java/lang/Throwable"
  | 1 => .array (.object "java/lang/StackTraceElement")
  | 2 => .object "java/util/List"
  | 3 => .object "java/lang/String"
  | 4 => .object "java/lang/Object"
  | _ => .int
abbrev wsJ270 : List Cond := u_ws RJ27 TJ27 6
theorem nmJ27 : ∀ a, a < 6 → ∀ b, b < 6 → a ≠ b → (TJ27 a).2.1 ≠ (TJ27 b).2.1 := by decide +kernel
theorem tyJ27_ok : ∀ k, k < 6 → parseFieldDescriptor (TJ27 k).2.2.1 = some (tyJ27 k) := by decide +kernel
abbrev cJ27_init : ByteArray := prog_32_method_3_code
def yJ27_init : MethodName := ⟨RJ27, "<init>", "(Ljava/lang/String;Ljava/lang/Throwable;)V"⟩
abbrev cJ27_init_2 : ByteArray := prog_32_method_2_code
def yJ27_init_2 : MethodName := ⟨RJ27, "<init>", "(Ljava/lang/String;)V"⟩
abbrev cJ27_init_3 : ByteArray := prog_32_method_1_code
def yJ27_init_3 : MethodName := ⟨RJ27, "<init>", "()V"⟩
theorem q124 : (Jvm.Cond.initialized "java/lang/IllegalStateException") ∈ lw_all := lw_g (lw_at lw_m1 31 rfl) rfl
theorem q243 : (Jvm.Cond.selects "java/lang/IllegalStateException" ({ cls := "java/lang/Throwable", name := "fillInStackTrace", desc := "()Ljava/lang/Throwable;" } : Jvm.MethodName) ({ cls := "java/lang/Throwable", name := "fillInStackTrace", desc := "()Ljava/lang/Throwable;" } : Jvm.MethodName)) ∈ lw_all := lw_g (lw_at lw_m1 150 rfl) rfl
theorem q898 : (Jvm.Cond.selects "java/lang/IllegalStateException" ({ cls := "java/lang/Object", name := "getClass", desc := "()Ljava/lang/Class;" } : Jvm.MethodName) ({ cls := "java/lang/Object", name := "getClass", desc := "()Ljava/lang/Class;" } : Jvm.MethodName)) ∈ lw_all := lw_g (lw_at lw_m4 85 rfl) rfl
theorem q930 : (Jvm.Cond.selects "java/lang/IllegalStateException" ({ cls := "java/lang/Throwable", name := "getLocalizedMessage", desc := "()Ljava/lang/String;" } : Jvm.MethodName) ({ cls := "java/lang/Throwable", name := "getLocalizedMessage", desc := "()Ljava/lang/String;" } : Jvm.MethodName)) ∈ lw_all := lw_g (lw_at lw_m4 117 rfl) rfl
theorem q943 : (Jvm.Cond.selects "java/lang/IllegalStateException" ({ cls := "java/lang/Throwable", name := "getMessage", desc := "()Ljava/lang/String;" } : Jvm.MethodName) ({ cls := "java/lang/Throwable", name := "getMessage", desc := "()Ljava/lang/String;" } : Jvm.MethodName)) ∈ lw_all := lw_g (lw_at lw_m4 130 rfl) rfl
theorem q958 : (Jvm.Cond.selects "java/lang/IllegalStateException" ({ cls := "java/lang/Object", name := "toString", desc := "()Ljava/lang/String;" } : Jvm.MethodName) ({ cls := "java/lang/Throwable", name := "toString", desc := "()Ljava/lang/String;" } : Jvm.MethodName)) ∈ lw_all := lw_g (lw_at lw_m4 145 rfl) rfl
theorem q1000 : (Jvm.Cond.instantiable "java/lang/IllegalStateException" (6 : Nat)) ∈ lw_all := lw_g (lw_at lw_m4 187 rfl) rfl
theorem q1001 : (Jvm.Cond.castable "java/lang/IllegalStateException" "java/lang/IllegalStateException") ∈ lw_tbl := lw_at lw_m4 188 rfl
theorem q1002 : (Jvm.Cond.selects "java/lang/IllegalStateException" ({ cls := "java/lang/Throwable", name := "fillInStackTrace", desc := "(I)Ljava/lang/Throwable;" } : Jvm.MethodName) ({ cls := "java/lang/Throwable", name := "fillInStackTrace", desc := "(I)Ljava/lang/Throwable;" } : Jvm.MethodName)) ∈ lw_all := lw_g (lw_at lw_m4 189 rfl) rfl
theorem q1003 : (Jvm.Cond.lays "java/lang/IllegalStateException" "java/lang/Throwable" "cause" "Ljava/lang/Throwable;") ∈ lw_all := lw_g (lw_at lw_m4 190 rfl) rfl
theorem q1004 : (Jvm.Cond.lays "java/lang/IllegalStateException" "java/lang/Throwable" "stackTrace" "[Ljava/lang/StackTraceElement;") ∈ lw_all := lw_g (lw_at lw_m4 191 rfl) rfl
theorem q1005 : (Jvm.Cond.lays "java/lang/IllegalStateException" "java/lang/Throwable" "suppressedExceptions" "Ljava/util/List;") ∈ lw_all := lw_g (lw_at lw_m4 192 rfl) rfl
theorem q1006 : (Jvm.Cond.lays "java/lang/IllegalStateException" "java/lang/Throwable" "detailMessage" "Ljava/lang/String;") ∈ lw_all := lw_g (lw_at lw_m4 193 rfl) rfl
theorem q1007 : (Jvm.Cond.lays "java/lang/IllegalStateException" "java/lang/Throwable" "backtrace" "Ljava/lang/Object;") ∈ lw_all := lw_g (lw_at lw_m4 194 rfl) rfl
theorem q1015 : (Jvm.Cond.instanceMethod ({ cls := "java/lang/IllegalStateException", name := "<init>", desc := "(Ljava/lang/String;Ljava/lang/Throwable;)V" } : Jvm.MethodName)) ∈ lw_all := lw_g (lw_at lw_m4 202 rfl) rfl
theorem q1016 : (Jvm.Cond.code ({ cls := "java/lang/IllegalStateException", name := "<init>", desc := "(Ljava/lang/String;Ljava/lang/Throwable;)V" } : Jvm.MethodName) prog_32_method_3_code (3 : Nat) (Option.none : Option Jvm.ClassFile.FieldType)) ∈ lw_all := lw_g (lw_at lw_m4 203 rfl) rfl
theorem q1017 : (Jvm.Cond.methodLink "java/lang/IllegalStateException" (10 : Nat) ({ cls := "java/lang/RuntimeException", name := "<init>", desc := "(Ljava/lang/String;Ljava/lang/Throwable;)V" } : Jvm.MethodName)) ∈ lw_all := lw_g (lw_at lw_m4 204 rfl) rfl
theorem q1026 : (Jvm.Cond.lays "java/lang/IllegalStateException" "java/lang/Throwable" "depth" "I") ∈ lw_all := lw_g (lw_at lw_m4 213 rfl) rfl
theorem q1027 : (Jvm.Cond.superclass "java/lang/IllegalStateException" "java/lang/RuntimeException") ∈ lw_all := lw_g (lw_at lw_m4 214 rfl) rfl
theorem q1672 : (Jvm.Cond.selects "java/lang/IllegalStateException" ({ cls := "java/lang/Object", name := "hashCode", desc := "()I" } : Jvm.MethodName) ({ cls := "java/lang/Object", name := "hashCode", desc := "()I" } : Jvm.MethodName)) ∈ lw_all := lw_g (lw_at lw_m7 139 rfl) rfl
theorem q2084 : (Jvm.Cond.selects "java/lang/IllegalStateException" ({ cls := "java/lang/Object", name := "equals", desc := "(Ljava/lang/Object;)Z" } : Jvm.MethodName) ({ cls := "java/lang/Object", name := "equals", desc := "(Ljava/lang/Object;)Z" } : Jvm.MethodName)) ∈ lw_all := lw_g (lw_at lw_m9 71 rfl) rfl
theorem q2240 : (Jvm.Cond.instanceMethod ({ cls := "java/lang/IllegalStateException", name := "<init>", desc := "(Ljava/lang/String;)V" } : Jvm.MethodName)) ∈ lw_all := lw_g (lw_at lw_m9 227 rfl) rfl
theorem q2241 : (Jvm.Cond.code ({ cls := "java/lang/IllegalStateException", name := "<init>", desc := "(Ljava/lang/String;)V" } : Jvm.MethodName) prog_32_method_2_code (2 : Nat) (Option.none : Option Jvm.ClassFile.FieldType)) ∈ lw_all := lw_g (lw_at lw_m9 228 rfl) rfl
theorem q2242 : (Jvm.Cond.methodLink "java/lang/IllegalStateException" (7 : Nat) ({ cls := "java/lang/RuntimeException", name := "<init>", desc := "(Ljava/lang/String;)V" } : Jvm.MethodName)) ∈ lw_all := lw_g (lw_at lw_m9 229 rfl) rfl
theorem q2461 : (Jvm.Cond.instanceMethod ({ cls := "java/lang/IllegalStateException", name := "<init>", desc := "()V" } : Jvm.MethodName)) ∈ lw_all := lw_g (lw_at lw_m10 208 rfl) rfl
theorem q2462 : (Jvm.Cond.code ({ cls := "java/lang/IllegalStateException", name := "<init>", desc := "()V" } : Jvm.MethodName) prog_32_method_1_code (1 : Nat) (Option.none : Option Jvm.ClassFile.FieldType)) ∈ lw_all := lw_g (lw_at lw_m10 209 rfl) rfl
theorem q2463 : (Jvm.Cond.methodLink "java/lang/IllegalStateException" (1 : Nat) ({ cls := "java/lang/RuntimeException", name := "<init>", desc := "()V" } : Jvm.MethodName)) ∈ lw_all := lw_g (lw_at lw_m10 210 rfl) rfl
theorem q3753 : (Jvm.Cond.castable "java/lang/IllegalStateException" "java/lang/Throwable") ∈ lw_tbl := lw_at lw_m16 60 rfl
theorem q3774 : (Jvm.Cond.castable "java/lang/IllegalStateException" "java/lang/Object") ∈ lw_tbl := lw_at lw_m16 81 rfl
theorem in_J27 : ∀ w ∈ wsJ270, w ∈ lw_all := lw_in wsJ270 [1003, 1004, 1005, 1006, 1007, 1026] (by decide +kernel) (by decide +kernel)
/-! java/util/Objects -/
set_option maxRecDepth 100000
def RJ28 : String := "java/util/Objects"
abbrev cJ28_toString : ByteArray := prog_81_method_7_code
def yJ28_toString : MethodName := ⟨RJ28, "toString", "(Ljava/lang/Object;Ljava/lang/String;)Ljava/lang/String;"⟩
abbrev cJ28_checkIndex : ByteArray := prog_81_method_17_code
def yJ28_checkIndex : MethodName := ⟨RJ28, "checkIndex", "(II)I"⟩
def dkwJ28_checkIndex_0 : List UInt8 := [26, 27, 1, 184, 0, 105, 172]
abbrev dktJ28_checkIndex_0 : List UInt8 := dkwJ28_checkIndex_0 ++ []
theorem dksJ28_checkIndex_0 : cJ28_checkIndex.data.toList.drop 0 = dktJ28_checkIndex_0 := by decide +kernel
theorem dJ28_checkIndex_0 : decode cJ28_checkIndex 0 = .ok (.iload_n 0, 1) := dk_26 (dk_at dksJ28_checkIndex_0 0 rfl rfl)
theorem dJ28_checkIndex_1 : decode cJ28_checkIndex 1 = .ok (.iload_n 1, 1) := dk_27 (dk_at dksJ28_checkIndex_0 1 rfl rfl)
theorem dJ28_checkIndex_2 : decode cJ28_checkIndex 2 = .ok (.aconst_null, 1) := dk_1 (dk_at dksJ28_checkIndex_0 2 rfl rfl)
theorem dJ28_checkIndex_3 : decode cJ28_checkIndex 3 = .ok (.invokestatic 105, 3) := dk_184 0 105 (dk_at dksJ28_checkIndex_0 3 rfl rfl)
theorem dJ28_checkIndex_6 : decode cJ28_checkIndex 6 = .ok (.ireturn, 1) := dk_172 (dk_at dksJ28_checkIndex_0 6 rfl rfl)
theorem q125 : (Jvm.Cond.initialized "java/util/Objects") ∈ lw_all := lw_g (lw_at lw_m1 32 rfl) rfl
theorem q1011 : (Jvm.Cond.static ({ cls := "java/util/Objects", name := "toString", desc := "(Ljava/lang/Object;Ljava/lang/String;)Ljava/lang/String;" } : Jvm.MethodName)) ∈ lw_all := lw_g (lw_at lw_m4 198 rfl) rfl
theorem q1012 : (Jvm.Cond.code ({ cls := "java/util/Objects", name := "toString", desc := "(Ljava/lang/Object;Ljava/lang/String;)Ljava/lang/String;" } : Jvm.MethodName) prog_81_method_7_code (2 : Nat) (Option.some (Jvm.ClassFile.FieldType.object "java/lang/String"))) ∈ lw_all := lw_g (lw_at lw_m4 199 rfl) rfl
theorem q1013 : (Jvm.Cond.methodLink "java/util/Objects" (37 : Nat) ({ cls := "java/lang/Object", name := "toString", desc := "()Ljava/lang/String;" } : Jvm.MethodName)) ∈ lw_all := lw_g (lw_at lw_m4 200 rfl) rfl
theorem q2344 : (Jvm.Cond.static ({ cls := "java/util/Objects", name := "checkIndex", desc := "(II)I" } : Jvm.MethodName)) ∈ lw_all := lw_g (lw_at lw_m10 91 rfl) rfl
theorem q2345 : (Jvm.Cond.code ({ cls := "java/util/Objects", name := "checkIndex", desc := "(II)I" } : Jvm.MethodName) prog_81_method_17_code (2 : Nat) (Option.some Jvm.ClassFile.FieldType.int)) ∈ lw_all := lw_g (lw_at lw_m10 92 rfl) rfl
theorem q2346 : (Jvm.Cond.methodLink "java/util/Objects" (105 : Nat) ({ cls := "jdk/internal/util/Preconditions", name := "checkIndex", desc := "(IILjava/util/function/BiFunction;)I" } : Jvm.MethodName)) ∈ lw_all := lw_g (lw_at lw_m10 93 rfl) rfl
/-! java/util/AbstractList -/
set_option maxRecDepth 100000
def RJ29 : String := "java/util/AbstractList"
abbrev cJ29_init : ByteArray := prog_53_method_1_code
def yJ29_init : MethodName := ⟨RJ29, "<init>", "()V"⟩
def dkwJ29_init_0 : List UInt8 := [42, 183, 0, 1, 42, 3, 181, 0, 7, 177]
abbrev dktJ29_init_0 : List UInt8 := dkwJ29_init_0 ++ []
theorem dksJ29_init_0 : cJ29_init.data.toList.drop 0 = dktJ29_init_0 := by decide +kernel
theorem dJ29_init_0 : decode cJ29_init 0 = .ok (.aload_n 0, 1) := dk_42 (dk_at dksJ29_init_0 0 rfl rfl)
theorem dJ29_init_1 : decode cJ29_init 1 = .ok (.invokespecial 1, 3) := dk_183 0 1 (dk_at dksJ29_init_0 1 rfl rfl)
theorem dJ29_init_4 : decode cJ29_init 4 = .ok (.aload_n 0, 1) := dk_42 (dk_at dksJ29_init_0 4 rfl rfl)
theorem dJ29_init_5 : decode cJ29_init 5 = .ok (.iconst 0, 1) := dk_3 (dk_at dksJ29_init_0 5 rfl rfl)
theorem dJ29_init_6 : decode cJ29_init 6 = .ok (.putfield 7, 3) := dk_181 0 7 (dk_at dksJ29_init_0 6 rfl rfl)
theorem dJ29_init_9 : decode cJ29_init 9 = .ok (.return_, 1) := dk_177 (dk_at dksJ29_init_0 9 rfl rfl)
theorem q126 : (Jvm.Cond.initialized "java/util/AbstractList") ∈ lw_all := lw_g (lw_at lw_m1 33 rfl) rfl
theorem q1098 : (Jvm.Cond.instanceMethod ({ cls := "java/util/AbstractList", name := "<init>", desc := "()V" } : Jvm.MethodName)) ∈ lw_all := lw_g (lw_at lw_m5 45 rfl) rfl
theorem q1099 : (Jvm.Cond.code ({ cls := "java/util/AbstractList", name := "<init>", desc := "()V" } : Jvm.MethodName) prog_53_method_1_code (1 : Nat) (Option.none : Option Jvm.ClassFile.FieldType)) ∈ lw_all := lw_g (lw_at lw_m5 46 rfl) rfl
theorem q1100 : (Jvm.Cond.methodLink "java/util/AbstractList" (1 : Nat) ({ cls := "java/util/AbstractCollection", name := "<init>", desc := "()V" } : Jvm.MethodName)) ∈ lw_all := lw_g (lw_at lw_m5 47 rfl) rfl
theorem q1107 : (Jvm.Cond.fieldLink "java/util/AbstractList" (7 : Nat) "java/util/AbstractList" "modCount" "I") ∈ lw_all := lw_g (lw_at lw_m5 54 rfl) rfl
theorem q1116 : (Jvm.Cond.soleField "java/util/AbstractList" "modCount") ∈ lw_all := lw_g (lw_at lw_m5 63 rfl) rfl
/-! java/util/ArrayList -/
set_option maxRecDepth 100000
def RJ30 : String := "java/util/ArrayList"
def TJ30 : u_T := fun k => match k with
  | 0 => ("java/util/AbstractList", "modCount", "I", false)
  | 1 => ("java/util/ArrayList", "elementData", "[Ljava/lang/Object;", false)
  | _ => ("java/util/ArrayList", "size", "I", false)
def tyJ30 : Nat → FieldType := fun k => match k with
  | 0 => .int
  | 1 => .array (.object "java/lang/Object")
  | _ => .int
abbrev wsJ300 : List Cond := u_ws RJ30 TJ30 3
theorem nmJ30 : ∀ a, a < 3 → ∀ b, b < 3 → a ≠ b → (TJ30 a).2.1 ≠ (TJ30 b).2.1 := by decide +kernel
theorem tyJ30_ok : ∀ k, k < 3 → parseFieldDescriptor (TJ30 k).2.2.1 = some (tyJ30 k) := by decide +kernel
abbrev cJ30_init : ByteArray := prog_58_method_2_code
def yJ30_init : MethodName := ⟨RJ30, "<init>", "()V"⟩
def dkwJ30_init_0 : List UInt8 := [42, 183, 0, 1, 42, 178, 0, 39, 181, 0, 9, 177]
abbrev dktJ30_init_0 : List UInt8 := dkwJ30_init_0 ++ []
theorem dksJ30_init_0 : cJ30_init.data.toList.drop 0 = dktJ30_init_0 := by decide +kernel
theorem dJ30_init_0 : decode cJ30_init 0 = .ok (.aload_n 0, 1) := dk_42 (dk_at dksJ30_init_0 0 rfl rfl)
theorem dJ30_init_1 : decode cJ30_init 1 = .ok (.invokespecial 1, 3) := dk_183 0 1 (dk_at dksJ30_init_0 1 rfl rfl)
theorem dJ30_init_4 : decode cJ30_init 4 = .ok (.aload_n 0, 1) := dk_42 (dk_at dksJ30_init_0 4 rfl rfl)
theorem dJ30_init_5 : decode cJ30_init 5 = .ok (.getstatic 39, 3) := dk_178 0 39 (dk_at dksJ30_init_0 5 rfl rfl)
theorem dJ30_init_8 : decode cJ30_init 8 = .ok (.putfield 9, 3) := dk_181 0 9 (dk_at dksJ30_init_0 8 rfl rfl)
theorem dJ30_init_11 : decode cJ30_init 11 = .ok (.return_, 1) := dk_177 (dk_at dksJ30_init_0 11 rfl rfl)
abbrev cJ30_iterator : ByteArray := prog_58_method_55_code
def yJ30_iterator : MethodName := ⟨RJ30, "iterator", "()Ljava/util/Iterator;"⟩
def dkwJ30_iterator_0 : List UInt8 := [187, 1, 11, 89, 42, 183, 1, 13, 176]
abbrev dktJ30_iterator_0 : List UInt8 := dkwJ30_iterator_0 ++ []
theorem dksJ30_iterator_0 : cJ30_iterator.data.toList.drop 0 = dktJ30_iterator_0 := by decide +kernel
theorem dJ30_iterator_0 : decode cJ30_iterator 0 = .ok (.new 267, 3) := dk_187 1 11 (dk_at dksJ30_iterator_0 0 rfl rfl)
theorem dJ30_iterator_3 : decode cJ30_iterator 3 = .ok (.dup, 1) := dk_89 (dk_at dksJ30_iterator_0 3 rfl rfl)
theorem dJ30_iterator_4 : decode cJ30_iterator 4 = .ok (.aload_n 0, 1) := dk_42 (dk_at dksJ30_iterator_0 4 rfl rfl)
theorem dJ30_iterator_5 : decode cJ30_iterator 5 = .ok (.invokespecial 269, 3) := dk_183 1 13 (dk_at dksJ30_iterator_0 5 rfl rfl)
theorem dJ30_iterator_8 : decode cJ30_iterator 8 = .ok (.areturn, 1) := dk_176 (dk_at dksJ30_iterator_0 8 rfl rfl)
abbrev cJ30_add : ByteArray := prog_58_method_25_code
def yJ30_add : MethodName := ⟨RJ30, "add", "(Ljava/lang/Object;)Z"⟩
def dkwJ30_add_1 : List UInt8 := [172]
abbrev dktJ30_add_1 : List UInt8 := dkwJ30_add_1 ++ []
def dkwJ30_add_0 : List UInt8 := [42, 89, 180, 0, 63, 4, 96, 181, 0, 63, 42, 43, 42, 180, 0, 9, 42, 180, 0, 48, 182, 0, 131, 4]
abbrev dktJ30_add_0 : List UInt8 := dkwJ30_add_0 ++ dktJ30_add_1
theorem dksJ30_add_0 : cJ30_add.data.toList.drop 0 = dktJ30_add_0 := by decide +kernel
theorem dksJ30_add_1 : cJ30_add.data.toList.drop 24 = dktJ30_add_1 := dk_seg dksJ30_add_0 24 rfl rfl
theorem dJ30_add_0 : decode cJ30_add 0 = .ok (.aload_n 0, 1) := dk_42 (dk_at dksJ30_add_0 0 rfl rfl)
theorem dJ30_add_1 : decode cJ30_add 1 = .ok (.dup, 1) := dk_89 (dk_at dksJ30_add_0 1 rfl rfl)
theorem dJ30_add_2 : decode cJ30_add 2 = .ok (.getfield 63, 3) := dk_180 0 63 (dk_at dksJ30_add_0 2 rfl rfl)
theorem dJ30_add_5 : decode cJ30_add 5 = .ok (.iconst 1, 1) := dk_4 (dk_at dksJ30_add_0 5 rfl rfl)
theorem dJ30_add_6 : decode cJ30_add 6 = .ok (.iadd, 1) := dk_96 (dk_at dksJ30_add_0 6 rfl rfl)
theorem dJ30_add_7 : decode cJ30_add 7 = .ok (.putfield 63, 3) := dk_181 0 63 (dk_at dksJ30_add_0 7 rfl rfl)
theorem dJ30_add_10 : decode cJ30_add 10 = .ok (.aload_n 0, 1) := dk_42 (dk_at dksJ30_add_0 10 rfl rfl)
theorem dJ30_add_11 : decode cJ30_add 11 = .ok (.aload_n 1, 1) := dk_43 (dk_at dksJ30_add_0 11 rfl rfl)
theorem dJ30_add_12 : decode cJ30_add 12 = .ok (.aload_n 0, 1) := dk_42 (dk_at dksJ30_add_0 12 rfl rfl)
theorem dJ30_add_13 : decode cJ30_add 13 = .ok (.getfield 9, 3) := dk_180 0 9 (dk_at dksJ30_add_0 13 rfl rfl)
theorem dJ30_add_16 : decode cJ30_add 16 = .ok (.aload_n 0, 1) := dk_42 (dk_at dksJ30_add_0 16 rfl rfl)
theorem dJ30_add_17 : decode cJ30_add 17 = .ok (.getfield 48, 3) := dk_180 0 48 (dk_at dksJ30_add_0 17 rfl rfl)
theorem dJ30_add_20 : decode cJ30_add 20 = .ok (.invokevirtual 131, 3) := dk_182 0 131 (dk_at dksJ30_add_0 20 rfl rfl)
theorem dJ30_add_23 : decode cJ30_add 23 = .ok (.iconst 1, 1) := dk_4 (dk_at dksJ30_add_0 23 rfl rfl)
theorem dJ30_add_24 : decode cJ30_add 24 = .ok (.ireturn, 1) := dk_172 (dk_at dksJ30_add_1 0 rfl rfl)
abbrev cJ30_add_2 : ByteArray := prog_58_method_24_code
def yJ30_add_2 : MethodName := ⟨RJ30, "add", "(Ljava/lang/Object;[Ljava/lang/Object;I)V"⟩
def dkwJ30_add_2_0 : List UInt8 := [29, 44, 190, 160, 0, 8, 42, 182, 0, 129, 77, 44, 29, 43, 83, 42, 29, 4, 96, 181, 0, 48, 177]
abbrev dktJ30_add_2_0 : List UInt8 := dkwJ30_add_2_0 ++ []
theorem dksJ30_add_2_0 : cJ30_add_2.data.toList.drop 0 = dktJ30_add_2_0 := by decide +kernel
theorem dJ30_add_2_0 : decode cJ30_add_2 0 = .ok (.iload_n 3, 1) := dk_29 (dk_at dksJ30_add_2_0 0 rfl rfl)
theorem dJ30_add_2_1 : decode cJ30_add_2 1 = .ok (.aload_n 2, 1) := dk_44 (dk_at dksJ30_add_2_0 1 rfl rfl)
theorem dJ30_add_2_2 : decode cJ30_add_2 2 = .ok (.arraylength, 1) := dk_190 (dk_at dksJ30_add_2_0 2 rfl rfl)
theorem dJ30_add_2_3 : decode cJ30_add_2 3 = .ok (.if_icmp .ne 8, 3) := dk_160 0 8 (dk_at dksJ30_add_2_0 3 rfl rfl)
theorem dJ30_add_2_6 : decode cJ30_add_2 6 = .ok (.aload_n 0, 1) := dk_42 (dk_at dksJ30_add_2_0 6 rfl rfl)
theorem dJ30_add_2_7 : decode cJ30_add_2 7 = .ok (.invokevirtual 129, 3) := dk_182 0 129 (dk_at dksJ30_add_2_0 7 rfl rfl)
theorem dJ30_add_2_10 : decode cJ30_add_2 10 = .ok (.astore_n 2, 1) := dk_77 (dk_at dksJ30_add_2_0 10 rfl rfl)
theorem dJ30_add_2_11 : decode cJ30_add_2 11 = .ok (.aload_n 2, 1) := dk_44 (dk_at dksJ30_add_2_0 11 rfl rfl)
theorem dJ30_add_2_12 : decode cJ30_add_2 12 = .ok (.iload_n 3, 1) := dk_29 (dk_at dksJ30_add_2_0 12 rfl rfl)
theorem dJ30_add_2_13 : decode cJ30_add_2 13 = .ok (.aload_n 1, 1) := dk_43 (dk_at dksJ30_add_2_0 13 rfl rfl)
theorem dJ30_add_2_14 : decode cJ30_add_2 14 = .ok (.aastore, 1) := dk_83 (dk_at dksJ30_add_2_0 14 rfl rfl)
theorem dJ30_add_2_15 : decode cJ30_add_2 15 = .ok (.aload_n 0, 1) := dk_42 (dk_at dksJ30_add_2_0 15 rfl rfl)
theorem dJ30_add_2_16 : decode cJ30_add_2 16 = .ok (.iload_n 3, 1) := dk_29 (dk_at dksJ30_add_2_0 16 rfl rfl)
theorem dJ30_add_2_17 : decode cJ30_add_2 17 = .ok (.iconst 1, 1) := dk_4 (dk_at dksJ30_add_2_0 17 rfl rfl)
theorem dJ30_add_2_18 : decode cJ30_add_2 18 = .ok (.iadd, 1) := dk_96 (dk_at dksJ30_add_2_0 18 rfl rfl)
theorem dJ30_add_2_19 : decode cJ30_add_2 19 = .ok (.putfield 48, 3) := dk_181 0 48 (dk_at dksJ30_add_2_0 19 rfl rfl)
theorem dJ30_add_2_22 : decode cJ30_add_2 22 = .ok (.return_, 1) := dk_177 (dk_at dksJ30_add_2_0 22 rfl rfl)
abbrev cJ30_grow : ByteArray := prog_58_method_7_code
def yJ30_grow : MethodName := ⟨RJ30, "grow", "()[Ljava/lang/Object;"⟩
def dkwJ30_grow_0 : List UInt8 := [42, 42, 180, 0, 48, 4, 96, 182, 0, 69, 176]
abbrev dktJ30_grow_0 : List UInt8 := dkwJ30_grow_0 ++ []
theorem dksJ30_grow_0 : cJ30_grow.data.toList.drop 0 = dktJ30_grow_0 := by decide +kernel
theorem dJ30_grow_0 : decode cJ30_grow 0 = .ok (.aload_n 0, 1) := dk_42 (dk_at dksJ30_grow_0 0 rfl rfl)
theorem dJ30_grow_1 : decode cJ30_grow 1 = .ok (.aload_n 0, 1) := dk_42 (dk_at dksJ30_grow_0 1 rfl rfl)
theorem dJ30_grow_2 : decode cJ30_grow 2 = .ok (.getfield 48, 3) := dk_180 0 48 (dk_at dksJ30_grow_0 2 rfl rfl)
theorem dJ30_grow_5 : decode cJ30_grow 5 = .ok (.iconst 1, 1) := dk_4 (dk_at dksJ30_grow_0 5 rfl rfl)
theorem dJ30_grow_6 : decode cJ30_grow 6 = .ok (.iadd, 1) := dk_96 (dk_at dksJ30_grow_0 6 rfl rfl)
theorem dJ30_grow_7 : decode cJ30_grow 7 = .ok (.invokevirtual 69, 3) := dk_182 0 69 (dk_at dksJ30_grow_0 7 rfl rfl)
theorem dJ30_grow_10 : decode cJ30_grow 10 = .ok (.areturn, 1) := dk_176 (dk_at dksJ30_grow_0 10 rfl rfl)
abbrev cJ30_grow_2 : ByteArray := prog_58_method_6_code
def yJ30_grow_2 : MethodName := ⟨RJ30, "grow", "(I)[Ljava/lang/Object;"⟩
def dkwJ30_grow_2_2 : List UInt8 := [27, 184, 0, 79, 189, 0, 7, 90, 181, 0, 9, 176]
abbrev dktJ30_grow_2_2 : List UInt8 := dkwJ30_grow_2_2 ++ []
def dkwJ30_grow_2_1 : List UInt8 := [28, 4, 122, 184, 0, 73, 62, 42, 42, 180, 0, 9, 29, 184, 0, 66, 90, 181, 0, 9, 176, 42, 16, 10]
abbrev dktJ30_grow_2_1 : List UInt8 := dkwJ30_grow_2_1 ++ dktJ30_grow_2_2
def dkwJ30_grow_2_0 : List UInt8 := [42, 180, 0, 9, 190, 61, 28, 157, 0, 13, 42, 180, 0, 9, 178, 0, 39, 165, 0, 28, 28, 27, 28, 100]
abbrev dktJ30_grow_2_0 : List UInt8 := dkwJ30_grow_2_0 ++ dktJ30_grow_2_1
theorem dksJ30_grow_2_0 : cJ30_grow_2.data.toList.drop 0 = dktJ30_grow_2_0 := by decide +kernel
theorem dksJ30_grow_2_1 : cJ30_grow_2.data.toList.drop 24 = dktJ30_grow_2_1 := dk_seg dksJ30_grow_2_0 24 rfl rfl
theorem dksJ30_grow_2_2 : cJ30_grow_2.data.toList.drop 48 = dktJ30_grow_2_2 := dk_seg dksJ30_grow_2_1 24 rfl rfl
theorem dJ30_grow_2_0 : decode cJ30_grow_2 0 = .ok (.aload_n 0, 1) := dk_42 (dk_at dksJ30_grow_2_0 0 rfl rfl)
theorem dJ30_grow_2_1 : decode cJ30_grow_2 1 = .ok (.getfield 9, 3) := dk_180 0 9 (dk_at dksJ30_grow_2_0 1 rfl rfl)
theorem dJ30_grow_2_4 : decode cJ30_grow_2 4 = .ok (.arraylength, 1) := dk_190 (dk_at dksJ30_grow_2_0 4 rfl rfl)
theorem dJ30_grow_2_5 : decode cJ30_grow_2 5 = .ok (.istore_n 2, 1) := dk_61 (dk_at dksJ30_grow_2_0 5 rfl rfl)
theorem dJ30_grow_2_6 : decode cJ30_grow_2 6 = .ok (.iload_n 2, 1) := dk_28 (dk_at dksJ30_grow_2_0 6 rfl rfl)
theorem dJ30_grow_2_7 : decode cJ30_grow_2 7 = .ok (.ifCond .gt 13, 3) := dk_157 0 13 (dk_at dksJ30_grow_2_0 7 rfl rfl)
theorem dJ30_grow_2_10 : decode cJ30_grow_2 10 = .ok (.aload_n 0, 1) := dk_42 (dk_at dksJ30_grow_2_0 10 rfl rfl)
theorem dJ30_grow_2_11 : decode cJ30_grow_2 11 = .ok (.getfield 9, 3) := dk_180 0 9 (dk_at dksJ30_grow_2_0 11 rfl rfl)
theorem dJ30_grow_2_14 : decode cJ30_grow_2 14 = .ok (.getstatic 39, 3) := dk_178 0 39 (dk_at dksJ30_grow_2_0 14 rfl rfl)
theorem dJ30_grow_2_17 : decode cJ30_grow_2 17 = .ok (.if_acmp .eq 28, 3) := dk_165 0 28 (dk_at dksJ30_grow_2_0 17 rfl rfl)
theorem dJ30_grow_2_20 : decode cJ30_grow_2 20 = .ok (.iload_n 2, 1) := dk_28 (dk_at dksJ30_grow_2_0 20 rfl rfl)
theorem dJ30_grow_2_21 : decode cJ30_grow_2 21 = .ok (.iload_n 1, 1) := dk_27 (dk_at dksJ30_grow_2_0 21 rfl rfl)
theorem dJ30_grow_2_22 : decode cJ30_grow_2 22 = .ok (.iload_n 2, 1) := dk_28 (dk_at dksJ30_grow_2_0 22 rfl rfl)
theorem dJ30_grow_2_23 : decode cJ30_grow_2 23 = .ok (.isub, 1) := dk_100 (dk_at dksJ30_grow_2_0 23 rfl rfl)
theorem dJ30_grow_2_24 : decode cJ30_grow_2 24 = .ok (.iload_n 2, 1) := dk_28 (dk_at dksJ30_grow_2_1 0 rfl rfl)
theorem dJ30_grow_2_25 : decode cJ30_grow_2 25 = .ok (.iconst 1, 1) := dk_4 (dk_at dksJ30_grow_2_1 1 rfl rfl)
theorem dJ30_grow_2_26 : decode cJ30_grow_2 26 = .ok (.ishr, 1) := dk_122 (dk_at dksJ30_grow_2_1 2 rfl rfl)
theorem dJ30_grow_2_27 : decode cJ30_grow_2 27 = .ok (.invokestatic 73, 3) := dk_184 0 73 (dk_at dksJ30_grow_2_1 3 rfl rfl)
theorem dJ30_grow_2_30 : decode cJ30_grow_2 30 = .ok (.istore_n 3, 1) := dk_62 (dk_at dksJ30_grow_2_1 6 rfl rfl)
theorem dJ30_grow_2_31 : decode cJ30_grow_2 31 = .ok (.aload_n 0, 1) := dk_42 (dk_at dksJ30_grow_2_1 7 rfl rfl)
theorem dJ30_grow_2_32 : decode cJ30_grow_2 32 = .ok (.aload_n 0, 1) := dk_42 (dk_at dksJ30_grow_2_1 8 rfl rfl)
theorem dJ30_grow_2_33 : decode cJ30_grow_2 33 = .ok (.getfield 9, 3) := dk_180 0 9 (dk_at dksJ30_grow_2_1 9 rfl rfl)
theorem dJ30_grow_2_36 : decode cJ30_grow_2 36 = .ok (.iload_n 3, 1) := dk_29 (dk_at dksJ30_grow_2_1 12 rfl rfl)
theorem dJ30_grow_2_37 : decode cJ30_grow_2 37 = .ok (.invokestatic 66, 3) := dk_184 0 66 (dk_at dksJ30_grow_2_1 13 rfl rfl)
theorem dJ30_grow_2_40 : decode cJ30_grow_2 40 = .ok (.dup_x1, 1) := dk_90 (dk_at dksJ30_grow_2_1 16 rfl rfl)
theorem dJ30_grow_2_41 : decode cJ30_grow_2 41 = .ok (.putfield 9, 3) := dk_181 0 9 (dk_at dksJ30_grow_2_1 17 rfl rfl)
theorem dJ30_grow_2_44 : decode cJ30_grow_2 44 = .ok (.areturn, 1) := dk_176 (dk_at dksJ30_grow_2_1 20 rfl rfl)
theorem dJ30_grow_2_45 : decode cJ30_grow_2 45 = .ok (.aload_n 0, 1) := dk_42 (dk_at dksJ30_grow_2_1 21 rfl rfl)
theorem dJ30_grow_2_46 : decode cJ30_grow_2 46 = .ok (.bipush 10, 2) := dk_16 10 (dk_at dksJ30_grow_2_1 22 rfl rfl)
theorem dJ30_grow_2_48 : decode cJ30_grow_2 48 = .ok (.iload_n 1, 1) := dk_27 (dk_at dksJ30_grow_2_2 0 rfl rfl)
theorem dJ30_grow_2_49 : decode cJ30_grow_2 49 = .ok (.invokestatic 79, 3) := dk_184 0 79 (dk_at dksJ30_grow_2_2 1 rfl rfl)
theorem dJ30_grow_2_52 : decode cJ30_grow_2 52 = .ok (.anewarray 7, 3) := dk_189 0 7 (dk_at dksJ30_grow_2_2 4 rfl rfl)
theorem dJ30_grow_2_55 : decode cJ30_grow_2 55 = .ok (.dup_x1, 1) := dk_90 (dk_at dksJ30_grow_2_2 7 rfl rfl)
theorem dJ30_grow_2_56 : decode cJ30_grow_2 56 = .ok (.putfield 9, 3) := dk_181 0 9 (dk_at dksJ30_grow_2_2 8 rfl rfl)
theorem dJ30_grow_2_59 : decode cJ30_grow_2 59 = .ok (.areturn, 1) := dk_176 (dk_at dksJ30_grow_2_2 11 rfl rfl)
abbrev cJ30_get : ByteArray := prog_58_method_20_code
def yJ30_get : MethodName := ⟨RJ30, "get", "(I)Ljava/lang/Object;"⟩
def dkwJ30_get_0 : List UInt8 := [27, 42, 180, 0, 48, 184, 0, 118, 87, 42, 27, 182, 0, 123, 176]
abbrev dktJ30_get_0 : List UInt8 := dkwJ30_get_0 ++ []
theorem dksJ30_get_0 : cJ30_get.data.toList.drop 0 = dktJ30_get_0 := by decide +kernel
theorem dJ30_get_0 : decode cJ30_get 0 = .ok (.iload_n 1, 1) := dk_27 (dk_at dksJ30_get_0 0 rfl rfl)
theorem dJ30_get_1 : decode cJ30_get 1 = .ok (.aload_n 0, 1) := dk_42 (dk_at dksJ30_get_0 1 rfl rfl)
theorem dJ30_get_2 : decode cJ30_get 2 = .ok (.getfield 48, 3) := dk_180 0 48 (dk_at dksJ30_get_0 2 rfl rfl)
theorem dJ30_get_5 : decode cJ30_get 5 = .ok (.invokestatic 118, 3) := dk_184 0 118 (dk_at dksJ30_get_0 5 rfl rfl)
theorem dJ30_get_8 : decode cJ30_get 8 = .ok (.pop, 1) := dk_87 (dk_at dksJ30_get_0 8 rfl rfl)
theorem dJ30_get_9 : decode cJ30_get 9 = .ok (.aload_n 0, 1) := dk_42 (dk_at dksJ30_get_0 9 rfl rfl)
theorem dJ30_get_10 : decode cJ30_get 10 = .ok (.iload_n 1, 1) := dk_27 (dk_at dksJ30_get_0 10 rfl rfl)
theorem dJ30_get_11 : decode cJ30_get 11 = .ok (.invokevirtual 123, 3) := dk_182 0 123 (dk_at dksJ30_get_0 11 rfl rfl)
theorem dJ30_get_14 : decode cJ30_get 14 = .ok (.areturn, 1) := dk_176 (dk_at dksJ30_get_0 14 rfl rfl)
abbrev cJ30_elementData : ByteArray := prog_58_method_18_code
def yJ30_elementData : MethodName := ⟨RJ30, "elementData", "(I)Ljava/lang/Object;"⟩
def dkwJ30_elementData_0 : List UInt8 := [42, 180, 0, 9, 27, 50, 176]
abbrev dktJ30_elementData_0 : List UInt8 := dkwJ30_elementData_0 ++ []
theorem dksJ30_elementData_0 : cJ30_elementData.data.toList.drop 0 = dktJ30_elementData_0 := by decide +kernel
theorem dJ30_elementData_0 : decode cJ30_elementData 0 = .ok (.aload_n 0, 1) := dk_42 (dk_at dksJ30_elementData_0 0 rfl rfl)
theorem dJ30_elementData_1 : decode cJ30_elementData 1 = .ok (.getfield 9, 3) := dk_180 0 9 (dk_at dksJ30_elementData_0 1 rfl rfl)
theorem dJ30_elementData_4 : decode cJ30_elementData 4 = .ok (.iload_n 1, 1) := dk_27 (dk_at dksJ30_elementData_0 4 rfl rfl)
theorem dJ30_elementData_5 : decode cJ30_elementData 5 = .ok (.aaload, 1) := dk_50 (dk_at dksJ30_elementData_0 5 rfl rfl)
theorem dJ30_elementData_6 : decode cJ30_elementData 6 = .ok (.areturn, 1) := dk_176 (dk_at dksJ30_elementData_0 6 rfl rfl)
abbrev cJ30_size : ByteArray := prog_58_method_8_code
def yJ30_size : MethodName := ⟨RJ30, "size", "()I"⟩
theorem dJ30_size_0 : decode cJ30_size 0 = .ok (.aload_n 0, 1) := by decide +kernel
theorem dJ30_size_1 : decode cJ30_size 1 = .ok (.getfield 48, 3) := by decide +kernel
theorem dJ30_size_4 : decode cJ30_size 4 = .ok (.ireturn, 1) := by decide +kernel
theorem q127 : (Jvm.Cond.initialized "java/util/ArrayList") ∈ lw_all := lw_g (lw_at lw_m1 34 rfl) rfl
theorem q907 : (Jvm.Cond.selects "java/util/ArrayList" ({ cls := "java/lang/Object", name := "getClass", desc := "()Ljava/lang/Class;" } : Jvm.MethodName) ({ cls := "java/lang/Object", name := "getClass", desc := "()Ljava/lang/Class;" } : Jvm.MethodName)) ∈ lw_all := lw_g (lw_at lw_m4 94 rfl) rfl
theorem q1093 : (Jvm.Cond.instantiable "java/util/ArrayList" (3 : Nat)) ∈ lw_all := lw_g (lw_at lw_m5 40 rfl) rfl
theorem q1095 : (Jvm.Cond.instanceMethod ({ cls := "java/util/ArrayList", name := "<init>", desc := "()V" } : Jvm.MethodName)) ∈ lw_all := lw_g (lw_at lw_m5 42 rfl) rfl
theorem q1096 : (Jvm.Cond.code ({ cls := "java/util/ArrayList", name := "<init>", desc := "()V" } : Jvm.MethodName) prog_58_method_2_code (1 : Nat) (Option.none : Option Jvm.ClassFile.FieldType)) ∈ lw_all := lw_g (lw_at lw_m5 43 rfl) rfl
theorem q1097 : (Jvm.Cond.methodLink "java/util/ArrayList" (1 : Nat) ({ cls := "java/util/AbstractList", name := "<init>", desc := "()V" } : Jvm.MethodName)) ∈ lw_all := lw_g (lw_at lw_m5 44 rfl) rfl
theorem q1101 : (Jvm.Cond.fieldLink "java/util/ArrayList" (39 : Nat) "java/util/ArrayList" "DEFAULTCAPACITY_EMPTY_ELEMENTDATA" "[Ljava/lang/Object;") ∈ lw_all := lw_g (lw_at lw_m5 48 rfl) rfl
theorem q1102 : (Jvm.Cond.laysStatic "java/util/ArrayList" "DEFAULTCAPACITY_EMPTY_ELEMENTDATA" "[Ljava/lang/Object;") ∈ lw_tbl := lw_at lw_m5 49 rfl
theorem q1103 : (Jvm.Cond.fieldLink "java/util/ArrayList" (9 : Nat) "java/util/ArrayList" "elementData" "[Ljava/lang/Object;") ∈ lw_all := lw_g (lw_at lw_m5 50 rfl) rfl
theorem q1106 : (Jvm.Cond.fieldLink "java/util/ArrayList" (48 : Nat) "java/util/ArrayList" "size" "I") ∈ lw_all := lw_g (lw_at lw_m5 53 rfl) rfl
theorem q1109 : (Jvm.Cond.sameField "java/util/ArrayList" "java/util/AbstractList" "modCount" "I") ∈ lw_all := lw_g (lw_at lw_m5 56 rfl) rfl
theorem q1110 : (Jvm.Cond.fieldLink "java/util/ArrayList" (63 : Nat) "java/util/ArrayList" "modCount" "I") ∈ lw_all := lw_g (lw_at lw_m5 57 rfl) rfl
theorem q1111 : (Jvm.Cond.lays "java/util/ArrayList" "java/util/ArrayList" "elementData" "[Ljava/lang/Object;") ∈ lw_all := lw_g (lw_at lw_m5 58 rfl) rfl
theorem q1112 : (Jvm.Cond.soleField "java/util/ArrayList" "elementData") ∈ lw_all := lw_g (lw_at lw_m5 59 rfl) rfl
theorem q1113 : (Jvm.Cond.lays "java/util/ArrayList" "java/util/ArrayList" "size" "I") ∈ lw_all := lw_g (lw_at lw_m5 60 rfl) rfl
theorem q1114 : (Jvm.Cond.soleField "java/util/ArrayList" "size") ∈ lw_all := lw_g (lw_at lw_m5 61 rfl) rfl
theorem q1115 : (Jvm.Cond.lays "java/util/ArrayList" "java/util/AbstractList" "modCount" "I") ∈ lw_all := lw_g (lw_at lw_m5 62 rfl) rfl
theorem q1117 : (Jvm.Cond.superclass "java/util/ArrayList" "java/util/AbstractList") ∈ lw_all := lw_g (lw_at lw_m5 64 rfl) rfl
theorem q2255 : (Jvm.Cond.instanceMethod ({ cls := "java/util/ArrayList", name := "iterator", desc := "()Ljava/util/Iterator;" } : Jvm.MethodName)) ∈ lw_all := lw_g (lw_at lw_m10 2 rfl) rfl
theorem q2256 : (Jvm.Cond.selects "java/util/ArrayList" ({ cls := "java/util/ArrayList", name := "iterator", desc := "()Ljava/util/Iterator;" } : Jvm.MethodName) ({ cls := "java/util/ArrayList", name := "iterator", desc := "()Ljava/util/Iterator;" } : Jvm.MethodName)) ∈ lw_all := lw_g (lw_at lw_m10 3 rfl) rfl
theorem q2257 : (Jvm.Cond.code ({ cls := "java/util/ArrayList", name := "iterator", desc := "()Ljava/util/Iterator;" } : Jvm.MethodName) prog_58_method_55_code (1 : Nat) (Option.some (Jvm.ClassFile.FieldType.object "java/util/Iterator"))) ∈ lw_all := lw_g (lw_at lw_m10 4 rfl) rfl
theorem q2258 : (Jvm.Cond.classLink "java/util/ArrayList" (267 : Nat) "java/util/ArrayList$Itr") ∈ lw_all := lw_g (lw_at lw_m10 5 rfl) rfl
theorem q2260 : (Jvm.Cond.methodLink "java/util/ArrayList" (269 : Nat) ({ cls := "java/util/ArrayList$Itr", name := "<init>", desc := "(Ljava/util/ArrayList;)V" } : Jvm.MethodName)) ∈ lw_all := lw_g (lw_at lw_m10 7 rfl) rfl
theorem q2310 : (Jvm.Cond.instanceMethod ({ cls := "java/util/ArrayList", name := "add", desc := "(Ljava/lang/Object;)Z" } : Jvm.MethodName)) ∈ lw_all := lw_g (lw_at lw_m10 57 rfl) rfl
theorem q2311 : (Jvm.Cond.selects "java/util/ArrayList" ({ cls := "java/util/ArrayList", name := "add", desc := "(Ljava/lang/Object;)Z" } : Jvm.MethodName) ({ cls := "java/util/ArrayList", name := "add", desc := "(Ljava/lang/Object;)Z" } : Jvm.MethodName)) ∈ lw_all := lw_g (lw_at lw_m10 58 rfl) rfl
theorem q2312 : (Jvm.Cond.code ({ cls := "java/util/ArrayList", name := "add", desc := "(Ljava/lang/Object;)Z" } : Jvm.MethodName) prog_58_method_25_code (2 : Nat) (Option.some Jvm.ClassFile.FieldType.boolean)) ∈ lw_all := lw_g (lw_at lw_m10 59 rfl) rfl
theorem q2313 : (Jvm.Cond.methodLink "java/util/ArrayList" (131 : Nat) ({ cls := "java/util/ArrayList", name := "add", desc := "(Ljava/lang/Object;[Ljava/lang/Object;I)V" } : Jvm.MethodName)) ∈ lw_all := lw_g (lw_at lw_m10 60 rfl) rfl
theorem q2314 : (Jvm.Cond.privateMethod ({ cls := "java/util/ArrayList", name := "add", desc := "(Ljava/lang/Object;[Ljava/lang/Object;I)V" } : Jvm.MethodName)) ∈ lw_tbl := lw_at lw_m10 61 rfl
theorem q2315 : (Jvm.Cond.instanceMethod ({ cls := "java/util/ArrayList", name := "add", desc := "(Ljava/lang/Object;[Ljava/lang/Object;I)V" } : Jvm.MethodName)) ∈ lw_all := lw_g (lw_at lw_m10 62 rfl) rfl
theorem q2316 : (Jvm.Cond.code ({ cls := "java/util/ArrayList", name := "add", desc := "(Ljava/lang/Object;[Ljava/lang/Object;I)V" } : Jvm.MethodName) prog_58_method_24_code (4 : Nat) (Option.none : Option Jvm.ClassFile.FieldType)) ∈ lw_all := lw_g (lw_at lw_m10 63 rfl) rfl
theorem q2317 : (Jvm.Cond.methodLink "java/util/ArrayList" (129 : Nat) ({ cls := "java/util/ArrayList", name := "grow", desc := "()[Ljava/lang/Object;" } : Jvm.MethodName)) ∈ lw_all := lw_g (lw_at lw_m10 64 rfl) rfl
theorem q2318 : (Jvm.Cond.privateMethod ({ cls := "java/util/ArrayList", name := "grow", desc := "()[Ljava/lang/Object;" } : Jvm.MethodName)) ∈ lw_tbl := lw_at lw_m10 65 rfl
theorem q2319 : (Jvm.Cond.instanceMethod ({ cls := "java/util/ArrayList", name := "grow", desc := "()[Ljava/lang/Object;" } : Jvm.MethodName)) ∈ lw_all := lw_g (lw_at lw_m10 66 rfl) rfl
theorem q2320 : (Jvm.Cond.code ({ cls := "java/util/ArrayList", name := "grow", desc := "()[Ljava/lang/Object;" } : Jvm.MethodName) prog_58_method_7_code (1 : Nat) (Option.some (Jvm.ClassFile.FieldType.array (Jvm.ClassFile.FieldType.object "java/lang/Object")))) ∈ lw_all := lw_g (lw_at lw_m10 67 rfl) rfl
theorem q2321 : (Jvm.Cond.methodLink "java/util/ArrayList" (69 : Nat) ({ cls := "java/util/ArrayList", name := "grow", desc := "(I)[Ljava/lang/Object;" } : Jvm.MethodName)) ∈ lw_all := lw_g (lw_at lw_m10 68 rfl) rfl
theorem q2322 : (Jvm.Cond.privateMethod ({ cls := "java/util/ArrayList", name := "grow", desc := "(I)[Ljava/lang/Object;" } : Jvm.MethodName)) ∈ lw_tbl := lw_at lw_m10 69 rfl
theorem q2323 : (Jvm.Cond.instanceMethod ({ cls := "java/util/ArrayList", name := "grow", desc := "(I)[Ljava/lang/Object;" } : Jvm.MethodName)) ∈ lw_all := lw_g (lw_at lw_m10 70 rfl) rfl
theorem q2324 : (Jvm.Cond.code ({ cls := "java/util/ArrayList", name := "grow", desc := "(I)[Ljava/lang/Object;" } : Jvm.MethodName) prog_58_method_6_code (4 : Nat) (Option.some (Jvm.ClassFile.FieldType.array (Jvm.ClassFile.FieldType.object "java/lang/Object")))) ∈ lw_all := lw_g (lw_at lw_m10 71 rfl) rfl
theorem q2325 : (Jvm.Cond.methodLink "java/util/ArrayList" (73 : Nat) ({ cls := "jdk/internal/util/ArraysSupport", name := "newLength", desc := "(III)I" } : Jvm.MethodName)) ∈ lw_all := lw_g (lw_at lw_m10 72 rfl) rfl
theorem q2326 : (Jvm.Cond.methodLink "java/util/ArrayList" (66 : Nat) ({ cls := "java/util/Arrays", name := "copyOf", desc := "([Ljava/lang/Object;I)[Ljava/lang/Object;" } : Jvm.MethodName)) ∈ lw_all := lw_g (lw_at lw_m10 73 rfl) rfl
theorem q2327 : (Jvm.Cond.methodLink "java/util/ArrayList" (79 : Nat) ({ cls := "java/lang/Math", name := "max", desc := "(II)I" } : Jvm.MethodName)) ∈ lw_all := lw_g (lw_at lw_m10 74 rfl) rfl
theorem q2328 : (Jvm.Cond.classLink "java/util/ArrayList" (7 : Nat) "java/lang/Object") ∈ lw_all := lw_g (lw_at lw_m10 75 rfl) rfl
theorem q2340 : (Jvm.Cond.instanceMethod ({ cls := "java/util/ArrayList", name := "get", desc := "(I)Ljava/lang/Object;" } : Jvm.MethodName)) ∈ lw_all := lw_g (lw_at lw_m10 87 rfl) rfl
theorem q2341 : (Jvm.Cond.selects "java/util/ArrayList" ({ cls := "java/util/ArrayList", name := "get", desc := "(I)Ljava/lang/Object;" } : Jvm.MethodName) ({ cls := "java/util/ArrayList", name := "get", desc := "(I)Ljava/lang/Object;" } : Jvm.MethodName)) ∈ lw_all := lw_g (lw_at lw_m10 88 rfl) rfl
theorem q2342 : (Jvm.Cond.code ({ cls := "java/util/ArrayList", name := "get", desc := "(I)Ljava/lang/Object;" } : Jvm.MethodName) prog_58_method_20_code (2 : Nat) (Option.some (Jvm.ClassFile.FieldType.object "java/lang/Object"))) ∈ lw_all := lw_g (lw_at lw_m10 89 rfl) rfl
theorem q2343 : (Jvm.Cond.methodLink "java/util/ArrayList" (118 : Nat) ({ cls := "java/util/Objects", name := "checkIndex", desc := "(II)I" } : Jvm.MethodName)) ∈ lw_all := lw_g (lw_at lw_m10 90 rfl) rfl
theorem q2347 : (Jvm.Cond.methodLink "java/util/ArrayList" (123 : Nat) ({ cls := "java/util/ArrayList", name := "elementData", desc := "(I)Ljava/lang/Object;" } : Jvm.MethodName)) ∈ lw_all := lw_g (lw_at lw_m10 94 rfl) rfl
theorem q2348 : (Jvm.Cond.instanceMethod ({ cls := "java/util/ArrayList", name := "elementData", desc := "(I)Ljava/lang/Object;" } : Jvm.MethodName)) ∈ lw_all := lw_g (lw_at lw_m10 95 rfl) rfl
theorem q2349 : (Jvm.Cond.selects "java/util/ArrayList" ({ cls := "java/util/ArrayList", name := "elementData", desc := "(I)Ljava/lang/Object;" } : Jvm.MethodName) ({ cls := "java/util/ArrayList", name := "elementData", desc := "(I)Ljava/lang/Object;" } : Jvm.MethodName)) ∈ lw_all := lw_g (lw_at lw_m10 96 rfl) rfl
theorem q2350 : (Jvm.Cond.code ({ cls := "java/util/ArrayList", name := "elementData", desc := "(I)Ljava/lang/Object;" } : Jvm.MethodName) prog_58_method_18_code (2 : Nat) (Option.some (Jvm.ClassFile.FieldType.object "java/lang/Object"))) ∈ lw_all := lw_g (lw_at lw_m10 97 rfl) rfl
theorem q2610 : (Jvm.Cond.castable "java/util/ArrayList" "java/lang/Iterable") ∈ lw_tbl := lw_at lw_m11 117 rfl
theorem q2611 : (Jvm.Cond.selects "java/util/ArrayList" ({ cls := "java/lang/Iterable", name := "iterator", desc := "()Ljava/util/Iterator;" } : Jvm.MethodName) ({ cls := "java/util/ArrayList", name := "iterator", desc := "()Ljava/util/Iterator;" } : Jvm.MethodName)) ∈ lw_all := lw_g (lw_at lw_m11 118 rfl) rfl
theorem q2612 : (Jvm.Cond.unhidden "java/util/ArrayList" "iterator" "()Ljava/util/Iterator;") ∈ lw_tbl := lw_at lw_m11 119 rfl
theorem q2613 : (Jvm.Cond.publicMethod ({ cls := "java/util/ArrayList", name := "iterator", desc := "()Ljava/util/Iterator;" } : Jvm.MethodName)) ∈ lw_tbl := lw_at lw_m11 120 rfl
theorem q2705 : (Jvm.Cond.instanceMethod ({ cls := "java/util/ArrayList", name := "size", desc := "()I" } : Jvm.MethodName)) ∈ lw_all := lw_g (lw_at lw_m11 212 rfl) rfl
theorem q2706 : (Jvm.Cond.selects "java/util/ArrayList" ({ cls := "java/util/ArrayList", name := "size", desc := "()I" } : Jvm.MethodName) ({ cls := "java/util/ArrayList", name := "size", desc := "()I" } : Jvm.MethodName)) ∈ lw_all := lw_g (lw_at lw_m11 213 rfl) rfl
theorem q2707 : (Jvm.Cond.code ({ cls := "java/util/ArrayList", name := "size", desc := "()I" } : Jvm.MethodName) prog_58_method_8_code (1 : Nat) (Option.some Jvm.ClassFile.FieldType.int)) ∈ lw_all := lw_g (lw_at lw_m11 214 rfl) rfl
theorem q3775 : (Jvm.Cond.castable "java/util/ArrayList" "java/lang/Object") ∈ lw_tbl := lw_at lw_m16 82 rfl
theorem in_J30 : ∀ w ∈ wsJ300, w ∈ lw_all := lw_in wsJ300 [1115, 1111, 1113] (by decide +kernel) (by decide +kernel)
/-! java/util/ArrayDeque -/
set_option maxRecDepth 100000
def RJ31 : String := "java/util/ArrayDeque"
def TJ31 : u_T := fun k => match k with
  | 0 => ("java/util/ArrayDeque", "elements", "[Ljava/lang/Object;", false)
  | 1 => ("java/util/ArrayDeque", "head", "I", false)
  | _ => ("java/util/ArrayDeque", "tail", "I", false)
def tyJ31 : Nat → FieldType := fun k => match k with
  | 0 => .array (.object "java/lang/Object")
  | 1 => .int
  | _ => .int
abbrev wsJ310 : List Cond := u_ws RJ31 TJ31 3
theorem nmJ31 : ∀ a, a < 3 → ∀ b, b < 3 → a ≠ b → (TJ31 a).2.1 ≠ (TJ31 b).2.1 := by decide +kernel
theorem tyJ31_ok : ∀ k, k < 3 → parseFieldDescriptor (TJ31 k).2.2.1 = some (tyJ31 k) := by decide +kernel
abbrev cJ31_init : ByteArray := prog_56_method_3_code
def yJ31_init : MethodName := ⟨RJ31, "<init>", "()V"⟩
def dkwJ31_init_0 : List UInt8 := [42, 183, 0, 42, 42, 16, 17, 189, 0, 47, 181, 0, 3, 177]
abbrev dktJ31_init_0 : List UInt8 := dkwJ31_init_0 ++ []
theorem dksJ31_init_0 : cJ31_init.data.toList.drop 0 = dktJ31_init_0 := by decide +kernel
theorem dJ31_init_0 : decode cJ31_init 0 = .ok (.aload_n 0, 1) := dk_42 (dk_at dksJ31_init_0 0 rfl rfl)
theorem dJ31_init_1 : decode cJ31_init 1 = .ok (.invokespecial 42, 3) := dk_183 0 42 (dk_at dksJ31_init_0 1 rfl rfl)
theorem dJ31_init_4 : decode cJ31_init 4 = .ok (.aload_n 0, 1) := dk_42 (dk_at dksJ31_init_0 4 rfl rfl)
theorem dJ31_init_5 : decode cJ31_init 5 = .ok (.bipush 17, 2) := dk_16 17 (dk_at dksJ31_init_0 5 rfl rfl)
theorem dJ31_init_7 : decode cJ31_init 7 = .ok (.anewarray 47, 3) := dk_189 0 47 (dk_at dksJ31_init_0 7 rfl rfl)
theorem dJ31_init_10 : decode cJ31_init 10 = .ok (.putfield 3, 3) := dk_181 0 3 (dk_at dksJ31_init_0 10 rfl rfl)
theorem dJ31_init_13 : decode cJ31_init 13 = .ok (.return_, 1) := dk_177 (dk_at dksJ31_init_0 13 rfl rfl)
abbrev cJ31_nonNullElementAt : ByteArray := prog_56_method_11_code
def yJ31_nonNullElementAt : MethodName := ⟨RJ31, "nonNullElementAt", "([Ljava/lang/Object;I)Ljava/lang/Object;"⟩
def dkwJ31_nonNullElementAt_0 : List UInt8 := [42, 27, 50, 77, 44, 199, 0, 11, 187, 0, 62, 89, 183, 0, 64, 191, 44, 176]
abbrev dktJ31_nonNullElementAt_0 : List UInt8 := dkwJ31_nonNullElementAt_0 ++ []
theorem dksJ31_nonNullElementAt_0 : cJ31_nonNullElementAt.data.toList.drop 0 = dktJ31_nonNullElementAt_0 := by decide +kernel
theorem dJ31_nonNullElementAt_0 : decode cJ31_nonNullElementAt 0 = .ok (.aload_n 0, 1) := dk_42 (dk_at dksJ31_nonNullElementAt_0 0 rfl rfl)
theorem dJ31_nonNullElementAt_1 : decode cJ31_nonNullElementAt 1 = .ok (.iload_n 1, 1) := dk_27 (dk_at dksJ31_nonNullElementAt_0 1 rfl rfl)
theorem dJ31_nonNullElementAt_2 : decode cJ31_nonNullElementAt 2 = .ok (.aaload, 1) := dk_50 (dk_at dksJ31_nonNullElementAt_0 2 rfl rfl)
theorem dJ31_nonNullElementAt_3 : decode cJ31_nonNullElementAt 3 = .ok (.astore_n 2, 1) := dk_77 (dk_at dksJ31_nonNullElementAt_0 3 rfl rfl)
theorem dJ31_nonNullElementAt_4 : decode cJ31_nonNullElementAt 4 = .ok (.aload_n 2, 1) := dk_44 (dk_at dksJ31_nonNullElementAt_0 4 rfl rfl)
theorem dJ31_nonNullElementAt_5 : decode cJ31_nonNullElementAt 5 = .ok (.ifnonnull 11, 3) := dk_199 0 11 (dk_at dksJ31_nonNullElementAt_0 5 rfl rfl)
theorem dJ31_nonNullElementAt_8 : decode cJ31_nonNullElementAt 8 = .ok (.new 62, 3) := dk_187 0 62 (dk_at dksJ31_nonNullElementAt_0 8 rfl rfl)
theorem dJ31_nonNullElementAt_11 : decode cJ31_nonNullElementAt 11 = .ok (.dup, 1) := dk_89 (dk_at dksJ31_nonNullElementAt_0 11 rfl rfl)
theorem dJ31_nonNullElementAt_12 : decode cJ31_nonNullElementAt 12 = .ok (.invokespecial 64, 3) := dk_183 0 64 (dk_at dksJ31_nonNullElementAt_0 12 rfl rfl)
theorem dJ31_nonNullElementAt_15 : decode cJ31_nonNullElementAt 15 = .ok (.athrow, 1) := dk_191 (dk_at dksJ31_nonNullElementAt_0 15 rfl rfl)
theorem dJ31_nonNullElementAt_16 : decode cJ31_nonNullElementAt 16 = .ok (.aload_n 2, 1) := dk_44 (dk_at dksJ31_nonNullElementAt_0 16 rfl rfl)
theorem dJ31_nonNullElementAt_17 : decode cJ31_nonNullElementAt 17 = .ok (.areturn, 1) := dk_176 (dk_at dksJ31_nonNullElementAt_0 17 rfl rfl)
abbrev cJ31_inc : ByteArray := prog_56_method_6_code
def yJ31_inc : MethodName := ⟨RJ31, "inc", "(II)I"⟩
def dkwJ31_inc_0 : List UInt8 := [132, 0, 1, 26, 27, 161, 0, 5, 3, 59, 26, 172]
abbrev dktJ31_inc_0 : List UInt8 := dkwJ31_inc_0 ++ []
theorem dksJ31_inc_0 : cJ31_inc.data.toList.drop 0 = dktJ31_inc_0 := by decide +kernel
theorem dJ31_inc_0 : decode cJ31_inc 0 = .ok (.iinc 0 1, 3) := dk_132 0 1 (dk_at dksJ31_inc_0 0 rfl rfl)
theorem dJ31_inc_3 : decode cJ31_inc 3 = .ok (.iload_n 0, 1) := dk_26 (dk_at dksJ31_inc_0 3 rfl rfl)
theorem dJ31_inc_4 : decode cJ31_inc 4 = .ok (.iload_n 1, 1) := dk_27 (dk_at dksJ31_inc_0 4 rfl rfl)
theorem dJ31_inc_5 : decode cJ31_inc 5 = .ok (.if_icmp .lt 5, 3) := dk_161 0 5 (dk_at dksJ31_inc_0 5 rfl rfl)
theorem dJ31_inc_8 : decode cJ31_inc 8 = .ok (.iconst 0, 1) := dk_3 (dk_at dksJ31_inc_0 8 rfl rfl)
theorem dJ31_inc_9 : decode cJ31_inc 9 = .ok (.istore_n 0, 1) := dk_59 (dk_at dksJ31_inc_0 9 rfl rfl)
theorem dJ31_inc_10 : decode cJ31_inc 10 = .ok (.iload_n 0, 1) := dk_26 (dk_at dksJ31_inc_0 10 rfl rfl)
theorem dJ31_inc_11 : decode cJ31_inc 11 = .ok (.ireturn, 1) := dk_172 (dk_at dksJ31_inc_0 11 rfl rfl)
abbrev cJ31_iterator : ByteArray := prog_56_method_39_code
def yJ31_iterator : MethodName := ⟨RJ31, "iterator", "()Ljava/util/Iterator;"⟩
def dkwJ31_iterator_0 : List UInt8 := [187, 0, 131, 89, 42, 183, 0, 133, 176]
abbrev dktJ31_iterator_0 : List UInt8 := dkwJ31_iterator_0 ++ []
theorem dksJ31_iterator_0 : cJ31_iterator.data.toList.drop 0 = dktJ31_iterator_0 := by decide +kernel
theorem dJ31_iterator_0 : decode cJ31_iterator 0 = .ok (.new 131, 3) := dk_187 0 131 (dk_at dksJ31_iterator_0 0 rfl rfl)
theorem dJ31_iterator_3 : decode cJ31_iterator 3 = .ok (.dup, 1) := dk_89 (dk_at dksJ31_iterator_0 3 rfl rfl)
theorem dJ31_iterator_4 : decode cJ31_iterator 4 = .ok (.aload_n 0, 1) := dk_42 (dk_at dksJ31_iterator_0 4 rfl rfl)
theorem dJ31_iterator_5 : decode cJ31_iterator 5 = .ok (.invokespecial 133, 3) := dk_183 0 133 (dk_at dksJ31_iterator_0 5 rfl rfl)
theorem dJ31_iterator_8 : decode cJ31_iterator 8 = .ok (.areturn, 1) := dk_176 (dk_at dksJ31_iterator_0 8 rfl rfl)
abbrev cJ31_size : ByteArray := prog_56_method_37_code
def yJ31_size : MethodName := ⟨RJ31, "size", "()I"⟩
def dkwJ31_size_0 : List UInt8 := [42, 180, 0, 20, 42, 180, 0, 24, 42, 180, 0, 3, 190, 184, 0, 127, 172]
abbrev dktJ31_size_0 : List UInt8 := dkwJ31_size_0 ++ []
theorem dksJ31_size_0 : cJ31_size.data.toList.drop 0 = dktJ31_size_0 := by decide +kernel
theorem dJ31_size_0 : decode cJ31_size 0 = .ok (.aload_n 0, 1) := dk_42 (dk_at dksJ31_size_0 0 rfl rfl)
theorem dJ31_size_1 : decode cJ31_size 1 = .ok (.getfield 20, 3) := dk_180 0 20 (dk_at dksJ31_size_0 1 rfl rfl)
theorem dJ31_size_4 : decode cJ31_size 4 = .ok (.aload_n 0, 1) := dk_42 (dk_at dksJ31_size_0 4 rfl rfl)
theorem dJ31_size_5 : decode cJ31_size 5 = .ok (.getfield 24, 3) := dk_180 0 24 (dk_at dksJ31_size_0 5 rfl rfl)
theorem dJ31_size_8 : decode cJ31_size 8 = .ok (.aload_n 0, 1) := dk_42 (dk_at dksJ31_size_0 8 rfl rfl)
theorem dJ31_size_9 : decode cJ31_size 9 = .ok (.getfield 3, 3) := dk_180 0 3 (dk_at dksJ31_size_0 9 rfl rfl)
theorem dJ31_size_12 : decode cJ31_size 12 = .ok (.arraylength, 1) := dk_190 (dk_at dksJ31_size_0 12 rfl rfl)
theorem dJ31_size_13 : decode cJ31_size 13 = .ok (.invokestatic 127, 3) := dk_184 0 127 (dk_at dksJ31_size_0 13 rfl rfl)
theorem dJ31_size_16 : decode cJ31_size 16 = .ok (.ireturn, 1) := dk_172 (dk_at dksJ31_size_0 16 rfl rfl)
abbrev cJ31_sub : ByteArray := prog_56_method_9_code
def yJ31_sub : MethodName := ⟨RJ31, "sub", "(III)I"⟩
def dkwJ31_sub_0 : List UInt8 := [26, 27, 100, 89, 59, 156, 0, 7, 26, 28, 96, 59, 26, 172]
abbrev dktJ31_sub_0 : List UInt8 := dkwJ31_sub_0 ++ []
theorem dksJ31_sub_0 : cJ31_sub.data.toList.drop 0 = dktJ31_sub_0 := by decide +kernel
theorem dJ31_sub_0 : decode cJ31_sub 0 = .ok (.iload_n 0, 1) := dk_26 (dk_at dksJ31_sub_0 0 rfl rfl)
theorem dJ31_sub_1 : decode cJ31_sub 1 = .ok (.iload_n 1, 1) := dk_27 (dk_at dksJ31_sub_0 1 rfl rfl)
theorem dJ31_sub_2 : decode cJ31_sub 2 = .ok (.isub, 1) := dk_100 (dk_at dksJ31_sub_0 2 rfl rfl)
theorem dJ31_sub_3 : decode cJ31_sub 3 = .ok (.dup, 1) := dk_89 (dk_at dksJ31_sub_0 3 rfl rfl)
theorem dJ31_sub_4 : decode cJ31_sub 4 = .ok (.istore_n 0, 1) := dk_59 (dk_at dksJ31_sub_0 4 rfl rfl)
theorem dJ31_sub_5 : decode cJ31_sub 5 = .ok (.ifCond .ge 7, 3) := dk_156 0 7 (dk_at dksJ31_sub_0 5 rfl rfl)
theorem dJ31_sub_8 : decode cJ31_sub 8 = .ok (.iload_n 0, 1) := dk_26 (dk_at dksJ31_sub_0 8 rfl rfl)
theorem dJ31_sub_9 : decode cJ31_sub 9 = .ok (.iload_n 2, 1) := dk_28 (dk_at dksJ31_sub_0 9 rfl rfl)
theorem dJ31_sub_10 : decode cJ31_sub 10 = .ok (.iadd, 1) := dk_96 (dk_at dksJ31_sub_0 10 rfl rfl)
theorem dJ31_sub_11 : decode cJ31_sub 11 = .ok (.istore_n 0, 1) := dk_59 (dk_at dksJ31_sub_0 11 rfl rfl)
theorem dJ31_sub_12 : decode cJ31_sub 12 = .ok (.iload_n 0, 1) := dk_26 (dk_at dksJ31_sub_0 12 rfl rfl)
theorem dJ31_sub_13 : decode cJ31_sub 13 = .ok (.ireturn, 1) := dk_172 (dk_at dksJ31_sub_0 13 rfl rfl)
abbrev cJ31_addLast : ByteArray := prog_56_method_13_code
def yJ31_addLast : MethodName := ⟨RJ31, "addLast", "(Ljava/lang/Object;)V"⟩
def dkwJ31_addLast_2 : List UInt8 := [182, 0, 71, 177]
abbrev dktJ31_addLast_2 : List UInt8 := dkwJ31_addLast_2 ++ []
def dkwJ31_addLast_1 : List UInt8 := [42, 180, 0, 24, 42, 42, 180, 0, 20, 44, 190, 184, 0, 74, 90, 181, 0, 20, 160, 0, 8, 42, 4]
abbrev dktJ31_addLast_1 : List UInt8 := dkwJ31_addLast_1 ++ dktJ31_addLast_2
def dkwJ31_addLast_0 : List UInt8 := [43, 199, 0, 11, 187, 0, 65, 89, 183, 0, 67, 191, 42, 180, 0, 3, 77, 44, 42, 180, 0, 20, 43, 83]
abbrev dktJ31_addLast_0 : List UInt8 := dkwJ31_addLast_0 ++ dktJ31_addLast_1
theorem dksJ31_addLast_0 : cJ31_addLast.data.toList.drop 0 = dktJ31_addLast_0 := by decide +kernel
theorem dksJ31_addLast_1 : cJ31_addLast.data.toList.drop 24 = dktJ31_addLast_1 := dk_seg dksJ31_addLast_0 24 rfl rfl
theorem dksJ31_addLast_2 : cJ31_addLast.data.toList.drop 47 = dktJ31_addLast_2 := dk_seg dksJ31_addLast_1 23 rfl rfl
theorem dJ31_addLast_0 : decode cJ31_addLast 0 = .ok (.aload_n 1, 1) := dk_43 (dk_at dksJ31_addLast_0 0 rfl rfl)
theorem dJ31_addLast_1 : decode cJ31_addLast 1 = .ok (.ifnonnull 11, 3) := dk_199 0 11 (dk_at dksJ31_addLast_0 1 rfl rfl)
theorem dJ31_addLast_4 : decode cJ31_addLast 4 = .ok (.new 65, 3) := dk_187 0 65 (dk_at dksJ31_addLast_0 4 rfl rfl)
theorem dJ31_addLast_7 : decode cJ31_addLast 7 = .ok (.dup, 1) := dk_89 (dk_at dksJ31_addLast_0 7 rfl rfl)
theorem dJ31_addLast_8 : decode cJ31_addLast 8 = .ok (.invokespecial 67, 3) := dk_183 0 67 (dk_at dksJ31_addLast_0 8 rfl rfl)
theorem dJ31_addLast_11 : decode cJ31_addLast 11 = .ok (.athrow, 1) := dk_191 (dk_at dksJ31_addLast_0 11 rfl rfl)
theorem dJ31_addLast_12 : decode cJ31_addLast 12 = .ok (.aload_n 0, 1) := dk_42 (dk_at dksJ31_addLast_0 12 rfl rfl)
theorem dJ31_addLast_13 : decode cJ31_addLast 13 = .ok (.getfield 3, 3) := dk_180 0 3 (dk_at dksJ31_addLast_0 13 rfl rfl)
theorem dJ31_addLast_16 : decode cJ31_addLast 16 = .ok (.astore_n 2, 1) := dk_77 (dk_at dksJ31_addLast_0 16 rfl rfl)
theorem dJ31_addLast_17 : decode cJ31_addLast 17 = .ok (.aload_n 2, 1) := dk_44 (dk_at dksJ31_addLast_0 17 rfl rfl)
theorem dJ31_addLast_18 : decode cJ31_addLast 18 = .ok (.aload_n 0, 1) := dk_42 (dk_at dksJ31_addLast_0 18 rfl rfl)
theorem dJ31_addLast_19 : decode cJ31_addLast 19 = .ok (.getfield 20, 3) := dk_180 0 20 (dk_at dksJ31_addLast_0 19 rfl rfl)
theorem dJ31_addLast_22 : decode cJ31_addLast 22 = .ok (.aload_n 1, 1) := dk_43 (dk_at dksJ31_addLast_0 22 rfl rfl)
theorem dJ31_addLast_23 : decode cJ31_addLast 23 = .ok (.aastore, 1) := dk_83 (dk_at dksJ31_addLast_0 23 rfl rfl)
theorem dJ31_addLast_24 : decode cJ31_addLast 24 = .ok (.aload_n 0, 1) := dk_42 (dk_at dksJ31_addLast_1 0 rfl rfl)
theorem dJ31_addLast_25 : decode cJ31_addLast 25 = .ok (.getfield 24, 3) := dk_180 0 24 (dk_at dksJ31_addLast_1 1 rfl rfl)
theorem dJ31_addLast_28 : decode cJ31_addLast 28 = .ok (.aload_n 0, 1) := dk_42 (dk_at dksJ31_addLast_1 4 rfl rfl)
theorem dJ31_addLast_29 : decode cJ31_addLast 29 = .ok (.aload_n 0, 1) := dk_42 (dk_at dksJ31_addLast_1 5 rfl rfl)
theorem dJ31_addLast_30 : decode cJ31_addLast 30 = .ok (.getfield 20, 3) := dk_180 0 20 (dk_at dksJ31_addLast_1 6 rfl rfl)
theorem dJ31_addLast_33 : decode cJ31_addLast 33 = .ok (.aload_n 2, 1) := dk_44 (dk_at dksJ31_addLast_1 9 rfl rfl)
theorem dJ31_addLast_34 : decode cJ31_addLast 34 = .ok (.arraylength, 1) := dk_190 (dk_at dksJ31_addLast_1 10 rfl rfl)
theorem dJ31_addLast_35 : decode cJ31_addLast 35 = .ok (.invokestatic 74, 3) := dk_184 0 74 (dk_at dksJ31_addLast_1 11 rfl rfl)
theorem dJ31_addLast_38 : decode cJ31_addLast 38 = .ok (.dup_x1, 1) := dk_90 (dk_at dksJ31_addLast_1 14 rfl rfl)
theorem dJ31_addLast_39 : decode cJ31_addLast 39 = .ok (.putfield 20, 3) := dk_181 0 20 (dk_at dksJ31_addLast_1 15 rfl rfl)
theorem dJ31_addLast_42 : decode cJ31_addLast 42 = .ok (.if_icmp .ne 8, 3) := dk_160 0 8 (dk_at dksJ31_addLast_1 18 rfl rfl)
theorem dJ31_addLast_45 : decode cJ31_addLast 45 = .ok (.aload_n 0, 1) := dk_42 (dk_at dksJ31_addLast_1 21 rfl rfl)
theorem dJ31_addLast_46 : decode cJ31_addLast 46 = .ok (.iconst 1, 1) := dk_4 (dk_at dksJ31_addLast_1 22 rfl rfl)
theorem dJ31_addLast_47 : decode cJ31_addLast 47 = .ok (.invokevirtual 71, 3) := dk_182 0 71 (dk_at dksJ31_addLast_2 0 rfl rfl)
theorem dJ31_addLast_50 : decode cJ31_addLast 50 = .ok (.return_, 1) := dk_177 (dk_at dksJ31_addLast_2 3 rfl rfl)
abbrev cJ31_grow : ByteArray := prog_56_method_1_code
def yJ31_grow : MethodName := ⟨RJ31, "grow", "(I)V"⟩
def dkwJ31_grow_7 : List UInt8 := [177]
abbrev dktJ31_grow_7 : List UInt8 := dkwJ31_grow_7 ++ []
def dkwJ31_grow_6 : List UInt8 := [181, 0, 24, 54, 8, 21, 7, 21, 8, 162, 0, 15, 25, 5, 21, 7, 1, 83, 132, 7, 1, 167, 255, 240]
abbrev dktJ31_grow_6 : List UInt8 := dkwJ31_grow_6 ++ dktJ31_grow_7
def dkwJ31_grow_5 : List UInt8 := [42, 180, 0, 24, 100, 184, 0, 27, 42, 180, 0, 24, 54, 7, 42, 89, 180, 0, 24, 21, 6, 96, 90]
abbrev dktJ31_grow_5 : List UInt8 := dkwJ31_grow_5 ++ dktJ31_grow_6
def dkwJ31_grow_4 : List UInt8 := [198, 0, 71, 29, 28, 100, 54, 6, 25, 5, 42, 180, 0, 24, 25, 5, 42, 180, 0, 24, 21, 6, 96, 28]
abbrev dktJ31_grow_4 : List UInt8 := dkwJ31_grow_4 ++ dktJ31_grow_5
def dkwJ31_grow_3 : List UInt8 := [180, 0, 24, 161, 0, 24, 42, 180, 0, 20, 42, 180, 0, 24, 160, 0, 81, 25, 5, 42, 180, 0, 24, 50]
abbrev dktJ31_grow_3 : List UInt8 := dkwJ31_grow_3 ++ dktJ31_grow_4
def dkwJ31_grow_2 : List UInt8 := [182, 0, 10, 62, 42, 42, 180, 0, 3, 29, 184, 0, 14, 90, 181, 0, 3, 58, 5, 42, 180, 0, 20, 42]
abbrev dktJ31_grow_2 : List UInt8 := dkwJ31_grow_2 ++ dktJ31_grow_3
def dkwJ31_grow_1 : List UInt8 := [21, 4, 27, 161, 0, 15, 28, 21, 4, 96, 89, 62, 18, 9, 100, 158, 0, 11, 42, 27, 21, 4]
abbrev dktJ31_grow_1 : List UInt8 := dkwJ31_grow_1 ++ dktJ31_grow_2
def dkwJ31_grow_0 : List UInt8 := [42, 180, 0, 3, 190, 61, 28, 16, 64, 162, 0, 9, 28, 5, 96, 167, 0, 6, 28, 4, 122, 54, 4]
abbrev dktJ31_grow_0 : List UInt8 := dkwJ31_grow_0 ++ dktJ31_grow_1
theorem dksJ31_grow_0 : cJ31_grow.data.toList.drop 0 = dktJ31_grow_0 := by decide +kernel
theorem dksJ31_grow_1 : cJ31_grow.data.toList.drop 23 = dktJ31_grow_1 := dk_seg dksJ31_grow_0 23 rfl rfl
theorem dksJ31_grow_2 : cJ31_grow.data.toList.drop 45 = dktJ31_grow_2 := dk_seg dksJ31_grow_1 22 rfl rfl
theorem dksJ31_grow_3 : cJ31_grow.data.toList.drop 69 = dktJ31_grow_3 := dk_seg dksJ31_grow_2 24 rfl rfl
theorem dksJ31_grow_4 : cJ31_grow.data.toList.drop 93 = dktJ31_grow_4 := dk_seg dksJ31_grow_3 24 rfl rfl
theorem dksJ31_grow_5 : cJ31_grow.data.toList.drop 117 = dktJ31_grow_5 := dk_seg dksJ31_grow_4 24 rfl rfl
theorem dksJ31_grow_6 : cJ31_grow.data.toList.drop 140 = dktJ31_grow_6 := dk_seg dksJ31_grow_5 23 rfl rfl
theorem dksJ31_grow_7 : cJ31_grow.data.toList.drop 164 = dktJ31_grow_7 := dk_seg dksJ31_grow_6 24 rfl rfl
theorem dJ31_grow_0 : decode cJ31_grow 0 = .ok (.aload_n 0, 1) := dk_42 (dk_at dksJ31_grow_0 0 rfl rfl)
theorem dJ31_grow_1 : decode cJ31_grow 1 = .ok (.getfield 3, 3) := dk_180 0 3 (dk_at dksJ31_grow_0 1 rfl rfl)
theorem dJ31_grow_4 : decode cJ31_grow 4 = .ok (.arraylength, 1) := dk_190 (dk_at dksJ31_grow_0 4 rfl rfl)
theorem dJ31_grow_5 : decode cJ31_grow 5 = .ok (.istore_n 2, 1) := dk_61 (dk_at dksJ31_grow_0 5 rfl rfl)
theorem dJ31_grow_6 : decode cJ31_grow 6 = .ok (.iload_n 2, 1) := dk_28 (dk_at dksJ31_grow_0 6 rfl rfl)
theorem dJ31_grow_7 : decode cJ31_grow 7 = .ok (.bipush 64, 2) := dk_16 64 (dk_at dksJ31_grow_0 7 rfl rfl)
theorem dJ31_grow_9 : decode cJ31_grow 9 = .ok (.if_icmp .ge 9, 3) := dk_162 0 9 (dk_at dksJ31_grow_0 9 rfl rfl)
theorem dJ31_grow_12 : decode cJ31_grow 12 = .ok (.iload_n 2, 1) := dk_28 (dk_at dksJ31_grow_0 12 rfl rfl)
theorem dJ31_grow_13 : decode cJ31_grow 13 = .ok (.iconst 2, 1) := dk_5 (dk_at dksJ31_grow_0 13 rfl rfl)
theorem dJ31_grow_14 : decode cJ31_grow 14 = .ok (.iadd, 1) := dk_96 (dk_at dksJ31_grow_0 14 rfl rfl)
theorem dJ31_grow_15 : decode cJ31_grow 15 = .ok (.goto 6, 3) := dk_167 0 6 (dk_at dksJ31_grow_0 15 rfl rfl)
theorem dJ31_grow_18 : decode cJ31_grow 18 = .ok (.iload_n 2, 1) := dk_28 (dk_at dksJ31_grow_0 18 rfl rfl)
theorem dJ31_grow_19 : decode cJ31_grow 19 = .ok (.iconst 1, 1) := dk_4 (dk_at dksJ31_grow_0 19 rfl rfl)
theorem dJ31_grow_20 : decode cJ31_grow 20 = .ok (.ishr, 1) := dk_122 (dk_at dksJ31_grow_0 20 rfl rfl)
theorem dJ31_grow_21 : decode cJ31_grow 21 = .ok (.istore 4, 2) := dk_54 4 (dk_at dksJ31_grow_0 21 rfl rfl)
theorem dJ31_grow_23 : decode cJ31_grow 23 = .ok (.iload 4, 2) := dk_21 4 (dk_at dksJ31_grow_1 0 rfl rfl)
theorem dJ31_grow_25 : decode cJ31_grow 25 = .ok (.iload_n 1, 1) := dk_27 (dk_at dksJ31_grow_1 2 rfl rfl)
theorem dJ31_grow_26 : decode cJ31_grow 26 = .ok (.if_icmp .lt 15, 3) := dk_161 0 15 (dk_at dksJ31_grow_1 3 rfl rfl)
theorem dJ31_grow_29 : decode cJ31_grow 29 = .ok (.iload_n 2, 1) := dk_28 (dk_at dksJ31_grow_1 6 rfl rfl)
theorem dJ31_grow_30 : decode cJ31_grow 30 = .ok (.iload 4, 2) := dk_21 4 (dk_at dksJ31_grow_1 7 rfl rfl)
theorem dJ31_grow_32 : decode cJ31_grow 32 = .ok (.iadd, 1) := dk_96 (dk_at dksJ31_grow_1 9 rfl rfl)
theorem dJ31_grow_33 : decode cJ31_grow 33 = .ok (.dup, 1) := dk_89 (dk_at dksJ31_grow_1 10 rfl rfl)
theorem dJ31_grow_34 : decode cJ31_grow 34 = .ok (.istore_n 3, 1) := dk_62 (dk_at dksJ31_grow_1 11 rfl rfl)
theorem dJ31_grow_35 : decode cJ31_grow 35 = .ok (.ldc 9, 2) := dk_18 9 (dk_at dksJ31_grow_1 12 rfl rfl)
theorem dJ31_grow_37 : decode cJ31_grow 37 = .ok (.isub, 1) := dk_100 (dk_at dksJ31_grow_1 14 rfl rfl)
theorem dJ31_grow_38 : decode cJ31_grow 38 = .ok (.ifCond .le 11, 3) := dk_158 0 11 (dk_at dksJ31_grow_1 15 rfl rfl)
theorem dJ31_grow_41 : decode cJ31_grow 41 = .ok (.aload_n 0, 1) := dk_42 (dk_at dksJ31_grow_1 18 rfl rfl)
theorem dJ31_grow_42 : decode cJ31_grow 42 = .ok (.iload_n 1, 1) := dk_27 (dk_at dksJ31_grow_1 19 rfl rfl)
theorem dJ31_grow_43 : decode cJ31_grow 43 = .ok (.iload 4, 2) := dk_21 4 (dk_at dksJ31_grow_1 20 rfl rfl)
theorem dJ31_grow_45 : decode cJ31_grow 45 = .ok (.invokevirtual 10, 3) := dk_182 0 10 (dk_at dksJ31_grow_2 0 rfl rfl)
theorem dJ31_grow_48 : decode cJ31_grow 48 = .ok (.istore_n 3, 1) := dk_62 (dk_at dksJ31_grow_2 3 rfl rfl)
theorem dJ31_grow_49 : decode cJ31_grow 49 = .ok (.aload_n 0, 1) := dk_42 (dk_at dksJ31_grow_2 4 rfl rfl)
theorem dJ31_grow_50 : decode cJ31_grow 50 = .ok (.aload_n 0, 1) := dk_42 (dk_at dksJ31_grow_2 5 rfl rfl)
theorem dJ31_grow_51 : decode cJ31_grow 51 = .ok (.getfield 3, 3) := dk_180 0 3 (dk_at dksJ31_grow_2 6 rfl rfl)
theorem dJ31_grow_54 : decode cJ31_grow 54 = .ok (.iload_n 3, 1) := dk_29 (dk_at dksJ31_grow_2 9 rfl rfl)
theorem dJ31_grow_55 : decode cJ31_grow 55 = .ok (.invokestatic 14, 3) := dk_184 0 14 (dk_at dksJ31_grow_2 10 rfl rfl)
theorem dJ31_grow_58 : decode cJ31_grow 58 = .ok (.dup_x1, 1) := dk_90 (dk_at dksJ31_grow_2 13 rfl rfl)
theorem dJ31_grow_59 : decode cJ31_grow 59 = .ok (.putfield 3, 3) := dk_181 0 3 (dk_at dksJ31_grow_2 14 rfl rfl)
theorem dJ31_grow_62 : decode cJ31_grow 62 = .ok (.astore 5, 2) := dk_58 5 (dk_at dksJ31_grow_2 17 rfl rfl)
theorem dJ31_grow_64 : decode cJ31_grow 64 = .ok (.aload_n 0, 1) := dk_42 (dk_at dksJ31_grow_2 19 rfl rfl)
theorem dJ31_grow_65 : decode cJ31_grow 65 = .ok (.getfield 20, 3) := dk_180 0 20 (dk_at dksJ31_grow_2 20 rfl rfl)
theorem dJ31_grow_68 : decode cJ31_grow 68 = .ok (.aload_n 0, 1) := dk_42 (dk_at dksJ31_grow_2 23 rfl rfl)
theorem dJ31_grow_69 : decode cJ31_grow 69 = .ok (.getfield 24, 3) := dk_180 0 24 (dk_at dksJ31_grow_3 0 rfl rfl)
theorem dJ31_grow_72 : decode cJ31_grow 72 = .ok (.if_icmp .lt 24, 3) := dk_161 0 24 (dk_at dksJ31_grow_3 3 rfl rfl)
theorem dJ31_grow_75 : decode cJ31_grow 75 = .ok (.aload_n 0, 1) := dk_42 (dk_at dksJ31_grow_3 6 rfl rfl)
theorem dJ31_grow_76 : decode cJ31_grow 76 = .ok (.getfield 20, 3) := dk_180 0 20 (dk_at dksJ31_grow_3 7 rfl rfl)
theorem dJ31_grow_79 : decode cJ31_grow 79 = .ok (.aload_n 0, 1) := dk_42 (dk_at dksJ31_grow_3 10 rfl rfl)
theorem dJ31_grow_80 : decode cJ31_grow 80 = .ok (.getfield 24, 3) := dk_180 0 24 (dk_at dksJ31_grow_3 11 rfl rfl)
theorem dJ31_grow_83 : decode cJ31_grow 83 = .ok (.if_icmp .ne 81, 3) := dk_160 0 81 (dk_at dksJ31_grow_3 14 rfl rfl)
theorem dJ31_grow_86 : decode cJ31_grow 86 = .ok (.aload 5, 2) := dk_25 5 (dk_at dksJ31_grow_3 17 rfl rfl)
theorem dJ31_grow_88 : decode cJ31_grow 88 = .ok (.aload_n 0, 1) := dk_42 (dk_at dksJ31_grow_3 19 rfl rfl)
theorem dJ31_grow_89 : decode cJ31_grow 89 = .ok (.getfield 24, 3) := dk_180 0 24 (dk_at dksJ31_grow_3 20 rfl rfl)
theorem dJ31_grow_92 : decode cJ31_grow 92 = .ok (.aaload, 1) := dk_50 (dk_at dksJ31_grow_3 23 rfl rfl)
theorem dJ31_grow_93 : decode cJ31_grow 93 = .ok (.ifnull 71, 3) := dk_198 0 71 (dk_at dksJ31_grow_4 0 rfl rfl)
theorem dJ31_grow_96 : decode cJ31_grow 96 = .ok (.iload_n 3, 1) := dk_29 (dk_at dksJ31_grow_4 3 rfl rfl)
theorem dJ31_grow_97 : decode cJ31_grow 97 = .ok (.iload_n 2, 1) := dk_28 (dk_at dksJ31_grow_4 4 rfl rfl)
theorem dJ31_grow_98 : decode cJ31_grow 98 = .ok (.isub, 1) := dk_100 (dk_at dksJ31_grow_4 5 rfl rfl)
theorem dJ31_grow_99 : decode cJ31_grow 99 = .ok (.istore 6, 2) := dk_54 6 (dk_at dksJ31_grow_4 6 rfl rfl)
theorem dJ31_grow_101 : decode cJ31_grow 101 = .ok (.aload 5, 2) := dk_25 5 (dk_at dksJ31_grow_4 8 rfl rfl)
theorem dJ31_grow_103 : decode cJ31_grow 103 = .ok (.aload_n 0, 1) := dk_42 (dk_at dksJ31_grow_4 10 rfl rfl)
theorem dJ31_grow_104 : decode cJ31_grow 104 = .ok (.getfield 24, 3) := dk_180 0 24 (dk_at dksJ31_grow_4 11 rfl rfl)
theorem dJ31_grow_107 : decode cJ31_grow 107 = .ok (.aload 5, 2) := dk_25 5 (dk_at dksJ31_grow_4 14 rfl rfl)
theorem dJ31_grow_109 : decode cJ31_grow 109 = .ok (.aload_n 0, 1) := dk_42 (dk_at dksJ31_grow_4 16 rfl rfl)
theorem dJ31_grow_110 : decode cJ31_grow 110 = .ok (.getfield 24, 3) := dk_180 0 24 (dk_at dksJ31_grow_4 17 rfl rfl)
theorem dJ31_grow_113 : decode cJ31_grow 113 = .ok (.iload 6, 2) := dk_21 6 (dk_at dksJ31_grow_4 20 rfl rfl)
theorem dJ31_grow_115 : decode cJ31_grow 115 = .ok (.iadd, 1) := dk_96 (dk_at dksJ31_grow_4 22 rfl rfl)
theorem dJ31_grow_116 : decode cJ31_grow 116 = .ok (.iload_n 2, 1) := dk_28 (dk_at dksJ31_grow_4 23 rfl rfl)
theorem dJ31_grow_117 : decode cJ31_grow 117 = .ok (.aload_n 0, 1) := dk_42 (dk_at dksJ31_grow_5 0 rfl rfl)
theorem dJ31_grow_118 : decode cJ31_grow 118 = .ok (.getfield 24, 3) := dk_180 0 24 (dk_at dksJ31_grow_5 1 rfl rfl)
theorem dJ31_grow_121 : decode cJ31_grow 121 = .ok (.isub, 1) := dk_100 (dk_at dksJ31_grow_5 4 rfl rfl)
theorem dJ31_grow_122 : decode cJ31_grow 122 = .ok (.invokestatic 27, 3) := dk_184 0 27 (dk_at dksJ31_grow_5 5 rfl rfl)
theorem dJ31_grow_125 : decode cJ31_grow 125 = .ok (.aload_n 0, 1) := dk_42 (dk_at dksJ31_grow_5 8 rfl rfl)
theorem dJ31_grow_126 : decode cJ31_grow 126 = .ok (.getfield 24, 3) := dk_180 0 24 (dk_at dksJ31_grow_5 9 rfl rfl)
theorem dJ31_grow_129 : decode cJ31_grow 129 = .ok (.istore 7, 2) := dk_54 7 (dk_at dksJ31_grow_5 12 rfl rfl)
theorem dJ31_grow_131 : decode cJ31_grow 131 = .ok (.aload_n 0, 1) := dk_42 (dk_at dksJ31_grow_5 14 rfl rfl)
theorem dJ31_grow_132 : decode cJ31_grow 132 = .ok (.dup, 1) := dk_89 (dk_at dksJ31_grow_5 15 rfl rfl)
theorem dJ31_grow_133 : decode cJ31_grow 133 = .ok (.getfield 24, 3) := dk_180 0 24 (dk_at dksJ31_grow_5 16 rfl rfl)
theorem dJ31_grow_136 : decode cJ31_grow 136 = .ok (.iload 6, 2) := dk_21 6 (dk_at dksJ31_grow_5 19 rfl rfl)
theorem dJ31_grow_138 : decode cJ31_grow 138 = .ok (.iadd, 1) := dk_96 (dk_at dksJ31_grow_5 21 rfl rfl)
theorem dJ31_grow_139 : decode cJ31_grow 139 = .ok (.dup_x1, 1) := dk_90 (dk_at dksJ31_grow_5 22 rfl rfl)
theorem dJ31_grow_140 : decode cJ31_grow 140 = .ok (.putfield 24, 3) := dk_181 0 24 (dk_at dksJ31_grow_6 0 rfl rfl)
theorem dJ31_grow_143 : decode cJ31_grow 143 = .ok (.istore 8, 2) := dk_54 8 (dk_at dksJ31_grow_6 3 rfl rfl)
theorem dJ31_grow_145 : decode cJ31_grow 145 = .ok (.iload 7, 2) := dk_21 7 (dk_at dksJ31_grow_6 5 rfl rfl)
theorem dJ31_grow_147 : decode cJ31_grow 147 = .ok (.iload 8, 2) := dk_21 8 (dk_at dksJ31_grow_6 7 rfl rfl)
theorem dJ31_grow_149 : decode cJ31_grow 149 = .ok (.if_icmp .ge 15, 3) := dk_162 0 15 (dk_at dksJ31_grow_6 9 rfl rfl)
theorem dJ31_grow_152 : decode cJ31_grow 152 = .ok (.aload 5, 2) := dk_25 5 (dk_at dksJ31_grow_6 12 rfl rfl)
theorem dJ31_grow_154 : decode cJ31_grow 154 = .ok (.iload 7, 2) := dk_21 7 (dk_at dksJ31_grow_6 14 rfl rfl)
theorem dJ31_grow_156 : decode cJ31_grow 156 = .ok (.aconst_null, 1) := dk_1 (dk_at dksJ31_grow_6 16 rfl rfl)
theorem dJ31_grow_157 : decode cJ31_grow 157 = .ok (.aastore, 1) := dk_83 (dk_at dksJ31_grow_6 17 rfl rfl)
theorem dJ31_grow_158 : decode cJ31_grow 158 = .ok (.iinc 7 1, 3) := dk_132 7 1 (dk_at dksJ31_grow_6 18 rfl rfl)
theorem dJ31_grow_161 : decode cJ31_grow 161 = .ok (.goto (-16), 3) := dk_167 255 240 (dk_at dksJ31_grow_6 21 rfl rfl)
theorem dJ31_grow_164 : decode cJ31_grow 164 = .ok (.return_, 1) := dk_177 (dk_at dksJ31_grow_7 0 rfl rfl)
abbrev cJ31_newCapacity : ByteArray := prog_56_method_2_code
def yJ31_newCapacity : MethodName := ⟨RJ31, "newCapacity", "(II)I"⟩
def dkwJ31_newCapacity_2 : List UInt8 := [18, 9, 100, 156, 0, 9, 29, 28, 96, 167, 0, 5, 18, 9, 172]
abbrev dktJ31_newCapacity_2 : List UInt8 := dkwJ31_newCapacity_2 ++ []
def dkwJ31_newCapacity_1 : List UInt8 := [187, 0, 33, 89, 18, 35, 183, 0, 37, 191, 18, 41, 172, 27, 28, 164, 0, 6, 21, 4, 172, 29, 28, 96]
abbrev dktJ31_newCapacity_1 : List UInt8 := dkwJ31_newCapacity_1 ++ dktJ31_newCapacity_2
def dkwJ31_newCapacity_0 : List UInt8 := [42, 180, 0, 3, 190, 62, 29, 27, 96, 89, 54, 4, 18, 9, 100, 158, 0, 21, 21, 4, 156, 0, 13]
abbrev dktJ31_newCapacity_0 : List UInt8 := dkwJ31_newCapacity_0 ++ dktJ31_newCapacity_1
theorem dksJ31_newCapacity_0 : cJ31_newCapacity.data.toList.drop 0 = dktJ31_newCapacity_0 := by decide +kernel
theorem dksJ31_newCapacity_1 : cJ31_newCapacity.data.toList.drop 23 = dktJ31_newCapacity_1 := dk_seg dksJ31_newCapacity_0 23 rfl rfl
theorem dksJ31_newCapacity_2 : cJ31_newCapacity.data.toList.drop 47 = dktJ31_newCapacity_2 := dk_seg dksJ31_newCapacity_1 24 rfl rfl
theorem dJ31_newCapacity_0 : decode cJ31_newCapacity 0 = .ok (.aload_n 0, 1) := dk_42 (dk_at dksJ31_newCapacity_0 0 rfl rfl)
theorem dJ31_newCapacity_1 : decode cJ31_newCapacity 1 = .ok (.getfield 3, 3) := dk_180 0 3 (dk_at dksJ31_newCapacity_0 1 rfl rfl)
theorem dJ31_newCapacity_4 : decode cJ31_newCapacity 4 = .ok (.arraylength, 1) := dk_190 (dk_at dksJ31_newCapacity_0 4 rfl rfl)
theorem dJ31_newCapacity_5 : decode cJ31_newCapacity 5 = .ok (.istore_n 3, 1) := dk_62 (dk_at dksJ31_newCapacity_0 5 rfl rfl)
theorem dJ31_newCapacity_6 : decode cJ31_newCapacity 6 = .ok (.iload_n 3, 1) := dk_29 (dk_at dksJ31_newCapacity_0 6 rfl rfl)
theorem dJ31_newCapacity_7 : decode cJ31_newCapacity 7 = .ok (.iload_n 1, 1) := dk_27 (dk_at dksJ31_newCapacity_0 7 rfl rfl)
theorem dJ31_newCapacity_8 : decode cJ31_newCapacity 8 = .ok (.iadd, 1) := dk_96 (dk_at dksJ31_newCapacity_0 8 rfl rfl)
theorem dJ31_newCapacity_9 : decode cJ31_newCapacity 9 = .ok (.dup, 1) := dk_89 (dk_at dksJ31_newCapacity_0 9 rfl rfl)
theorem dJ31_newCapacity_10 : decode cJ31_newCapacity 10 = .ok (.istore 4, 2) := dk_54 4 (dk_at dksJ31_newCapacity_0 10 rfl rfl)
theorem dJ31_newCapacity_12 : decode cJ31_newCapacity 12 = .ok (.ldc 9, 2) := dk_18 9 (dk_at dksJ31_newCapacity_0 12 rfl rfl)
theorem dJ31_newCapacity_14 : decode cJ31_newCapacity 14 = .ok (.isub, 1) := dk_100 (dk_at dksJ31_newCapacity_0 14 rfl rfl)
theorem dJ31_newCapacity_15 : decode cJ31_newCapacity 15 = .ok (.ifCond .le 21, 3) := dk_158 0 21 (dk_at dksJ31_newCapacity_0 15 rfl rfl)
theorem dJ31_newCapacity_18 : decode cJ31_newCapacity 18 = .ok (.iload 4, 2) := dk_21 4 (dk_at dksJ31_newCapacity_0 18 rfl rfl)
theorem dJ31_newCapacity_20 : decode cJ31_newCapacity 20 = .ok (.ifCond .ge 13, 3) := dk_156 0 13 (dk_at dksJ31_newCapacity_0 20 rfl rfl)
theorem dJ31_newCapacity_23 : decode cJ31_newCapacity 23 = .ok (.new 33, 3) := dk_187 0 33 (dk_at dksJ31_newCapacity_1 0 rfl rfl)
theorem dJ31_newCapacity_26 : decode cJ31_newCapacity 26 = .ok (.dup, 1) := dk_89 (dk_at dksJ31_newCapacity_1 3 rfl rfl)
theorem dJ31_newCapacity_27 : decode cJ31_newCapacity 27 = .ok (.ldc 35, 2) := dk_18 35 (dk_at dksJ31_newCapacity_1 4 rfl rfl)
theorem dJ31_newCapacity_29 : decode cJ31_newCapacity 29 = .ok (.invokespecial 37, 3) := dk_183 0 37 (dk_at dksJ31_newCapacity_1 6 rfl rfl)
theorem dJ31_newCapacity_32 : decode cJ31_newCapacity 32 = .ok (.athrow, 1) := dk_191 (dk_at dksJ31_newCapacity_1 9 rfl rfl)
theorem dJ31_newCapacity_33 : decode cJ31_newCapacity 33 = .ok (.ldc 41, 2) := dk_18 41 (dk_at dksJ31_newCapacity_1 10 rfl rfl)
theorem dJ31_newCapacity_35 : decode cJ31_newCapacity 35 = .ok (.ireturn, 1) := dk_172 (dk_at dksJ31_newCapacity_1 12 rfl rfl)
theorem dJ31_newCapacity_36 : decode cJ31_newCapacity 36 = .ok (.iload_n 1, 1) := dk_27 (dk_at dksJ31_newCapacity_1 13 rfl rfl)
theorem dJ31_newCapacity_37 : decode cJ31_newCapacity 37 = .ok (.iload_n 2, 1) := dk_28 (dk_at dksJ31_newCapacity_1 14 rfl rfl)
theorem dJ31_newCapacity_38 : decode cJ31_newCapacity 38 = .ok (.if_icmp .le 6, 3) := dk_164 0 6 (dk_at dksJ31_newCapacity_1 15 rfl rfl)
theorem dJ31_newCapacity_41 : decode cJ31_newCapacity 41 = .ok (.iload 4, 2) := dk_21 4 (dk_at dksJ31_newCapacity_1 18 rfl rfl)
theorem dJ31_newCapacity_43 : decode cJ31_newCapacity 43 = .ok (.ireturn, 1) := dk_172 (dk_at dksJ31_newCapacity_1 20 rfl rfl)
theorem dJ31_newCapacity_44 : decode cJ31_newCapacity 44 = .ok (.iload_n 3, 1) := dk_29 (dk_at dksJ31_newCapacity_1 21 rfl rfl)
theorem dJ31_newCapacity_45 : decode cJ31_newCapacity 45 = .ok (.iload_n 2, 1) := dk_28 (dk_at dksJ31_newCapacity_1 22 rfl rfl)
theorem dJ31_newCapacity_46 : decode cJ31_newCapacity 46 = .ok (.iadd, 1) := dk_96 (dk_at dksJ31_newCapacity_1 23 rfl rfl)
theorem dJ31_newCapacity_47 : decode cJ31_newCapacity 47 = .ok (.ldc 9, 2) := dk_18 9 (dk_at dksJ31_newCapacity_2 0 rfl rfl)
theorem dJ31_newCapacity_49 : decode cJ31_newCapacity 49 = .ok (.isub, 1) := dk_100 (dk_at dksJ31_newCapacity_2 2 rfl rfl)
theorem dJ31_newCapacity_50 : decode cJ31_newCapacity 50 = .ok (.ifCond .ge 9, 3) := dk_156 0 9 (dk_at dksJ31_newCapacity_2 3 rfl rfl)
theorem dJ31_newCapacity_53 : decode cJ31_newCapacity 53 = .ok (.iload_n 3, 1) := dk_29 (dk_at dksJ31_newCapacity_2 6 rfl rfl)
theorem dJ31_newCapacity_54 : decode cJ31_newCapacity 54 = .ok (.iload_n 2, 1) := dk_28 (dk_at dksJ31_newCapacity_2 7 rfl rfl)
theorem dJ31_newCapacity_55 : decode cJ31_newCapacity 55 = .ok (.iadd, 1) := dk_96 (dk_at dksJ31_newCapacity_2 8 rfl rfl)
theorem dJ31_newCapacity_56 : decode cJ31_newCapacity 56 = .ok (.goto 5, 3) := dk_167 0 5 (dk_at dksJ31_newCapacity_2 9 rfl rfl)
theorem dJ31_newCapacity_59 : decode cJ31_newCapacity 59 = .ok (.ldc 9, 2) := dk_18 9 (dk_at dksJ31_newCapacity_2 12 rfl rfl)
theorem dJ31_newCapacity_61 : decode cJ31_newCapacity 61 = .ok (.ireturn, 1) := dk_172 (dk_at dksJ31_newCapacity_2 14 rfl rfl)
abbrev cJ31_removeFirst : ByteArray := prog_56_method_18_code
def yJ31_removeFirst : MethodName := ⟨RJ31, "removeFirst", "()Ljava/lang/Object;"⟩
def dkwJ31_removeFirst_0 : List UInt8 := [42, 182, 0, 93, 76, 43, 199, 0, 11, 187, 0, 97, 89, 183, 0, 99, 191, 43, 176]
abbrev dktJ31_removeFirst_0 : List UInt8 := dkwJ31_removeFirst_0 ++ []
theorem dksJ31_removeFirst_0 : cJ31_removeFirst.data.toList.drop 0 = dktJ31_removeFirst_0 := by decide +kernel
theorem dJ31_removeFirst_0 : decode cJ31_removeFirst 0 = .ok (.aload_n 0, 1) := dk_42 (dk_at dksJ31_removeFirst_0 0 rfl rfl)
theorem dJ31_removeFirst_1 : decode cJ31_removeFirst 1 = .ok (.invokevirtual 93, 3) := dk_182 0 93 (dk_at dksJ31_removeFirst_0 1 rfl rfl)
theorem dJ31_removeFirst_4 : decode cJ31_removeFirst 4 = .ok (.astore_n 1, 1) := dk_76 (dk_at dksJ31_removeFirst_0 4 rfl rfl)
theorem dJ31_removeFirst_5 : decode cJ31_removeFirst 5 = .ok (.aload_n 1, 1) := dk_43 (dk_at dksJ31_removeFirst_0 5 rfl rfl)
theorem dJ31_removeFirst_6 : decode cJ31_removeFirst 6 = .ok (.ifnonnull 11, 3) := dk_199 0 11 (dk_at dksJ31_removeFirst_0 6 rfl rfl)
theorem dJ31_removeFirst_9 : decode cJ31_removeFirst 9 = .ok (.new 97, 3) := dk_187 0 97 (dk_at dksJ31_removeFirst_0 9 rfl rfl)
theorem dJ31_removeFirst_12 : decode cJ31_removeFirst 12 = .ok (.dup, 1) := dk_89 (dk_at dksJ31_removeFirst_0 12 rfl rfl)
theorem dJ31_removeFirst_13 : decode cJ31_removeFirst 13 = .ok (.invokespecial 99, 3) := dk_183 0 99 (dk_at dksJ31_removeFirst_0 13 rfl rfl)
theorem dJ31_removeFirst_16 : decode cJ31_removeFirst 16 = .ok (.athrow, 1) := dk_191 (dk_at dksJ31_removeFirst_0 16 rfl rfl)
theorem dJ31_removeFirst_17 : decode cJ31_removeFirst 17 = .ok (.aload_n 1, 1) := dk_43 (dk_at dksJ31_removeFirst_0 17 rfl rfl)
theorem dJ31_removeFirst_18 : decode cJ31_removeFirst 18 = .ok (.areturn, 1) := dk_176 (dk_at dksJ31_removeFirst_0 18 rfl rfl)
abbrev cJ31_pollFirst : ByteArray := prog_56_method_20_code
def yJ31_pollFirst : MethodName := ⟨RJ31, "pollFirst", "()Ljava/lang/Object;"⟩
def dkwJ31_pollFirst_1 : List UInt8 := [42, 28, 43, 190, 184, 0, 74, 181, 0, 24, 45, 176]
abbrev dktJ31_pollFirst_1 : List UInt8 := dkwJ31_pollFirst_1 ++ []
def dkwJ31_pollFirst_0 : List UInt8 := [42, 180, 0, 3, 89, 76, 42, 180, 0, 24, 89, 61, 184, 0, 103, 78, 45, 198, 0, 17, 43, 28, 1, 83]
abbrev dktJ31_pollFirst_0 : List UInt8 := dkwJ31_pollFirst_0 ++ dktJ31_pollFirst_1
theorem dksJ31_pollFirst_0 : cJ31_pollFirst.data.toList.drop 0 = dktJ31_pollFirst_0 := by decide +kernel
theorem dksJ31_pollFirst_1 : cJ31_pollFirst.data.toList.drop 24 = dktJ31_pollFirst_1 := dk_seg dksJ31_pollFirst_0 24 rfl rfl
theorem dJ31_pollFirst_0 : decode cJ31_pollFirst 0 = .ok (.aload_n 0, 1) := dk_42 (dk_at dksJ31_pollFirst_0 0 rfl rfl)
theorem dJ31_pollFirst_1 : decode cJ31_pollFirst 1 = .ok (.getfield 3, 3) := dk_180 0 3 (dk_at dksJ31_pollFirst_0 1 rfl rfl)
theorem dJ31_pollFirst_4 : decode cJ31_pollFirst 4 = .ok (.dup, 1) := dk_89 (dk_at dksJ31_pollFirst_0 4 rfl rfl)
theorem dJ31_pollFirst_5 : decode cJ31_pollFirst 5 = .ok (.astore_n 1, 1) := dk_76 (dk_at dksJ31_pollFirst_0 5 rfl rfl)
theorem dJ31_pollFirst_6 : decode cJ31_pollFirst 6 = .ok (.aload_n 0, 1) := dk_42 (dk_at dksJ31_pollFirst_0 6 rfl rfl)
theorem dJ31_pollFirst_7 : decode cJ31_pollFirst 7 = .ok (.getfield 24, 3) := dk_180 0 24 (dk_at dksJ31_pollFirst_0 7 rfl rfl)
theorem dJ31_pollFirst_10 : decode cJ31_pollFirst 10 = .ok (.dup, 1) := dk_89 (dk_at dksJ31_pollFirst_0 10 rfl rfl)
theorem dJ31_pollFirst_11 : decode cJ31_pollFirst 11 = .ok (.istore_n 2, 1) := dk_61 (dk_at dksJ31_pollFirst_0 11 rfl rfl)
theorem dJ31_pollFirst_12 : decode cJ31_pollFirst 12 = .ok (.invokestatic 103, 3) := dk_184 0 103 (dk_at dksJ31_pollFirst_0 12 rfl rfl)
theorem dJ31_pollFirst_15 : decode cJ31_pollFirst 15 = .ok (.astore_n 3, 1) := dk_78 (dk_at dksJ31_pollFirst_0 15 rfl rfl)
theorem dJ31_pollFirst_16 : decode cJ31_pollFirst 16 = .ok (.aload_n 3, 1) := dk_45 (dk_at dksJ31_pollFirst_0 16 rfl rfl)
theorem dJ31_pollFirst_17 : decode cJ31_pollFirst 17 = .ok (.ifnull 17, 3) := dk_198 0 17 (dk_at dksJ31_pollFirst_0 17 rfl rfl)
theorem dJ31_pollFirst_20 : decode cJ31_pollFirst 20 = .ok (.aload_n 1, 1) := dk_43 (dk_at dksJ31_pollFirst_0 20 rfl rfl)
theorem dJ31_pollFirst_21 : decode cJ31_pollFirst 21 = .ok (.iload_n 2, 1) := dk_28 (dk_at dksJ31_pollFirst_0 21 rfl rfl)
theorem dJ31_pollFirst_22 : decode cJ31_pollFirst 22 = .ok (.aconst_null, 1) := dk_1 (dk_at dksJ31_pollFirst_0 22 rfl rfl)
theorem dJ31_pollFirst_23 : decode cJ31_pollFirst 23 = .ok (.aastore, 1) := dk_83 (dk_at dksJ31_pollFirst_0 23 rfl rfl)
theorem dJ31_pollFirst_24 : decode cJ31_pollFirst 24 = .ok (.aload_n 0, 1) := dk_42 (dk_at dksJ31_pollFirst_1 0 rfl rfl)
theorem dJ31_pollFirst_25 : decode cJ31_pollFirst 25 = .ok (.iload_n 2, 1) := dk_28 (dk_at dksJ31_pollFirst_1 1 rfl rfl)
theorem dJ31_pollFirst_26 : decode cJ31_pollFirst 26 = .ok (.aload_n 1, 1) := dk_43 (dk_at dksJ31_pollFirst_1 2 rfl rfl)
theorem dJ31_pollFirst_27 : decode cJ31_pollFirst 27 = .ok (.arraylength, 1) := dk_190 (dk_at dksJ31_pollFirst_1 3 rfl rfl)
theorem dJ31_pollFirst_28 : decode cJ31_pollFirst 28 = .ok (.invokestatic 74, 3) := dk_184 0 74 (dk_at dksJ31_pollFirst_1 4 rfl rfl)
theorem dJ31_pollFirst_31 : decode cJ31_pollFirst 31 = .ok (.putfield 24, 3) := dk_181 0 24 (dk_at dksJ31_pollFirst_1 7 rfl rfl)
theorem dJ31_pollFirst_34 : decode cJ31_pollFirst 34 = .ok (.aload_n 3, 1) := dk_45 (dk_at dksJ31_pollFirst_1 10 rfl rfl)
theorem dJ31_pollFirst_35 : decode cJ31_pollFirst 35 = .ok (.areturn, 1) := dk_176 (dk_at dksJ31_pollFirst_1 11 rfl rfl)
abbrev cJ31_elementAt : ByteArray := prog_56_method_10_code
def yJ31_elementAt : MethodName := ⟨RJ31, "elementAt", "([Ljava/lang/Object;I)Ljava/lang/Object;"⟩
def dkwJ31_elementAt_0 : List UInt8 := [42, 27, 50, 176]
abbrev dktJ31_elementAt_0 : List UInt8 := dkwJ31_elementAt_0 ++ []
theorem dksJ31_elementAt_0 : cJ31_elementAt.data.toList.drop 0 = dktJ31_elementAt_0 := by decide +kernel
theorem dJ31_elementAt_0 : decode cJ31_elementAt 0 = .ok (.aload_n 0, 1) := dk_42 (dk_at dksJ31_elementAt_0 0 rfl rfl)
theorem dJ31_elementAt_1 : decode cJ31_elementAt 1 = .ok (.iload_n 1, 1) := dk_27 (dk_at dksJ31_elementAt_0 1 rfl rfl)
theorem dJ31_elementAt_2 : decode cJ31_elementAt 2 = .ok (.aaload, 1) := dk_50 (dk_at dksJ31_elementAt_0 2 rfl rfl)
theorem dJ31_elementAt_3 : decode cJ31_elementAt 3 = .ok (.areturn, 1) := dk_176 (dk_at dksJ31_elementAt_0 3 rfl rfl)
abbrev cJ31_isEmpty : ByteArray := prog_56_method_38_code
def yJ31_isEmpty : MethodName := ⟨RJ31, "isEmpty", "()Z"⟩
def dkwJ31_isEmpty_0 : List UInt8 := [42, 180, 0, 24, 42, 180, 0, 20, 160, 0, 7, 4, 167, 0, 4, 3, 172]
abbrev dktJ31_isEmpty_0 : List UInt8 := dkwJ31_isEmpty_0 ++ []
theorem dksJ31_isEmpty_0 : cJ31_isEmpty.data.toList.drop 0 = dktJ31_isEmpty_0 := by decide +kernel
theorem dJ31_isEmpty_0 : decode cJ31_isEmpty 0 = .ok (.aload_n 0, 1) := dk_42 (dk_at dksJ31_isEmpty_0 0 rfl rfl)
theorem dJ31_isEmpty_1 : decode cJ31_isEmpty 1 = .ok (.getfield 24, 3) := dk_180 0 24 (dk_at dksJ31_isEmpty_0 1 rfl rfl)
theorem dJ31_isEmpty_4 : decode cJ31_isEmpty 4 = .ok (.aload_n 0, 1) := dk_42 (dk_at dksJ31_isEmpty_0 4 rfl rfl)
theorem dJ31_isEmpty_5 : decode cJ31_isEmpty 5 = .ok (.getfield 20, 3) := dk_180 0 20 (dk_at dksJ31_isEmpty_0 5 rfl rfl)
theorem dJ31_isEmpty_8 : decode cJ31_isEmpty 8 = .ok (.if_icmp .ne 7, 3) := dk_160 0 7 (dk_at dksJ31_isEmpty_0 8 rfl rfl)
theorem dJ31_isEmpty_11 : decode cJ31_isEmpty 11 = .ok (.iconst 1, 1) := dk_4 (dk_at dksJ31_isEmpty_0 11 rfl rfl)
theorem dJ31_isEmpty_12 : decode cJ31_isEmpty 12 = .ok (.goto 4, 3) := dk_167 0 4 (dk_at dksJ31_isEmpty_0 12 rfl rfl)
theorem dJ31_isEmpty_15 : decode cJ31_isEmpty 15 = .ok (.iconst 0, 1) := dk_3 (dk_at dksJ31_isEmpty_0 15 rfl rfl)
theorem dJ31_isEmpty_16 : decode cJ31_isEmpty 16 = .ok (.ireturn, 1) := dk_172 (dk_at dksJ31_isEmpty_0 16 rfl rfl)
abbrev cJ31_removeLast : ByteArray := prog_56_method_19_code
def yJ31_removeLast : MethodName := ⟨RJ31, "removeLast", "()Ljava/lang/Object;"⟩
def dkwJ31_removeLast_0 : List UInt8 := [42, 182, 0, 100, 76, 43, 199, 0, 11, 187, 0, 97, 89, 183, 0, 99, 191, 43, 176]
abbrev dktJ31_removeLast_0 : List UInt8 := dkwJ31_removeLast_0 ++ []
theorem dksJ31_removeLast_0 : cJ31_removeLast.data.toList.drop 0 = dktJ31_removeLast_0 := by decide +kernel
theorem dJ31_removeLast_0 : decode cJ31_removeLast 0 = .ok (.aload_n 0, 1) := dk_42 (dk_at dksJ31_removeLast_0 0 rfl rfl)
theorem dJ31_removeLast_1 : decode cJ31_removeLast 1 = .ok (.invokevirtual 100, 3) := dk_182 0 100 (dk_at dksJ31_removeLast_0 1 rfl rfl)
theorem dJ31_removeLast_4 : decode cJ31_removeLast 4 = .ok (.astore_n 1, 1) := dk_76 (dk_at dksJ31_removeLast_0 4 rfl rfl)
theorem dJ31_removeLast_5 : decode cJ31_removeLast 5 = .ok (.aload_n 1, 1) := dk_43 (dk_at dksJ31_removeLast_0 5 rfl rfl)
theorem dJ31_removeLast_6 : decode cJ31_removeLast 6 = .ok (.ifnonnull 11, 3) := dk_199 0 11 (dk_at dksJ31_removeLast_0 6 rfl rfl)
theorem dJ31_removeLast_9 : decode cJ31_removeLast 9 = .ok (.new 97, 3) := dk_187 0 97 (dk_at dksJ31_removeLast_0 9 rfl rfl)
theorem dJ31_removeLast_12 : decode cJ31_removeLast 12 = .ok (.dup, 1) := dk_89 (dk_at dksJ31_removeLast_0 12 rfl rfl)
theorem dJ31_removeLast_13 : decode cJ31_removeLast 13 = .ok (.invokespecial 99, 3) := dk_183 0 99 (dk_at dksJ31_removeLast_0 13 rfl rfl)
theorem dJ31_removeLast_16 : decode cJ31_removeLast 16 = .ok (.athrow, 1) := dk_191 (dk_at dksJ31_removeLast_0 16 rfl rfl)
theorem dJ31_removeLast_17 : decode cJ31_removeLast 17 = .ok (.aload_n 1, 1) := dk_43 (dk_at dksJ31_removeLast_0 17 rfl rfl)
theorem dJ31_removeLast_18 : decode cJ31_removeLast 18 = .ok (.areturn, 1) := dk_176 (dk_at dksJ31_removeLast_0 18 rfl rfl)
abbrev cJ31_pollLast : ByteArray := prog_56_method_21_code
def yJ31_pollLast : MethodName := ⟨RJ31, "pollLast", "()Ljava/lang/Object;"⟩
def dkwJ31_pollLast_1 : List UInt8 := [198, 0, 12, 43, 42, 28, 90, 181, 0, 20, 1, 83, 45, 176]
abbrev dktJ31_pollLast_1 : List UInt8 := dkwJ31_pollLast_1 ++ []
def dkwJ31_pollLast_0 : List UInt8 := [42, 180, 0, 3, 89, 76, 42, 180, 0, 20, 43, 190, 184, 0, 68, 89, 61, 184, 0, 103, 78, 45]
abbrev dktJ31_pollLast_0 : List UInt8 := dkwJ31_pollLast_0 ++ dktJ31_pollLast_1
theorem dksJ31_pollLast_0 : cJ31_pollLast.data.toList.drop 0 = dktJ31_pollLast_0 := by decide +kernel
theorem dksJ31_pollLast_1 : cJ31_pollLast.data.toList.drop 22 = dktJ31_pollLast_1 := dk_seg dksJ31_pollLast_0 22 rfl rfl
theorem dJ31_pollLast_0 : decode cJ31_pollLast 0 = .ok (.aload_n 0, 1) := dk_42 (dk_at dksJ31_pollLast_0 0 rfl rfl)
theorem dJ31_pollLast_1 : decode cJ31_pollLast 1 = .ok (.getfield 3, 3) := dk_180 0 3 (dk_at dksJ31_pollLast_0 1 rfl rfl)
theorem dJ31_pollLast_4 : decode cJ31_pollLast 4 = .ok (.dup, 1) := dk_89 (dk_at dksJ31_pollLast_0 4 rfl rfl)
theorem dJ31_pollLast_5 : decode cJ31_pollLast 5 = .ok (.astore_n 1, 1) := dk_76 (dk_at dksJ31_pollLast_0 5 rfl rfl)
theorem dJ31_pollLast_6 : decode cJ31_pollLast 6 = .ok (.aload_n 0, 1) := dk_42 (dk_at dksJ31_pollLast_0 6 rfl rfl)
theorem dJ31_pollLast_7 : decode cJ31_pollLast 7 = .ok (.getfield 20, 3) := dk_180 0 20 (dk_at dksJ31_pollLast_0 7 rfl rfl)
theorem dJ31_pollLast_10 : decode cJ31_pollLast 10 = .ok (.aload_n 1, 1) := dk_43 (dk_at dksJ31_pollLast_0 10 rfl rfl)
theorem dJ31_pollLast_11 : decode cJ31_pollLast 11 = .ok (.arraylength, 1) := dk_190 (dk_at dksJ31_pollLast_0 11 rfl rfl)
theorem dJ31_pollLast_12 : decode cJ31_pollLast 12 = .ok (.invokestatic 68, 3) := dk_184 0 68 (dk_at dksJ31_pollLast_0 12 rfl rfl)
theorem dJ31_pollLast_15 : decode cJ31_pollLast 15 = .ok (.dup, 1) := dk_89 (dk_at dksJ31_pollLast_0 15 rfl rfl)
theorem dJ31_pollLast_16 : decode cJ31_pollLast 16 = .ok (.istore_n 2, 1) := dk_61 (dk_at dksJ31_pollLast_0 16 rfl rfl)
theorem dJ31_pollLast_17 : decode cJ31_pollLast 17 = .ok (.invokestatic 103, 3) := dk_184 0 103 (dk_at dksJ31_pollLast_0 17 rfl rfl)
theorem dJ31_pollLast_20 : decode cJ31_pollLast 20 = .ok (.astore_n 3, 1) := dk_78 (dk_at dksJ31_pollLast_0 20 rfl rfl)
theorem dJ31_pollLast_21 : decode cJ31_pollLast 21 = .ok (.aload_n 3, 1) := dk_45 (dk_at dksJ31_pollLast_0 21 rfl rfl)
theorem dJ31_pollLast_22 : decode cJ31_pollLast 22 = .ok (.ifnull 12, 3) := dk_198 0 12 (dk_at dksJ31_pollLast_1 0 rfl rfl)
theorem dJ31_pollLast_25 : decode cJ31_pollLast 25 = .ok (.aload_n 1, 1) := dk_43 (dk_at dksJ31_pollLast_1 3 rfl rfl)
theorem dJ31_pollLast_26 : decode cJ31_pollLast 26 = .ok (.aload_n 0, 1) := dk_42 (dk_at dksJ31_pollLast_1 4 rfl rfl)
theorem dJ31_pollLast_27 : decode cJ31_pollLast 27 = .ok (.iload_n 2, 1) := dk_28 (dk_at dksJ31_pollLast_1 5 rfl rfl)
theorem dJ31_pollLast_28 : decode cJ31_pollLast 28 = .ok (.dup_x1, 1) := dk_90 (dk_at dksJ31_pollLast_1 6 rfl rfl)
theorem dJ31_pollLast_29 : decode cJ31_pollLast 29 = .ok (.putfield 20, 3) := dk_181 0 20 (dk_at dksJ31_pollLast_1 7 rfl rfl)
theorem dJ31_pollLast_32 : decode cJ31_pollLast 32 = .ok (.aconst_null, 1) := dk_1 (dk_at dksJ31_pollLast_1 10 rfl rfl)
theorem dJ31_pollLast_33 : decode cJ31_pollLast 33 = .ok (.aastore, 1) := dk_83 (dk_at dksJ31_pollLast_1 11 rfl rfl)
theorem dJ31_pollLast_34 : decode cJ31_pollLast 34 = .ok (.aload_n 3, 1) := dk_45 (dk_at dksJ31_pollLast_1 12 rfl rfl)
theorem dJ31_pollLast_35 : decode cJ31_pollLast 35 = .ok (.areturn, 1) := dk_176 (dk_at dksJ31_pollLast_1 13 rfl rfl)
abbrev cJ31_dec : ByteArray := prog_56_method_7_code
def yJ31_dec : MethodName := ⟨RJ31, "dec", "(II)I"⟩
def dkwJ31_dec_0 : List UInt8 := [132, 0, 255, 26, 156, 0, 7, 27, 4, 100, 59, 26, 172]
abbrev dktJ31_dec_0 : List UInt8 := dkwJ31_dec_0 ++ []
theorem dksJ31_dec_0 : cJ31_dec.data.toList.drop 0 = dktJ31_dec_0 := by decide +kernel
theorem dJ31_dec_0 : decode cJ31_dec 0 = .ok (.iinc 0 (-1), 3) := dk_132 0 255 (dk_at dksJ31_dec_0 0 rfl rfl)
theorem dJ31_dec_3 : decode cJ31_dec 3 = .ok (.iload_n 0, 1) := dk_26 (dk_at dksJ31_dec_0 3 rfl rfl)
theorem dJ31_dec_4 : decode cJ31_dec 4 = .ok (.ifCond .ge 7, 3) := dk_156 0 7 (dk_at dksJ31_dec_0 4 rfl rfl)
theorem dJ31_dec_7 : decode cJ31_dec 7 = .ok (.iload_n 1, 1) := dk_27 (dk_at dksJ31_dec_0 7 rfl rfl)
theorem dJ31_dec_8 : decode cJ31_dec 8 = .ok (.iconst 1, 1) := dk_4 (dk_at dksJ31_dec_0 8 rfl rfl)
theorem dJ31_dec_9 : decode cJ31_dec 9 = .ok (.isub, 1) := dk_100 (dk_at dksJ31_dec_0 9 rfl rfl)
theorem dJ31_dec_10 : decode cJ31_dec 10 = .ok (.istore_n 0, 1) := dk_59 (dk_at dksJ31_dec_0 10 rfl rfl)
theorem dJ31_dec_11 : decode cJ31_dec 11 = .ok (.iload_n 0, 1) := dk_26 (dk_at dksJ31_dec_0 11 rfl rfl)
theorem dJ31_dec_12 : decode cJ31_dec 12 = .ok (.ireturn, 1) := dk_172 (dk_at dksJ31_dec_0 12 rfl rfl)
abbrev cJ31_getFirst : ByteArray := prog_56_method_22_code
def yJ31_getFirst : MethodName := ⟨RJ31, "getFirst", "()Ljava/lang/Object;"⟩
def dkwJ31_getFirst_1 : List UInt8 := [43, 176]
abbrev dktJ31_getFirst_1 : List UInt8 := dkwJ31_getFirst_1 ++ []
def dkwJ31_getFirst_0 : List UInt8 := [42, 180, 0, 3, 42, 180, 0, 24, 184, 0, 103, 76, 43, 199, 0, 11, 187, 0, 97, 89, 183, 0, 99, 191]
abbrev dktJ31_getFirst_0 : List UInt8 := dkwJ31_getFirst_0 ++ dktJ31_getFirst_1
theorem dksJ31_getFirst_0 : cJ31_getFirst.data.toList.drop 0 = dktJ31_getFirst_0 := by decide +kernel
theorem dksJ31_getFirst_1 : cJ31_getFirst.data.toList.drop 24 = dktJ31_getFirst_1 := dk_seg dksJ31_getFirst_0 24 rfl rfl
theorem dJ31_getFirst_0 : decode cJ31_getFirst 0 = .ok (.aload_n 0, 1) := dk_42 (dk_at dksJ31_getFirst_0 0 rfl rfl)
theorem dJ31_getFirst_1 : decode cJ31_getFirst 1 = .ok (.getfield 3, 3) := dk_180 0 3 (dk_at dksJ31_getFirst_0 1 rfl rfl)
theorem dJ31_getFirst_4 : decode cJ31_getFirst 4 = .ok (.aload_n 0, 1) := dk_42 (dk_at dksJ31_getFirst_0 4 rfl rfl)
theorem dJ31_getFirst_5 : decode cJ31_getFirst 5 = .ok (.getfield 24, 3) := dk_180 0 24 (dk_at dksJ31_getFirst_0 5 rfl rfl)
theorem dJ31_getFirst_8 : decode cJ31_getFirst 8 = .ok (.invokestatic 103, 3) := dk_184 0 103 (dk_at dksJ31_getFirst_0 8 rfl rfl)
theorem dJ31_getFirst_11 : decode cJ31_getFirst 11 = .ok (.astore_n 1, 1) := dk_76 (dk_at dksJ31_getFirst_0 11 rfl rfl)
theorem dJ31_getFirst_12 : decode cJ31_getFirst 12 = .ok (.aload_n 1, 1) := dk_43 (dk_at dksJ31_getFirst_0 12 rfl rfl)
theorem dJ31_getFirst_13 : decode cJ31_getFirst 13 = .ok (.ifnonnull 11, 3) := dk_199 0 11 (dk_at dksJ31_getFirst_0 13 rfl rfl)
theorem dJ31_getFirst_16 : decode cJ31_getFirst 16 = .ok (.new 97, 3) := dk_187 0 97 (dk_at dksJ31_getFirst_0 16 rfl rfl)
theorem dJ31_getFirst_19 : decode cJ31_getFirst 19 = .ok (.dup, 1) := dk_89 (dk_at dksJ31_getFirst_0 19 rfl rfl)
theorem dJ31_getFirst_20 : decode cJ31_getFirst 20 = .ok (.invokespecial 99, 3) := dk_183 0 99 (dk_at dksJ31_getFirst_0 20 rfl rfl)
theorem dJ31_getFirst_23 : decode cJ31_getFirst 23 = .ok (.athrow, 1) := dk_191 (dk_at dksJ31_getFirst_0 23 rfl rfl)
theorem dJ31_getFirst_24 : decode cJ31_getFirst 24 = .ok (.aload_n 1, 1) := dk_43 (dk_at dksJ31_getFirst_1 0 rfl rfl)
theorem dJ31_getFirst_25 : decode cJ31_getFirst 25 = .ok (.areturn, 1) := dk_176 (dk_at dksJ31_getFirst_1 1 rfl rfl)
abbrev cJ31_clear : ByteArray := prog_56_method_53_code
def yJ31_clear : MethodName := ⟨RJ31, "clear", "()V"⟩
def dkwJ31_clear_1 : List UInt8 := [181, 0, 24, 177]
abbrev dktJ31_clear_1 : List UInt8 := dkwJ31_clear_1 ++ []
def dkwJ31_clear_0 : List UInt8 := [42, 180, 0, 3, 42, 180, 0, 24, 42, 180, 0, 20, 184, 0, 181, 42, 42, 3, 90, 181, 0, 20]
abbrev dktJ31_clear_0 : List UInt8 := dkwJ31_clear_0 ++ dktJ31_clear_1
theorem dksJ31_clear_0 : cJ31_clear.data.toList.drop 0 = dktJ31_clear_0 := by decide +kernel
theorem dksJ31_clear_1 : cJ31_clear.data.toList.drop 22 = dktJ31_clear_1 := dk_seg dksJ31_clear_0 22 rfl rfl
theorem dJ31_clear_0 : decode cJ31_clear 0 = .ok (.aload_n 0, 1) := dk_42 (dk_at dksJ31_clear_0 0 rfl rfl)
theorem dJ31_clear_1 : decode cJ31_clear 1 = .ok (.getfield 3, 3) := dk_180 0 3 (dk_at dksJ31_clear_0 1 rfl rfl)
theorem dJ31_clear_4 : decode cJ31_clear 4 = .ok (.aload_n 0, 1) := dk_42 (dk_at dksJ31_clear_0 4 rfl rfl)
theorem dJ31_clear_5 : decode cJ31_clear 5 = .ok (.getfield 24, 3) := dk_180 0 24 (dk_at dksJ31_clear_0 5 rfl rfl)
theorem dJ31_clear_8 : decode cJ31_clear 8 = .ok (.aload_n 0, 1) := dk_42 (dk_at dksJ31_clear_0 8 rfl rfl)
theorem dJ31_clear_9 : decode cJ31_clear 9 = .ok (.getfield 20, 3) := dk_180 0 20 (dk_at dksJ31_clear_0 9 rfl rfl)
theorem dJ31_clear_12 : decode cJ31_clear 12 = .ok (.invokestatic 181, 3) := dk_184 0 181 (dk_at dksJ31_clear_0 12 rfl rfl)
theorem dJ31_clear_15 : decode cJ31_clear 15 = .ok (.aload_n 0, 1) := dk_42 (dk_at dksJ31_clear_0 15 rfl rfl)
theorem dJ31_clear_16 : decode cJ31_clear 16 = .ok (.aload_n 0, 1) := dk_42 (dk_at dksJ31_clear_0 16 rfl rfl)
theorem dJ31_clear_17 : decode cJ31_clear 17 = .ok (.iconst 0, 1) := dk_3 (dk_at dksJ31_clear_0 17 rfl rfl)
theorem dJ31_clear_18 : decode cJ31_clear 18 = .ok (.dup_x1, 1) := dk_90 (dk_at dksJ31_clear_0 18 rfl rfl)
theorem dJ31_clear_19 : decode cJ31_clear 19 = .ok (.putfield 20, 3) := dk_181 0 20 (dk_at dksJ31_clear_0 19 rfl rfl)
theorem dJ31_clear_22 : decode cJ31_clear 22 = .ok (.putfield 24, 3) := dk_181 0 24 (dk_at dksJ31_clear_1 0 rfl rfl)
theorem dJ31_clear_25 : decode cJ31_clear 25 = .ok (.return_, 1) := dk_177 (dk_at dksJ31_clear_1 3 rfl rfl)
abbrev cJ31_circularClear : ByteArray := prog_56_method_54_code
def yJ31_circularClear : MethodName := ⟨RJ31, "circularClear", "([Ljava/lang/Object;II)V"⟩
def dkwJ31_circularClear_1 : List UInt8 := [167, 255, 244, 29, 28, 160, 0, 6, 167, 0, 10, 3, 60, 28, 62, 167, 255, 229, 177]
abbrev dktJ31_circularClear_1 : List UInt8 := dkwJ31_circularClear_1 ++ []
def dkwJ31_circularClear_0 : List UInt8 := [27, 28, 163, 0, 7, 28, 167, 0, 5, 42, 190, 62, 27, 29, 162, 0, 13, 42, 27, 1, 83, 132, 1, 1]
abbrev dktJ31_circularClear_0 : List UInt8 := dkwJ31_circularClear_0 ++ dktJ31_circularClear_1
theorem dksJ31_circularClear_0 : cJ31_circularClear.data.toList.drop 0 = dktJ31_circularClear_0 := by decide +kernel
theorem dksJ31_circularClear_1 : cJ31_circularClear.data.toList.drop 24 = dktJ31_circularClear_1 := dk_seg dksJ31_circularClear_0 24 rfl rfl
theorem dJ31_circularClear_0 : decode cJ31_circularClear 0 = .ok (.iload_n 1, 1) := dk_27 (dk_at dksJ31_circularClear_0 0 rfl rfl)
theorem dJ31_circularClear_1 : decode cJ31_circularClear 1 = .ok (.iload_n 2, 1) := dk_28 (dk_at dksJ31_circularClear_0 1 rfl rfl)
theorem dJ31_circularClear_2 : decode cJ31_circularClear 2 = .ok (.if_icmp .gt 7, 3) := dk_163 0 7 (dk_at dksJ31_circularClear_0 2 rfl rfl)
theorem dJ31_circularClear_5 : decode cJ31_circularClear 5 = .ok (.iload_n 2, 1) := dk_28 (dk_at dksJ31_circularClear_0 5 rfl rfl)
theorem dJ31_circularClear_6 : decode cJ31_circularClear 6 = .ok (.goto 5, 3) := dk_167 0 5 (dk_at dksJ31_circularClear_0 6 rfl rfl)
theorem dJ31_circularClear_9 : decode cJ31_circularClear 9 = .ok (.aload_n 0, 1) := dk_42 (dk_at dksJ31_circularClear_0 9 rfl rfl)
theorem dJ31_circularClear_10 : decode cJ31_circularClear 10 = .ok (.arraylength, 1) := dk_190 (dk_at dksJ31_circularClear_0 10 rfl rfl)
theorem dJ31_circularClear_11 : decode cJ31_circularClear 11 = .ok (.istore_n 3, 1) := dk_62 (dk_at dksJ31_circularClear_0 11 rfl rfl)
theorem dJ31_circularClear_12 : decode cJ31_circularClear 12 = .ok (.iload_n 1, 1) := dk_27 (dk_at dksJ31_circularClear_0 12 rfl rfl)
theorem dJ31_circularClear_13 : decode cJ31_circularClear 13 = .ok (.iload_n 3, 1) := dk_29 (dk_at dksJ31_circularClear_0 13 rfl rfl)
theorem dJ31_circularClear_14 : decode cJ31_circularClear 14 = .ok (.if_icmp .ge 13, 3) := dk_162 0 13 (dk_at dksJ31_circularClear_0 14 rfl rfl)
theorem dJ31_circularClear_17 : decode cJ31_circularClear 17 = .ok (.aload_n 0, 1) := dk_42 (dk_at dksJ31_circularClear_0 17 rfl rfl)
theorem dJ31_circularClear_18 : decode cJ31_circularClear 18 = .ok (.iload_n 1, 1) := dk_27 (dk_at dksJ31_circularClear_0 18 rfl rfl)
theorem dJ31_circularClear_19 : decode cJ31_circularClear 19 = .ok (.aconst_null, 1) := dk_1 (dk_at dksJ31_circularClear_0 19 rfl rfl)
theorem dJ31_circularClear_20 : decode cJ31_circularClear 20 = .ok (.aastore, 1) := dk_83 (dk_at dksJ31_circularClear_0 20 rfl rfl)
theorem dJ31_circularClear_21 : decode cJ31_circularClear 21 = .ok (.iinc 1 1, 3) := dk_132 1 1 (dk_at dksJ31_circularClear_0 21 rfl rfl)
theorem dJ31_circularClear_24 : decode cJ31_circularClear 24 = .ok (.goto (-12), 3) := dk_167 255 244 (dk_at dksJ31_circularClear_1 0 rfl rfl)
theorem dJ31_circularClear_27 : decode cJ31_circularClear 27 = .ok (.iload_n 3, 1) := dk_29 (dk_at dksJ31_circularClear_1 3 rfl rfl)
theorem dJ31_circularClear_28 : decode cJ31_circularClear 28 = .ok (.iload_n 2, 1) := dk_28 (dk_at dksJ31_circularClear_1 4 rfl rfl)
theorem dJ31_circularClear_29 : decode cJ31_circularClear 29 = .ok (.if_icmp .ne 6, 3) := dk_160 0 6 (dk_at dksJ31_circularClear_1 5 rfl rfl)
theorem dJ31_circularClear_32 : decode cJ31_circularClear 32 = .ok (.goto 10, 3) := dk_167 0 10 (dk_at dksJ31_circularClear_1 8 rfl rfl)
theorem dJ31_circularClear_35 : decode cJ31_circularClear 35 = .ok (.iconst 0, 1) := dk_3 (dk_at dksJ31_circularClear_1 11 rfl rfl)
theorem dJ31_circularClear_36 : decode cJ31_circularClear 36 = .ok (.istore_n 1, 1) := dk_60 (dk_at dksJ31_circularClear_1 12 rfl rfl)
theorem dJ31_circularClear_37 : decode cJ31_circularClear 37 = .ok (.iload_n 2, 1) := dk_28 (dk_at dksJ31_circularClear_1 13 rfl rfl)
theorem dJ31_circularClear_38 : decode cJ31_circularClear 38 = .ok (.istore_n 3, 1) := dk_62 (dk_at dksJ31_circularClear_1 14 rfl rfl)
theorem dJ31_circularClear_39 : decode cJ31_circularClear 39 = .ok (.goto (-27), 3) := dk_167 255 229 (dk_at dksJ31_circularClear_1 15 rfl rfl)
theorem dJ31_circularClear_42 : decode cJ31_circularClear 42 = .ok (.return_, 1) := dk_177 (dk_at dksJ31_circularClear_1 18 rfl rfl)
theorem q128 : (Jvm.Cond.initialized "java/util/ArrayDeque") ∈ lw_all := lw_g (lw_at lw_m1 35 rfl) rfl
theorem q905 : (Jvm.Cond.selects "java/util/ArrayDeque" ({ cls := "java/lang/Object", name := "getClass", desc := "()Ljava/lang/Class;" } : Jvm.MethodName) ({ cls := "java/lang/Object", name := "getClass", desc := "()Ljava/lang/Class;" } : Jvm.MethodName)) ∈ lw_all := lw_g (lw_at lw_m4 92 rfl) rfl
theorem q1119 : (Jvm.Cond.instantiable "java/util/ArrayDeque" (3 : Nat)) ∈ lw_all := lw_g (lw_at lw_m5 66 rfl) rfl
theorem q1121 : (Jvm.Cond.instanceMethod ({ cls := "java/util/ArrayDeque", name := "<init>", desc := "()V" } : Jvm.MethodName)) ∈ lw_all := lw_g (lw_at lw_m5 68 rfl) rfl
theorem q1122 : (Jvm.Cond.code ({ cls := "java/util/ArrayDeque", name := "<init>", desc := "()V" } : Jvm.MethodName) prog_56_method_3_code (1 : Nat) (Option.none : Option Jvm.ClassFile.FieldType)) ∈ lw_all := lw_g (lw_at lw_m5 69 rfl) rfl
theorem q1123 : (Jvm.Cond.methodLink "java/util/ArrayDeque" (42 : Nat) ({ cls := "java/util/AbstractCollection", name := "<init>", desc := "()V" } : Jvm.MethodName)) ∈ lw_all := lw_g (lw_at lw_m5 70 rfl) rfl
theorem q1124 : (Jvm.Cond.classLink "java/util/ArrayDeque" (47 : Nat) "java/lang/Object") ∈ lw_all := lw_g (lw_at lw_m5 71 rfl) rfl
theorem q1126 : (Jvm.Cond.fieldLink "java/util/ArrayDeque" (3 : Nat) "java/util/ArrayDeque" "elements" "[Ljava/lang/Object;") ∈ lw_all := lw_g (lw_at lw_m5 73 rfl) rfl
theorem q1129 : (Jvm.Cond.fieldLink "java/util/ArrayDeque" (24 : Nat) "java/util/ArrayDeque" "head" "I") ∈ lw_all := lw_g (lw_at lw_m5 76 rfl) rfl
theorem q1130 : (Jvm.Cond.fieldLink "java/util/ArrayDeque" (20 : Nat) "java/util/ArrayDeque" "tail" "I") ∈ lw_all := lw_g (lw_at lw_m5 77 rfl) rfl
theorem q1131 : (Jvm.Cond.lays "java/util/ArrayDeque" "java/util/ArrayDeque" "elements" "[Ljava/lang/Object;") ∈ lw_all := lw_g (lw_at lw_m5 78 rfl) rfl
theorem q1132 : (Jvm.Cond.soleField "java/util/ArrayDeque" "elements") ∈ lw_all := lw_g (lw_at lw_m5 79 rfl) rfl
theorem q1133 : (Jvm.Cond.lays "java/util/ArrayDeque" "java/util/ArrayDeque" "head" "I") ∈ lw_all := lw_g (lw_at lw_m5 80 rfl) rfl
theorem q1134 : (Jvm.Cond.soleField "java/util/ArrayDeque" "head") ∈ lw_all := lw_g (lw_at lw_m5 81 rfl) rfl
theorem q1135 : (Jvm.Cond.lays "java/util/ArrayDeque" "java/util/ArrayDeque" "tail" "I") ∈ lw_all := lw_g (lw_at lw_m5 82 rfl) rfl
theorem q1136 : (Jvm.Cond.soleField "java/util/ArrayDeque" "tail") ∈ lw_all := lw_g (lw_at lw_m5 83 rfl) rfl
theorem q1137 : (Jvm.Cond.superclass "java/util/ArrayDeque" "java/util/AbstractCollection") ∈ lw_all := lw_g (lw_at lw_m5 84 rfl) rfl
theorem q1566 : (Jvm.Cond.static ({ cls := "java/util/ArrayDeque", name := "nonNullElementAt", desc := "([Ljava/lang/Object;I)Ljava/lang/Object;" } : Jvm.MethodName)) ∈ lw_all := lw_g (lw_at lw_m7 33 rfl) rfl
theorem q1567 : (Jvm.Cond.code ({ cls := "java/util/ArrayDeque", name := "nonNullElementAt", desc := "([Ljava/lang/Object;I)Ljava/lang/Object;" } : Jvm.MethodName) prog_56_method_11_code (3 : Nat) (Option.some (Jvm.ClassFile.FieldType.object "java/lang/Object"))) ∈ lw_all := lw_g (lw_at lw_m7 34 rfl) rfl
theorem q1569 : (Jvm.Cond.static ({ cls := "java/util/ArrayDeque", name := "inc", desc := "(II)I" } : Jvm.MethodName)) ∈ lw_all := lw_g (lw_at lw_m7 36 rfl) rfl
theorem q1570 : (Jvm.Cond.code ({ cls := "java/util/ArrayDeque", name := "inc", desc := "(II)I" } : Jvm.MethodName) prog_56_method_6_code (2 : Nat) (Option.some Jvm.ClassFile.FieldType.int)) ∈ lw_all := lw_g (lw_at lw_m7 37 rfl) rfl
theorem q2189 : (Jvm.Cond.instanceMethod ({ cls := "java/util/ArrayDeque", name := "iterator", desc := "()Ljava/util/Iterator;" } : Jvm.MethodName)) ∈ lw_all := lw_g (lw_at lw_m9 176 rfl) rfl
theorem q2190 : (Jvm.Cond.selects "java/util/ArrayDeque" ({ cls := "java/util/ArrayDeque", name := "iterator", desc := "()Ljava/util/Iterator;" } : Jvm.MethodName) ({ cls := "java/util/ArrayDeque", name := "iterator", desc := "()Ljava/util/Iterator;" } : Jvm.MethodName)) ∈ lw_all := lw_g (lw_at lw_m9 177 rfl) rfl
theorem q2191 : (Jvm.Cond.code ({ cls := "java/util/ArrayDeque", name := "iterator", desc := "()Ljava/util/Iterator;" } : Jvm.MethodName) prog_56_method_39_code (1 : Nat) (Option.some (Jvm.ClassFile.FieldType.object "java/util/Iterator"))) ∈ lw_all := lw_g (lw_at lw_m9 178 rfl) rfl
theorem q2192 : (Jvm.Cond.classLink "java/util/ArrayDeque" (131 : Nat) "java/util/ArrayDeque$DeqIterator") ∈ lw_all := lw_g (lw_at lw_m9 179 rfl) rfl
theorem q2194 : (Jvm.Cond.methodLink "java/util/ArrayDeque" (133 : Nat) ({ cls := "java/util/ArrayDeque$DeqIterator", name := "<init>", desc := "(Ljava/util/ArrayDeque;)V" } : Jvm.MethodName)) ∈ lw_all := lw_g (lw_at lw_m9 181 rfl) rfl
theorem q2199 : (Jvm.Cond.instanceMethod ({ cls := "java/util/ArrayDeque", name := "size", desc := "()I" } : Jvm.MethodName)) ∈ lw_all := lw_g (lw_at lw_m9 186 rfl) rfl
theorem q2200 : (Jvm.Cond.selects "java/util/ArrayDeque" ({ cls := "java/util/ArrayDeque", name := "size", desc := "()I" } : Jvm.MethodName) ({ cls := "java/util/ArrayDeque", name := "size", desc := "()I" } : Jvm.MethodName)) ∈ lw_all := lw_g (lw_at lw_m9 187 rfl) rfl
theorem q2201 : (Jvm.Cond.code ({ cls := "java/util/ArrayDeque", name := "size", desc := "()I" } : Jvm.MethodName) prog_56_method_37_code (1 : Nat) (Option.some Jvm.ClassFile.FieldType.int)) ∈ lw_all := lw_g (lw_at lw_m9 188 rfl) rfl
theorem q2202 : (Jvm.Cond.methodLink "java/util/ArrayDeque" (127 : Nat) ({ cls := "java/util/ArrayDeque", name := "sub", desc := "(III)I" } : Jvm.MethodName)) ∈ lw_all := lw_g (lw_at lw_m9 189 rfl) rfl
theorem q2203 : (Jvm.Cond.static ({ cls := "java/util/ArrayDeque", name := "sub", desc := "(III)I" } : Jvm.MethodName)) ∈ lw_all := lw_g (lw_at lw_m9 190 rfl) rfl
theorem q2204 : (Jvm.Cond.code ({ cls := "java/util/ArrayDeque", name := "sub", desc := "(III)I" } : Jvm.MethodName) prog_56_method_9_code (3 : Nat) (Option.some Jvm.ClassFile.FieldType.int)) ∈ lw_all := lw_g (lw_at lw_m9 191 rfl) rfl
theorem q2224 : (Jvm.Cond.instanceMethod ({ cls := "java/util/ArrayDeque", name := "addLast", desc := "(Ljava/lang/Object;)V" } : Jvm.MethodName)) ∈ lw_all := lw_g (lw_at lw_m9 211 rfl) rfl
theorem q2225 : (Jvm.Cond.selects "java/util/ArrayDeque" ({ cls := "java/util/ArrayDeque", name := "addLast", desc := "(Ljava/lang/Object;)V" } : Jvm.MethodName) ({ cls := "java/util/ArrayDeque", name := "addLast", desc := "(Ljava/lang/Object;)V" } : Jvm.MethodName)) ∈ lw_all := lw_g (lw_at lw_m9 212 rfl) rfl
theorem q2226 : (Jvm.Cond.code ({ cls := "java/util/ArrayDeque", name := "addLast", desc := "(Ljava/lang/Object;)V" } : Jvm.MethodName) prog_56_method_13_code (3 : Nat) (Option.none : Option Jvm.ClassFile.FieldType)) ∈ lw_all := lw_g (lw_at lw_m9 213 rfl) rfl
theorem q2227 : (Jvm.Cond.methodLink "java/util/ArrayDeque" (74 : Nat) ({ cls := "java/util/ArrayDeque", name := "inc", desc := "(II)I" } : Jvm.MethodName)) ∈ lw_all := lw_g (lw_at lw_m9 214 rfl) rfl
theorem q2228 : (Jvm.Cond.methodLink "java/util/ArrayDeque" (71 : Nat) ({ cls := "java/util/ArrayDeque", name := "grow", desc := "(I)V" } : Jvm.MethodName)) ∈ lw_all := lw_g (lw_at lw_m9 215 rfl) rfl
theorem q2229 : (Jvm.Cond.privateMethod ({ cls := "java/util/ArrayDeque", name := "grow", desc := "(I)V" } : Jvm.MethodName)) ∈ lw_tbl := lw_at lw_m9 216 rfl
theorem q2230 : (Jvm.Cond.instanceMethod ({ cls := "java/util/ArrayDeque", name := "grow", desc := "(I)V" } : Jvm.MethodName)) ∈ lw_all := lw_g (lw_at lw_m9 217 rfl) rfl
theorem q2231 : (Jvm.Cond.code ({ cls := "java/util/ArrayDeque", name := "grow", desc := "(I)V" } : Jvm.MethodName) prog_56_method_1_code (9 : Nat) (Option.none : Option Jvm.ClassFile.FieldType)) ∈ lw_all := lw_g (lw_at lw_m9 218 rfl) rfl
theorem q2232 : (Jvm.Cond.constant "java/util/ArrayDeque" (9 : Nat) (2147483639 : Int32)) ∈ lw_all := lw_g (lw_at lw_m9 219 rfl) rfl
theorem q2233 : (Jvm.Cond.methodLink "java/util/ArrayDeque" (10 : Nat) ({ cls := "java/util/ArrayDeque", name := "newCapacity", desc := "(II)I" } : Jvm.MethodName)) ∈ lw_all := lw_g (lw_at lw_m9 220 rfl) rfl
theorem q2234 : (Jvm.Cond.privateMethod ({ cls := "java/util/ArrayDeque", name := "newCapacity", desc := "(II)I" } : Jvm.MethodName)) ∈ lw_tbl := lw_at lw_m9 221 rfl
theorem q2235 : (Jvm.Cond.instanceMethod ({ cls := "java/util/ArrayDeque", name := "newCapacity", desc := "(II)I" } : Jvm.MethodName)) ∈ lw_all := lw_g (lw_at lw_m9 222 rfl) rfl
theorem q2236 : (Jvm.Cond.code ({ cls := "java/util/ArrayDeque", name := "newCapacity", desc := "(II)I" } : Jvm.MethodName) prog_56_method_2_code (5 : Nat) (Option.some Jvm.ClassFile.FieldType.int)) ∈ lw_all := lw_g (lw_at lw_m9 223 rfl) rfl
theorem q2237 : (Jvm.Cond.classLink "java/util/ArrayDeque" (33 : Nat) "java/lang/IllegalStateException") ∈ lw_all := lw_g (lw_at lw_m9 224 rfl) rfl
theorem q2238 : (Jvm.Cond.stringRef "java/util/ArrayDeque" (35 : Nat) "Sorry, deque too big") ∈ lw_tbl := lw_at lw_m9 225 rfl
theorem q2239 : (Jvm.Cond.methodLink "java/util/ArrayDeque" (37 : Nat) ({ cls := "java/lang/IllegalStateException", name := "<init>", desc := "(Ljava/lang/String;)V" } : Jvm.MethodName)) ∈ lw_all := lw_g (lw_at lw_m9 226 rfl) rfl
theorem q2243 : (Jvm.Cond.constant "java/util/ArrayDeque" (41 : Nat) (2147483647 : Int32)) ∈ lw_all := lw_g (lw_at lw_m9 230 rfl) rfl
theorem q2244 : (Jvm.Cond.methodLink "java/util/ArrayDeque" (14 : Nat) ({ cls := "java/util/Arrays", name := "copyOf", desc := "([Ljava/lang/Object;I)[Ljava/lang/Object;" } : Jvm.MethodName)) ∈ lw_all := lw_g (lw_at lw_m9 231 rfl) rfl
theorem q2253 : (Jvm.Cond.methodLink "java/util/ArrayDeque" (27 : Nat) ({ cls := "java/lang/System", name := "arraycopy", desc := "(Ljava/lang/Object;ILjava/lang/Object;II)V" } : Jvm.MethodName)) ∈ lw_all := lw_g (lw_at lw_m10 0 rfl) rfl
theorem q2501 : (Jvm.Cond.instanceMethod ({ cls := "java/util/ArrayDeque", name := "removeFirst", desc := "()Ljava/lang/Object;" } : Jvm.MethodName)) ∈ lw_all := lw_g (lw_at lw_m11 8 rfl) rfl
theorem q2502 : (Jvm.Cond.selects "java/util/ArrayDeque" ({ cls := "java/util/ArrayDeque", name := "removeFirst", desc := "()Ljava/lang/Object;" } : Jvm.MethodName) ({ cls := "java/util/ArrayDeque", name := "removeFirst", desc := "()Ljava/lang/Object;" } : Jvm.MethodName)) ∈ lw_all := lw_g (lw_at lw_m11 9 rfl) rfl
theorem q2503 : (Jvm.Cond.code ({ cls := "java/util/ArrayDeque", name := "removeFirst", desc := "()Ljava/lang/Object;" } : Jvm.MethodName) prog_56_method_18_code (2 : Nat) (Option.some (Jvm.ClassFile.FieldType.object "java/lang/Object"))) ∈ lw_all := lw_g (lw_at lw_m11 10 rfl) rfl
theorem q2504 : (Jvm.Cond.methodLink "java/util/ArrayDeque" (93 : Nat) ({ cls := "java/util/ArrayDeque", name := "pollFirst", desc := "()Ljava/lang/Object;" } : Jvm.MethodName)) ∈ lw_all := lw_g (lw_at lw_m11 11 rfl) rfl
theorem q2505 : (Jvm.Cond.instanceMethod ({ cls := "java/util/ArrayDeque", name := "pollFirst", desc := "()Ljava/lang/Object;" } : Jvm.MethodName)) ∈ lw_all := lw_g (lw_at lw_m11 12 rfl) rfl
theorem q2506 : (Jvm.Cond.selects "java/util/ArrayDeque" ({ cls := "java/util/ArrayDeque", name := "pollFirst", desc := "()Ljava/lang/Object;" } : Jvm.MethodName) ({ cls := "java/util/ArrayDeque", name := "pollFirst", desc := "()Ljava/lang/Object;" } : Jvm.MethodName)) ∈ lw_all := lw_g (lw_at lw_m11 13 rfl) rfl
theorem q2507 : (Jvm.Cond.code ({ cls := "java/util/ArrayDeque", name := "pollFirst", desc := "()Ljava/lang/Object;" } : Jvm.MethodName) prog_56_method_20_code (4 : Nat) (Option.some (Jvm.ClassFile.FieldType.object "java/lang/Object"))) ∈ lw_all := lw_g (lw_at lw_m11 14 rfl) rfl
theorem q2508 : (Jvm.Cond.methodLink "java/util/ArrayDeque" (103 : Nat) ({ cls := "java/util/ArrayDeque", name := "elementAt", desc := "([Ljava/lang/Object;I)Ljava/lang/Object;" } : Jvm.MethodName)) ∈ lw_all := lw_g (lw_at lw_m11 15 rfl) rfl
theorem q2509 : (Jvm.Cond.static ({ cls := "java/util/ArrayDeque", name := "elementAt", desc := "([Ljava/lang/Object;I)Ljava/lang/Object;" } : Jvm.MethodName)) ∈ lw_all := lw_g (lw_at lw_m11 16 rfl) rfl
theorem q2510 : (Jvm.Cond.code ({ cls := "java/util/ArrayDeque", name := "elementAt", desc := "([Ljava/lang/Object;I)Ljava/lang/Object;" } : Jvm.MethodName) prog_56_method_10_code (2 : Nat) (Option.some (Jvm.ClassFile.FieldType.object "java/lang/Object"))) ∈ lw_all := lw_g (lw_at lw_m11 17 rfl) rfl
theorem q2511 : (Jvm.Cond.classLink "java/util/ArrayDeque" (97 : Nat) "java/util/NoSuchElementException") ∈ lw_all := lw_g (lw_at lw_m11 18 rfl) rfl
theorem q2512 : (Jvm.Cond.methodLink "java/util/ArrayDeque" (99 : Nat) ({ cls := "java/util/NoSuchElementException", name := "<init>", desc := "()V" } : Jvm.MethodName)) ∈ lw_all := lw_g (lw_at lw_m11 19 rfl) rfl
theorem q2606 : (Jvm.Cond.castable "java/util/ArrayDeque" "java/lang/Iterable") ∈ lw_tbl := lw_at lw_m11 113 rfl
theorem q2607 : (Jvm.Cond.selects "java/util/ArrayDeque" ({ cls := "java/lang/Iterable", name := "iterator", desc := "()Ljava/util/Iterator;" } : Jvm.MethodName) ({ cls := "java/util/ArrayDeque", name := "iterator", desc := "()Ljava/util/Iterator;" } : Jvm.MethodName)) ∈ lw_all := lw_g (lw_at lw_m11 114 rfl) rfl
theorem q2608 : (Jvm.Cond.unhidden "java/util/ArrayDeque" "iterator" "()Ljava/util/Iterator;") ∈ lw_tbl := lw_at lw_m11 115 rfl
theorem q2609 : (Jvm.Cond.publicMethod ({ cls := "java/util/ArrayDeque", name := "iterator", desc := "()Ljava/util/Iterator;" } : Jvm.MethodName)) ∈ lw_tbl := lw_at lw_m11 116 rfl
theorem q2719 : (Jvm.Cond.instanceMethod ({ cls := "java/util/ArrayDeque", name := "isEmpty", desc := "()Z" } : Jvm.MethodName)) ∈ lw_all := lw_g (lw_at lw_m11 226 rfl) rfl
theorem q2720 : (Jvm.Cond.selects "java/util/ArrayDeque" ({ cls := "java/util/ArrayDeque", name := "isEmpty", desc := "()Z" } : Jvm.MethodName) ({ cls := "java/util/ArrayDeque", name := "isEmpty", desc := "()Z" } : Jvm.MethodName)) ∈ lw_all := lw_g (lw_at lw_m11 227 rfl) rfl
theorem q2721 : (Jvm.Cond.code ({ cls := "java/util/ArrayDeque", name := "isEmpty", desc := "()Z" } : Jvm.MethodName) prog_56_method_38_code (1 : Nat) (Option.some Jvm.ClassFile.FieldType.boolean)) ∈ lw_all := lw_g (lw_at lw_m11 228 rfl) rfl
theorem q2723 : (Jvm.Cond.instanceMethod ({ cls := "java/util/ArrayDeque", name := "removeLast", desc := "()Ljava/lang/Object;" } : Jvm.MethodName)) ∈ lw_all := lw_g (lw_at lw_m11 230 rfl) rfl
theorem q2724 : (Jvm.Cond.selects "java/util/ArrayDeque" ({ cls := "java/util/ArrayDeque", name := "removeLast", desc := "()Ljava/lang/Object;" } : Jvm.MethodName) ({ cls := "java/util/ArrayDeque", name := "removeLast", desc := "()Ljava/lang/Object;" } : Jvm.MethodName)) ∈ lw_all := lw_g (lw_at lw_m11 231 rfl) rfl
theorem q2725 : (Jvm.Cond.code ({ cls := "java/util/ArrayDeque", name := "removeLast", desc := "()Ljava/lang/Object;" } : Jvm.MethodName) prog_56_method_19_code (2 : Nat) (Option.some (Jvm.ClassFile.FieldType.object "java/lang/Object"))) ∈ lw_all := lw_g (lw_at lw_m11 232 rfl) rfl
theorem q2726 : (Jvm.Cond.methodLink "java/util/ArrayDeque" (100 : Nat) ({ cls := "java/util/ArrayDeque", name := "pollLast", desc := "()Ljava/lang/Object;" } : Jvm.MethodName)) ∈ lw_all := lw_g (lw_at lw_m11 233 rfl) rfl
theorem q2727 : (Jvm.Cond.instanceMethod ({ cls := "java/util/ArrayDeque", name := "pollLast", desc := "()Ljava/lang/Object;" } : Jvm.MethodName)) ∈ lw_all := lw_g (lw_at lw_m11 234 rfl) rfl
theorem q2728 : (Jvm.Cond.selects "java/util/ArrayDeque" ({ cls := "java/util/ArrayDeque", name := "pollLast", desc := "()Ljava/lang/Object;" } : Jvm.MethodName) ({ cls := "java/util/ArrayDeque", name := "pollLast", desc := "()Ljava/lang/Object;" } : Jvm.MethodName)) ∈ lw_all := lw_g (lw_at lw_m11 235 rfl) rfl
theorem q2729 : (Jvm.Cond.code ({ cls := "java/util/ArrayDeque", name := "pollLast", desc := "()Ljava/lang/Object;" } : Jvm.MethodName) prog_56_method_21_code (4 : Nat) (Option.some (Jvm.ClassFile.FieldType.object "java/lang/Object"))) ∈ lw_all := lw_g (lw_at lw_m11 236 rfl) rfl
theorem q2730 : (Jvm.Cond.methodLink "java/util/ArrayDeque" (68 : Nat) ({ cls := "java/util/ArrayDeque", name := "dec", desc := "(II)I" } : Jvm.MethodName)) ∈ lw_all := lw_g (lw_at lw_m11 237 rfl) rfl
theorem q2731 : (Jvm.Cond.static ({ cls := "java/util/ArrayDeque", name := "dec", desc := "(II)I" } : Jvm.MethodName)) ∈ lw_all := lw_g (lw_at lw_m11 238 rfl) rfl
theorem q2732 : (Jvm.Cond.code ({ cls := "java/util/ArrayDeque", name := "dec", desc := "(II)I" } : Jvm.MethodName) prog_56_method_7_code (2 : Nat) (Option.some Jvm.ClassFile.FieldType.int)) ∈ lw_all := lw_g (lw_at lw_m11 239 rfl) rfl
theorem q2821 : (Jvm.Cond.instanceMethod ({ cls := "java/util/ArrayDeque", name := "getFirst", desc := "()Ljava/lang/Object;" } : Jvm.MethodName)) ∈ lw_all := lw_g (lw_at lw_m12 88 rfl) rfl
theorem q2822 : (Jvm.Cond.selects "java/util/ArrayDeque" ({ cls := "java/util/ArrayDeque", name := "getFirst", desc := "()Ljava/lang/Object;" } : Jvm.MethodName) ({ cls := "java/util/ArrayDeque", name := "getFirst", desc := "()Ljava/lang/Object;" } : Jvm.MethodName)) ∈ lw_all := lw_g (lw_at lw_m12 89 rfl) rfl
theorem q2823 : (Jvm.Cond.code ({ cls := "java/util/ArrayDeque", name := "getFirst", desc := "()Ljava/lang/Object;" } : Jvm.MethodName) prog_56_method_22_code (2 : Nat) (Option.some (Jvm.ClassFile.FieldType.object "java/lang/Object"))) ∈ lw_all := lw_g (lw_at lw_m12 90 rfl) rfl
theorem q3198 : (Jvm.Cond.instanceMethod ({ cls := "java/util/ArrayDeque", name := "clear", desc := "()V" } : Jvm.MethodName)) ∈ lw_all := lw_g (lw_at lw_m13 225 rfl) rfl
theorem q3199 : (Jvm.Cond.selects "java/util/ArrayDeque" ({ cls := "java/util/ArrayDeque", name := "clear", desc := "()V" } : Jvm.MethodName) ({ cls := "java/util/ArrayDeque", name := "clear", desc := "()V" } : Jvm.MethodName)) ∈ lw_all := lw_g (lw_at lw_m13 226 rfl) rfl
theorem q3200 : (Jvm.Cond.code ({ cls := "java/util/ArrayDeque", name := "clear", desc := "()V" } : Jvm.MethodName) prog_56_method_53_code (1 : Nat) (Option.none : Option Jvm.ClassFile.FieldType)) ∈ lw_all := lw_g (lw_at lw_m13 227 rfl) rfl
theorem q3201 : (Jvm.Cond.methodLink "java/util/ArrayDeque" (181 : Nat) ({ cls := "java/util/ArrayDeque", name := "circularClear", desc := "([Ljava/lang/Object;II)V" } : Jvm.MethodName)) ∈ lw_all := lw_g (lw_at lw_m13 228 rfl) rfl
theorem q3202 : (Jvm.Cond.static ({ cls := "java/util/ArrayDeque", name := "circularClear", desc := "([Ljava/lang/Object;II)V" } : Jvm.MethodName)) ∈ lw_all := lw_g (lw_at lw_m13 229 rfl) rfl
theorem q3203 : (Jvm.Cond.code ({ cls := "java/util/ArrayDeque", name := "circularClear", desc := "([Ljava/lang/Object;II)V" } : Jvm.MethodName) prog_56_method_54_code (4 : Nat) (Option.none : Option Jvm.ClassFile.FieldType)) ∈ lw_all := lw_g (lw_at lw_m13 230 rfl) rfl
theorem q3776 : (Jvm.Cond.castable "java/util/ArrayDeque" "java/lang/Object") ∈ lw_tbl := lw_at lw_m16 83 rfl
theorem in_J31 : ∀ w ∈ wsJ310, w ∈ lw_all := lw_in wsJ310 [1131, 1133, 1135] (by decide +kernel) (by decide +kernel)
/-! java/lang/IndexOutOfBoundsException -/
set_option maxRecDepth 100000
def RJ32 : String := "java/lang/IndexOutOfBoundsException"
def TJ32 : u_T := fun k => match k with
  | 0 => ("java/lang/Throwable", "cause", "Ljava/lang/Throwable;", false)
  | 1 => ("java/lang/Throwable", "stackTrace", "[Ljava/lang/StackTraceElement;", false)
  | 2 => ("java/lang/Throwable", "suppressedExceptions", "Ljava/util/List;", false)
  | 3 => ("java/lang/Throwable", "detailMessage", "Ljava/lang/String;", false)
  | 4 => ("java/lang/Throwable", "backtrace", "Ljava/lang/Object;", false)
  | _ => ("java/lang/Throwable", "depth", "I", false)
def tyJ32 : Nat → FieldType := fun k => match k with
  | 0 => .object "java/lang/Throwable"
  | 1 => .array (.object "java/lang/StackTraceElement")
  | 2 => .object "java/util/List"
  | 3 => .object "java/lang/String"
  | 4 => .object "java/lang/Object"
  | _ => .int
abbrev wsJ320 : List Cond := u_ws RJ32 TJ32 6
theorem nmJ32 : ∀ a, a < 6 → ∀ b, b < 6 → a ≠ b → (TJ32 a).2.1 ≠ (TJ32 b).2.1 := by decide +kernel
theorem tyJ32_ok : ∀ k, k < 6 → parseFieldDescriptor (TJ32 k).2.2.1 = some (tyJ32 k) := by decide +kernel
abbrev cJ32_init : ByteArray := prog_33_method_2_code
def yJ32_init : MethodName := ⟨RJ32, "<init>", "(Ljava/lang/String;)V"⟩
abbrev cJ32_init_2 : ByteArray := prog_33_method_1_code
def yJ32_init_2 : MethodName := ⟨RJ32, "<init>", "()V"⟩
theorem q132 : (Jvm.Cond.initialized "java/lang/IndexOutOfBoundsException") ∈ lw_all := lw_g (lw_at lw_m1 39 rfl) rfl
theorem q244 : (Jvm.Cond.selects "java/lang/IndexOutOfBoundsException" ({ cls := "java/lang/Throwable", name := "fillInStackTrace", desc := "()Ljava/lang/Throwable;" } : Jvm.MethodName) ({ cls := "java/lang/Throwable", name := "fillInStackTrace", desc := "()Ljava/lang/Throwable;" } : Jvm.MethodName)) ∈ lw_all := lw_g (lw_at lw_m1 151 rfl) rfl
theorem q899 : (Jvm.Cond.selects "java/lang/IndexOutOfBoundsException" ({ cls := "java/lang/Object", name := "getClass", desc := "()Ljava/lang/Class;" } : Jvm.MethodName) ({ cls := "java/lang/Object", name := "getClass", desc := "()Ljava/lang/Class;" } : Jvm.MethodName)) ∈ lw_all := lw_g (lw_at lw_m4 86 rfl) rfl
theorem q931 : (Jvm.Cond.selects "java/lang/IndexOutOfBoundsException" ({ cls := "java/lang/Throwable", name := "getLocalizedMessage", desc := "()Ljava/lang/String;" } : Jvm.MethodName) ({ cls := "java/lang/Throwable", name := "getLocalizedMessage", desc := "()Ljava/lang/String;" } : Jvm.MethodName)) ∈ lw_all := lw_g (lw_at lw_m4 118 rfl) rfl
theorem q944 : (Jvm.Cond.selects "java/lang/IndexOutOfBoundsException" ({ cls := "java/lang/Throwable", name := "getMessage", desc := "()Ljava/lang/String;" } : Jvm.MethodName) ({ cls := "java/lang/Throwable", name := "getMessage", desc := "()Ljava/lang/String;" } : Jvm.MethodName)) ∈ lw_all := lw_g (lw_at lw_m4 131 rfl) rfl
theorem q959 : (Jvm.Cond.selects "java/lang/IndexOutOfBoundsException" ({ cls := "java/lang/Object", name := "toString", desc := "()Ljava/lang/String;" } : Jvm.MethodName) ({ cls := "java/lang/Throwable", name := "toString", desc := "()Ljava/lang/String;" } : Jvm.MethodName)) ∈ lw_all := lw_g (lw_at lw_m4 146 rfl) rfl
theorem q1673 : (Jvm.Cond.selects "java/lang/IndexOutOfBoundsException" ({ cls := "java/lang/Object", name := "hashCode", desc := "()I" } : Jvm.MethodName) ({ cls := "java/lang/Object", name := "hashCode", desc := "()I" } : Jvm.MethodName)) ∈ lw_all := lw_g (lw_at lw_m7 140 rfl) rfl
theorem q2085 : (Jvm.Cond.selects "java/lang/IndexOutOfBoundsException" ({ cls := "java/lang/Object", name := "equals", desc := "(Ljava/lang/Object;)Z" } : Jvm.MethodName) ({ cls := "java/lang/Object", name := "equals", desc := "(Ljava/lang/Object;)Z" } : Jvm.MethodName)) ∈ lw_all := lw_g (lw_at lw_m9 72 rfl) rfl
theorem q2364 : (Jvm.Cond.instanceMethod ({ cls := "java/lang/IndexOutOfBoundsException", name := "<init>", desc := "(Ljava/lang/String;)V" } : Jvm.MethodName)) ∈ lw_all := lw_g (lw_at lw_m10 111 rfl) rfl
theorem q2365 : (Jvm.Cond.code ({ cls := "java/lang/IndexOutOfBoundsException", name := "<init>", desc := "(Ljava/lang/String;)V" } : Jvm.MethodName) prog_33_method_2_code (2 : Nat) (Option.none : Option Jvm.ClassFile.FieldType)) ∈ lw_all := lw_g (lw_at lw_m10 112 rfl) rfl
theorem q2366 : (Jvm.Cond.methodLink "java/lang/IndexOutOfBoundsException" (7 : Nat) ({ cls := "java/lang/RuntimeException", name := "<init>", desc := "(Ljava/lang/String;)V" } : Jvm.MethodName)) ∈ lw_all := lw_g (lw_at lw_m10 113 rfl) rfl
theorem q2375 : (Jvm.Cond.declares ({ cls := "java/lang/IndexOutOfBoundsException", name := "<init>", desc := "()V" } : Jvm.MethodName)) ∈ lw_tbl := lw_at lw_m10 122 rfl
theorem q2376 : (Jvm.Cond.declares ({ cls := "java/lang/IndexOutOfBoundsException", name := "<init>", desc := "(Ljava/lang/String;)V" } : Jvm.MethodName)) ∈ lw_tbl := lw_at lw_m10 123 rfl
theorem q2394 : (Jvm.Cond.instantiable "java/lang/IndexOutOfBoundsException" (6 : Nat)) ∈ lw_all := lw_g (lw_at lw_m10 141 rfl) rfl
theorem q2395 : (Jvm.Cond.castable "java/lang/IndexOutOfBoundsException" "java/lang/IndexOutOfBoundsException") ∈ lw_tbl := lw_at lw_m10 142 rfl
theorem q2396 : (Jvm.Cond.selects "java/lang/IndexOutOfBoundsException" ({ cls := "java/lang/Throwable", name := "fillInStackTrace", desc := "(I)Ljava/lang/Throwable;" } : Jvm.MethodName) ({ cls := "java/lang/Throwable", name := "fillInStackTrace", desc := "(I)Ljava/lang/Throwable;" } : Jvm.MethodName)) ∈ lw_all := lw_g (lw_at lw_m10 143 rfl) rfl
theorem q2397 : (Jvm.Cond.lays "java/lang/IndexOutOfBoundsException" "java/lang/Throwable" "cause" "Ljava/lang/Throwable;") ∈ lw_all := lw_g (lw_at lw_m10 144 rfl) rfl
theorem q2398 : (Jvm.Cond.lays "java/lang/IndexOutOfBoundsException" "java/lang/Throwable" "stackTrace" "[Ljava/lang/StackTraceElement;") ∈ lw_all := lw_g (lw_at lw_m10 145 rfl) rfl
theorem q2399 : (Jvm.Cond.lays "java/lang/IndexOutOfBoundsException" "java/lang/Throwable" "suppressedExceptions" "Ljava/util/List;") ∈ lw_all := lw_g (lw_at lw_m10 146 rfl) rfl
theorem q2400 : (Jvm.Cond.lays "java/lang/IndexOutOfBoundsException" "java/lang/Throwable" "detailMessage" "Ljava/lang/String;") ∈ lw_all := lw_g (lw_at lw_m10 147 rfl) rfl
theorem q2401 : (Jvm.Cond.lays "java/lang/IndexOutOfBoundsException" "java/lang/Throwable" "backtrace" "Ljava/lang/Object;") ∈ lw_all := lw_g (lw_at lw_m10 148 rfl) rfl
theorem q2403 : (Jvm.Cond.instanceMethod ({ cls := "java/lang/IndexOutOfBoundsException", name := "<init>", desc := "()V" } : Jvm.MethodName)) ∈ lw_all := lw_g (lw_at lw_m10 150 rfl) rfl
theorem q2404 : (Jvm.Cond.code ({ cls := "java/lang/IndexOutOfBoundsException", name := "<init>", desc := "()V" } : Jvm.MethodName) prog_33_method_1_code (1 : Nat) (Option.none : Option Jvm.ClassFile.FieldType)) ∈ lw_all := lw_g (lw_at lw_m10 151 rfl) rfl
theorem q2405 : (Jvm.Cond.methodLink "java/lang/IndexOutOfBoundsException" (1 : Nat) ({ cls := "java/lang/RuntimeException", name := "<init>", desc := "()V" } : Jvm.MethodName)) ∈ lw_all := lw_g (lw_at lw_m10 152 rfl) rfl
theorem q2406 : (Jvm.Cond.lays "java/lang/IndexOutOfBoundsException" "java/lang/Throwable" "depth" "I") ∈ lw_all := lw_g (lw_at lw_m10 153 rfl) rfl
theorem q2407 : (Jvm.Cond.superclass "java/lang/IndexOutOfBoundsException" "java/lang/RuntimeException") ∈ lw_all := lw_g (lw_at lw_m10 154 rfl) rfl
theorem q3754 : (Jvm.Cond.castable "java/lang/IndexOutOfBoundsException" "java/lang/Throwable") ∈ lw_tbl := lw_at lw_m16 61 rfl
theorem q3790 : (Jvm.Cond.castable "java/lang/IndexOutOfBoundsException" "java/lang/Object") ∈ lw_tbl := lw_at lw_m16 97 rfl
theorem in_J32 : ∀ w ∈ wsJ320, w ∈ lw_all := lw_in wsJ320 [2397, 2398, 2399, 2400, 2401, 2406] (by decide +kernel) (by decide +kernel)
/-! java/util/HashMap$KeySet -/
set_option maxRecDepth 100000
def RJ34 : String := "java/util/HashMap$KeySet"
abbrev cJ34_iterator : ByteArray := prog_66_method_4_code
def yJ34_iterator : MethodName := ⟨RJ34, "iterator", "()Ljava/util/Iterator;"⟩
def dkwJ34_iterator_0 : List UInt8 := [187, 0, 22, 89, 42, 180, 0, 1, 183, 0, 24, 176]
abbrev dktJ34_iterator_0 : List UInt8 := dkwJ34_iterator_0 ++ []
theorem dksJ34_iterator_0 : cJ34_iterator.data.toList.drop 0 = dktJ34_iterator_0 := by decide +kernel
theorem dJ34_iterator_0 : decode cJ34_iterator 0 = .ok (.new 22, 3) := dk_187 0 22 (dk_at dksJ34_iterator_0 0 rfl rfl)
theorem dJ34_iterator_3 : decode cJ34_iterator 3 = .ok (.dup, 1) := dk_89 (dk_at dksJ34_iterator_0 3 rfl rfl)
theorem dJ34_iterator_4 : decode cJ34_iterator 4 = .ok (.aload_n 0, 1) := dk_42 (dk_at dksJ34_iterator_0 4 rfl rfl)
theorem dJ34_iterator_5 : decode cJ34_iterator 5 = .ok (.getfield 1, 3) := dk_180 0 1 (dk_at dksJ34_iterator_0 5 rfl rfl)
theorem dJ34_iterator_8 : decode cJ34_iterator 8 = .ok (.invokespecial 24, 3) := dk_183 0 24 (dk_at dksJ34_iterator_0 8 rfl rfl)
theorem dJ34_iterator_11 : decode cJ34_iterator 11 = .ok (.areturn, 1) := dk_176 (dk_at dksJ34_iterator_0 11 rfl rfl)
theorem q134 : (Jvm.Cond.initialized "java/util/HashMap$KeySet") ∈ lw_all := lw_g (lw_at lw_m1 41 rfl) rfl
theorem q910 : (Jvm.Cond.selects "java/util/HashMap$KeySet" ({ cls := "java/lang/Object", name := "getClass", desc := "()Ljava/lang/Class;" } : Jvm.MethodName) ({ cls := "java/lang/Object", name := "getClass", desc := "()Ljava/lang/Class;" } : Jvm.MethodName)) ∈ lw_all := lw_g (lw_at lw_m4 97 rfl) rfl
theorem q1423 : (Jvm.Cond.castable "java/util/HashMap$KeySet" "java/util/Set") ∈ lw_tbl := lw_at lw_m6 130 rfl
theorem q1424 : (Jvm.Cond.selects "java/util/HashMap$KeySet" ({ cls := "java/util/Set", name := "iterator", desc := "()Ljava/util/Iterator;" } : Jvm.MethodName) ({ cls := "java/util/HashMap$KeySet", name := "iterator", desc := "()Ljava/util/Iterator;" } : Jvm.MethodName)) ∈ lw_all := lw_g (lw_at lw_m6 131 rfl) rfl
theorem q1425 : (Jvm.Cond.unhidden "java/util/HashMap$KeySet" "iterator" "()Ljava/util/Iterator;") ∈ lw_tbl := lw_at lw_m6 132 rfl
theorem q1426 : (Jvm.Cond.instanceMethod ({ cls := "java/util/HashMap$KeySet", name := "iterator", desc := "()Ljava/util/Iterator;" } : Jvm.MethodName)) ∈ lw_all := lw_g (lw_at lw_m6 133 rfl) rfl
theorem q1427 : (Jvm.Cond.publicMethod ({ cls := "java/util/HashMap$KeySet", name := "iterator", desc := "()Ljava/util/Iterator;" } : Jvm.MethodName)) ∈ lw_tbl := lw_at lw_m6 134 rfl
theorem q1428 : (Jvm.Cond.code ({ cls := "java/util/HashMap$KeySet", name := "iterator", desc := "()Ljava/util/Iterator;" } : Jvm.MethodName) prog_66_method_4_code (1 : Nat) (Option.some (Jvm.ClassFile.FieldType.object "java/util/Iterator"))) ∈ lw_all := lw_g (lw_at lw_m6 135 rfl) rfl
theorem q1429 : (Jvm.Cond.classLink "java/util/HashMap$KeySet" (22 : Nat) "java/util/HashMap$KeyIterator") ∈ lw_all := lw_g (lw_at lw_m6 136 rfl) rfl
theorem q1431 : (Jvm.Cond.methodLink "java/util/HashMap$KeySet" (24 : Nat) ({ cls := "java/util/HashMap$KeyIterator", name := "<init>", desc := "(Ljava/util/HashMap;)V" } : Jvm.MethodName)) ∈ lw_all := lw_g (lw_at lw_m6 138 rfl) rfl
theorem q2614 : (Jvm.Cond.castable "java/util/HashMap$KeySet" "java/lang/Iterable") ∈ lw_tbl := lw_at lw_m11 121 rfl
theorem q2615 : (Jvm.Cond.selects "java/util/HashMap$KeySet" ({ cls := "java/lang/Iterable", name := "iterator", desc := "()Ljava/util/Iterator;" } : Jvm.MethodName) ({ cls := "java/util/HashMap$KeySet", name := "iterator", desc := "()Ljava/util/Iterator;" } : Jvm.MethodName)) ∈ lw_all := lw_g (lw_at lw_m11 122 rfl) rfl
theorem q3779 : (Jvm.Cond.castable "java/util/HashMap$KeySet" "java/lang/Object") ∈ lw_tbl := lw_at lw_m16 86 rfl
theorem q3821 : (Jvm.Cond.fieldLink "java/util/HashMap$KeySet" (1 : Nat) "java/util/HashMap$KeySet" "this$0" "Ljava/util/HashMap;") ∈ lw_all := lw_g (lw_at lw_m16 128 rfl) rfl
/-! java/util/LinkedHashMap$LinkedKeySet -/
set_option maxRecDepth 100000
def RJ35 : String := "java/util/LinkedHashMap$LinkedKeySet"
def TJ35 : u_T := fun k => match k with
  | 0 => ("java/util/LinkedHashMap$LinkedKeySet", "reversed", "Z", true)
  | _ => ("java/util/LinkedHashMap$LinkedKeySet", "this$0", "Ljava/util/LinkedHashMap;", true)
def tyJ35 : Nat → FieldType := fun k => match k with
  | 0 => .boolean
  | _ => .object "java/util/LinkedHashMap"
abbrev wsJ350 : List Cond := u_ws RJ35 TJ35 2
theorem nmJ35 : ∀ a, a < 2 → ∀ b, b < 2 → a ≠ b → (TJ35 a).2.1 ≠ (TJ35 b).2.1 := by decide +kernel
theorem tyJ35_ok : ∀ k, k < 2 → parseFieldDescriptor (TJ35 k).2.2.1 = some (tyJ35 k) := by decide +kernel
abbrev cJ35_init : ByteArray := prog_75_method_1_code
def yJ35_init : MethodName := ⟨RJ35, "<init>", "(Ljava/util/LinkedHashMap;Z)V"⟩
def dkwJ35_init_0 : List UInt8 := [42, 43, 181, 0, 1, 42, 183, 0, 7, 42, 28, 181, 0, 13, 177]
abbrev dktJ35_init_0 : List UInt8 := dkwJ35_init_0 ++ []
theorem dksJ35_init_0 : cJ35_init.data.toList.drop 0 = dktJ35_init_0 := by decide +kernel
theorem dJ35_init_0 : decode cJ35_init 0 = .ok (.aload_n 0, 1) := dk_42 (dk_at dksJ35_init_0 0 rfl rfl)
theorem dJ35_init_1 : decode cJ35_init 1 = .ok (.aload_n 1, 1) := dk_43 (dk_at dksJ35_init_0 1 rfl rfl)
theorem dJ35_init_2 : decode cJ35_init 2 = .ok (.putfield 1, 3) := dk_181 0 1 (dk_at dksJ35_init_0 2 rfl rfl)
theorem dJ35_init_5 : decode cJ35_init 5 = .ok (.aload_n 0, 1) := dk_42 (dk_at dksJ35_init_0 5 rfl rfl)
theorem dJ35_init_6 : decode cJ35_init 6 = .ok (.invokespecial 7, 3) := dk_183 0 7 (dk_at dksJ35_init_0 6 rfl rfl)
theorem dJ35_init_9 : decode cJ35_init 9 = .ok (.aload_n 0, 1) := dk_42 (dk_at dksJ35_init_0 9 rfl rfl)
theorem dJ35_init_10 : decode cJ35_init 10 = .ok (.iload_n 2, 1) := dk_28 (dk_at dksJ35_init_0 10 rfl rfl)
theorem dJ35_init_11 : decode cJ35_init 11 = .ok (.putfield 13, 3) := dk_181 0 13 (dk_at dksJ35_init_0 11 rfl rfl)
theorem dJ35_init_14 : decode cJ35_init 14 = .ok (.return_, 1) := dk_177 (dk_at dksJ35_init_0 14 rfl rfl)
abbrev cJ35_iterator : ByteArray := prog_75_method_4_code
def yJ35_iterator : MethodName := ⟨RJ35, "iterator", "()Ljava/util/Iterator;"⟩
def dkwJ35_iterator_0 : List UInt8 := [187, 0, 26, 89, 42, 180, 0, 1, 42, 180, 0, 13, 183, 0, 28, 176]
abbrev dktJ35_iterator_0 : List UInt8 := dkwJ35_iterator_0 ++ []
theorem dksJ35_iterator_0 : cJ35_iterator.data.toList.drop 0 = dktJ35_iterator_0 := by decide +kernel
theorem dJ35_iterator_0 : decode cJ35_iterator 0 = .ok (.new 26, 3) := dk_187 0 26 (dk_at dksJ35_iterator_0 0 rfl rfl)
theorem dJ35_iterator_3 : decode cJ35_iterator 3 = .ok (.dup, 1) := dk_89 (dk_at dksJ35_iterator_0 3 rfl rfl)
theorem dJ35_iterator_4 : decode cJ35_iterator 4 = .ok (.aload_n 0, 1) := dk_42 (dk_at dksJ35_iterator_0 4 rfl rfl)
theorem dJ35_iterator_5 : decode cJ35_iterator 5 = .ok (.getfield 1, 3) := dk_180 0 1 (dk_at dksJ35_iterator_0 5 rfl rfl)
theorem dJ35_iterator_8 : decode cJ35_iterator 8 = .ok (.aload_n 0, 1) := dk_42 (dk_at dksJ35_iterator_0 8 rfl rfl)
theorem dJ35_iterator_9 : decode cJ35_iterator 9 = .ok (.getfield 13, 3) := dk_180 0 13 (dk_at dksJ35_iterator_0 9 rfl rfl)
theorem dJ35_iterator_12 : decode cJ35_iterator 12 = .ok (.invokespecial 28, 3) := dk_183 0 28 (dk_at dksJ35_iterator_0 12 rfl rfl)
theorem dJ35_iterator_15 : decode cJ35_iterator 15 = .ok (.areturn, 1) := dk_176 (dk_at dksJ35_iterator_0 15 rfl rfl)
theorem q135 : (Jvm.Cond.initialized "java/util/LinkedHashMap$LinkedKeySet") ∈ lw_all := lw_g (lw_at lw_m1 42 rfl) rfl
theorem q916 : (Jvm.Cond.selects "java/util/LinkedHashMap$LinkedKeySet" ({ cls := "java/lang/Object", name := "getClass", desc := "()Ljava/lang/Class;" } : Jvm.MethodName) ({ cls := "java/lang/Object", name := "getClass", desc := "()Ljava/lang/Class;" } : Jvm.MethodName)) ∈ lw_all := lw_g (lw_at lw_m4 103 rfl) rfl
theorem q1405 : (Jvm.Cond.instantiable "java/util/LinkedHashMap$LinkedKeySet" (2 : Nat)) ∈ lw_all := lw_g (lw_at lw_m6 112 rfl) rfl
theorem q1407 : (Jvm.Cond.instanceMethod ({ cls := "java/util/LinkedHashMap$LinkedKeySet", name := "<init>", desc := "(Ljava/util/LinkedHashMap;Z)V" } : Jvm.MethodName)) ∈ lw_all := lw_g (lw_at lw_m6 114 rfl) rfl
theorem q1408 : (Jvm.Cond.code ({ cls := "java/util/LinkedHashMap$LinkedKeySet", name := "<init>", desc := "(Ljava/util/LinkedHashMap;Z)V" } : Jvm.MethodName) prog_75_method_1_code (3 : Nat) (Option.none : Option Jvm.ClassFile.FieldType)) ∈ lw_all := lw_g (lw_at lw_m6 115 rfl) rfl
theorem q1409 : (Jvm.Cond.methodLink "java/util/LinkedHashMap$LinkedKeySet" (7 : Nat) ({ cls := "java/util/AbstractSet", name := "<init>", desc := "()V" } : Jvm.MethodName)) ∈ lw_all := lw_g (lw_at lw_m6 116 rfl) rfl
theorem q1410 : (Jvm.Cond.fieldLink "java/util/LinkedHashMap$LinkedKeySet" (13 : Nat) "java/util/LinkedHashMap$LinkedKeySet" "reversed" "Z") ∈ lw_all := lw_g (lw_at lw_m6 117 rfl) rfl
theorem q1411 : (Jvm.Cond.fieldLink "java/util/LinkedHashMap$LinkedKeySet" (1 : Nat) "java/util/LinkedHashMap$LinkedKeySet" "this$0" "Ljava/util/LinkedHashMap;") ∈ lw_all := lw_g (lw_at lw_m6 118 rfl) rfl
theorem q1412 : (Jvm.Cond.laysFinal "java/util/LinkedHashMap$LinkedKeySet" "java/util/LinkedHashMap$LinkedKeySet" "reversed" "Z") ∈ lw_all := lw_g (lw_at lw_m6 119 rfl) rfl
theorem q1413 : (Jvm.Cond.soleField "java/util/LinkedHashMap$LinkedKeySet" "reversed") ∈ lw_all := lw_g (lw_at lw_m6 120 rfl) rfl
theorem q1414 : (Jvm.Cond.laysFinal "java/util/LinkedHashMap$LinkedKeySet" "java/util/LinkedHashMap$LinkedKeySet" "this$0" "Ljava/util/LinkedHashMap;") ∈ lw_all := lw_g (lw_at lw_m6 121 rfl) rfl
theorem q1415 : (Jvm.Cond.soleField "java/util/LinkedHashMap$LinkedKeySet" "this$0") ∈ lw_all := lw_g (lw_at lw_m6 122 rfl) rfl
theorem q1416 : (Jvm.Cond.superclass "java/util/LinkedHashMap$LinkedKeySet" "java/util/AbstractSet") ∈ lw_all := lw_g (lw_at lw_m6 123 rfl) rfl
theorem q1454 : (Jvm.Cond.castable "java/util/LinkedHashMap$LinkedKeySet" "java/util/Set") ∈ lw_tbl := lw_at lw_m6 161 rfl
theorem q1455 : (Jvm.Cond.selects "java/util/LinkedHashMap$LinkedKeySet" ({ cls := "java/util/Set", name := "iterator", desc := "()Ljava/util/Iterator;" } : Jvm.MethodName) ({ cls := "java/util/LinkedHashMap$LinkedKeySet", name := "iterator", desc := "()Ljava/util/Iterator;" } : Jvm.MethodName)) ∈ lw_all := lw_g (lw_at lw_m6 162 rfl) rfl
theorem q1456 : (Jvm.Cond.unhidden "java/util/LinkedHashMap$LinkedKeySet" "iterator" "()Ljava/util/Iterator;") ∈ lw_tbl := lw_at lw_m6 163 rfl
theorem q1457 : (Jvm.Cond.instanceMethod ({ cls := "java/util/LinkedHashMap$LinkedKeySet", name := "iterator", desc := "()Ljava/util/Iterator;" } : Jvm.MethodName)) ∈ lw_all := lw_g (lw_at lw_m6 164 rfl) rfl
theorem q1458 : (Jvm.Cond.publicMethod ({ cls := "java/util/LinkedHashMap$LinkedKeySet", name := "iterator", desc := "()Ljava/util/Iterator;" } : Jvm.MethodName)) ∈ lw_tbl := lw_at lw_m6 165 rfl
theorem q1459 : (Jvm.Cond.code ({ cls := "java/util/LinkedHashMap$LinkedKeySet", name := "iterator", desc := "()Ljava/util/Iterator;" } : Jvm.MethodName) prog_75_method_4_code (1 : Nat) (Option.some (Jvm.ClassFile.FieldType.object "java/util/Iterator"))) ∈ lw_all := lw_g (lw_at lw_m6 166 rfl) rfl
theorem q1460 : (Jvm.Cond.classLink "java/util/LinkedHashMap$LinkedKeySet" (26 : Nat) "java/util/LinkedHashMap$LinkedKeyIterator") ∈ lw_all := lw_g (lw_at lw_m6 167 rfl) rfl
theorem q1462 : (Jvm.Cond.methodLink "java/util/LinkedHashMap$LinkedKeySet" (28 : Nat) ({ cls := "java/util/LinkedHashMap$LinkedKeyIterator", name := "<init>", desc := "(Ljava/util/LinkedHashMap;Z)V" } : Jvm.MethodName)) ∈ lw_all := lw_g (lw_at lw_m6 169 rfl) rfl
theorem q2616 : (Jvm.Cond.castable "java/util/LinkedHashMap$LinkedKeySet" "java/lang/Iterable") ∈ lw_tbl := lw_at lw_m11 123 rfl
theorem q2617 : (Jvm.Cond.selects "java/util/LinkedHashMap$LinkedKeySet" ({ cls := "java/lang/Iterable", name := "iterator", desc := "()Ljava/util/Iterator;" } : Jvm.MethodName) ({ cls := "java/util/LinkedHashMap$LinkedKeySet", name := "iterator", desc := "()Ljava/util/Iterator;" } : Jvm.MethodName)) ∈ lw_all := lw_g (lw_at lw_m11 124 rfl) rfl
theorem q3745 : (Jvm.Cond.castable "java/util/LinkedHashMap$LinkedKeySet" "java/util/SequencedSet") ∈ lw_tbl := lw_at lw_m16 52 rfl
theorem q3780 : (Jvm.Cond.castable "java/util/LinkedHashMap$LinkedKeySet" "java/lang/Object") ∈ lw_tbl := lw_at lw_m16 87 rfl
theorem in_J35 : ∀ w ∈ wsJ350, w ∈ lw_all := lw_in wsJ350 [1412, 1414] (by decide +kernel) (by decide +kernel)
/-! java/util/HashMap$HashIterator -/
set_option maxRecDepth 100000
def RJ36 : String := "java/util/HashMap$HashIterator"
abbrev cJ36_init : ByteArray := prog_64_method_1_code
def yJ36_init : MethodName := ⟨RJ36, "<init>", "(Ljava/util/HashMap;)V"⟩
def dkwJ36_init_3 : List UInt8 := [181, 0, 26, 198, 255, 229, 177]
abbrev dktJ36_init_3 : List UInt8 := dkwJ36_init_3 ++ []
def dkwJ36_init_2 : List UInt8 := [42, 180, 0, 33, 44, 190, 162, 0, 24, 42, 44, 42, 89, 180, 0, 33, 90, 4, 96, 181, 0, 33, 50, 90]
abbrev dktJ36_init_2 : List UInt8 := dkwJ36_init_2 ++ dktJ36_init_3
def dkwJ36_init_1 : List UInt8 := [1, 90, 181, 0, 26, 181, 0, 30, 42, 3, 181, 0, 33, 44, 198, 0, 40, 43, 180, 0, 36, 158, 0, 33]
abbrev dktJ36_init_1 : List UInt8 := dkwJ36_init_1 ++ dktJ36_init_2
def dkwJ36_init_0 : List UInt8 := [42, 43, 181, 0, 1, 42, 183, 0, 7, 42, 43, 180, 0, 13, 181, 0, 19, 43, 180, 0, 22, 77, 42, 42]
abbrev dktJ36_init_0 : List UInt8 := dkwJ36_init_0 ++ dktJ36_init_1
theorem dksJ36_init_0 : cJ36_init.data.toList.drop 0 = dktJ36_init_0 := by decide +kernel
theorem dksJ36_init_1 : cJ36_init.data.toList.drop 24 = dktJ36_init_1 := dk_seg dksJ36_init_0 24 rfl rfl
theorem dksJ36_init_2 : cJ36_init.data.toList.drop 48 = dktJ36_init_2 := dk_seg dksJ36_init_1 24 rfl rfl
theorem dksJ36_init_3 : cJ36_init.data.toList.drop 72 = dktJ36_init_3 := dk_seg dksJ36_init_2 24 rfl rfl
theorem dJ36_init_0 : decode cJ36_init 0 = .ok (.aload_n 0, 1) := dk_42 (dk_at dksJ36_init_0 0 rfl rfl)
theorem dJ36_init_1 : decode cJ36_init 1 = .ok (.aload_n 1, 1) := dk_43 (dk_at dksJ36_init_0 1 rfl rfl)
theorem dJ36_init_2 : decode cJ36_init 2 = .ok (.putfield 1, 3) := dk_181 0 1 (dk_at dksJ36_init_0 2 rfl rfl)
theorem dJ36_init_5 : decode cJ36_init 5 = .ok (.aload_n 0, 1) := dk_42 (dk_at dksJ36_init_0 5 rfl rfl)
theorem dJ36_init_6 : decode cJ36_init 6 = .ok (.invokespecial 7, 3) := dk_183 0 7 (dk_at dksJ36_init_0 6 rfl rfl)
theorem dJ36_init_9 : decode cJ36_init 9 = .ok (.aload_n 0, 1) := dk_42 (dk_at dksJ36_init_0 9 rfl rfl)
theorem dJ36_init_10 : decode cJ36_init 10 = .ok (.aload_n 1, 1) := dk_43 (dk_at dksJ36_init_0 10 rfl rfl)
theorem dJ36_init_11 : decode cJ36_init 11 = .ok (.getfield 13, 3) := dk_180 0 13 (dk_at dksJ36_init_0 11 rfl rfl)
theorem dJ36_init_14 : decode cJ36_init 14 = .ok (.putfield 19, 3) := dk_181 0 19 (dk_at dksJ36_init_0 14 rfl rfl)
theorem dJ36_init_17 : decode cJ36_init 17 = .ok (.aload_n 1, 1) := dk_43 (dk_at dksJ36_init_0 17 rfl rfl)
theorem dJ36_init_18 : decode cJ36_init 18 = .ok (.getfield 22, 3) := dk_180 0 22 (dk_at dksJ36_init_0 18 rfl rfl)
theorem dJ36_init_21 : decode cJ36_init 21 = .ok (.astore_n 2, 1) := dk_77 (dk_at dksJ36_init_0 21 rfl rfl)
theorem dJ36_init_22 : decode cJ36_init 22 = .ok (.aload_n 0, 1) := dk_42 (dk_at dksJ36_init_0 22 rfl rfl)
theorem dJ36_init_23 : decode cJ36_init 23 = .ok (.aload_n 0, 1) := dk_42 (dk_at dksJ36_init_0 23 rfl rfl)
theorem dJ36_init_24 : decode cJ36_init 24 = .ok (.aconst_null, 1) := dk_1 (dk_at dksJ36_init_1 0 rfl rfl)
theorem dJ36_init_25 : decode cJ36_init 25 = .ok (.dup_x1, 1) := dk_90 (dk_at dksJ36_init_1 1 rfl rfl)
theorem dJ36_init_26 : decode cJ36_init 26 = .ok (.putfield 26, 3) := dk_181 0 26 (dk_at dksJ36_init_1 2 rfl rfl)
theorem dJ36_init_29 : decode cJ36_init 29 = .ok (.putfield 30, 3) := dk_181 0 30 (dk_at dksJ36_init_1 5 rfl rfl)
theorem dJ36_init_32 : decode cJ36_init 32 = .ok (.aload_n 0, 1) := dk_42 (dk_at dksJ36_init_1 8 rfl rfl)
theorem dJ36_init_33 : decode cJ36_init 33 = .ok (.iconst 0, 1) := dk_3 (dk_at dksJ36_init_1 9 rfl rfl)
theorem dJ36_init_34 : decode cJ36_init 34 = .ok (.putfield 33, 3) := dk_181 0 33 (dk_at dksJ36_init_1 10 rfl rfl)
theorem dJ36_init_37 : decode cJ36_init 37 = .ok (.aload_n 2, 1) := dk_44 (dk_at dksJ36_init_1 13 rfl rfl)
theorem dJ36_init_38 : decode cJ36_init 38 = .ok (.ifnull 40, 3) := dk_198 0 40 (dk_at dksJ36_init_1 14 rfl rfl)
theorem dJ36_init_41 : decode cJ36_init 41 = .ok (.aload_n 1, 1) := dk_43 (dk_at dksJ36_init_1 17 rfl rfl)
theorem dJ36_init_42 : decode cJ36_init 42 = .ok (.getfield 36, 3) := dk_180 0 36 (dk_at dksJ36_init_1 18 rfl rfl)
theorem dJ36_init_45 : decode cJ36_init 45 = .ok (.ifCond .le 33, 3) := dk_158 0 33 (dk_at dksJ36_init_1 21 rfl rfl)
theorem dJ36_init_48 : decode cJ36_init 48 = .ok (.aload_n 0, 1) := dk_42 (dk_at dksJ36_init_2 0 rfl rfl)
theorem dJ36_init_49 : decode cJ36_init 49 = .ok (.getfield 33, 3) := dk_180 0 33 (dk_at dksJ36_init_2 1 rfl rfl)
theorem dJ36_init_52 : decode cJ36_init 52 = .ok (.aload_n 2, 1) := dk_44 (dk_at dksJ36_init_2 4 rfl rfl)
theorem dJ36_init_53 : decode cJ36_init 53 = .ok (.arraylength, 1) := dk_190 (dk_at dksJ36_init_2 5 rfl rfl)
theorem dJ36_init_54 : decode cJ36_init 54 = .ok (.if_icmp .ge 24, 3) := dk_162 0 24 (dk_at dksJ36_init_2 6 rfl rfl)
theorem dJ36_init_57 : decode cJ36_init 57 = .ok (.aload_n 0, 1) := dk_42 (dk_at dksJ36_init_2 9 rfl rfl)
theorem dJ36_init_58 : decode cJ36_init 58 = .ok (.aload_n 2, 1) := dk_44 (dk_at dksJ36_init_2 10 rfl rfl)
theorem dJ36_init_59 : decode cJ36_init 59 = .ok (.aload_n 0, 1) := dk_42 (dk_at dksJ36_init_2 11 rfl rfl)
theorem dJ36_init_60 : decode cJ36_init 60 = .ok (.dup, 1) := dk_89 (dk_at dksJ36_init_2 12 rfl rfl)
theorem dJ36_init_61 : decode cJ36_init 61 = .ok (.getfield 33, 3) := dk_180 0 33 (dk_at dksJ36_init_2 13 rfl rfl)
theorem dJ36_init_64 : decode cJ36_init 64 = .ok (.dup_x1, 1) := dk_90 (dk_at dksJ36_init_2 16 rfl rfl)
theorem dJ36_init_65 : decode cJ36_init 65 = .ok (.iconst 1, 1) := dk_4 (dk_at dksJ36_init_2 17 rfl rfl)
theorem dJ36_init_66 : decode cJ36_init 66 = .ok (.iadd, 1) := dk_96 (dk_at dksJ36_init_2 18 rfl rfl)
theorem dJ36_init_67 : decode cJ36_init 67 = .ok (.putfield 33, 3) := dk_181 0 33 (dk_at dksJ36_init_2 19 rfl rfl)
theorem dJ36_init_70 : decode cJ36_init 70 = .ok (.aaload, 1) := dk_50 (dk_at dksJ36_init_2 22 rfl rfl)
theorem dJ36_init_71 : decode cJ36_init 71 = .ok (.dup_x1, 1) := dk_90 (dk_at dksJ36_init_2 23 rfl rfl)
theorem dJ36_init_72 : decode cJ36_init 72 = .ok (.putfield 26, 3) := dk_181 0 26 (dk_at dksJ36_init_3 0 rfl rfl)
theorem dJ36_init_75 : decode cJ36_init 75 = .ok (.ifnull (-27), 3) := dk_198 255 229 (dk_at dksJ36_init_3 3 rfl rfl)
theorem dJ36_init_78 : decode cJ36_init 78 = .ok (.return_, 1) := dk_177 (dk_at dksJ36_init_3 6 rfl rfl)
abbrev cJ36_hasNext : ByteArray := prog_64_method_2_code
def yJ36_hasNext : MethodName := ⟨RJ36, "hasNext", "()Z"⟩
def dkwJ36_hasNext_0 : List UInt8 := [42, 180, 0, 26, 198, 0, 7, 4, 167, 0, 4, 3, 172]
abbrev dktJ36_hasNext_0 : List UInt8 := dkwJ36_hasNext_0 ++ []
theorem dksJ36_hasNext_0 : cJ36_hasNext.data.toList.drop 0 = dktJ36_hasNext_0 := by decide +kernel
theorem dJ36_hasNext_0 : decode cJ36_hasNext 0 = .ok (.aload_n 0, 1) := dk_42 (dk_at dksJ36_hasNext_0 0 rfl rfl)
theorem dJ36_hasNext_1 : decode cJ36_hasNext 1 = .ok (.getfield 26, 3) := dk_180 0 26 (dk_at dksJ36_hasNext_0 1 rfl rfl)
theorem dJ36_hasNext_4 : decode cJ36_hasNext 4 = .ok (.ifnull 7, 3) := dk_198 0 7 (dk_at dksJ36_hasNext_0 4 rfl rfl)
theorem dJ36_hasNext_7 : decode cJ36_hasNext 7 = .ok (.iconst 1, 1) := dk_4 (dk_at dksJ36_hasNext_0 7 rfl rfl)
theorem dJ36_hasNext_8 : decode cJ36_hasNext 8 = .ok (.goto 4, 3) := dk_167 0 4 (dk_at dksJ36_hasNext_0 8 rfl rfl)
theorem dJ36_hasNext_11 : decode cJ36_hasNext 11 = .ok (.iconst 0, 1) := dk_3 (dk_at dksJ36_hasNext_0 11 rfl rfl)
theorem dJ36_hasNext_12 : decode cJ36_hasNext 12 = .ok (.ireturn, 1) := dk_172 (dk_at dksJ36_hasNext_0 12 rfl rfl)
abbrev cJ36_nextNode : ByteArray := prog_64_method_3_code
def yJ36_nextNode : MethodName := ⟨RJ36, "nextNode", "()Ljava/util/HashMap$Node;"⟩
def dkwJ36_nextNode_4 : List UInt8 := [181, 0, 26, 198, 255, 229, 44, 176]
abbrev dktJ36_nextNode_4 : List UInt8 := dkwJ36_nextNode_4 ++ []
def dkwJ36_nextNode_3 : List UInt8 := [180, 0, 33, 43, 190, 162, 0, 24, 42, 43, 42, 89, 180, 0, 33, 90, 4, 96, 181, 0, 33, 50, 90]
abbrev dktJ36_nextNode_3 : List UInt8 := dkwJ36_nextNode_3 ++ dktJ36_nextNode_4
def dkwJ36_nextNode_2 : List UInt8 := [180, 0, 45, 90, 181, 0, 26, 199, 0, 45, 42, 180, 0, 1, 180, 0, 22, 89, 76, 198, 0, 33, 42]
abbrev dktJ36_nextNode_2 : List UInt8 := dkwJ36_nextNode_2 ++ dktJ36_nextNode_3
def dkwJ36_nextNode_1 : List UInt8 := [183, 0, 41, 191, 44, 199, 0, 11, 187, 0, 42, 89, 183, 0, 44, 191, 42, 42, 44, 90, 181, 0, 30]
abbrev dktJ36_nextNode_1 : List UInt8 := dkwJ36_nextNode_1 ++ dktJ36_nextNode_2
def dkwJ36_nextNode_0 : List UInt8 := [42, 180, 0, 26, 77, 42, 180, 0, 1, 180, 0, 13, 42, 180, 0, 19, 159, 0, 11, 187, 0, 39, 89]
abbrev dktJ36_nextNode_0 : List UInt8 := dkwJ36_nextNode_0 ++ dktJ36_nextNode_1
theorem dksJ36_nextNode_0 : cJ36_nextNode.data.toList.drop 0 = dktJ36_nextNode_0 := by decide +kernel
theorem dksJ36_nextNode_1 : cJ36_nextNode.data.toList.drop 23 = dktJ36_nextNode_1 := dk_seg dksJ36_nextNode_0 23 rfl rfl
theorem dksJ36_nextNode_2 : cJ36_nextNode.data.toList.drop 46 = dktJ36_nextNode_2 := dk_seg dksJ36_nextNode_1 23 rfl rfl
theorem dksJ36_nextNode_3 : cJ36_nextNode.data.toList.drop 69 = dktJ36_nextNode_3 := dk_seg dksJ36_nextNode_2 23 rfl rfl
theorem dksJ36_nextNode_4 : cJ36_nextNode.data.toList.drop 92 = dktJ36_nextNode_4 := dk_seg dksJ36_nextNode_3 23 rfl rfl
theorem dJ36_nextNode_0 : decode cJ36_nextNode 0 = .ok (.aload_n 0, 1) := dk_42 (dk_at dksJ36_nextNode_0 0 rfl rfl)
theorem dJ36_nextNode_1 : decode cJ36_nextNode 1 = .ok (.getfield 26, 3) := dk_180 0 26 (dk_at dksJ36_nextNode_0 1 rfl rfl)
theorem dJ36_nextNode_4 : decode cJ36_nextNode 4 = .ok (.astore_n 2, 1) := dk_77 (dk_at dksJ36_nextNode_0 4 rfl rfl)
theorem dJ36_nextNode_5 : decode cJ36_nextNode 5 = .ok (.aload_n 0, 1) := dk_42 (dk_at dksJ36_nextNode_0 5 rfl rfl)
theorem dJ36_nextNode_6 : decode cJ36_nextNode 6 = .ok (.getfield 1, 3) := dk_180 0 1 (dk_at dksJ36_nextNode_0 6 rfl rfl)
theorem dJ36_nextNode_9 : decode cJ36_nextNode 9 = .ok (.getfield 13, 3) := dk_180 0 13 (dk_at dksJ36_nextNode_0 9 rfl rfl)
theorem dJ36_nextNode_12 : decode cJ36_nextNode 12 = .ok (.aload_n 0, 1) := dk_42 (dk_at dksJ36_nextNode_0 12 rfl rfl)
theorem dJ36_nextNode_13 : decode cJ36_nextNode 13 = .ok (.getfield 19, 3) := dk_180 0 19 (dk_at dksJ36_nextNode_0 13 rfl rfl)
theorem dJ36_nextNode_16 : decode cJ36_nextNode 16 = .ok (.if_icmp .eq 11, 3) := dk_159 0 11 (dk_at dksJ36_nextNode_0 16 rfl rfl)
theorem dJ36_nextNode_19 : decode cJ36_nextNode 19 = .ok (.new 39, 3) := dk_187 0 39 (dk_at dksJ36_nextNode_0 19 rfl rfl)
theorem dJ36_nextNode_22 : decode cJ36_nextNode 22 = .ok (.dup, 1) := dk_89 (dk_at dksJ36_nextNode_0 22 rfl rfl)
theorem dJ36_nextNode_23 : decode cJ36_nextNode 23 = .ok (.invokespecial 41, 3) := dk_183 0 41 (dk_at dksJ36_nextNode_1 0 rfl rfl)
theorem dJ36_nextNode_26 : decode cJ36_nextNode 26 = .ok (.athrow, 1) := dk_191 (dk_at dksJ36_nextNode_1 3 rfl rfl)
theorem dJ36_nextNode_27 : decode cJ36_nextNode 27 = .ok (.aload_n 2, 1) := dk_44 (dk_at dksJ36_nextNode_1 4 rfl rfl)
theorem dJ36_nextNode_28 : decode cJ36_nextNode 28 = .ok (.ifnonnull 11, 3) := dk_199 0 11 (dk_at dksJ36_nextNode_1 5 rfl rfl)
theorem dJ36_nextNode_31 : decode cJ36_nextNode 31 = .ok (.new 42, 3) := dk_187 0 42 (dk_at dksJ36_nextNode_1 8 rfl rfl)
theorem dJ36_nextNode_34 : decode cJ36_nextNode 34 = .ok (.dup, 1) := dk_89 (dk_at dksJ36_nextNode_1 11 rfl rfl)
theorem dJ36_nextNode_35 : decode cJ36_nextNode 35 = .ok (.invokespecial 44, 3) := dk_183 0 44 (dk_at dksJ36_nextNode_1 12 rfl rfl)
theorem dJ36_nextNode_38 : decode cJ36_nextNode 38 = .ok (.athrow, 1) := dk_191 (dk_at dksJ36_nextNode_1 15 rfl rfl)
theorem dJ36_nextNode_39 : decode cJ36_nextNode 39 = .ok (.aload_n 0, 1) := dk_42 (dk_at dksJ36_nextNode_1 16 rfl rfl)
theorem dJ36_nextNode_40 : decode cJ36_nextNode 40 = .ok (.aload_n 0, 1) := dk_42 (dk_at dksJ36_nextNode_1 17 rfl rfl)
theorem dJ36_nextNode_41 : decode cJ36_nextNode 41 = .ok (.aload_n 2, 1) := dk_44 (dk_at dksJ36_nextNode_1 18 rfl rfl)
theorem dJ36_nextNode_42 : decode cJ36_nextNode 42 = .ok (.dup_x1, 1) := dk_90 (dk_at dksJ36_nextNode_1 19 rfl rfl)
theorem dJ36_nextNode_43 : decode cJ36_nextNode 43 = .ok (.putfield 30, 3) := dk_181 0 30 (dk_at dksJ36_nextNode_1 20 rfl rfl)
theorem dJ36_nextNode_46 : decode cJ36_nextNode 46 = .ok (.getfield 45, 3) := dk_180 0 45 (dk_at dksJ36_nextNode_2 0 rfl rfl)
theorem dJ36_nextNode_49 : decode cJ36_nextNode 49 = .ok (.dup_x1, 1) := dk_90 (dk_at dksJ36_nextNode_2 3 rfl rfl)
theorem dJ36_nextNode_50 : decode cJ36_nextNode 50 = .ok (.putfield 26, 3) := dk_181 0 26 (dk_at dksJ36_nextNode_2 4 rfl rfl)
theorem dJ36_nextNode_53 : decode cJ36_nextNode 53 = .ok (.ifnonnull 45, 3) := dk_199 0 45 (dk_at dksJ36_nextNode_2 7 rfl rfl)
theorem dJ36_nextNode_56 : decode cJ36_nextNode 56 = .ok (.aload_n 0, 1) := dk_42 (dk_at dksJ36_nextNode_2 10 rfl rfl)
theorem dJ36_nextNode_57 : decode cJ36_nextNode 57 = .ok (.getfield 1, 3) := dk_180 0 1 (dk_at dksJ36_nextNode_2 11 rfl rfl)
theorem dJ36_nextNode_60 : decode cJ36_nextNode 60 = .ok (.getfield 22, 3) := dk_180 0 22 (dk_at dksJ36_nextNode_2 14 rfl rfl)
theorem dJ36_nextNode_63 : decode cJ36_nextNode 63 = .ok (.dup, 1) := dk_89 (dk_at dksJ36_nextNode_2 17 rfl rfl)
theorem dJ36_nextNode_64 : decode cJ36_nextNode 64 = .ok (.astore_n 1, 1) := dk_76 (dk_at dksJ36_nextNode_2 18 rfl rfl)
theorem dJ36_nextNode_65 : decode cJ36_nextNode 65 = .ok (.ifnull 33, 3) := dk_198 0 33 (dk_at dksJ36_nextNode_2 19 rfl rfl)
theorem dJ36_nextNode_68 : decode cJ36_nextNode 68 = .ok (.aload_n 0, 1) := dk_42 (dk_at dksJ36_nextNode_2 22 rfl rfl)
theorem dJ36_nextNode_69 : decode cJ36_nextNode 69 = .ok (.getfield 33, 3) := dk_180 0 33 (dk_at dksJ36_nextNode_3 0 rfl rfl)
theorem dJ36_nextNode_72 : decode cJ36_nextNode 72 = .ok (.aload_n 1, 1) := dk_43 (dk_at dksJ36_nextNode_3 3 rfl rfl)
theorem dJ36_nextNode_73 : decode cJ36_nextNode 73 = .ok (.arraylength, 1) := dk_190 (dk_at dksJ36_nextNode_3 4 rfl rfl)
theorem dJ36_nextNode_74 : decode cJ36_nextNode 74 = .ok (.if_icmp .ge 24, 3) := dk_162 0 24 (dk_at dksJ36_nextNode_3 5 rfl rfl)
theorem dJ36_nextNode_77 : decode cJ36_nextNode 77 = .ok (.aload_n 0, 1) := dk_42 (dk_at dksJ36_nextNode_3 8 rfl rfl)
theorem dJ36_nextNode_78 : decode cJ36_nextNode 78 = .ok (.aload_n 1, 1) := dk_43 (dk_at dksJ36_nextNode_3 9 rfl rfl)
theorem dJ36_nextNode_79 : decode cJ36_nextNode 79 = .ok (.aload_n 0, 1) := dk_42 (dk_at dksJ36_nextNode_3 10 rfl rfl)
theorem dJ36_nextNode_80 : decode cJ36_nextNode 80 = .ok (.dup, 1) := dk_89 (dk_at dksJ36_nextNode_3 11 rfl rfl)
theorem dJ36_nextNode_81 : decode cJ36_nextNode 81 = .ok (.getfield 33, 3) := dk_180 0 33 (dk_at dksJ36_nextNode_3 12 rfl rfl)
theorem dJ36_nextNode_84 : decode cJ36_nextNode 84 = .ok (.dup_x1, 1) := dk_90 (dk_at dksJ36_nextNode_3 15 rfl rfl)
theorem dJ36_nextNode_85 : decode cJ36_nextNode 85 = .ok (.iconst 1, 1) := dk_4 (dk_at dksJ36_nextNode_3 16 rfl rfl)
theorem dJ36_nextNode_86 : decode cJ36_nextNode 86 = .ok (.iadd, 1) := dk_96 (dk_at dksJ36_nextNode_3 17 rfl rfl)
theorem dJ36_nextNode_87 : decode cJ36_nextNode 87 = .ok (.putfield 33, 3) := dk_181 0 33 (dk_at dksJ36_nextNode_3 18 rfl rfl)
theorem dJ36_nextNode_90 : decode cJ36_nextNode 90 = .ok (.aaload, 1) := dk_50 (dk_at dksJ36_nextNode_3 21 rfl rfl)
theorem dJ36_nextNode_91 : decode cJ36_nextNode 91 = .ok (.dup_x1, 1) := dk_90 (dk_at dksJ36_nextNode_3 22 rfl rfl)
theorem dJ36_nextNode_92 : decode cJ36_nextNode 92 = .ok (.putfield 26, 3) := dk_181 0 26 (dk_at dksJ36_nextNode_4 0 rfl rfl)
theorem dJ36_nextNode_95 : decode cJ36_nextNode 95 = .ok (.ifnull (-27), 3) := dk_198 255 229 (dk_at dksJ36_nextNode_4 3 rfl rfl)
theorem dJ36_nextNode_98 : decode cJ36_nextNode 98 = .ok (.aload_n 2, 1) := dk_44 (dk_at dksJ36_nextNode_4 6 rfl rfl)
theorem dJ36_nextNode_99 : decode cJ36_nextNode 99 = .ok (.areturn, 1) := dk_176 (dk_at dksJ36_nextNode_4 7 rfl rfl)
theorem q136 : (Jvm.Cond.initialized "java/util/HashMap$HashIterator") ∈ lw_all := lw_g (lw_at lw_m1 43 rfl) rfl
theorem q1044 : (Jvm.Cond.fieldLink "java/util/HashMap$HashIterator" (22 : Nat) "java/util/HashMap" "table" "[Ljava/util/HashMap$Node;") ∈ lw_all := lw_g (lw_at lw_m4 231 rfl) rfl
theorem q1046 : (Jvm.Cond.fieldLink "java/util/HashMap$HashIterator" (36 : Nat) "java/util/HashMap" "size" "I") ∈ lw_all := lw_g (lw_at lw_m4 233 rfl) rfl
theorem q1048 : (Jvm.Cond.fieldLink "java/util/HashMap$HashIterator" (13 : Nat) "java/util/HashMap" "modCount" "I") ∈ lw_all := lw_g (lw_at lw_m4 235 rfl) rfl
theorem q1435 : (Jvm.Cond.instanceMethod ({ cls := "java/util/HashMap$HashIterator", name := "<init>", desc := "(Ljava/util/HashMap;)V" } : Jvm.MethodName)) ∈ lw_all := lw_g (lw_at lw_m6 142 rfl) rfl
theorem q1436 : (Jvm.Cond.code ({ cls := "java/util/HashMap$HashIterator", name := "<init>", desc := "(Ljava/util/HashMap;)V" } : Jvm.MethodName) prog_64_method_1_code (3 : Nat) (Option.none : Option Jvm.ClassFile.FieldType)) ∈ lw_all := lw_g (lw_at lw_m6 143 rfl) rfl
theorem q1437 : (Jvm.Cond.methodLink "java/util/HashMap$HashIterator" (7 : Nat) ({ cls := "java/lang/Object", name := "<init>", desc := "()V" } : Jvm.MethodName)) ∈ lw_all := lw_g (lw_at lw_m6 144 rfl) rfl
theorem q1438 : (Jvm.Cond.fieldLink "java/util/HashMap$HashIterator" (26 : Nat) "java/util/HashMap$HashIterator" "next" "Ljava/util/HashMap$Node;") ∈ lw_all := lw_g (lw_at lw_m6 145 rfl) rfl
theorem q1439 : (Jvm.Cond.fieldLink "java/util/HashMap$HashIterator" (30 : Nat) "java/util/HashMap$HashIterator" "current" "Ljava/util/HashMap$Node;") ∈ lw_all := lw_g (lw_at lw_m6 146 rfl) rfl
theorem q1440 : (Jvm.Cond.fieldLink "java/util/HashMap$HashIterator" (19 : Nat) "java/util/HashMap$HashIterator" "expectedModCount" "I") ∈ lw_all := lw_g (lw_at lw_m6 147 rfl) rfl
theorem q1441 : (Jvm.Cond.fieldLink "java/util/HashMap$HashIterator" (33 : Nat) "java/util/HashMap$HashIterator" "index" "I") ∈ lw_all := lw_g (lw_at lw_m6 148 rfl) rfl
theorem q1442 : (Jvm.Cond.fieldLink "java/util/HashMap$HashIterator" (1 : Nat) "java/util/HashMap$HashIterator" "this$0" "Ljava/util/HashMap;") ∈ lw_all := lw_g (lw_at lw_m6 149 rfl) rfl
theorem q1444 : (Jvm.Cond.soleField "java/util/HashMap$HashIterator" "next") ∈ lw_all := lw_g (lw_at lw_m6 151 rfl) rfl
theorem q1446 : (Jvm.Cond.soleField "java/util/HashMap$HashIterator" "current") ∈ lw_all := lw_g (lw_at lw_m6 153 rfl) rfl
theorem q1448 : (Jvm.Cond.soleField "java/util/HashMap$HashIterator" "expectedModCount") ∈ lw_all := lw_g (lw_at lw_m6 155 rfl) rfl
theorem q1450 : (Jvm.Cond.soleField "java/util/HashMap$HashIterator" "index") ∈ lw_all := lw_g (lw_at lw_m6 157 rfl) rfl
theorem q1452 : (Jvm.Cond.soleField "java/util/HashMap$HashIterator" "this$0") ∈ lw_all := lw_g (lw_at lw_m6 159 rfl) rfl
theorem q1514 : (Jvm.Cond.instanceMethod ({ cls := "java/util/HashMap$HashIterator", name := "hasNext", desc := "()Z" } : Jvm.MethodName)) ∈ lw_all := lw_g (lw_at lw_m6 221 rfl) rfl
theorem q1515 : (Jvm.Cond.publicMethod ({ cls := "java/util/HashMap$HashIterator", name := "hasNext", desc := "()Z" } : Jvm.MethodName)) ∈ lw_tbl := lw_at lw_m6 222 rfl
theorem q1516 : (Jvm.Cond.code ({ cls := "java/util/HashMap$HashIterator", name := "hasNext", desc := "()Z" } : Jvm.MethodName) prog_64_method_2_code (1 : Nat) (Option.some Jvm.ClassFile.FieldType.boolean)) ∈ lw_all := lw_g (lw_at lw_m6 223 rfl) rfl
theorem q1589 : (Jvm.Cond.declares ({ cls := "java/util/HashMap$HashIterator", name := "nextNode", desc := "()Ljava/util/HashMap$Node;" } : Jvm.MethodName)) ∈ lw_tbl := lw_at lw_m7 56 rfl
theorem q1591 : (Jvm.Cond.instanceMethod ({ cls := "java/util/HashMap$HashIterator", name := "nextNode", desc := "()Ljava/util/HashMap$Node;" } : Jvm.MethodName)) ∈ lw_all := lw_g (lw_at lw_m7 58 rfl) rfl
theorem q1592 : (Jvm.Cond.code ({ cls := "java/util/HashMap$HashIterator", name := "nextNode", desc := "()Ljava/util/HashMap$Node;" } : Jvm.MethodName) prog_64_method_3_code (3 : Nat) (Option.some (Jvm.ClassFile.FieldType.object "java/util/HashMap$Node"))) ∈ lw_all := lw_g (lw_at lw_m7 59 rfl) rfl
theorem q1593 : (Jvm.Cond.classLink "java/util/HashMap$HashIterator" (42 : Nat) "java/util/NoSuchElementException") ∈ lw_all := lw_g (lw_at lw_m7 60 rfl) rfl
theorem q1594 : (Jvm.Cond.methodLink "java/util/HashMap$HashIterator" (44 : Nat) ({ cls := "java/util/NoSuchElementException", name := "<init>", desc := "()V" } : Jvm.MethodName)) ∈ lw_all := lw_g (lw_at lw_m7 61 rfl) rfl
theorem q1803 : (Jvm.Cond.fieldLink "java/util/HashMap$HashIterator" (45 : Nat) "java/util/HashMap$Node" "next" "Ljava/util/HashMap$Node;") ∈ lw_all := lw_g (lw_at lw_m8 30 rfl) rfl
/-! java/util/HashMap$KeyIterator -/
set_option maxRecDepth 100000
def RJ37 : String := "java/util/HashMap$KeyIterator"
def TJ37 : u_T := fun k => match k with
  | 0 => ("java/util/HashMap$HashIterator", "next", "Ljava/util/HashMap$Node;", false)
  | 1 => ("java/util/HashMap$HashIterator", "current", "Ljava/util/HashMap$Node;", false)
  | 2 => ("java/util/HashMap$HashIterator", "expectedModCount", "I", false)
  | 3 => ("java/util/HashMap$HashIterator", "index", "I", false)
  | _ => ("java/util/HashMap$HashIterator", "this$0", "Ljava/util/HashMap;", true)
def tyJ37 : Nat → FieldType := fun k => match k with
  | 0 => .object "java/util/HashMap$Node"
  | 1 => .object "java/util/HashMap$Node"
  | 2 => .int
  | 3 => .int
  | _ => .object "java/util/HashMap"
abbrev wsJ370 : List Cond := u_ws RJ37 TJ37 5
theorem nmJ37 : ∀ a, a < 5 → ∀ b, b < 5 → a ≠ b → (TJ37 a).2.1 ≠ (TJ37 b).2.1 := by decide +kernel
theorem tyJ37_ok : ∀ k, k < 5 → parseFieldDescriptor (TJ37 k).2.2.1 = some (tyJ37 k) := by decide +kernel
abbrev cJ37_init : ByteArray := prog_65_method_1_code
def yJ37_init : MethodName := ⟨RJ37, "<init>", "(Ljava/util/HashMap;)V"⟩
def dkwJ37_init_0 : List UInt8 := [42, 43, 183, 0, 1, 177]
abbrev dktJ37_init_0 : List UInt8 := dkwJ37_init_0 ++ []
theorem dksJ37_init_0 : cJ37_init.data.toList.drop 0 = dktJ37_init_0 := by decide +kernel
theorem dJ37_init_0 : decode cJ37_init 0 = .ok (.aload_n 0, 1) := dk_42 (dk_at dksJ37_init_0 0 rfl rfl)
theorem dJ37_init_1 : decode cJ37_init 1 = .ok (.aload_n 1, 1) := dk_43 (dk_at dksJ37_init_0 1 rfl rfl)
theorem dJ37_init_2 : decode cJ37_init 2 = .ok (.invokespecial 1, 3) := dk_183 0 1 (dk_at dksJ37_init_0 2 rfl rfl)
theorem dJ37_init_5 : decode cJ37_init 5 = .ok (.return_, 1) := dk_177 (dk_at dksJ37_init_0 5 rfl rfl)
abbrev cJ37_next : ByteArray := prog_65_method_2_code
def yJ37_next : MethodName := ⟨RJ37, "next", "()Ljava/lang/Object;"⟩
def dkwJ37_next_0 : List UInt8 := [42, 182, 0, 7, 180, 0, 13, 176]
abbrev dktJ37_next_0 : List UInt8 := dkwJ37_next_0 ++ []
theorem dksJ37_next_0 : cJ37_next.data.toList.drop 0 = dktJ37_next_0 := by decide +kernel
theorem dJ37_next_0 : decode cJ37_next 0 = .ok (.aload_n 0, 1) := dk_42 (dk_at dksJ37_next_0 0 rfl rfl)
theorem dJ37_next_1 : decode cJ37_next 1 = .ok (.invokevirtual 7, 3) := dk_182 0 7 (dk_at dksJ37_next_0 1 rfl rfl)
theorem dJ37_next_4 : decode cJ37_next 4 = .ok (.getfield 13, 3) := dk_180 0 13 (dk_at dksJ37_next_0 4 rfl rfl)
theorem dJ37_next_7 : decode cJ37_next 7 = .ok (.areturn, 1) := dk_176 (dk_at dksJ37_next_0 7 rfl rfl)
theorem q137 : (Jvm.Cond.initialized "java/util/HashMap$KeyIterator") ∈ lw_all := lw_g (lw_at lw_m1 44 rfl) rfl
theorem q909 : (Jvm.Cond.selects "java/util/HashMap$KeyIterator" ({ cls := "java/lang/Object", name := "getClass", desc := "()Ljava/lang/Class;" } : Jvm.MethodName) ({ cls := "java/lang/Object", name := "getClass", desc := "()Ljava/lang/Class;" } : Jvm.MethodName)) ∈ lw_all := lw_g (lw_at lw_m4 96 rfl) rfl
theorem q1430 : (Jvm.Cond.instantiable "java/util/HashMap$KeyIterator" (5 : Nat)) ∈ lw_all := lw_g (lw_at lw_m6 137 rfl) rfl
theorem q1432 : (Jvm.Cond.instanceMethod ({ cls := "java/util/HashMap$KeyIterator", name := "<init>", desc := "(Ljava/util/HashMap;)V" } : Jvm.MethodName)) ∈ lw_all := lw_g (lw_at lw_m6 139 rfl) rfl
theorem q1433 : (Jvm.Cond.code ({ cls := "java/util/HashMap$KeyIterator", name := "<init>", desc := "(Ljava/util/HashMap;)V" } : Jvm.MethodName) prog_65_method_1_code (2 : Nat) (Option.none : Option Jvm.ClassFile.FieldType)) ∈ lw_all := lw_g (lw_at lw_m6 140 rfl) rfl
theorem q1434 : (Jvm.Cond.methodLink "java/util/HashMap$KeyIterator" (1 : Nat) ({ cls := "java/util/HashMap$HashIterator", name := "<init>", desc := "(Ljava/util/HashMap;)V" } : Jvm.MethodName)) ∈ lw_all := lw_g (lw_at lw_m6 141 rfl) rfl
theorem q1443 : (Jvm.Cond.lays "java/util/HashMap$KeyIterator" "java/util/HashMap$HashIterator" "next" "Ljava/util/HashMap$Node;") ∈ lw_all := lw_g (lw_at lw_m6 150 rfl) rfl
theorem q1445 : (Jvm.Cond.lays "java/util/HashMap$KeyIterator" "java/util/HashMap$HashIterator" "current" "Ljava/util/HashMap$Node;") ∈ lw_all := lw_g (lw_at lw_m6 152 rfl) rfl
theorem q1447 : (Jvm.Cond.lays "java/util/HashMap$KeyIterator" "java/util/HashMap$HashIterator" "expectedModCount" "I") ∈ lw_all := lw_g (lw_at lw_m6 154 rfl) rfl
theorem q1449 : (Jvm.Cond.lays "java/util/HashMap$KeyIterator" "java/util/HashMap$HashIterator" "index" "I") ∈ lw_all := lw_g (lw_at lw_m6 156 rfl) rfl
theorem q1451 : (Jvm.Cond.laysFinal "java/util/HashMap$KeyIterator" "java/util/HashMap$HashIterator" "this$0" "Ljava/util/HashMap;") ∈ lw_all := lw_g (lw_at lw_m6 158 rfl) rfl
theorem q1453 : (Jvm.Cond.superclass "java/util/HashMap$KeyIterator" "java/util/HashMap$HashIterator") ∈ lw_all := lw_g (lw_at lw_m6 160 rfl) rfl
theorem q1511 : (Jvm.Cond.castable "java/util/HashMap$KeyIterator" "java/util/Iterator") ∈ lw_tbl := lw_at lw_m6 218 rfl
theorem q1512 : (Jvm.Cond.selects "java/util/HashMap$KeyIterator" ({ cls := "java/util/Iterator", name := "hasNext", desc := "()Z" } : Jvm.MethodName) ({ cls := "java/util/HashMap$HashIterator", name := "hasNext", desc := "()Z" } : Jvm.MethodName)) ∈ lw_all := lw_g (lw_at lw_m6 219 rfl) rfl
theorem q1513 : (Jvm.Cond.unhidden "java/util/HashMap$KeyIterator" "hasNext" "()Z") ∈ lw_tbl := lw_at lw_m6 220 rfl
theorem q1582 : (Jvm.Cond.selects "java/util/HashMap$KeyIterator" ({ cls := "java/util/Iterator", name := "next", desc := "()Ljava/lang/Object;" } : Jvm.MethodName) ({ cls := "java/util/HashMap$KeyIterator", name := "next", desc := "()Ljava/lang/Object;" } : Jvm.MethodName)) ∈ lw_all := lw_g (lw_at lw_m7 49 rfl) rfl
theorem q1583 : (Jvm.Cond.unhidden "java/util/HashMap$KeyIterator" "next" "()Ljava/lang/Object;") ∈ lw_tbl := lw_at lw_m7 50 rfl
theorem q1584 : (Jvm.Cond.instanceMethod ({ cls := "java/util/HashMap$KeyIterator", name := "next", desc := "()Ljava/lang/Object;" } : Jvm.MethodName)) ∈ lw_all := lw_g (lw_at lw_m7 51 rfl) rfl
theorem q1585 : (Jvm.Cond.publicMethod ({ cls := "java/util/HashMap$KeyIterator", name := "next", desc := "()Ljava/lang/Object;" } : Jvm.MethodName)) ∈ lw_tbl := lw_at lw_m7 52 rfl
theorem q1586 : (Jvm.Cond.code ({ cls := "java/util/HashMap$KeyIterator", name := "next", desc := "()Ljava/lang/Object;" } : Jvm.MethodName) prog_65_method_2_code (1 : Nat) (Option.some (Jvm.ClassFile.FieldType.object "java/lang/Object"))) ∈ lw_all := lw_g (lw_at lw_m7 53 rfl) rfl
theorem q1587 : (Jvm.Cond.methodLink "java/util/HashMap$KeyIterator" (7 : Nat) ({ cls := "java/util/HashMap$KeyIterator", name := "nextNode", desc := "()Ljava/util/HashMap$Node;" } : Jvm.MethodName)) ∈ lw_all := lw_g (lw_at lw_m7 54 rfl) rfl
theorem q1588 : (Jvm.Cond.sameMethod "java/util/HashMap$KeyIterator" "java/util/HashMap$HashIterator" "nextNode" "()Ljava/util/HashMap$Node;") ∈ lw_all := lw_g (lw_at lw_m7 55 rfl) rfl
theorem q1590 : (Jvm.Cond.selects "java/util/HashMap$KeyIterator" ({ cls := "java/util/HashMap$KeyIterator", name := "nextNode", desc := "()Ljava/util/HashMap$Node;" } : Jvm.MethodName) ({ cls := "java/util/HashMap$HashIterator", name := "nextNode", desc := "()Ljava/util/HashMap$Node;" } : Jvm.MethodName)) ∈ lw_all := lw_g (lw_at lw_m7 57 rfl) rfl
theorem q1792 : (Jvm.Cond.fieldLink "java/util/HashMap$KeyIterator" (13 : Nat) "java/util/HashMap$Node" "key" "Ljava/lang/Object;") ∈ lw_all := lw_g (lw_at lw_m8 19 rfl) rfl
theorem q3781 : (Jvm.Cond.castable "java/util/HashMap$KeyIterator" "java/lang/Object") ∈ lw_tbl := lw_at lw_m16 88 rfl
theorem in_J37 : ∀ w ∈ wsJ370, w ∈ lw_all := lw_in wsJ370 [1443, 1445, 1447, 1449, 1451] (by decide +kernel) (by decide +kernel)
/-! java/util/LinkedHashMap$LinkedHashIterator -/
set_option maxRecDepth 100000
def RJ38 : String := "java/util/LinkedHashMap$LinkedHashIterator"
abbrev cJ38_init : ByteArray := prog_73_method_1_code
def yJ38_init : MethodName := ⟨RJ38, "<init>", "(Ljava/util/LinkedHashMap;Z)V"⟩
def dkwJ38_init_1 : List UInt8 := [167, 0, 7, 43, 180, 0, 23, 181, 0, 26, 42, 43, 180, 0, 29, 181, 0, 33, 42, 1, 181, 0, 36, 177]
abbrev dktJ38_init_1 : List UInt8 := dkwJ38_init_1 ++ []
def dkwJ38_init_0 : List UInt8 := [42, 43, 181, 0, 1, 42, 183, 0, 7, 42, 28, 181, 0, 13, 42, 28, 153, 0, 10, 43, 180, 0, 17]
abbrev dktJ38_init_0 : List UInt8 := dkwJ38_init_0 ++ dktJ38_init_1
theorem dksJ38_init_0 : cJ38_init.data.toList.drop 0 = dktJ38_init_0 := by decide +kernel
theorem dksJ38_init_1 : cJ38_init.data.toList.drop 23 = dktJ38_init_1 := dk_seg dksJ38_init_0 23 rfl rfl
theorem dJ38_init_0 : decode cJ38_init 0 = .ok (.aload_n 0, 1) := dk_42 (dk_at dksJ38_init_0 0 rfl rfl)
theorem dJ38_init_1 : decode cJ38_init 1 = .ok (.aload_n 1, 1) := dk_43 (dk_at dksJ38_init_0 1 rfl rfl)
theorem dJ38_init_2 : decode cJ38_init 2 = .ok (.putfield 1, 3) := dk_181 0 1 (dk_at dksJ38_init_0 2 rfl rfl)
theorem dJ38_init_5 : decode cJ38_init 5 = .ok (.aload_n 0, 1) := dk_42 (dk_at dksJ38_init_0 5 rfl rfl)
theorem dJ38_init_6 : decode cJ38_init 6 = .ok (.invokespecial 7, 3) := dk_183 0 7 (dk_at dksJ38_init_0 6 rfl rfl)
theorem dJ38_init_9 : decode cJ38_init 9 = .ok (.aload_n 0, 1) := dk_42 (dk_at dksJ38_init_0 9 rfl rfl)
theorem dJ38_init_10 : decode cJ38_init 10 = .ok (.iload_n 2, 1) := dk_28 (dk_at dksJ38_init_0 10 rfl rfl)
theorem dJ38_init_11 : decode cJ38_init 11 = .ok (.putfield 13, 3) := dk_181 0 13 (dk_at dksJ38_init_0 11 rfl rfl)
theorem dJ38_init_14 : decode cJ38_init 14 = .ok (.aload_n 0, 1) := dk_42 (dk_at dksJ38_init_0 14 rfl rfl)
theorem dJ38_init_15 : decode cJ38_init 15 = .ok (.iload_n 2, 1) := dk_28 (dk_at dksJ38_init_0 15 rfl rfl)
theorem dJ38_init_16 : decode cJ38_init 16 = .ok (.ifCond .eq 10, 3) := dk_153 0 10 (dk_at dksJ38_init_0 16 rfl rfl)
theorem dJ38_init_19 : decode cJ38_init 19 = .ok (.aload_n 1, 1) := dk_43 (dk_at dksJ38_init_0 19 rfl rfl)
theorem dJ38_init_20 : decode cJ38_init 20 = .ok (.getfield 17, 3) := dk_180 0 17 (dk_at dksJ38_init_0 20 rfl rfl)
theorem dJ38_init_23 : decode cJ38_init 23 = .ok (.goto 7, 3) := dk_167 0 7 (dk_at dksJ38_init_1 0 rfl rfl)
theorem dJ38_init_26 : decode cJ38_init 26 = .ok (.aload_n 1, 1) := dk_43 (dk_at dksJ38_init_1 3 rfl rfl)
theorem dJ38_init_27 : decode cJ38_init 27 = .ok (.getfield 23, 3) := dk_180 0 23 (dk_at dksJ38_init_1 4 rfl rfl)
theorem dJ38_init_30 : decode cJ38_init 30 = .ok (.putfield 26, 3) := dk_181 0 26 (dk_at dksJ38_init_1 7 rfl rfl)
theorem dJ38_init_33 : decode cJ38_init 33 = .ok (.aload_n 0, 1) := dk_42 (dk_at dksJ38_init_1 10 rfl rfl)
theorem dJ38_init_34 : decode cJ38_init 34 = .ok (.aload_n 1, 1) := dk_43 (dk_at dksJ38_init_1 11 rfl rfl)
theorem dJ38_init_35 : decode cJ38_init 35 = .ok (.getfield 29, 3) := dk_180 0 29 (dk_at dksJ38_init_1 12 rfl rfl)
theorem dJ38_init_38 : decode cJ38_init 38 = .ok (.putfield 33, 3) := dk_181 0 33 (dk_at dksJ38_init_1 15 rfl rfl)
theorem dJ38_init_41 : decode cJ38_init 41 = .ok (.aload_n 0, 1) := dk_42 (dk_at dksJ38_init_1 18 rfl rfl)
theorem dJ38_init_42 : decode cJ38_init 42 = .ok (.aconst_null, 1) := dk_1 (dk_at dksJ38_init_1 19 rfl rfl)
theorem dJ38_init_43 : decode cJ38_init 43 = .ok (.putfield 36, 3) := dk_181 0 36 (dk_at dksJ38_init_1 20 rfl rfl)
theorem dJ38_init_46 : decode cJ38_init 46 = .ok (.return_, 1) := dk_177 (dk_at dksJ38_init_1 23 rfl rfl)
abbrev cJ38_hasNext : ByteArray := prog_73_method_2_code
def yJ38_hasNext : MethodName := ⟨RJ38, "hasNext", "()Z"⟩
def dkwJ38_hasNext_0 : List UInt8 := [42, 180, 0, 26, 198, 0, 7, 4, 167, 0, 4, 3, 172]
abbrev dktJ38_hasNext_0 : List UInt8 := dkwJ38_hasNext_0 ++ []
theorem dksJ38_hasNext_0 : cJ38_hasNext.data.toList.drop 0 = dktJ38_hasNext_0 := by decide +kernel
theorem dJ38_hasNext_0 : decode cJ38_hasNext 0 = .ok (.aload_n 0, 1) := dk_42 (dk_at dksJ38_hasNext_0 0 rfl rfl)
theorem dJ38_hasNext_1 : decode cJ38_hasNext 1 = .ok (.getfield 26, 3) := dk_180 0 26 (dk_at dksJ38_hasNext_0 1 rfl rfl)
theorem dJ38_hasNext_4 : decode cJ38_hasNext 4 = .ok (.ifnull 7, 3) := dk_198 0 7 (dk_at dksJ38_hasNext_0 4 rfl rfl)
theorem dJ38_hasNext_7 : decode cJ38_hasNext 7 = .ok (.iconst 1, 1) := dk_4 (dk_at dksJ38_hasNext_0 7 rfl rfl)
theorem dJ38_hasNext_8 : decode cJ38_hasNext 8 = .ok (.goto 4, 3) := dk_167 0 4 (dk_at dksJ38_hasNext_0 8 rfl rfl)
theorem dJ38_hasNext_11 : decode cJ38_hasNext 11 = .ok (.iconst 0, 1) := dk_3 (dk_at dksJ38_hasNext_0 11 rfl rfl)
theorem dJ38_hasNext_12 : decode cJ38_hasNext 12 = .ok (.ireturn, 1) := dk_172 (dk_at dksJ38_hasNext_0 12 rfl rfl)
abbrev cJ38_nextNode : ByteArray := prog_73_method_3_code
def yJ38_nextNode : MethodName := ⟨RJ38, "nextNode", "()Ljava/util/LinkedHashMap$Entry;"⟩
def dkwJ38_nextNode_2 : List UInt8 := [180, 0, 13, 153, 0, 10, 43, 180, 0, 45, 167, 0, 7, 43, 180, 0, 50, 181, 0, 26, 43, 176]
abbrev dktJ38_nextNode_2 : List UInt8 := dkwJ38_nextNode_2 ++ []
def dkwJ38_nextNode_1 : List UInt8 := [183, 0, 41, 191, 43, 199, 0, 11, 187, 0, 42, 89, 183, 0, 44, 191, 42, 43, 181, 0, 36, 42, 42]
abbrev dktJ38_nextNode_1 : List UInt8 := dkwJ38_nextNode_1 ++ dktJ38_nextNode_2
def dkwJ38_nextNode_0 : List UInt8 := [42, 180, 0, 26, 76, 42, 180, 0, 1, 180, 0, 29, 42, 180, 0, 33, 159, 0, 11, 187, 0, 39, 89]
abbrev dktJ38_nextNode_0 : List UInt8 := dkwJ38_nextNode_0 ++ dktJ38_nextNode_1
theorem dksJ38_nextNode_0 : cJ38_nextNode.data.toList.drop 0 = dktJ38_nextNode_0 := by decide +kernel
theorem dksJ38_nextNode_1 : cJ38_nextNode.data.toList.drop 23 = dktJ38_nextNode_1 := dk_seg dksJ38_nextNode_0 23 rfl rfl
theorem dksJ38_nextNode_2 : cJ38_nextNode.data.toList.drop 46 = dktJ38_nextNode_2 := dk_seg dksJ38_nextNode_1 23 rfl rfl
theorem dJ38_nextNode_0 : decode cJ38_nextNode 0 = .ok (.aload_n 0, 1) := dk_42 (dk_at dksJ38_nextNode_0 0 rfl rfl)
theorem dJ38_nextNode_1 : decode cJ38_nextNode 1 = .ok (.getfield 26, 3) := dk_180 0 26 (dk_at dksJ38_nextNode_0 1 rfl rfl)
theorem dJ38_nextNode_4 : decode cJ38_nextNode 4 = .ok (.astore_n 1, 1) := dk_76 (dk_at dksJ38_nextNode_0 4 rfl rfl)
theorem dJ38_nextNode_5 : decode cJ38_nextNode 5 = .ok (.aload_n 0, 1) := dk_42 (dk_at dksJ38_nextNode_0 5 rfl rfl)
theorem dJ38_nextNode_6 : decode cJ38_nextNode 6 = .ok (.getfield 1, 3) := dk_180 0 1 (dk_at dksJ38_nextNode_0 6 rfl rfl)
theorem dJ38_nextNode_9 : decode cJ38_nextNode 9 = .ok (.getfield 29, 3) := dk_180 0 29 (dk_at dksJ38_nextNode_0 9 rfl rfl)
theorem dJ38_nextNode_12 : decode cJ38_nextNode 12 = .ok (.aload_n 0, 1) := dk_42 (dk_at dksJ38_nextNode_0 12 rfl rfl)
theorem dJ38_nextNode_13 : decode cJ38_nextNode 13 = .ok (.getfield 33, 3) := dk_180 0 33 (dk_at dksJ38_nextNode_0 13 rfl rfl)
theorem dJ38_nextNode_16 : decode cJ38_nextNode 16 = .ok (.if_icmp .eq 11, 3) := dk_159 0 11 (dk_at dksJ38_nextNode_0 16 rfl rfl)
theorem dJ38_nextNode_19 : decode cJ38_nextNode 19 = .ok (.new 39, 3) := dk_187 0 39 (dk_at dksJ38_nextNode_0 19 rfl rfl)
theorem dJ38_nextNode_22 : decode cJ38_nextNode 22 = .ok (.dup, 1) := dk_89 (dk_at dksJ38_nextNode_0 22 rfl rfl)
theorem dJ38_nextNode_23 : decode cJ38_nextNode 23 = .ok (.invokespecial 41, 3) := dk_183 0 41 (dk_at dksJ38_nextNode_1 0 rfl rfl)
theorem dJ38_nextNode_26 : decode cJ38_nextNode 26 = .ok (.athrow, 1) := dk_191 (dk_at dksJ38_nextNode_1 3 rfl rfl)
theorem dJ38_nextNode_27 : decode cJ38_nextNode 27 = .ok (.aload_n 1, 1) := dk_43 (dk_at dksJ38_nextNode_1 4 rfl rfl)
theorem dJ38_nextNode_28 : decode cJ38_nextNode 28 = .ok (.ifnonnull 11, 3) := dk_199 0 11 (dk_at dksJ38_nextNode_1 5 rfl rfl)
theorem dJ38_nextNode_31 : decode cJ38_nextNode 31 = .ok (.new 42, 3) := dk_187 0 42 (dk_at dksJ38_nextNode_1 8 rfl rfl)
theorem dJ38_nextNode_34 : decode cJ38_nextNode 34 = .ok (.dup, 1) := dk_89 (dk_at dksJ38_nextNode_1 11 rfl rfl)
theorem dJ38_nextNode_35 : decode cJ38_nextNode 35 = .ok (.invokespecial 44, 3) := dk_183 0 44 (dk_at dksJ38_nextNode_1 12 rfl rfl)
theorem dJ38_nextNode_38 : decode cJ38_nextNode 38 = .ok (.athrow, 1) := dk_191 (dk_at dksJ38_nextNode_1 15 rfl rfl)
theorem dJ38_nextNode_39 : decode cJ38_nextNode 39 = .ok (.aload_n 0, 1) := dk_42 (dk_at dksJ38_nextNode_1 16 rfl rfl)
theorem dJ38_nextNode_40 : decode cJ38_nextNode 40 = .ok (.aload_n 1, 1) := dk_43 (dk_at dksJ38_nextNode_1 17 rfl rfl)
theorem dJ38_nextNode_41 : decode cJ38_nextNode 41 = .ok (.putfield 36, 3) := dk_181 0 36 (dk_at dksJ38_nextNode_1 18 rfl rfl)
theorem dJ38_nextNode_44 : decode cJ38_nextNode 44 = .ok (.aload_n 0, 1) := dk_42 (dk_at dksJ38_nextNode_1 21 rfl rfl)
theorem dJ38_nextNode_45 : decode cJ38_nextNode 45 = .ok (.aload_n 0, 1) := dk_42 (dk_at dksJ38_nextNode_1 22 rfl rfl)
theorem dJ38_nextNode_46 : decode cJ38_nextNode 46 = .ok (.getfield 13, 3) := dk_180 0 13 (dk_at dksJ38_nextNode_2 0 rfl rfl)
theorem dJ38_nextNode_49 : decode cJ38_nextNode 49 = .ok (.ifCond .eq 10, 3) := dk_153 0 10 (dk_at dksJ38_nextNode_2 3 rfl rfl)
theorem dJ38_nextNode_52 : decode cJ38_nextNode 52 = .ok (.aload_n 1, 1) := dk_43 (dk_at dksJ38_nextNode_2 6 rfl rfl)
theorem dJ38_nextNode_53 : decode cJ38_nextNode 53 = .ok (.getfield 45, 3) := dk_180 0 45 (dk_at dksJ38_nextNode_2 7 rfl rfl)
theorem dJ38_nextNode_56 : decode cJ38_nextNode 56 = .ok (.goto 7, 3) := dk_167 0 7 (dk_at dksJ38_nextNode_2 10 rfl rfl)
theorem dJ38_nextNode_59 : decode cJ38_nextNode 59 = .ok (.aload_n 1, 1) := dk_43 (dk_at dksJ38_nextNode_2 13 rfl rfl)
theorem dJ38_nextNode_60 : decode cJ38_nextNode 60 = .ok (.getfield 50, 3) := dk_180 0 50 (dk_at dksJ38_nextNode_2 14 rfl rfl)
theorem dJ38_nextNode_63 : decode cJ38_nextNode 63 = .ok (.putfield 26, 3) := dk_181 0 26 (dk_at dksJ38_nextNode_2 17 rfl rfl)
theorem dJ38_nextNode_66 : decode cJ38_nextNode 66 = .ok (.aload_n 1, 1) := dk_43 (dk_at dksJ38_nextNode_2 20 rfl rfl)
theorem dJ38_nextNode_67 : decode cJ38_nextNode 67 = .ok (.areturn, 1) := dk_176 (dk_at dksJ38_nextNode_2 21 rfl rfl)
theorem q138 : (Jvm.Cond.initialized "java/util/LinkedHashMap$LinkedHashIterator") ∈ lw_all := lw_g (lw_at lw_m1 45 rfl) rfl
theorem q1039 : (Jvm.Cond.fieldLink "java/util/LinkedHashMap$LinkedHashIterator" (23 : Nat) "java/util/LinkedHashMap" "head" "Ljava/util/LinkedHashMap$Entry;") ∈ lw_all := lw_g (lw_at lw_m4 226 rfl) rfl
theorem q1040 : (Jvm.Cond.fieldLink "java/util/LinkedHashMap$LinkedHashIterator" (17 : Nat) "java/util/LinkedHashMap" "tail" "Ljava/util/LinkedHashMap$Entry;") ∈ lw_all := lw_g (lw_at lw_m4 227 rfl) rfl
theorem q1049 : (Jvm.Cond.fieldLink "java/util/LinkedHashMap$LinkedHashIterator" (29 : Nat) "java/util/LinkedHashMap" "modCount" "I") ∈ lw_all := lw_g (lw_at lw_m4 236 rfl) rfl
theorem q1466 : (Jvm.Cond.instanceMethod ({ cls := "java/util/LinkedHashMap$LinkedHashIterator", name := "<init>", desc := "(Ljava/util/LinkedHashMap;Z)V" } : Jvm.MethodName)) ∈ lw_all := lw_g (lw_at lw_m6 173 rfl) rfl
theorem q1467 : (Jvm.Cond.code ({ cls := "java/util/LinkedHashMap$LinkedHashIterator", name := "<init>", desc := "(Ljava/util/LinkedHashMap;Z)V" } : Jvm.MethodName) prog_73_method_1_code (3 : Nat) (Option.none : Option Jvm.ClassFile.FieldType)) ∈ lw_all := lw_g (lw_at lw_m6 174 rfl) rfl
theorem q1468 : (Jvm.Cond.methodLink "java/util/LinkedHashMap$LinkedHashIterator" (7 : Nat) ({ cls := "java/lang/Object", name := "<init>", desc := "()V" } : Jvm.MethodName)) ∈ lw_all := lw_g (lw_at lw_m6 175 rfl) rfl
theorem q1469 : (Jvm.Cond.fieldLink "java/util/LinkedHashMap$LinkedHashIterator" (26 : Nat) "java/util/LinkedHashMap$LinkedHashIterator" "next" "Ljava/util/LinkedHashMap$Entry;") ∈ lw_all := lw_g (lw_at lw_m6 176 rfl) rfl
theorem q1470 : (Jvm.Cond.fieldLink "java/util/LinkedHashMap$LinkedHashIterator" (36 : Nat) "java/util/LinkedHashMap$LinkedHashIterator" "current" "Ljava/util/LinkedHashMap$Entry;") ∈ lw_all := lw_g (lw_at lw_m6 177 rfl) rfl
theorem q1471 : (Jvm.Cond.fieldLink "java/util/LinkedHashMap$LinkedHashIterator" (33 : Nat) "java/util/LinkedHashMap$LinkedHashIterator" "expectedModCount" "I") ∈ lw_all := lw_g (lw_at lw_m6 178 rfl) rfl
theorem q1472 : (Jvm.Cond.fieldLink "java/util/LinkedHashMap$LinkedHashIterator" (13 : Nat) "java/util/LinkedHashMap$LinkedHashIterator" "reversed" "Z") ∈ lw_all := lw_g (lw_at lw_m6 179 rfl) rfl
theorem q1473 : (Jvm.Cond.fieldLink "java/util/LinkedHashMap$LinkedHashIterator" (1 : Nat) "java/util/LinkedHashMap$LinkedHashIterator" "this$0" "Ljava/util/LinkedHashMap;") ∈ lw_all := lw_g (lw_at lw_m6 180 rfl) rfl
theorem q1475 : (Jvm.Cond.soleField "java/util/LinkedHashMap$LinkedHashIterator" "next") ∈ lw_all := lw_g (lw_at lw_m6 182 rfl) rfl
theorem q1477 : (Jvm.Cond.soleField "java/util/LinkedHashMap$LinkedHashIterator" "current") ∈ lw_all := lw_g (lw_at lw_m6 184 rfl) rfl
theorem q1479 : (Jvm.Cond.soleField "java/util/LinkedHashMap$LinkedHashIterator" "expectedModCount") ∈ lw_all := lw_g (lw_at lw_m6 186 rfl) rfl
theorem q1481 : (Jvm.Cond.soleField "java/util/LinkedHashMap$LinkedHashIterator" "reversed") ∈ lw_all := lw_g (lw_at lw_m6 188 rfl) rfl
theorem q1483 : (Jvm.Cond.soleField "java/util/LinkedHashMap$LinkedHashIterator" "this$0") ∈ lw_all := lw_g (lw_at lw_m6 190 rfl) rfl
theorem q1520 : (Jvm.Cond.instanceMethod ({ cls := "java/util/LinkedHashMap$LinkedHashIterator", name := "hasNext", desc := "()Z" } : Jvm.MethodName)) ∈ lw_all := lw_g (lw_at lw_m6 227 rfl) rfl
theorem q1521 : (Jvm.Cond.publicMethod ({ cls := "java/util/LinkedHashMap$LinkedHashIterator", name := "hasNext", desc := "()Z" } : Jvm.MethodName)) ∈ lw_tbl := lw_at lw_m6 228 rfl
theorem q1522 : (Jvm.Cond.code ({ cls := "java/util/LinkedHashMap$LinkedHashIterator", name := "hasNext", desc := "()Z" } : Jvm.MethodName) prog_73_method_2_code (1 : Nat) (Option.some Jvm.ClassFile.FieldType.boolean)) ∈ lw_all := lw_g (lw_at lw_m6 229 rfl) rfl
theorem q1602 : (Jvm.Cond.declares ({ cls := "java/util/LinkedHashMap$LinkedHashIterator", name := "nextNode", desc := "()Ljava/util/LinkedHashMap$Entry;" } : Jvm.MethodName)) ∈ lw_tbl := lw_at lw_m7 69 rfl
theorem q1604 : (Jvm.Cond.instanceMethod ({ cls := "java/util/LinkedHashMap$LinkedHashIterator", name := "nextNode", desc := "()Ljava/util/LinkedHashMap$Entry;" } : Jvm.MethodName)) ∈ lw_all := lw_g (lw_at lw_m7 71 rfl) rfl
theorem q1605 : (Jvm.Cond.code ({ cls := "java/util/LinkedHashMap$LinkedHashIterator", name := "nextNode", desc := "()Ljava/util/LinkedHashMap$Entry;" } : Jvm.MethodName) prog_73_method_3_code (2 : Nat) (Option.some (Jvm.ClassFile.FieldType.object "java/util/LinkedHashMap$Entry"))) ∈ lw_all := lw_g (lw_at lw_m7 72 rfl) rfl
theorem q1606 : (Jvm.Cond.classLink "java/util/LinkedHashMap$LinkedHashIterator" (42 : Nat) "java/util/NoSuchElementException") ∈ lw_all := lw_g (lw_at lw_m7 73 rfl) rfl
theorem q1607 : (Jvm.Cond.methodLink "java/util/LinkedHashMap$LinkedHashIterator" (44 : Nat) ({ cls := "java/util/NoSuchElementException", name := "<init>", desc := "()V" } : Jvm.MethodName)) ∈ lw_all := lw_g (lw_at lw_m7 74 rfl) rfl
theorem q1782 : (Jvm.Cond.fieldLink "java/util/LinkedHashMap$LinkedHashIterator" (45 : Nat) "java/util/LinkedHashMap$Entry" "before" "Ljava/util/LinkedHashMap$Entry;") ∈ lw_all := lw_g (lw_at lw_m8 9 rfl) rfl
theorem q1784 : (Jvm.Cond.fieldLink "java/util/LinkedHashMap$LinkedHashIterator" (50 : Nat) "java/util/LinkedHashMap$Entry" "after" "Ljava/util/LinkedHashMap$Entry;") ∈ lw_all := lw_g (lw_at lw_m8 11 rfl) rfl
/-! java/util/LinkedHashMap$LinkedKeyIterator -/
set_option maxRecDepth 100000
def RJ39 : String := "java/util/LinkedHashMap$LinkedKeyIterator"
def TJ39 : u_T := fun k => match k with
  | 0 => ("java/util/LinkedHashMap$LinkedHashIterator", "next", "Ljava/util/LinkedHashMap$Entry;", false)
  | 1 => ("java/util/LinkedHashMap$LinkedHashIterator", "current", "Ljava/util/LinkedHashMap$Entry;", false)
  | 2 => ("java/util/LinkedHashMap$LinkedHashIterator", "expectedModCount", "I", false)
  | 3 => ("java/util/LinkedHashMap$LinkedHashIterator", "reversed", "Z", false)
  | _ => ("java/util/LinkedHashMap$LinkedHashIterator", "this$0", "Ljava/util/LinkedHashMap;", true)
def tyJ39 : Nat → FieldType := fun k => match k with
  | 0 => .object "java/util/LinkedHashMap$Entry"
  | 1 => .object "java/util/LinkedHashMap$Entry"
  | 2 => .int
  | 3 => .boolean
  | _ => .object "java/util/LinkedHashMap"
abbrev wsJ390 : List Cond := u_ws RJ39 TJ39 5
theorem nmJ39 : ∀ a, a < 5 → ∀ b, b < 5 → a ≠ b → (TJ39 a).2.1 ≠ (TJ39 b).2.1 := by decide +kernel
theorem tyJ39_ok : ∀ k, k < 5 → parseFieldDescriptor (TJ39 k).2.2.1 = some (tyJ39 k) := by decide +kernel
abbrev cJ39_init : ByteArray := prog_74_method_1_code
def yJ39_init : MethodName := ⟨RJ39, "<init>", "(Ljava/util/LinkedHashMap;Z)V"⟩
def dkwJ39_init_0 : List UInt8 := [42, 43, 28, 183, 0, 1, 177]
abbrev dktJ39_init_0 : List UInt8 := dkwJ39_init_0 ++ []
theorem dksJ39_init_0 : cJ39_init.data.toList.drop 0 = dktJ39_init_0 := by decide +kernel
theorem dJ39_init_0 : decode cJ39_init 0 = .ok (.aload_n 0, 1) := dk_42 (dk_at dksJ39_init_0 0 rfl rfl)
theorem dJ39_init_1 : decode cJ39_init 1 = .ok (.aload_n 1, 1) := dk_43 (dk_at dksJ39_init_0 1 rfl rfl)
theorem dJ39_init_2 : decode cJ39_init 2 = .ok (.iload_n 2, 1) := dk_28 (dk_at dksJ39_init_0 2 rfl rfl)
theorem dJ39_init_3 : decode cJ39_init 3 = .ok (.invokespecial 1, 3) := dk_183 0 1 (dk_at dksJ39_init_0 3 rfl rfl)
theorem dJ39_init_6 : decode cJ39_init 6 = .ok (.return_, 1) := dk_177 (dk_at dksJ39_init_0 6 rfl rfl)
abbrev cJ39_next : ByteArray := prog_74_method_2_code
def yJ39_next : MethodName := ⟨RJ39, "next", "()Ljava/lang/Object;"⟩
def dkwJ39_next_0 : List UInt8 := [42, 182, 0, 7, 182, 0, 13, 176]
abbrev dktJ39_next_0 : List UInt8 := dkwJ39_next_0 ++ []
theorem dksJ39_next_0 : cJ39_next.data.toList.drop 0 = dktJ39_next_0 := by decide +kernel
theorem dJ39_next_0 : decode cJ39_next 0 = .ok (.aload_n 0, 1) := dk_42 (dk_at dksJ39_next_0 0 rfl rfl)
theorem dJ39_next_1 : decode cJ39_next 1 = .ok (.invokevirtual 7, 3) := dk_182 0 7 (dk_at dksJ39_next_0 1 rfl rfl)
theorem dJ39_next_4 : decode cJ39_next 4 = .ok (.invokevirtual 13, 3) := dk_182 0 13 (dk_at dksJ39_next_0 4 rfl rfl)
theorem dJ39_next_7 : decode cJ39_next 7 = .ok (.areturn, 1) := dk_176 (dk_at dksJ39_next_0 7 rfl rfl)
theorem q139 : (Jvm.Cond.initialized "java/util/LinkedHashMap$LinkedKeyIterator") ∈ lw_all := lw_g (lw_at lw_m1 46 rfl) rfl
theorem q915 : (Jvm.Cond.selects "java/util/LinkedHashMap$LinkedKeyIterator" ({ cls := "java/lang/Object", name := "getClass", desc := "()Ljava/lang/Class;" } : Jvm.MethodName) ({ cls := "java/lang/Object", name := "getClass", desc := "()Ljava/lang/Class;" } : Jvm.MethodName)) ∈ lw_all := lw_g (lw_at lw_m4 102 rfl) rfl
theorem q1461 : (Jvm.Cond.instantiable "java/util/LinkedHashMap$LinkedKeyIterator" (5 : Nat)) ∈ lw_all := lw_g (lw_at lw_m6 168 rfl) rfl
theorem q1463 : (Jvm.Cond.instanceMethod ({ cls := "java/util/LinkedHashMap$LinkedKeyIterator", name := "<init>", desc := "(Ljava/util/LinkedHashMap;Z)V" } : Jvm.MethodName)) ∈ lw_all := lw_g (lw_at lw_m6 170 rfl) rfl
theorem q1464 : (Jvm.Cond.code ({ cls := "java/util/LinkedHashMap$LinkedKeyIterator", name := "<init>", desc := "(Ljava/util/LinkedHashMap;Z)V" } : Jvm.MethodName) prog_74_method_1_code (3 : Nat) (Option.none : Option Jvm.ClassFile.FieldType)) ∈ lw_all := lw_g (lw_at lw_m6 171 rfl) rfl
theorem q1465 : (Jvm.Cond.methodLink "java/util/LinkedHashMap$LinkedKeyIterator" (1 : Nat) ({ cls := "java/util/LinkedHashMap$LinkedHashIterator", name := "<init>", desc := "(Ljava/util/LinkedHashMap;Z)V" } : Jvm.MethodName)) ∈ lw_all := lw_g (lw_at lw_m6 172 rfl) rfl
theorem q1474 : (Jvm.Cond.lays "java/util/LinkedHashMap$LinkedKeyIterator" "java/util/LinkedHashMap$LinkedHashIterator" "next" "Ljava/util/LinkedHashMap$Entry;") ∈ lw_all := lw_g (lw_at lw_m6 181 rfl) rfl
theorem q1476 : (Jvm.Cond.lays "java/util/LinkedHashMap$LinkedKeyIterator" "java/util/LinkedHashMap$LinkedHashIterator" "current" "Ljava/util/LinkedHashMap$Entry;") ∈ lw_all := lw_g (lw_at lw_m6 183 rfl) rfl
theorem q1478 : (Jvm.Cond.lays "java/util/LinkedHashMap$LinkedKeyIterator" "java/util/LinkedHashMap$LinkedHashIterator" "expectedModCount" "I") ∈ lw_all := lw_g (lw_at lw_m6 185 rfl) rfl
theorem q1480 : (Jvm.Cond.lays "java/util/LinkedHashMap$LinkedKeyIterator" "java/util/LinkedHashMap$LinkedHashIterator" "reversed" "Z") ∈ lw_all := lw_g (lw_at lw_m6 187 rfl) rfl
theorem q1482 : (Jvm.Cond.laysFinal "java/util/LinkedHashMap$LinkedKeyIterator" "java/util/LinkedHashMap$LinkedHashIterator" "this$0" "Ljava/util/LinkedHashMap;") ∈ lw_all := lw_g (lw_at lw_m6 189 rfl) rfl
theorem q1484 : (Jvm.Cond.superclass "java/util/LinkedHashMap$LinkedKeyIterator" "java/util/LinkedHashMap$LinkedHashIterator") ∈ lw_all := lw_g (lw_at lw_m6 191 rfl) rfl
theorem q1517 : (Jvm.Cond.castable "java/util/LinkedHashMap$LinkedKeyIterator" "java/util/Iterator") ∈ lw_tbl := lw_at lw_m6 224 rfl
theorem q1518 : (Jvm.Cond.selects "java/util/LinkedHashMap$LinkedKeyIterator" ({ cls := "java/util/Iterator", name := "hasNext", desc := "()Z" } : Jvm.MethodName) ({ cls := "java/util/LinkedHashMap$LinkedHashIterator", name := "hasNext", desc := "()Z" } : Jvm.MethodName)) ∈ lw_all := lw_g (lw_at lw_m6 225 rfl) rfl
theorem q1519 : (Jvm.Cond.unhidden "java/util/LinkedHashMap$LinkedKeyIterator" "hasNext" "()Z") ∈ lw_tbl := lw_at lw_m6 226 rfl
theorem q1595 : (Jvm.Cond.selects "java/util/LinkedHashMap$LinkedKeyIterator" ({ cls := "java/util/Iterator", name := "next", desc := "()Ljava/lang/Object;" } : Jvm.MethodName) ({ cls := "java/util/LinkedHashMap$LinkedKeyIterator", name := "next", desc := "()Ljava/lang/Object;" } : Jvm.MethodName)) ∈ lw_all := lw_g (lw_at lw_m7 62 rfl) rfl
theorem q1596 : (Jvm.Cond.unhidden "java/util/LinkedHashMap$LinkedKeyIterator" "next" "()Ljava/lang/Object;") ∈ lw_tbl := lw_at lw_m7 63 rfl
theorem q1597 : (Jvm.Cond.instanceMethod ({ cls := "java/util/LinkedHashMap$LinkedKeyIterator", name := "next", desc := "()Ljava/lang/Object;" } : Jvm.MethodName)) ∈ lw_all := lw_g (lw_at lw_m7 64 rfl) rfl
theorem q1598 : (Jvm.Cond.publicMethod ({ cls := "java/util/LinkedHashMap$LinkedKeyIterator", name := "next", desc := "()Ljava/lang/Object;" } : Jvm.MethodName)) ∈ lw_tbl := lw_at lw_m7 65 rfl
theorem q1599 : (Jvm.Cond.code ({ cls := "java/util/LinkedHashMap$LinkedKeyIterator", name := "next", desc := "()Ljava/lang/Object;" } : Jvm.MethodName) prog_74_method_2_code (1 : Nat) (Option.some (Jvm.ClassFile.FieldType.object "java/lang/Object"))) ∈ lw_all := lw_g (lw_at lw_m7 66 rfl) rfl
theorem q1600 : (Jvm.Cond.methodLink "java/util/LinkedHashMap$LinkedKeyIterator" (7 : Nat) ({ cls := "java/util/LinkedHashMap$LinkedKeyIterator", name := "nextNode", desc := "()Ljava/util/LinkedHashMap$Entry;" } : Jvm.MethodName)) ∈ lw_all := lw_g (lw_at lw_m7 67 rfl) rfl
theorem q1601 : (Jvm.Cond.sameMethod "java/util/LinkedHashMap$LinkedKeyIterator" "java/util/LinkedHashMap$LinkedHashIterator" "nextNode" "()Ljava/util/LinkedHashMap$Entry;") ∈ lw_all := lw_g (lw_at lw_m7 68 rfl) rfl
theorem q1603 : (Jvm.Cond.selects "java/util/LinkedHashMap$LinkedKeyIterator" ({ cls := "java/util/LinkedHashMap$LinkedKeyIterator", name := "nextNode", desc := "()Ljava/util/LinkedHashMap$Entry;" } : Jvm.MethodName) ({ cls := "java/util/LinkedHashMap$LinkedHashIterator", name := "nextNode", desc := "()Ljava/util/LinkedHashMap$Entry;" } : Jvm.MethodName)) ∈ lw_all := lw_g (lw_at lw_m7 70 rfl) rfl
theorem q1608 : (Jvm.Cond.methodLink "java/util/LinkedHashMap$LinkedKeyIterator" (13 : Nat) ({ cls := "java/util/LinkedHashMap$Entry", name := "getKey", desc := "()Ljava/lang/Object;" } : Jvm.MethodName)) ∈ lw_all := lw_g (lw_at lw_m7 75 rfl) rfl
theorem q3782 : (Jvm.Cond.castable "java/util/LinkedHashMap$LinkedKeyIterator" "java/lang/Object") ∈ lw_tbl := lw_at lw_m16 89 rfl
theorem in_J39 : ∀ w ∈ wsJ390, w ∈ lw_all := lw_in wsJ390 [1474, 1476, 1478, 1480, 1482] (by decide +kernel) (by decide +kernel)
/-! java/util/NoSuchElementException -/
set_option maxRecDepth 100000
def RJ40 : String := "java/util/NoSuchElementException"
def TJ40 : u_T := fun k => match k with
  | 0 => ("java/lang/Throwable", "cause", "Ljava/lang/Throwable;", false)
  | 1 => ("java/lang/Throwable", "stackTrace", "[Ljava/lang/StackTraceElement;", false)
  | 2 => ("java/lang/Throwable", "suppressedExceptions", "Ljava/util/List;", false)
  | 3 => ("java/lang/Throwable", "detailMessage", "Ljava/lang/String;", false)
  | 4 => ("java/lang/Throwable", "backtrace", "Ljava/lang/Object;", false)
  | _ => ("java/lang/Throwable", "depth", "I", false)
def tyJ40 : Nat → FieldType := fun k => match k with
  | 0 => .object "java/lang/Throwable"
  | 1 => .array (.object "java/lang/StackTraceElement")
  | 2 => .object "java/util/List"
  | 3 => .object "java/lang/String"
  | 4 => .object "java/lang/Object"
  | _ => .int
abbrev wsJ400 : List Cond := u_ws RJ40 TJ40 6
theorem nmJ40 : ∀ a, a < 6 → ∀ b, b < 6 → a ≠ b → (TJ40 a).2.1 ≠ (TJ40 b).2.1 := by decide +kernel
theorem tyJ40_ok : ∀ k, k < 6 → parseFieldDescriptor (TJ40 k).2.2.1 = some (tyJ40 k) := by decide +kernel
abbrev cJ40_init : ByteArray := prog_80_method_1_code
def yJ40_init : MethodName := ⟨RJ40, "<init>", "()V"⟩
theorem q140 : (Jvm.Cond.initialized "java/util/NoSuchElementException") ∈ lw_all := lw_g (lw_at lw_m1 47 rfl) rfl
theorem q246 : (Jvm.Cond.selects "java/util/NoSuchElementException" ({ cls := "java/lang/Throwable", name := "fillInStackTrace", desc := "()Ljava/lang/Throwable;" } : Jvm.MethodName) ({ cls := "java/lang/Throwable", name := "fillInStackTrace", desc := "()Ljava/lang/Throwable;" } : Jvm.MethodName)) ∈ lw_all := lw_g (lw_at lw_m1 153 rfl) rfl
theorem q918 : (Jvm.Cond.selects "java/util/NoSuchElementException" ({ cls := "java/lang/Object", name := "getClass", desc := "()Ljava/lang/Class;" } : Jvm.MethodName) ({ cls := "java/lang/Object", name := "getClass", desc := "()Ljava/lang/Class;" } : Jvm.MethodName)) ∈ lw_all := lw_g (lw_at lw_m4 105 rfl) rfl
theorem q933 : (Jvm.Cond.selects "java/util/NoSuchElementException" ({ cls := "java/lang/Throwable", name := "getLocalizedMessage", desc := "()Ljava/lang/String;" } : Jvm.MethodName) ({ cls := "java/lang/Throwable", name := "getLocalizedMessage", desc := "()Ljava/lang/String;" } : Jvm.MethodName)) ∈ lw_all := lw_g (lw_at lw_m4 120 rfl) rfl
theorem q946 : (Jvm.Cond.selects "java/util/NoSuchElementException" ({ cls := "java/lang/Throwable", name := "getMessage", desc := "()Ljava/lang/String;" } : Jvm.MethodName) ({ cls := "java/lang/Throwable", name := "getMessage", desc := "()Ljava/lang/String;" } : Jvm.MethodName)) ∈ lw_all := lw_g (lw_at lw_m4 133 rfl) rfl
theorem q1538 : (Jvm.Cond.instantiable "java/util/NoSuchElementException" (6 : Nat)) ∈ lw_all := lw_g (lw_at lw_m7 5 rfl) rfl
theorem q1539 : (Jvm.Cond.castable "java/util/NoSuchElementException" "java/util/NoSuchElementException") ∈ lw_tbl := lw_at lw_m7 6 rfl
theorem q1540 : (Jvm.Cond.selects "java/util/NoSuchElementException" ({ cls := "java/lang/Throwable", name := "fillInStackTrace", desc := "(I)Ljava/lang/Throwable;" } : Jvm.MethodName) ({ cls := "java/lang/Throwable", name := "fillInStackTrace", desc := "(I)Ljava/lang/Throwable;" } : Jvm.MethodName)) ∈ lw_all := lw_g (lw_at lw_m7 7 rfl) rfl
theorem q1541 : (Jvm.Cond.lays "java/util/NoSuchElementException" "java/lang/Throwable" "cause" "Ljava/lang/Throwable;") ∈ lw_all := lw_g (lw_at lw_m7 8 rfl) rfl
theorem q1542 : (Jvm.Cond.lays "java/util/NoSuchElementException" "java/lang/Throwable" "stackTrace" "[Ljava/lang/StackTraceElement;") ∈ lw_all := lw_g (lw_at lw_m7 9 rfl) rfl
theorem q1543 : (Jvm.Cond.lays "java/util/NoSuchElementException" "java/lang/Throwable" "suppressedExceptions" "Ljava/util/List;") ∈ lw_all := lw_g (lw_at lw_m7 10 rfl) rfl
theorem q1544 : (Jvm.Cond.lays "java/util/NoSuchElementException" "java/lang/Throwable" "detailMessage" "Ljava/lang/String;") ∈ lw_all := lw_g (lw_at lw_m7 11 rfl) rfl
theorem q1545 : (Jvm.Cond.lays "java/util/NoSuchElementException" "java/lang/Throwable" "backtrace" "Ljava/lang/Object;") ∈ lw_all := lw_g (lw_at lw_m7 12 rfl) rfl
theorem q1547 : (Jvm.Cond.instanceMethod ({ cls := "java/util/NoSuchElementException", name := "<init>", desc := "()V" } : Jvm.MethodName)) ∈ lw_all := lw_g (lw_at lw_m7 14 rfl) rfl
theorem q1548 : (Jvm.Cond.code ({ cls := "java/util/NoSuchElementException", name := "<init>", desc := "()V" } : Jvm.MethodName) prog_80_method_1_code (1 : Nat) (Option.none : Option Jvm.ClassFile.FieldType)) ∈ lw_all := lw_g (lw_at lw_m7 15 rfl) rfl
theorem q1549 : (Jvm.Cond.methodLink "java/util/NoSuchElementException" (1 : Nat) ({ cls := "java/lang/RuntimeException", name := "<init>", desc := "()V" } : Jvm.MethodName)) ∈ lw_all := lw_g (lw_at lw_m7 16 rfl) rfl
theorem q1556 : (Jvm.Cond.lays "java/util/NoSuchElementException" "java/lang/Throwable" "depth" "I") ∈ lw_all := lw_g (lw_at lw_m7 23 rfl) rfl
theorem q1557 : (Jvm.Cond.superclass "java/util/NoSuchElementException" "java/lang/RuntimeException") ∈ lw_all := lw_g (lw_at lw_m7 24 rfl) rfl
theorem q3756 : (Jvm.Cond.castable "java/util/NoSuchElementException" "java/lang/Throwable") ∈ lw_tbl := lw_at lw_m16 63 rfl
theorem q3783 : (Jvm.Cond.castable "java/util/NoSuchElementException" "java/lang/Object") ∈ lw_tbl := lw_at lw_m16 90 rfl
theorem in_J40 : ∀ w ∈ wsJ400, w ∈ lw_all := lw_in wsJ400 [1541, 1542, 1543, 1544, 1545, 1556] (by decide +kernel) (by decide +kernel)
/-! java/util/HashMap$Node -/
set_option maxRecDepth 100000
def RJ41 : String := "java/util/HashMap$Node"
abbrev cJ41_getKey : ByteArray := prog_67_method_2_code
def yJ41_getKey : MethodName := ⟨RJ41, "getKey", "()Ljava/lang/Object;"⟩
theorem dJ41_getKey_0 : decode cJ41_getKey 0 = .ok (.aload_n 0, 1) := by decide +kernel
theorem dJ41_getKey_1 : decode cJ41_getKey 1 = .ok (.getfield 13, 3) := by decide +kernel
theorem dJ41_getKey_4 : decode cJ41_getKey 4 = .ok (.areturn, 1) := by decide +kernel
abbrev cJ41_init : ByteArray := prog_67_method_1_code
def yJ41_init : MethodName := ⟨RJ41, "<init>", "(ILjava/lang/Object;Ljava/lang/Object;Ljava/util/HashMap$Node;)V"⟩
def dkwJ41_init_1 : List UInt8 := [181, 0, 20, 177]
abbrev dktJ41_init_1 : List UInt8 := dkwJ41_init_1 ++ []
def dkwJ41_init_0 : List UInt8 := [42, 183, 0, 1, 42, 27, 181, 0, 7, 42, 44, 181, 0, 13, 42, 45, 181, 0, 17, 42, 25, 4]
abbrev dktJ41_init_0 : List UInt8 := dkwJ41_init_0 ++ dktJ41_init_1
theorem dksJ41_init_0 : cJ41_init.data.toList.drop 0 = dktJ41_init_0 := by decide +kernel
theorem dksJ41_init_1 : cJ41_init.data.toList.drop 22 = dktJ41_init_1 := dk_seg dksJ41_init_0 22 rfl rfl
theorem dJ41_init_0 : decode cJ41_init 0 = .ok (.aload_n 0, 1) := dk_42 (dk_at dksJ41_init_0 0 rfl rfl)
theorem dJ41_init_1 : decode cJ41_init 1 = .ok (.invokespecial 1, 3) := dk_183 0 1 (dk_at dksJ41_init_0 1 rfl rfl)
theorem dJ41_init_4 : decode cJ41_init 4 = .ok (.aload_n 0, 1) := dk_42 (dk_at dksJ41_init_0 4 rfl rfl)
theorem dJ41_init_5 : decode cJ41_init 5 = .ok (.iload_n 1, 1) := dk_27 (dk_at dksJ41_init_0 5 rfl rfl)
theorem dJ41_init_6 : decode cJ41_init 6 = .ok (.putfield 7, 3) := dk_181 0 7 (dk_at dksJ41_init_0 6 rfl rfl)
theorem dJ41_init_9 : decode cJ41_init 9 = .ok (.aload_n 0, 1) := dk_42 (dk_at dksJ41_init_0 9 rfl rfl)
theorem dJ41_init_10 : decode cJ41_init 10 = .ok (.aload_n 2, 1) := dk_44 (dk_at dksJ41_init_0 10 rfl rfl)
theorem dJ41_init_11 : decode cJ41_init 11 = .ok (.putfield 13, 3) := dk_181 0 13 (dk_at dksJ41_init_0 11 rfl rfl)
theorem dJ41_init_14 : decode cJ41_init 14 = .ok (.aload_n 0, 1) := dk_42 (dk_at dksJ41_init_0 14 rfl rfl)
theorem dJ41_init_15 : decode cJ41_init 15 = .ok (.aload_n 3, 1) := dk_45 (dk_at dksJ41_init_0 15 rfl rfl)
theorem dJ41_init_16 : decode cJ41_init 16 = .ok (.putfield 17, 3) := dk_181 0 17 (dk_at dksJ41_init_0 16 rfl rfl)
theorem dJ41_init_19 : decode cJ41_init 19 = .ok (.aload_n 0, 1) := dk_42 (dk_at dksJ41_init_0 19 rfl rfl)
theorem dJ41_init_20 : decode cJ41_init 20 = .ok (.aload 4, 2) := dk_25 4 (dk_at dksJ41_init_0 20 rfl rfl)
theorem dJ41_init_22 : decode cJ41_init 22 = .ok (.putfield 20, 3) := dk_181 0 20 (dk_at dksJ41_init_1 0 rfl rfl)
theorem dJ41_init_25 : decode cJ41_init 25 = .ok (.return_, 1) := dk_177 (dk_at dksJ41_init_1 3 rfl rfl)
theorem q141 : (Jvm.Cond.initialized "java/util/HashMap$Node") ∈ lw_all := lw_g (lw_at lw_m1 48 rfl) rfl
theorem q911 : (Jvm.Cond.selects "java/util/HashMap$Node" ({ cls := "java/lang/Object", name := "getClass", desc := "()Ljava/lang/Class;" } : Jvm.MethodName) ({ cls := "java/lang/Object", name := "getClass", desc := "()Ljava/lang/Class;" } : Jvm.MethodName)) ∈ lw_all := lw_g (lw_at lw_m4 98 rfl) rfl
theorem q1610 : (Jvm.Cond.declares ({ cls := "java/util/HashMap$Node", name := "getKey", desc := "()Ljava/lang/Object;" } : Jvm.MethodName)) ∈ lw_tbl := lw_at lw_m7 77 rfl
theorem q1613 : (Jvm.Cond.instanceMethod ({ cls := "java/util/HashMap$Node", name := "getKey", desc := "()Ljava/lang/Object;" } : Jvm.MethodName)) ∈ lw_all := lw_g (lw_at lw_m7 80 rfl) rfl
theorem q1614 : (Jvm.Cond.code ({ cls := "java/util/HashMap$Node", name := "getKey", desc := "()Ljava/lang/Object;" } : Jvm.MethodName) prog_67_method_2_code (1 : Nat) (Option.some (Jvm.ClassFile.FieldType.object "java/lang/Object"))) ∈ lw_all := lw_g (lw_at lw_m7 81 rfl) rfl
theorem q1778 : (Jvm.Cond.instanceMethod ({ cls := "java/util/HashMap$Node", name := "<init>", desc := "(ILjava/lang/Object;Ljava/lang/Object;Ljava/util/HashMap$Node;)V" } : Jvm.MethodName)) ∈ lw_all := lw_g (lw_at lw_m8 5 rfl) rfl
theorem q1779 : (Jvm.Cond.code ({ cls := "java/util/HashMap$Node", name := "<init>", desc := "(ILjava/lang/Object;Ljava/lang/Object;Ljava/util/HashMap$Node;)V" } : Jvm.MethodName) prog_67_method_1_code (5 : Nat) (Option.none : Option Jvm.ClassFile.FieldType)) ∈ lw_all := lw_g (lw_at lw_m8 6 rfl) rfl
theorem q1780 : (Jvm.Cond.methodLink "java/util/HashMap$Node" (1 : Nat) ({ cls := "java/lang/Object", name := "<init>", desc := "()V" } : Jvm.MethodName)) ∈ lw_all := lw_g (lw_at lw_m8 7 rfl) rfl
theorem q1785 : (Jvm.Cond.fieldLink "java/util/HashMap$Node" (7 : Nat) "java/util/HashMap$Node" "hash" "I") ∈ lw_all := lw_g (lw_at lw_m8 12 rfl) rfl
theorem q1791 : (Jvm.Cond.fieldLink "java/util/HashMap$Node" (13 : Nat) "java/util/HashMap$Node" "key" "Ljava/lang/Object;") ∈ lw_all := lw_g (lw_at lw_m8 18 rfl) rfl
theorem q1798 : (Jvm.Cond.fieldLink "java/util/HashMap$Node" (17 : Nat) "java/util/HashMap$Node" "value" "Ljava/lang/Object;") ∈ lw_all := lw_g (lw_at lw_m8 25 rfl) rfl
theorem q1802 : (Jvm.Cond.fieldLink "java/util/HashMap$Node" (20 : Nat) "java/util/HashMap$Node" "next" "Ljava/util/HashMap$Node;") ∈ lw_all := lw_g (lw_at lw_m8 29 rfl) rfl
theorem q1814 : (Jvm.Cond.soleField "java/util/HashMap$Node" "hash") ∈ lw_all := lw_g (lw_at lw_m8 41 rfl) rfl
theorem q1816 : (Jvm.Cond.soleField "java/util/HashMap$Node" "key") ∈ lw_all := lw_g (lw_at lw_m8 43 rfl) rfl
theorem q1818 : (Jvm.Cond.soleField "java/util/HashMap$Node" "value") ∈ lw_all := lw_g (lw_at lw_m8 45 rfl) rfl
theorem q1820 : (Jvm.Cond.soleField "java/util/HashMap$Node" "next") ∈ lw_all := lw_g (lw_at lw_m8 47 rfl) rfl
theorem q3763 : (Jvm.Cond.castable "java/util/HashMap$Node" "java/lang/Object") ∈ lw_tbl := lw_at lw_m16 70 rfl
/-! java/util/LinkedHashMap$Entry -/
set_option maxRecDepth 100000
def RJ42 : String := "java/util/LinkedHashMap$Entry"
def TJ42 : u_T := fun k => match k with
  | 0 => ("java/util/HashMap$Node", "hash", "I", true)
  | 1 => ("java/util/HashMap$Node", "key", "Ljava/lang/Object;", true)
  | 2 => ("java/util/HashMap$Node", "value", "Ljava/lang/Object;", false)
  | 3 => ("java/util/HashMap$Node", "next", "Ljava/util/HashMap$Node;", false)
  | 4 => ("java/util/LinkedHashMap$Entry", "before", "Ljava/util/LinkedHashMap$Entry;", false)
  | _ => ("java/util/LinkedHashMap$Entry", "after", "Ljava/util/LinkedHashMap$Entry;", false)
def tyJ42 : Nat → FieldType := fun k => match k with
  | 0 => .int
  | 1 => .object "java/lang/Object"
  | 2 => .object "java/lang/Object"
  | 3 => .object "java/util/HashMap$Node"
  | 4 => .object "java/util/LinkedHashMap$Entry"
  | _ => .object "java/util/LinkedHashMap$Entry"
abbrev wsJ420 : List Cond := u_ws RJ42 TJ42 6
theorem nmJ42 : ∀ a, a < 6 → ∀ b, b < 6 → a ≠ b → (TJ42 a).2.1 ≠ (TJ42 b).2.1 := by decide +kernel
theorem tyJ42_ok : ∀ k, k < 6 → parseFieldDescriptor (TJ42 k).2.2.1 = some (tyJ42 k) := by decide +kernel
abbrev cJ42_init : ByteArray := prog_72_method_1_code
def yJ42_init : MethodName := ⟨RJ42, "<init>", "(ILjava/lang/Object;Ljava/lang/Object;Ljava/util/HashMap$Node;)V"⟩
def dkwJ42_init_0 : List UInt8 := [42, 27, 44, 45, 25, 4, 183, 0, 1, 177]
abbrev dktJ42_init_0 : List UInt8 := dkwJ42_init_0 ++ []
theorem dksJ42_init_0 : cJ42_init.data.toList.drop 0 = dktJ42_init_0 := by decide +kernel
theorem dJ42_init_0 : decode cJ42_init 0 = .ok (.aload_n 0, 1) := dk_42 (dk_at dksJ42_init_0 0 rfl rfl)
theorem dJ42_init_1 : decode cJ42_init 1 = .ok (.iload_n 1, 1) := dk_27 (dk_at dksJ42_init_0 1 rfl rfl)
theorem dJ42_init_2 : decode cJ42_init 2 = .ok (.aload_n 2, 1) := dk_44 (dk_at dksJ42_init_0 2 rfl rfl)
theorem dJ42_init_3 : decode cJ42_init 3 = .ok (.aload_n 3, 1) := dk_45 (dk_at dksJ42_init_0 3 rfl rfl)
theorem dJ42_init_4 : decode cJ42_init 4 = .ok (.aload 4, 2) := dk_25 4 (dk_at dksJ42_init_0 4 rfl rfl)
theorem dJ42_init_6 : decode cJ42_init 6 = .ok (.invokespecial 1, 3) := dk_183 0 1 (dk_at dksJ42_init_0 6 rfl rfl)
theorem dJ42_init_9 : decode cJ42_init 9 = .ok (.return_, 1) := dk_177 (dk_at dksJ42_init_0 9 rfl rfl)
theorem q142 : (Jvm.Cond.initialized "java/util/LinkedHashMap$Entry") ∈ lw_all := lw_g (lw_at lw_m1 49 rfl) rfl
theorem q914 : (Jvm.Cond.selects "java/util/LinkedHashMap$Entry" ({ cls := "java/lang/Object", name := "getClass", desc := "()Ljava/lang/Class;" } : Jvm.MethodName) ({ cls := "java/lang/Object", name := "getClass", desc := "()Ljava/lang/Class;" } : Jvm.MethodName)) ∈ lw_all := lw_g (lw_at lw_m4 101 rfl) rfl
theorem q1609 : (Jvm.Cond.sameMethod "java/util/LinkedHashMap$Entry" "java/util/HashMap$Node" "getKey" "()Ljava/lang/Object;") ∈ lw_all := lw_g (lw_at lw_m7 76 rfl) rfl
theorem q1612 : (Jvm.Cond.selects "java/util/LinkedHashMap$Entry" ({ cls := "java/util/LinkedHashMap$Entry", name := "getKey", desc := "()Ljava/lang/Object;" } : Jvm.MethodName) ({ cls := "java/util/HashMap$Node", name := "getKey", desc := "()Ljava/lang/Object;" } : Jvm.MethodName)) ∈ lw_all := lw_g (lw_at lw_m7 79 rfl) rfl
theorem q1773 : (Jvm.Cond.instantiable "java/util/LinkedHashMap$Entry" (6 : Nat)) ∈ lw_all := lw_g (lw_at lw_m8 0 rfl) rfl
theorem q1775 : (Jvm.Cond.instanceMethod ({ cls := "java/util/LinkedHashMap$Entry", name := "<init>", desc := "(ILjava/lang/Object;Ljava/lang/Object;Ljava/util/HashMap$Node;)V" } : Jvm.MethodName)) ∈ lw_all := lw_g (lw_at lw_m8 2 rfl) rfl
theorem q1776 : (Jvm.Cond.code ({ cls := "java/util/LinkedHashMap$Entry", name := "<init>", desc := "(ILjava/lang/Object;Ljava/lang/Object;Ljava/util/HashMap$Node;)V" } : Jvm.MethodName) prog_72_method_1_code (5 : Nat) (Option.none : Option Jvm.ClassFile.FieldType)) ∈ lw_all := lw_g (lw_at lw_m8 3 rfl) rfl
theorem q1777 : (Jvm.Cond.methodLink "java/util/LinkedHashMap$Entry" (1 : Nat) ({ cls := "java/util/HashMap$Node", name := "<init>", desc := "(ILjava/lang/Object;Ljava/lang/Object;Ljava/util/HashMap$Node;)V" } : Jvm.MethodName)) ∈ lw_all := lw_g (lw_at lw_m8 4 rfl) rfl
theorem q1789 : (Jvm.Cond.sameField "java/util/LinkedHashMap$Entry" "java/util/HashMap$Node" "hash" "I") ∈ lw_all := lw_g (lw_at lw_m8 16 rfl) rfl
theorem q1796 : (Jvm.Cond.sameField "java/util/LinkedHashMap$Entry" "java/util/HashMap$Node" "key" "Ljava/lang/Object;") ∈ lw_all := lw_g (lw_at lw_m8 23 rfl) rfl
theorem q1800 : (Jvm.Cond.sameField "java/util/LinkedHashMap$Entry" "java/util/HashMap$Node" "value" "Ljava/lang/Object;") ∈ lw_all := lw_g (lw_at lw_m8 27 rfl) rfl
theorem q1809 : (Jvm.Cond.lays "java/util/LinkedHashMap$Entry" "java/util/LinkedHashMap$Entry" "before" "Ljava/util/LinkedHashMap$Entry;") ∈ lw_all := lw_g (lw_at lw_m8 36 rfl) rfl
theorem q1810 : (Jvm.Cond.soleField "java/util/LinkedHashMap$Entry" "before") ∈ lw_all := lw_g (lw_at lw_m8 37 rfl) rfl
theorem q1811 : (Jvm.Cond.lays "java/util/LinkedHashMap$Entry" "java/util/LinkedHashMap$Entry" "after" "Ljava/util/LinkedHashMap$Entry;") ∈ lw_all := lw_g (lw_at lw_m8 38 rfl) rfl
theorem q1812 : (Jvm.Cond.soleField "java/util/LinkedHashMap$Entry" "after") ∈ lw_all := lw_g (lw_at lw_m8 39 rfl) rfl
theorem q1813 : (Jvm.Cond.laysFinal "java/util/LinkedHashMap$Entry" "java/util/HashMap$Node" "hash" "I") ∈ lw_all := lw_g (lw_at lw_m8 40 rfl) rfl
theorem q1815 : (Jvm.Cond.laysFinal "java/util/LinkedHashMap$Entry" "java/util/HashMap$Node" "key" "Ljava/lang/Object;") ∈ lw_all := lw_g (lw_at lw_m8 42 rfl) rfl
theorem q1817 : (Jvm.Cond.lays "java/util/LinkedHashMap$Entry" "java/util/HashMap$Node" "value" "Ljava/lang/Object;") ∈ lw_all := lw_g (lw_at lw_m8 44 rfl) rfl
theorem q1819 : (Jvm.Cond.lays "java/util/LinkedHashMap$Entry" "java/util/HashMap$Node" "next" "Ljava/util/HashMap$Node;") ∈ lw_all := lw_g (lw_at lw_m8 46 rfl) rfl
theorem q1821 : (Jvm.Cond.superclass "java/util/LinkedHashMap$Entry" "java/util/HashMap$Node") ∈ lw_all := lw_g (lw_at lw_m8 48 rfl) rfl
theorem q3784 : (Jvm.Cond.castable "java/util/LinkedHashMap$Entry" "java/lang/Object") ∈ lw_tbl := lw_at lw_m16 91 rfl
theorem q3805 : (Jvm.Cond.castable "java/util/LinkedHashMap$Entry" "java/util/HashMap$Node") ∈ lw_tbl := lw_at lw_m16 112 rfl
theorem in_J42 : ∀ w ∈ wsJ420, w ∈ lw_all := lw_in wsJ420 [1813, 1815, 1817, 1819, 1809, 1811] (by decide +kernel) (by decide +kernel)
/-! java/util/ArrayDeque$DeqIterator -/
set_option maxRecDepth 100000
def RJ46 : String := "java/util/ArrayDeque$DeqIterator"
def TJ46 : u_T := fun k => match k with
  | 0 => ("java/util/ArrayDeque$DeqIterator", "cursor", "I", false)
  | 1 => ("java/util/ArrayDeque$DeqIterator", "remaining", "I", false)
  | 2 => ("java/util/ArrayDeque$DeqIterator", "lastRet", "I", false)
  | _ => ("java/util/ArrayDeque$DeqIterator", "this$0", "Ljava/util/ArrayDeque;", true)
def tyJ46 : Nat → FieldType := fun k => match k with
  | 0 => .int
  | 1 => .int
  | 2 => .int
  | _ => .object "java/util/ArrayDeque"
abbrev wsJ460 : List Cond := u_ws RJ46 TJ46 4
theorem nmJ46 : ∀ a, a < 4 → ∀ b, b < 4 → a ≠ b → (TJ46 a).2.1 ≠ (TJ46 b).2.1 := by decide +kernel
theorem tyJ46_ok : ∀ k, k < 4 → parseFieldDescriptor (TJ46 k).2.2.1 = some (tyJ46 k) := by decide +kernel
abbrev cJ46_hasNext : ByteArray := prog_57_method_2_code
def yJ46_hasNext : MethodName := ⟨RJ46, "hasNext", "()Z"⟩
def dkwJ46_hasNext_0 : List UInt8 := [42, 180, 0, 19, 158, 0, 7, 4, 167, 0, 4, 3, 172]
abbrev dktJ46_hasNext_0 : List UInt8 := dkwJ46_hasNext_0 ++ []
theorem dksJ46_hasNext_0 : cJ46_hasNext.data.toList.drop 0 = dktJ46_hasNext_0 := by decide +kernel
theorem dJ46_hasNext_0 : decode cJ46_hasNext 0 = .ok (.aload_n 0, 1) := dk_42 (dk_at dksJ46_hasNext_0 0 rfl rfl)
theorem dJ46_hasNext_1 : decode cJ46_hasNext 1 = .ok (.getfield 19, 3) := dk_180 0 19 (dk_at dksJ46_hasNext_0 1 rfl rfl)
theorem dJ46_hasNext_4 : decode cJ46_hasNext 4 = .ok (.ifCond .le 7, 3) := dk_158 0 7 (dk_at dksJ46_hasNext_0 4 rfl rfl)
theorem dJ46_hasNext_7 : decode cJ46_hasNext 7 = .ok (.iconst 1, 1) := dk_4 (dk_at dksJ46_hasNext_0 7 rfl rfl)
theorem dJ46_hasNext_8 : decode cJ46_hasNext 8 = .ok (.goto 4, 3) := dk_167 0 4 (dk_at dksJ46_hasNext_0 8 rfl rfl)
theorem dJ46_hasNext_11 : decode cJ46_hasNext 11 = .ok (.iconst 0, 1) := dk_3 (dk_at dksJ46_hasNext_0 11 rfl rfl)
theorem dJ46_hasNext_12 : decode cJ46_hasNext 12 = .ok (.ireturn, 1) := dk_172 (dk_at dksJ46_hasNext_0 12 rfl rfl)
abbrev cJ46_next : ByteArray := prog_57_method_3_code
def yJ46_next : MethodName := ⟨RJ46, "next", "()Ljava/lang/Object;"⟩
def dkwJ46_next_2 : List UInt8 := [181, 0, 29, 42, 89, 180, 0, 19, 4, 100, 181, 0, 19, 44, 176]
abbrev dktJ46_next_2 : List UInt8 := dkwJ46_next_2 ++ []
def dkwJ46_next_1 : List UInt8 := [42, 180, 0, 29, 184, 0, 39, 77, 42, 42, 42, 180, 0, 29, 90, 181, 0, 23, 43, 190, 184, 0, 43]
abbrev dktJ46_next_1 : List UInt8 := dkwJ46_next_1 ++ dktJ46_next_2
def dkwJ46_next_0 : List UInt8 := [42, 180, 0, 19, 157, 0, 11, 187, 0, 32, 89, 183, 0, 34, 191, 42, 180, 0, 1, 180, 0, 35, 76, 43]
abbrev dktJ46_next_0 : List UInt8 := dkwJ46_next_0 ++ dktJ46_next_1
theorem dksJ46_next_0 : cJ46_next.data.toList.drop 0 = dktJ46_next_0 := by decide +kernel
theorem dksJ46_next_1 : cJ46_next.data.toList.drop 24 = dktJ46_next_1 := dk_seg dksJ46_next_0 24 rfl rfl
theorem dksJ46_next_2 : cJ46_next.data.toList.drop 47 = dktJ46_next_2 := dk_seg dksJ46_next_1 23 rfl rfl
theorem dJ46_next_0 : decode cJ46_next 0 = .ok (.aload_n 0, 1) := dk_42 (dk_at dksJ46_next_0 0 rfl rfl)
theorem dJ46_next_1 : decode cJ46_next 1 = .ok (.getfield 19, 3) := dk_180 0 19 (dk_at dksJ46_next_0 1 rfl rfl)
theorem dJ46_next_4 : decode cJ46_next 4 = .ok (.ifCond .gt 11, 3) := dk_157 0 11 (dk_at dksJ46_next_0 4 rfl rfl)
theorem dJ46_next_7 : decode cJ46_next 7 = .ok (.new 32, 3) := dk_187 0 32 (dk_at dksJ46_next_0 7 rfl rfl)
theorem dJ46_next_10 : decode cJ46_next 10 = .ok (.dup, 1) := dk_89 (dk_at dksJ46_next_0 10 rfl rfl)
theorem dJ46_next_11 : decode cJ46_next 11 = .ok (.invokespecial 34, 3) := dk_183 0 34 (dk_at dksJ46_next_0 11 rfl rfl)
theorem dJ46_next_14 : decode cJ46_next 14 = .ok (.athrow, 1) := dk_191 (dk_at dksJ46_next_0 14 rfl rfl)
theorem dJ46_next_15 : decode cJ46_next 15 = .ok (.aload_n 0, 1) := dk_42 (dk_at dksJ46_next_0 15 rfl rfl)
theorem dJ46_next_16 : decode cJ46_next 16 = .ok (.getfield 1, 3) := dk_180 0 1 (dk_at dksJ46_next_0 16 rfl rfl)
theorem dJ46_next_19 : decode cJ46_next 19 = .ok (.getfield 35, 3) := dk_180 0 35 (dk_at dksJ46_next_0 19 rfl rfl)
theorem dJ46_next_22 : decode cJ46_next 22 = .ok (.astore_n 1, 1) := dk_76 (dk_at dksJ46_next_0 22 rfl rfl)
theorem dJ46_next_23 : decode cJ46_next 23 = .ok (.aload_n 1, 1) := dk_43 (dk_at dksJ46_next_0 23 rfl rfl)
theorem dJ46_next_24 : decode cJ46_next 24 = .ok (.aload_n 0, 1) := dk_42 (dk_at dksJ46_next_1 0 rfl rfl)
theorem dJ46_next_25 : decode cJ46_next 25 = .ok (.getfield 29, 3) := dk_180 0 29 (dk_at dksJ46_next_1 1 rfl rfl)
theorem dJ46_next_28 : decode cJ46_next 28 = .ok (.invokestatic 39, 3) := dk_184 0 39 (dk_at dksJ46_next_1 4 rfl rfl)
theorem dJ46_next_31 : decode cJ46_next 31 = .ok (.astore_n 2, 1) := dk_77 (dk_at dksJ46_next_1 7 rfl rfl)
theorem dJ46_next_32 : decode cJ46_next 32 = .ok (.aload_n 0, 1) := dk_42 (dk_at dksJ46_next_1 8 rfl rfl)
theorem dJ46_next_33 : decode cJ46_next 33 = .ok (.aload_n 0, 1) := dk_42 (dk_at dksJ46_next_1 9 rfl rfl)
theorem dJ46_next_34 : decode cJ46_next 34 = .ok (.aload_n 0, 1) := dk_42 (dk_at dksJ46_next_1 10 rfl rfl)
theorem dJ46_next_35 : decode cJ46_next 35 = .ok (.getfield 29, 3) := dk_180 0 29 (dk_at dksJ46_next_1 11 rfl rfl)
theorem dJ46_next_38 : decode cJ46_next 38 = .ok (.dup_x1, 1) := dk_90 (dk_at dksJ46_next_1 14 rfl rfl)
theorem dJ46_next_39 : decode cJ46_next 39 = .ok (.putfield 23, 3) := dk_181 0 23 (dk_at dksJ46_next_1 15 rfl rfl)
theorem dJ46_next_42 : decode cJ46_next 42 = .ok (.aload_n 1, 1) := dk_43 (dk_at dksJ46_next_1 18 rfl rfl)
theorem dJ46_next_43 : decode cJ46_next 43 = .ok (.arraylength, 1) := dk_190 (dk_at dksJ46_next_1 19 rfl rfl)
theorem dJ46_next_44 : decode cJ46_next 44 = .ok (.invokestatic 43, 3) := dk_184 0 43 (dk_at dksJ46_next_1 20 rfl rfl)
theorem dJ46_next_47 : decode cJ46_next 47 = .ok (.putfield 29, 3) := dk_181 0 29 (dk_at dksJ46_next_2 0 rfl rfl)
theorem dJ46_next_50 : decode cJ46_next 50 = .ok (.aload_n 0, 1) := dk_42 (dk_at dksJ46_next_2 3 rfl rfl)
theorem dJ46_next_51 : decode cJ46_next 51 = .ok (.dup, 1) := dk_89 (dk_at dksJ46_next_2 4 rfl rfl)
theorem dJ46_next_52 : decode cJ46_next 52 = .ok (.getfield 19, 3) := dk_180 0 19 (dk_at dksJ46_next_2 5 rfl rfl)
theorem dJ46_next_55 : decode cJ46_next 55 = .ok (.iconst 1, 1) := dk_4 (dk_at dksJ46_next_2 8 rfl rfl)
theorem dJ46_next_56 : decode cJ46_next 56 = .ok (.isub, 1) := dk_100 (dk_at dksJ46_next_2 9 rfl rfl)
theorem dJ46_next_57 : decode cJ46_next 57 = .ok (.putfield 19, 3) := dk_181 0 19 (dk_at dksJ46_next_2 10 rfl rfl)
theorem dJ46_next_60 : decode cJ46_next 60 = .ok (.aload_n 2, 1) := dk_44 (dk_at dksJ46_next_2 13 rfl rfl)
theorem dJ46_next_61 : decode cJ46_next 61 = .ok (.areturn, 1) := dk_176 (dk_at dksJ46_next_2 14 rfl rfl)
abbrev cJ46_init : ByteArray := prog_57_method_1_code
def yJ46_init : MethodName := ⟨RJ46, "<init>", "(Ljava/util/ArrayDeque;)V"⟩
def dkwJ46_init_1 : List UInt8 := [181, 0, 23, 42, 43, 180, 0, 26, 181, 0, 29, 177]
abbrev dktJ46_init_1 : List UInt8 := dkwJ46_init_1 ++ []
def dkwJ46_init_0 : List UInt8 := [42, 43, 181, 0, 1, 42, 183, 0, 7, 42, 42, 180, 0, 1, 182, 0, 13, 181, 0, 19, 42, 2]
abbrev dktJ46_init_0 : List UInt8 := dkwJ46_init_0 ++ dktJ46_init_1
theorem dksJ46_init_0 : cJ46_init.data.toList.drop 0 = dktJ46_init_0 := by decide +kernel
theorem dksJ46_init_1 : cJ46_init.data.toList.drop 22 = dktJ46_init_1 := dk_seg dksJ46_init_0 22 rfl rfl
theorem dJ46_init_0 : decode cJ46_init 0 = .ok (.aload_n 0, 1) := dk_42 (dk_at dksJ46_init_0 0 rfl rfl)
theorem dJ46_init_1 : decode cJ46_init 1 = .ok (.aload_n 1, 1) := dk_43 (dk_at dksJ46_init_0 1 rfl rfl)
theorem dJ46_init_2 : decode cJ46_init 2 = .ok (.putfield 1, 3) := dk_181 0 1 (dk_at dksJ46_init_0 2 rfl rfl)
theorem dJ46_init_5 : decode cJ46_init 5 = .ok (.aload_n 0, 1) := dk_42 (dk_at dksJ46_init_0 5 rfl rfl)
theorem dJ46_init_6 : decode cJ46_init 6 = .ok (.invokespecial 7, 3) := dk_183 0 7 (dk_at dksJ46_init_0 6 rfl rfl)
theorem dJ46_init_9 : decode cJ46_init 9 = .ok (.aload_n 0, 1) := dk_42 (dk_at dksJ46_init_0 9 rfl rfl)
theorem dJ46_init_10 : decode cJ46_init 10 = .ok (.aload_n 0, 1) := dk_42 (dk_at dksJ46_init_0 10 rfl rfl)
theorem dJ46_init_11 : decode cJ46_init 11 = .ok (.getfield 1, 3) := dk_180 0 1 (dk_at dksJ46_init_0 11 rfl rfl)
theorem dJ46_init_14 : decode cJ46_init 14 = .ok (.invokevirtual 13, 3) := dk_182 0 13 (dk_at dksJ46_init_0 14 rfl rfl)
theorem dJ46_init_17 : decode cJ46_init 17 = .ok (.putfield 19, 3) := dk_181 0 19 (dk_at dksJ46_init_0 17 rfl rfl)
theorem dJ46_init_20 : decode cJ46_init 20 = .ok (.aload_n 0, 1) := dk_42 (dk_at dksJ46_init_0 20 rfl rfl)
theorem dJ46_init_21 : decode cJ46_init 21 = .ok (.iconst (-1), 1) := dk_2 (dk_at dksJ46_init_0 21 rfl rfl)
theorem dJ46_init_22 : decode cJ46_init 22 = .ok (.putfield 23, 3) := dk_181 0 23 (dk_at dksJ46_init_1 0 rfl rfl)
theorem dJ46_init_25 : decode cJ46_init 25 = .ok (.aload_n 0, 1) := dk_42 (dk_at dksJ46_init_1 3 rfl rfl)
theorem dJ46_init_26 : decode cJ46_init 26 = .ok (.aload_n 1, 1) := dk_43 (dk_at dksJ46_init_1 4 rfl rfl)
theorem dJ46_init_27 : decode cJ46_init 27 = .ok (.getfield 26, 3) := dk_180 0 26 (dk_at dksJ46_init_1 5 rfl rfl)
theorem dJ46_init_30 : decode cJ46_init 30 = .ok (.putfield 29, 3) := dk_181 0 29 (dk_at dksJ46_init_1 8 rfl rfl)
theorem dJ46_init_33 : decode cJ46_init 33 = .ok (.return_, 1) := dk_177 (dk_at dksJ46_init_1 11 rfl rfl)
theorem q147 : (Jvm.Cond.initialized "java/util/ArrayDeque$DeqIterator") ∈ lw_all := lw_g (lw_at lw_m1 54 rfl) rfl
theorem q906 : (Jvm.Cond.selects "java/util/ArrayDeque$DeqIterator" ({ cls := "java/lang/Object", name := "getClass", desc := "()Ljava/lang/Class;" } : Jvm.MethodName) ({ cls := "java/lang/Object", name := "getClass", desc := "()Ljava/lang/Class;" } : Jvm.MethodName)) ∈ lw_all := lw_g (lw_at lw_m4 93 rfl) rfl
theorem q1127 : (Jvm.Cond.fieldLink "java/util/ArrayDeque$DeqIterator" (35 : Nat) "java/util/ArrayDeque" "elements" "[Ljava/lang/Object;") ∈ lw_all := lw_g (lw_at lw_m5 74 rfl) rfl
theorem q1128 : (Jvm.Cond.fieldLink "java/util/ArrayDeque$DeqIterator" (26 : Nat) "java/util/ArrayDeque" "head" "I") ∈ lw_all := lw_g (lw_at lw_m5 75 rfl) rfl
theorem q1499 : (Jvm.Cond.castable "java/util/ArrayDeque$DeqIterator" "java/util/Iterator") ∈ lw_tbl := lw_at lw_m6 206 rfl
theorem q1500 : (Jvm.Cond.selects "java/util/ArrayDeque$DeqIterator" ({ cls := "java/util/Iterator", name := "hasNext", desc := "()Z" } : Jvm.MethodName) ({ cls := "java/util/ArrayDeque$DeqIterator", name := "hasNext", desc := "()Z" } : Jvm.MethodName)) ∈ lw_all := lw_g (lw_at lw_m6 207 rfl) rfl
theorem q1501 : (Jvm.Cond.unhidden "java/util/ArrayDeque$DeqIterator" "hasNext" "()Z") ∈ lw_tbl := lw_at lw_m6 208 rfl
theorem q1502 : (Jvm.Cond.instanceMethod ({ cls := "java/util/ArrayDeque$DeqIterator", name := "hasNext", desc := "()Z" } : Jvm.MethodName)) ∈ lw_all := lw_g (lw_at lw_m6 209 rfl) rfl
theorem q1503 : (Jvm.Cond.publicMethod ({ cls := "java/util/ArrayDeque$DeqIterator", name := "hasNext", desc := "()Z" } : Jvm.MethodName)) ∈ lw_tbl := lw_at lw_m6 210 rfl
theorem q1504 : (Jvm.Cond.code ({ cls := "java/util/ArrayDeque$DeqIterator", name := "hasNext", desc := "()Z" } : Jvm.MethodName) prog_57_method_2_code (1 : Nat) (Option.some Jvm.ClassFile.FieldType.boolean)) ∈ lw_all := lw_g (lw_at lw_m6 211 rfl) rfl
theorem q1558 : (Jvm.Cond.selects "java/util/ArrayDeque$DeqIterator" ({ cls := "java/util/Iterator", name := "next", desc := "()Ljava/lang/Object;" } : Jvm.MethodName) ({ cls := "java/util/ArrayDeque$DeqIterator", name := "next", desc := "()Ljava/lang/Object;" } : Jvm.MethodName)) ∈ lw_all := lw_g (lw_at lw_m7 25 rfl) rfl
theorem q1559 : (Jvm.Cond.unhidden "java/util/ArrayDeque$DeqIterator" "next" "()Ljava/lang/Object;") ∈ lw_tbl := lw_at lw_m7 26 rfl
theorem q1560 : (Jvm.Cond.instanceMethod ({ cls := "java/util/ArrayDeque$DeqIterator", name := "next", desc := "()Ljava/lang/Object;" } : Jvm.MethodName)) ∈ lw_all := lw_g (lw_at lw_m7 27 rfl) rfl
theorem q1561 : (Jvm.Cond.publicMethod ({ cls := "java/util/ArrayDeque$DeqIterator", name := "next", desc := "()Ljava/lang/Object;" } : Jvm.MethodName)) ∈ lw_tbl := lw_at lw_m7 28 rfl
theorem q1562 : (Jvm.Cond.code ({ cls := "java/util/ArrayDeque$DeqIterator", name := "next", desc := "()Ljava/lang/Object;" } : Jvm.MethodName) prog_57_method_3_code (3 : Nat) (Option.some (Jvm.ClassFile.FieldType.object "java/lang/Object"))) ∈ lw_all := lw_g (lw_at lw_m7 29 rfl) rfl
theorem q1563 : (Jvm.Cond.classLink "java/util/ArrayDeque$DeqIterator" (32 : Nat) "java/util/NoSuchElementException") ∈ lw_all := lw_g (lw_at lw_m7 30 rfl) rfl
theorem q1564 : (Jvm.Cond.methodLink "java/util/ArrayDeque$DeqIterator" (34 : Nat) ({ cls := "java/util/NoSuchElementException", name := "<init>", desc := "()V" } : Jvm.MethodName)) ∈ lw_all := lw_g (lw_at lw_m7 31 rfl) rfl
theorem q1565 : (Jvm.Cond.methodLink "java/util/ArrayDeque$DeqIterator" (39 : Nat) ({ cls := "java/util/ArrayDeque", name := "nonNullElementAt", desc := "([Ljava/lang/Object;I)Ljava/lang/Object;" } : Jvm.MethodName)) ∈ lw_all := lw_g (lw_at lw_m7 32 rfl) rfl
theorem q1568 : (Jvm.Cond.methodLink "java/util/ArrayDeque$DeqIterator" (43 : Nat) ({ cls := "java/util/ArrayDeque", name := "inc", desc := "(II)I" } : Jvm.MethodName)) ∈ lw_all := lw_g (lw_at lw_m7 35 rfl) rfl
theorem q2193 : (Jvm.Cond.instantiable "java/util/ArrayDeque$DeqIterator" (4 : Nat)) ∈ lw_all := lw_g (lw_at lw_m9 180 rfl) rfl
theorem q2195 : (Jvm.Cond.instanceMethod ({ cls := "java/util/ArrayDeque$DeqIterator", name := "<init>", desc := "(Ljava/util/ArrayDeque;)V" } : Jvm.MethodName)) ∈ lw_all := lw_g (lw_at lw_m9 182 rfl) rfl
theorem q2196 : (Jvm.Cond.code ({ cls := "java/util/ArrayDeque$DeqIterator", name := "<init>", desc := "(Ljava/util/ArrayDeque;)V" } : Jvm.MethodName) prog_57_method_1_code (2 : Nat) (Option.none : Option Jvm.ClassFile.FieldType)) ∈ lw_all := lw_g (lw_at lw_m9 183 rfl) rfl
theorem q2197 : (Jvm.Cond.methodLink "java/util/ArrayDeque$DeqIterator" (7 : Nat) ({ cls := "java/lang/Object", name := "<init>", desc := "()V" } : Jvm.MethodName)) ∈ lw_all := lw_g (lw_at lw_m9 184 rfl) rfl
theorem q2198 : (Jvm.Cond.methodLink "java/util/ArrayDeque$DeqIterator" (13 : Nat) ({ cls := "java/util/ArrayDeque", name := "size", desc := "()I" } : Jvm.MethodName)) ∈ lw_all := lw_g (lw_at lw_m9 185 rfl) rfl
theorem q2205 : (Jvm.Cond.fieldLink "java/util/ArrayDeque$DeqIterator" (29 : Nat) "java/util/ArrayDeque$DeqIterator" "cursor" "I") ∈ lw_all := lw_g (lw_at lw_m9 192 rfl) rfl
theorem q2206 : (Jvm.Cond.fieldLink "java/util/ArrayDeque$DeqIterator" (19 : Nat) "java/util/ArrayDeque$DeqIterator" "remaining" "I") ∈ lw_all := lw_g (lw_at lw_m9 193 rfl) rfl
theorem q2207 : (Jvm.Cond.fieldLink "java/util/ArrayDeque$DeqIterator" (23 : Nat) "java/util/ArrayDeque$DeqIterator" "lastRet" "I") ∈ lw_all := lw_g (lw_at lw_m9 194 rfl) rfl
theorem q2208 : (Jvm.Cond.fieldLink "java/util/ArrayDeque$DeqIterator" (1 : Nat) "java/util/ArrayDeque$DeqIterator" "this$0" "Ljava/util/ArrayDeque;") ∈ lw_all := lw_g (lw_at lw_m9 195 rfl) rfl
theorem q2209 : (Jvm.Cond.lays "java/util/ArrayDeque$DeqIterator" "java/util/ArrayDeque$DeqIterator" "cursor" "I") ∈ lw_all := lw_g (lw_at lw_m9 196 rfl) rfl
theorem q2210 : (Jvm.Cond.soleField "java/util/ArrayDeque$DeqIterator" "cursor") ∈ lw_all := lw_g (lw_at lw_m9 197 rfl) rfl
theorem q2211 : (Jvm.Cond.lays "java/util/ArrayDeque$DeqIterator" "java/util/ArrayDeque$DeqIterator" "remaining" "I") ∈ lw_all := lw_g (lw_at lw_m9 198 rfl) rfl
theorem q2212 : (Jvm.Cond.soleField "java/util/ArrayDeque$DeqIterator" "remaining") ∈ lw_all := lw_g (lw_at lw_m9 199 rfl) rfl
theorem q2213 : (Jvm.Cond.lays "java/util/ArrayDeque$DeqIterator" "java/util/ArrayDeque$DeqIterator" "lastRet" "I") ∈ lw_all := lw_g (lw_at lw_m9 200 rfl) rfl
theorem q2214 : (Jvm.Cond.soleField "java/util/ArrayDeque$DeqIterator" "lastRet") ∈ lw_all := lw_g (lw_at lw_m9 201 rfl) rfl
theorem q2215 : (Jvm.Cond.laysFinal "java/util/ArrayDeque$DeqIterator" "java/util/ArrayDeque$DeqIterator" "this$0" "Ljava/util/ArrayDeque;") ∈ lw_all := lw_g (lw_at lw_m9 202 rfl) rfl
theorem q2216 : (Jvm.Cond.soleField "java/util/ArrayDeque$DeqIterator" "this$0") ∈ lw_all := lw_g (lw_at lw_m9 203 rfl) rfl
theorem q2217 : (Jvm.Cond.superclass "java/util/ArrayDeque$DeqIterator" "java/lang/Object") ∈ lw_all := lw_g (lw_at lw_m9 204 rfl) rfl
theorem q3787 : (Jvm.Cond.castable "java/util/ArrayDeque$DeqIterator" "java/lang/Object") ∈ lw_tbl := lw_at lw_m16 94 rfl
theorem in_J46 : ∀ w ∈ wsJ460, w ∈ lw_all := lw_in wsJ460 [2209, 2211, 2213, 2215] (by decide +kernel) (by decide +kernel)
/-! java/util/ArrayList$Itr -/
set_option maxRecDepth 100000
def RJ47 : String := "java/util/ArrayList$Itr"
def TJ47 : u_T := fun k => match k with
  | 0 => ("java/util/ArrayList$Itr", "cursor", "I", false)
  | 1 => ("java/util/ArrayList$Itr", "lastRet", "I", false)
  | 2 => ("java/util/ArrayList$Itr", "expectedModCount", "I", false)
  | _ => ("java/util/ArrayList$Itr", "this$0", "Ljava/util/ArrayList;", true)
def tyJ47 : Nat → FieldType := fun k => match k with
  | 0 => .int
  | 1 => .int
  | 2 => .int
  | _ => .object "java/util/ArrayList"
abbrev wsJ470 : List Cond := u_ws RJ47 TJ47 4
theorem nmJ47 : ∀ a, a < 4 → ∀ b, b < 4 → a ≠ b → (TJ47 a).2.1 ≠ (TJ47 b).2.1 := by decide +kernel
theorem tyJ47_ok : ∀ k, k < 4 → parseFieldDescriptor (TJ47 k).2.2.1 = some (tyJ47 k) := by decide +kernel
abbrev cJ47_hasNext : ByteArray := prog_59_method_2_code
def yJ47_hasNext : MethodName := ⟨RJ47, "hasNext", "()Z"⟩
def dkwJ47_hasNext_0 : List UInt8 := [42, 180, 0, 25, 42, 180, 0, 1, 180, 0, 28, 159, 0, 7, 4, 167, 0, 4, 3, 172]
abbrev dktJ47_hasNext_0 : List UInt8 := dkwJ47_hasNext_0 ++ []
theorem dksJ47_hasNext_0 : cJ47_hasNext.data.toList.drop 0 = dktJ47_hasNext_0 := by decide +kernel
theorem dJ47_hasNext_0 : decode cJ47_hasNext 0 = .ok (.aload_n 0, 1) := dk_42 (dk_at dksJ47_hasNext_0 0 rfl rfl)
theorem dJ47_hasNext_1 : decode cJ47_hasNext 1 = .ok (.getfield 25, 3) := dk_180 0 25 (dk_at dksJ47_hasNext_0 1 rfl rfl)
theorem dJ47_hasNext_4 : decode cJ47_hasNext 4 = .ok (.aload_n 0, 1) := dk_42 (dk_at dksJ47_hasNext_0 4 rfl rfl)
theorem dJ47_hasNext_5 : decode cJ47_hasNext 5 = .ok (.getfield 1, 3) := dk_180 0 1 (dk_at dksJ47_hasNext_0 5 rfl rfl)
theorem dJ47_hasNext_8 : decode cJ47_hasNext 8 = .ok (.getfield 28, 3) := dk_180 0 28 (dk_at dksJ47_hasNext_0 8 rfl rfl)
theorem dJ47_hasNext_11 : decode cJ47_hasNext 11 = .ok (.if_icmp .eq 7, 3) := dk_159 0 7 (dk_at dksJ47_hasNext_0 11 rfl rfl)
theorem dJ47_hasNext_14 : decode cJ47_hasNext 14 = .ok (.iconst 1, 1) := dk_4 (dk_at dksJ47_hasNext_0 14 rfl rfl)
theorem dJ47_hasNext_15 : decode cJ47_hasNext 15 = .ok (.goto 4, 3) := dk_167 0 4 (dk_at dksJ47_hasNext_0 15 rfl rfl)
theorem dJ47_hasNext_18 : decode cJ47_hasNext 18 = .ok (.iconst 0, 1) := dk_3 (dk_at dksJ47_hasNext_0 18 rfl rfl)
theorem dJ47_hasNext_19 : decode cJ47_hasNext 19 = .ok (.ireturn, 1) := dk_172 (dk_at dksJ47_hasNext_0 19 rfl rfl)
abbrev cJ47_next : ByteArray := prog_59_method_3_code
def yJ47_next : MethodName := ⟨RJ47, "next", "()Ljava/lang/Object;"⟩
def dkwJ47_next_2 : List UInt8 := [183, 0, 43, 191, 42, 27, 4, 96, 181, 0, 25, 44, 42, 27, 90, 181, 0, 13, 50, 176]
abbrev dktJ47_next_2 : List UInt8 := dkwJ47_next_2 ++ []
def dkwJ47_next_1 : List UInt8 := [183, 0, 36, 191, 42, 180, 0, 1, 180, 0, 37, 77, 27, 44, 190, 161, 0, 11, 187, 0, 41, 89]
abbrev dktJ47_next_1 : List UInt8 := dkwJ47_next_1 ++ dktJ47_next_2
def dkwJ47_next_0 : List UInt8 := [42, 182, 0, 31, 42, 180, 0, 25, 60, 27, 42, 180, 0, 1, 180, 0, 28, 161, 0, 11, 187, 0, 34, 89]
abbrev dktJ47_next_0 : List UInt8 := dkwJ47_next_0 ++ dktJ47_next_1
theorem dksJ47_next_0 : cJ47_next.data.toList.drop 0 = dktJ47_next_0 := by decide +kernel
theorem dksJ47_next_1 : cJ47_next.data.toList.drop 24 = dktJ47_next_1 := dk_seg dksJ47_next_0 24 rfl rfl
theorem dksJ47_next_2 : cJ47_next.data.toList.drop 46 = dktJ47_next_2 := dk_seg dksJ47_next_1 22 rfl rfl
theorem dJ47_next_0 : decode cJ47_next 0 = .ok (.aload_n 0, 1) := dk_42 (dk_at dksJ47_next_0 0 rfl rfl)
theorem dJ47_next_1 : decode cJ47_next 1 = .ok (.invokevirtual 31, 3) := dk_182 0 31 (dk_at dksJ47_next_0 1 rfl rfl)
theorem dJ47_next_4 : decode cJ47_next 4 = .ok (.aload_n 0, 1) := dk_42 (dk_at dksJ47_next_0 4 rfl rfl)
theorem dJ47_next_5 : decode cJ47_next 5 = .ok (.getfield 25, 3) := dk_180 0 25 (dk_at dksJ47_next_0 5 rfl rfl)
theorem dJ47_next_8 : decode cJ47_next 8 = .ok (.istore_n 1, 1) := dk_60 (dk_at dksJ47_next_0 8 rfl rfl)
theorem dJ47_next_9 : decode cJ47_next 9 = .ok (.iload_n 1, 1) := dk_27 (dk_at dksJ47_next_0 9 rfl rfl)
theorem dJ47_next_10 : decode cJ47_next 10 = .ok (.aload_n 0, 1) := dk_42 (dk_at dksJ47_next_0 10 rfl rfl)
theorem dJ47_next_11 : decode cJ47_next 11 = .ok (.getfield 1, 3) := dk_180 0 1 (dk_at dksJ47_next_0 11 rfl rfl)
theorem dJ47_next_14 : decode cJ47_next 14 = .ok (.getfield 28, 3) := dk_180 0 28 (dk_at dksJ47_next_0 14 rfl rfl)
theorem dJ47_next_17 : decode cJ47_next 17 = .ok (.if_icmp .lt 11, 3) := dk_161 0 11 (dk_at dksJ47_next_0 17 rfl rfl)
theorem dJ47_next_20 : decode cJ47_next 20 = .ok (.new 34, 3) := dk_187 0 34 (dk_at dksJ47_next_0 20 rfl rfl)
theorem dJ47_next_23 : decode cJ47_next 23 = .ok (.dup, 1) := dk_89 (dk_at dksJ47_next_0 23 rfl rfl)
theorem dJ47_next_24 : decode cJ47_next 24 = .ok (.invokespecial 36, 3) := dk_183 0 36 (dk_at dksJ47_next_1 0 rfl rfl)
theorem dJ47_next_27 : decode cJ47_next 27 = .ok (.athrow, 1) := dk_191 (dk_at dksJ47_next_1 3 rfl rfl)
theorem dJ47_next_28 : decode cJ47_next 28 = .ok (.aload_n 0, 1) := dk_42 (dk_at dksJ47_next_1 4 rfl rfl)
theorem dJ47_next_29 : decode cJ47_next 29 = .ok (.getfield 1, 3) := dk_180 0 1 (dk_at dksJ47_next_1 5 rfl rfl)
theorem dJ47_next_32 : decode cJ47_next 32 = .ok (.getfield 37, 3) := dk_180 0 37 (dk_at dksJ47_next_1 8 rfl rfl)
theorem dJ47_next_35 : decode cJ47_next 35 = .ok (.astore_n 2, 1) := dk_77 (dk_at dksJ47_next_1 11 rfl rfl)
theorem dJ47_next_36 : decode cJ47_next 36 = .ok (.iload_n 1, 1) := dk_27 (dk_at dksJ47_next_1 12 rfl rfl)
theorem dJ47_next_37 : decode cJ47_next 37 = .ok (.aload_n 2, 1) := dk_44 (dk_at dksJ47_next_1 13 rfl rfl)
theorem dJ47_next_38 : decode cJ47_next 38 = .ok (.arraylength, 1) := dk_190 (dk_at dksJ47_next_1 14 rfl rfl)
theorem dJ47_next_39 : decode cJ47_next 39 = .ok (.if_icmp .lt 11, 3) := dk_161 0 11 (dk_at dksJ47_next_1 15 rfl rfl)
theorem dJ47_next_42 : decode cJ47_next 42 = .ok (.new 41, 3) := dk_187 0 41 (dk_at dksJ47_next_1 18 rfl rfl)
theorem dJ47_next_45 : decode cJ47_next 45 = .ok (.dup, 1) := dk_89 (dk_at dksJ47_next_1 21 rfl rfl)
theorem dJ47_next_46 : decode cJ47_next 46 = .ok (.invokespecial 43, 3) := dk_183 0 43 (dk_at dksJ47_next_2 0 rfl rfl)
theorem dJ47_next_49 : decode cJ47_next 49 = .ok (.athrow, 1) := dk_191 (dk_at dksJ47_next_2 3 rfl rfl)
theorem dJ47_next_50 : decode cJ47_next 50 = .ok (.aload_n 0, 1) := dk_42 (dk_at dksJ47_next_2 4 rfl rfl)
theorem dJ47_next_51 : decode cJ47_next 51 = .ok (.iload_n 1, 1) := dk_27 (dk_at dksJ47_next_2 5 rfl rfl)
theorem dJ47_next_52 : decode cJ47_next 52 = .ok (.iconst 1, 1) := dk_4 (dk_at dksJ47_next_2 6 rfl rfl)
theorem dJ47_next_53 : decode cJ47_next 53 = .ok (.iadd, 1) := dk_96 (dk_at dksJ47_next_2 7 rfl rfl)
theorem dJ47_next_54 : decode cJ47_next 54 = .ok (.putfield 25, 3) := dk_181 0 25 (dk_at dksJ47_next_2 8 rfl rfl)
theorem dJ47_next_57 : decode cJ47_next 57 = .ok (.aload_n 2, 1) := dk_44 (dk_at dksJ47_next_2 11 rfl rfl)
theorem dJ47_next_58 : decode cJ47_next 58 = .ok (.aload_n 0, 1) := dk_42 (dk_at dksJ47_next_2 12 rfl rfl)
theorem dJ47_next_59 : decode cJ47_next 59 = .ok (.iload_n 1, 1) := dk_27 (dk_at dksJ47_next_2 13 rfl rfl)
theorem dJ47_next_60 : decode cJ47_next 60 = .ok (.dup_x1, 1) := dk_90 (dk_at dksJ47_next_2 14 rfl rfl)
theorem dJ47_next_61 : decode cJ47_next 61 = .ok (.putfield 13, 3) := dk_181 0 13 (dk_at dksJ47_next_2 15 rfl rfl)
theorem dJ47_next_64 : decode cJ47_next 64 = .ok (.aaload, 1) := dk_50 (dk_at dksJ47_next_2 18 rfl rfl)
theorem dJ47_next_65 : decode cJ47_next 65 = .ok (.areturn, 1) := dk_176 (dk_at dksJ47_next_2 19 rfl rfl)
abbrev cJ47_checkForComodification : ByteArray := prog_59_method_6_code
def yJ47_checkForComodification : MethodName := ⟨RJ47, "checkForComodification", "()V"⟩
def dkwJ47_checkForComodification_0 : List UInt8 := [42, 180, 0, 1, 180, 0, 17, 42, 180, 0, 22, 159, 0, 11, 187, 0, 41, 89, 183, 0, 43, 191, 177]
abbrev dktJ47_checkForComodification_0 : List UInt8 := dkwJ47_checkForComodification_0 ++ []
theorem dksJ47_checkForComodification_0 : cJ47_checkForComodification.data.toList.drop 0 = dktJ47_checkForComodification_0 := by decide +kernel
theorem dJ47_checkForComodification_0 : decode cJ47_checkForComodification 0 = .ok (.aload_n 0, 1) := dk_42 (dk_at dksJ47_checkForComodification_0 0 rfl rfl)
theorem dJ47_checkForComodification_1 : decode cJ47_checkForComodification 1 = .ok (.getfield 1, 3) := dk_180 0 1 (dk_at dksJ47_checkForComodification_0 1 rfl rfl)
theorem dJ47_checkForComodification_4 : decode cJ47_checkForComodification 4 = .ok (.getfield 17, 3) := dk_180 0 17 (dk_at dksJ47_checkForComodification_0 4 rfl rfl)
theorem dJ47_checkForComodification_7 : decode cJ47_checkForComodification 7 = .ok (.aload_n 0, 1) := dk_42 (dk_at dksJ47_checkForComodification_0 7 rfl rfl)
theorem dJ47_checkForComodification_8 : decode cJ47_checkForComodification 8 = .ok (.getfield 22, 3) := dk_180 0 22 (dk_at dksJ47_checkForComodification_0 8 rfl rfl)
theorem dJ47_checkForComodification_11 : decode cJ47_checkForComodification 11 = .ok (.if_icmp .eq 11, 3) := dk_159 0 11 (dk_at dksJ47_checkForComodification_0 11 rfl rfl)
theorem dJ47_checkForComodification_14 : decode cJ47_checkForComodification 14 = .ok (.new 41, 3) := dk_187 0 41 (dk_at dksJ47_checkForComodification_0 14 rfl rfl)
theorem dJ47_checkForComodification_17 : decode cJ47_checkForComodification 17 = .ok (.dup, 1) := dk_89 (dk_at dksJ47_checkForComodification_0 17 rfl rfl)
theorem dJ47_checkForComodification_18 : decode cJ47_checkForComodification 18 = .ok (.invokespecial 43, 3) := dk_183 0 43 (dk_at dksJ47_checkForComodification_0 18 rfl rfl)
theorem dJ47_checkForComodification_21 : decode cJ47_checkForComodification 21 = .ok (.athrow, 1) := dk_191 (dk_at dksJ47_checkForComodification_0 21 rfl rfl)
theorem dJ47_checkForComodification_22 : decode cJ47_checkForComodification 22 = .ok (.return_, 1) := dk_177 (dk_at dksJ47_checkForComodification_0 22 rfl rfl)
abbrev cJ47_init : ByteArray := prog_59_method_1_code
def yJ47_init : MethodName := ⟨RJ47, "<init>", "(Ljava/util/ArrayList;)V"⟩
def dkwJ47_init_1 : List UInt8 := [181, 0, 22, 177]
abbrev dktJ47_init_1 : List UInt8 := dkwJ47_init_1 ++ []
def dkwJ47_init_0 : List UInt8 := [42, 43, 181, 0, 1, 42, 183, 0, 7, 42, 2, 181, 0, 13, 42, 42, 180, 0, 1, 180, 0, 17]
abbrev dktJ47_init_0 : List UInt8 := dkwJ47_init_0 ++ dktJ47_init_1
theorem dksJ47_init_0 : cJ47_init.data.toList.drop 0 = dktJ47_init_0 := by decide +kernel
theorem dksJ47_init_1 : cJ47_init.data.toList.drop 22 = dktJ47_init_1 := dk_seg dksJ47_init_0 22 rfl rfl
theorem dJ47_init_0 : decode cJ47_init 0 = .ok (.aload_n 0, 1) := dk_42 (dk_at dksJ47_init_0 0 rfl rfl)
theorem dJ47_init_1 : decode cJ47_init 1 = .ok (.aload_n 1, 1) := dk_43 (dk_at dksJ47_init_0 1 rfl rfl)
theorem dJ47_init_2 : decode cJ47_init 2 = .ok (.putfield 1, 3) := dk_181 0 1 (dk_at dksJ47_init_0 2 rfl rfl)
theorem dJ47_init_5 : decode cJ47_init 5 = .ok (.aload_n 0, 1) := dk_42 (dk_at dksJ47_init_0 5 rfl rfl)
theorem dJ47_init_6 : decode cJ47_init 6 = .ok (.invokespecial 7, 3) := dk_183 0 7 (dk_at dksJ47_init_0 6 rfl rfl)
theorem dJ47_init_9 : decode cJ47_init 9 = .ok (.aload_n 0, 1) := dk_42 (dk_at dksJ47_init_0 9 rfl rfl)
theorem dJ47_init_10 : decode cJ47_init 10 = .ok (.iconst (-1), 1) := dk_2 (dk_at dksJ47_init_0 10 rfl rfl)
theorem dJ47_init_11 : decode cJ47_init 11 = .ok (.putfield 13, 3) := dk_181 0 13 (dk_at dksJ47_init_0 11 rfl rfl)
theorem dJ47_init_14 : decode cJ47_init 14 = .ok (.aload_n 0, 1) := dk_42 (dk_at dksJ47_init_0 14 rfl rfl)
theorem dJ47_init_15 : decode cJ47_init 15 = .ok (.aload_n 0, 1) := dk_42 (dk_at dksJ47_init_0 15 rfl rfl)
theorem dJ47_init_16 : decode cJ47_init 16 = .ok (.getfield 1, 3) := dk_180 0 1 (dk_at dksJ47_init_0 16 rfl rfl)
theorem dJ47_init_19 : decode cJ47_init 19 = .ok (.getfield 17, 3) := dk_180 0 17 (dk_at dksJ47_init_0 19 rfl rfl)
theorem dJ47_init_22 : decode cJ47_init 22 = .ok (.putfield 22, 3) := dk_181 0 22 (dk_at dksJ47_init_1 0 rfl rfl)
theorem dJ47_init_25 : decode cJ47_init 25 = .ok (.return_, 1) := dk_177 (dk_at dksJ47_init_1 3 rfl rfl)
theorem q148 : (Jvm.Cond.initialized "java/util/ArrayList$Itr") ∈ lw_all := lw_g (lw_at lw_m1 55 rfl) rfl
theorem q908 : (Jvm.Cond.selects "java/util/ArrayList$Itr" ({ cls := "java/lang/Object", name := "getClass", desc := "()Ljava/lang/Class;" } : Jvm.MethodName) ({ cls := "java/lang/Object", name := "getClass", desc := "()Ljava/lang/Class;" } : Jvm.MethodName)) ∈ lw_all := lw_g (lw_at lw_m4 95 rfl) rfl
theorem q1104 : (Jvm.Cond.fieldLink "java/util/ArrayList$Itr" (37 : Nat) "java/util/ArrayList" "elementData" "[Ljava/lang/Object;") ∈ lw_all := lw_g (lw_at lw_m5 51 rfl) rfl
theorem q1105 : (Jvm.Cond.fieldLinkNest "java/util/ArrayList$Itr" (28 : Nat) "java/util/ArrayList" "size" "I" "java/util/ArrayList") ∈ lw_tbl := lw_at lw_m5 52 rfl
theorem q1108 : (Jvm.Cond.fieldLink "java/util/ArrayList$Itr" (17 : Nat) "java/util/ArrayList" "modCount" "I") ∈ lw_all := lw_g (lw_at lw_m5 55 rfl) rfl
theorem q1505 : (Jvm.Cond.castable "java/util/ArrayList$Itr" "java/util/Iterator") ∈ lw_tbl := lw_at lw_m6 212 rfl
theorem q1506 : (Jvm.Cond.selects "java/util/ArrayList$Itr" ({ cls := "java/util/Iterator", name := "hasNext", desc := "()Z" } : Jvm.MethodName) ({ cls := "java/util/ArrayList$Itr", name := "hasNext", desc := "()Z" } : Jvm.MethodName)) ∈ lw_all := lw_g (lw_at lw_m6 213 rfl) rfl
theorem q1507 : (Jvm.Cond.unhidden "java/util/ArrayList$Itr" "hasNext" "()Z") ∈ lw_tbl := lw_at lw_m6 214 rfl
theorem q1508 : (Jvm.Cond.instanceMethod ({ cls := "java/util/ArrayList$Itr", name := "hasNext", desc := "()Z" } : Jvm.MethodName)) ∈ lw_all := lw_g (lw_at lw_m6 215 rfl) rfl
theorem q1509 : (Jvm.Cond.publicMethod ({ cls := "java/util/ArrayList$Itr", name := "hasNext", desc := "()Z" } : Jvm.MethodName)) ∈ lw_tbl := lw_at lw_m6 216 rfl
theorem q1510 : (Jvm.Cond.code ({ cls := "java/util/ArrayList$Itr", name := "hasNext", desc := "()Z" } : Jvm.MethodName) prog_59_method_2_code (1 : Nat) (Option.some Jvm.ClassFile.FieldType.boolean)) ∈ lw_all := lw_g (lw_at lw_m6 217 rfl) rfl
theorem q1571 : (Jvm.Cond.selects "java/util/ArrayList$Itr" ({ cls := "java/util/Iterator", name := "next", desc := "()Ljava/lang/Object;" } : Jvm.MethodName) ({ cls := "java/util/ArrayList$Itr", name := "next", desc := "()Ljava/lang/Object;" } : Jvm.MethodName)) ∈ lw_all := lw_g (lw_at lw_m7 38 rfl) rfl
theorem q1572 : (Jvm.Cond.unhidden "java/util/ArrayList$Itr" "next" "()Ljava/lang/Object;") ∈ lw_tbl := lw_at lw_m7 39 rfl
theorem q1573 : (Jvm.Cond.instanceMethod ({ cls := "java/util/ArrayList$Itr", name := "next", desc := "()Ljava/lang/Object;" } : Jvm.MethodName)) ∈ lw_all := lw_g (lw_at lw_m7 40 rfl) rfl
theorem q1574 : (Jvm.Cond.publicMethod ({ cls := "java/util/ArrayList$Itr", name := "next", desc := "()Ljava/lang/Object;" } : Jvm.MethodName)) ∈ lw_tbl := lw_at lw_m7 41 rfl
theorem q1575 : (Jvm.Cond.code ({ cls := "java/util/ArrayList$Itr", name := "next", desc := "()Ljava/lang/Object;" } : Jvm.MethodName) prog_59_method_3_code (3 : Nat) (Option.some (Jvm.ClassFile.FieldType.object "java/lang/Object"))) ∈ lw_all := lw_g (lw_at lw_m7 42 rfl) rfl
theorem q1576 : (Jvm.Cond.methodLink "java/util/ArrayList$Itr" (31 : Nat) ({ cls := "java/util/ArrayList$Itr", name := "checkForComodification", desc := "()V" } : Jvm.MethodName)) ∈ lw_all := lw_g (lw_at lw_m7 43 rfl) rfl
theorem q1577 : (Jvm.Cond.instanceMethod ({ cls := "java/util/ArrayList$Itr", name := "checkForComodification", desc := "()V" } : Jvm.MethodName)) ∈ lw_all := lw_g (lw_at lw_m7 44 rfl) rfl
theorem q1578 : (Jvm.Cond.selects "java/util/ArrayList$Itr" ({ cls := "java/util/ArrayList$Itr", name := "checkForComodification", desc := "()V" } : Jvm.MethodName) ({ cls := "java/util/ArrayList$Itr", name := "checkForComodification", desc := "()V" } : Jvm.MethodName)) ∈ lw_all := lw_g (lw_at lw_m7 45 rfl) rfl
theorem q1579 : (Jvm.Cond.code ({ cls := "java/util/ArrayList$Itr", name := "checkForComodification", desc := "()V" } : Jvm.MethodName) prog_59_method_6_code (1 : Nat) (Option.none : Option Jvm.ClassFile.FieldType)) ∈ lw_all := lw_g (lw_at lw_m7 46 rfl) rfl
theorem q1580 : (Jvm.Cond.classLink "java/util/ArrayList$Itr" (34 : Nat) "java/util/NoSuchElementException") ∈ lw_all := lw_g (lw_at lw_m7 47 rfl) rfl
theorem q1581 : (Jvm.Cond.methodLink "java/util/ArrayList$Itr" (36 : Nat) ({ cls := "java/util/NoSuchElementException", name := "<init>", desc := "()V" } : Jvm.MethodName)) ∈ lw_all := lw_g (lw_at lw_m7 48 rfl) rfl
theorem q2259 : (Jvm.Cond.instantiable "java/util/ArrayList$Itr" (4 : Nat)) ∈ lw_all := lw_g (lw_at lw_m10 6 rfl) rfl
theorem q2261 : (Jvm.Cond.instanceMethod ({ cls := "java/util/ArrayList$Itr", name := "<init>", desc := "(Ljava/util/ArrayList;)V" } : Jvm.MethodName)) ∈ lw_all := lw_g (lw_at lw_m10 8 rfl) rfl
theorem q2262 : (Jvm.Cond.code ({ cls := "java/util/ArrayList$Itr", name := "<init>", desc := "(Ljava/util/ArrayList;)V" } : Jvm.MethodName) prog_59_method_1_code (2 : Nat) (Option.none : Option Jvm.ClassFile.FieldType)) ∈ lw_all := lw_g (lw_at lw_m10 9 rfl) rfl
theorem q2263 : (Jvm.Cond.methodLink "java/util/ArrayList$Itr" (7 : Nat) ({ cls := "java/lang/Object", name := "<init>", desc := "()V" } : Jvm.MethodName)) ∈ lw_all := lw_g (lw_at lw_m10 10 rfl) rfl
theorem q2264 : (Jvm.Cond.fieldLink "java/util/ArrayList$Itr" (25 : Nat) "java/util/ArrayList$Itr" "cursor" "I") ∈ lw_all := lw_g (lw_at lw_m10 11 rfl) rfl
theorem q2265 : (Jvm.Cond.fieldLink "java/util/ArrayList$Itr" (13 : Nat) "java/util/ArrayList$Itr" "lastRet" "I") ∈ lw_all := lw_g (lw_at lw_m10 12 rfl) rfl
theorem q2266 : (Jvm.Cond.fieldLink "java/util/ArrayList$Itr" (22 : Nat) "java/util/ArrayList$Itr" "expectedModCount" "I") ∈ lw_all := lw_g (lw_at lw_m10 13 rfl) rfl
theorem q2267 : (Jvm.Cond.fieldLink "java/util/ArrayList$Itr" (1 : Nat) "java/util/ArrayList$Itr" "this$0" "Ljava/util/ArrayList;") ∈ lw_all := lw_g (lw_at lw_m10 14 rfl) rfl
theorem q2268 : (Jvm.Cond.lays "java/util/ArrayList$Itr" "java/util/ArrayList$Itr" "cursor" "I") ∈ lw_all := lw_g (lw_at lw_m10 15 rfl) rfl
theorem q2269 : (Jvm.Cond.soleField "java/util/ArrayList$Itr" "cursor") ∈ lw_all := lw_g (lw_at lw_m10 16 rfl) rfl
theorem q2270 : (Jvm.Cond.lays "java/util/ArrayList$Itr" "java/util/ArrayList$Itr" "lastRet" "I") ∈ lw_all := lw_g (lw_at lw_m10 17 rfl) rfl
theorem q2271 : (Jvm.Cond.soleField "java/util/ArrayList$Itr" "lastRet") ∈ lw_all := lw_g (lw_at lw_m10 18 rfl) rfl
theorem q2272 : (Jvm.Cond.lays "java/util/ArrayList$Itr" "java/util/ArrayList$Itr" "expectedModCount" "I") ∈ lw_all := lw_g (lw_at lw_m10 19 rfl) rfl
theorem q2273 : (Jvm.Cond.soleField "java/util/ArrayList$Itr" "expectedModCount") ∈ lw_all := lw_g (lw_at lw_m10 20 rfl) rfl
theorem q2274 : (Jvm.Cond.laysFinal "java/util/ArrayList$Itr" "java/util/ArrayList$Itr" "this$0" "Ljava/util/ArrayList;") ∈ lw_all := lw_g (lw_at lw_m10 21 rfl) rfl
theorem q2275 : (Jvm.Cond.soleField "java/util/ArrayList$Itr" "this$0") ∈ lw_all := lw_g (lw_at lw_m10 22 rfl) rfl
theorem q2276 : (Jvm.Cond.superclass "java/util/ArrayList$Itr" "java/lang/Object") ∈ lw_all := lw_g (lw_at lw_m10 23 rfl) rfl
theorem q3788 : (Jvm.Cond.castable "java/util/ArrayList$Itr" "java/lang/Object") ∈ lw_tbl := lw_at lw_m16 95 rfl
theorem in_J47 : ∀ w ∈ wsJ470, w ∈ lw_all := lw_in wsJ470 [2268, 2270, 2272, 2274] (by decide +kernel) (by decide +kernel)
/-! java/lang/UnsupportedOperationException -/
set_option maxRecDepth 100000
def RJ48 : String := "java/lang/UnsupportedOperationException"
def TJ48 : u_T := fun k => match k with
  | 0 => ("java/lang/Throwable", "cause", "Ljava/lang/Throwable;", false)
  | 1 => ("java/lang/Throwable", "stackTrace", "[Ljava/lang/StackTraceElement;", false)
  | 2 => ("java/lang/Throwable", "suppressedExceptions", "Ljava/util/List;", false)
  | 3 => ("java/lang/Throwable", "detailMessage", "Ljava/lang/String;", false)
  | 4 => ("java/lang/Throwable", "backtrace", "Ljava/lang/Object;", false)
  | _ => ("java/lang/Throwable", "depth", "I", false)
def tyJ48 : Nat → FieldType := fun k => match k with
  | 0 => .object "java/lang/Throwable"
  | 1 => .array (.object "java/lang/StackTraceElement")
  | 2 => .object "java/util/List"
  | 3 => .object "java/lang/String"
  | 4 => .object "java/lang/Object"
  | _ => .int
abbrev wsJ480 : List Cond := u_ws RJ48 TJ48 6
theorem nmJ48 : ∀ a, a < 6 → ∀ b, b < 6 → a ≠ b → (TJ48 a).2.1 ≠ (TJ48 b).2.1 := by decide +kernel
theorem tyJ48_ok : ∀ k, k < 6 → parseFieldDescriptor (TJ48 k).2.2.1 = some (tyJ48 k) := by decide +kernel
abbrev cJ48_init : ByteArray := prog_49_method_1_code
def yJ48_init : MethodName := ⟨RJ48, "<init>", "()V"⟩
theorem q153 : (Jvm.Cond.initialized "java/lang/UnsupportedOperationException") ∈ lw_all := lw_g (lw_at lw_m1 60 rfl) rfl
theorem q245 : (Jvm.Cond.selects "java/lang/UnsupportedOperationException" ({ cls := "java/lang/Throwable", name := "fillInStackTrace", desc := "()Ljava/lang/Throwable;" } : Jvm.MethodName) ({ cls := "java/lang/Throwable", name := "fillInStackTrace", desc := "()Ljava/lang/Throwable;" } : Jvm.MethodName)) ∈ lw_all := lw_g (lw_at lw_m1 152 rfl) rfl
theorem q904 : (Jvm.Cond.selects "java/lang/UnsupportedOperationException" ({ cls := "java/lang/Object", name := "getClass", desc := "()Ljava/lang/Class;" } : Jvm.MethodName) ({ cls := "java/lang/Object", name := "getClass", desc := "()Ljava/lang/Class;" } : Jvm.MethodName)) ∈ lw_all := lw_g (lw_at lw_m4 91 rfl) rfl
theorem q932 : (Jvm.Cond.selects "java/lang/UnsupportedOperationException" ({ cls := "java/lang/Throwable", name := "getLocalizedMessage", desc := "()Ljava/lang/String;" } : Jvm.MethodName) ({ cls := "java/lang/Throwable", name := "getLocalizedMessage", desc := "()Ljava/lang/String;" } : Jvm.MethodName)) ∈ lw_all := lw_g (lw_at lw_m4 119 rfl) rfl
theorem q945 : (Jvm.Cond.selects "java/lang/UnsupportedOperationException" ({ cls := "java/lang/Throwable", name := "getMessage", desc := "()Ljava/lang/String;" } : Jvm.MethodName) ({ cls := "java/lang/Throwable", name := "getMessage", desc := "()Ljava/lang/String;" } : Jvm.MethodName)) ∈ lw_all := lw_g (lw_at lw_m4 132 rfl) rfl
theorem q979 : (Jvm.Cond.selects "java/lang/UnsupportedOperationException" ({ cls := "java/lang/Object", name := "toString", desc := "()Ljava/lang/String;" } : Jvm.MethodName) ({ cls := "java/lang/Throwable", name := "toString", desc := "()Ljava/lang/String;" } : Jvm.MethodName)) ∈ lw_all := lw_g (lw_at lw_m4 166 rfl) rfl
theorem q1738 : (Jvm.Cond.selects "java/lang/UnsupportedOperationException" ({ cls := "java/lang/Object", name := "hashCode", desc := "()I" } : Jvm.MethodName) ({ cls := "java/lang/Object", name := "hashCode", desc := "()I" } : Jvm.MethodName)) ∈ lw_all := lw_g (lw_at lw_m7 205 rfl) rfl
theorem q2101 : (Jvm.Cond.selects "java/lang/UnsupportedOperationException" ({ cls := "java/lang/Object", name := "equals", desc := "(Ljava/lang/Object;)Z" } : Jvm.MethodName) ({ cls := "java/lang/Object", name := "equals", desc := "(Ljava/lang/Object;)Z" } : Jvm.MethodName)) ∈ lw_all := lw_g (lw_at lw_m9 88 rfl) rfl
theorem q2690 : (Jvm.Cond.instantiable "java/lang/UnsupportedOperationException" (6 : Nat)) ∈ lw_all := lw_g (lw_at lw_m11 197 rfl) rfl
theorem q2691 : (Jvm.Cond.castable "java/lang/UnsupportedOperationException" "java/lang/UnsupportedOperationException") ∈ lw_tbl := lw_at lw_m11 198 rfl
theorem q2692 : (Jvm.Cond.selects "java/lang/UnsupportedOperationException" ({ cls := "java/lang/Throwable", name := "fillInStackTrace", desc := "(I)Ljava/lang/Throwable;" } : Jvm.MethodName) ({ cls := "java/lang/Throwable", name := "fillInStackTrace", desc := "(I)Ljava/lang/Throwable;" } : Jvm.MethodName)) ∈ lw_all := lw_g (lw_at lw_m11 199 rfl) rfl
theorem q2693 : (Jvm.Cond.lays "java/lang/UnsupportedOperationException" "java/lang/Throwable" "cause" "Ljava/lang/Throwable;") ∈ lw_all := lw_g (lw_at lw_m11 200 rfl) rfl
theorem q2694 : (Jvm.Cond.lays "java/lang/UnsupportedOperationException" "java/lang/Throwable" "stackTrace" "[Ljava/lang/StackTraceElement;") ∈ lw_all := lw_g (lw_at lw_m11 201 rfl) rfl
theorem q2695 : (Jvm.Cond.lays "java/lang/UnsupportedOperationException" "java/lang/Throwable" "suppressedExceptions" "Ljava/util/List;") ∈ lw_all := lw_g (lw_at lw_m11 202 rfl) rfl
theorem q2696 : (Jvm.Cond.lays "java/lang/UnsupportedOperationException" "java/lang/Throwable" "detailMessage" "Ljava/lang/String;") ∈ lw_all := lw_g (lw_at lw_m11 203 rfl) rfl
theorem q2697 : (Jvm.Cond.lays "java/lang/UnsupportedOperationException" "java/lang/Throwable" "backtrace" "Ljava/lang/Object;") ∈ lw_all := lw_g (lw_at lw_m11 204 rfl) rfl
theorem q2699 : (Jvm.Cond.instanceMethod ({ cls := "java/lang/UnsupportedOperationException", name := "<init>", desc := "()V" } : Jvm.MethodName)) ∈ lw_all := lw_g (lw_at lw_m11 206 rfl) rfl
theorem q2700 : (Jvm.Cond.code ({ cls := "java/lang/UnsupportedOperationException", name := "<init>", desc := "()V" } : Jvm.MethodName) prog_49_method_1_code (1 : Nat) (Option.none : Option Jvm.ClassFile.FieldType)) ∈ lw_all := lw_g (lw_at lw_m11 207 rfl) rfl
theorem q2701 : (Jvm.Cond.methodLink "java/lang/UnsupportedOperationException" (1 : Nat) ({ cls := "java/lang/RuntimeException", name := "<init>", desc := "()V" } : Jvm.MethodName)) ∈ lw_all := lw_g (lw_at lw_m11 208 rfl) rfl
theorem q2702 : (Jvm.Cond.lays "java/lang/UnsupportedOperationException" "java/lang/Throwable" "depth" "I") ∈ lw_all := lw_g (lw_at lw_m11 209 rfl) rfl
theorem q2703 : (Jvm.Cond.superclass "java/lang/UnsupportedOperationException" "java/lang/RuntimeException") ∈ lw_all := lw_g (lw_at lw_m11 210 rfl) rfl
theorem q3755 : (Jvm.Cond.castable "java/lang/UnsupportedOperationException" "java/lang/Throwable") ∈ lw_tbl := lw_at lw_m16 62 rfl
theorem q3794 : (Jvm.Cond.castable "java/lang/UnsupportedOperationException" "java/lang/Object") ∈ lw_tbl := lw_at lw_m16 101 rfl
theorem in_J48 : ∀ w ∈ wsJ480, w ∈ lw_all := lw_in wsJ480 [2693, 2694, 2695, 2696, 2697, 2702] (by decide +kernel) (by decide +kernel)
/-! java/lang/ArithmeticException -/
set_option maxRecDepth 100000
def RJ49 : String := "java/lang/ArithmeticException"
def TJ49 : u_T := fun k => match k with
  | 0 => ("java/lang/Throwable", "backtrace", "Ljava/lang/Object;", false)
  | 1 => ("java/lang/Throwable", "detailMessage", "Ljava/lang/String;", false)
  | 2 => ("java/lang/Throwable", "cause", "Ljava/lang/Throwable;", false)
  | 3 => ("java/lang/Throwable", "stackTrace", "[Ljava/lang/StackTraceElement;", false)
  | 4 => ("java/lang/Throwable", "depth", "I", false)
  | _ => ("java/lang/Throwable", "suppressedExceptions", "Ljava/util/List;", false)
def tyJ49 : Nat → FieldType := fun k => match k with
  | 0 => .object "java/lang/Object"
  | 1 => .object "java/lang/String"
  | 2 => .object "java/lang/Throwable"
  | 3 => .array (.object "java/lang/StackTraceElement")
  | 4 => .int
  | _ => .object "java/util/List"
abbrev wsJ490 : List Cond := u_ws RJ49 TJ49 6
theorem nmJ49 : ∀ a, a < 6 → ∀ b, b < 6 → a ≠ b → (TJ49 a).2.1 ≠ (TJ49 b).2.1 := by decide +kernel
theorem tyJ49_ok : ∀ k, k < 6 → parseFieldDescriptor (TJ49 k).2.2.1 = some (tyJ49 k) := by decide +kernel
abbrev cJ49_init : ByteArray := prog_22_method_2_code
def yJ49_init : MethodName := ⟨RJ49, "<init>", "(Ljava/lang/String;)V"⟩
abbrev cJ49_init_2 : ByteArray := prog_22_method_1_code
def yJ49_init_2 : MethodName := ⟨RJ49, "<init>", "()V"⟩
theorem q157 : (Jvm.Cond.initialized "java/lang/ArithmeticException") ∈ lw_all := lw_g (lw_at lw_m1 64 rfl) rfl
theorem q240 : (Jvm.Cond.selects "java/lang/ArithmeticException" ({ cls := "java/lang/Throwable", name := "fillInStackTrace", desc := "()Ljava/lang/Throwable;" } : Jvm.MethodName) ({ cls := "java/lang/Throwable", name := "fillInStackTrace", desc := "()Ljava/lang/Throwable;" } : Jvm.MethodName)) ∈ lw_all := lw_g (lw_at lw_m1 147 rfl) rfl
theorem q894 : (Jvm.Cond.selects "java/lang/ArithmeticException" ({ cls := "java/lang/Object", name := "getClass", desc := "()Ljava/lang/Class;" } : Jvm.MethodName) ({ cls := "java/lang/Object", name := "getClass", desc := "()Ljava/lang/Class;" } : Jvm.MethodName)) ∈ lw_all := lw_g (lw_at lw_m4 81 rfl) rfl
theorem q926 : (Jvm.Cond.selects "java/lang/ArithmeticException" ({ cls := "java/lang/Throwable", name := "getLocalizedMessage", desc := "()Ljava/lang/String;" } : Jvm.MethodName) ({ cls := "java/lang/Throwable", name := "getLocalizedMessage", desc := "()Ljava/lang/String;" } : Jvm.MethodName)) ∈ lw_all := lw_g (lw_at lw_m4 113 rfl) rfl
theorem q939 : (Jvm.Cond.selects "java/lang/ArithmeticException" ({ cls := "java/lang/Throwable", name := "getMessage", desc := "()Ljava/lang/String;" } : Jvm.MethodName) ({ cls := "java/lang/Throwable", name := "getMessage", desc := "()Ljava/lang/String;" } : Jvm.MethodName)) ∈ lw_all := lw_g (lw_at lw_m4 126 rfl) rfl
theorem q954 : (Jvm.Cond.selects "java/lang/ArithmeticException" ({ cls := "java/lang/Object", name := "toString", desc := "()Ljava/lang/String;" } : Jvm.MethodName) ({ cls := "java/lang/Throwable", name := "toString", desc := "()Ljava/lang/String;" } : Jvm.MethodName)) ∈ lw_all := lw_g (lw_at lw_m4 141 rfl) rfl
theorem q1668 : (Jvm.Cond.selects "java/lang/ArithmeticException" ({ cls := "java/lang/Object", name := "hashCode", desc := "()I" } : Jvm.MethodName) ({ cls := "java/lang/Object", name := "hashCode", desc := "()I" } : Jvm.MethodName)) ∈ lw_all := lw_g (lw_at lw_m7 135 rfl) rfl
theorem q2080 : (Jvm.Cond.selects "java/lang/ArithmeticException" ({ cls := "java/lang/Object", name := "equals", desc := "(Ljava/lang/Object;)Z" } : Jvm.MethodName) ({ cls := "java/lang/Object", name := "equals", desc := "(Ljava/lang/Object;)Z" } : Jvm.MethodName)) ∈ lw_all := lw_g (lw_at lw_m9 67 rfl) rfl
theorem q2982 : (Jvm.Cond.instantiable "java/lang/ArithmeticException" (6 : Nat)) ∈ lw_all := lw_g (lw_at lw_m13 9 rfl) rfl
theorem q2983 : (Jvm.Cond.instanceMethod ({ cls := "java/lang/ArithmeticException", name := "<init>", desc := "(Ljava/lang/String;)V" } : Jvm.MethodName)) ∈ lw_all := lw_g (lw_at lw_m13 10 rfl) rfl
theorem q2984 : (Jvm.Cond.code ({ cls := "java/lang/ArithmeticException", name := "<init>", desc := "(Ljava/lang/String;)V" } : Jvm.MethodName) prog_22_method_2_code (2 : Nat) (Option.none : Option Jvm.ClassFile.FieldType)) ∈ lw_all := lw_g (lw_at lw_m13 11 rfl) rfl
theorem q2985 : (Jvm.Cond.methodLink "java/lang/ArithmeticException" (7 : Nat) ({ cls := "java/lang/RuntimeException", name := "<init>", desc := "(Ljava/lang/String;)V" } : Jvm.MethodName)) ∈ lw_all := lw_g (lw_at lw_m13 12 rfl) rfl
theorem q2986 : (Jvm.Cond.lays "java/lang/ArithmeticException" "java/lang/Throwable" "backtrace" "Ljava/lang/Object;") ∈ lw_all := lw_g (lw_at lw_m13 13 rfl) rfl
theorem q2987 : (Jvm.Cond.lays "java/lang/ArithmeticException" "java/lang/Throwable" "detailMessage" "Ljava/lang/String;") ∈ lw_all := lw_g (lw_at lw_m13 14 rfl) rfl
theorem q2988 : (Jvm.Cond.lays "java/lang/ArithmeticException" "java/lang/Throwable" "cause" "Ljava/lang/Throwable;") ∈ lw_all := lw_g (lw_at lw_m13 15 rfl) rfl
theorem q2989 : (Jvm.Cond.lays "java/lang/ArithmeticException" "java/lang/Throwable" "stackTrace" "[Ljava/lang/StackTraceElement;") ∈ lw_all := lw_g (lw_at lw_m13 16 rfl) rfl
theorem q2990 : (Jvm.Cond.lays "java/lang/ArithmeticException" "java/lang/Throwable" "depth" "I") ∈ lw_all := lw_g (lw_at lw_m13 17 rfl) rfl
theorem q2991 : (Jvm.Cond.lays "java/lang/ArithmeticException" "java/lang/Throwable" "suppressedExceptions" "Ljava/util/List;") ∈ lw_all := lw_g (lw_at lw_m13 18 rfl) rfl
theorem q2992 : (Jvm.Cond.superclass "java/lang/ArithmeticException" "java/lang/RuntimeException") ∈ lw_all := lw_g (lw_at lw_m13 19 rfl) rfl
theorem q2993 : (Jvm.Cond.castable "java/lang/ArithmeticException" "java/lang/ArithmeticException") ∈ lw_tbl := lw_at lw_m13 20 rfl
theorem q2994 : (Jvm.Cond.selects "java/lang/ArithmeticException" ({ cls := "java/lang/Throwable", name := "fillInStackTrace", desc := "(I)Ljava/lang/Throwable;" } : Jvm.MethodName) ({ cls := "java/lang/Throwable", name := "fillInStackTrace", desc := "(I)Ljava/lang/Throwable;" } : Jvm.MethodName)) ∈ lw_all := lw_g (lw_at lw_m13 21 rfl) rfl
theorem q3001 : (Jvm.Cond.instanceMethod ({ cls := "java/lang/ArithmeticException", name := "<init>", desc := "()V" } : Jvm.MethodName)) ∈ lw_all := lw_g (lw_at lw_m13 28 rfl) rfl
theorem q3002 : (Jvm.Cond.code ({ cls := "java/lang/ArithmeticException", name := "<init>", desc := "()V" } : Jvm.MethodName) prog_22_method_1_code (1 : Nat) (Option.none : Option Jvm.ClassFile.FieldType)) ∈ lw_all := lw_g (lw_at lw_m13 29 rfl) rfl
theorem q3003 : (Jvm.Cond.methodLink "java/lang/ArithmeticException" (1 : Nat) ({ cls := "java/lang/RuntimeException", name := "<init>", desc := "()V" } : Jvm.MethodName)) ∈ lw_all := lw_g (lw_at lw_m13 30 rfl) rfl
theorem q3749 : (Jvm.Cond.castable "java/lang/ArithmeticException" "java/lang/Throwable") ∈ lw_tbl := lw_at lw_m16 56 rfl
theorem q3798 : (Jvm.Cond.castable "java/lang/ArithmeticException" "java/lang/Object") ∈ lw_tbl := lw_at lw_m16 105 rfl
theorem in_J49 : ∀ w ∈ wsJ490, w ∈ lw_all := lw_in wsJ490 [2986, 2987, 2988, 2989, 2990, 2991] (by decide +kernel) (by decide +kernel)
/-! java/lang/Object -/
set_option maxRecDepth 100000
def RJ50 : String := "java/lang/Object"
abbrev cJ50_init : ByteArray := object_method_1_code
def yJ50_init : MethodName := ⟨RJ50, "<init>", "()V"⟩
theorem dJ50_init_0 : decode cJ50_init 0 = .ok (.return_, 1) := by decide +kernel
abbrev cJ50_equals : ByteArray := object_method_4_code
def yJ50_equals : MethodName := ⟨RJ50, "equals", "(Ljava/lang/Object;)Z"⟩
def dkwJ50_equals_0 : List UInt8 := [42, 43, 166, 0, 7, 4, 167, 0, 4, 3, 172]
abbrev dktJ50_equals_0 : List UInt8 := dkwJ50_equals_0 ++ []
theorem dksJ50_equals_0 : cJ50_equals.data.toList.drop 0 = dktJ50_equals_0 := by decide +kernel
theorem dJ50_equals_0 : decode cJ50_equals 0 = .ok (.aload_n 0, 1) := dk_42 (dk_at dksJ50_equals_0 0 rfl rfl)
theorem dJ50_equals_1 : decode cJ50_equals 1 = .ok (.aload_n 1, 1) := dk_43 (dk_at dksJ50_equals_0 1 rfl rfl)
theorem dJ50_equals_2 : decode cJ50_equals 2 = .ok (.if_acmp .ne 7, 3) := dk_166 0 7 (dk_at dksJ50_equals_0 2 rfl rfl)
theorem dJ50_equals_5 : decode cJ50_equals 5 = .ok (.iconst 1, 1) := dk_4 (dk_at dksJ50_equals_0 5 rfl rfl)
theorem dJ50_equals_6 : decode cJ50_equals 6 = .ok (.goto 4, 3) := dk_167 0 4 (dk_at dksJ50_equals_0 6 rfl rfl)
theorem dJ50_equals_9 : decode cJ50_equals 9 = .ok (.iconst 0, 1) := dk_3 (dk_at dksJ50_equals_0 9 rfl rfl)
theorem dJ50_equals_10 : decode cJ50_equals 10 = .ok (.ireturn, 1) := dk_172 (dk_at dksJ50_equals_0 10 rfl rfl)
theorem q170 : (Jvm.Cond.instanceMethod ({ cls := "java/lang/Object", name := "<init>", desc := "()V" } : Jvm.MethodName)) ∈ lw_all := lw_g (lw_at lw_m1 77 rfl) rfl
theorem q171 : (Jvm.Cond.code ({ cls := "java/lang/Object", name := "<init>", desc := "()V" } : Jvm.MethodName) object_method_1_code (1 : Nat) (Option.none : Option Jvm.ClassFile.FieldType)) ∈ lw_all := lw_g (lw_at lw_m1 78 rfl) rfl
theorem q322 : (Jvm.Cond.native ({ cls := "java/lang/Object", name := "clone", desc := "()Ljava/lang/Object;" } : Jvm.MethodName)) ∈ lw_all := lw_g (lw_at lw_m1 229 rfl) rfl
theorem q323 : (Jvm.Cond.instanceMethod ({ cls := "java/lang/Object", name := "clone", desc := "()Ljava/lang/Object;" } : Jvm.MethodName)) ∈ lw_all := lw_g (lw_at lw_m1 230 rfl) rfl
theorem q854 : (Jvm.Cond.declares ({ cls := "java/lang/Object", name := "toString", desc := "()Ljava/lang/String;" } : Jvm.MethodName)) ∈ lw_tbl := lw_at lw_m4 41 rfl
theorem q856 : (Jvm.Cond.instanceMethod ({ cls := "java/lang/Object", name := "toString", desc := "()Ljava/lang/String;" } : Jvm.MethodName)) ∈ lw_all := lw_g (lw_at lw_m4 43 rfl) rfl
theorem q857 : (Jvm.Cond.sameMethod "java/lang/Object" "java/lang/Object" "toString" "()Ljava/lang/String;") ∈ lw_all := lw_g (lw_at lw_m4 44 rfl) rfl
theorem q876 : (Jvm.Cond.instanceMethod ({ cls := "java/lang/Object", name := "getClass", desc := "()Ljava/lang/Class;" } : Jvm.MethodName)) ∈ lw_all := lw_g (lw_at lw_m4 63 rfl) rfl
theorem q877 : (Jvm.Cond.sameMethod "java/lang/Object" "java/lang/Object" "getClass" "()Ljava/lang/Class;") ∈ lw_all := lw_g (lw_at lw_m4 64 rfl) rfl
theorem q921 : (Jvm.Cond.native ({ cls := "java/lang/Object", name := "getClass", desc := "()Ljava/lang/Class;" } : Jvm.MethodName)) ∈ lw_all := lw_g (lw_at lw_m4 108 rfl) rfl
theorem q1646 : (Jvm.Cond.declares ({ cls := "java/lang/Object", name := "hashCode", desc := "()I" } : Jvm.MethodName)) ∈ lw_tbl := lw_at lw_m7 113 rfl
theorem q1648 : (Jvm.Cond.instanceMethod ({ cls := "java/lang/Object", name := "hashCode", desc := "()I" } : Jvm.MethodName)) ∈ lw_all := lw_g (lw_at lw_m7 115 rfl) rfl
theorem q1649 : (Jvm.Cond.sameMethod "java/lang/Object" "java/lang/Object" "hashCode" "()I") ∈ lw_all := lw_g (lw_at lw_m7 116 rfl) rfl
theorem q1741 : (Jvm.Cond.native ({ cls := "java/lang/Object", name := "hashCode", desc := "()I" } : Jvm.MethodName)) ∈ lw_all := lw_g (lw_at lw_m7 208 rfl) rfl
theorem q2057 : (Jvm.Cond.declares ({ cls := "java/lang/Object", name := "equals", desc := "(Ljava/lang/Object;)Z" } : Jvm.MethodName)) ∈ lw_tbl := lw_at lw_m9 44 rfl
theorem q2059 : (Jvm.Cond.instanceMethod ({ cls := "java/lang/Object", name := "equals", desc := "(Ljava/lang/Object;)Z" } : Jvm.MethodName)) ∈ lw_all := lw_g (lw_at lw_m9 46 rfl) rfl
theorem q2060 : (Jvm.Cond.sameMethod "java/lang/Object" "java/lang/Object" "equals" "(Ljava/lang/Object;)Z") ∈ lw_all := lw_g (lw_at lw_m9 47 rfl) rfl
theorem q2104 : (Jvm.Cond.code ({ cls := "java/lang/Object", name := "equals", desc := "(Ljava/lang/Object;)Z" } : Jvm.MethodName) object_method_4_code (2 : Nat) (Option.some Jvm.ClassFile.FieldType.boolean)) ∈ lw_all := lw_g (lw_at lw_m9 91 rfl) rfl
theorem q3743 : (Jvm.Cond.initialized "java/lang/Object") ∈ lw_all := lw_g (lw_at lw_m16 50 rfl) rfl
theorem q3809 : (Jvm.Cond.declares ({ cls := "java/lang/Object", name := "getClass", desc := "()Ljava/lang/Class;" } : Jvm.MethodName)) ∈ lw_tbl := lw_at lw_m16 116 rfl
theorem q3811 : (Jvm.Cond.castable "[C" "java/lang/Object") ∈ lw_tbl := lw_at lw_m16 118 rfl
set_option maxRecDepth 100000
theorem q3818 : (Jvm.Cond.castable "[D" "java/lang/Object") ∈ lw_tbl := lw_at lw_m16 125 rfl
set_option maxRecDepth 100000
theorem q3815 : (Jvm.Cond.castable "[I" "java/lang/Object") ∈ lw_tbl := lw_at lw_m16 122 rfl
set_option maxRecDepth 100000
theorem q3817 : (Jvm.Cond.castable "[J" "java/lang/Object") ∈ lw_tbl := lw_at lw_m16 124 rfl
set_option maxRecDepth 100000
theorem q3812 : (Jvm.Cond.castable "[LRobotCell$Buffer;" "java/lang/Object") ∈ lw_tbl := lw_at lw_m16 119 rfl
set_option maxRecDepth 100000
theorem q3813 : (Jvm.Cond.castable "[LRobotCell$Cell$Arm;" "java/lang/Object") ∈ lw_tbl := lw_at lw_m16 120 rfl
set_option maxRecDepth 100000
theorem q3807 : (Jvm.Cond.sameMethod "[Ljava/lang/Object;" "java/lang/Object" "getClass" "()Ljava/lang/Class;") ∈ lw_all := lw_g (lw_at lw_m16 114 rfl) rfl
set_option maxRecDepth 100000
theorem q3808 : (Jvm.Cond.selects "[Ljava/lang/Object;" ({ cls := "java/lang/Object", name := "getClass", desc := "()Ljava/lang/Class;" } : Jvm.MethodName) ({ cls := "java/lang/Object", name := "getClass", desc := "()Ljava/lang/Class;" } : Jvm.MethodName)) ∈ lw_all := lw_g (lw_at lw_m16 115 rfl) rfl
theorem q3814 : (Jvm.Cond.castable "[Ljava/lang/Object;" "java/lang/Object") ∈ lw_tbl := lw_at lw_m16 121 rfl
theorem q3816 : (Jvm.Cond.castable "[Ljava/util/HashMap$Node;" "java/lang/Object") ∈ lw_tbl := lw_at lw_m16 123 rfl
set_option maxRecDepth 100000
theorem q151 : (Jvm.Cond.initialized "java/lang/Integer$IntegerCache") ∈ lw_all := lw_g (lw_at lw_m1 58 rfl) rfl
set_option maxRecDepth 100000
theorem q2552 : (Jvm.Cond.laysStatic "java/lang/Integer$IntegerCache" "high" "I") ∈ lw_tbl := lw_at lw_m11 59 rfl
theorem q2554 : (Jvm.Cond.laysStatic "java/lang/Integer$IntegerCache" "cache" "[Ljava/lang/Integer;") ∈ lw_tbl := lw_at lw_m11 61 rfl
theorem q2604 : (Jvm.Cond.interfaceMethod "java/lang/Iterable" "java/lang/Iterable" "iterator" "()Ljava/util/Iterator;") ∈ lw_tbl := lw_at lw_m11 111 rfl
set_option maxRecDepth 100000
theorem q2605 : (Jvm.Cond.declares ({ cls := "java/lang/Iterable", name := "iterator", desc := "()Ljava/util/Iterator;" } : Jvm.MethodName)) ∈ lw_tbl := lw_at lw_m11 112 rfl
theorem q114 : (Jvm.Cond.initialized "java/lang/System") ∈ lw_all := lw_g (lw_at lw_m1 21 rfl) rfl
set_option maxRecDepth 100000
theorem q331 : (Jvm.Cond.static ({ cls := "java/lang/System", name := "arraycopy", desc := "(Ljava/lang/Object;ILjava/lang/Object;II)V" } : Jvm.MethodName)) ∈ lw_all := lw_g (lw_at lw_m1 238 rfl) rfl
theorem q332 : (Jvm.Cond.native ({ cls := "java/lang/System", name := "arraycopy", desc := "(Ljava/lang/Object;ILjava/lang/Object;II)V" } : Jvm.MethodName)) ∈ lw_all := lw_g (lw_at lw_m1 239 rfl) rfl
theorem q1491 : (Jvm.Cond.interfaceMethod "java/util/Iterator" "java/util/Iterator" "hasNext" "()Z") ∈ lw_tbl := lw_at lw_m6 198 rfl
set_option maxRecDepth 100000
theorem q1492 : (Jvm.Cond.declares ({ cls := "java/util/Iterator", name := "hasNext", desc := "()Z" } : Jvm.MethodName)) ∈ lw_tbl := lw_at lw_m6 199 rfl
theorem q1525 : (Jvm.Cond.interfaceMethod "java/util/Iterator" "java/util/Iterator" "next" "()Ljava/lang/Object;") ∈ lw_tbl := lw_at lw_m6 232 rfl
theorem q1526 : (Jvm.Cond.declares ({ cls := "java/util/Iterator", name := "next", desc := "()Ljava/lang/Object;" } : Jvm.MethodName)) ∈ lw_tbl := lw_at lw_m6 233 rfl
theorem q1421 : (Jvm.Cond.interfaceMethod "java/util/Set" "java/util/Set" "iterator" "()Ljava/util/Iterator;") ∈ lw_tbl := lw_at lw_m6 128 rfl
set_option maxRecDepth 100000
theorem q1422 : (Jvm.Cond.declares ({ cls := "java/util/Set", name := "iterator", desc := "()Ljava/util/Iterator;" } : Jvm.MethodName)) ∈ lw_tbl := lw_at lw_m6 129 rfl
theorem q285 : (Jvm.Cond.arrayClass Jvm.ClassFile.FieldType.byte) ∈ lw_all := lw_g (lw_at lw_m1 192 rfl) rfl
set_option maxRecDepth 100000
theorem q991 : (Jvm.Cond.arrayClass Jvm.ClassFile.FieldType.char) ∈ lw_all := lw_g (lw_at lw_m4 178 rfl) rfl
theorem q1089 : (Jvm.Cond.arrayOver (Jvm.ClassFile.FieldType.object "RobotCell$Buffer")) ∈ lw_tbl := lw_at lw_m5 36 rfl
theorem q1091 : (Jvm.Cond.arrayOver (Jvm.ClassFile.FieldType.object "RobotCell$Cell$Arm")) ∈ lw_tbl := lw_at lw_m5 38 rfl
theorem q1125 : (Jvm.Cond.arrayOver (Jvm.ClassFile.FieldType.object "java/lang/Object")) ∈ lw_tbl := lw_at lw_m5 72 rfl
theorem q1170 : (Jvm.Cond.arrayClass Jvm.ClassFile.FieldType.int) ∈ lw_all := lw_g (lw_at lw_m5 117 rfl) rfl
theorem q1755 : (Jvm.Cond.arrayOver (Jvm.ClassFile.FieldType.object "java/util/HashMap$Node")) ∈ lw_tbl := lw_at lw_m7 222 rfl
theorem q3720 : (Jvm.Cond.arrayClass Jvm.ClassFile.FieldType.long) ∈ lw_all := lw_g (lw_at lw_m16 27 rfl) rfl
theorem q3721 : (Jvm.Cond.arrayClass Jvm.ClassFile.FieldType.double) ∈ lw_all := lw_g (lw_at lw_m16 28 rfl) rfl
theorem q3819 : (Jvm.Cond.arrayClass Jvm.ClassFile.FieldType.short) ∈ lw_all := lw_g (lw_at lw_m16 126 rfl) rfl
