/-! RobotCell -/
set_option maxRecDepth 100000
def RX1 : String := "RobotCell"
def TX1 : u_T := fun k => match k with
  | 0 => ("RobotCell", "cell", "LRobotCell$Cell;", false)
  | 1 => ("RobotCell", "saved", "LRobotCell$Cell;", false)
  | 2 => ("RobotCell", "history", "Ljava/util/ArrayDeque;", true)
  | 3 => ("RobotCell", "input", "[C", true)
  | _ => ("RobotCell", "inputLength", "I", false)
def tyX1 : Nat → FieldType := fun k => match k with
  | 0 => .object "RobotCell$Cell"
  | 1 => .object "RobotCell$Cell"
  | 2 => .object "java/util/ArrayDeque"
  | 3 => .array .char
  | _ => .int
abbrev wsX10 : List Cond := u_ws RX1 TX1 5
theorem nmX1 : ∀ a, a < 5 → ∀ b, b < 5 → a ≠ b → (TX1 a).2.1 ≠ (TX1 b).2.1 := by decide +kernel
theorem tyX1_ok : ∀ k, k < 5 → parseFieldDescriptor (TX1 k).2.2.1 = some (tyX1 k) := by decide +kernel
abbrev cX1_init : ByteArray := prog_1_method_7_code
def yX1_init : MethodName := ⟨RX1, "<init>", "()V"⟩
def dkwX1_init_1 : List UInt8 := [181, 0, 35, 42, 16, 80, 188, 5, 181, 0, 39, 177]
abbrev dktX1_init_1 : List UInt8 := dkwX1_init_1 ++ []
def dkwX1_init_0 : List UInt8 := [42, 183, 0, 22, 42, 187, 0, 25, 89, 183, 0, 27, 181, 0, 28, 42, 187, 0, 32, 89, 183, 0, 34]
abbrev dktX1_init_0 : List UInt8 := dkwX1_init_0 ++ dktX1_init_1
theorem dksX1_init_0 : cX1_init.data.toList.drop 0 = dktX1_init_0 := by decide +kernel
theorem dksX1_init_1 : cX1_init.data.toList.drop 23 = dktX1_init_1 := dk_seg dksX1_init_0 23 rfl rfl
theorem dX1_init_0 : decode cX1_init 0 = .ok (.aload_n 0, 1) := dk_42 (dk_at dksX1_init_0 0 rfl rfl)
theorem dX1_init_1 : decode cX1_init 1 = .ok (.invokespecial 22, 3) := dk_183 0 22 (dk_at dksX1_init_0 1 rfl rfl)
theorem dX1_init_4 : decode cX1_init 4 = .ok (.aload_n 0, 1) := dk_42 (dk_at dksX1_init_0 4 rfl rfl)
theorem dX1_init_5 : decode cX1_init 5 = .ok (.new 25, 3) := dk_187 0 25 (dk_at dksX1_init_0 5 rfl rfl)
theorem dX1_init_8 : decode cX1_init 8 = .ok (.dup, 1) := dk_89 (dk_at dksX1_init_0 8 rfl rfl)
theorem dX1_init_9 : decode cX1_init 9 = .ok (.invokespecial 27, 3) := dk_183 0 27 (dk_at dksX1_init_0 9 rfl rfl)
theorem dX1_init_12 : decode cX1_init 12 = .ok (.putfield 28, 3) := dk_181 0 28 (dk_at dksX1_init_0 12 rfl rfl)
theorem dX1_init_15 : decode cX1_init 15 = .ok (.aload_n 0, 1) := dk_42 (dk_at dksX1_init_0 15 rfl rfl)
theorem dX1_init_16 : decode cX1_init 16 = .ok (.new 32, 3) := dk_187 0 32 (dk_at dksX1_init_0 16 rfl rfl)
theorem dX1_init_19 : decode cX1_init 19 = .ok (.dup, 1) := dk_89 (dk_at dksX1_init_0 19 rfl rfl)
theorem dX1_init_20 : decode cX1_init 20 = .ok (.invokespecial 34, 3) := dk_183 0 34 (dk_at dksX1_init_0 20 rfl rfl)
theorem dX1_init_23 : decode cX1_init 23 = .ok (.putfield 35, 3) := dk_181 0 35 (dk_at dksX1_init_1 0 rfl rfl)
theorem dX1_init_26 : decode cX1_init 26 = .ok (.aload_n 0, 1) := dk_42 (dk_at dksX1_init_1 3 rfl rfl)
theorem dX1_init_27 : decode cX1_init 27 = .ok (.bipush 80, 2) := dk_16 80 (dk_at dksX1_init_1 4 rfl rfl)
theorem dX1_init_29 : decode cX1_init 29 = .ok (.newarray .char, 2) := dk_188_5 (dk_at dksX1_init_1 6 rfl rfl)
theorem dX1_init_31 : decode cX1_init 31 = .ok (.putfield 39, 3) := dk_181 0 39 (dk_at dksX1_init_1 8 rfl rfl)
theorem dX1_init_34 : decode cX1_init 34 = .ok (.return_, 1) := dk_177 (dk_at dksX1_init_1 11 rfl rfl)
abbrev cX1_isSafe : ByteArray := prog_1_method_32_code
def yX1_isSafe : MethodName := ⟨RX1, "isSafe", "()Z"⟩
def dkwX1_isSafe_0 : List UInt8 := [42, 180, 0, 28, 182, 1, 25, 172]
abbrev dktX1_isSafe_0 : List UInt8 := dkwX1_isSafe_0 ++ []
theorem dksX1_isSafe_0 : cX1_isSafe.data.toList.drop 0 = dktX1_isSafe_0 := by decide +kernel
theorem dX1_isSafe_0 : decode cX1_isSafe 0 = .ok (.aload_n 0, 1) := dk_42 (dk_at dksX1_isSafe_0 0 rfl rfl)
theorem dX1_isSafe_1 : decode cX1_isSafe 1 = .ok (.getfield 28, 3) := dk_180 0 28 (dk_at dksX1_isSafe_0 1 rfl rfl)
theorem dX1_isSafe_4 : decode cX1_isSafe 4 = .ok (.invokevirtual 281, 3) := dk_182 1 25 (dk_at dksX1_isSafe_0 4 rfl rfl)
theorem dX1_isSafe_7 : decode cX1_isSafe 7 = .ok (.ireturn, 1) := dk_172 (dk_at dksX1_isSafe_0 7 rfl rfl)
abbrev cX1_contains : ByteArray := prog_1_method_6_code
def yX1_contains : MethodName := ⟨RX1, "contains", "(II)Z"⟩
def dkwX1_contains_0 : List UInt8 := [26, 27, 122, 4, 126, 4, 160, 0, 7, 4, 167, 0, 4, 3, 172]
abbrev dktX1_contains_0 : List UInt8 := dkwX1_contains_0 ++ []
theorem dksX1_contains_0 : cX1_contains.data.toList.drop 0 = dktX1_contains_0 := by decide +kernel
theorem dX1_contains_0 : decode cX1_contains 0 = .ok (.iload_n 0, 1) := dk_26 (dk_at dksX1_contains_0 0 rfl rfl)
theorem dX1_contains_1 : decode cX1_contains 1 = .ok (.iload_n 1, 1) := dk_27 (dk_at dksX1_contains_0 1 rfl rfl)
theorem dX1_contains_2 : decode cX1_contains 2 = .ok (.ishr, 1) := dk_122 (dk_at dksX1_contains_0 2 rfl rfl)
theorem dX1_contains_3 : decode cX1_contains 3 = .ok (.iconst 1, 1) := dk_4 (dk_at dksX1_contains_0 3 rfl rfl)
theorem dX1_contains_4 : decode cX1_contains 4 = .ok (.iand, 1) := dk_126 (dk_at dksX1_contains_0 4 rfl rfl)
theorem dX1_contains_5 : decode cX1_contains 5 = .ok (.iconst 1, 1) := dk_4 (dk_at dksX1_contains_0 5 rfl rfl)
theorem dX1_contains_6 : decode cX1_contains 6 = .ok (.if_icmp .ne 7, 3) := dk_160 0 7 (dk_at dksX1_contains_0 6 rfl rfl)
theorem dX1_contains_9 : decode cX1_contains 9 = .ok (.iconst 1, 1) := dk_4 (dk_at dksX1_contains_0 9 rfl rfl)
theorem dX1_contains_10 : decode cX1_contains 10 = .ok (.goto 4, 3) := dk_167 0 4 (dk_at dksX1_contains_0 10 rfl rfl)
theorem dX1_contains_13 : decode cX1_contains 13 = .ok (.iconst 0, 1) := dk_3 (dk_at dksX1_contains_0 13 rfl rfl)
theorem dX1_contains_14 : decode cX1_contains 14 = .ok (.ireturn, 1) := dk_172 (dk_at dksX1_contains_0 14 rfl rfl)
abbrev cX1_save : ByteArray := prog_1_method_40_code
def yX1_save : MethodName := ⟨RX1, "save", "()I"⟩
def dkwX1_save_0 : List UInt8 := [42, 187, 0, 25, 89, 42, 180, 0, 28, 183, 0, 163, 181, 1, 81, 42, 180, 0, 28, 180, 1, 34, 172]
abbrev dktX1_save_0 : List UInt8 := dkwX1_save_0 ++ []
theorem dksX1_save_0 : cX1_save.data.toList.drop 0 = dktX1_save_0 := by decide +kernel
theorem dX1_save_0 : decode cX1_save 0 = .ok (.aload_n 0, 1) := dk_42 (dk_at dksX1_save_0 0 rfl rfl)
theorem dX1_save_1 : decode cX1_save 1 = .ok (.new 25, 3) := dk_187 0 25 (dk_at dksX1_save_0 1 rfl rfl)
theorem dX1_save_4 : decode cX1_save 4 = .ok (.dup, 1) := dk_89 (dk_at dksX1_save_0 4 rfl rfl)
theorem dX1_save_5 : decode cX1_save 5 = .ok (.aload_n 0, 1) := dk_42 (dk_at dksX1_save_0 5 rfl rfl)
theorem dX1_save_6 : decode cX1_save 6 = .ok (.getfield 28, 3) := dk_180 0 28 (dk_at dksX1_save_0 6 rfl rfl)
theorem dX1_save_9 : decode cX1_save 9 = .ok (.invokespecial 163, 3) := dk_183 0 163 (dk_at dksX1_save_0 9 rfl rfl)
theorem dX1_save_12 : decode cX1_save 12 = .ok (.putfield 337, 3) := dk_181 1 81 (dk_at dksX1_save_0 12 rfl rfl)
theorem dX1_save_15 : decode cX1_save 15 = .ok (.aload_n 0, 1) := dk_42 (dk_at dksX1_save_0 15 rfl rfl)
theorem dX1_save_16 : decode cX1_save 16 = .ok (.getfield 28, 3) := dk_180 0 28 (dk_at dksX1_save_0 16 rfl rfl)
theorem dX1_save_19 : decode cX1_save 19 = .ok (.getfield 290, 3) := dk_180 1 34 (dk_at dksX1_save_0 19 rfl rfl)
theorem dX1_save_22 : decode cX1_save 22 = .ok (.ireturn, 1) := dk_172 (dk_at dksX1_save_0 22 rfl rfl)
abbrev cX1_setInterlock : ByteArray := prog_1_method_14_code
def yX1_setInterlock : MethodName := ⟨RX1, "setInterlock", "(IIZ)Z"⟩
def dkwX1_setInterlock_1 : List UInt8 := [25, 4, 182, 0, 170, 21, 5, 172]
abbrev dktX1_setInterlock_1 : List UInt8 := dkwX1_setInterlock_1 ++ []
def dkwX1_setInterlock_0 : List UInt8 := [187, 0, 25, 89, 42, 180, 0, 28, 183, 0, 163, 58, 4, 25, 4, 27, 28, 29, 184, 0, 166, 54, 5, 42]
abbrev dktX1_setInterlock_0 : List UInt8 := dkwX1_setInterlock_0 ++ dktX1_setInterlock_1
theorem dksX1_setInterlock_0 : cX1_setInterlock.data.toList.drop 0 = dktX1_setInterlock_0 := by decide +kernel
theorem dksX1_setInterlock_1 : cX1_setInterlock.data.toList.drop 24 = dktX1_setInterlock_1 := dk_seg dksX1_setInterlock_0 24 rfl rfl
theorem dX1_setInterlock_0 : decode cX1_setInterlock 0 = .ok (.new 25, 3) := dk_187 0 25 (dk_at dksX1_setInterlock_0 0 rfl rfl)
theorem dX1_setInterlock_3 : decode cX1_setInterlock 3 = .ok (.dup, 1) := dk_89 (dk_at dksX1_setInterlock_0 3 rfl rfl)
theorem dX1_setInterlock_4 : decode cX1_setInterlock 4 = .ok (.aload_n 0, 1) := dk_42 (dk_at dksX1_setInterlock_0 4 rfl rfl)
theorem dX1_setInterlock_5 : decode cX1_setInterlock 5 = .ok (.getfield 28, 3) := dk_180 0 28 (dk_at dksX1_setInterlock_0 5 rfl rfl)
theorem dX1_setInterlock_8 : decode cX1_setInterlock 8 = .ok (.invokespecial 163, 3) := dk_183 0 163 (dk_at dksX1_setInterlock_0 8 rfl rfl)
theorem dX1_setInterlock_11 : decode cX1_setInterlock 11 = .ok (.astore 4, 2) := dk_58 4 (dk_at dksX1_setInterlock_0 11 rfl rfl)
theorem dX1_setInterlock_13 : decode cX1_setInterlock 13 = .ok (.aload 4, 2) := dk_25 4 (dk_at dksX1_setInterlock_0 13 rfl rfl)
theorem dX1_setInterlock_15 : decode cX1_setInterlock 15 = .ok (.iload_n 1, 1) := dk_27 (dk_at dksX1_setInterlock_0 15 rfl rfl)
theorem dX1_setInterlock_16 : decode cX1_setInterlock 16 = .ok (.iload_n 2, 1) := dk_28 (dk_at dksX1_setInterlock_0 16 rfl rfl)
theorem dX1_setInterlock_17 : decode cX1_setInterlock 17 = .ok (.iload_n 3, 1) := dk_29 (dk_at dksX1_setInterlock_0 17 rfl rfl)
theorem dX1_setInterlock_18 : decode cX1_setInterlock 18 = .ok (.invokestatic 166, 3) := dk_184 0 166 (dk_at dksX1_setInterlock_0 18 rfl rfl)
theorem dX1_setInterlock_21 : decode cX1_setInterlock 21 = .ok (.istore 5, 2) := dk_54 5 (dk_at dksX1_setInterlock_0 21 rfl rfl)
theorem dX1_setInterlock_23 : decode cX1_setInterlock 23 = .ok (.aload_n 0, 1) := dk_42 (dk_at dksX1_setInterlock_0 23 rfl rfl)
theorem dX1_setInterlock_24 : decode cX1_setInterlock 24 = .ok (.aload 4, 2) := dk_25 4 (dk_at dksX1_setInterlock_1 0 rfl rfl)
theorem dX1_setInterlock_26 : decode cX1_setInterlock 26 = .ok (.invokevirtual 170, 3) := dk_182 0 170 (dk_at dksX1_setInterlock_1 2 rfl rfl)
theorem dX1_setInterlock_29 : decode cX1_setInterlock 29 = .ok (.iload 5, 2) := dk_21 5 (dk_at dksX1_setInterlock_1 5 rfl rfl)
theorem dX1_setInterlock_31 : decode cX1_setInterlock 31 = .ok (.ireturn, 1) := dk_172 (dk_at dksX1_setInterlock_1 7 rfl rfl)
abbrev cX1_setInterlockIn : ByteArray := prog_1_method_10_code
def yX1_setInterlockIn : MethodName := ⟨RX1, "setInterlockIn", "(LRobotCell$Cell;IIZ)Z"⟩
def dkwX1_setInterlockIn_5 : List UInt8 := [180, 0, 84, 25, 4, 182, 0, 103, 54, 8, 21, 5, 172]
abbrev dktX1_setInterlockIn_5 : List UInt8 := dkwX1_setInterlockIn_5 ++ []
def dkwX1_setInterlockIn_4 : List UInt8 := [167, 0, 4, 3, 184, 0, 97, 29, 153, 0, 15, 42, 180, 0, 84, 25, 4, 182, 0, 100, 167, 0, 12, 42]
abbrev dktX1_setInterlockIn_4 : List UInt8 := dkwX1_setInterlockIn_4 ++ dktX1_setInterlockIn_5
def dkwX1_setInterlockIn_3 : List UInt8 := [154, 0, 22, 21, 6, 2, 159, 0, 16, 21, 7, 2, 159, 0, 10, 21, 6, 21, 7, 160, 0, 7, 4]
abbrev dktX1_setInterlockIn_3 : List UInt8 := dkwX1_setInterlockIn_3 ++ dktX1_setInterlockIn_4
def dkwX1_setInterlockIn_2 : List UInt8 := [54, 5, 42, 27, 184, 0, 93, 54, 6, 42, 28, 184, 0, 93, 54, 7, 29, 153, 0, 27, 21, 5]
abbrev dktX1_setInterlockIn_2 : List UInt8 := dkwX1_setInterlockIn_2 ++ dktX1_setInterlockIn_3
def dkwX1_setInterlockIn_1 : List UInt8 := [184, 0, 76, 187, 0, 80, 89, 27, 28, 183, 0, 82, 58, 4, 42, 180, 0, 84, 25, 4, 182, 0, 88]
abbrev dktX1_setInterlockIn_1 : List UInt8 := dkwX1_setInterlockIn_1 ++ dktX1_setInterlockIn_2
def dkwX1_setInterlockIn_0 : List UInt8 := [27, 16, 8, 184, 0, 72, 28, 16, 8, 184, 0, 72, 27, 28, 159, 0, 7, 4, 167, 0, 4, 3]
abbrev dktX1_setInterlockIn_0 : List UInt8 := dkwX1_setInterlockIn_0 ++ dktX1_setInterlockIn_1
theorem dksX1_setInterlockIn_0 : cX1_setInterlockIn.data.toList.drop 0 = dktX1_setInterlockIn_0 := by decide +kernel
theorem dksX1_setInterlockIn_1 : cX1_setInterlockIn.data.toList.drop 22 = dktX1_setInterlockIn_1 := dk_seg dksX1_setInterlockIn_0 22 rfl rfl
theorem dksX1_setInterlockIn_2 : cX1_setInterlockIn.data.toList.drop 45 = dktX1_setInterlockIn_2 := dk_seg dksX1_setInterlockIn_1 23 rfl rfl
theorem dksX1_setInterlockIn_3 : cX1_setInterlockIn.data.toList.drop 67 = dktX1_setInterlockIn_3 := dk_seg dksX1_setInterlockIn_2 22 rfl rfl
theorem dksX1_setInterlockIn_4 : cX1_setInterlockIn.data.toList.drop 90 = dktX1_setInterlockIn_4 := dk_seg dksX1_setInterlockIn_3 23 rfl rfl
theorem dksX1_setInterlockIn_5 : cX1_setInterlockIn.data.toList.drop 114 = dktX1_setInterlockIn_5 := dk_seg dksX1_setInterlockIn_4 24 rfl rfl
theorem dX1_setInterlockIn_0 : decode cX1_setInterlockIn 0 = .ok (.iload_n 1, 1) := dk_27 (dk_at dksX1_setInterlockIn_0 0 rfl rfl)
theorem dX1_setInterlockIn_1 : decode cX1_setInterlockIn 1 = .ok (.bipush 8, 2) := dk_16 8 (dk_at dksX1_setInterlockIn_0 1 rfl rfl)
theorem dX1_setInterlockIn_3 : decode cX1_setInterlockIn 3 = .ok (.invokestatic 72, 3) := dk_184 0 72 (dk_at dksX1_setInterlockIn_0 3 rfl rfl)
theorem dX1_setInterlockIn_6 : decode cX1_setInterlockIn 6 = .ok (.iload_n 2, 1) := dk_28 (dk_at dksX1_setInterlockIn_0 6 rfl rfl)
theorem dX1_setInterlockIn_7 : decode cX1_setInterlockIn 7 = .ok (.bipush 8, 2) := dk_16 8 (dk_at dksX1_setInterlockIn_0 7 rfl rfl)
theorem dX1_setInterlockIn_9 : decode cX1_setInterlockIn 9 = .ok (.invokestatic 72, 3) := dk_184 0 72 (dk_at dksX1_setInterlockIn_0 9 rfl rfl)
theorem dX1_setInterlockIn_12 : decode cX1_setInterlockIn 12 = .ok (.iload_n 1, 1) := dk_27 (dk_at dksX1_setInterlockIn_0 12 rfl rfl)
theorem dX1_setInterlockIn_13 : decode cX1_setInterlockIn 13 = .ok (.iload_n 2, 1) := dk_28 (dk_at dksX1_setInterlockIn_0 13 rfl rfl)
theorem dX1_setInterlockIn_14 : decode cX1_setInterlockIn 14 = .ok (.if_icmp .eq 7, 3) := dk_159 0 7 (dk_at dksX1_setInterlockIn_0 14 rfl rfl)
theorem dX1_setInterlockIn_17 : decode cX1_setInterlockIn 17 = .ok (.iconst 1, 1) := dk_4 (dk_at dksX1_setInterlockIn_0 17 rfl rfl)
theorem dX1_setInterlockIn_18 : decode cX1_setInterlockIn 18 = .ok (.goto 4, 3) := dk_167 0 4 (dk_at dksX1_setInterlockIn_0 18 rfl rfl)
theorem dX1_setInterlockIn_21 : decode cX1_setInterlockIn 21 = .ok (.iconst 0, 1) := dk_3 (dk_at dksX1_setInterlockIn_0 21 rfl rfl)
theorem dX1_setInterlockIn_22 : decode cX1_setInterlockIn 22 = .ok (.invokestatic 76, 3) := dk_184 0 76 (dk_at dksX1_setInterlockIn_1 0 rfl rfl)
theorem dX1_setInterlockIn_25 : decode cX1_setInterlockIn 25 = .ok (.new 80, 3) := dk_187 0 80 (dk_at dksX1_setInterlockIn_1 3 rfl rfl)
theorem dX1_setInterlockIn_28 : decode cX1_setInterlockIn 28 = .ok (.dup, 1) := dk_89 (dk_at dksX1_setInterlockIn_1 6 rfl rfl)
theorem dX1_setInterlockIn_29 : decode cX1_setInterlockIn 29 = .ok (.iload_n 1, 1) := dk_27 (dk_at dksX1_setInterlockIn_1 7 rfl rfl)
theorem dX1_setInterlockIn_30 : decode cX1_setInterlockIn 30 = .ok (.iload_n 2, 1) := dk_28 (dk_at dksX1_setInterlockIn_1 8 rfl rfl)
theorem dX1_setInterlockIn_31 : decode cX1_setInterlockIn 31 = .ok (.invokespecial 82, 3) := dk_183 0 82 (dk_at dksX1_setInterlockIn_1 9 rfl rfl)
theorem dX1_setInterlockIn_34 : decode cX1_setInterlockIn 34 = .ok (.astore 4, 2) := dk_58 4 (dk_at dksX1_setInterlockIn_1 12 rfl rfl)
theorem dX1_setInterlockIn_36 : decode cX1_setInterlockIn 36 = .ok (.aload_n 0, 1) := dk_42 (dk_at dksX1_setInterlockIn_1 14 rfl rfl)
theorem dX1_setInterlockIn_37 : decode cX1_setInterlockIn 37 = .ok (.getfield 84, 3) := dk_180 0 84 (dk_at dksX1_setInterlockIn_1 15 rfl rfl)
theorem dX1_setInterlockIn_40 : decode cX1_setInterlockIn 40 = .ok (.aload 4, 2) := dk_25 4 (dk_at dksX1_setInterlockIn_1 18 rfl rfl)
theorem dX1_setInterlockIn_42 : decode cX1_setInterlockIn 42 = .ok (.invokevirtual 88, 3) := dk_182 0 88 (dk_at dksX1_setInterlockIn_1 20 rfl rfl)
theorem dX1_setInterlockIn_45 : decode cX1_setInterlockIn 45 = .ok (.istore 5, 2) := dk_54 5 (dk_at dksX1_setInterlockIn_2 0 rfl rfl)
theorem dX1_setInterlockIn_47 : decode cX1_setInterlockIn 47 = .ok (.aload_n 0, 1) := dk_42 (dk_at dksX1_setInterlockIn_2 2 rfl rfl)
theorem dX1_setInterlockIn_48 : decode cX1_setInterlockIn 48 = .ok (.iload_n 1, 1) := dk_27 (dk_at dksX1_setInterlockIn_2 3 rfl rfl)
theorem dX1_setInterlockIn_49 : decode cX1_setInterlockIn 49 = .ok (.invokestatic 93, 3) := dk_184 0 93 (dk_at dksX1_setInterlockIn_2 4 rfl rfl)
theorem dX1_setInterlockIn_52 : decode cX1_setInterlockIn 52 = .ok (.istore 6, 2) := dk_54 6 (dk_at dksX1_setInterlockIn_2 7 rfl rfl)
theorem dX1_setInterlockIn_54 : decode cX1_setInterlockIn 54 = .ok (.aload_n 0, 1) := dk_42 (dk_at dksX1_setInterlockIn_2 9 rfl rfl)
theorem dX1_setInterlockIn_55 : decode cX1_setInterlockIn 55 = .ok (.iload_n 2, 1) := dk_28 (dk_at dksX1_setInterlockIn_2 10 rfl rfl)
theorem dX1_setInterlockIn_56 : decode cX1_setInterlockIn 56 = .ok (.invokestatic 93, 3) := dk_184 0 93 (dk_at dksX1_setInterlockIn_2 11 rfl rfl)
theorem dX1_setInterlockIn_59 : decode cX1_setInterlockIn 59 = .ok (.istore 7, 2) := dk_54 7 (dk_at dksX1_setInterlockIn_2 14 rfl rfl)
theorem dX1_setInterlockIn_61 : decode cX1_setInterlockIn 61 = .ok (.iload_n 3, 1) := dk_29 (dk_at dksX1_setInterlockIn_2 16 rfl rfl)
theorem dX1_setInterlockIn_62 : decode cX1_setInterlockIn 62 = .ok (.ifCond .eq 27, 3) := dk_153 0 27 (dk_at dksX1_setInterlockIn_2 17 rfl rfl)
theorem dX1_setInterlockIn_65 : decode cX1_setInterlockIn 65 = .ok (.iload 5, 2) := dk_21 5 (dk_at dksX1_setInterlockIn_2 20 rfl rfl)
theorem dX1_setInterlockIn_67 : decode cX1_setInterlockIn 67 = .ok (.ifCond .ne 22, 3) := dk_154 0 22 (dk_at dksX1_setInterlockIn_3 0 rfl rfl)
theorem dX1_setInterlockIn_70 : decode cX1_setInterlockIn 70 = .ok (.iload 6, 2) := dk_21 6 (dk_at dksX1_setInterlockIn_3 3 rfl rfl)
theorem dX1_setInterlockIn_72 : decode cX1_setInterlockIn 72 = .ok (.iconst (-1), 1) := dk_2 (dk_at dksX1_setInterlockIn_3 5 rfl rfl)
theorem dX1_setInterlockIn_73 : decode cX1_setInterlockIn 73 = .ok (.if_icmp .eq 16, 3) := dk_159 0 16 (dk_at dksX1_setInterlockIn_3 6 rfl rfl)
theorem dX1_setInterlockIn_76 : decode cX1_setInterlockIn 76 = .ok (.iload 7, 2) := dk_21 7 (dk_at dksX1_setInterlockIn_3 9 rfl rfl)
theorem dX1_setInterlockIn_78 : decode cX1_setInterlockIn 78 = .ok (.iconst (-1), 1) := dk_2 (dk_at dksX1_setInterlockIn_3 11 rfl rfl)
theorem dX1_setInterlockIn_79 : decode cX1_setInterlockIn 79 = .ok (.if_icmp .eq 10, 3) := dk_159 0 10 (dk_at dksX1_setInterlockIn_3 12 rfl rfl)
theorem dX1_setInterlockIn_82 : decode cX1_setInterlockIn 82 = .ok (.iload 6, 2) := dk_21 6 (dk_at dksX1_setInterlockIn_3 15 rfl rfl)
theorem dX1_setInterlockIn_84 : decode cX1_setInterlockIn 84 = .ok (.iload 7, 2) := dk_21 7 (dk_at dksX1_setInterlockIn_3 17 rfl rfl)
theorem dX1_setInterlockIn_86 : decode cX1_setInterlockIn 86 = .ok (.if_icmp .ne 7, 3) := dk_160 0 7 (dk_at dksX1_setInterlockIn_3 19 rfl rfl)
theorem dX1_setInterlockIn_89 : decode cX1_setInterlockIn 89 = .ok (.iconst 1, 1) := dk_4 (dk_at dksX1_setInterlockIn_3 22 rfl rfl)
theorem dX1_setInterlockIn_90 : decode cX1_setInterlockIn 90 = .ok (.goto 4, 3) := dk_167 0 4 (dk_at dksX1_setInterlockIn_4 0 rfl rfl)
theorem dX1_setInterlockIn_93 : decode cX1_setInterlockIn 93 = .ok (.iconst 0, 1) := dk_3 (dk_at dksX1_setInterlockIn_4 3 rfl rfl)
theorem dX1_setInterlockIn_94 : decode cX1_setInterlockIn 94 = .ok (.invokestatic 97, 3) := dk_184 0 97 (dk_at dksX1_setInterlockIn_4 4 rfl rfl)
theorem dX1_setInterlockIn_97 : decode cX1_setInterlockIn 97 = .ok (.iload_n 3, 1) := dk_29 (dk_at dksX1_setInterlockIn_4 7 rfl rfl)
theorem dX1_setInterlockIn_98 : decode cX1_setInterlockIn 98 = .ok (.ifCond .eq 15, 3) := dk_153 0 15 (dk_at dksX1_setInterlockIn_4 8 rfl rfl)
theorem dX1_setInterlockIn_101 : decode cX1_setInterlockIn 101 = .ok (.aload_n 0, 1) := dk_42 (dk_at dksX1_setInterlockIn_4 11 rfl rfl)
theorem dX1_setInterlockIn_102 : decode cX1_setInterlockIn 102 = .ok (.getfield 84, 3) := dk_180 0 84 (dk_at dksX1_setInterlockIn_4 12 rfl rfl)
theorem dX1_setInterlockIn_105 : decode cX1_setInterlockIn 105 = .ok (.aload 4, 2) := dk_25 4 (dk_at dksX1_setInterlockIn_4 15 rfl rfl)
theorem dX1_setInterlockIn_107 : decode cX1_setInterlockIn 107 = .ok (.invokevirtual 100, 3) := dk_182 0 100 (dk_at dksX1_setInterlockIn_4 17 rfl rfl)
theorem dX1_setInterlockIn_110 : decode cX1_setInterlockIn 110 = .ok (.goto 12, 3) := dk_167 0 12 (dk_at dksX1_setInterlockIn_4 20 rfl rfl)
theorem dX1_setInterlockIn_113 : decode cX1_setInterlockIn 113 = .ok (.aload_n 0, 1) := dk_42 (dk_at dksX1_setInterlockIn_4 23 rfl rfl)
theorem dX1_setInterlockIn_114 : decode cX1_setInterlockIn 114 = .ok (.getfield 84, 3) := dk_180 0 84 (dk_at dksX1_setInterlockIn_5 0 rfl rfl)
theorem dX1_setInterlockIn_117 : decode cX1_setInterlockIn 117 = .ok (.aload 4, 2) := dk_25 4 (dk_at dksX1_setInterlockIn_5 3 rfl rfl)
theorem dX1_setInterlockIn_119 : decode cX1_setInterlockIn 119 = .ok (.invokevirtual 103, 3) := dk_182 0 103 (dk_at dksX1_setInterlockIn_5 5 rfl rfl)
theorem dX1_setInterlockIn_122 : decode cX1_setInterlockIn 122 = .ok (.istore 8, 2) := dk_54 8 (dk_at dksX1_setInterlockIn_5 8 rfl rfl)
theorem dX1_setInterlockIn_124 : decode cX1_setInterlockIn 124 = .ok (.iload 5, 2) := dk_21 5 (dk_at dksX1_setInterlockIn_5 10 rfl rfl)
theorem dX1_setInterlockIn_126 : decode cX1_setInterlockIn 126 = .ok (.ireturn, 1) := dk_172 (dk_at dksX1_setInterlockIn_5 12 rfl rfl)
abbrev cX1_checkIndex : ByteArray := prog_1_method_4_code
def yX1_checkIndex : MethodName := ⟨RX1, "checkIndex", "(II)V"⟩
def dkwX1_checkIndex_0 : List UInt8 := [26, 3, 27, 4, 100, 184, 0, 10, 154, 0, 11, 187, 0, 16, 89, 183, 0, 18, 191, 177]
abbrev dktX1_checkIndex_0 : List UInt8 := dkwX1_checkIndex_0 ++ []
theorem dksX1_checkIndex_0 : cX1_checkIndex.data.toList.drop 0 = dktX1_checkIndex_0 := by decide +kernel
theorem dX1_checkIndex_0 : decode cX1_checkIndex 0 = .ok (.iload_n 0, 1) := dk_26 (dk_at dksX1_checkIndex_0 0 rfl rfl)
theorem dX1_checkIndex_1 : decode cX1_checkIndex 1 = .ok (.iconst 0, 1) := dk_3 (dk_at dksX1_checkIndex_0 1 rfl rfl)
theorem dX1_checkIndex_2 : decode cX1_checkIndex 2 = .ok (.iload_n 1, 1) := dk_27 (dk_at dksX1_checkIndex_0 2 rfl rfl)
theorem dX1_checkIndex_3 : decode cX1_checkIndex 3 = .ok (.iconst 1, 1) := dk_4 (dk_at dksX1_checkIndex_0 3 rfl rfl)
theorem dX1_checkIndex_4 : decode cX1_checkIndex 4 = .ok (.isub, 1) := dk_100 (dk_at dksX1_checkIndex_0 4 rfl rfl)
theorem dX1_checkIndex_5 : decode cX1_checkIndex 5 = .ok (.invokestatic 10, 3) := dk_184 0 10 (dk_at dksX1_checkIndex_0 5 rfl rfl)
theorem dX1_checkIndex_8 : decode cX1_checkIndex 8 = .ok (.ifCond .ne 11, 3) := dk_154 0 11 (dk_at dksX1_checkIndex_0 8 rfl rfl)
theorem dX1_checkIndex_11 : decode cX1_checkIndex 11 = .ok (.new 16, 3) := dk_187 0 16 (dk_at dksX1_checkIndex_0 11 rfl rfl)
theorem dX1_checkIndex_14 : decode cX1_checkIndex 14 = .ok (.dup, 1) := dk_89 (dk_at dksX1_checkIndex_0 14 rfl rfl)
theorem dX1_checkIndex_15 : decode cX1_checkIndex 15 = .ok (.invokespecial 18, 3) := dk_183 0 18 (dk_at dksX1_checkIndex_0 15 rfl rfl)
theorem dX1_checkIndex_18 : decode cX1_checkIndex 18 = .ok (.athrow, 1) := dk_191 (dk_at dksX1_checkIndex_0 18 rfl rfl)
theorem dX1_checkIndex_19 : decode cX1_checkIndex 19 = .ok (.return_, 1) := dk_177 (dk_at dksX1_checkIndex_0 19 rfl rfl)
abbrev cX1_inRange : ByteArray := prog_1_method_1_code
def yX1_inRange : MethodName := ⟨RX1, "inRange", "(III)Z"⟩
def dkwX1_inRange_0 : List UInt8 := [26, 27, 161, 0, 12, 26, 28, 163, 0, 7, 4, 167, 0, 4, 3, 172]
abbrev dktX1_inRange_0 : List UInt8 := dkwX1_inRange_0 ++ []
theorem dksX1_inRange_0 : cX1_inRange.data.toList.drop 0 = dktX1_inRange_0 := by decide +kernel
theorem dX1_inRange_0 : decode cX1_inRange 0 = .ok (.iload_n 0, 1) := dk_26 (dk_at dksX1_inRange_0 0 rfl rfl)
theorem dX1_inRange_1 : decode cX1_inRange 1 = .ok (.iload_n 1, 1) := dk_27 (dk_at dksX1_inRange_0 1 rfl rfl)
theorem dX1_inRange_2 : decode cX1_inRange 2 = .ok (.if_icmp .lt 12, 3) := dk_161 0 12 (dk_at dksX1_inRange_0 2 rfl rfl)
theorem dX1_inRange_5 : decode cX1_inRange 5 = .ok (.iload_n 0, 1) := dk_26 (dk_at dksX1_inRange_0 5 rfl rfl)
theorem dX1_inRange_6 : decode cX1_inRange 6 = .ok (.iload_n 2, 1) := dk_28 (dk_at dksX1_inRange_0 6 rfl rfl)
theorem dX1_inRange_7 : decode cX1_inRange 7 = .ok (.if_icmp .gt 7, 3) := dk_163 0 7 (dk_at dksX1_inRange_0 7 rfl rfl)
theorem dX1_inRange_10 : decode cX1_inRange 10 = .ok (.iconst 1, 1) := dk_4 (dk_at dksX1_inRange_0 10 rfl rfl)
theorem dX1_inRange_11 : decode cX1_inRange 11 = .ok (.goto 4, 3) := dk_167 0 4 (dk_at dksX1_inRange_0 11 rfl rfl)
theorem dX1_inRange_14 : decode cX1_inRange 14 = .ok (.iconst 0, 1) := dk_3 (dk_at dksX1_inRange_0 14 rfl rfl)
theorem dX1_inRange_15 : decode cX1_inRange 15 = .ok (.ireturn, 1) := dk_172 (dk_at dksX1_inRange_0 15 rfl rfl)
abbrev cX1_checkArgument : ByteArray := prog_1_method_2_code
def yX1_checkArgument : MethodName := ⟨RX1, "checkArgument", "(Z)V"⟩
def dkwX1_checkArgument_0 : List UInt8 := [26, 154, 0, 11, 187, 0, 1, 89, 183, 0, 3, 191, 177]
abbrev dktX1_checkArgument_0 : List UInt8 := dkwX1_checkArgument_0 ++ []
theorem dksX1_checkArgument_0 : cX1_checkArgument.data.toList.drop 0 = dktX1_checkArgument_0 := by decide +kernel
theorem dX1_checkArgument_0 : decode cX1_checkArgument 0 = .ok (.iload_n 0, 1) := dk_26 (dk_at dksX1_checkArgument_0 0 rfl rfl)
theorem dX1_checkArgument_1 : decode cX1_checkArgument 1 = .ok (.ifCond .ne 11, 3) := dk_154 0 11 (dk_at dksX1_checkArgument_0 1 rfl rfl)
theorem dX1_checkArgument_4 : decode cX1_checkArgument 4 = .ok (.new 1, 3) := dk_187 0 1 (dk_at dksX1_checkArgument_0 4 rfl rfl)
theorem dX1_checkArgument_7 : decode cX1_checkArgument 7 = .ok (.dup, 1) := dk_89 (dk_at dksX1_checkArgument_0 7 rfl rfl)
theorem dX1_checkArgument_8 : decode cX1_checkArgument 8 = .ok (.invokespecial 3, 3) := dk_183 0 3 (dk_at dksX1_checkArgument_0 8 rfl rfl)
theorem dX1_checkArgument_11 : decode cX1_checkArgument 11 = .ok (.athrow, 1) := dk_191 (dk_at dksX1_checkArgument_0 11 rfl rfl)
theorem dX1_checkArgument_12 : decode cX1_checkArgument 12 = .ok (.return_, 1) := dk_177 (dk_at dksX1_checkArgument_0 12 rfl rfl)
abbrev cX1_holder : ByteArray := prog_1_method_9_code
def yX1_holder : MethodName := ⟨RX1, "holder", "(LRobotCell$Cell;I)I"⟩
def dkwX1_holder_2 : List UInt8 := [61, 132, 5, 1, 167, 255, 218, 28, 172]
abbrev dktX1_holder_2 : List UInt8 := dkwX1_holder_2 ++ []
def dkwX1_holder_1 : List UInt8 := [50, 58, 6, 25, 6, 182, 0, 59, 27, 184, 0, 64, 153, 0, 11, 25, 6, 180, 0, 68, 167, 0, 4, 28]
abbrev dktX1_holder_1 : List UInt8 := dkwX1_holder_1 ++ dktX1_holder_2
def dkwX1_holder_0 : List UInt8 := [2, 61, 42, 180, 0, 55, 78, 45, 190, 54, 4, 3, 54, 5, 21, 5, 21, 4, 162, 0, 37, 45, 21, 5]
abbrev dktX1_holder_0 : List UInt8 := dkwX1_holder_0 ++ dktX1_holder_1
theorem dksX1_holder_0 : cX1_holder.data.toList.drop 0 = dktX1_holder_0 := by decide +kernel
theorem dksX1_holder_1 : cX1_holder.data.toList.drop 24 = dktX1_holder_1 := dk_seg dksX1_holder_0 24 rfl rfl
theorem dksX1_holder_2 : cX1_holder.data.toList.drop 48 = dktX1_holder_2 := dk_seg dksX1_holder_1 24 rfl rfl
theorem dX1_holder_0 : decode cX1_holder 0 = .ok (.iconst (-1), 1) := dk_2 (dk_at dksX1_holder_0 0 rfl rfl)
theorem dX1_holder_1 : decode cX1_holder 1 = .ok (.istore_n 2, 1) := dk_61 (dk_at dksX1_holder_0 1 rfl rfl)
theorem dX1_holder_2 : decode cX1_holder 2 = .ok (.aload_n 0, 1) := dk_42 (dk_at dksX1_holder_0 2 rfl rfl)
theorem dX1_holder_3 : decode cX1_holder 3 = .ok (.getfield 55, 3) := dk_180 0 55 (dk_at dksX1_holder_0 3 rfl rfl)
theorem dX1_holder_6 : decode cX1_holder 6 = .ok (.astore_n 3, 1) := dk_78 (dk_at dksX1_holder_0 6 rfl rfl)
theorem dX1_holder_7 : decode cX1_holder 7 = .ok (.aload_n 3, 1) := dk_45 (dk_at dksX1_holder_0 7 rfl rfl)
theorem dX1_holder_8 : decode cX1_holder 8 = .ok (.arraylength, 1) := dk_190 (dk_at dksX1_holder_0 8 rfl rfl)
theorem dX1_holder_9 : decode cX1_holder 9 = .ok (.istore 4, 2) := dk_54 4 (dk_at dksX1_holder_0 9 rfl rfl)
theorem dX1_holder_11 : decode cX1_holder 11 = .ok (.iconst 0, 1) := dk_3 (dk_at dksX1_holder_0 11 rfl rfl)
theorem dX1_holder_12 : decode cX1_holder 12 = .ok (.istore 5, 2) := dk_54 5 (dk_at dksX1_holder_0 12 rfl rfl)
theorem dX1_holder_14 : decode cX1_holder 14 = .ok (.iload 5, 2) := dk_21 5 (dk_at dksX1_holder_0 14 rfl rfl)
theorem dX1_holder_16 : decode cX1_holder 16 = .ok (.iload 4, 2) := dk_21 4 (dk_at dksX1_holder_0 16 rfl rfl)
theorem dX1_holder_18 : decode cX1_holder 18 = .ok (.if_icmp .ge 37, 3) := dk_162 0 37 (dk_at dksX1_holder_0 18 rfl rfl)
theorem dX1_holder_21 : decode cX1_holder 21 = .ok (.aload_n 3, 1) := dk_45 (dk_at dksX1_holder_0 21 rfl rfl)
theorem dX1_holder_22 : decode cX1_holder 22 = .ok (.iload 5, 2) := dk_21 5 (dk_at dksX1_holder_0 22 rfl rfl)
theorem dX1_holder_24 : decode cX1_holder 24 = .ok (.aaload, 1) := dk_50 (dk_at dksX1_holder_1 0 rfl rfl)
theorem dX1_holder_25 : decode cX1_holder 25 = .ok (.astore 6, 2) := dk_58 6 (dk_at dksX1_holder_1 1 rfl rfl)
theorem dX1_holder_27 : decode cX1_holder 27 = .ok (.aload 6, 2) := dk_25 6 (dk_at dksX1_holder_1 3 rfl rfl)
theorem dX1_holder_29 : decode cX1_holder 29 = .ok (.invokevirtual 59, 3) := dk_182 0 59 (dk_at dksX1_holder_1 5 rfl rfl)
theorem dX1_holder_32 : decode cX1_holder 32 = .ok (.iload_n 1, 1) := dk_27 (dk_at dksX1_holder_1 8 rfl rfl)
theorem dX1_holder_33 : decode cX1_holder 33 = .ok (.invokestatic 64, 3) := dk_184 0 64 (dk_at dksX1_holder_1 9 rfl rfl)
theorem dX1_holder_36 : decode cX1_holder 36 = .ok (.ifCond .eq 11, 3) := dk_153 0 11 (dk_at dksX1_holder_1 12 rfl rfl)
theorem dX1_holder_39 : decode cX1_holder 39 = .ok (.aload 6, 2) := dk_25 6 (dk_at dksX1_holder_1 15 rfl rfl)
theorem dX1_holder_41 : decode cX1_holder 41 = .ok (.getfield 68, 3) := dk_180 0 68 (dk_at dksX1_holder_1 17 rfl rfl)
theorem dX1_holder_44 : decode cX1_holder 44 = .ok (.goto 4, 3) := dk_167 0 4 (dk_at dksX1_holder_1 20 rfl rfl)
theorem dX1_holder_47 : decode cX1_holder 47 = .ok (.iload_n 2, 1) := dk_28 (dk_at dksX1_holder_1 23 rfl rfl)
theorem dX1_holder_48 : decode cX1_holder 48 = .ok (.istore_n 2, 1) := dk_61 (dk_at dksX1_holder_2 0 rfl rfl)
theorem dX1_holder_49 : decode cX1_holder 49 = .ok (.iinc 5 1, 3) := dk_132 5 1 (dk_at dksX1_holder_2 1 rfl rfl)
theorem dX1_holder_52 : decode cX1_holder 52 = .ok (.goto (-38), 3) := dk_167 255 218 (dk_at dksX1_holder_2 4 rfl rfl)
theorem dX1_holder_55 : decode cX1_holder 55 = .ok (.iload_n 2, 1) := dk_28 (dk_at dksX1_holder_2 7 rfl rfl)
theorem dX1_holder_56 : decode cX1_holder 56 = .ok (.ireturn, 1) := dk_172 (dk_at dksX1_holder_2 8 rfl rfl)
abbrev cX1_checkState : ByteArray := prog_1_method_3_code
def yX1_checkState : MethodName := ⟨RX1, "checkState", "(Z)V"⟩
def dkwX1_checkState_0 : List UInt8 := [26, 154, 0, 11, 187, 0, 7, 89, 183, 0, 9, 191, 177]
abbrev dktX1_checkState_0 : List UInt8 := dkwX1_checkState_0 ++ []
theorem dksX1_checkState_0 : cX1_checkState.data.toList.drop 0 = dktX1_checkState_0 := by decide +kernel
theorem dX1_checkState_0 : decode cX1_checkState 0 = .ok (.iload_n 0, 1) := dk_26 (dk_at dksX1_checkState_0 0 rfl rfl)
theorem dX1_checkState_1 : decode cX1_checkState 1 = .ok (.ifCond .ne 11, 3) := dk_154 0 11 (dk_at dksX1_checkState_0 1 rfl rfl)
theorem dX1_checkState_4 : decode cX1_checkState 4 = .ok (.new 7, 3) := dk_187 0 7 (dk_at dksX1_checkState_0 4 rfl rfl)
theorem dX1_checkState_7 : decode cX1_checkState 7 = .ok (.dup, 1) := dk_89 (dk_at dksX1_checkState_0 7 rfl rfl)
theorem dX1_checkState_8 : decode cX1_checkState 8 = .ok (.invokespecial 9, 3) := dk_183 0 9 (dk_at dksX1_checkState_0 8 rfl rfl)
theorem dX1_checkState_11 : decode cX1_checkState 11 = .ok (.athrow, 1) := dk_191 (dk_at dksX1_checkState_0 11 rfl rfl)
theorem dX1_checkState_12 : decode cX1_checkState 12 = .ok (.return_, 1) := dk_177 (dk_at dksX1_checkState_0 12 rfl rfl)
abbrev cX1_change : ByteArray := prog_1_method_8_code
def yX1_change : MethodName := ⟨RX1, "change", "(LRobotCell$Cell;)V"⟩
def dkwX1_change_1 : List UInt8 := [180, 0, 35, 42, 180, 0, 28, 182, 0, 51, 42, 43, 181, 0, 28, 177]
abbrev dktX1_change_1 : List UInt8 := dkwX1_change_1 ++ []
def dkwX1_change_0 : List UInt8 := [42, 180, 0, 35, 182, 0, 43, 16, 6, 160, 0, 14, 42, 180, 0, 35, 182, 0, 47, 192, 0, 25, 77, 42]
abbrev dktX1_change_0 : List UInt8 := dkwX1_change_0 ++ dktX1_change_1
theorem dksX1_change_0 : cX1_change.data.toList.drop 0 = dktX1_change_0 := by decide +kernel
theorem dksX1_change_1 : cX1_change.data.toList.drop 24 = dktX1_change_1 := dk_seg dksX1_change_0 24 rfl rfl
theorem dX1_change_0 : decode cX1_change 0 = .ok (.aload_n 0, 1) := dk_42 (dk_at dksX1_change_0 0 rfl rfl)
theorem dX1_change_1 : decode cX1_change 1 = .ok (.getfield 35, 3) := dk_180 0 35 (dk_at dksX1_change_0 1 rfl rfl)
theorem dX1_change_4 : decode cX1_change 4 = .ok (.invokevirtual 43, 3) := dk_182 0 43 (dk_at dksX1_change_0 4 rfl rfl)
theorem dX1_change_7 : decode cX1_change 7 = .ok (.bipush 6, 2) := dk_16 6 (dk_at dksX1_change_0 7 rfl rfl)
theorem dX1_change_9 : decode cX1_change 9 = .ok (.if_icmp .ne 14, 3) := dk_160 0 14 (dk_at dksX1_change_0 9 rfl rfl)
theorem dX1_change_12 : decode cX1_change 12 = .ok (.aload_n 0, 1) := dk_42 (dk_at dksX1_change_0 12 rfl rfl)
theorem dX1_change_13 : decode cX1_change 13 = .ok (.getfield 35, 3) := dk_180 0 35 (dk_at dksX1_change_0 13 rfl rfl)
theorem dX1_change_16 : decode cX1_change 16 = .ok (.invokevirtual 47, 3) := dk_182 0 47 (dk_at dksX1_change_0 16 rfl rfl)
theorem dX1_change_19 : decode cX1_change 19 = .ok (.checkcast 25, 3) := dk_192 0 25 (dk_at dksX1_change_0 19 rfl rfl)
theorem dX1_change_22 : decode cX1_change 22 = .ok (.astore_n 2, 1) := dk_77 (dk_at dksX1_change_0 22 rfl rfl)
theorem dX1_change_23 : decode cX1_change 23 = .ok (.aload_n 0, 1) := dk_42 (dk_at dksX1_change_0 23 rfl rfl)
theorem dX1_change_24 : decode cX1_change 24 = .ok (.getfield 35, 3) := dk_180 0 35 (dk_at dksX1_change_1 0 rfl rfl)
theorem dX1_change_27 : decode cX1_change 27 = .ok (.aload_n 0, 1) := dk_42 (dk_at dksX1_change_1 3 rfl rfl)
theorem dX1_change_28 : decode cX1_change 28 = .ok (.getfield 28, 3) := dk_180 0 28 (dk_at dksX1_change_1 4 rfl rfl)
theorem dX1_change_31 : decode cX1_change 31 = .ok (.invokevirtual 51, 3) := dk_182 0 51 (dk_at dksX1_change_1 7 rfl rfl)
theorem dX1_change_34 : decode cX1_change 34 = .ok (.aload_n 0, 1) := dk_42 (dk_at dksX1_change_1 10 rfl rfl)
theorem dX1_change_35 : decode cX1_change 35 = .ok (.aload_n 1, 1) := dk_43 (dk_at dksX1_change_1 11 rfl rfl)
theorem dX1_change_36 : decode cX1_change 36 = .ok (.putfield 28, 3) := dk_181 0 28 (dk_at dksX1_change_1 12 rfl rfl)
theorem dX1_change_39 : decode cX1_change 39 = .ok (.return_, 1) := dk_177 (dk_at dksX1_change_1 15 rfl rfl)
abbrev cX1_setReach : ByteArray := prog_1_method_15_code
def yX1_setReach : MethodName := ⟨RX1, "setReach", "(II)I"⟩
def dkwX1_setReach_2 : List UInt8 := [181, 0, 131, 42, 45, 182, 0, 170, 21, 4, 172]
abbrev dktX1_setReach_2 : List UInt8 := dkwX1_setReach_2 ++ []
def dkwX1_setReach_1 : List UInt8 := [183, 0, 163, 78, 45, 180, 0, 55, 27, 50, 180, 0, 131, 54, 4, 45, 180, 0, 55, 27, 50, 28]
abbrev dktX1_setReach_1 : List UInt8 := dkwX1_setReach_1 ++ dktX1_setReach_2
def dkwX1_setReach_0 : List UInt8 := [27, 6, 184, 0, 72, 28, 3, 17, 0, 255, 184, 0, 10, 184, 0, 76, 187, 0, 25, 89, 42, 180, 0, 28]
abbrev dktX1_setReach_0 : List UInt8 := dkwX1_setReach_0 ++ dktX1_setReach_1
theorem dksX1_setReach_0 : cX1_setReach.data.toList.drop 0 = dktX1_setReach_0 := by decide +kernel
theorem dksX1_setReach_1 : cX1_setReach.data.toList.drop 24 = dktX1_setReach_1 := dk_seg dksX1_setReach_0 24 rfl rfl
theorem dksX1_setReach_2 : cX1_setReach.data.toList.drop 46 = dktX1_setReach_2 := dk_seg dksX1_setReach_1 22 rfl rfl
theorem dX1_setReach_0 : decode cX1_setReach 0 = .ok (.iload_n 1, 1) := dk_27 (dk_at dksX1_setReach_0 0 rfl rfl)
theorem dX1_setReach_1 : decode cX1_setReach 1 = .ok (.iconst 3, 1) := dk_6 (dk_at dksX1_setReach_0 1 rfl rfl)
theorem dX1_setReach_2 : decode cX1_setReach 2 = .ok (.invokestatic 72, 3) := dk_184 0 72 (dk_at dksX1_setReach_0 2 rfl rfl)
theorem dX1_setReach_5 : decode cX1_setReach 5 = .ok (.iload_n 2, 1) := dk_28 (dk_at dksX1_setReach_0 5 rfl rfl)
theorem dX1_setReach_6 : decode cX1_setReach 6 = .ok (.iconst 0, 1) := dk_3 (dk_at dksX1_setReach_0 6 rfl rfl)
theorem dX1_setReach_7 : decode cX1_setReach 7 = .ok (.sipush 255, 3) := dk_17 0 255 (dk_at dksX1_setReach_0 7 rfl rfl)
theorem dX1_setReach_10 : decode cX1_setReach 10 = .ok (.invokestatic 10, 3) := dk_184 0 10 (dk_at dksX1_setReach_0 10 rfl rfl)
theorem dX1_setReach_13 : decode cX1_setReach 13 = .ok (.invokestatic 76, 3) := dk_184 0 76 (dk_at dksX1_setReach_0 13 rfl rfl)
theorem dX1_setReach_16 : decode cX1_setReach 16 = .ok (.new 25, 3) := dk_187 0 25 (dk_at dksX1_setReach_0 16 rfl rfl)
theorem dX1_setReach_19 : decode cX1_setReach 19 = .ok (.dup, 1) := dk_89 (dk_at dksX1_setReach_0 19 rfl rfl)
theorem dX1_setReach_20 : decode cX1_setReach 20 = .ok (.aload_n 0, 1) := dk_42 (dk_at dksX1_setReach_0 20 rfl rfl)
theorem dX1_setReach_21 : decode cX1_setReach 21 = .ok (.getfield 28, 3) := dk_180 0 28 (dk_at dksX1_setReach_0 21 rfl rfl)
theorem dX1_setReach_24 : decode cX1_setReach 24 = .ok (.invokespecial 163, 3) := dk_183 0 163 (dk_at dksX1_setReach_1 0 rfl rfl)
theorem dX1_setReach_27 : decode cX1_setReach 27 = .ok (.astore_n 3, 1) := dk_78 (dk_at dksX1_setReach_1 3 rfl rfl)
theorem dX1_setReach_28 : decode cX1_setReach 28 = .ok (.aload_n 3, 1) := dk_45 (dk_at dksX1_setReach_1 4 rfl rfl)
theorem dX1_setReach_29 : decode cX1_setReach 29 = .ok (.getfield 55, 3) := dk_180 0 55 (dk_at dksX1_setReach_1 5 rfl rfl)
theorem dX1_setReach_32 : decode cX1_setReach 32 = .ok (.iload_n 1, 1) := dk_27 (dk_at dksX1_setReach_1 8 rfl rfl)
theorem dX1_setReach_33 : decode cX1_setReach 33 = .ok (.aaload, 1) := dk_50 (dk_at dksX1_setReach_1 9 rfl rfl)
theorem dX1_setReach_34 : decode cX1_setReach 34 = .ok (.getfield 131, 3) := dk_180 0 131 (dk_at dksX1_setReach_1 10 rfl rfl)
theorem dX1_setReach_37 : decode cX1_setReach 37 = .ok (.istore 4, 2) := dk_54 4 (dk_at dksX1_setReach_1 13 rfl rfl)
theorem dX1_setReach_39 : decode cX1_setReach 39 = .ok (.aload_n 3, 1) := dk_45 (dk_at dksX1_setReach_1 15 rfl rfl)
theorem dX1_setReach_40 : decode cX1_setReach 40 = .ok (.getfield 55, 3) := dk_180 0 55 (dk_at dksX1_setReach_1 16 rfl rfl)
theorem dX1_setReach_43 : decode cX1_setReach 43 = .ok (.iload_n 1, 1) := dk_27 (dk_at dksX1_setReach_1 19 rfl rfl)
theorem dX1_setReach_44 : decode cX1_setReach 44 = .ok (.aaload, 1) := dk_50 (dk_at dksX1_setReach_1 20 rfl rfl)
theorem dX1_setReach_45 : decode cX1_setReach 45 = .ok (.iload_n 2, 1) := dk_28 (dk_at dksX1_setReach_1 21 rfl rfl)
theorem dX1_setReach_46 : decode cX1_setReach 46 = .ok (.putfield 131, 3) := dk_181 0 131 (dk_at dksX1_setReach_2 0 rfl rfl)
theorem dX1_setReach_49 : decode cX1_setReach 49 = .ok (.aload_n 0, 1) := dk_42 (dk_at dksX1_setReach_2 3 rfl rfl)
theorem dX1_setReach_50 : decode cX1_setReach 50 = .ok (.aload_n 3, 1) := dk_45 (dk_at dksX1_setReach_2 4 rfl rfl)
theorem dX1_setReach_51 : decode cX1_setReach 51 = .ok (.invokevirtual 170, 3) := dk_182 0 170 (dk_at dksX1_setReach_2 5 rfl rfl)
theorem dX1_setReach_54 : decode cX1_setReach 54 = .ok (.iload 4, 2) := dk_21 4 (dk_at dksX1_setReach_2 8 rfl rfl)
theorem dX1_setReach_56 : decode cX1_setReach 56 = .ok (.ireturn, 1) := dk_172 (dk_at dksX1_setReach_2 10 rfl rfl)
abbrev cX1_setCapacity : ByteArray := prog_1_method_16_code
def yX1_setCapacity : MethodName := ⟨RX1, "setCapacity", "(II)I"⟩
def dkwX1_setCapacity_3 : List UInt8 := [25, 4, 28, 181, 0, 185, 42, 45, 182, 0, 170, 21, 5, 172]
abbrev dktX1_setCapacity_3 : List UInt8 := dkwX1_setCapacity_3 ++ []
def dkwX1_setCapacity_2 : List UInt8 := [180, 0, 182, 96, 28, 163, 0, 7, 4, 167, 0, 4, 3, 184, 0, 97, 25, 4, 180, 0, 185, 54, 5]
abbrev dktX1_setCapacity_2 : List UInt8 := dkwX1_setCapacity_2 ++ dktX1_setCapacity_3
def dkwX1_setCapacity_1 : List UInt8 := [183, 0, 163, 78, 45, 180, 0, 173, 27, 50, 58, 4, 25, 4, 180, 0, 177, 182, 0, 43, 25, 4]
abbrev dktX1_setCapacity_1 : List UInt8 := dkwX1_setCapacity_1 ++ dktX1_setCapacity_2
def dkwX1_setCapacity_0 : List UInt8 := [27, 6, 184, 0, 72, 28, 4, 7, 184, 0, 10, 184, 0, 76, 187, 0, 25, 89, 42, 180, 0, 28]
abbrev dktX1_setCapacity_0 : List UInt8 := dkwX1_setCapacity_0 ++ dktX1_setCapacity_1
theorem dksX1_setCapacity_0 : cX1_setCapacity.data.toList.drop 0 = dktX1_setCapacity_0 := by decide +kernel
theorem dksX1_setCapacity_1 : cX1_setCapacity.data.toList.drop 22 = dktX1_setCapacity_1 := dk_seg dksX1_setCapacity_0 22 rfl rfl
theorem dksX1_setCapacity_2 : cX1_setCapacity.data.toList.drop 44 = dktX1_setCapacity_2 := dk_seg dksX1_setCapacity_1 22 rfl rfl
theorem dksX1_setCapacity_3 : cX1_setCapacity.data.toList.drop 67 = dktX1_setCapacity_3 := dk_seg dksX1_setCapacity_2 23 rfl rfl
theorem dX1_setCapacity_0 : decode cX1_setCapacity 0 = .ok (.iload_n 1, 1) := dk_27 (dk_at dksX1_setCapacity_0 0 rfl rfl)
theorem dX1_setCapacity_1 : decode cX1_setCapacity 1 = .ok (.iconst 3, 1) := dk_6 (dk_at dksX1_setCapacity_0 1 rfl rfl)
theorem dX1_setCapacity_2 : decode cX1_setCapacity 2 = .ok (.invokestatic 72, 3) := dk_184 0 72 (dk_at dksX1_setCapacity_0 2 rfl rfl)
theorem dX1_setCapacity_5 : decode cX1_setCapacity 5 = .ok (.iload_n 2, 1) := dk_28 (dk_at dksX1_setCapacity_0 5 rfl rfl)
theorem dX1_setCapacity_6 : decode cX1_setCapacity 6 = .ok (.iconst 1, 1) := dk_4 (dk_at dksX1_setCapacity_0 6 rfl rfl)
theorem dX1_setCapacity_7 : decode cX1_setCapacity 7 = .ok (.iconst 4, 1) := dk_7 (dk_at dksX1_setCapacity_0 7 rfl rfl)
theorem dX1_setCapacity_8 : decode cX1_setCapacity 8 = .ok (.invokestatic 10, 3) := dk_184 0 10 (dk_at dksX1_setCapacity_0 8 rfl rfl)
theorem dX1_setCapacity_11 : decode cX1_setCapacity 11 = .ok (.invokestatic 76, 3) := dk_184 0 76 (dk_at dksX1_setCapacity_0 11 rfl rfl)
theorem dX1_setCapacity_14 : decode cX1_setCapacity 14 = .ok (.new 25, 3) := dk_187 0 25 (dk_at dksX1_setCapacity_0 14 rfl rfl)
theorem dX1_setCapacity_17 : decode cX1_setCapacity 17 = .ok (.dup, 1) := dk_89 (dk_at dksX1_setCapacity_0 17 rfl rfl)
theorem dX1_setCapacity_18 : decode cX1_setCapacity 18 = .ok (.aload_n 0, 1) := dk_42 (dk_at dksX1_setCapacity_0 18 rfl rfl)
theorem dX1_setCapacity_19 : decode cX1_setCapacity 19 = .ok (.getfield 28, 3) := dk_180 0 28 (dk_at dksX1_setCapacity_0 19 rfl rfl)
theorem dX1_setCapacity_22 : decode cX1_setCapacity 22 = .ok (.invokespecial 163, 3) := dk_183 0 163 (dk_at dksX1_setCapacity_1 0 rfl rfl)
theorem dX1_setCapacity_25 : decode cX1_setCapacity 25 = .ok (.astore_n 3, 1) := dk_78 (dk_at dksX1_setCapacity_1 3 rfl rfl)
theorem dX1_setCapacity_26 : decode cX1_setCapacity 26 = .ok (.aload_n 3, 1) := dk_45 (dk_at dksX1_setCapacity_1 4 rfl rfl)
theorem dX1_setCapacity_27 : decode cX1_setCapacity 27 = .ok (.getfield 173, 3) := dk_180 0 173 (dk_at dksX1_setCapacity_1 5 rfl rfl)
theorem dX1_setCapacity_30 : decode cX1_setCapacity 30 = .ok (.iload_n 1, 1) := dk_27 (dk_at dksX1_setCapacity_1 8 rfl rfl)
theorem dX1_setCapacity_31 : decode cX1_setCapacity 31 = .ok (.aaload, 1) := dk_50 (dk_at dksX1_setCapacity_1 9 rfl rfl)
theorem dX1_setCapacity_32 : decode cX1_setCapacity 32 = .ok (.astore 4, 2) := dk_58 4 (dk_at dksX1_setCapacity_1 10 rfl rfl)
theorem dX1_setCapacity_34 : decode cX1_setCapacity 34 = .ok (.aload 4, 2) := dk_25 4 (dk_at dksX1_setCapacity_1 12 rfl rfl)
theorem dX1_setCapacity_36 : decode cX1_setCapacity 36 = .ok (.getfield 177, 3) := dk_180 0 177 (dk_at dksX1_setCapacity_1 14 rfl rfl)
theorem dX1_setCapacity_39 : decode cX1_setCapacity 39 = .ok (.invokevirtual 43, 3) := dk_182 0 43 (dk_at dksX1_setCapacity_1 17 rfl rfl)
theorem dX1_setCapacity_42 : decode cX1_setCapacity 42 = .ok (.aload 4, 2) := dk_25 4 (dk_at dksX1_setCapacity_1 20 rfl rfl)
theorem dX1_setCapacity_44 : decode cX1_setCapacity 44 = .ok (.getfield 182, 3) := dk_180 0 182 (dk_at dksX1_setCapacity_2 0 rfl rfl)
theorem dX1_setCapacity_47 : decode cX1_setCapacity 47 = .ok (.iadd, 1) := dk_96 (dk_at dksX1_setCapacity_2 3 rfl rfl)
theorem dX1_setCapacity_48 : decode cX1_setCapacity 48 = .ok (.iload_n 2, 1) := dk_28 (dk_at dksX1_setCapacity_2 4 rfl rfl)
theorem dX1_setCapacity_49 : decode cX1_setCapacity 49 = .ok (.if_icmp .gt 7, 3) := dk_163 0 7 (dk_at dksX1_setCapacity_2 5 rfl rfl)
theorem dX1_setCapacity_52 : decode cX1_setCapacity 52 = .ok (.iconst 1, 1) := dk_4 (dk_at dksX1_setCapacity_2 8 rfl rfl)
theorem dX1_setCapacity_53 : decode cX1_setCapacity 53 = .ok (.goto 4, 3) := dk_167 0 4 (dk_at dksX1_setCapacity_2 9 rfl rfl)
theorem dX1_setCapacity_56 : decode cX1_setCapacity 56 = .ok (.iconst 0, 1) := dk_3 (dk_at dksX1_setCapacity_2 12 rfl rfl)
theorem dX1_setCapacity_57 : decode cX1_setCapacity 57 = .ok (.invokestatic 97, 3) := dk_184 0 97 (dk_at dksX1_setCapacity_2 13 rfl rfl)
theorem dX1_setCapacity_60 : decode cX1_setCapacity 60 = .ok (.aload 4, 2) := dk_25 4 (dk_at dksX1_setCapacity_2 16 rfl rfl)
theorem dX1_setCapacity_62 : decode cX1_setCapacity 62 = .ok (.getfield 185, 3) := dk_180 0 185 (dk_at dksX1_setCapacity_2 18 rfl rfl)
theorem dX1_setCapacity_65 : decode cX1_setCapacity 65 = .ok (.istore 5, 2) := dk_54 5 (dk_at dksX1_setCapacity_2 21 rfl rfl)
theorem dX1_setCapacity_67 : decode cX1_setCapacity 67 = .ok (.aload 4, 2) := dk_25 4 (dk_at dksX1_setCapacity_3 0 rfl rfl)
theorem dX1_setCapacity_69 : decode cX1_setCapacity 69 = .ok (.iload_n 2, 1) := dk_28 (dk_at dksX1_setCapacity_3 2 rfl rfl)
theorem dX1_setCapacity_70 : decode cX1_setCapacity 70 = .ok (.putfield 185, 3) := dk_181 0 185 (dk_at dksX1_setCapacity_3 3 rfl rfl)
theorem dX1_setCapacity_73 : decode cX1_setCapacity 73 = .ok (.aload_n 0, 1) := dk_42 (dk_at dksX1_setCapacity_3 6 rfl rfl)
theorem dX1_setCapacity_74 : decode cX1_setCapacity 74 = .ok (.aload_n 3, 1) := dk_45 (dk_at dksX1_setCapacity_3 7 rfl rfl)
theorem dX1_setCapacity_75 : decode cX1_setCapacity 75 = .ok (.invokevirtual 170, 3) := dk_182 0 170 (dk_at dksX1_setCapacity_3 8 rfl rfl)
theorem dX1_setCapacity_78 : decode cX1_setCapacity 78 = .ok (.iload 5, 2) := dk_21 5 (dk_at dksX1_setCapacity_3 11 rfl rfl)
theorem dX1_setCapacity_80 : decode cX1_setCapacity 80 = .ok (.ireturn, 1) := dk_172 (dk_at dksX1_setCapacity_3 13 rfl rfl)
abbrev cX1_supply : ByteArray := prog_1_method_17_code
def yX1_supply : MethodName := ⟨RX1, "supply", "(I)I"⟩
def dkwX1_supply_2 : List UInt8 := [44, 182, 0, 170, 29, 172]
abbrev dktX1_supply_2 : List UInt8 := dkwX1_supply_2 ++ []
def dkwX1_supply_1 : List UInt8 := [42, 180, 0, 28, 183, 0, 163, 77, 44, 182, 0, 192, 62, 44, 180, 0, 173, 27, 50, 29, 182, 0, 195, 42]
abbrev dktX1_supply_1 : List UInt8 := dkwX1_supply_1 ++ dktX1_supply_2
def dkwX1_supply_0 : List UInt8 := [27, 6, 184, 0, 72, 42, 180, 0, 28, 180, 0, 173, 27, 50, 182, 0, 188, 184, 0, 97, 187, 0, 25, 89]
abbrev dktX1_supply_0 : List UInt8 := dkwX1_supply_0 ++ dktX1_supply_1
theorem dksX1_supply_0 : cX1_supply.data.toList.drop 0 = dktX1_supply_0 := by decide +kernel
theorem dksX1_supply_1 : cX1_supply.data.toList.drop 24 = dktX1_supply_1 := dk_seg dksX1_supply_0 24 rfl rfl
theorem dksX1_supply_2 : cX1_supply.data.toList.drop 48 = dktX1_supply_2 := dk_seg dksX1_supply_1 24 rfl rfl
theorem dX1_supply_0 : decode cX1_supply 0 = .ok (.iload_n 1, 1) := dk_27 (dk_at dksX1_supply_0 0 rfl rfl)
theorem dX1_supply_1 : decode cX1_supply 1 = .ok (.iconst 3, 1) := dk_6 (dk_at dksX1_supply_0 1 rfl rfl)
theorem dX1_supply_2 : decode cX1_supply 2 = .ok (.invokestatic 72, 3) := dk_184 0 72 (dk_at dksX1_supply_0 2 rfl rfl)
theorem dX1_supply_5 : decode cX1_supply 5 = .ok (.aload_n 0, 1) := dk_42 (dk_at dksX1_supply_0 5 rfl rfl)
theorem dX1_supply_6 : decode cX1_supply 6 = .ok (.getfield 28, 3) := dk_180 0 28 (dk_at dksX1_supply_0 6 rfl rfl)
theorem dX1_supply_9 : decode cX1_supply 9 = .ok (.getfield 173, 3) := dk_180 0 173 (dk_at dksX1_supply_0 9 rfl rfl)
theorem dX1_supply_12 : decode cX1_supply 12 = .ok (.iload_n 1, 1) := dk_27 (dk_at dksX1_supply_0 12 rfl rfl)
theorem dX1_supply_13 : decode cX1_supply 13 = .ok (.aaload, 1) := dk_50 (dk_at dksX1_supply_0 13 rfl rfl)
theorem dX1_supply_14 : decode cX1_supply 14 = .ok (.invokevirtual 188, 3) := dk_182 0 188 (dk_at dksX1_supply_0 14 rfl rfl)
theorem dX1_supply_17 : decode cX1_supply 17 = .ok (.invokestatic 97, 3) := dk_184 0 97 (dk_at dksX1_supply_0 17 rfl rfl)
theorem dX1_supply_20 : decode cX1_supply 20 = .ok (.new 25, 3) := dk_187 0 25 (dk_at dksX1_supply_0 20 rfl rfl)
theorem dX1_supply_23 : decode cX1_supply 23 = .ok (.dup, 1) := dk_89 (dk_at dksX1_supply_0 23 rfl rfl)
theorem dX1_supply_24 : decode cX1_supply 24 = .ok (.aload_n 0, 1) := dk_42 (dk_at dksX1_supply_1 0 rfl rfl)
theorem dX1_supply_25 : decode cX1_supply 25 = .ok (.getfield 28, 3) := dk_180 0 28 (dk_at dksX1_supply_1 1 rfl rfl)
theorem dX1_supply_28 : decode cX1_supply 28 = .ok (.invokespecial 163, 3) := dk_183 0 163 (dk_at dksX1_supply_1 4 rfl rfl)
theorem dX1_supply_31 : decode cX1_supply 31 = .ok (.astore_n 2, 1) := dk_77 (dk_at dksX1_supply_1 7 rfl rfl)
theorem dX1_supply_32 : decode cX1_supply 32 = .ok (.aload_n 2, 1) := dk_44 (dk_at dksX1_supply_1 8 rfl rfl)
theorem dX1_supply_33 : decode cX1_supply 33 = .ok (.invokevirtual 192, 3) := dk_182 0 192 (dk_at dksX1_supply_1 9 rfl rfl)
theorem dX1_supply_36 : decode cX1_supply 36 = .ok (.istore_n 3, 1) := dk_62 (dk_at dksX1_supply_1 12 rfl rfl)
theorem dX1_supply_37 : decode cX1_supply 37 = .ok (.aload_n 2, 1) := dk_44 (dk_at dksX1_supply_1 13 rfl rfl)
theorem dX1_supply_38 : decode cX1_supply 38 = .ok (.getfield 173, 3) := dk_180 0 173 (dk_at dksX1_supply_1 14 rfl rfl)
theorem dX1_supply_41 : decode cX1_supply 41 = .ok (.iload_n 1, 1) := dk_27 (dk_at dksX1_supply_1 17 rfl rfl)
theorem dX1_supply_42 : decode cX1_supply 42 = .ok (.aaload, 1) := dk_50 (dk_at dksX1_supply_1 18 rfl rfl)
theorem dX1_supply_43 : decode cX1_supply 43 = .ok (.iload_n 3, 1) := dk_29 (dk_at dksX1_supply_1 19 rfl rfl)
theorem dX1_supply_44 : decode cX1_supply 44 = .ok (.invokevirtual 195, 3) := dk_182 0 195 (dk_at dksX1_supply_1 20 rfl rfl)
theorem dX1_supply_47 : decode cX1_supply 47 = .ok (.aload_n 0, 1) := dk_42 (dk_at dksX1_supply_1 23 rfl rfl)
theorem dX1_supply_48 : decode cX1_supply 48 = .ok (.aload_n 2, 1) := dk_44 (dk_at dksX1_supply_2 0 rfl rfl)
theorem dX1_supply_49 : decode cX1_supply 49 = .ok (.invokevirtual 170, 3) := dk_182 0 170 (dk_at dksX1_supply_2 1 rfl rfl)
theorem dX1_supply_52 : decode cX1_supply 52 = .ok (.iload_n 3, 1) := dk_29 (dk_at dksX1_supply_2 4 rfl rfl)
theorem dX1_supply_53 : decode cX1_supply 53 = .ok (.ireturn, 1) := dk_172 (dk_at dksX1_supply_2 5 rfl rfl)
abbrev cX1_zone : ByteArray := prog_1_method_18_code
def yX1_zone : MethodName := ⟨RX1, "zone", "(II)I"⟩
def dkwX1_zone_7 : List UInt8 := [180, 0, 202, 27, 46, 172, 29, 172]
abbrev dktX1_zone_7 : List UInt8 := dkwX1_zone_7 ++ []
def dkwX1_zone_6 : List UInt8 := [42, 180, 0, 28, 27, 184, 0, 93, 172, 42, 180, 0, 28, 27, 182, 0, 198, 172, 42, 180, 0, 28]
abbrev dktX1_zone_6 : List UInt8 := dkwX1_zone_6 ++ dktX1_zone_7
def dkwX1_zone_5 : List UInt8 := [170, 0, 0, 0, 61, 0, 0, 0, 0, 0, 0, 0, 4, 0, 0, 0, 33, 0, 0, 0, 42, 0, 0, 0, 61, 0, 0, 0, 61, 0, 0, 0, 51]
abbrev dktX1_zone_5 : List UInt8 := dkwX1_zone_5 ++ dktX1_zone_6
def dkwX1_zone_4 : List UInt8 := [4, 25, 7, 180, 0, 68, 120, 167, 0, 4, 3, 128, 62, 132, 6, 1, 167, 255, 179, 28]
abbrev dktX1_zone_4 : List UInt8 := dkwX1_zone_4 ++ dktX1_zone_5
def dkwX1_zone_3 : List UInt8 := [180, 0, 28, 27, 182, 0, 198, 126, 153, 0, 7, 4, 167, 0, 4, 3, 54, 8, 29, 21, 8, 153, 0, 13]
abbrev dktX1_zone_3 : List UInt8 := dkwX1_zone_3 ++ dktX1_zone_4
def dkwX1_zone_2 : List UInt8 := [28, 5, 160, 0, 15, 25, 7, 180, 0, 131, 27, 184, 0, 64, 167, 0, 25, 25, 7, 182, 0, 59, 42]
abbrev dktX1_zone_2 : List UInt8 := dkwX1_zone_2 ++ dktX1_zone_3
def dkwX1_zone_1 : List UInt8 := [58, 4, 25, 4, 190, 54, 5, 3, 54, 6, 21, 6, 21, 5, 162, 0, 76, 25, 4, 21, 6, 50, 58, 7]
abbrev dktX1_zone_1 : List UInt8 := dkwX1_zone_1 ++ dktX1_zone_2
def dkwX1_zone_0 : List UInt8 := [27, 16, 8, 184, 0, 72, 28, 3, 7, 184, 0, 10, 184, 0, 76, 3, 62, 42, 180, 0, 28, 180, 0, 55]
abbrev dktX1_zone_0 : List UInt8 := dkwX1_zone_0 ++ dktX1_zone_1
theorem dksX1_zone_0 : cX1_zone.data.toList.drop 0 = dktX1_zone_0 := by decide +kernel
theorem dksX1_zone_1 : cX1_zone.data.toList.drop 24 = dktX1_zone_1 := dk_seg dksX1_zone_0 24 rfl rfl
theorem dksX1_zone_2 : cX1_zone.data.toList.drop 48 = dktX1_zone_2 := dk_seg dksX1_zone_1 24 rfl rfl
theorem dksX1_zone_3 : cX1_zone.data.toList.drop 71 = dktX1_zone_3 := dk_seg dksX1_zone_2 23 rfl rfl
theorem dksX1_zone_4 : cX1_zone.data.toList.drop 95 = dktX1_zone_4 := dk_seg dksX1_zone_3 24 rfl rfl
theorem dksX1_zone_5 : cX1_zone.data.toList.drop 115 = dktX1_zone_5 := dk_seg dksX1_zone_4 20 rfl rfl
theorem dksX1_zone_6 : cX1_zone.data.toList.drop 148 = dktX1_zone_6 := dk_seg dksX1_zone_5 33 rfl rfl
theorem dksX1_zone_7 : cX1_zone.data.toList.drop 170 = dktX1_zone_7 := dk_seg dksX1_zone_6 22 rfl rfl
theorem dX1_zone_0 : decode cX1_zone 0 = .ok (.iload_n 1, 1) := dk_27 (dk_at dksX1_zone_0 0 rfl rfl)
theorem dX1_zone_1 : decode cX1_zone 1 = .ok (.bipush 8, 2) := dk_16 8 (dk_at dksX1_zone_0 1 rfl rfl)
theorem dX1_zone_3 : decode cX1_zone 3 = .ok (.invokestatic 72, 3) := dk_184 0 72 (dk_at dksX1_zone_0 3 rfl rfl)
theorem dX1_zone_6 : decode cX1_zone 6 = .ok (.iload_n 2, 1) := dk_28 (dk_at dksX1_zone_0 6 rfl rfl)
theorem dX1_zone_7 : decode cX1_zone 7 = .ok (.iconst 0, 1) := dk_3 (dk_at dksX1_zone_0 7 rfl rfl)
theorem dX1_zone_8 : decode cX1_zone 8 = .ok (.iconst 4, 1) := dk_7 (dk_at dksX1_zone_0 8 rfl rfl)
theorem dX1_zone_9 : decode cX1_zone 9 = .ok (.invokestatic 10, 3) := dk_184 0 10 (dk_at dksX1_zone_0 9 rfl rfl)
theorem dX1_zone_12 : decode cX1_zone 12 = .ok (.invokestatic 76, 3) := dk_184 0 76 (dk_at dksX1_zone_0 12 rfl rfl)
theorem dX1_zone_15 : decode cX1_zone 15 = .ok (.iconst 0, 1) := dk_3 (dk_at dksX1_zone_0 15 rfl rfl)
theorem dX1_zone_16 : decode cX1_zone 16 = .ok (.istore_n 3, 1) := dk_62 (dk_at dksX1_zone_0 16 rfl rfl)
theorem dX1_zone_17 : decode cX1_zone 17 = .ok (.aload_n 0, 1) := dk_42 (dk_at dksX1_zone_0 17 rfl rfl)
theorem dX1_zone_18 : decode cX1_zone 18 = .ok (.getfield 28, 3) := dk_180 0 28 (dk_at dksX1_zone_0 18 rfl rfl)
theorem dX1_zone_21 : decode cX1_zone 21 = .ok (.getfield 55, 3) := dk_180 0 55 (dk_at dksX1_zone_0 21 rfl rfl)
theorem dX1_zone_24 : decode cX1_zone 24 = .ok (.astore 4, 2) := dk_58 4 (dk_at dksX1_zone_1 0 rfl rfl)
theorem dX1_zone_26 : decode cX1_zone 26 = .ok (.aload 4, 2) := dk_25 4 (dk_at dksX1_zone_1 2 rfl rfl)
theorem dX1_zone_28 : decode cX1_zone 28 = .ok (.arraylength, 1) := dk_190 (dk_at dksX1_zone_1 4 rfl rfl)
theorem dX1_zone_29 : decode cX1_zone 29 = .ok (.istore 5, 2) := dk_54 5 (dk_at dksX1_zone_1 5 rfl rfl)
theorem dX1_zone_31 : decode cX1_zone 31 = .ok (.iconst 0, 1) := dk_3 (dk_at dksX1_zone_1 7 rfl rfl)
theorem dX1_zone_32 : decode cX1_zone 32 = .ok (.istore 6, 2) := dk_54 6 (dk_at dksX1_zone_1 8 rfl rfl)
theorem dX1_zone_34 : decode cX1_zone 34 = .ok (.iload 6, 2) := dk_21 6 (dk_at dksX1_zone_1 10 rfl rfl)
theorem dX1_zone_36 : decode cX1_zone 36 = .ok (.iload 5, 2) := dk_21 5 (dk_at dksX1_zone_1 12 rfl rfl)
theorem dX1_zone_38 : decode cX1_zone 38 = .ok (.if_icmp .ge 76, 3) := dk_162 0 76 (dk_at dksX1_zone_1 14 rfl rfl)
theorem dX1_zone_41 : decode cX1_zone 41 = .ok (.aload 4, 2) := dk_25 4 (dk_at dksX1_zone_1 17 rfl rfl)
theorem dX1_zone_43 : decode cX1_zone 43 = .ok (.iload 6, 2) := dk_21 6 (dk_at dksX1_zone_1 19 rfl rfl)
theorem dX1_zone_45 : decode cX1_zone 45 = .ok (.aaload, 1) := dk_50 (dk_at dksX1_zone_1 21 rfl rfl)
theorem dX1_zone_46 : decode cX1_zone 46 = .ok (.astore 7, 2) := dk_58 7 (dk_at dksX1_zone_1 22 rfl rfl)
theorem dX1_zone_48 : decode cX1_zone 48 = .ok (.iload_n 2, 1) := dk_28 (dk_at dksX1_zone_2 0 rfl rfl)
theorem dX1_zone_49 : decode cX1_zone 49 = .ok (.iconst 2, 1) := dk_5 (dk_at dksX1_zone_2 1 rfl rfl)
theorem dX1_zone_50 : decode cX1_zone 50 = .ok (.if_icmp .ne 15, 3) := dk_160 0 15 (dk_at dksX1_zone_2 2 rfl rfl)
theorem dX1_zone_53 : decode cX1_zone 53 = .ok (.aload 7, 2) := dk_25 7 (dk_at dksX1_zone_2 5 rfl rfl)
theorem dX1_zone_55 : decode cX1_zone 55 = .ok (.getfield 131, 3) := dk_180 0 131 (dk_at dksX1_zone_2 7 rfl rfl)
theorem dX1_zone_58 : decode cX1_zone 58 = .ok (.iload_n 1, 1) := dk_27 (dk_at dksX1_zone_2 10 rfl rfl)
theorem dX1_zone_59 : decode cX1_zone 59 = .ok (.invokestatic 64, 3) := dk_184 0 64 (dk_at dksX1_zone_2 11 rfl rfl)
theorem dX1_zone_62 : decode cX1_zone 62 = .ok (.goto 25, 3) := dk_167 0 25 (dk_at dksX1_zone_2 14 rfl rfl)
theorem dX1_zone_65 : decode cX1_zone 65 = .ok (.aload 7, 2) := dk_25 7 (dk_at dksX1_zone_2 17 rfl rfl)
theorem dX1_zone_67 : decode cX1_zone 67 = .ok (.invokevirtual 59, 3) := dk_182 0 59 (dk_at dksX1_zone_2 19 rfl rfl)
theorem dX1_zone_70 : decode cX1_zone 70 = .ok (.aload_n 0, 1) := dk_42 (dk_at dksX1_zone_2 22 rfl rfl)
theorem dX1_zone_71 : decode cX1_zone 71 = .ok (.getfield 28, 3) := dk_180 0 28 (dk_at dksX1_zone_3 0 rfl rfl)
theorem dX1_zone_74 : decode cX1_zone 74 = .ok (.iload_n 1, 1) := dk_27 (dk_at dksX1_zone_3 3 rfl rfl)
theorem dX1_zone_75 : decode cX1_zone 75 = .ok (.invokevirtual 198, 3) := dk_182 0 198 (dk_at dksX1_zone_3 4 rfl rfl)
theorem dX1_zone_78 : decode cX1_zone 78 = .ok (.iand, 1) := dk_126 (dk_at dksX1_zone_3 7 rfl rfl)
theorem dX1_zone_79 : decode cX1_zone 79 = .ok (.ifCond .eq 7, 3) := dk_153 0 7 (dk_at dksX1_zone_3 8 rfl rfl)
theorem dX1_zone_82 : decode cX1_zone 82 = .ok (.iconst 1, 1) := dk_4 (dk_at dksX1_zone_3 11 rfl rfl)
theorem dX1_zone_83 : decode cX1_zone 83 = .ok (.goto 4, 3) := dk_167 0 4 (dk_at dksX1_zone_3 12 rfl rfl)
theorem dX1_zone_86 : decode cX1_zone 86 = .ok (.iconst 0, 1) := dk_3 (dk_at dksX1_zone_3 15 rfl rfl)
theorem dX1_zone_87 : decode cX1_zone 87 = .ok (.istore 8, 2) := dk_54 8 (dk_at dksX1_zone_3 16 rfl rfl)
theorem dX1_zone_89 : decode cX1_zone 89 = .ok (.iload_n 3, 1) := dk_29 (dk_at dksX1_zone_3 18 rfl rfl)
theorem dX1_zone_90 : decode cX1_zone 90 = .ok (.iload 8, 2) := dk_21 8 (dk_at dksX1_zone_3 19 rfl rfl)
theorem dX1_zone_92 : decode cX1_zone 92 = .ok (.ifCond .eq 13, 3) := dk_153 0 13 (dk_at dksX1_zone_3 21 rfl rfl)
theorem dX1_zone_95 : decode cX1_zone 95 = .ok (.iconst 1, 1) := dk_4 (dk_at dksX1_zone_4 0 rfl rfl)
theorem dX1_zone_96 : decode cX1_zone 96 = .ok (.aload 7, 2) := dk_25 7 (dk_at dksX1_zone_4 1 rfl rfl)
theorem dX1_zone_98 : decode cX1_zone 98 = .ok (.getfield 68, 3) := dk_180 0 68 (dk_at dksX1_zone_4 3 rfl rfl)
theorem dX1_zone_101 : decode cX1_zone 101 = .ok (.ishl, 1) := dk_120 (dk_at dksX1_zone_4 6 rfl rfl)
theorem dX1_zone_102 : decode cX1_zone 102 = .ok (.goto 4, 3) := dk_167 0 4 (dk_at dksX1_zone_4 7 rfl rfl)
theorem dX1_zone_105 : decode cX1_zone 105 = .ok (.iconst 0, 1) := dk_3 (dk_at dksX1_zone_4 10 rfl rfl)
theorem dX1_zone_106 : decode cX1_zone 106 = .ok (.ior, 1) := dk_128 (dk_at dksX1_zone_4 11 rfl rfl)
theorem dX1_zone_107 : decode cX1_zone 107 = .ok (.istore_n 3, 1) := dk_62 (dk_at dksX1_zone_4 12 rfl rfl)
theorem dX1_zone_108 : decode cX1_zone 108 = .ok (.iinc 6 1, 3) := dk_132 6 1 (dk_at dksX1_zone_4 13 rfl rfl)
theorem dX1_zone_111 : decode cX1_zone 111 = .ok (.goto (-77), 3) := dk_167 255 179 (dk_at dksX1_zone_4 16 rfl rfl)
theorem dX1_zone_114 : decode cX1_zone 114 = .ok (.iload_n 2, 1) := dk_28 (dk_at dksX1_zone_4 19 rfl rfl)
theorem dX1_zone_115 : decode cX1_zone 115 = .ok (.tableswitch 61 0 4 #[33, 42, 61, 61, 51], 33) := by decide +kernel
theorem dX1_zone_148 : decode cX1_zone 148 = .ok (.aload_n 0, 1) := dk_42 (dk_at dksX1_zone_6 0 rfl rfl)
theorem dX1_zone_149 : decode cX1_zone 149 = .ok (.getfield 28, 3) := dk_180 0 28 (dk_at dksX1_zone_6 1 rfl rfl)
theorem dX1_zone_152 : decode cX1_zone 152 = .ok (.iload_n 1, 1) := dk_27 (dk_at dksX1_zone_6 4 rfl rfl)
theorem dX1_zone_153 : decode cX1_zone 153 = .ok (.invokestatic 93, 3) := dk_184 0 93 (dk_at dksX1_zone_6 5 rfl rfl)
theorem dX1_zone_156 : decode cX1_zone 156 = .ok (.ireturn, 1) := dk_172 (dk_at dksX1_zone_6 8 rfl rfl)
theorem dX1_zone_157 : decode cX1_zone 157 = .ok (.aload_n 0, 1) := dk_42 (dk_at dksX1_zone_6 9 rfl rfl)
theorem dX1_zone_158 : decode cX1_zone 158 = .ok (.getfield 28, 3) := dk_180 0 28 (dk_at dksX1_zone_6 10 rfl rfl)
theorem dX1_zone_161 : decode cX1_zone 161 = .ok (.iload_n 1, 1) := dk_27 (dk_at dksX1_zone_6 13 rfl rfl)
theorem dX1_zone_162 : decode cX1_zone 162 = .ok (.invokevirtual 198, 3) := dk_182 0 198 (dk_at dksX1_zone_6 14 rfl rfl)
theorem dX1_zone_165 : decode cX1_zone 165 = .ok (.ireturn, 1) := dk_172 (dk_at dksX1_zone_6 17 rfl rfl)
theorem dX1_zone_166 : decode cX1_zone 166 = .ok (.aload_n 0, 1) := dk_42 (dk_at dksX1_zone_6 18 rfl rfl)
theorem dX1_zone_167 : decode cX1_zone 167 = .ok (.getfield 28, 3) := dk_180 0 28 (dk_at dksX1_zone_6 19 rfl rfl)
theorem dX1_zone_170 : decode cX1_zone 170 = .ok (.getfield 202, 3) := dk_180 0 202 (dk_at dksX1_zone_7 0 rfl rfl)
theorem dX1_zone_173 : decode cX1_zone 173 = .ok (.iload_n 1, 1) := dk_27 (dk_at dksX1_zone_7 3 rfl rfl)
theorem dX1_zone_174 : decode cX1_zone 174 = .ok (.iaload, 1) := dk_46 (dk_at dksX1_zone_7 4 rfl rfl)
theorem dX1_zone_175 : decode cX1_zone 175 = .ok (.ireturn, 1) := dk_172 (dk_at dksX1_zone_7 5 rfl rfl)
theorem dX1_zone_176 : decode cX1_zone 176 = .ok (.iload_n 3, 1) := dk_29 (dk_at dksX1_zone_7 6 rfl rfl)
theorem dX1_zone_177 : decode cX1_zone 177 = .ok (.ireturn, 1) := dk_172 (dk_at dksX1_zone_7 7 rfl rfl)
abbrev cX1_buffer : ByteArray := prog_1_method_19_code
def yX1_buffer : MethodName := ⟨RX1, "buffer", "(II)I"⟩
def dkwX1_buffer_1 : List UInt8 := [182, 0, 205, 172]
abbrev dktX1_buffer_1 : List UInt8 := dkwX1_buffer_1 ++ []
def dkwX1_buffer_0 : List UInt8 := [27, 6, 184, 0, 72, 28, 3, 8, 184, 0, 10, 184, 0, 76, 42, 180, 0, 28, 180, 0, 173, 27, 50, 28]
abbrev dktX1_buffer_0 : List UInt8 := dkwX1_buffer_0 ++ dktX1_buffer_1
theorem dksX1_buffer_0 : cX1_buffer.data.toList.drop 0 = dktX1_buffer_0 := by decide +kernel
theorem dksX1_buffer_1 : cX1_buffer.data.toList.drop 24 = dktX1_buffer_1 := dk_seg dksX1_buffer_0 24 rfl rfl
theorem dX1_buffer_0 : decode cX1_buffer 0 = .ok (.iload_n 1, 1) := dk_27 (dk_at dksX1_buffer_0 0 rfl rfl)
theorem dX1_buffer_1 : decode cX1_buffer 1 = .ok (.iconst 3, 1) := dk_6 (dk_at dksX1_buffer_0 1 rfl rfl)
theorem dX1_buffer_2 : decode cX1_buffer 2 = .ok (.invokestatic 72, 3) := dk_184 0 72 (dk_at dksX1_buffer_0 2 rfl rfl)
theorem dX1_buffer_5 : decode cX1_buffer 5 = .ok (.iload_n 2, 1) := dk_28 (dk_at dksX1_buffer_0 5 rfl rfl)
theorem dX1_buffer_6 : decode cX1_buffer 6 = .ok (.iconst 0, 1) := dk_3 (dk_at dksX1_buffer_0 6 rfl rfl)
theorem dX1_buffer_7 : decode cX1_buffer 7 = .ok (.iconst 5, 1) := dk_8 (dk_at dksX1_buffer_0 7 rfl rfl)
theorem dX1_buffer_8 : decode cX1_buffer 8 = .ok (.invokestatic 10, 3) := dk_184 0 10 (dk_at dksX1_buffer_0 8 rfl rfl)
theorem dX1_buffer_11 : decode cX1_buffer 11 = .ok (.invokestatic 76, 3) := dk_184 0 76 (dk_at dksX1_buffer_0 11 rfl rfl)
theorem dX1_buffer_14 : decode cX1_buffer 14 = .ok (.aload_n 0, 1) := dk_42 (dk_at dksX1_buffer_0 14 rfl rfl)
theorem dX1_buffer_15 : decode cX1_buffer 15 = .ok (.getfield 28, 3) := dk_180 0 28 (dk_at dksX1_buffer_0 15 rfl rfl)
theorem dX1_buffer_18 : decode cX1_buffer 18 = .ok (.getfield 173, 3) := dk_180 0 173 (dk_at dksX1_buffer_0 18 rfl rfl)
theorem dX1_buffer_21 : decode cX1_buffer 21 = .ok (.iload_n 1, 1) := dk_27 (dk_at dksX1_buffer_0 21 rfl rfl)
theorem dX1_buffer_22 : decode cX1_buffer 22 = .ok (.aaload, 1) := dk_50 (dk_at dksX1_buffer_0 22 rfl rfl)
theorem dX1_buffer_23 : decode cX1_buffer 23 = .ok (.iload_n 2, 1) := dk_28 (dk_at dksX1_buffer_0 23 rfl rfl)
theorem dX1_buffer_24 : decode cX1_buffer 24 = .ok (.invokevirtual 205, 3) := dk_182 0 205 (dk_at dksX1_buffer_1 0 rfl rfl)
theorem dX1_buffer_27 : decode cX1_buffer 27 = .ok (.ireturn, 1) := dk_172 (dk_at dksX1_buffer_1 3 rfl rfl)
abbrev cX1_part : ByteArray := prog_1_method_21_code
def yX1_part : MethodName := ⟨RX1, "part", "(II)I"⟩
def dkwX1_part_2 : List UInt8 := [192, 0, 228, 78, 45, 182, 0, 230, 172]
abbrev dktX1_part_2 : List UInt8 := dkwX1_part_2 ++ []
def dkwX1_part_1 : List UInt8 := [184, 0, 10, 184, 0, 221, 42, 180, 0, 28, 180, 0, 173, 27, 50, 180, 0, 177, 28, 184, 0, 224]
abbrev dktX1_part_1 : List UInt8 := dkwX1_part_1 ++ dktX1_part_2
def dkwX1_part_0 : List UInt8 := [27, 6, 184, 0, 72, 28, 3, 42, 180, 0, 28, 180, 0, 173, 27, 50, 180, 0, 177, 182, 0, 43, 4, 100]
abbrev dktX1_part_0 : List UInt8 := dkwX1_part_0 ++ dktX1_part_1
theorem dksX1_part_0 : cX1_part.data.toList.drop 0 = dktX1_part_0 := by decide +kernel
theorem dksX1_part_1 : cX1_part.data.toList.drop 24 = dktX1_part_1 := dk_seg dksX1_part_0 24 rfl rfl
theorem dksX1_part_2 : cX1_part.data.toList.drop 46 = dktX1_part_2 := dk_seg dksX1_part_1 22 rfl rfl
theorem dX1_part_0 : decode cX1_part 0 = .ok (.iload_n 1, 1) := dk_27 (dk_at dksX1_part_0 0 rfl rfl)
theorem dX1_part_1 : decode cX1_part 1 = .ok (.iconst 3, 1) := dk_6 (dk_at dksX1_part_0 1 rfl rfl)
theorem dX1_part_2 : decode cX1_part 2 = .ok (.invokestatic 72, 3) := dk_184 0 72 (dk_at dksX1_part_0 2 rfl rfl)
theorem dX1_part_5 : decode cX1_part 5 = .ok (.iload_n 2, 1) := dk_28 (dk_at dksX1_part_0 5 rfl rfl)
theorem dX1_part_6 : decode cX1_part 6 = .ok (.iconst 0, 1) := dk_3 (dk_at dksX1_part_0 6 rfl rfl)
theorem dX1_part_7 : decode cX1_part 7 = .ok (.aload_n 0, 1) := dk_42 (dk_at dksX1_part_0 7 rfl rfl)
theorem dX1_part_8 : decode cX1_part 8 = .ok (.getfield 28, 3) := dk_180 0 28 (dk_at dksX1_part_0 8 rfl rfl)
theorem dX1_part_11 : decode cX1_part 11 = .ok (.getfield 173, 3) := dk_180 0 173 (dk_at dksX1_part_0 11 rfl rfl)
theorem dX1_part_14 : decode cX1_part 14 = .ok (.iload_n 1, 1) := dk_27 (dk_at dksX1_part_0 14 rfl rfl)
theorem dX1_part_15 : decode cX1_part 15 = .ok (.aaload, 1) := dk_50 (dk_at dksX1_part_0 15 rfl rfl)
theorem dX1_part_16 : decode cX1_part 16 = .ok (.getfield 177, 3) := dk_180 0 177 (dk_at dksX1_part_0 16 rfl rfl)
theorem dX1_part_19 : decode cX1_part 19 = .ok (.invokevirtual 43, 3) := dk_182 0 43 (dk_at dksX1_part_0 19 rfl rfl)
theorem dX1_part_22 : decode cX1_part 22 = .ok (.iconst 1, 1) := dk_4 (dk_at dksX1_part_0 22 rfl rfl)
theorem dX1_part_23 : decode cX1_part 23 = .ok (.isub, 1) := dk_100 (dk_at dksX1_part_0 23 rfl rfl)
theorem dX1_part_24 : decode cX1_part 24 = .ok (.invokestatic 10, 3) := dk_184 0 10 (dk_at dksX1_part_1 0 rfl rfl)
theorem dX1_part_27 : decode cX1_part 27 = .ok (.invokestatic 221, 3) := dk_184 0 221 (dk_at dksX1_part_1 3 rfl rfl)
theorem dX1_part_30 : decode cX1_part 30 = .ok (.aload_n 0, 1) := dk_42 (dk_at dksX1_part_1 6 rfl rfl)
theorem dX1_part_31 : decode cX1_part 31 = .ok (.getfield 28, 3) := dk_180 0 28 (dk_at dksX1_part_1 7 rfl rfl)
theorem dX1_part_34 : decode cX1_part 34 = .ok (.getfield 173, 3) := dk_180 0 173 (dk_at dksX1_part_1 10 rfl rfl)
theorem dX1_part_37 : decode cX1_part 37 = .ok (.iload_n 1, 1) := dk_27 (dk_at dksX1_part_1 13 rfl rfl)
theorem dX1_part_38 : decode cX1_part 38 = .ok (.aaload, 1) := dk_50 (dk_at dksX1_part_1 14 rfl rfl)
theorem dX1_part_39 : decode cX1_part 39 = .ok (.getfield 177, 3) := dk_180 0 177 (dk_at dksX1_part_1 15 rfl rfl)
theorem dX1_part_42 : decode cX1_part 42 = .ok (.iload_n 2, 1) := dk_28 (dk_at dksX1_part_1 18 rfl rfl)
theorem dX1_part_43 : decode cX1_part 43 = .ok (.invokestatic 224, 3) := dk_184 0 224 (dk_at dksX1_part_1 19 rfl rfl)
theorem dX1_part_46 : decode cX1_part 46 = .ok (.checkcast 228, 3) := dk_192 0 228 (dk_at dksX1_part_2 0 rfl rfl)
theorem dX1_part_49 : decode cX1_part 49 = .ok (.astore_n 3, 1) := dk_78 (dk_at dksX1_part_2 3 rfl rfl)
theorem dX1_part_50 : decode cX1_part 50 = .ok (.aload_n 3, 1) := dk_45 (dk_at dksX1_part_2 4 rfl rfl)
theorem dX1_part_51 : decode cX1_part 51 = .ok (.invokevirtual 230, 3) := dk_182 0 230 (dk_at dksX1_part_2 5 rfl rfl)
theorem dX1_part_54 : decode cX1_part 54 = .ok (.ireturn, 1) := dk_172 (dk_at dksX1_part_2 8 rfl rfl)
abbrev cX1_checkFound : ByteArray := prog_1_method_5_code
def yX1_checkFound : MethodName := ⟨RX1, "checkFound", "(Z)V"⟩
def dkwX1_checkFound_0 : List UInt8 := [26, 154, 0, 11, 187, 0, 19, 89, 183, 0, 21, 191, 177]
abbrev dktX1_checkFound_0 : List UInt8 := dkwX1_checkFound_0 ++ []
theorem dksX1_checkFound_0 : cX1_checkFound.data.toList.drop 0 = dktX1_checkFound_0 := by decide +kernel
theorem dX1_checkFound_0 : decode cX1_checkFound 0 = .ok (.iload_n 0, 1) := dk_26 (dk_at dksX1_checkFound_0 0 rfl rfl)
theorem dX1_checkFound_1 : decode cX1_checkFound 1 = .ok (.ifCond .ne 11, 3) := dk_154 0 11 (dk_at dksX1_checkFound_0 1 rfl rfl)
theorem dX1_checkFound_4 : decode cX1_checkFound 4 = .ok (.new 19, 3) := dk_187 0 19 (dk_at dksX1_checkFound_0 4 rfl rfl)
theorem dX1_checkFound_7 : decode cX1_checkFound 7 = .ok (.dup, 1) := dk_89 (dk_at dksX1_checkFound_0 7 rfl rfl)
theorem dX1_checkFound_8 : decode cX1_checkFound 8 = .ok (.invokespecial 21, 3) := dk_183 0 21 (dk_at dksX1_checkFound_0 8 rfl rfl)
theorem dX1_checkFound_11 : decode cX1_checkFound 11 = .ok (.athrow, 1) := dk_191 (dk_at dksX1_checkFound_0 11 rfl rfl)
theorem dX1_checkFound_12 : decode cX1_checkFound 12 = .ok (.return_, 1) := dk_177 (dk_at dksX1_checkFound_0 12 rfl rfl)
abbrev cX1_elementAt : ByteArray := prog_1_method_20_code
def yX1_elementAt : MethodName := ⟨RX1, "elementAt", "(Ljava/lang/Iterable;I)Ljava/lang/Object;"⟩
def dkwX1_elementAt_2 : List UInt8 := [167, 255, 222, 44, 176]
abbrev dktX1_elementAt_2 : List UInt8 := dkwX1_elementAt_2 ++ []
def dkwX1_elementAt_1 : List UInt8 := [185, 0, 218, 1, 0, 58, 5, 29, 27, 160, 0, 8, 25, 5, 167, 0, 4, 44, 77, 132, 3, 1]
abbrev dktX1_elementAt_1 : List UInt8 := dkwX1_elementAt_1 ++ dktX1_elementAt_2
def dkwX1_elementAt_0 : List UInt8 := [1, 77, 3, 62, 42, 185, 0, 207, 1, 0, 58, 4, 25, 4, 185, 0, 213, 1, 0, 153, 0, 30, 25, 4]
abbrev dktX1_elementAt_0 : List UInt8 := dkwX1_elementAt_0 ++ dktX1_elementAt_1
theorem dksX1_elementAt_0 : cX1_elementAt.data.toList.drop 0 = dktX1_elementAt_0 := by decide +kernel
theorem dksX1_elementAt_1 : cX1_elementAt.data.toList.drop 24 = dktX1_elementAt_1 := dk_seg dksX1_elementAt_0 24 rfl rfl
theorem dksX1_elementAt_2 : cX1_elementAt.data.toList.drop 46 = dktX1_elementAt_2 := dk_seg dksX1_elementAt_1 22 rfl rfl
theorem dX1_elementAt_0 : decode cX1_elementAt 0 = .ok (.aconst_null, 1) := dk_1 (dk_at dksX1_elementAt_0 0 rfl rfl)
theorem dX1_elementAt_1 : decode cX1_elementAt 1 = .ok (.astore_n 2, 1) := dk_77 (dk_at dksX1_elementAt_0 1 rfl rfl)
theorem dX1_elementAt_2 : decode cX1_elementAt 2 = .ok (.iconst 0, 1) := dk_3 (dk_at dksX1_elementAt_0 2 rfl rfl)
theorem dX1_elementAt_3 : decode cX1_elementAt 3 = .ok (.istore_n 3, 1) := dk_62 (dk_at dksX1_elementAt_0 3 rfl rfl)
theorem dX1_elementAt_4 : decode cX1_elementAt 4 = .ok (.aload_n 0, 1) := dk_42 (dk_at dksX1_elementAt_0 4 rfl rfl)
theorem dX1_elementAt_5 : decode cX1_elementAt 5 = .ok (.invokeinterface 207 1, 5) := by decide +kernel
theorem dX1_elementAt_10 : decode cX1_elementAt 10 = .ok (.astore 4, 2) := dk_58 4 (dk_at dksX1_elementAt_0 10 rfl rfl)
theorem dX1_elementAt_12 : decode cX1_elementAt 12 = .ok (.aload 4, 2) := dk_25 4 (dk_at dksX1_elementAt_0 12 rfl rfl)
theorem dX1_elementAt_14 : decode cX1_elementAt 14 = .ok (.invokeinterface 213 1, 5) := by decide +kernel
theorem dX1_elementAt_19 : decode cX1_elementAt 19 = .ok (.ifCond .eq 30, 3) := dk_153 0 30 (dk_at dksX1_elementAt_0 19 rfl rfl)
theorem dX1_elementAt_22 : decode cX1_elementAt 22 = .ok (.aload 4, 2) := dk_25 4 (dk_at dksX1_elementAt_0 22 rfl rfl)
theorem dX1_elementAt_24 : decode cX1_elementAt 24 = .ok (.invokeinterface 218 1, 5) := by decide +kernel
theorem dX1_elementAt_29 : decode cX1_elementAt 29 = .ok (.astore 5, 2) := dk_58 5 (dk_at dksX1_elementAt_1 5 rfl rfl)
theorem dX1_elementAt_31 : decode cX1_elementAt 31 = .ok (.iload_n 3, 1) := dk_29 (dk_at dksX1_elementAt_1 7 rfl rfl)
theorem dX1_elementAt_32 : decode cX1_elementAt 32 = .ok (.iload_n 1, 1) := dk_27 (dk_at dksX1_elementAt_1 8 rfl rfl)
theorem dX1_elementAt_33 : decode cX1_elementAt 33 = .ok (.if_icmp .ne 8, 3) := dk_160 0 8 (dk_at dksX1_elementAt_1 9 rfl rfl)
theorem dX1_elementAt_36 : decode cX1_elementAt 36 = .ok (.aload 5, 2) := dk_25 5 (dk_at dksX1_elementAt_1 12 rfl rfl)
theorem dX1_elementAt_38 : decode cX1_elementAt 38 = .ok (.goto 4, 3) := dk_167 0 4 (dk_at dksX1_elementAt_1 14 rfl rfl)
theorem dX1_elementAt_41 : decode cX1_elementAt 41 = .ok (.aload_n 2, 1) := dk_44 (dk_at dksX1_elementAt_1 17 rfl rfl)
theorem dX1_elementAt_42 : decode cX1_elementAt 42 = .ok (.astore_n 2, 1) := dk_77 (dk_at dksX1_elementAt_1 18 rfl rfl)
theorem dX1_elementAt_43 : decode cX1_elementAt 43 = .ok (.iinc 3 1, 3) := dk_132 3 1 (dk_at dksX1_elementAt_1 19 rfl rfl)
theorem dX1_elementAt_46 : decode cX1_elementAt 46 = .ok (.goto (-34), 3) := dk_167 255 222 (dk_at dksX1_elementAt_2 0 rfl rfl)
theorem dX1_elementAt_49 : decode cX1_elementAt 49 = .ok (.aload_n 2, 1) := dk_44 (dk_at dksX1_elementAt_2 3 rfl rfl)
theorem dX1_elementAt_50 : decode cX1_elementAt 50 = .ok (.areturn, 1) := dk_176 (dk_at dksX1_elementAt_2 4 rfl rfl)
abbrev cX1_give : ByteArray := prog_1_method_22_code
def yX1_give : MethodName := ⟨RX1, "give", "(IIIIII)I"⟩
def dkwX1_give_1 : List UInt8 := [21, 5, 21, 6, 183, 0, 233, 184, 0, 236, 54, 8, 42, 25, 7, 182, 0, 170, 21, 8, 172]
abbrev dktX1_give_1 : List UInt8 := dkwX1_give_1 ++ []
def dkwX1_give_0 : List UInt8 := [187, 0, 25, 89, 42, 180, 0, 28, 183, 0, 163, 58, 7, 25, 7, 187, 0, 107, 89, 27, 28, 29, 21, 4]
abbrev dktX1_give_0 : List UInt8 := dkwX1_give_0 ++ dktX1_give_1
theorem dksX1_give_0 : cX1_give.data.toList.drop 0 = dktX1_give_0 := by decide +kernel
theorem dksX1_give_1 : cX1_give.data.toList.drop 24 = dktX1_give_1 := dk_seg dksX1_give_0 24 rfl rfl
theorem dX1_give_0 : decode cX1_give 0 = .ok (.new 25, 3) := dk_187 0 25 (dk_at dksX1_give_0 0 rfl rfl)
theorem dX1_give_3 : decode cX1_give 3 = .ok (.dup, 1) := dk_89 (dk_at dksX1_give_0 3 rfl rfl)
theorem dX1_give_4 : decode cX1_give 4 = .ok (.aload_n 0, 1) := dk_42 (dk_at dksX1_give_0 4 rfl rfl)
theorem dX1_give_5 : decode cX1_give 5 = .ok (.getfield 28, 3) := dk_180 0 28 (dk_at dksX1_give_0 5 rfl rfl)
theorem dX1_give_8 : decode cX1_give 8 = .ok (.invokespecial 163, 3) := dk_183 0 163 (dk_at dksX1_give_0 8 rfl rfl)
theorem dX1_give_11 : decode cX1_give 11 = .ok (.astore 7, 2) := dk_58 7 (dk_at dksX1_give_0 11 rfl rfl)
theorem dX1_give_13 : decode cX1_give 13 = .ok (.aload 7, 2) := dk_25 7 (dk_at dksX1_give_0 13 rfl rfl)
theorem dX1_give_15 : decode cX1_give 15 = .ok (.new 107, 3) := dk_187 0 107 (dk_at dksX1_give_0 15 rfl rfl)
theorem dX1_give_18 : decode cX1_give 18 = .ok (.dup, 1) := dk_89 (dk_at dksX1_give_0 18 rfl rfl)
theorem dX1_give_19 : decode cX1_give 19 = .ok (.iload_n 1, 1) := dk_27 (dk_at dksX1_give_0 19 rfl rfl)
theorem dX1_give_20 : decode cX1_give 20 = .ok (.iload_n 2, 1) := dk_28 (dk_at dksX1_give_0 20 rfl rfl)
theorem dX1_give_21 : decode cX1_give 21 = .ok (.iload_n 3, 1) := dk_29 (dk_at dksX1_give_0 21 rfl rfl)
theorem dX1_give_22 : decode cX1_give 22 = .ok (.iload 4, 2) := dk_21 4 (dk_at dksX1_give_0 22 rfl rfl)
theorem dX1_give_24 : decode cX1_give 24 = .ok (.iload 5, 2) := dk_21 5 (dk_at dksX1_give_1 0 rfl rfl)
theorem dX1_give_26 : decode cX1_give 26 = .ok (.iload 6, 2) := dk_21 6 (dk_at dksX1_give_1 2 rfl rfl)
theorem dX1_give_28 : decode cX1_give 28 = .ok (.invokespecial 233, 3) := dk_183 0 233 (dk_at dksX1_give_1 4 rfl rfl)
theorem dX1_give_31 : decode cX1_give 31 = .ok (.invokestatic 236, 3) := dk_184 0 236 (dk_at dksX1_give_1 7 rfl rfl)
theorem dX1_give_34 : decode cX1_give 34 = .ok (.istore 8, 2) := dk_54 8 (dk_at dksX1_give_1 10 rfl rfl)
theorem dX1_give_36 : decode cX1_give 36 = .ok (.aload_n 0, 1) := dk_42 (dk_at dksX1_give_1 12 rfl rfl)
theorem dX1_give_37 : decode cX1_give 37 = .ok (.aload 7, 2) := dk_25 7 (dk_at dksX1_give_1 13 rfl rfl)
theorem dX1_give_39 : decode cX1_give 39 = .ok (.invokevirtual 170, 3) := dk_182 0 170 (dk_at dksX1_give_1 15 rfl rfl)
theorem dX1_give_42 : decode cX1_give 42 = .ok (.iload 8, 2) := dk_21 8 (dk_at dksX1_give_1 18 rfl rfl)
theorem dX1_give_44 : decode cX1_give 44 = .ok (.ireturn, 1) := dk_172 (dk_at dksX1_give_1 20 rfl rfl)
abbrev cX1_giveIn : ByteArray := prog_1_method_12_code
def yX1_giveIn : MethodName := ⟨RX1, "giveIn", "(LRobotCell$Cell;LRobotCell$Order;)I"⟩
def dkwX1_giveIn_6 : List UInt8 := [180, 0, 106, 50, 180, 0, 154, 45, 182, 0, 51, 28, 172]
abbrev dktX1_giveIn_6 : List UInt8 := dkwX1_giveIn_6 ++ []
def dkwX1_giveIn_5 : List UInt8 := [89, 28, 43, 183, 0, 150, 78, 42, 180, 0, 141, 45, 182, 0, 153, 54, 4, 42, 180, 0, 55, 43]
abbrev dktX1_giveIn_5 : List UInt8 := dkwX1_giveIn_5 ++ dktX1_giveIn_6
def dkwX1_giveIn_4 : List UInt8 := [180, 0, 141, 182, 0, 145, 61, 28, 16, 30, 162, 0, 7, 4, 167, 0, 4, 3, 184, 0, 97, 187, 0, 148]
abbrev dktX1_giveIn_4 : List UInt8 := dkwX1_giveIn_4 ++ dktX1_giveIn_5
def dkwX1_giveIn_3 : List UInt8 := [180, 0, 106, 50, 180, 0, 131, 182, 0, 134, 154, 0, 11, 187, 0, 138, 89, 183, 0, 140, 191, 42]
abbrev dktX1_giveIn_3 : List UInt8 := dkwX1_giveIn_3 ++ dktX1_giveIn_4
def dkwX1_giveIn_2 : List UInt8 := [3, 16, 9, 184, 0, 10, 153, 0, 7, 4, 167, 0, 4, 3, 184, 0, 76, 43, 42, 180, 0, 55, 43]
abbrev dktX1_giveIn_2 : List UInt8 := dkwX1_giveIn_2 ++ dktX1_giveIn_3
def dkwX1_giveIn_1 : List UInt8 := [180, 0, 121, 190, 158, 0, 33, 43, 180, 0, 125, 4, 16, 9, 184, 0, 10, 153, 0, 20, 43, 180, 0, 128]
abbrev dktX1_giveIn_1 : List UInt8 := dkwX1_giveIn_1 ++ dktX1_giveIn_2
def dkwX1_giveIn_0 : List UInt8 := [43, 180, 0, 106, 6, 184, 0, 72, 43, 180, 0, 111, 184, 0, 114, 43, 180, 0, 118, 184, 0, 114, 43]
abbrev dktX1_giveIn_0 : List UInt8 := dkwX1_giveIn_0 ++ dktX1_giveIn_1
theorem dksX1_giveIn_0 : cX1_giveIn.data.toList.drop 0 = dktX1_giveIn_0 := by decide +kernel
theorem dksX1_giveIn_1 : cX1_giveIn.data.toList.drop 23 = dktX1_giveIn_1 := dk_seg dksX1_giveIn_0 23 rfl rfl
theorem dksX1_giveIn_2 : cX1_giveIn.data.toList.drop 47 = dktX1_giveIn_2 := dk_seg dksX1_giveIn_1 24 rfl rfl
theorem dksX1_giveIn_3 : cX1_giveIn.data.toList.drop 70 = dktX1_giveIn_3 := dk_seg dksX1_giveIn_2 23 rfl rfl
theorem dksX1_giveIn_4 : cX1_giveIn.data.toList.drop 92 = dktX1_giveIn_4 := dk_seg dksX1_giveIn_3 22 rfl rfl
theorem dksX1_giveIn_5 : cX1_giveIn.data.toList.drop 116 = dktX1_giveIn_5 := dk_seg dksX1_giveIn_4 24 rfl rfl
theorem dksX1_giveIn_6 : cX1_giveIn.data.toList.drop 138 = dktX1_giveIn_6 := dk_seg dksX1_giveIn_5 22 rfl rfl
theorem dX1_giveIn_0 : decode cX1_giveIn 0 = .ok (.aload_n 1, 1) := dk_43 (dk_at dksX1_giveIn_0 0 rfl rfl)
theorem dX1_giveIn_1 : decode cX1_giveIn 1 = .ok (.getfield 106, 3) := dk_180 0 106 (dk_at dksX1_giveIn_0 1 rfl rfl)
theorem dX1_giveIn_4 : decode cX1_giveIn 4 = .ok (.iconst 3, 1) := dk_6 (dk_at dksX1_giveIn_0 4 rfl rfl)
theorem dX1_giveIn_5 : decode cX1_giveIn 5 = .ok (.invokestatic 72, 3) := dk_184 0 72 (dk_at dksX1_giveIn_0 5 rfl rfl)
theorem dX1_giveIn_8 : decode cX1_giveIn 8 = .ok (.aload_n 1, 1) := dk_43 (dk_at dksX1_giveIn_0 8 rfl rfl)
theorem dX1_giveIn_9 : decode cX1_giveIn 9 = .ok (.getfield 111, 3) := dk_180 0 111 (dk_at dksX1_giveIn_0 9 rfl rfl)
theorem dX1_giveIn_12 : decode cX1_giveIn 12 = .ok (.invokestatic 114, 3) := dk_184 0 114 (dk_at dksX1_giveIn_0 12 rfl rfl)
theorem dX1_giveIn_15 : decode cX1_giveIn 15 = .ok (.aload_n 1, 1) := dk_43 (dk_at dksX1_giveIn_0 15 rfl rfl)
theorem dX1_giveIn_16 : decode cX1_giveIn 16 = .ok (.getfield 118, 3) := dk_180 0 118 (dk_at dksX1_giveIn_0 16 rfl rfl)
theorem dX1_giveIn_19 : decode cX1_giveIn 19 = .ok (.invokestatic 114, 3) := dk_184 0 114 (dk_at dksX1_giveIn_0 19 rfl rfl)
theorem dX1_giveIn_22 : decode cX1_giveIn 22 = .ok (.aload_n 1, 1) := dk_43 (dk_at dksX1_giveIn_0 22 rfl rfl)
theorem dX1_giveIn_23 : decode cX1_giveIn 23 = .ok (.getfield 121, 3) := dk_180 0 121 (dk_at dksX1_giveIn_1 0 rfl rfl)
theorem dX1_giveIn_26 : decode cX1_giveIn 26 = .ok (.arraylength, 1) := dk_190 (dk_at dksX1_giveIn_1 3 rfl rfl)
theorem dX1_giveIn_27 : decode cX1_giveIn 27 = .ok (.ifCond .le 33, 3) := dk_158 0 33 (dk_at dksX1_giveIn_1 4 rfl rfl)
theorem dX1_giveIn_30 : decode cX1_giveIn 30 = .ok (.aload_n 1, 1) := dk_43 (dk_at dksX1_giveIn_1 7 rfl rfl)
theorem dX1_giveIn_31 : decode cX1_giveIn 31 = .ok (.getfield 125, 3) := dk_180 0 125 (dk_at dksX1_giveIn_1 8 rfl rfl)
theorem dX1_giveIn_34 : decode cX1_giveIn 34 = .ok (.iconst 1, 1) := dk_4 (dk_at dksX1_giveIn_1 11 rfl rfl)
theorem dX1_giveIn_35 : decode cX1_giveIn 35 = .ok (.bipush 9, 2) := dk_16 9 (dk_at dksX1_giveIn_1 12 rfl rfl)
theorem dX1_giveIn_37 : decode cX1_giveIn 37 = .ok (.invokestatic 10, 3) := dk_184 0 10 (dk_at dksX1_giveIn_1 14 rfl rfl)
theorem dX1_giveIn_40 : decode cX1_giveIn 40 = .ok (.ifCond .eq 20, 3) := dk_153 0 20 (dk_at dksX1_giveIn_1 17 rfl rfl)
theorem dX1_giveIn_43 : decode cX1_giveIn 43 = .ok (.aload_n 1, 1) := dk_43 (dk_at dksX1_giveIn_1 20 rfl rfl)
theorem dX1_giveIn_44 : decode cX1_giveIn 44 = .ok (.getfield 128, 3) := dk_180 0 128 (dk_at dksX1_giveIn_1 21 rfl rfl)
theorem dX1_giveIn_47 : decode cX1_giveIn 47 = .ok (.iconst 0, 1) := dk_3 (dk_at dksX1_giveIn_2 0 rfl rfl)
theorem dX1_giveIn_48 : decode cX1_giveIn 48 = .ok (.bipush 9, 2) := dk_16 9 (dk_at dksX1_giveIn_2 1 rfl rfl)
theorem dX1_giveIn_50 : decode cX1_giveIn 50 = .ok (.invokestatic 10, 3) := dk_184 0 10 (dk_at dksX1_giveIn_2 3 rfl rfl)
theorem dX1_giveIn_53 : decode cX1_giveIn 53 = .ok (.ifCond .eq 7, 3) := dk_153 0 7 (dk_at dksX1_giveIn_2 6 rfl rfl)
theorem dX1_giveIn_56 : decode cX1_giveIn 56 = .ok (.iconst 1, 1) := dk_4 (dk_at dksX1_giveIn_2 9 rfl rfl)
theorem dX1_giveIn_57 : decode cX1_giveIn 57 = .ok (.goto 4, 3) := dk_167 0 4 (dk_at dksX1_giveIn_2 10 rfl rfl)
theorem dX1_giveIn_60 : decode cX1_giveIn 60 = .ok (.iconst 0, 1) := dk_3 (dk_at dksX1_giveIn_2 13 rfl rfl)
theorem dX1_giveIn_61 : decode cX1_giveIn 61 = .ok (.invokestatic 76, 3) := dk_184 0 76 (dk_at dksX1_giveIn_2 14 rfl rfl)
theorem dX1_giveIn_64 : decode cX1_giveIn 64 = .ok (.aload_n 1, 1) := dk_43 (dk_at dksX1_giveIn_2 17 rfl rfl)
theorem dX1_giveIn_65 : decode cX1_giveIn 65 = .ok (.aload_n 0, 1) := dk_42 (dk_at dksX1_giveIn_2 18 rfl rfl)
theorem dX1_giveIn_66 : decode cX1_giveIn 66 = .ok (.getfield 55, 3) := dk_180 0 55 (dk_at dksX1_giveIn_2 19 rfl rfl)
theorem dX1_giveIn_69 : decode cX1_giveIn 69 = .ok (.aload_n 1, 1) := dk_43 (dk_at dksX1_giveIn_2 22 rfl rfl)
theorem dX1_giveIn_70 : decode cX1_giveIn 70 = .ok (.getfield 106, 3) := dk_180 0 106 (dk_at dksX1_giveIn_3 0 rfl rfl)
theorem dX1_giveIn_73 : decode cX1_giveIn 73 = .ok (.aaload, 1) := dk_50 (dk_at dksX1_giveIn_3 3 rfl rfl)
theorem dX1_giveIn_74 : decode cX1_giveIn 74 = .ok (.getfield 131, 3) := dk_180 0 131 (dk_at dksX1_giveIn_3 4 rfl rfl)
theorem dX1_giveIn_77 : decode cX1_giveIn 77 = .ok (.invokevirtual 134, 3) := dk_182 0 134 (dk_at dksX1_giveIn_3 7 rfl rfl)
theorem dX1_giveIn_80 : decode cX1_giveIn 80 = .ok (.ifCond .ne 11, 3) := dk_154 0 11 (dk_at dksX1_giveIn_3 10 rfl rfl)
theorem dX1_giveIn_83 : decode cX1_giveIn 83 = .ok (.new 138, 3) := dk_187 0 138 (dk_at dksX1_giveIn_3 13 rfl rfl)
theorem dX1_giveIn_86 : decode cX1_giveIn 86 = .ok (.dup, 1) := dk_89 (dk_at dksX1_giveIn_3 16 rfl rfl)
theorem dX1_giveIn_87 : decode cX1_giveIn 87 = .ok (.invokespecial 140, 3) := dk_183 0 140 (dk_at dksX1_giveIn_3 17 rfl rfl)
theorem dX1_giveIn_90 : decode cX1_giveIn 90 = .ok (.athrow, 1) := dk_191 (dk_at dksX1_giveIn_3 20 rfl rfl)
theorem dX1_giveIn_91 : decode cX1_giveIn 91 = .ok (.aload_n 0, 1) := dk_42 (dk_at dksX1_giveIn_3 21 rfl rfl)
theorem dX1_giveIn_92 : decode cX1_giveIn 92 = .ok (.getfield 141, 3) := dk_180 0 141 (dk_at dksX1_giveIn_4 0 rfl rfl)
theorem dX1_giveIn_95 : decode cX1_giveIn 95 = .ok (.invokevirtual 145, 3) := dk_182 0 145 (dk_at dksX1_giveIn_4 3 rfl rfl)
theorem dX1_giveIn_98 : decode cX1_giveIn 98 = .ok (.istore_n 2, 1) := dk_61 (dk_at dksX1_giveIn_4 6 rfl rfl)
theorem dX1_giveIn_99 : decode cX1_giveIn 99 = .ok (.iload_n 2, 1) := dk_28 (dk_at dksX1_giveIn_4 7 rfl rfl)
theorem dX1_giveIn_100 : decode cX1_giveIn 100 = .ok (.bipush 30, 2) := dk_16 30 (dk_at dksX1_giveIn_4 8 rfl rfl)
theorem dX1_giveIn_102 : decode cX1_giveIn 102 = .ok (.if_icmp .ge 7, 3) := dk_162 0 7 (dk_at dksX1_giveIn_4 10 rfl rfl)
theorem dX1_giveIn_105 : decode cX1_giveIn 105 = .ok (.iconst 1, 1) := dk_4 (dk_at dksX1_giveIn_4 13 rfl rfl)
theorem dX1_giveIn_106 : decode cX1_giveIn 106 = .ok (.goto 4, 3) := dk_167 0 4 (dk_at dksX1_giveIn_4 14 rfl rfl)
theorem dX1_giveIn_109 : decode cX1_giveIn 109 = .ok (.iconst 0, 1) := dk_3 (dk_at dksX1_giveIn_4 17 rfl rfl)
theorem dX1_giveIn_110 : decode cX1_giveIn 110 = .ok (.invokestatic 97, 3) := dk_184 0 97 (dk_at dksX1_giveIn_4 18 rfl rfl)
theorem dX1_giveIn_113 : decode cX1_giveIn 113 = .ok (.new 148, 3) := dk_187 0 148 (dk_at dksX1_giveIn_4 21 rfl rfl)
theorem dX1_giveIn_116 : decode cX1_giveIn 116 = .ok (.dup, 1) := dk_89 (dk_at dksX1_giveIn_5 0 rfl rfl)
theorem dX1_giveIn_117 : decode cX1_giveIn 117 = .ok (.iload_n 2, 1) := dk_28 (dk_at dksX1_giveIn_5 1 rfl rfl)
theorem dX1_giveIn_118 : decode cX1_giveIn 118 = .ok (.aload_n 1, 1) := dk_43 (dk_at dksX1_giveIn_5 2 rfl rfl)
theorem dX1_giveIn_119 : decode cX1_giveIn 119 = .ok (.invokespecial 150, 3) := dk_183 0 150 (dk_at dksX1_giveIn_5 3 rfl rfl)
theorem dX1_giveIn_122 : decode cX1_giveIn 122 = .ok (.astore_n 3, 1) := dk_78 (dk_at dksX1_giveIn_5 6 rfl rfl)
theorem dX1_giveIn_123 : decode cX1_giveIn 123 = .ok (.aload_n 0, 1) := dk_42 (dk_at dksX1_giveIn_5 7 rfl rfl)
theorem dX1_giveIn_124 : decode cX1_giveIn 124 = .ok (.getfield 141, 3) := dk_180 0 141 (dk_at dksX1_giveIn_5 8 rfl rfl)
theorem dX1_giveIn_127 : decode cX1_giveIn 127 = .ok (.aload_n 3, 1) := dk_45 (dk_at dksX1_giveIn_5 11 rfl rfl)
theorem dX1_giveIn_128 : decode cX1_giveIn 128 = .ok (.invokevirtual 153, 3) := dk_182 0 153 (dk_at dksX1_giveIn_5 12 rfl rfl)
theorem dX1_giveIn_131 : decode cX1_giveIn 131 = .ok (.istore 4, 2) := dk_54 4 (dk_at dksX1_giveIn_5 15 rfl rfl)
theorem dX1_giveIn_133 : decode cX1_giveIn 133 = .ok (.aload_n 0, 1) := dk_42 (dk_at dksX1_giveIn_5 17 rfl rfl)
theorem dX1_giveIn_134 : decode cX1_giveIn 134 = .ok (.getfield 55, 3) := dk_180 0 55 (dk_at dksX1_giveIn_5 18 rfl rfl)
theorem dX1_giveIn_137 : decode cX1_giveIn 137 = .ok (.aload_n 1, 1) := dk_43 (dk_at dksX1_giveIn_5 21 rfl rfl)
theorem dX1_giveIn_138 : decode cX1_giveIn 138 = .ok (.getfield 106, 3) := dk_180 0 106 (dk_at dksX1_giveIn_6 0 rfl rfl)
theorem dX1_giveIn_141 : decode cX1_giveIn 141 = .ok (.aaload, 1) := dk_50 (dk_at dksX1_giveIn_6 3 rfl rfl)
theorem dX1_giveIn_142 : decode cX1_giveIn 142 = .ok (.getfield 154, 3) := dk_180 0 154 (dk_at dksX1_giveIn_6 4 rfl rfl)
theorem dX1_giveIn_145 : decode cX1_giveIn 145 = .ok (.aload_n 3, 1) := dk_45 (dk_at dksX1_giveIn_6 7 rfl rfl)
theorem dX1_giveIn_146 : decode cX1_giveIn 146 = .ok (.invokevirtual 51, 3) := dk_182 0 51 (dk_at dksX1_giveIn_6 8 rfl rfl)
theorem dX1_giveIn_149 : decode cX1_giveIn 149 = .ok (.iload_n 2, 1) := dk_28 (dk_at dksX1_giveIn_6 11 rfl rfl)
theorem dX1_giveIn_150 : decode cX1_giveIn 150 = .ok (.ireturn, 1) := dk_172 (dk_at dksX1_giveIn_6 12 rfl rfl)
abbrev cX1_checkBuffer : ByteArray := prog_1_method_11_code
def yX1_checkBuffer : MethodName := ⟨RX1, "checkBuffer", "(I)V"⟩
def dkwX1_checkBuffer_0 : List UInt8 := [26, 2, 160, 0, 7, 3, 167, 0, 4, 26, 6, 184, 0, 72, 177]
abbrev dktX1_checkBuffer_0 : List UInt8 := dkwX1_checkBuffer_0 ++ []
theorem dksX1_checkBuffer_0 : cX1_checkBuffer.data.toList.drop 0 = dktX1_checkBuffer_0 := by decide +kernel
theorem dX1_checkBuffer_0 : decode cX1_checkBuffer 0 = .ok (.iload_n 0, 1) := dk_26 (dk_at dksX1_checkBuffer_0 0 rfl rfl)
theorem dX1_checkBuffer_1 : decode cX1_checkBuffer 1 = .ok (.iconst (-1), 1) := dk_2 (dk_at dksX1_checkBuffer_0 1 rfl rfl)
theorem dX1_checkBuffer_2 : decode cX1_checkBuffer 2 = .ok (.if_icmp .ne 7, 3) := dk_160 0 7 (dk_at dksX1_checkBuffer_0 2 rfl rfl)
theorem dX1_checkBuffer_5 : decode cX1_checkBuffer 5 = .ok (.iconst 0, 1) := dk_3 (dk_at dksX1_checkBuffer_0 5 rfl rfl)
theorem dX1_checkBuffer_6 : decode cX1_checkBuffer 6 = .ok (.goto 4, 3) := dk_167 0 4 (dk_at dksX1_checkBuffer_0 6 rfl rfl)
theorem dX1_checkBuffer_9 : decode cX1_checkBuffer 9 = .ok (.iload_n 0, 1) := dk_26 (dk_at dksX1_checkBuffer_0 9 rfl rfl)
theorem dX1_checkBuffer_10 : decode cX1_checkBuffer 10 = .ok (.iconst 3, 1) := dk_6 (dk_at dksX1_checkBuffer_0 10 rfl rfl)
theorem dX1_checkBuffer_11 : decode cX1_checkBuffer 11 = .ok (.invokestatic 72, 3) := dk_184 0 72 (dk_at dksX1_checkBuffer_0 11 rfl rfl)
theorem dX1_checkBuffer_14 : decode cX1_checkBuffer 14 = .ok (.return_, 1) := dk_177 (dk_at dksX1_checkBuffer_0 14 rfl rfl)
abbrev cX1_withdraw : ByteArray := prog_1_method_23_code
def yX1_withdraw : MethodName := ⟨RX1, "withdraw", "(I)I"⟩
def dkwX1_withdraw_3 : List UInt8 := [181, 0, 249, 42, 44, 182, 0, 170, 45, 180, 0, 252, 172]
abbrev dktX1_withdraw_3 : List UInt8 := dkwX1_withdraw_3 ++ []
def dkwX1_withdraw_2 : List UInt8 := [50, 180, 0, 154, 182, 0, 243, 192, 0, 148, 78, 45, 6, 181, 0, 246, 44, 89, 180, 0, 249, 4, 96]
abbrev dktX1_withdraw_2 : List UInt8 := dkwX1_withdraw_2 ++ dktX1_withdraw_3
def dkwX1_withdraw_1 : List UInt8 := [167, 0, 4, 3, 184, 0, 221, 187, 0, 25, 89, 42, 180, 0, 28, 183, 0, 163, 77, 44, 180, 0, 55, 27]
abbrev dktX1_withdraw_1 : List UInt8 := dkwX1_withdraw_1 ++ dktX1_withdraw_2
def dkwX1_withdraw_0 : List UInt8 := [27, 6, 184, 0, 72, 42, 180, 0, 28, 180, 0, 55, 27, 50, 180, 0, 154, 182, 0, 240, 154, 0, 7, 4]
abbrev dktX1_withdraw_0 : List UInt8 := dkwX1_withdraw_0 ++ dktX1_withdraw_1
theorem dksX1_withdraw_0 : cX1_withdraw.data.toList.drop 0 = dktX1_withdraw_0 := by decide +kernel
theorem dksX1_withdraw_1 : cX1_withdraw.data.toList.drop 24 = dktX1_withdraw_1 := dk_seg dksX1_withdraw_0 24 rfl rfl
theorem dksX1_withdraw_2 : cX1_withdraw.data.toList.drop 48 = dktX1_withdraw_2 := dk_seg dksX1_withdraw_1 24 rfl rfl
theorem dksX1_withdraw_3 : cX1_withdraw.data.toList.drop 71 = dktX1_withdraw_3 := dk_seg dksX1_withdraw_2 23 rfl rfl
theorem dX1_withdraw_0 : decode cX1_withdraw 0 = .ok (.iload_n 1, 1) := dk_27 (dk_at dksX1_withdraw_0 0 rfl rfl)
theorem dX1_withdraw_1 : decode cX1_withdraw 1 = .ok (.iconst 3, 1) := dk_6 (dk_at dksX1_withdraw_0 1 rfl rfl)
theorem dX1_withdraw_2 : decode cX1_withdraw 2 = .ok (.invokestatic 72, 3) := dk_184 0 72 (dk_at dksX1_withdraw_0 2 rfl rfl)
theorem dX1_withdraw_5 : decode cX1_withdraw 5 = .ok (.aload_n 0, 1) := dk_42 (dk_at dksX1_withdraw_0 5 rfl rfl)
theorem dX1_withdraw_6 : decode cX1_withdraw 6 = .ok (.getfield 28, 3) := dk_180 0 28 (dk_at dksX1_withdraw_0 6 rfl rfl)
theorem dX1_withdraw_9 : decode cX1_withdraw 9 = .ok (.getfield 55, 3) := dk_180 0 55 (dk_at dksX1_withdraw_0 9 rfl rfl)
theorem dX1_withdraw_12 : decode cX1_withdraw 12 = .ok (.iload_n 1, 1) := dk_27 (dk_at dksX1_withdraw_0 12 rfl rfl)
theorem dX1_withdraw_13 : decode cX1_withdraw 13 = .ok (.aaload, 1) := dk_50 (dk_at dksX1_withdraw_0 13 rfl rfl)
theorem dX1_withdraw_14 : decode cX1_withdraw 14 = .ok (.getfield 154, 3) := dk_180 0 154 (dk_at dksX1_withdraw_0 14 rfl rfl)
theorem dX1_withdraw_17 : decode cX1_withdraw 17 = .ok (.invokevirtual 240, 3) := dk_182 0 240 (dk_at dksX1_withdraw_0 17 rfl rfl)
theorem dX1_withdraw_20 : decode cX1_withdraw 20 = .ok (.ifCond .ne 7, 3) := dk_154 0 7 (dk_at dksX1_withdraw_0 20 rfl rfl)
theorem dX1_withdraw_23 : decode cX1_withdraw 23 = .ok (.iconst 1, 1) := dk_4 (dk_at dksX1_withdraw_0 23 rfl rfl)
theorem dX1_withdraw_24 : decode cX1_withdraw 24 = .ok (.goto 4, 3) := dk_167 0 4 (dk_at dksX1_withdraw_1 0 rfl rfl)
theorem dX1_withdraw_27 : decode cX1_withdraw 27 = .ok (.iconst 0, 1) := dk_3 (dk_at dksX1_withdraw_1 3 rfl rfl)
theorem dX1_withdraw_28 : decode cX1_withdraw 28 = .ok (.invokestatic 221, 3) := dk_184 0 221 (dk_at dksX1_withdraw_1 4 rfl rfl)
theorem dX1_withdraw_31 : decode cX1_withdraw 31 = .ok (.new 25, 3) := dk_187 0 25 (dk_at dksX1_withdraw_1 7 rfl rfl)
theorem dX1_withdraw_34 : decode cX1_withdraw 34 = .ok (.dup, 1) := dk_89 (dk_at dksX1_withdraw_1 10 rfl rfl)
theorem dX1_withdraw_35 : decode cX1_withdraw 35 = .ok (.aload_n 0, 1) := dk_42 (dk_at dksX1_withdraw_1 11 rfl rfl)
theorem dX1_withdraw_36 : decode cX1_withdraw 36 = .ok (.getfield 28, 3) := dk_180 0 28 (dk_at dksX1_withdraw_1 12 rfl rfl)
theorem dX1_withdraw_39 : decode cX1_withdraw 39 = .ok (.invokespecial 163, 3) := dk_183 0 163 (dk_at dksX1_withdraw_1 15 rfl rfl)
theorem dX1_withdraw_42 : decode cX1_withdraw 42 = .ok (.astore_n 2, 1) := dk_77 (dk_at dksX1_withdraw_1 18 rfl rfl)
theorem dX1_withdraw_43 : decode cX1_withdraw 43 = .ok (.aload_n 2, 1) := dk_44 (dk_at dksX1_withdraw_1 19 rfl rfl)
theorem dX1_withdraw_44 : decode cX1_withdraw 44 = .ok (.getfield 55, 3) := dk_180 0 55 (dk_at dksX1_withdraw_1 20 rfl rfl)
theorem dX1_withdraw_47 : decode cX1_withdraw 47 = .ok (.iload_n 1, 1) := dk_27 (dk_at dksX1_withdraw_1 23 rfl rfl)
theorem dX1_withdraw_48 : decode cX1_withdraw 48 = .ok (.aaload, 1) := dk_50 (dk_at dksX1_withdraw_2 0 rfl rfl)
theorem dX1_withdraw_49 : decode cX1_withdraw 49 = .ok (.getfield 154, 3) := dk_180 0 154 (dk_at dksX1_withdraw_2 1 rfl rfl)
theorem dX1_withdraw_52 : decode cX1_withdraw 52 = .ok (.invokevirtual 243, 3) := dk_182 0 243 (dk_at dksX1_withdraw_2 4 rfl rfl)
theorem dX1_withdraw_55 : decode cX1_withdraw 55 = .ok (.checkcast 148, 3) := dk_192 0 148 (dk_at dksX1_withdraw_2 7 rfl rfl)
theorem dX1_withdraw_58 : decode cX1_withdraw 58 = .ok (.astore_n 3, 1) := dk_78 (dk_at dksX1_withdraw_2 10 rfl rfl)
theorem dX1_withdraw_59 : decode cX1_withdraw 59 = .ok (.aload_n 3, 1) := dk_45 (dk_at dksX1_withdraw_2 11 rfl rfl)
theorem dX1_withdraw_60 : decode cX1_withdraw 60 = .ok (.iconst 3, 1) := dk_6 (dk_at dksX1_withdraw_2 12 rfl rfl)
theorem dX1_withdraw_61 : decode cX1_withdraw 61 = .ok (.putfield 246, 3) := dk_181 0 246 (dk_at dksX1_withdraw_2 13 rfl rfl)
theorem dX1_withdraw_64 : decode cX1_withdraw 64 = .ok (.aload_n 2, 1) := dk_44 (dk_at dksX1_withdraw_2 16 rfl rfl)
theorem dX1_withdraw_65 : decode cX1_withdraw 65 = .ok (.dup, 1) := dk_89 (dk_at dksX1_withdraw_2 17 rfl rfl)
theorem dX1_withdraw_66 : decode cX1_withdraw 66 = .ok (.getfield 249, 3) := dk_180 0 249 (dk_at dksX1_withdraw_2 18 rfl rfl)
theorem dX1_withdraw_69 : decode cX1_withdraw 69 = .ok (.iconst 1, 1) := dk_4 (dk_at dksX1_withdraw_2 21 rfl rfl)
theorem dX1_withdraw_70 : decode cX1_withdraw 70 = .ok (.iadd, 1) := dk_96 (dk_at dksX1_withdraw_2 22 rfl rfl)
theorem dX1_withdraw_71 : decode cX1_withdraw 71 = .ok (.putfield 249, 3) := dk_181 0 249 (dk_at dksX1_withdraw_3 0 rfl rfl)
theorem dX1_withdraw_74 : decode cX1_withdraw 74 = .ok (.aload_n 0, 1) := dk_42 (dk_at dksX1_withdraw_3 3 rfl rfl)
theorem dX1_withdraw_75 : decode cX1_withdraw 75 = .ok (.aload_n 2, 1) := dk_44 (dk_at dksX1_withdraw_3 4 rfl rfl)
theorem dX1_withdraw_76 : decode cX1_withdraw 76 = .ok (.invokevirtual 170, 3) := dk_182 0 170 (dk_at dksX1_withdraw_3 5 rfl rfl)
theorem dX1_withdraw_79 : decode cX1_withdraw 79 = .ok (.aload_n 3, 1) := dk_45 (dk_at dksX1_withdraw_3 8 rfl rfl)
theorem dX1_withdraw_80 : decode cX1_withdraw 80 = .ok (.getfield 252, 3) := dk_180 0 252 (dk_at dksX1_withdraw_3 9 rfl rfl)
theorem dX1_withdraw_83 : decode cX1_withdraw 83 = .ok (.ireturn, 1) := dk_172 (dk_at dksX1_withdraw_3 12 rfl rfl)
abbrev cX1_job : ByteArray := prog_1_method_24_code
def yX1_job : MethodName := ⟨RX1, "job", "(II)I"⟩
def dkwX1_job_1 : List UInt8 := [42, 180, 0, 28, 180, 0, 141, 27, 182, 0, 253, 192, 0, 148, 28, 182, 1, 1, 172]
abbrev dktX1_job_1 : List UInt8 := dkwX1_job_1 ++ []
def dkwX1_job_0 : List UInt8 := [27, 42, 180, 0, 28, 180, 0, 141, 182, 0, 145, 184, 0, 72, 28, 3, 16, 8, 184, 0, 10, 184, 0, 76]
abbrev dktX1_job_0 : List UInt8 := dkwX1_job_0 ++ dktX1_job_1
theorem dksX1_job_0 : cX1_job.data.toList.drop 0 = dktX1_job_0 := by decide +kernel
theorem dksX1_job_1 : cX1_job.data.toList.drop 24 = dktX1_job_1 := dk_seg dksX1_job_0 24 rfl rfl
theorem dX1_job_0 : decode cX1_job 0 = .ok (.iload_n 1, 1) := dk_27 (dk_at dksX1_job_0 0 rfl rfl)
theorem dX1_job_1 : decode cX1_job 1 = .ok (.aload_n 0, 1) := dk_42 (dk_at dksX1_job_0 1 rfl rfl)
theorem dX1_job_2 : decode cX1_job 2 = .ok (.getfield 28, 3) := dk_180 0 28 (dk_at dksX1_job_0 2 rfl rfl)
theorem dX1_job_5 : decode cX1_job 5 = .ok (.getfield 141, 3) := dk_180 0 141 (dk_at dksX1_job_0 5 rfl rfl)
theorem dX1_job_8 : decode cX1_job 8 = .ok (.invokevirtual 145, 3) := dk_182 0 145 (dk_at dksX1_job_0 8 rfl rfl)
theorem dX1_job_11 : decode cX1_job 11 = .ok (.invokestatic 72, 3) := dk_184 0 72 (dk_at dksX1_job_0 11 rfl rfl)
theorem dX1_job_14 : decode cX1_job 14 = .ok (.iload_n 2, 1) := dk_28 (dk_at dksX1_job_0 14 rfl rfl)
theorem dX1_job_15 : decode cX1_job 15 = .ok (.iconst 0, 1) := dk_3 (dk_at dksX1_job_0 15 rfl rfl)
theorem dX1_job_16 : decode cX1_job 16 = .ok (.bipush 8, 2) := dk_16 8 (dk_at dksX1_job_0 16 rfl rfl)
theorem dX1_job_18 : decode cX1_job 18 = .ok (.invokestatic 10, 3) := dk_184 0 10 (dk_at dksX1_job_0 18 rfl rfl)
theorem dX1_job_21 : decode cX1_job 21 = .ok (.invokestatic 76, 3) := dk_184 0 76 (dk_at dksX1_job_0 21 rfl rfl)
theorem dX1_job_24 : decode cX1_job 24 = .ok (.aload_n 0, 1) := dk_42 (dk_at dksX1_job_1 0 rfl rfl)
theorem dX1_job_25 : decode cX1_job 25 = .ok (.getfield 28, 3) := dk_180 0 28 (dk_at dksX1_job_1 1 rfl rfl)
theorem dX1_job_28 : decode cX1_job 28 = .ok (.getfield 141, 3) := dk_180 0 141 (dk_at dksX1_job_1 4 rfl rfl)
theorem dX1_job_31 : decode cX1_job 31 = .ok (.iload_n 1, 1) := dk_27 (dk_at dksX1_job_1 7 rfl rfl)
theorem dX1_job_32 : decode cX1_job 32 = .ok (.invokevirtual 253, 3) := dk_182 0 253 (dk_at dksX1_job_1 8 rfl rfl)
theorem dX1_job_35 : decode cX1_job 35 = .ok (.checkcast 148, 3) := dk_192 0 148 (dk_at dksX1_job_1 11 rfl rfl)
theorem dX1_job_38 : decode cX1_job 38 = .ok (.iload_n 2, 1) := dk_28 (dk_at dksX1_job_1 14 rfl rfl)
theorem dX1_job_39 : decode cX1_job 39 = .ok (.invokevirtual 257, 3) := dk_182 1 1 (dk_at dksX1_job_1 15 rfl rfl)
theorem dX1_job_42 : decode cX1_job 42 = .ok (.ireturn, 1) := dk_172 (dk_at dksX1_job_1 18 rfl rfl)
abbrev cX1_arm : ByteArray := prog_1_method_25_code
def yX1_arm : MethodName := ⟨RX1, "arm", "(II)I"⟩
def dkwX1_arm_1 : List UInt8 := [28, 182, 1, 4, 172]
abbrev dktX1_arm_1 : List UInt8 := dkwX1_arm_1 ++ []
def dkwX1_arm_0 : List UInt8 := [27, 6, 184, 0, 72, 28, 3, 16, 9, 184, 0, 10, 184, 0, 76, 42, 180, 0, 28, 180, 0, 55, 27, 50]
abbrev dktX1_arm_0 : List UInt8 := dkwX1_arm_0 ++ dktX1_arm_1
theorem dksX1_arm_0 : cX1_arm.data.toList.drop 0 = dktX1_arm_0 := by decide +kernel
theorem dksX1_arm_1 : cX1_arm.data.toList.drop 24 = dktX1_arm_1 := dk_seg dksX1_arm_0 24 rfl rfl
theorem dX1_arm_0 : decode cX1_arm 0 = .ok (.iload_n 1, 1) := dk_27 (dk_at dksX1_arm_0 0 rfl rfl)
theorem dX1_arm_1 : decode cX1_arm 1 = .ok (.iconst 3, 1) := dk_6 (dk_at dksX1_arm_0 1 rfl rfl)
theorem dX1_arm_2 : decode cX1_arm 2 = .ok (.invokestatic 72, 3) := dk_184 0 72 (dk_at dksX1_arm_0 2 rfl rfl)
theorem dX1_arm_5 : decode cX1_arm 5 = .ok (.iload_n 2, 1) := dk_28 (dk_at dksX1_arm_0 5 rfl rfl)
theorem dX1_arm_6 : decode cX1_arm 6 = .ok (.iconst 0, 1) := dk_3 (dk_at dksX1_arm_0 6 rfl rfl)
theorem dX1_arm_7 : decode cX1_arm 7 = .ok (.bipush 9, 2) := dk_16 9 (dk_at dksX1_arm_0 7 rfl rfl)
theorem dX1_arm_9 : decode cX1_arm 9 = .ok (.invokestatic 10, 3) := dk_184 0 10 (dk_at dksX1_arm_0 9 rfl rfl)
theorem dX1_arm_12 : decode cX1_arm 12 = .ok (.invokestatic 76, 3) := dk_184 0 76 (dk_at dksX1_arm_0 12 rfl rfl)
theorem dX1_arm_15 : decode cX1_arm 15 = .ok (.aload_n 0, 1) := dk_42 (dk_at dksX1_arm_0 15 rfl rfl)
theorem dX1_arm_16 : decode cX1_arm 16 = .ok (.getfield 28, 3) := dk_180 0 28 (dk_at dksX1_arm_0 16 rfl rfl)
theorem dX1_arm_19 : decode cX1_arm 19 = .ok (.getfield 55, 3) := dk_180 0 55 (dk_at dksX1_arm_0 19 rfl rfl)
theorem dX1_arm_22 : decode cX1_arm 22 = .ok (.iload_n 1, 1) := dk_27 (dk_at dksX1_arm_0 22 rfl rfl)
theorem dX1_arm_23 : decode cX1_arm 23 = .ok (.aaload, 1) := dk_50 (dk_at dksX1_arm_0 23 rfl rfl)
theorem dX1_arm_24 : decode cX1_arm 24 = .ok (.iload_n 2, 1) := dk_28 (dk_at dksX1_arm_1 0 rfl rfl)
theorem dX1_arm_25 : decode cX1_arm 25 = .ok (.invokevirtual 260, 3) := dk_182 1 4 (dk_at dksX1_arm_1 1 rfl rfl)
theorem dX1_arm_28 : decode cX1_arm 28 = .ok (.ireturn, 1) := dk_172 (dk_at dksX1_arm_1 4 rfl rfl)
abbrev cX1_waiting : ByteArray := prog_1_method_26_code
def yX1_waiting : MethodName := ⟨RX1, "waiting", "(II)I"⟩
def dkwX1_waiting_2 : List UInt8 := [172]
abbrev dktX1_waiting_2 : List UInt8 := dkwX1_waiting_2 ++ []
def dkwX1_waiting_1 : List UInt8 := [42, 180, 0, 28, 180, 0, 55, 27, 50, 180, 0, 154, 28, 184, 0, 224, 192, 0, 148, 78, 45, 180, 0, 252]
abbrev dktX1_waiting_1 : List UInt8 := dkwX1_waiting_1 ++ dktX1_waiting_2
def dkwX1_waiting_0 : List UInt8 := [27, 6, 184, 0, 72, 28, 42, 180, 0, 28, 180, 0, 55, 27, 50, 180, 0, 154, 182, 0, 43, 184, 0, 72]
abbrev dktX1_waiting_0 : List UInt8 := dkwX1_waiting_0 ++ dktX1_waiting_1
theorem dksX1_waiting_0 : cX1_waiting.data.toList.drop 0 = dktX1_waiting_0 := by decide +kernel
theorem dksX1_waiting_1 : cX1_waiting.data.toList.drop 24 = dktX1_waiting_1 := dk_seg dksX1_waiting_0 24 rfl rfl
theorem dksX1_waiting_2 : cX1_waiting.data.toList.drop 48 = dktX1_waiting_2 := dk_seg dksX1_waiting_1 24 rfl rfl
theorem dX1_waiting_0 : decode cX1_waiting 0 = .ok (.iload_n 1, 1) := dk_27 (dk_at dksX1_waiting_0 0 rfl rfl)
theorem dX1_waiting_1 : decode cX1_waiting 1 = .ok (.iconst 3, 1) := dk_6 (dk_at dksX1_waiting_0 1 rfl rfl)
theorem dX1_waiting_2 : decode cX1_waiting 2 = .ok (.invokestatic 72, 3) := dk_184 0 72 (dk_at dksX1_waiting_0 2 rfl rfl)
theorem dX1_waiting_5 : decode cX1_waiting 5 = .ok (.iload_n 2, 1) := dk_28 (dk_at dksX1_waiting_0 5 rfl rfl)
theorem dX1_waiting_6 : decode cX1_waiting 6 = .ok (.aload_n 0, 1) := dk_42 (dk_at dksX1_waiting_0 6 rfl rfl)
theorem dX1_waiting_7 : decode cX1_waiting 7 = .ok (.getfield 28, 3) := dk_180 0 28 (dk_at dksX1_waiting_0 7 rfl rfl)
theorem dX1_waiting_10 : decode cX1_waiting 10 = .ok (.getfield 55, 3) := dk_180 0 55 (dk_at dksX1_waiting_0 10 rfl rfl)
theorem dX1_waiting_13 : decode cX1_waiting 13 = .ok (.iload_n 1, 1) := dk_27 (dk_at dksX1_waiting_0 13 rfl rfl)
theorem dX1_waiting_14 : decode cX1_waiting 14 = .ok (.aaload, 1) := dk_50 (dk_at dksX1_waiting_0 14 rfl rfl)
theorem dX1_waiting_15 : decode cX1_waiting 15 = .ok (.getfield 154, 3) := dk_180 0 154 (dk_at dksX1_waiting_0 15 rfl rfl)
theorem dX1_waiting_18 : decode cX1_waiting 18 = .ok (.invokevirtual 43, 3) := dk_182 0 43 (dk_at dksX1_waiting_0 18 rfl rfl)
theorem dX1_waiting_21 : decode cX1_waiting 21 = .ok (.invokestatic 72, 3) := dk_184 0 72 (dk_at dksX1_waiting_0 21 rfl rfl)
theorem dX1_waiting_24 : decode cX1_waiting 24 = .ok (.aload_n 0, 1) := dk_42 (dk_at dksX1_waiting_1 0 rfl rfl)
theorem dX1_waiting_25 : decode cX1_waiting 25 = .ok (.getfield 28, 3) := dk_180 0 28 (dk_at dksX1_waiting_1 1 rfl rfl)
theorem dX1_waiting_28 : decode cX1_waiting 28 = .ok (.getfield 55, 3) := dk_180 0 55 (dk_at dksX1_waiting_1 4 rfl rfl)
theorem dX1_waiting_31 : decode cX1_waiting 31 = .ok (.iload_n 1, 1) := dk_27 (dk_at dksX1_waiting_1 7 rfl rfl)
theorem dX1_waiting_32 : decode cX1_waiting 32 = .ok (.aaload, 1) := dk_50 (dk_at dksX1_waiting_1 8 rfl rfl)
theorem dX1_waiting_33 : decode cX1_waiting 33 = .ok (.getfield 154, 3) := dk_180 0 154 (dk_at dksX1_waiting_1 9 rfl rfl)
theorem dX1_waiting_36 : decode cX1_waiting 36 = .ok (.iload_n 2, 1) := dk_28 (dk_at dksX1_waiting_1 12 rfl rfl)
theorem dX1_waiting_37 : decode cX1_waiting 37 = .ok (.invokestatic 224, 3) := dk_184 0 224 (dk_at dksX1_waiting_1 13 rfl rfl)
theorem dX1_waiting_40 : decode cX1_waiting 40 = .ok (.checkcast 148, 3) := dk_192 0 148 (dk_at dksX1_waiting_1 16 rfl rfl)
theorem dX1_waiting_43 : decode cX1_waiting 43 = .ok (.astore_n 3, 1) := dk_78 (dk_at dksX1_waiting_1 19 rfl rfl)
theorem dX1_waiting_44 : decode cX1_waiting 44 = .ok (.aload_n 3, 1) := dk_45 (dk_at dksX1_waiting_1 20 rfl rfl)
theorem dX1_waiting_45 : decode cX1_waiting 45 = .ok (.getfield 252, 3) := dk_180 0 252 (dk_at dksX1_waiting_1 21 rfl rfl)
theorem dX1_waiting_48 : decode cX1_waiting 48 = .ok (.ireturn, 1) := dk_172 (dk_at dksX1_waiting_2 0 rfl rfl)
abbrev cX1_tick : ByteArray := prog_1_method_27_code
def yX1_tick : MethodName := ⟨RX1, "tick", "(I)I"⟩
def dkwX1_tick_1 : List UInt8 := [172]
abbrev dktX1_tick_1 : List UInt8 := dkwX1_tick_1 ++ []
def dkwX1_tick_0 : List UInt8 := [187, 0, 25, 89, 42, 180, 0, 28, 183, 0, 163, 77, 44, 27, 184, 1, 5, 62, 42, 44, 182, 0, 170, 29]
abbrev dktX1_tick_0 : List UInt8 := dkwX1_tick_0 ++ dktX1_tick_1
theorem dksX1_tick_0 : cX1_tick.data.toList.drop 0 = dktX1_tick_0 := by decide +kernel
theorem dksX1_tick_1 : cX1_tick.data.toList.drop 24 = dktX1_tick_1 := dk_seg dksX1_tick_0 24 rfl rfl
theorem dX1_tick_0 : decode cX1_tick 0 = .ok (.new 25, 3) := dk_187 0 25 (dk_at dksX1_tick_0 0 rfl rfl)
theorem dX1_tick_3 : decode cX1_tick 3 = .ok (.dup, 1) := dk_89 (dk_at dksX1_tick_0 3 rfl rfl)
theorem dX1_tick_4 : decode cX1_tick 4 = .ok (.aload_n 0, 1) := dk_42 (dk_at dksX1_tick_0 4 rfl rfl)
theorem dX1_tick_5 : decode cX1_tick 5 = .ok (.getfield 28, 3) := dk_180 0 28 (dk_at dksX1_tick_0 5 rfl rfl)
theorem dX1_tick_8 : decode cX1_tick 8 = .ok (.invokespecial 163, 3) := dk_183 0 163 (dk_at dksX1_tick_0 8 rfl rfl)
theorem dX1_tick_11 : decode cX1_tick 11 = .ok (.astore_n 2, 1) := dk_77 (dk_at dksX1_tick_0 11 rfl rfl)
theorem dX1_tick_12 : decode cX1_tick 12 = .ok (.aload_n 2, 1) := dk_44 (dk_at dksX1_tick_0 12 rfl rfl)
theorem dX1_tick_13 : decode cX1_tick 13 = .ok (.iload_n 1, 1) := dk_27 (dk_at dksX1_tick_0 13 rfl rfl)
theorem dX1_tick_14 : decode cX1_tick 14 = .ok (.invokestatic 261, 3) := dk_184 1 5 (dk_at dksX1_tick_0 14 rfl rfl)
theorem dX1_tick_17 : decode cX1_tick 17 = .ok (.istore_n 3, 1) := dk_62 (dk_at dksX1_tick_0 17 rfl rfl)
theorem dX1_tick_18 : decode cX1_tick 18 = .ok (.aload_n 0, 1) := dk_42 (dk_at dksX1_tick_0 18 rfl rfl)
theorem dX1_tick_19 : decode cX1_tick 19 = .ok (.aload_n 2, 1) := dk_44 (dk_at dksX1_tick_0 19 rfl rfl)
theorem dX1_tick_20 : decode cX1_tick 20 = .ok (.invokevirtual 170, 3) := dk_182 0 170 (dk_at dksX1_tick_0 20 rfl rfl)
theorem dX1_tick_23 : decode cX1_tick 23 = .ok (.iload_n 3, 1) := dk_29 (dk_at dksX1_tick_0 23 rfl rfl)
theorem dX1_tick_24 : decode cX1_tick 24 = .ok (.ireturn, 1) := dk_172 (dk_at dksX1_tick_1 0 rfl rfl)
abbrev cX1_tickIn : ByteArray := prog_1_method_13_code
def yX1_tickIn : MethodName := ⟨RX1, "tickIn", "(LRobotCell$Cell;I)I"⟩
def dkwX1_tickIn_1 : List UInt8 := [182, 0, 160, 132, 3, 1, 167, 255, 244, 42, 180, 0, 157, 28, 100, 172]
abbrev dktX1_tickIn_1 : List UInt8 := dkwX1_tickIn_1 ++ []
def dkwX1_tickIn_0 : List UInt8 := [27, 4, 16, 50, 184, 0, 10, 184, 0, 76, 42, 180, 0, 157, 61, 3, 62, 29, 27, 162, 0, 13, 42]
abbrev dktX1_tickIn_0 : List UInt8 := dkwX1_tickIn_0 ++ dktX1_tickIn_1
theorem dksX1_tickIn_0 : cX1_tickIn.data.toList.drop 0 = dktX1_tickIn_0 := by decide +kernel
theorem dksX1_tickIn_1 : cX1_tickIn.data.toList.drop 23 = dktX1_tickIn_1 := dk_seg dksX1_tickIn_0 23 rfl rfl
theorem dX1_tickIn_0 : decode cX1_tickIn 0 = .ok (.iload_n 1, 1) := dk_27 (dk_at dksX1_tickIn_0 0 rfl rfl)
theorem dX1_tickIn_1 : decode cX1_tickIn 1 = .ok (.iconst 1, 1) := dk_4 (dk_at dksX1_tickIn_0 1 rfl rfl)
theorem dX1_tickIn_2 : decode cX1_tickIn 2 = .ok (.bipush 50, 2) := dk_16 50 (dk_at dksX1_tickIn_0 2 rfl rfl)
theorem dX1_tickIn_4 : decode cX1_tickIn 4 = .ok (.invokestatic 10, 3) := dk_184 0 10 (dk_at dksX1_tickIn_0 4 rfl rfl)
theorem dX1_tickIn_7 : decode cX1_tickIn 7 = .ok (.invokestatic 76, 3) := dk_184 0 76 (dk_at dksX1_tickIn_0 7 rfl rfl)
theorem dX1_tickIn_10 : decode cX1_tickIn 10 = .ok (.aload_n 0, 1) := dk_42 (dk_at dksX1_tickIn_0 10 rfl rfl)
theorem dX1_tickIn_11 : decode cX1_tickIn 11 = .ok (.getfield 157, 3) := dk_180 0 157 (dk_at dksX1_tickIn_0 11 rfl rfl)
theorem dX1_tickIn_14 : decode cX1_tickIn 14 = .ok (.istore_n 2, 1) := dk_61 (dk_at dksX1_tickIn_0 14 rfl rfl)
theorem dX1_tickIn_15 : decode cX1_tickIn 15 = .ok (.iconst 0, 1) := dk_3 (dk_at dksX1_tickIn_0 15 rfl rfl)
theorem dX1_tickIn_16 : decode cX1_tickIn 16 = .ok (.istore_n 3, 1) := dk_62 (dk_at dksX1_tickIn_0 16 rfl rfl)
theorem dX1_tickIn_17 : decode cX1_tickIn 17 = .ok (.iload_n 3, 1) := dk_29 (dk_at dksX1_tickIn_0 17 rfl rfl)
theorem dX1_tickIn_18 : decode cX1_tickIn 18 = .ok (.iload_n 1, 1) := dk_27 (dk_at dksX1_tickIn_0 18 rfl rfl)
theorem dX1_tickIn_19 : decode cX1_tickIn 19 = .ok (.if_icmp .ge 13, 3) := dk_162 0 13 (dk_at dksX1_tickIn_0 19 rfl rfl)
theorem dX1_tickIn_22 : decode cX1_tickIn 22 = .ok (.aload_n 0, 1) := dk_42 (dk_at dksX1_tickIn_0 22 rfl rfl)
theorem dX1_tickIn_23 : decode cX1_tickIn 23 = .ok (.invokevirtual 160, 3) := dk_182 0 160 (dk_at dksX1_tickIn_1 0 rfl rfl)
theorem dX1_tickIn_26 : decode cX1_tickIn 26 = .ok (.iinc 3 1, 3) := dk_132 3 1 (dk_at dksX1_tickIn_1 3 rfl rfl)
theorem dX1_tickIn_29 : decode cX1_tickIn 29 = .ok (.goto (-12), 3) := dk_167 255 244 (dk_at dksX1_tickIn_1 6 rfl rfl)
theorem dX1_tickIn_32 : decode cX1_tickIn 32 = .ok (.aload_n 0, 1) := dk_42 (dk_at dksX1_tickIn_1 9 rfl rfl)
theorem dX1_tickIn_33 : decode cX1_tickIn 33 = .ok (.getfield 157, 3) := dk_180 0 157 (dk_at dksX1_tickIn_1 10 rfl rfl)
theorem dX1_tickIn_36 : decode cX1_tickIn 36 = .ok (.iload_n 2, 1) := dk_28 (dk_at dksX1_tickIn_1 13 rfl rfl)
theorem dX1_tickIn_37 : decode cX1_tickIn 37 = .ok (.isub, 1) := dk_100 (dk_at dksX1_tickIn_1 14 rfl rfl)
theorem dX1_tickIn_38 : decode cX1_tickIn 38 = .ok (.ireturn, 1) := dk_172 (dk_at dksX1_tickIn_1 15 rfl rfl)
abbrev cX1_reason : ByteArray := prog_1_method_28_code
def yX1_reason : MethodName := ⟨RX1, "reason", "(IZ)I"⟩
def dkwX1_reason_2 : List UInt8 := [180, 0, 28, 180, 0, 55, 27, 50, 180, 1, 14, 172]
abbrev dktX1_reason_2 : List UInt8 := dkwX1_reason_2 ++ []
def dkwX1_reason_1 : List UInt8 := [3, 184, 0, 221, 28, 153, 0, 18, 42, 180, 0, 28, 180, 0, 55, 27, 50, 180, 1, 11, 167, 0, 15, 42]
abbrev dktX1_reason_1 : List UInt8 := dkwX1_reason_1 ++ dktX1_reason_2
def dkwX1_reason_0 : List UInt8 := [27, 6, 184, 0, 72, 42, 180, 0, 28, 180, 0, 55, 27, 50, 180, 1, 8, 158, 0, 7, 4, 167, 0, 4]
abbrev dktX1_reason_0 : List UInt8 := dkwX1_reason_0 ++ dktX1_reason_1
theorem dksX1_reason_0 : cX1_reason.data.toList.drop 0 = dktX1_reason_0 := by decide +kernel
theorem dksX1_reason_1 : cX1_reason.data.toList.drop 24 = dktX1_reason_1 := dk_seg dksX1_reason_0 24 rfl rfl
theorem dksX1_reason_2 : cX1_reason.data.toList.drop 48 = dktX1_reason_2 := dk_seg dksX1_reason_1 24 rfl rfl
theorem dX1_reason_0 : decode cX1_reason 0 = .ok (.iload_n 1, 1) := dk_27 (dk_at dksX1_reason_0 0 rfl rfl)
theorem dX1_reason_1 : decode cX1_reason 1 = .ok (.iconst 3, 1) := dk_6 (dk_at dksX1_reason_0 1 rfl rfl)
theorem dX1_reason_2 : decode cX1_reason 2 = .ok (.invokestatic 72, 3) := dk_184 0 72 (dk_at dksX1_reason_0 2 rfl rfl)
theorem dX1_reason_5 : decode cX1_reason 5 = .ok (.aload_n 0, 1) := dk_42 (dk_at dksX1_reason_0 5 rfl rfl)
theorem dX1_reason_6 : decode cX1_reason 6 = .ok (.getfield 28, 3) := dk_180 0 28 (dk_at dksX1_reason_0 6 rfl rfl)
theorem dX1_reason_9 : decode cX1_reason 9 = .ok (.getfield 55, 3) := dk_180 0 55 (dk_at dksX1_reason_0 9 rfl rfl)
theorem dX1_reason_12 : decode cX1_reason 12 = .ok (.iload_n 1, 1) := dk_27 (dk_at dksX1_reason_0 12 rfl rfl)
theorem dX1_reason_13 : decode cX1_reason 13 = .ok (.aaload, 1) := dk_50 (dk_at dksX1_reason_0 13 rfl rfl)
theorem dX1_reason_14 : decode cX1_reason 14 = .ok (.getfield 264, 3) := dk_180 1 8 (dk_at dksX1_reason_0 14 rfl rfl)
theorem dX1_reason_17 : decode cX1_reason 17 = .ok (.ifCond .le 7, 3) := dk_158 0 7 (dk_at dksX1_reason_0 17 rfl rfl)
theorem dX1_reason_20 : decode cX1_reason 20 = .ok (.iconst 1, 1) := dk_4 (dk_at dksX1_reason_0 20 rfl rfl)
theorem dX1_reason_21 : decode cX1_reason 21 = .ok (.goto 4, 3) := dk_167 0 4 (dk_at dksX1_reason_0 21 rfl rfl)
theorem dX1_reason_24 : decode cX1_reason 24 = .ok (.iconst 0, 1) := dk_3 (dk_at dksX1_reason_1 0 rfl rfl)
theorem dX1_reason_25 : decode cX1_reason 25 = .ok (.invokestatic 221, 3) := dk_184 0 221 (dk_at dksX1_reason_1 1 rfl rfl)
theorem dX1_reason_28 : decode cX1_reason 28 = .ok (.iload_n 2, 1) := dk_28 (dk_at dksX1_reason_1 4 rfl rfl)
theorem dX1_reason_29 : decode cX1_reason 29 = .ok (.ifCond .eq 18, 3) := dk_153 0 18 (dk_at dksX1_reason_1 5 rfl rfl)
theorem dX1_reason_32 : decode cX1_reason 32 = .ok (.aload_n 0, 1) := dk_42 (dk_at dksX1_reason_1 8 rfl rfl)
theorem dX1_reason_33 : decode cX1_reason 33 = .ok (.getfield 28, 3) := dk_180 0 28 (dk_at dksX1_reason_1 9 rfl rfl)
theorem dX1_reason_36 : decode cX1_reason 36 = .ok (.getfield 55, 3) := dk_180 0 55 (dk_at dksX1_reason_1 12 rfl rfl)
theorem dX1_reason_39 : decode cX1_reason 39 = .ok (.iload_n 1, 1) := dk_27 (dk_at dksX1_reason_1 15 rfl rfl)
theorem dX1_reason_40 : decode cX1_reason 40 = .ok (.aaload, 1) := dk_50 (dk_at dksX1_reason_1 16 rfl rfl)
theorem dX1_reason_41 : decode cX1_reason 41 = .ok (.getfield 267, 3) := dk_180 1 11 (dk_at dksX1_reason_1 17 rfl rfl)
theorem dX1_reason_44 : decode cX1_reason 44 = .ok (.goto 15, 3) := dk_167 0 15 (dk_at dksX1_reason_1 20 rfl rfl)
theorem dX1_reason_47 : decode cX1_reason 47 = .ok (.aload_n 0, 1) := dk_42 (dk_at dksX1_reason_1 23 rfl rfl)
theorem dX1_reason_48 : decode cX1_reason 48 = .ok (.getfield 28, 3) := dk_180 0 28 (dk_at dksX1_reason_2 0 rfl rfl)
theorem dX1_reason_51 : decode cX1_reason 51 = .ok (.getfield 55, 3) := dk_180 0 55 (dk_at dksX1_reason_2 3 rfl rfl)
theorem dX1_reason_54 : decode cX1_reason 54 = .ok (.iload_n 1, 1) := dk_27 (dk_at dksX1_reason_2 6 rfl rfl)
theorem dX1_reason_55 : decode cX1_reason 55 = .ok (.aaload, 1) := dk_50 (dk_at dksX1_reason_2 7 rfl rfl)
theorem dX1_reason_56 : decode cX1_reason 56 = .ok (.getfield 270, 3) := dk_180 1 14 (dk_at dksX1_reason_2 8 rfl rfl)
theorem dX1_reason_59 : decode cX1_reason 59 = .ok (.ireturn, 1) := dk_172 (dk_at dksX1_reason_2 11 rfl rfl)
abbrev cX1_wouldBe : ByteArray := prog_1_method_29_code
def yX1_wouldBe : MethodName := ⟨RX1, "wouldBe", "(I)I"⟩
def dkwX1_wouldBe_2 : List UInt8 := [44, 182, 1, 18, 184, 0, 221, 44, 182, 1, 19, 172]
abbrev dktX1_wouldBe_2 : List UInt8 := dkwX1_wouldBe_2 ++ []
def dkwX1_wouldBe_1 : List UInt8 := [180, 1, 17, 154, 0, 21, 44, 180, 0, 154, 182, 0, 240, 154, 0, 7, 4, 167, 0, 11, 3, 167, 0, 7]
abbrev dktX1_wouldBe_1 : List UInt8 := dkwX1_wouldBe_1 ++ dktX1_wouldBe_2
def dkwX1_wouldBe_0 : List UInt8 := [27, 6, 184, 0, 72, 187, 0, 25, 89, 42, 180, 0, 28, 183, 0, 163, 180, 0, 55, 27, 50, 77, 44]
abbrev dktX1_wouldBe_0 : List UInt8 := dkwX1_wouldBe_0 ++ dktX1_wouldBe_1
theorem dksX1_wouldBe_0 : cX1_wouldBe.data.toList.drop 0 = dktX1_wouldBe_0 := by decide +kernel
theorem dksX1_wouldBe_1 : cX1_wouldBe.data.toList.drop 23 = dktX1_wouldBe_1 := dk_seg dksX1_wouldBe_0 23 rfl rfl
theorem dksX1_wouldBe_2 : cX1_wouldBe.data.toList.drop 47 = dktX1_wouldBe_2 := dk_seg dksX1_wouldBe_1 24 rfl rfl
theorem dX1_wouldBe_0 : decode cX1_wouldBe 0 = .ok (.iload_n 1, 1) := dk_27 (dk_at dksX1_wouldBe_0 0 rfl rfl)
theorem dX1_wouldBe_1 : decode cX1_wouldBe 1 = .ok (.iconst 3, 1) := dk_6 (dk_at dksX1_wouldBe_0 1 rfl rfl)
theorem dX1_wouldBe_2 : decode cX1_wouldBe 2 = .ok (.invokestatic 72, 3) := dk_184 0 72 (dk_at dksX1_wouldBe_0 2 rfl rfl)
theorem dX1_wouldBe_5 : decode cX1_wouldBe 5 = .ok (.new 25, 3) := dk_187 0 25 (dk_at dksX1_wouldBe_0 5 rfl rfl)
theorem dX1_wouldBe_8 : decode cX1_wouldBe 8 = .ok (.dup, 1) := dk_89 (dk_at dksX1_wouldBe_0 8 rfl rfl)
theorem dX1_wouldBe_9 : decode cX1_wouldBe 9 = .ok (.aload_n 0, 1) := dk_42 (dk_at dksX1_wouldBe_0 9 rfl rfl)
theorem dX1_wouldBe_10 : decode cX1_wouldBe 10 = .ok (.getfield 28, 3) := dk_180 0 28 (dk_at dksX1_wouldBe_0 10 rfl rfl)
theorem dX1_wouldBe_13 : decode cX1_wouldBe 13 = .ok (.invokespecial 163, 3) := dk_183 0 163 (dk_at dksX1_wouldBe_0 13 rfl rfl)
theorem dX1_wouldBe_16 : decode cX1_wouldBe 16 = .ok (.getfield 55, 3) := dk_180 0 55 (dk_at dksX1_wouldBe_0 16 rfl rfl)
theorem dX1_wouldBe_19 : decode cX1_wouldBe 19 = .ok (.iload_n 1, 1) := dk_27 (dk_at dksX1_wouldBe_0 19 rfl rfl)
theorem dX1_wouldBe_20 : decode cX1_wouldBe 20 = .ok (.aaload, 1) := dk_50 (dk_at dksX1_wouldBe_0 20 rfl rfl)
theorem dX1_wouldBe_21 : decode cX1_wouldBe 21 = .ok (.astore_n 2, 1) := dk_77 (dk_at dksX1_wouldBe_0 21 rfl rfl)
theorem dX1_wouldBe_22 : decode cX1_wouldBe 22 = .ok (.aload_n 2, 1) := dk_44 (dk_at dksX1_wouldBe_0 22 rfl rfl)
theorem dX1_wouldBe_23 : decode cX1_wouldBe 23 = .ok (.getfield 273, 3) := dk_180 1 17 (dk_at dksX1_wouldBe_1 0 rfl rfl)
theorem dX1_wouldBe_26 : decode cX1_wouldBe 26 = .ok (.ifCond .ne 21, 3) := dk_154 0 21 (dk_at dksX1_wouldBe_1 3 rfl rfl)
theorem dX1_wouldBe_29 : decode cX1_wouldBe 29 = .ok (.aload_n 2, 1) := dk_44 (dk_at dksX1_wouldBe_1 6 rfl rfl)
theorem dX1_wouldBe_30 : decode cX1_wouldBe 30 = .ok (.getfield 154, 3) := dk_180 0 154 (dk_at dksX1_wouldBe_1 7 rfl rfl)
theorem dX1_wouldBe_33 : decode cX1_wouldBe 33 = .ok (.invokevirtual 240, 3) := dk_182 0 240 (dk_at dksX1_wouldBe_1 10 rfl rfl)
theorem dX1_wouldBe_36 : decode cX1_wouldBe 36 = .ok (.ifCond .ne 7, 3) := dk_154 0 7 (dk_at dksX1_wouldBe_1 13 rfl rfl)
theorem dX1_wouldBe_39 : decode cX1_wouldBe 39 = .ok (.iconst 1, 1) := dk_4 (dk_at dksX1_wouldBe_1 16 rfl rfl)
theorem dX1_wouldBe_40 : decode cX1_wouldBe 40 = .ok (.goto 11, 3) := dk_167 0 11 (dk_at dksX1_wouldBe_1 17 rfl rfl)
theorem dX1_wouldBe_43 : decode cX1_wouldBe 43 = .ok (.iconst 0, 1) := dk_3 (dk_at dksX1_wouldBe_1 20 rfl rfl)
theorem dX1_wouldBe_44 : decode cX1_wouldBe 44 = .ok (.goto 7, 3) := dk_167 0 7 (dk_at dksX1_wouldBe_1 21 rfl rfl)
theorem dX1_wouldBe_47 : decode cX1_wouldBe 47 = .ok (.aload_n 2, 1) := dk_44 (dk_at dksX1_wouldBe_2 0 rfl rfl)
theorem dX1_wouldBe_48 : decode cX1_wouldBe 48 = .ok (.invokevirtual 274, 3) := dk_182 1 18 (dk_at dksX1_wouldBe_2 1 rfl rfl)
theorem dX1_wouldBe_51 : decode cX1_wouldBe 51 = .ok (.invokestatic 221, 3) := dk_184 0 221 (dk_at dksX1_wouldBe_2 4 rfl rfl)
theorem dX1_wouldBe_54 : decode cX1_wouldBe 54 = .ok (.aload_n 2, 1) := dk_44 (dk_at dksX1_wouldBe_2 7 rfl rfl)
theorem dX1_wouldBe_55 : decode cX1_wouldBe 55 = .ok (.invokevirtual 275, 3) := dk_182 1 19 (dk_at dksX1_wouldBe_2 8 rfl rfl)
theorem dX1_wouldBe_58 : decode cX1_wouldBe 58 = .ok (.ireturn, 1) := dk_172 (dk_at dksX1_wouldBe_2 11 rfl rfl)
abbrev cX1_endsAfter : ByteArray := prog_1_method_30_code
def yX1_endsAfter : MethodName := ⟨RX1, "endsAfter", "(I)I"⟩
def dkwX1_endsAfter_4 : List UInt8 := [182, 0, 160, 132, 3, 1, 167, 255, 216, 29, 172]
abbrev dktX1_endsAfter_4 : List UInt8 := dkwX1_endsAfter_4 ++ []
def dkwX1_endsAfter_3 : List UInt8 := [180, 0, 246, 5, 159, 0, 28, 29, 17, 0, 200, 162, 0, 7, 4, 167, 0, 4, 3, 184, 0, 221, 44]
abbrev dktX1_endsAfter_3 : List UInt8 := dkwX1_endsAfter_3 ++ dktX1_endsAfter_4
def dkwX1_endsAfter_2 : List UInt8 := [89, 42, 180, 0, 28, 183, 0, 163, 77, 3, 62, 44, 180, 0, 141, 27, 182, 0, 253, 192, 0, 148]
abbrev dktX1_endsAfter_2 : List UInt8 := dkwX1_endsAfter_2 ++ dktX1_endsAfter_3
def dkwX1_endsAfter_1 : List UInt8 := [182, 0, 253, 192, 0, 148, 180, 0, 246, 6, 159, 0, 7, 4, 167, 0, 4, 3, 184, 0, 221, 187, 0, 25]
abbrev dktX1_endsAfter_1 : List UInt8 := dkwX1_endsAfter_1 ++ dktX1_endsAfter_2
def dkwX1_endsAfter_0 : List UInt8 := [27, 42, 180, 0, 28, 180, 0, 141, 182, 0, 145, 184, 0, 72, 42, 180, 0, 28, 180, 0, 141, 27]
abbrev dktX1_endsAfter_0 : List UInt8 := dkwX1_endsAfter_0 ++ dktX1_endsAfter_1
theorem dksX1_endsAfter_0 : cX1_endsAfter.data.toList.drop 0 = dktX1_endsAfter_0 := by decide +kernel
theorem dksX1_endsAfter_1 : cX1_endsAfter.data.toList.drop 22 = dktX1_endsAfter_1 := dk_seg dksX1_endsAfter_0 22 rfl rfl
theorem dksX1_endsAfter_2 : cX1_endsAfter.data.toList.drop 46 = dktX1_endsAfter_2 := dk_seg dksX1_endsAfter_1 24 rfl rfl
theorem dksX1_endsAfter_3 : cX1_endsAfter.data.toList.drop 68 = dktX1_endsAfter_3 := dk_seg dksX1_endsAfter_2 22 rfl rfl
theorem dksX1_endsAfter_4 : cX1_endsAfter.data.toList.drop 91 = dktX1_endsAfter_4 := dk_seg dksX1_endsAfter_3 23 rfl rfl
theorem dX1_endsAfter_0 : decode cX1_endsAfter 0 = .ok (.iload_n 1, 1) := dk_27 (dk_at dksX1_endsAfter_0 0 rfl rfl)
theorem dX1_endsAfter_1 : decode cX1_endsAfter 1 = .ok (.aload_n 0, 1) := dk_42 (dk_at dksX1_endsAfter_0 1 rfl rfl)
theorem dX1_endsAfter_2 : decode cX1_endsAfter 2 = .ok (.getfield 28, 3) := dk_180 0 28 (dk_at dksX1_endsAfter_0 2 rfl rfl)
theorem dX1_endsAfter_5 : decode cX1_endsAfter 5 = .ok (.getfield 141, 3) := dk_180 0 141 (dk_at dksX1_endsAfter_0 5 rfl rfl)
theorem dX1_endsAfter_8 : decode cX1_endsAfter 8 = .ok (.invokevirtual 145, 3) := dk_182 0 145 (dk_at dksX1_endsAfter_0 8 rfl rfl)
theorem dX1_endsAfter_11 : decode cX1_endsAfter 11 = .ok (.invokestatic 72, 3) := dk_184 0 72 (dk_at dksX1_endsAfter_0 11 rfl rfl)
theorem dX1_endsAfter_14 : decode cX1_endsAfter 14 = .ok (.aload_n 0, 1) := dk_42 (dk_at dksX1_endsAfter_0 14 rfl rfl)
theorem dX1_endsAfter_15 : decode cX1_endsAfter 15 = .ok (.getfield 28, 3) := dk_180 0 28 (dk_at dksX1_endsAfter_0 15 rfl rfl)
theorem dX1_endsAfter_18 : decode cX1_endsAfter 18 = .ok (.getfield 141, 3) := dk_180 0 141 (dk_at dksX1_endsAfter_0 18 rfl rfl)
theorem dX1_endsAfter_21 : decode cX1_endsAfter 21 = .ok (.iload_n 1, 1) := dk_27 (dk_at dksX1_endsAfter_0 21 rfl rfl)
theorem dX1_endsAfter_22 : decode cX1_endsAfter 22 = .ok (.invokevirtual 253, 3) := dk_182 0 253 (dk_at dksX1_endsAfter_1 0 rfl rfl)
theorem dX1_endsAfter_25 : decode cX1_endsAfter 25 = .ok (.checkcast 148, 3) := dk_192 0 148 (dk_at dksX1_endsAfter_1 3 rfl rfl)
theorem dX1_endsAfter_28 : decode cX1_endsAfter 28 = .ok (.getfield 246, 3) := dk_180 0 246 (dk_at dksX1_endsAfter_1 6 rfl rfl)
theorem dX1_endsAfter_31 : decode cX1_endsAfter 31 = .ok (.iconst 3, 1) := dk_6 (dk_at dksX1_endsAfter_1 9 rfl rfl)
theorem dX1_endsAfter_32 : decode cX1_endsAfter 32 = .ok (.if_icmp .eq 7, 3) := dk_159 0 7 (dk_at dksX1_endsAfter_1 10 rfl rfl)
theorem dX1_endsAfter_35 : decode cX1_endsAfter 35 = .ok (.iconst 1, 1) := dk_4 (dk_at dksX1_endsAfter_1 13 rfl rfl)
theorem dX1_endsAfter_36 : decode cX1_endsAfter 36 = .ok (.goto 4, 3) := dk_167 0 4 (dk_at dksX1_endsAfter_1 14 rfl rfl)
theorem dX1_endsAfter_39 : decode cX1_endsAfter 39 = .ok (.iconst 0, 1) := dk_3 (dk_at dksX1_endsAfter_1 17 rfl rfl)
theorem dX1_endsAfter_40 : decode cX1_endsAfter 40 = .ok (.invokestatic 221, 3) := dk_184 0 221 (dk_at dksX1_endsAfter_1 18 rfl rfl)
theorem dX1_endsAfter_43 : decode cX1_endsAfter 43 = .ok (.new 25, 3) := dk_187 0 25 (dk_at dksX1_endsAfter_1 21 rfl rfl)
theorem dX1_endsAfter_46 : decode cX1_endsAfter 46 = .ok (.dup, 1) := dk_89 (dk_at dksX1_endsAfter_2 0 rfl rfl)
theorem dX1_endsAfter_47 : decode cX1_endsAfter 47 = .ok (.aload_n 0, 1) := dk_42 (dk_at dksX1_endsAfter_2 1 rfl rfl)
theorem dX1_endsAfter_48 : decode cX1_endsAfter 48 = .ok (.getfield 28, 3) := dk_180 0 28 (dk_at dksX1_endsAfter_2 2 rfl rfl)
theorem dX1_endsAfter_51 : decode cX1_endsAfter 51 = .ok (.invokespecial 163, 3) := dk_183 0 163 (dk_at dksX1_endsAfter_2 5 rfl rfl)
theorem dX1_endsAfter_54 : decode cX1_endsAfter 54 = .ok (.astore_n 2, 1) := dk_77 (dk_at dksX1_endsAfter_2 8 rfl rfl)
theorem dX1_endsAfter_55 : decode cX1_endsAfter 55 = .ok (.iconst 0, 1) := dk_3 (dk_at dksX1_endsAfter_2 9 rfl rfl)
theorem dX1_endsAfter_56 : decode cX1_endsAfter 56 = .ok (.istore_n 3, 1) := dk_62 (dk_at dksX1_endsAfter_2 10 rfl rfl)
theorem dX1_endsAfter_57 : decode cX1_endsAfter 57 = .ok (.aload_n 2, 1) := dk_44 (dk_at dksX1_endsAfter_2 11 rfl rfl)
theorem dX1_endsAfter_58 : decode cX1_endsAfter 58 = .ok (.getfield 141, 3) := dk_180 0 141 (dk_at dksX1_endsAfter_2 12 rfl rfl)
theorem dX1_endsAfter_61 : decode cX1_endsAfter 61 = .ok (.iload_n 1, 1) := dk_27 (dk_at dksX1_endsAfter_2 15 rfl rfl)
theorem dX1_endsAfter_62 : decode cX1_endsAfter 62 = .ok (.invokevirtual 253, 3) := dk_182 0 253 (dk_at dksX1_endsAfter_2 16 rfl rfl)
theorem dX1_endsAfter_65 : decode cX1_endsAfter 65 = .ok (.checkcast 148, 3) := dk_192 0 148 (dk_at dksX1_endsAfter_2 19 rfl rfl)
theorem dX1_endsAfter_68 : decode cX1_endsAfter 68 = .ok (.getfield 246, 3) := dk_180 0 246 (dk_at dksX1_endsAfter_3 0 rfl rfl)
theorem dX1_endsAfter_71 : decode cX1_endsAfter 71 = .ok (.iconst 2, 1) := dk_5 (dk_at dksX1_endsAfter_3 3 rfl rfl)
theorem dX1_endsAfter_72 : decode cX1_endsAfter 72 = .ok (.if_icmp .eq 28, 3) := dk_159 0 28 (dk_at dksX1_endsAfter_3 4 rfl rfl)
theorem dX1_endsAfter_75 : decode cX1_endsAfter 75 = .ok (.iload_n 3, 1) := dk_29 (dk_at dksX1_endsAfter_3 7 rfl rfl)
theorem dX1_endsAfter_76 : decode cX1_endsAfter 76 = .ok (.sipush 200, 3) := dk_17 0 200 (dk_at dksX1_endsAfter_3 8 rfl rfl)
theorem dX1_endsAfter_79 : decode cX1_endsAfter 79 = .ok (.if_icmp .ge 7, 3) := dk_162 0 7 (dk_at dksX1_endsAfter_3 11 rfl rfl)
theorem dX1_endsAfter_82 : decode cX1_endsAfter 82 = .ok (.iconst 1, 1) := dk_4 (dk_at dksX1_endsAfter_3 14 rfl rfl)
theorem dX1_endsAfter_83 : decode cX1_endsAfter 83 = .ok (.goto 4, 3) := dk_167 0 4 (dk_at dksX1_endsAfter_3 15 rfl rfl)
theorem dX1_endsAfter_86 : decode cX1_endsAfter 86 = .ok (.iconst 0, 1) := dk_3 (dk_at dksX1_endsAfter_3 18 rfl rfl)
theorem dX1_endsAfter_87 : decode cX1_endsAfter 87 = .ok (.invokestatic 221, 3) := dk_184 0 221 (dk_at dksX1_endsAfter_3 19 rfl rfl)
theorem dX1_endsAfter_90 : decode cX1_endsAfter 90 = .ok (.aload_n 2, 1) := dk_44 (dk_at dksX1_endsAfter_3 22 rfl rfl)
theorem dX1_endsAfter_91 : decode cX1_endsAfter 91 = .ok (.invokevirtual 160, 3) := dk_182 0 160 (dk_at dksX1_endsAfter_4 0 rfl rfl)
theorem dX1_endsAfter_94 : decode cX1_endsAfter 94 = .ok (.iinc 3 1, 3) := dk_132 3 1 (dk_at dksX1_endsAfter_4 3 rfl rfl)
theorem dX1_endsAfter_97 : decode cX1_endsAfter 97 = .ok (.goto (-40), 3) := dk_167 255 216 (dk_at dksX1_endsAfter_4 6 rfl rfl)
theorem dX1_endsAfter_100 : decode cX1_endsAfter 100 = .ok (.iload_n 3, 1) := dk_29 (dk_at dksX1_endsAfter_4 9 rfl rfl)
theorem dX1_endsAfter_101 : decode cX1_endsAfter 101 = .ok (.ireturn, 1) := dk_172 (dk_at dksX1_endsAfter_4 10 rfl rfl)
abbrev cX1_idleAfter : ByteArray := prog_1_method_31_code
def yX1_idleAfter : MethodName := ⟨RX1, "idleAfter", "()I"⟩
def dkwX1_idleAfter_2 : List UInt8 := [28, 172]
abbrev dktX1_idleAfter_2 : List UInt8 := dkwX1_idleAfter_2 ++ []
def dkwX1_idleAfter_1 : List UInt8 := [17, 0, 200, 162, 0, 7, 4, 167, 0, 4, 3, 184, 0, 221, 43, 182, 0, 160, 132, 2, 1, 167, 255, 227]
abbrev dktX1_idleAfter_1 : List UInt8 := dkwX1_idleAfter_1 ++ dktX1_idleAfter_2
def dkwX1_idleAfter_0 : List UInt8 := [187, 0, 25, 89, 42, 180, 0, 28, 183, 0, 163, 76, 3, 61, 43, 182, 1, 22, 154, 0, 28, 28]
abbrev dktX1_idleAfter_0 : List UInt8 := dkwX1_idleAfter_0 ++ dktX1_idleAfter_1
theorem dksX1_idleAfter_0 : cX1_idleAfter.data.toList.drop 0 = dktX1_idleAfter_0 := by decide +kernel
theorem dksX1_idleAfter_1 : cX1_idleAfter.data.toList.drop 22 = dktX1_idleAfter_1 := dk_seg dksX1_idleAfter_0 22 rfl rfl
theorem dksX1_idleAfter_2 : cX1_idleAfter.data.toList.drop 46 = dktX1_idleAfter_2 := dk_seg dksX1_idleAfter_1 24 rfl rfl
theorem dX1_idleAfter_0 : decode cX1_idleAfter 0 = .ok (.new 25, 3) := dk_187 0 25 (dk_at dksX1_idleAfter_0 0 rfl rfl)
theorem dX1_idleAfter_3 : decode cX1_idleAfter 3 = .ok (.dup, 1) := dk_89 (dk_at dksX1_idleAfter_0 3 rfl rfl)
theorem dX1_idleAfter_4 : decode cX1_idleAfter 4 = .ok (.aload_n 0, 1) := dk_42 (dk_at dksX1_idleAfter_0 4 rfl rfl)
theorem dX1_idleAfter_5 : decode cX1_idleAfter 5 = .ok (.getfield 28, 3) := dk_180 0 28 (dk_at dksX1_idleAfter_0 5 rfl rfl)
theorem dX1_idleAfter_8 : decode cX1_idleAfter 8 = .ok (.invokespecial 163, 3) := dk_183 0 163 (dk_at dksX1_idleAfter_0 8 rfl rfl)
theorem dX1_idleAfter_11 : decode cX1_idleAfter 11 = .ok (.astore_n 1, 1) := dk_76 (dk_at dksX1_idleAfter_0 11 rfl rfl)
theorem dX1_idleAfter_12 : decode cX1_idleAfter 12 = .ok (.iconst 0, 1) := dk_3 (dk_at dksX1_idleAfter_0 12 rfl rfl)
theorem dX1_idleAfter_13 : decode cX1_idleAfter 13 = .ok (.istore_n 2, 1) := dk_61 (dk_at dksX1_idleAfter_0 13 rfl rfl)
theorem dX1_idleAfter_14 : decode cX1_idleAfter 14 = .ok (.aload_n 1, 1) := dk_43 (dk_at dksX1_idleAfter_0 14 rfl rfl)
theorem dX1_idleAfter_15 : decode cX1_idleAfter 15 = .ok (.invokevirtual 278, 3) := dk_182 1 22 (dk_at dksX1_idleAfter_0 15 rfl rfl)
theorem dX1_idleAfter_18 : decode cX1_idleAfter 18 = .ok (.ifCond .ne 28, 3) := dk_154 0 28 (dk_at dksX1_idleAfter_0 18 rfl rfl)
theorem dX1_idleAfter_21 : decode cX1_idleAfter 21 = .ok (.iload_n 2, 1) := dk_28 (dk_at dksX1_idleAfter_0 21 rfl rfl)
theorem dX1_idleAfter_22 : decode cX1_idleAfter 22 = .ok (.sipush 200, 3) := dk_17 0 200 (dk_at dksX1_idleAfter_1 0 rfl rfl)
theorem dX1_idleAfter_25 : decode cX1_idleAfter 25 = .ok (.if_icmp .ge 7, 3) := dk_162 0 7 (dk_at dksX1_idleAfter_1 3 rfl rfl)
theorem dX1_idleAfter_28 : decode cX1_idleAfter 28 = .ok (.iconst 1, 1) := dk_4 (dk_at dksX1_idleAfter_1 6 rfl rfl)
theorem dX1_idleAfter_29 : decode cX1_idleAfter 29 = .ok (.goto 4, 3) := dk_167 0 4 (dk_at dksX1_idleAfter_1 7 rfl rfl)
theorem dX1_idleAfter_32 : decode cX1_idleAfter 32 = .ok (.iconst 0, 1) := dk_3 (dk_at dksX1_idleAfter_1 10 rfl rfl)
theorem dX1_idleAfter_33 : decode cX1_idleAfter 33 = .ok (.invokestatic 221, 3) := dk_184 0 221 (dk_at dksX1_idleAfter_1 11 rfl rfl)
theorem dX1_idleAfter_36 : decode cX1_idleAfter 36 = .ok (.aload_n 1, 1) := dk_43 (dk_at dksX1_idleAfter_1 14 rfl rfl)
theorem dX1_idleAfter_37 : decode cX1_idleAfter 37 = .ok (.invokevirtual 160, 3) := dk_182 0 160 (dk_at dksX1_idleAfter_1 15 rfl rfl)
theorem dX1_idleAfter_40 : decode cX1_idleAfter 40 = .ok (.iinc 2 1, 3) := dk_132 2 1 (dk_at dksX1_idleAfter_1 18 rfl rfl)
theorem dX1_idleAfter_43 : decode cX1_idleAfter 43 = .ok (.goto (-29), 3) := dk_167 255 227 (dk_at dksX1_idleAfter_1 21 rfl rfl)
theorem dX1_idleAfter_46 : decode cX1_idleAfter 46 = .ok (.iload_n 2, 1) := dk_28 (dk_at dksX1_idleAfter_2 0 rfl rfl)
theorem dX1_idleAfter_47 : decode cX1_idleAfter 47 = .ok (.ireturn, 1) := dk_172 (dk_at dksX1_idleAfter_2 1 rfl rfl)
abbrev cX1_entry : ByteArray := prog_1_method_33_code
def yX1_entry : MethodName := ⟨RX1, "entry", "(II)I"⟩
def dkwX1_entry_1 : List UInt8 := [180, 0, 28, 180, 1, 28, 27, 184, 0, 224, 192, 1, 31, 78, 45, 28, 182, 1, 33, 172]
abbrev dktX1_entry_1 : List UInt8 := dkwX1_entry_1 ++ []
def dkwX1_entry_0 : List UInt8 := [27, 42, 180, 0, 28, 180, 1, 28, 182, 0, 43, 184, 0, 72, 28, 3, 6, 184, 0, 10, 184, 0, 76, 42]
abbrev dktX1_entry_0 : List UInt8 := dkwX1_entry_0 ++ dktX1_entry_1
theorem dksX1_entry_0 : cX1_entry.data.toList.drop 0 = dktX1_entry_0 := by decide +kernel
theorem dksX1_entry_1 : cX1_entry.data.toList.drop 24 = dktX1_entry_1 := dk_seg dksX1_entry_0 24 rfl rfl
theorem dX1_entry_0 : decode cX1_entry 0 = .ok (.iload_n 1, 1) := dk_27 (dk_at dksX1_entry_0 0 rfl rfl)
theorem dX1_entry_1 : decode cX1_entry 1 = .ok (.aload_n 0, 1) := dk_42 (dk_at dksX1_entry_0 1 rfl rfl)
theorem dX1_entry_2 : decode cX1_entry 2 = .ok (.getfield 28, 3) := dk_180 0 28 (dk_at dksX1_entry_0 2 rfl rfl)
theorem dX1_entry_5 : decode cX1_entry 5 = .ok (.getfield 284, 3) := dk_180 1 28 (dk_at dksX1_entry_0 5 rfl rfl)
theorem dX1_entry_8 : decode cX1_entry 8 = .ok (.invokevirtual 43, 3) := dk_182 0 43 (dk_at dksX1_entry_0 8 rfl rfl)
theorem dX1_entry_11 : decode cX1_entry 11 = .ok (.invokestatic 72, 3) := dk_184 0 72 (dk_at dksX1_entry_0 11 rfl rfl)
theorem dX1_entry_14 : decode cX1_entry 14 = .ok (.iload_n 2, 1) := dk_28 (dk_at dksX1_entry_0 14 rfl rfl)
theorem dX1_entry_15 : decode cX1_entry 15 = .ok (.iconst 0, 1) := dk_3 (dk_at dksX1_entry_0 15 rfl rfl)
theorem dX1_entry_16 : decode cX1_entry 16 = .ok (.iconst 3, 1) := dk_6 (dk_at dksX1_entry_0 16 rfl rfl)
theorem dX1_entry_17 : decode cX1_entry 17 = .ok (.invokestatic 10, 3) := dk_184 0 10 (dk_at dksX1_entry_0 17 rfl rfl)
theorem dX1_entry_20 : decode cX1_entry 20 = .ok (.invokestatic 76, 3) := dk_184 0 76 (dk_at dksX1_entry_0 20 rfl rfl)
theorem dX1_entry_23 : decode cX1_entry 23 = .ok (.aload_n 0, 1) := dk_42 (dk_at dksX1_entry_0 23 rfl rfl)
theorem dX1_entry_24 : decode cX1_entry 24 = .ok (.getfield 28, 3) := dk_180 0 28 (dk_at dksX1_entry_1 0 rfl rfl)
theorem dX1_entry_27 : decode cX1_entry 27 = .ok (.getfield 284, 3) := dk_180 1 28 (dk_at dksX1_entry_1 3 rfl rfl)
theorem dX1_entry_30 : decode cX1_entry 30 = .ok (.iload_n 1, 1) := dk_27 (dk_at dksX1_entry_1 6 rfl rfl)
theorem dX1_entry_31 : decode cX1_entry 31 = .ok (.invokestatic 224, 3) := dk_184 0 224 (dk_at dksX1_entry_1 7 rfl rfl)
theorem dX1_entry_34 : decode cX1_entry 34 = .ok (.checkcast 287, 3) := dk_192 1 31 (dk_at dksX1_entry_1 10 rfl rfl)
theorem dX1_entry_37 : decode cX1_entry 37 = .ok (.astore_n 3, 1) := dk_78 (dk_at dksX1_entry_1 13 rfl rfl)
theorem dX1_entry_38 : decode cX1_entry 38 = .ok (.aload_n 3, 1) := dk_45 (dk_at dksX1_entry_1 14 rfl rfl)
theorem dX1_entry_39 : decode cX1_entry 39 = .ok (.iload_n 2, 1) := dk_28 (dk_at dksX1_entry_1 15 rfl rfl)
theorem dX1_entry_40 : decode cX1_entry 40 = .ok (.invokevirtual 289, 3) := dk_182 1 33 (dk_at dksX1_entry_1 16 rfl rfl)
theorem dX1_entry_43 : decode cX1_entry 43 = .ok (.ireturn, 1) := dk_172 (dk_at dksX1_entry_1 19 rfl rfl)
abbrev cX1_account : ByteArray := prog_1_method_34_code
def yX1_account : MethodName := ⟨RX1, "account", "(I)I"⟩
def dkwX1_account_5 : List UInt8 := [180, 0, 28, 182, 1, 45, 172, 42, 180, 0, 28, 180, 0, 84, 182, 1, 48, 172]
abbrev dktX1_account_5 : List UInt8 := dkwX1_account_5 ++ []
def dkwX1_account_4 : List UInt8 := [182, 1, 40, 172, 42, 180, 0, 28, 180, 1, 42, 172, 42, 180, 0, 28, 180, 1, 28, 182, 0, 43, 172, 42]
abbrev dktX1_account_4 : List UInt8 := dkwX1_account_4 ++ dktX1_account_5
def dkwX1_account_3 : List UInt8 := [180, 0, 157, 172, 42, 180, 0, 28, 180, 0, 249, 172, 42, 180, 0, 28, 180, 1, 37, 172, 42, 180, 0, 28]
abbrev dktX1_account_3 : List UInt8 := dkwX1_account_3 ++ dktX1_account_4
def dkwX1_account_2 : List UInt8 := [42, 180, 0, 28, 180, 1, 34, 172, 42, 180, 0, 28, 180, 0, 141, 182, 0, 145, 172, 42, 180, 0, 28]
abbrev dktX1_account_2 : List UInt8 := dkwX1_account_2 ++ dktX1_account_3
def dkwX1_account_1 : List UInt8 := [170, 0, 0, 0, 127, 0, 0, 0, 0, 0, 0, 0, 8, 0, 0, 0, 49, 0, 0, 0, 57, 0, 0, 0, 68, 0, 0, 0, 76, 0, 0, 0, 84, 0, 0, 0, 92, 0, 0, 0, 100, 0, 0, 0, 108, 0, 0, 0, 119]
abbrev dktX1_account_1 : List UInt8 := dkwX1_account_1 ++ dktX1_account_2
def dkwX1_account_0 : List UInt8 := [27, 3, 16, 9, 184, 0, 10, 184, 0, 76, 27]
abbrev dktX1_account_0 : List UInt8 := dkwX1_account_0 ++ dktX1_account_1
theorem dksX1_account_0 : cX1_account.data.toList.drop 0 = dktX1_account_0 := by decide +kernel
theorem dksX1_account_1 : cX1_account.data.toList.drop 11 = dktX1_account_1 := dk_seg dksX1_account_0 11 rfl rfl
theorem dksX1_account_2 : cX1_account.data.toList.drop 60 = dktX1_account_2 := dk_seg dksX1_account_1 49 rfl rfl
theorem dksX1_account_3 : cX1_account.data.toList.drop 83 = dktX1_account_3 := dk_seg dksX1_account_2 23 rfl rfl
theorem dksX1_account_4 : cX1_account.data.toList.drop 107 = dktX1_account_4 := dk_seg dksX1_account_3 24 rfl rfl
theorem dksX1_account_5 : cX1_account.data.toList.drop 131 = dktX1_account_5 := dk_seg dksX1_account_4 24 rfl rfl
theorem dX1_account_0 : decode cX1_account 0 = .ok (.iload_n 1, 1) := dk_27 (dk_at dksX1_account_0 0 rfl rfl)
theorem dX1_account_1 : decode cX1_account 1 = .ok (.iconst 0, 1) := dk_3 (dk_at dksX1_account_0 1 rfl rfl)
theorem dX1_account_2 : decode cX1_account 2 = .ok (.bipush 9, 2) := dk_16 9 (dk_at dksX1_account_0 2 rfl rfl)
theorem dX1_account_4 : decode cX1_account 4 = .ok (.invokestatic 10, 3) := dk_184 0 10 (dk_at dksX1_account_0 4 rfl rfl)
theorem dX1_account_7 : decode cX1_account 7 = .ok (.invokestatic 76, 3) := dk_184 0 76 (dk_at dksX1_account_0 7 rfl rfl)
theorem dX1_account_10 : decode cX1_account 10 = .ok (.iload_n 1, 1) := dk_27 (dk_at dksX1_account_0 10 rfl rfl)
theorem dX1_account_11 : decode cX1_account 11 = .ok (.tableswitch 127 0 8 #[49, 57, 68, 76, 84, 92, 100, 108, 119], 49) := by decide +kernel
theorem dX1_account_60 : decode cX1_account 60 = .ok (.aload_n 0, 1) := dk_42 (dk_at dksX1_account_2 0 rfl rfl)
theorem dX1_account_61 : decode cX1_account 61 = .ok (.getfield 28, 3) := dk_180 0 28 (dk_at dksX1_account_2 1 rfl rfl)
theorem dX1_account_64 : decode cX1_account 64 = .ok (.getfield 290, 3) := dk_180 1 34 (dk_at dksX1_account_2 4 rfl rfl)
theorem dX1_account_67 : decode cX1_account 67 = .ok (.ireturn, 1) := dk_172 (dk_at dksX1_account_2 7 rfl rfl)
theorem dX1_account_68 : decode cX1_account 68 = .ok (.aload_n 0, 1) := dk_42 (dk_at dksX1_account_2 8 rfl rfl)
theorem dX1_account_69 : decode cX1_account 69 = .ok (.getfield 28, 3) := dk_180 0 28 (dk_at dksX1_account_2 9 rfl rfl)
theorem dX1_account_72 : decode cX1_account 72 = .ok (.getfield 141, 3) := dk_180 0 141 (dk_at dksX1_account_2 12 rfl rfl)
theorem dX1_account_75 : decode cX1_account 75 = .ok (.invokevirtual 145, 3) := dk_182 0 145 (dk_at dksX1_account_2 15 rfl rfl)
theorem dX1_account_78 : decode cX1_account 78 = .ok (.ireturn, 1) := dk_172 (dk_at dksX1_account_2 18 rfl rfl)
theorem dX1_account_79 : decode cX1_account 79 = .ok (.aload_n 0, 1) := dk_42 (dk_at dksX1_account_2 19 rfl rfl)
theorem dX1_account_80 : decode cX1_account 80 = .ok (.getfield 28, 3) := dk_180 0 28 (dk_at dksX1_account_2 20 rfl rfl)
theorem dX1_account_83 : decode cX1_account 83 = .ok (.getfield 157, 3) := dk_180 0 157 (dk_at dksX1_account_3 0 rfl rfl)
theorem dX1_account_86 : decode cX1_account 86 = .ok (.ireturn, 1) := dk_172 (dk_at dksX1_account_3 3 rfl rfl)
theorem dX1_account_87 : decode cX1_account 87 = .ok (.aload_n 0, 1) := dk_42 (dk_at dksX1_account_3 4 rfl rfl)
theorem dX1_account_88 : decode cX1_account 88 = .ok (.getfield 28, 3) := dk_180 0 28 (dk_at dksX1_account_3 5 rfl rfl)
theorem dX1_account_91 : decode cX1_account 91 = .ok (.getfield 249, 3) := dk_180 0 249 (dk_at dksX1_account_3 8 rfl rfl)
theorem dX1_account_94 : decode cX1_account 94 = .ok (.ireturn, 1) := dk_172 (dk_at dksX1_account_3 11 rfl rfl)
theorem dX1_account_95 : decode cX1_account 95 = .ok (.aload_n 0, 1) := dk_42 (dk_at dksX1_account_3 12 rfl rfl)
theorem dX1_account_96 : decode cX1_account 96 = .ok (.getfield 28, 3) := dk_180 0 28 (dk_at dksX1_account_3 13 rfl rfl)
theorem dX1_account_99 : decode cX1_account 99 = .ok (.getfield 293, 3) := dk_180 1 37 (dk_at dksX1_account_3 16 rfl rfl)
theorem dX1_account_102 : decode cX1_account 102 = .ok (.ireturn, 1) := dk_172 (dk_at dksX1_account_3 19 rfl rfl)
theorem dX1_account_103 : decode cX1_account 103 = .ok (.aload_n 0, 1) := dk_42 (dk_at dksX1_account_3 20 rfl rfl)
theorem dX1_account_104 : decode cX1_account 104 = .ok (.getfield 28, 3) := dk_180 0 28 (dk_at dksX1_account_3 21 rfl rfl)
theorem dX1_account_107 : decode cX1_account 107 = .ok (.invokevirtual 296, 3) := dk_182 1 40 (dk_at dksX1_account_4 0 rfl rfl)
theorem dX1_account_110 : decode cX1_account 110 = .ok (.ireturn, 1) := dk_172 (dk_at dksX1_account_4 3 rfl rfl)
theorem dX1_account_111 : decode cX1_account 111 = .ok (.aload_n 0, 1) := dk_42 (dk_at dksX1_account_4 4 rfl rfl)
theorem dX1_account_112 : decode cX1_account 112 = .ok (.getfield 28, 3) := dk_180 0 28 (dk_at dksX1_account_4 5 rfl rfl)
theorem dX1_account_115 : decode cX1_account 115 = .ok (.getfield 298, 3) := dk_180 1 42 (dk_at dksX1_account_4 8 rfl rfl)
theorem dX1_account_118 : decode cX1_account 118 = .ok (.ireturn, 1) := dk_172 (dk_at dksX1_account_4 11 rfl rfl)
theorem dX1_account_119 : decode cX1_account 119 = .ok (.aload_n 0, 1) := dk_42 (dk_at dksX1_account_4 12 rfl rfl)
theorem dX1_account_120 : decode cX1_account 120 = .ok (.getfield 28, 3) := dk_180 0 28 (dk_at dksX1_account_4 13 rfl rfl)
theorem dX1_account_123 : decode cX1_account 123 = .ok (.getfield 284, 3) := dk_180 1 28 (dk_at dksX1_account_4 16 rfl rfl)
theorem dX1_account_126 : decode cX1_account 126 = .ok (.invokevirtual 43, 3) := dk_182 0 43 (dk_at dksX1_account_4 19 rfl rfl)
theorem dX1_account_129 : decode cX1_account 129 = .ok (.ireturn, 1) := dk_172 (dk_at dksX1_account_4 22 rfl rfl)
theorem dX1_account_130 : decode cX1_account 130 = .ok (.aload_n 0, 1) := dk_42 (dk_at dksX1_account_4 23 rfl rfl)
theorem dX1_account_131 : decode cX1_account 131 = .ok (.getfield 28, 3) := dk_180 0 28 (dk_at dksX1_account_5 0 rfl rfl)
theorem dX1_account_134 : decode cX1_account 134 = .ok (.invokevirtual 301, 3) := dk_182 1 45 (dk_at dksX1_account_5 3 rfl rfl)
theorem dX1_account_137 : decode cX1_account 137 = .ok (.ireturn, 1) := dk_172 (dk_at dksX1_account_5 6 rfl rfl)
theorem dX1_account_138 : decode cX1_account 138 = .ok (.aload_n 0, 1) := dk_42 (dk_at dksX1_account_5 7 rfl rfl)
theorem dX1_account_139 : decode cX1_account 139 = .ok (.getfield 28, 3) := dk_180 0 28 (dk_at dksX1_account_5 8 rfl rfl)
theorem dX1_account_142 : decode cX1_account 142 = .ok (.getfield 84, 3) := dk_180 0 84 (dk_at dksX1_account_5 11 rfl rfl)
theorem dX1_account_145 : decode cX1_account 145 = .ok (.invokevirtual 304, 3) := dk_182 1 48 (dk_at dksX1_account_5 14 rfl rfl)
theorem dX1_account_148 : decode cX1_account 148 = .ok (.ireturn, 1) := dk_172 (dk_at dksX1_account_5 17 rfl rfl)
abbrev cX1_use : ByteArray := prog_1_method_35_code
def yX1_use : MethodName := ⟨RX1, "use", "(I)F"⟩
def dkwX1_use_1 : List UInt8 := [180, 0, 28, 180, 0, 55, 27, 50, 180, 1, 52, 134, 42, 180, 0, 28, 180, 1, 34, 134, 110, 174]
abbrev dktX1_use_1 : List UInt8 := dkwX1_use_1 ++ []
def dkwX1_use_0 : List UInt8 := [27, 6, 184, 0, 72, 42, 180, 0, 28, 180, 1, 34, 154, 0, 11, 187, 1, 49, 89, 183, 1, 51, 191, 42]
abbrev dktX1_use_0 : List UInt8 := dkwX1_use_0 ++ dktX1_use_1
theorem dksX1_use_0 : cX1_use.data.toList.drop 0 = dktX1_use_0 := by decide +kernel
theorem dksX1_use_1 : cX1_use.data.toList.drop 24 = dktX1_use_1 := dk_seg dksX1_use_0 24 rfl rfl
theorem dX1_use_0 : decode cX1_use 0 = .ok (.iload_n 1, 1) := dk_27 (dk_at dksX1_use_0 0 rfl rfl)
theorem dX1_use_1 : decode cX1_use 1 = .ok (.iconst 3, 1) := dk_6 (dk_at dksX1_use_0 1 rfl rfl)
theorem dX1_use_2 : decode cX1_use 2 = .ok (.invokestatic 72, 3) := dk_184 0 72 (dk_at dksX1_use_0 2 rfl rfl)
theorem dX1_use_5 : decode cX1_use 5 = .ok (.aload_n 0, 1) := dk_42 (dk_at dksX1_use_0 5 rfl rfl)
theorem dX1_use_6 : decode cX1_use 6 = .ok (.getfield 28, 3) := dk_180 0 28 (dk_at dksX1_use_0 6 rfl rfl)
theorem dX1_use_9 : decode cX1_use 9 = .ok (.getfield 290, 3) := dk_180 1 34 (dk_at dksX1_use_0 9 rfl rfl)
theorem dX1_use_12 : decode cX1_use 12 = .ok (.ifCond .ne 11, 3) := dk_154 0 11 (dk_at dksX1_use_0 12 rfl rfl)
theorem dX1_use_15 : decode cX1_use 15 = .ok (.new 305, 3) := dk_187 1 49 (dk_at dksX1_use_0 15 rfl rfl)
theorem dX1_use_18 : decode cX1_use 18 = .ok (.dup, 1) := dk_89 (dk_at dksX1_use_0 18 rfl rfl)
theorem dX1_use_19 : decode cX1_use 19 = .ok (.invokespecial 307, 3) := dk_183 1 51 (dk_at dksX1_use_0 19 rfl rfl)
theorem dX1_use_22 : decode cX1_use 22 = .ok (.athrow, 1) := dk_191 (dk_at dksX1_use_0 22 rfl rfl)
theorem dX1_use_23 : decode cX1_use 23 = .ok (.aload_n 0, 1) := dk_42 (dk_at dksX1_use_0 23 rfl rfl)
theorem dX1_use_24 : decode cX1_use 24 = .ok (.getfield 28, 3) := dk_180 0 28 (dk_at dksX1_use_1 0 rfl rfl)
theorem dX1_use_27 : decode cX1_use 27 = .ok (.getfield 55, 3) := dk_180 0 55 (dk_at dksX1_use_1 3 rfl rfl)
theorem dX1_use_30 : decode cX1_use 30 = .ok (.iload_n 1, 1) := dk_27 (dk_at dksX1_use_1 6 rfl rfl)
theorem dX1_use_31 : decode cX1_use 31 = .ok (.aaload, 1) := dk_50 (dk_at dksX1_use_1 7 rfl rfl)
theorem dX1_use_32 : decode cX1_use 32 = .ok (.getfield 308, 3) := dk_180 1 52 (dk_at dksX1_use_1 8 rfl rfl)
theorem dX1_use_35 : decode cX1_use 35 = .ok (.i2f, 1) := dk_134 (dk_at dksX1_use_1 11 rfl rfl)
theorem dX1_use_36 : decode cX1_use 36 = .ok (.aload_n 0, 1) := dk_42 (dk_at dksX1_use_1 12 rfl rfl)
theorem dX1_use_37 : decode cX1_use 37 = .ok (.getfield 28, 3) := dk_180 0 28 (dk_at dksX1_use_1 13 rfl rfl)
theorem dX1_use_40 : decode cX1_use 40 = .ok (.getfield 290, 3) := dk_180 1 34 (dk_at dksX1_use_1 16 rfl rfl)
theorem dX1_use_43 : decode cX1_use 43 = .ok (.i2f, 1) := dk_134 (dk_at dksX1_use_1 19 rfl rfl)
theorem dX1_use_44 : decode cX1_use 44 = .ok (.fdiv, 1) := dk_110 (dk_at dksX1_use_1 20 rfl rfl)
theorem dX1_use_45 : decode cX1_use 45 = .ok (.freturn, 1) := dk_174 (dk_at dksX1_use_1 21 rfl rfl)
abbrev cX1_meanDuration : ByteArray := prog_1_method_36_code
def yX1_meanDuration : MethodName := ⟨RX1, "meanDuration", "()D"⟩
def dkwX1_meanDuration_1 : List UInt8 := [180, 1, 55, 135, 42, 180, 0, 28, 180, 0, 157, 135, 111, 175]
abbrev dktX1_meanDuration_1 : List UInt8 := dkwX1_meanDuration_1 ++ []
def dkwX1_meanDuration_0 : List UInt8 := [42, 180, 0, 28, 180, 0, 157, 154, 0, 11, 187, 1, 49, 89, 183, 1, 51, 191, 42, 180, 0, 28]
abbrev dktX1_meanDuration_0 : List UInt8 := dkwX1_meanDuration_0 ++ dktX1_meanDuration_1
theorem dksX1_meanDuration_0 : cX1_meanDuration.data.toList.drop 0 = dktX1_meanDuration_0 := by decide +kernel
theorem dksX1_meanDuration_1 : cX1_meanDuration.data.toList.drop 22 = dktX1_meanDuration_1 := dk_seg dksX1_meanDuration_0 22 rfl rfl
theorem dX1_meanDuration_0 : decode cX1_meanDuration 0 = .ok (.aload_n 0, 1) := dk_42 (dk_at dksX1_meanDuration_0 0 rfl rfl)
theorem dX1_meanDuration_1 : decode cX1_meanDuration 1 = .ok (.getfield 28, 3) := dk_180 0 28 (dk_at dksX1_meanDuration_0 1 rfl rfl)
theorem dX1_meanDuration_4 : decode cX1_meanDuration 4 = .ok (.getfield 157, 3) := dk_180 0 157 (dk_at dksX1_meanDuration_0 4 rfl rfl)
theorem dX1_meanDuration_7 : decode cX1_meanDuration 7 = .ok (.ifCond .ne 11, 3) := dk_154 0 11 (dk_at dksX1_meanDuration_0 7 rfl rfl)
theorem dX1_meanDuration_10 : decode cX1_meanDuration 10 = .ok (.new 305, 3) := dk_187 1 49 (dk_at dksX1_meanDuration_0 10 rfl rfl)
theorem dX1_meanDuration_13 : decode cX1_meanDuration 13 = .ok (.dup, 1) := dk_89 (dk_at dksX1_meanDuration_0 13 rfl rfl)
theorem dX1_meanDuration_14 : decode cX1_meanDuration 14 = .ok (.invokespecial 307, 3) := dk_183 1 51 (dk_at dksX1_meanDuration_0 14 rfl rfl)
theorem dX1_meanDuration_17 : decode cX1_meanDuration 17 = .ok (.athrow, 1) := dk_191 (dk_at dksX1_meanDuration_0 17 rfl rfl)
theorem dX1_meanDuration_18 : decode cX1_meanDuration 18 = .ok (.aload_n 0, 1) := dk_42 (dk_at dksX1_meanDuration_0 18 rfl rfl)
theorem dX1_meanDuration_19 : decode cX1_meanDuration 19 = .ok (.getfield 28, 3) := dk_180 0 28 (dk_at dksX1_meanDuration_0 19 rfl rfl)
theorem dX1_meanDuration_22 : decode cX1_meanDuration 22 = .ok (.getfield 311, 3) := dk_180 1 55 (dk_at dksX1_meanDuration_1 0 rfl rfl)
theorem dX1_meanDuration_25 : decode cX1_meanDuration 25 = .ok (.i2d, 1) := dk_135 (dk_at dksX1_meanDuration_1 3 rfl rfl)
theorem dX1_meanDuration_26 : decode cX1_meanDuration 26 = .ok (.aload_n 0, 1) := dk_42 (dk_at dksX1_meanDuration_1 4 rfl rfl)
theorem dX1_meanDuration_27 : decode cX1_meanDuration 27 = .ok (.getfield 28, 3) := dk_180 0 28 (dk_at dksX1_meanDuration_1 5 rfl rfl)
theorem dX1_meanDuration_30 : decode cX1_meanDuration 30 = .ok (.getfield 157, 3) := dk_180 0 157 (dk_at dksX1_meanDuration_1 8 rfl rfl)
theorem dX1_meanDuration_33 : decode cX1_meanDuration 33 = .ok (.i2d, 1) := dk_135 (dk_at dksX1_meanDuration_1 11 rfl rfl)
theorem dX1_meanDuration_34 : decode cX1_meanDuration 34 = .ok (.ddiv, 1) := dk_111 (dk_at dksX1_meanDuration_1 12 rfl rfl)
theorem dX1_meanDuration_35 : decode cX1_meanDuration 35 = .ok (.dreturn, 1) := dk_175 (dk_at dksX1_meanDuration_1 13 rfl rfl)
abbrev cX1_feed : ByteArray := prog_1_method_37_code
def yX1_feed : MethodName := ⟨RX1, "feed", "(C)I"⟩
def dkwX1_feed_1 : List UInt8 := [180, 1, 58, 27, 85, 42, 89, 180, 1, 58, 4, 96, 181, 1, 58, 42, 180, 1, 58, 172]
abbrev dktX1_feed_1 : List UInt8 := dkwX1_feed_1 ++ []
def dkwX1_feed_0 : List UInt8 := [42, 180, 1, 58, 16, 80, 162, 0, 7, 4, 167, 0, 4, 3, 184, 0, 97, 42, 180, 0, 39, 42]
abbrev dktX1_feed_0 : List UInt8 := dkwX1_feed_0 ++ dktX1_feed_1
theorem dksX1_feed_0 : cX1_feed.data.toList.drop 0 = dktX1_feed_0 := by decide +kernel
theorem dksX1_feed_1 : cX1_feed.data.toList.drop 22 = dktX1_feed_1 := dk_seg dksX1_feed_0 22 rfl rfl
theorem dX1_feed_0 : decode cX1_feed 0 = .ok (.aload_n 0, 1) := dk_42 (dk_at dksX1_feed_0 0 rfl rfl)
theorem dX1_feed_1 : decode cX1_feed 1 = .ok (.getfield 314, 3) := dk_180 1 58 (dk_at dksX1_feed_0 1 rfl rfl)
theorem dX1_feed_4 : decode cX1_feed 4 = .ok (.bipush 80, 2) := dk_16 80 (dk_at dksX1_feed_0 4 rfl rfl)
theorem dX1_feed_6 : decode cX1_feed 6 = .ok (.if_icmp .ge 7, 3) := dk_162 0 7 (dk_at dksX1_feed_0 6 rfl rfl)
theorem dX1_feed_9 : decode cX1_feed 9 = .ok (.iconst 1, 1) := dk_4 (dk_at dksX1_feed_0 9 rfl rfl)
theorem dX1_feed_10 : decode cX1_feed 10 = .ok (.goto 4, 3) := dk_167 0 4 (dk_at dksX1_feed_0 10 rfl rfl)
theorem dX1_feed_13 : decode cX1_feed 13 = .ok (.iconst 0, 1) := dk_3 (dk_at dksX1_feed_0 13 rfl rfl)
theorem dX1_feed_14 : decode cX1_feed 14 = .ok (.invokestatic 97, 3) := dk_184 0 97 (dk_at dksX1_feed_0 14 rfl rfl)
theorem dX1_feed_17 : decode cX1_feed 17 = .ok (.aload_n 0, 1) := dk_42 (dk_at dksX1_feed_0 17 rfl rfl)
theorem dX1_feed_18 : decode cX1_feed 18 = .ok (.getfield 39, 3) := dk_180 0 39 (dk_at dksX1_feed_0 18 rfl rfl)
theorem dX1_feed_21 : decode cX1_feed 21 = .ok (.aload_n 0, 1) := dk_42 (dk_at dksX1_feed_0 21 rfl rfl)
theorem dX1_feed_22 : decode cX1_feed 22 = .ok (.getfield 314, 3) := dk_180 1 58 (dk_at dksX1_feed_1 0 rfl rfl)
theorem dX1_feed_25 : decode cX1_feed 25 = .ok (.iload_n 1, 1) := dk_27 (dk_at dksX1_feed_1 3 rfl rfl)
theorem dX1_feed_26 : decode cX1_feed 26 = .ok (.castore, 1) := dk_85 (dk_at dksX1_feed_1 4 rfl rfl)
theorem dX1_feed_27 : decode cX1_feed 27 = .ok (.aload_n 0, 1) := dk_42 (dk_at dksX1_feed_1 5 rfl rfl)
theorem dX1_feed_28 : decode cX1_feed 28 = .ok (.dup, 1) := dk_89 (dk_at dksX1_feed_1 6 rfl rfl)
theorem dX1_feed_29 : decode cX1_feed 29 = .ok (.getfield 314, 3) := dk_180 1 58 (dk_at dksX1_feed_1 7 rfl rfl)
theorem dX1_feed_32 : decode cX1_feed 32 = .ok (.iconst 1, 1) := dk_4 (dk_at dksX1_feed_1 10 rfl rfl)
theorem dX1_feed_33 : decode cX1_feed 33 = .ok (.iadd, 1) := dk_96 (dk_at dksX1_feed_1 11 rfl rfl)
theorem dX1_feed_34 : decode cX1_feed 34 = .ok (.putfield 314, 3) := dk_181 1 58 (dk_at dksX1_feed_1 12 rfl rfl)
theorem dX1_feed_37 : decode cX1_feed 37 = .ok (.aload_n 0, 1) := dk_42 (dk_at dksX1_feed_1 15 rfl rfl)
theorem dX1_feed_38 : decode cX1_feed 38 = .ok (.getfield 314, 3) := dk_180 1 58 (dk_at dksX1_feed_1 16 rfl rfl)
theorem dX1_feed_41 : decode cX1_feed 41 = .ok (.ireturn, 1) := dk_172 (dk_at dksX1_feed_1 19 rfl rfl)
abbrev cX1_perform : ByteArray := prog_1_method_38_code
def yX1_perform : MethodName := ⟨RX1, "perform", "()I"⟩
def dkwX1_perform_4 : List UInt8 := [187, 0, 138, 89, 183, 0, 140, 191, 58, 5, 42, 3, 181, 1, 58, 25, 5, 191]
abbrev dktX1_perform_4 : List UInt8 := dkwX1_perform_4 ++ []
def dkwX1_perform_3 : List UInt8 := [181, 1, 58, 29, 172, 76, 16, 156, 43, 180, 1, 78, 100, 61, 42, 3, 181, 1, 58, 28, 172, 76]
abbrev dktX1_perform_3 : List UInt8 := dkwX1_perform_3 ++ dktX1_perform_4
def dkwX1_perform_2 : List UInt8 := [58, 4, 25, 4, 44, 182, 1, 73, 167, 255, 230, 42, 44, 182, 0, 170, 43, 182, 0, 145, 62, 42, 3]
abbrev dktX1_perform_2 : List UInt8 := dkwX1_perform_2 ++ dktX1_perform_3
def dkwX1_perform_1 : List UInt8 := [43, 182, 1, 70, 78, 45, 185, 0, 213, 1, 0, 153, 0, 23, 45, 185, 0, 218, 1, 0, 192, 1, 71]
abbrev dktX1_perform_1 : List UInt8 := dkwX1_perform_1 ++ dktX1_perform_2
def dkwX1_perform_0 : List UInt8 := [187, 1, 61, 89, 42, 183, 1, 63, 182, 1, 66, 76, 187, 0, 25, 89, 42, 180, 0, 28, 183, 0, 163, 77]
abbrev dktX1_perform_0 : List UInt8 := dkwX1_perform_0 ++ dktX1_perform_1
theorem dksX1_perform_0 : cX1_perform.data.toList.drop 0 = dktX1_perform_0 := by decide +kernel
theorem dksX1_perform_1 : cX1_perform.data.toList.drop 24 = dktX1_perform_1 := dk_seg dksX1_perform_0 24 rfl rfl
theorem dksX1_perform_2 : cX1_perform.data.toList.drop 47 = dktX1_perform_2 := dk_seg dksX1_perform_1 23 rfl rfl
theorem dksX1_perform_3 : cX1_perform.data.toList.drop 70 = dktX1_perform_3 := dk_seg dksX1_perform_2 23 rfl rfl
theorem dksX1_perform_4 : cX1_perform.data.toList.drop 92 = dktX1_perform_4 := dk_seg dksX1_perform_3 22 rfl rfl
theorem dX1_perform_0 : decode cX1_perform 0 = .ok (.new 317, 3) := dk_187 1 61 (dk_at dksX1_perform_0 0 rfl rfl)
theorem dX1_perform_3 : decode cX1_perform 3 = .ok (.dup, 1) := dk_89 (dk_at dksX1_perform_0 3 rfl rfl)
theorem dX1_perform_4 : decode cX1_perform 4 = .ok (.aload_n 0, 1) := dk_42 (dk_at dksX1_perform_0 4 rfl rfl)
theorem dX1_perform_5 : decode cX1_perform 5 = .ok (.invokespecial 319, 3) := dk_183 1 63 (dk_at dksX1_perform_0 5 rfl rfl)
theorem dX1_perform_8 : decode cX1_perform 8 = .ok (.invokevirtual 322, 3) := dk_182 1 66 (dk_at dksX1_perform_0 8 rfl rfl)
theorem dX1_perform_11 : decode cX1_perform 11 = .ok (.astore_n 1, 1) := dk_76 (dk_at dksX1_perform_0 11 rfl rfl)
theorem dX1_perform_12 : decode cX1_perform 12 = .ok (.new 25, 3) := dk_187 0 25 (dk_at dksX1_perform_0 12 rfl rfl)
theorem dX1_perform_15 : decode cX1_perform 15 = .ok (.dup, 1) := dk_89 (dk_at dksX1_perform_0 15 rfl rfl)
theorem dX1_perform_16 : decode cX1_perform 16 = .ok (.aload_n 0, 1) := dk_42 (dk_at dksX1_perform_0 16 rfl rfl)
theorem dX1_perform_17 : decode cX1_perform 17 = .ok (.getfield 28, 3) := dk_180 0 28 (dk_at dksX1_perform_0 17 rfl rfl)
theorem dX1_perform_20 : decode cX1_perform 20 = .ok (.invokespecial 163, 3) := dk_183 0 163 (dk_at dksX1_perform_0 20 rfl rfl)
theorem dX1_perform_23 : decode cX1_perform 23 = .ok (.astore_n 2, 1) := dk_77 (dk_at dksX1_perform_0 23 rfl rfl)
theorem dX1_perform_24 : decode cX1_perform 24 = .ok (.aload_n 1, 1) := dk_43 (dk_at dksX1_perform_1 0 rfl rfl)
theorem dX1_perform_25 : decode cX1_perform 25 = .ok (.invokevirtual 326, 3) := dk_182 1 70 (dk_at dksX1_perform_1 1 rfl rfl)
theorem dX1_perform_28 : decode cX1_perform 28 = .ok (.astore_n 3, 1) := dk_78 (dk_at dksX1_perform_1 4 rfl rfl)
theorem dX1_perform_29 : decode cX1_perform 29 = .ok (.aload_n 3, 1) := dk_45 (dk_at dksX1_perform_1 5 rfl rfl)
theorem dX1_perform_30 : decode cX1_perform 30 = .ok (.invokeinterface 213 1, 5) := by decide +kernel
theorem dX1_perform_35 : decode cX1_perform 35 = .ok (.ifCond .eq 23, 3) := dk_153 0 23 (dk_at dksX1_perform_1 11 rfl rfl)
theorem dX1_perform_38 : decode cX1_perform 38 = .ok (.aload_n 3, 1) := dk_45 (dk_at dksX1_perform_1 14 rfl rfl)
theorem dX1_perform_39 : decode cX1_perform 39 = .ok (.invokeinterface 218 1, 5) := by decide +kernel
theorem dX1_perform_44 : decode cX1_perform 44 = .ok (.checkcast 327, 3) := dk_192 1 71 (dk_at dksX1_perform_1 20 rfl rfl)
theorem dX1_perform_47 : decode cX1_perform 47 = .ok (.astore 4, 2) := dk_58 4 (dk_at dksX1_perform_2 0 rfl rfl)
theorem dX1_perform_49 : decode cX1_perform 49 = .ok (.aload 4, 2) := dk_25 4 (dk_at dksX1_perform_2 2 rfl rfl)
theorem dX1_perform_51 : decode cX1_perform 51 = .ok (.aload_n 2, 1) := dk_44 (dk_at dksX1_perform_2 4 rfl rfl)
theorem dX1_perform_52 : decode cX1_perform 52 = .ok (.invokevirtual 329, 3) := dk_182 1 73 (dk_at dksX1_perform_2 5 rfl rfl)
theorem dX1_perform_55 : decode cX1_perform 55 = .ok (.goto (-26), 3) := dk_167 255 230 (dk_at dksX1_perform_2 8 rfl rfl)
theorem dX1_perform_58 : decode cX1_perform 58 = .ok (.aload_n 0, 1) := dk_42 (dk_at dksX1_perform_2 11 rfl rfl)
theorem dX1_perform_59 : decode cX1_perform 59 = .ok (.aload_n 2, 1) := dk_44 (dk_at dksX1_perform_2 12 rfl rfl)
theorem dX1_perform_60 : decode cX1_perform 60 = .ok (.invokevirtual 170, 3) := dk_182 0 170 (dk_at dksX1_perform_2 13 rfl rfl)
theorem dX1_perform_63 : decode cX1_perform 63 = .ok (.aload_n 1, 1) := dk_43 (dk_at dksX1_perform_2 16 rfl rfl)
theorem dX1_perform_64 : decode cX1_perform 64 = .ok (.invokevirtual 145, 3) := dk_182 0 145 (dk_at dksX1_perform_2 17 rfl rfl)
theorem dX1_perform_67 : decode cX1_perform 67 = .ok (.istore_n 3, 1) := dk_62 (dk_at dksX1_perform_2 20 rfl rfl)
theorem dX1_perform_68 : decode cX1_perform 68 = .ok (.aload_n 0, 1) := dk_42 (dk_at dksX1_perform_2 21 rfl rfl)
theorem dX1_perform_69 : decode cX1_perform 69 = .ok (.iconst 0, 1) := dk_3 (dk_at dksX1_perform_2 22 rfl rfl)
theorem dX1_perform_70 : decode cX1_perform 70 = .ok (.putfield 314, 3) := dk_181 1 58 (dk_at dksX1_perform_3 0 rfl rfl)
theorem dX1_perform_73 : decode cX1_perform 73 = .ok (.iload_n 3, 1) := dk_29 (dk_at dksX1_perform_3 3 rfl rfl)
theorem dX1_perform_74 : decode cX1_perform 74 = .ok (.ireturn, 1) := dk_172 (dk_at dksX1_perform_3 4 rfl rfl)
theorem dX1_perform_75 : decode cX1_perform 75 = .ok (.astore_n 1, 1) := dk_76 (dk_at dksX1_perform_3 5 rfl rfl)
theorem dX1_perform_76 : decode cX1_perform 76 = .ok (.bipush (-100), 2) := dk_16 156 (dk_at dksX1_perform_3 6 rfl rfl)
theorem dX1_perform_78 : decode cX1_perform 78 = .ok (.aload_n 1, 1) := dk_43 (dk_at dksX1_perform_3 8 rfl rfl)
theorem dX1_perform_79 : decode cX1_perform 79 = .ok (.getfield 334, 3) := dk_180 1 78 (dk_at dksX1_perform_3 9 rfl rfl)
theorem dX1_perform_82 : decode cX1_perform 82 = .ok (.isub, 1) := dk_100 (dk_at dksX1_perform_3 12 rfl rfl)
theorem dX1_perform_83 : decode cX1_perform 83 = .ok (.istore_n 2, 1) := dk_61 (dk_at dksX1_perform_3 13 rfl rfl)
theorem dX1_perform_84 : decode cX1_perform 84 = .ok (.aload_n 0, 1) := dk_42 (dk_at dksX1_perform_3 14 rfl rfl)
theorem dX1_perform_85 : decode cX1_perform 85 = .ok (.iconst 0, 1) := dk_3 (dk_at dksX1_perform_3 15 rfl rfl)
theorem dX1_perform_86 : decode cX1_perform 86 = .ok (.putfield 314, 3) := dk_181 1 58 (dk_at dksX1_perform_3 16 rfl rfl)
theorem dX1_perform_89 : decode cX1_perform 89 = .ok (.iload_n 2, 1) := dk_28 (dk_at dksX1_perform_3 19 rfl rfl)
theorem dX1_perform_90 : decode cX1_perform 90 = .ok (.ireturn, 1) := dk_172 (dk_at dksX1_perform_3 20 rfl rfl)
theorem dX1_perform_91 : decode cX1_perform 91 = .ok (.astore_n 1, 1) := dk_76 (dk_at dksX1_perform_3 21 rfl rfl)
theorem dX1_perform_92 : decode cX1_perform 92 = .ok (.new 138, 3) := dk_187 0 138 (dk_at dksX1_perform_4 0 rfl rfl)
theorem dX1_perform_95 : decode cX1_perform 95 = .ok (.dup, 1) := dk_89 (dk_at dksX1_perform_4 3 rfl rfl)
theorem dX1_perform_96 : decode cX1_perform 96 = .ok (.invokespecial 140, 3) := dk_183 0 140 (dk_at dksX1_perform_4 4 rfl rfl)
theorem dX1_perform_99 : decode cX1_perform 99 = .ok (.athrow, 1) := dk_191 (dk_at dksX1_perform_4 7 rfl rfl)
theorem dX1_perform_100 : decode cX1_perform 100 = .ok (.astore 5, 2) := dk_58 5 (dk_at dksX1_perform_4 8 rfl rfl)
theorem dX1_perform_102 : decode cX1_perform 102 = .ok (.aload_n 0, 1) := dk_42 (dk_at dksX1_perform_4 10 rfl rfl)
theorem dX1_perform_103 : decode cX1_perform 103 = .ok (.iconst 0, 1) := dk_3 (dk_at dksX1_perform_4 11 rfl rfl)
theorem dX1_perform_104 : decode cX1_perform 104 = .ok (.putfield 314, 3) := dk_181 1 58 (dk_at dksX1_perform_4 12 rfl rfl)
theorem dX1_perform_107 : decode cX1_perform 107 = .ok (.aload 5, 2) := dk_25 5 (dk_at dksX1_perform_4 15 rfl rfl)
theorem dX1_perform_109 : decode cX1_perform 109 = .ok (.athrow, 1) := dk_191 (dk_at dksX1_perform_4 17 rfl rfl)
abbrev cX1_undo : ByteArray := prog_1_method_39_code
def yX1_undo : MethodName := ⟨RX1, "undo", "()I"⟩
def dkwX1_undo_1 : List UInt8 := [182, 0, 243, 192, 0, 25, 181, 0, 28, 42, 180, 0, 35, 182, 0, 43, 172]
abbrev dktX1_undo_1 : List UInt8 := dkwX1_undo_1 ++ []
def dkwX1_undo_0 : List UInt8 := [42, 180, 0, 35, 182, 0, 240, 154, 0, 7, 4, 167, 0, 4, 3, 184, 0, 97, 42, 42, 180, 0, 35]
abbrev dktX1_undo_0 : List UInt8 := dkwX1_undo_0 ++ dktX1_undo_1
theorem dksX1_undo_0 : cX1_undo.data.toList.drop 0 = dktX1_undo_0 := by decide +kernel
theorem dksX1_undo_1 : cX1_undo.data.toList.drop 23 = dktX1_undo_1 := dk_seg dksX1_undo_0 23 rfl rfl
theorem dX1_undo_0 : decode cX1_undo 0 = .ok (.aload_n 0, 1) := dk_42 (dk_at dksX1_undo_0 0 rfl rfl)
theorem dX1_undo_1 : decode cX1_undo 1 = .ok (.getfield 35, 3) := dk_180 0 35 (dk_at dksX1_undo_0 1 rfl rfl)
theorem dX1_undo_4 : decode cX1_undo 4 = .ok (.invokevirtual 240, 3) := dk_182 0 240 (dk_at dksX1_undo_0 4 rfl rfl)
theorem dX1_undo_7 : decode cX1_undo 7 = .ok (.ifCond .ne 7, 3) := dk_154 0 7 (dk_at dksX1_undo_0 7 rfl rfl)
theorem dX1_undo_10 : decode cX1_undo 10 = .ok (.iconst 1, 1) := dk_4 (dk_at dksX1_undo_0 10 rfl rfl)
theorem dX1_undo_11 : decode cX1_undo 11 = .ok (.goto 4, 3) := dk_167 0 4 (dk_at dksX1_undo_0 11 rfl rfl)
theorem dX1_undo_14 : decode cX1_undo 14 = .ok (.iconst 0, 1) := dk_3 (dk_at dksX1_undo_0 14 rfl rfl)
theorem dX1_undo_15 : decode cX1_undo 15 = .ok (.invokestatic 97, 3) := dk_184 0 97 (dk_at dksX1_undo_0 15 rfl rfl)
theorem dX1_undo_18 : decode cX1_undo 18 = .ok (.aload_n 0, 1) := dk_42 (dk_at dksX1_undo_0 18 rfl rfl)
theorem dX1_undo_19 : decode cX1_undo 19 = .ok (.aload_n 0, 1) := dk_42 (dk_at dksX1_undo_0 19 rfl rfl)
theorem dX1_undo_20 : decode cX1_undo 20 = .ok (.getfield 35, 3) := dk_180 0 35 (dk_at dksX1_undo_0 20 rfl rfl)
theorem dX1_undo_23 : decode cX1_undo 23 = .ok (.invokevirtual 243, 3) := dk_182 0 243 (dk_at dksX1_undo_1 0 rfl rfl)
theorem dX1_undo_26 : decode cX1_undo 26 = .ok (.checkcast 25, 3) := dk_192 0 25 (dk_at dksX1_undo_1 3 rfl rfl)
theorem dX1_undo_29 : decode cX1_undo 29 = .ok (.putfield 28, 3) := dk_181 0 28 (dk_at dksX1_undo_1 6 rfl rfl)
theorem dX1_undo_32 : decode cX1_undo 32 = .ok (.aload_n 0, 1) := dk_42 (dk_at dksX1_undo_1 9 rfl rfl)
theorem dX1_undo_33 : decode cX1_undo 33 = .ok (.getfield 35, 3) := dk_180 0 35 (dk_at dksX1_undo_1 10 rfl rfl)
theorem dX1_undo_36 : decode cX1_undo 36 = .ok (.invokevirtual 43, 3) := dk_182 0 43 (dk_at dksX1_undo_1 13 rfl rfl)
theorem dX1_undo_39 : decode cX1_undo 39 = .ok (.ireturn, 1) := dk_172 (dk_at dksX1_undo_1 16 rfl rfl)
abbrev cX1_restore : ByteArray := prog_1_method_41_code
def yX1_restore : MethodName := ⟨RX1, "restore", "()I"⟩
def dkwX1_restore_1 : List UInt8 := [183, 0, 163, 181, 0, 28, 42, 180, 0, 35, 182, 1, 84, 42, 180, 0, 28, 180, 1, 34, 172]
abbrev dktX1_restore_1 : List UInt8 := dkwX1_restore_1 ++ []
def dkwX1_restore_0 : List UInt8 := [42, 180, 1, 81, 198, 0, 7, 4, 167, 0, 4, 3, 184, 0, 97, 42, 187, 0, 25, 89, 42, 180, 1, 81]
abbrev dktX1_restore_0 : List UInt8 := dkwX1_restore_0 ++ dktX1_restore_1
theorem dksX1_restore_0 : cX1_restore.data.toList.drop 0 = dktX1_restore_0 := by decide +kernel
theorem dksX1_restore_1 : cX1_restore.data.toList.drop 24 = dktX1_restore_1 := dk_seg dksX1_restore_0 24 rfl rfl
theorem dX1_restore_0 : decode cX1_restore 0 = .ok (.aload_n 0, 1) := dk_42 (dk_at dksX1_restore_0 0 rfl rfl)
theorem dX1_restore_1 : decode cX1_restore 1 = .ok (.getfield 337, 3) := dk_180 1 81 (dk_at dksX1_restore_0 1 rfl rfl)
theorem dX1_restore_4 : decode cX1_restore 4 = .ok (.ifnull 7, 3) := dk_198 0 7 (dk_at dksX1_restore_0 4 rfl rfl)
theorem dX1_restore_7 : decode cX1_restore 7 = .ok (.iconst 1, 1) := dk_4 (dk_at dksX1_restore_0 7 rfl rfl)
theorem dX1_restore_8 : decode cX1_restore 8 = .ok (.goto 4, 3) := dk_167 0 4 (dk_at dksX1_restore_0 8 rfl rfl)
theorem dX1_restore_11 : decode cX1_restore 11 = .ok (.iconst 0, 1) := dk_3 (dk_at dksX1_restore_0 11 rfl rfl)
theorem dX1_restore_12 : decode cX1_restore 12 = .ok (.invokestatic 97, 3) := dk_184 0 97 (dk_at dksX1_restore_0 12 rfl rfl)
theorem dX1_restore_15 : decode cX1_restore 15 = .ok (.aload_n 0, 1) := dk_42 (dk_at dksX1_restore_0 15 rfl rfl)
theorem dX1_restore_16 : decode cX1_restore 16 = .ok (.new 25, 3) := dk_187 0 25 (dk_at dksX1_restore_0 16 rfl rfl)
theorem dX1_restore_19 : decode cX1_restore 19 = .ok (.dup, 1) := dk_89 (dk_at dksX1_restore_0 19 rfl rfl)
theorem dX1_restore_20 : decode cX1_restore 20 = .ok (.aload_n 0, 1) := dk_42 (dk_at dksX1_restore_0 20 rfl rfl)
theorem dX1_restore_21 : decode cX1_restore 21 = .ok (.getfield 337, 3) := dk_180 1 81 (dk_at dksX1_restore_0 21 rfl rfl)
theorem dX1_restore_24 : decode cX1_restore 24 = .ok (.invokespecial 163, 3) := dk_183 0 163 (dk_at dksX1_restore_1 0 rfl rfl)
theorem dX1_restore_27 : decode cX1_restore 27 = .ok (.putfield 28, 3) := dk_181 0 28 (dk_at dksX1_restore_1 3 rfl rfl)
theorem dX1_restore_30 : decode cX1_restore 30 = .ok (.aload_n 0, 1) := dk_42 (dk_at dksX1_restore_1 6 rfl rfl)
theorem dX1_restore_31 : decode cX1_restore 31 = .ok (.getfield 35, 3) := dk_180 0 35 (dk_at dksX1_restore_1 7 rfl rfl)
theorem dX1_restore_34 : decode cX1_restore 34 = .ok (.invokevirtual 340, 3) := dk_182 1 84 (dk_at dksX1_restore_1 10 rfl rfl)
theorem dX1_restore_37 : decode cX1_restore 37 = .ok (.aload_n 0, 1) := dk_42 (dk_at dksX1_restore_1 13 rfl rfl)
theorem dX1_restore_38 : decode cX1_restore 38 = .ok (.getfield 28, 3) := dk_180 0 28 (dk_at dksX1_restore_1 14 rfl rfl)
theorem dX1_restore_41 : decode cX1_restore 41 = .ok (.getfield 290, 3) := dk_180 1 34 (dk_at dksX1_restore_1 17 rfl rfl)
theorem dX1_restore_44 : decode cX1_restore 44 = .ok (.ireturn, 1) := dk_172 (dk_at dksX1_restore_1 20 rfl rfl)
theorem q94 : (Jvm.Cond.initialized "RobotCell") ∈ lw_all := lw_g (lw_at lw_m1 1 rfl) rfl
theorem q165 : (Jvm.Cond.instantiable "RobotCell" (5 : Nat)) ∈ lw_all := lw_g (lw_at lw_m1 72 rfl) rfl
theorem q167 : (Jvm.Cond.instanceMethod ({ cls := "RobotCell", name := "<init>", desc := "()V" } : Jvm.MethodName)) ∈ lw_all := lw_g (lw_at lw_m1 74 rfl) rfl
theorem q168 : (Jvm.Cond.code ({ cls := "RobotCell", name := "<init>", desc := "()V" } : Jvm.MethodName) prog_1_method_7_code (1 : Nat) (Option.none : Option Jvm.ClassFile.FieldType)) ∈ lw_all := lw_g (lw_at lw_m1 75 rfl) rfl
theorem q169 : (Jvm.Cond.methodLink "RobotCell" (22 : Nat) ({ cls := "java/lang/Object", name := "<init>", desc := "()V" } : Jvm.MethodName)) ∈ lw_all := lw_g (lw_at lw_m1 76 rfl) rfl
theorem q172 : (Jvm.Cond.classLink "RobotCell" (25 : Nat) "RobotCell$Cell") ∈ lw_all := lw_g (lw_at lw_m1 79 rfl) rfl
theorem q174 : (Jvm.Cond.methodLink "RobotCell" (27 : Nat) ({ cls := "RobotCell$Cell", name := "<init>", desc := "()V" } : Jvm.MethodName)) ∈ lw_all := lw_g (lw_at lw_m1 81 rfl) rfl
theorem q858 : (Jvm.Cond.selects "RobotCell" ({ cls := "java/lang/Object", name := "toString", desc := "()Ljava/lang/String;" } : Jvm.MethodName) ({ cls := "java/lang/Object", name := "toString", desc := "()Ljava/lang/String;" } : Jvm.MethodName)) ∈ lw_all := lw_g (lw_at lw_m4 45 rfl) rfl
theorem q878 : (Jvm.Cond.selects "RobotCell" ({ cls := "java/lang/Object", name := "getClass", desc := "()Ljava/lang/Class;" } : Jvm.MethodName) ({ cls := "java/lang/Object", name := "getClass", desc := "()Ljava/lang/Class;" } : Jvm.MethodName)) ∈ lw_all := lw_g (lw_at lw_m4 65 rfl) rfl
theorem q1147 : (Jvm.Cond.fieldLinkNest "RobotCell" (177 : Nat) "RobotCell$Buffer" "parts" "Ljava/util/ArrayDeque;" "RobotCell") ∈ lw_tbl := lw_at lw_m5 94 rfl
theorem q1149 : (Jvm.Cond.fieldLinkNest "RobotCell" (185 : Nat) "RobotCell$Buffer" "capacity" "I" "RobotCell") ∈ lw_tbl := lw_at lw_m5 96 rfl
theorem q1152 : (Jvm.Cond.fieldLinkNest "RobotCell" (182 : Nat) "RobotCell$Buffer" "promisedPlaces" "I" "RobotCell") ∈ lw_tbl := lw_at lw_m5 99 rfl
theorem q1179 : (Jvm.Cond.fieldLinkNest "RobotCell" (68 : Nat) "RobotCell$Cell$Arm" "number" "I" "RobotCell") ∈ lw_tbl := lw_at lw_m5 126 rfl
theorem q1181 : (Jvm.Cond.fieldLinkNest "RobotCell" (131 : Nat) "RobotCell$Cell$Arm" "reach" "I" "RobotCell") ∈ lw_tbl := lw_at lw_m5 128 rfl
theorem q1184 : (Jvm.Cond.fieldLinkNest "RobotCell" (154 : Nat) "RobotCell$Cell$Arm" "row" "Ljava/util/ArrayDeque;" "RobotCell") ∈ lw_tbl := lw_at lw_m5 131 rfl
theorem q1189 : (Jvm.Cond.fieldLinkNest "RobotCell" (273 : Nat) "RobotCell$Cell$Arm" "state" "I" "RobotCell") ∈ lw_tbl := lw_at lw_m5 136 rfl
theorem q1194 : (Jvm.Cond.fieldLinkNest "RobotCell" (264 : Nat) "RobotCell$Cell$Arm" "patience" "I" "RobotCell") ∈ lw_tbl := lw_at lw_m5 141 rfl
theorem q1196 : (Jvm.Cond.fieldLinkNest "RobotCell" (270 : Nat) "RobotCell$Cell$Arm" "reason" "I" "RobotCell") ∈ lw_tbl := lw_at lw_m5 143 rfl
theorem q1198 : (Jvm.Cond.fieldLinkNest "RobotCell" (267 : Nat) "RobotCell$Cell$Arm" "detail" "I" "RobotCell") ∈ lw_tbl := lw_at lw_m5 145 rfl
theorem q1202 : (Jvm.Cond.fieldLinkNest "RobotCell" (308 : Nat) "RobotCell$Cell$Arm" "busyTicks" "I" "RobotCell") ∈ lw_tbl := lw_at lw_m5 149 rfl
theorem q1236 : (Jvm.Cond.fieldLinkNest "RobotCell" (84 : Nat) "RobotCell$Cell" "interlocks" "Ljava/util/LinkedHashSet;" "RobotCell") ∈ lw_tbl := lw_at lw_m5 183 rfl
theorem q1239 : (Jvm.Cond.fieldLinkNest "RobotCell" (173 : Nat) "RobotCell$Cell" "buffers" "[LRobotCell$Buffer;" "RobotCell") ∈ lw_tbl := lw_at lw_m5 186 rfl
theorem q1243 : (Jvm.Cond.fieldLinkNest "RobotCell" (55 : Nat) "RobotCell$Cell" "arms" "[LRobotCell$Cell$Arm;" "RobotCell") ∈ lw_tbl := lw_at lw_m5 190 rfl
theorem q1247 : (Jvm.Cond.fieldLinkNest "RobotCell" (141 : Nat) "RobotCell$Cell" "jobs" "Ljava/util/ArrayList;" "RobotCell") ∈ lw_tbl := lw_at lw_m5 194 rfl
theorem q1249 : (Jvm.Cond.fieldLinkNest "RobotCell" (284 : Nat) "RobotCell$Cell" "log" "Ljava/util/ArrayDeque;" "RobotCell") ∈ lw_tbl := lw_at lw_m5 196 rfl
theorem q1251 : (Jvm.Cond.fieldLinkNest "RobotCell" (202 : Nat) "RobotCell$Cell" "heldTicks" "[I" "RobotCell") ∈ lw_tbl := lw_at lw_m5 198 rfl
theorem q1255 : (Jvm.Cond.fieldLinkNest "RobotCell" (290 : Nat) "RobotCell$Cell" "time" "I" "RobotCell") ∈ lw_tbl := lw_at lw_m5 202 rfl
theorem q1257 : (Jvm.Cond.fieldLinkNest "RobotCell" (293 : Nat) "RobotCell$Cell" "newParts" "I" "RobotCell") ∈ lw_tbl := lw_at lw_m5 204 rfl
theorem q1260 : (Jvm.Cond.fieldLinkNest "RobotCell" (298 : Nat) "RobotCell$Cell" "goneParts" "I" "RobotCell") ∈ lw_tbl := lw_at lw_m5 207 rfl
theorem q1262 : (Jvm.Cond.fieldLinkNest "RobotCell" (157 : Nat) "RobotCell$Cell" "endedJobs" "I" "RobotCell") ∈ lw_tbl := lw_at lw_m5 209 rfl
theorem q1265 : (Jvm.Cond.fieldLinkNest "RobotCell" (249 : Nat) "RobotCell$Cell" "withdrawnJobs" "I" "RobotCell") ∈ lw_tbl := lw_at lw_m5 212 rfl
theorem q1268 : (Jvm.Cond.fieldLinkNest "RobotCell" (311 : Nat) "RobotCell$Cell" "durations" "I" "RobotCell") ∈ lw_tbl := lw_at lw_m5 215 rfl
theorem q1294 : (Jvm.Cond.classLink "RobotCell" (32 : Nat) "java/util/ArrayDeque") ∈ lw_all := lw_g (lw_at lw_m6 1 rfl) rfl
theorem q1295 : (Jvm.Cond.methodLink "RobotCell" (34 : Nat) ({ cls := "java/util/ArrayDeque", name := "<init>", desc := "()V" } : Jvm.MethodName)) ∈ lw_all := lw_g (lw_at lw_m6 2 rfl) rfl
theorem q1296 : (Jvm.Cond.fieldLink "RobotCell" (28 : Nat) "RobotCell" "cell" "LRobotCell$Cell;") ∈ lw_all := lw_g (lw_at lw_m6 3 rfl) rfl
theorem q1297 : (Jvm.Cond.fieldLink "RobotCell" (337 : Nat) "RobotCell" "saved" "LRobotCell$Cell;") ∈ lw_all := lw_g (lw_at lw_m6 4 rfl) rfl
theorem q1298 : (Jvm.Cond.fieldLink "RobotCell" (35 : Nat) "RobotCell" "history" "Ljava/util/ArrayDeque;") ∈ lw_all := lw_g (lw_at lw_m6 5 rfl) rfl
theorem q1300 : (Jvm.Cond.fieldLink "RobotCell" (39 : Nat) "RobotCell" "input" "[C") ∈ lw_all := lw_g (lw_at lw_m6 7 rfl) rfl
theorem q1302 : (Jvm.Cond.fieldLink "RobotCell" (314 : Nat) "RobotCell" "inputLength" "I") ∈ lw_all := lw_g (lw_at lw_m6 9 rfl) rfl
theorem q1303 : (Jvm.Cond.lays "RobotCell" "RobotCell" "cell" "LRobotCell$Cell;") ∈ lw_all := lw_g (lw_at lw_m6 10 rfl) rfl
theorem q1304 : (Jvm.Cond.soleField "RobotCell" "cell") ∈ lw_all := lw_g (lw_at lw_m6 11 rfl) rfl
theorem q1305 : (Jvm.Cond.lays "RobotCell" "RobotCell" "saved" "LRobotCell$Cell;") ∈ lw_all := lw_g (lw_at lw_m6 12 rfl) rfl
theorem q1306 : (Jvm.Cond.soleField "RobotCell" "saved") ∈ lw_all := lw_g (lw_at lw_m6 13 rfl) rfl
theorem q1307 : (Jvm.Cond.laysFinal "RobotCell" "RobotCell" "history" "Ljava/util/ArrayDeque;") ∈ lw_all := lw_g (lw_at lw_m6 14 rfl) rfl
theorem q1308 : (Jvm.Cond.soleField "RobotCell" "history") ∈ lw_all := lw_g (lw_at lw_m6 15 rfl) rfl
theorem q1309 : (Jvm.Cond.laysFinal "RobotCell" "RobotCell" "input" "[C") ∈ lw_all := lw_g (lw_at lw_m6 16 rfl) rfl
theorem q1310 : (Jvm.Cond.soleField "RobotCell" "input") ∈ lw_all := lw_g (lw_at lw_m6 17 rfl) rfl
theorem q1311 : (Jvm.Cond.lays "RobotCell" "RobotCell" "inputLength" "I") ∈ lw_all := lw_g (lw_at lw_m6 18 rfl) rfl
theorem q1312 : (Jvm.Cond.soleField "RobotCell" "inputLength") ∈ lw_all := lw_g (lw_at lw_m6 19 rfl) rfl
theorem q1313 : (Jvm.Cond.superclass "RobotCell" "java/lang/Object") ∈ lw_all := lw_g (lw_at lw_m6 20 rfl) rfl
theorem q1315 : (Jvm.Cond.instanceMethod ({ cls := "RobotCell", name := "isSafe", desc := "()Z" } : Jvm.MethodName)) ∈ lw_all := lw_g (lw_at lw_m6 22 rfl) rfl
theorem q1316 : (Jvm.Cond.selects "RobotCell" ({ cls := "RobotCell", name := "isSafe", desc := "()Z" } : Jvm.MethodName) ({ cls := "RobotCell", name := "isSafe", desc := "()Z" } : Jvm.MethodName)) ∈ lw_all := lw_g (lw_at lw_m6 23 rfl) rfl
theorem q1317 : (Jvm.Cond.code ({ cls := "RobotCell", name := "isSafe", desc := "()Z" } : Jvm.MethodName) prog_1_method_32_code (1 : Nat) (Option.some Jvm.ClassFile.FieldType.boolean)) ∈ lw_all := lw_g (lw_at lw_m6 24 rfl) rfl
theorem q1318 : (Jvm.Cond.methodLink "RobotCell" (281 : Nat) ({ cls := "RobotCell$Cell", name := "isSafe", desc := "()Z" } : Jvm.MethodName)) ∈ lw_all := lw_g (lw_at lw_m6 25 rfl) rfl
theorem q1378 : (Jvm.Cond.static ({ cls := "RobotCell", name := "contains", desc := "(II)Z" } : Jvm.MethodName)) ∈ lw_all := lw_g (lw_at lw_m6 85 rfl) rfl
theorem q1379 : (Jvm.Cond.code ({ cls := "RobotCell", name := "contains", desc := "(II)Z" } : Jvm.MethodName) prog_1_method_6_code (2 : Nat) (Option.some Jvm.ClassFile.FieldType.boolean)) ∈ lw_all := lw_g (lw_at lw_m6 86 rfl) rfl
theorem q1624 : (Jvm.Cond.instanceMethod ({ cls := "RobotCell", name := "save", desc := "()I" } : Jvm.MethodName)) ∈ lw_all := lw_g (lw_at lw_m7 91 rfl) rfl
theorem q1625 : (Jvm.Cond.selects "RobotCell" ({ cls := "RobotCell", name := "save", desc := "()I" } : Jvm.MethodName) ({ cls := "RobotCell", name := "save", desc := "()I" } : Jvm.MethodName)) ∈ lw_all := lw_g (lw_at lw_m7 92 rfl) rfl
theorem q1626 : (Jvm.Cond.code ({ cls := "RobotCell", name := "save", desc := "()I" } : Jvm.MethodName) prog_1_method_40_code (1 : Nat) (Option.some Jvm.ClassFile.FieldType.int)) ∈ lw_all := lw_g (lw_at lw_m7 93 rfl) rfl
theorem q1627 : (Jvm.Cond.methodLink "RobotCell" (163 : Nat) ({ cls := "RobotCell$Cell", name := "<init>", desc := "(LRobotCell$Cell;)V" } : Jvm.MethodName)) ∈ lw_all := lw_g (lw_at lw_m7 94 rfl) rfl
theorem q1650 : (Jvm.Cond.selects "RobotCell" ({ cls := "java/lang/Object", name := "hashCode", desc := "()I" } : Jvm.MethodName) ({ cls := "java/lang/Object", name := "hashCode", desc := "()I" } : Jvm.MethodName)) ∈ lw_all := lw_g (lw_at lw_m7 117 rfl) rfl
theorem q2061 : (Jvm.Cond.selects "RobotCell" ({ cls := "java/lang/Object", name := "equals", desc := "(Ljava/lang/Object;)Z" } : Jvm.MethodName) ({ cls := "java/lang/Object", name := "equals", desc := "(Ljava/lang/Object;)Z" } : Jvm.MethodName)) ∈ lw_all := lw_g (lw_at lw_m9 48 rfl) rfl
theorem q2288 : (Jvm.Cond.fieldLinkNest "RobotCell" (252 : Nat) "RobotCell$Job" "number" "I" "RobotCell") ∈ lw_tbl := lw_at lw_m10 35 rfl
theorem q2293 : (Jvm.Cond.fieldLinkNest "RobotCell" (246 : Nat) "RobotCell$Job" "state" "I" "RobotCell") ∈ lw_tbl := lw_at lw_m10 40 rfl
theorem q2381 : (Jvm.Cond.instanceMethod ({ cls := "RobotCell", name := "setInterlock", desc := "(IIZ)Z" } : Jvm.MethodName)) ∈ lw_all := lw_g (lw_at lw_m10 128 rfl) rfl
theorem q2382 : (Jvm.Cond.selects "RobotCell" ({ cls := "RobotCell", name := "setInterlock", desc := "(IIZ)Z" } : Jvm.MethodName) ({ cls := "RobotCell", name := "setInterlock", desc := "(IIZ)Z" } : Jvm.MethodName)) ∈ lw_all := lw_g (lw_at lw_m10 129 rfl) rfl
theorem q2383 : (Jvm.Cond.code ({ cls := "RobotCell", name := "setInterlock", desc := "(IIZ)Z" } : Jvm.MethodName) prog_1_method_14_code (6 : Nat) (Option.some Jvm.ClassFile.FieldType.boolean)) ∈ lw_all := lw_g (lw_at lw_m10 130 rfl) rfl
theorem q2384 : (Jvm.Cond.methodLink "RobotCell" (166 : Nat) ({ cls := "RobotCell", name := "setInterlockIn", desc := "(LRobotCell$Cell;IIZ)Z" } : Jvm.MethodName)) ∈ lw_all := lw_g (lw_at lw_m10 131 rfl) rfl
theorem q2385 : (Jvm.Cond.static ({ cls := "RobotCell", name := "setInterlockIn", desc := "(LRobotCell$Cell;IIZ)Z" } : Jvm.MethodName)) ∈ lw_all := lw_g (lw_at lw_m10 132 rfl) rfl
theorem q2386 : (Jvm.Cond.code ({ cls := "RobotCell", name := "setInterlockIn", desc := "(LRobotCell$Cell;IIZ)Z" } : Jvm.MethodName) prog_1_method_10_code (9 : Nat) (Option.some Jvm.ClassFile.FieldType.boolean)) ∈ lw_all := lw_g (lw_at lw_m10 133 rfl) rfl
theorem q2387 : (Jvm.Cond.methodLink "RobotCell" (72 : Nat) ({ cls := "RobotCell", name := "checkIndex", desc := "(II)V" } : Jvm.MethodName)) ∈ lw_all := lw_g (lw_at lw_m10 134 rfl) rfl
theorem q2388 : (Jvm.Cond.static ({ cls := "RobotCell", name := "checkIndex", desc := "(II)V" } : Jvm.MethodName)) ∈ lw_all := lw_g (lw_at lw_m10 135 rfl) rfl
theorem q2389 : (Jvm.Cond.code ({ cls := "RobotCell", name := "checkIndex", desc := "(II)V" } : Jvm.MethodName) prog_1_method_4_code (2 : Nat) (Option.none : Option Jvm.ClassFile.FieldType)) ∈ lw_all := lw_g (lw_at lw_m10 136 rfl) rfl
theorem q2390 : (Jvm.Cond.methodLink "RobotCell" (10 : Nat) ({ cls := "RobotCell", name := "inRange", desc := "(III)Z" } : Jvm.MethodName)) ∈ lw_all := lw_g (lw_at lw_m10 137 rfl) rfl
theorem q2391 : (Jvm.Cond.static ({ cls := "RobotCell", name := "inRange", desc := "(III)Z" } : Jvm.MethodName)) ∈ lw_all := lw_g (lw_at lw_m10 138 rfl) rfl
theorem q2392 : (Jvm.Cond.code ({ cls := "RobotCell", name := "inRange", desc := "(III)Z" } : Jvm.MethodName) prog_1_method_1_code (3 : Nat) (Option.some Jvm.ClassFile.FieldType.boolean)) ∈ lw_all := lw_g (lw_at lw_m10 139 rfl) rfl
theorem q2393 : (Jvm.Cond.classLink "RobotCell" (16 : Nat) "java/lang/IndexOutOfBoundsException") ∈ lw_all := lw_g (lw_at lw_m10 140 rfl) rfl
theorem q2402 : (Jvm.Cond.methodLink "RobotCell" (18 : Nat) ({ cls := "java/lang/IndexOutOfBoundsException", name := "<init>", desc := "()V" } : Jvm.MethodName)) ∈ lw_all := lw_g (lw_at lw_m10 149 rfl) rfl
theorem q2408 : (Jvm.Cond.methodLink "RobotCell" (76 : Nat) ({ cls := "RobotCell", name := "checkArgument", desc := "(Z)V" } : Jvm.MethodName)) ∈ lw_all := lw_g (lw_at lw_m10 155 rfl) rfl
theorem q2409 : (Jvm.Cond.static ({ cls := "RobotCell", name := "checkArgument", desc := "(Z)V" } : Jvm.MethodName)) ∈ lw_all := lw_g (lw_at lw_m10 156 rfl) rfl
theorem q2410 : (Jvm.Cond.code ({ cls := "RobotCell", name := "checkArgument", desc := "(Z)V" } : Jvm.MethodName) prog_1_method_2_code (1 : Nat) (Option.none : Option Jvm.ClassFile.FieldType)) ∈ lw_all := lw_g (lw_at lw_m10 157 rfl) rfl
theorem q2411 : (Jvm.Cond.classLink "RobotCell" (1 : Nat) "java/lang/IllegalArgumentException") ∈ lw_all := lw_g (lw_at lw_m10 158 rfl) rfl
theorem q2412 : (Jvm.Cond.methodLink "RobotCell" (3 : Nat) ({ cls := "java/lang/IllegalArgumentException", name := "<init>", desc := "()V" } : Jvm.MethodName)) ∈ lw_all := lw_g (lw_at lw_m10 159 rfl) rfl
theorem q2416 : (Jvm.Cond.classLink "RobotCell" (80 : Nat) "RobotCell$Interlock") ∈ lw_all := lw_g (lw_at lw_m10 163 rfl) rfl
theorem q2418 : (Jvm.Cond.methodLink "RobotCell" (82 : Nat) ({ cls := "RobotCell$Interlock", name := "<init>", desc := "(II)V" } : Jvm.MethodName)) ∈ lw_all := lw_g (lw_at lw_m10 165 rfl) rfl
theorem q2431 : (Jvm.Cond.methodLink "RobotCell" (88 : Nat) ({ cls := "java/util/LinkedHashSet", name := "contains", desc := "(Ljava/lang/Object;)Z" } : Jvm.MethodName)) ∈ lw_all := lw_g (lw_at lw_m10 178 rfl) rfl
theorem q2451 : (Jvm.Cond.methodLink "RobotCell" (93 : Nat) ({ cls := "RobotCell", name := "holder", desc := "(LRobotCell$Cell;I)I" } : Jvm.MethodName)) ∈ lw_all := lw_g (lw_at lw_m10 198 rfl) rfl
theorem q2452 : (Jvm.Cond.static ({ cls := "RobotCell", name := "holder", desc := "(LRobotCell$Cell;I)I" } : Jvm.MethodName)) ∈ lw_all := lw_g (lw_at lw_m10 199 rfl) rfl
theorem q2453 : (Jvm.Cond.code ({ cls := "RobotCell", name := "holder", desc := "(LRobotCell$Cell;I)I" } : Jvm.MethodName) prog_1_method_9_code (7 : Nat) (Option.some Jvm.ClassFile.FieldType.int)) ∈ lw_all := lw_g (lw_at lw_m10 200 rfl) rfl
theorem q2454 : (Jvm.Cond.methodLink "RobotCell" (59 : Nat) ({ cls := "RobotCell$Cell$Arm", name := "held", desc := "()I" } : Jvm.MethodName)) ∈ lw_all := lw_g (lw_at lw_m10 201 rfl) rfl
theorem q2455 : (Jvm.Cond.methodLink "RobotCell" (64 : Nat) ({ cls := "RobotCell", name := "contains", desc := "(II)Z" } : Jvm.MethodName)) ∈ lw_all := lw_g (lw_at lw_m10 202 rfl) rfl
theorem q2456 : (Jvm.Cond.methodLink "RobotCell" (97 : Nat) ({ cls := "RobotCell", name := "checkState", desc := "(Z)V" } : Jvm.MethodName)) ∈ lw_all := lw_g (lw_at lw_m10 203 rfl) rfl
theorem q2457 : (Jvm.Cond.static ({ cls := "RobotCell", name := "checkState", desc := "(Z)V" } : Jvm.MethodName)) ∈ lw_all := lw_g (lw_at lw_m10 204 rfl) rfl
theorem q2458 : (Jvm.Cond.code ({ cls := "RobotCell", name := "checkState", desc := "(Z)V" } : Jvm.MethodName) prog_1_method_3_code (1 : Nat) (Option.none : Option Jvm.ClassFile.FieldType)) ∈ lw_all := lw_g (lw_at lw_m10 205 rfl) rfl
theorem q2459 : (Jvm.Cond.classLink "RobotCell" (7 : Nat) "java/lang/IllegalStateException") ∈ lw_all := lw_g (lw_at lw_m10 206 rfl) rfl
theorem q2460 : (Jvm.Cond.methodLink "RobotCell" (9 : Nat) ({ cls := "java/lang/IllegalStateException", name := "<init>", desc := "()V" } : Jvm.MethodName)) ∈ lw_all := lw_g (lw_at lw_m10 207 rfl) rfl
theorem q2464 : (Jvm.Cond.methodLink "RobotCell" (100 : Nat) ({ cls := "java/util/LinkedHashSet", name := "add", desc := "(Ljava/lang/Object;)Z" } : Jvm.MethodName)) ∈ lw_all := lw_g (lw_at lw_m10 211 rfl) rfl
theorem q2465 : (Jvm.Cond.methodLink "RobotCell" (103 : Nat) ({ cls := "java/util/LinkedHashSet", name := "remove", desc := "(Ljava/lang/Object;)Z" } : Jvm.MethodName)) ∈ lw_all := lw_g (lw_at lw_m10 212 rfl) rfl
theorem q2495 : (Jvm.Cond.methodLink "RobotCell" (170 : Nat) ({ cls := "RobotCell", name := "change", desc := "(LRobotCell$Cell;)V" } : Jvm.MethodName)) ∈ lw_all := lw_g (lw_at lw_m11 2 rfl) rfl
theorem q2496 : (Jvm.Cond.privateMethod ({ cls := "RobotCell", name := "change", desc := "(LRobotCell$Cell;)V" } : Jvm.MethodName)) ∈ lw_tbl := lw_at lw_m11 3 rfl
theorem q2497 : (Jvm.Cond.instanceMethod ({ cls := "RobotCell", name := "change", desc := "(LRobotCell$Cell;)V" } : Jvm.MethodName)) ∈ lw_all := lw_g (lw_at lw_m11 4 rfl) rfl
theorem q2498 : (Jvm.Cond.code ({ cls := "RobotCell", name := "change", desc := "(LRobotCell$Cell;)V" } : Jvm.MethodName) prog_1_method_8_code (3 : Nat) (Option.none : Option Jvm.ClassFile.FieldType)) ∈ lw_all := lw_g (lw_at lw_m11 5 rfl) rfl
theorem q2499 : (Jvm.Cond.methodLink "RobotCell" (43 : Nat) ({ cls := "java/util/ArrayDeque", name := "size", desc := "()I" } : Jvm.MethodName)) ∈ lw_all := lw_g (lw_at lw_m11 6 rfl) rfl
theorem q2500 : (Jvm.Cond.methodLink "RobotCell" (47 : Nat) ({ cls := "java/util/ArrayDeque", name := "removeFirst", desc := "()Ljava/lang/Object;" } : Jvm.MethodName)) ∈ lw_all := lw_g (lw_at lw_m11 7 rfl) rfl
theorem q2513 : (Jvm.Cond.methodLink "RobotCell" (51 : Nat) ({ cls := "java/util/ArrayDeque", name := "addLast", desc := "(Ljava/lang/Object;)V" } : Jvm.MethodName)) ∈ lw_all := lw_g (lw_at lw_m11 20 rfl) rfl
theorem q2518 : (Jvm.Cond.instanceMethod ({ cls := "RobotCell", name := "setReach", desc := "(II)I" } : Jvm.MethodName)) ∈ lw_all := lw_g (lw_at lw_m11 25 rfl) rfl
theorem q2519 : (Jvm.Cond.selects "RobotCell" ({ cls := "RobotCell", name := "setReach", desc := "(II)I" } : Jvm.MethodName) ({ cls := "RobotCell", name := "setReach", desc := "(II)I" } : Jvm.MethodName)) ∈ lw_all := lw_g (lw_at lw_m11 26 rfl) rfl
theorem q2520 : (Jvm.Cond.code ({ cls := "RobotCell", name := "setReach", desc := "(II)I" } : Jvm.MethodName) prog_1_method_15_code (5 : Nat) (Option.some Jvm.ClassFile.FieldType.int)) ∈ lw_all := lw_g (lw_at lw_m11 27 rfl) rfl
theorem q2525 : (Jvm.Cond.instanceMethod ({ cls := "RobotCell", name := "setCapacity", desc := "(II)I" } : Jvm.MethodName)) ∈ lw_all := lw_g (lw_at lw_m11 32 rfl) rfl
theorem q2526 : (Jvm.Cond.selects "RobotCell" ({ cls := "RobotCell", name := "setCapacity", desc := "(II)I" } : Jvm.MethodName) ({ cls := "RobotCell", name := "setCapacity", desc := "(II)I" } : Jvm.MethodName)) ∈ lw_all := lw_g (lw_at lw_m11 33 rfl) rfl
theorem q2527 : (Jvm.Cond.code ({ cls := "RobotCell", name := "setCapacity", desc := "(II)I" } : Jvm.MethodName) prog_1_method_16_code (6 : Nat) (Option.some Jvm.ClassFile.FieldType.int)) ∈ lw_all := lw_g (lw_at lw_m11 34 rfl) rfl
theorem q2532 : (Jvm.Cond.instanceMethod ({ cls := "RobotCell", name := "supply", desc := "(I)I" } : Jvm.MethodName)) ∈ lw_all := lw_g (lw_at lw_m11 39 rfl) rfl
theorem q2533 : (Jvm.Cond.selects "RobotCell" ({ cls := "RobotCell", name := "supply", desc := "(I)I" } : Jvm.MethodName) ({ cls := "RobotCell", name := "supply", desc := "(I)I" } : Jvm.MethodName)) ∈ lw_all := lw_g (lw_at lw_m11 40 rfl) rfl
theorem q2534 : (Jvm.Cond.code ({ cls := "RobotCell", name := "supply", desc := "(I)I" } : Jvm.MethodName) prog_1_method_17_code (4 : Nat) (Option.some Jvm.ClassFile.FieldType.int)) ∈ lw_all := lw_g (lw_at lw_m11 41 rfl) rfl
theorem q2535 : (Jvm.Cond.methodLink "RobotCell" (188 : Nat) ({ cls := "RobotCell$Buffer", name := "hasRoom", desc := "()Z" } : Jvm.MethodName)) ∈ lw_all := lw_g (lw_at lw_m11 42 rfl) rfl
theorem q2540 : (Jvm.Cond.methodLink "RobotCell" (192 : Nat) ({ cls := "RobotCell$Cell", name := "newPart", desc := "()I" } : Jvm.MethodName)) ∈ lw_all := lw_g (lw_at lw_m11 47 rfl) rfl
theorem q2544 : (Jvm.Cond.methodLink "RobotCell" (195 : Nat) ({ cls := "RobotCell$Buffer", name := "put", desc := "(I)V" } : Jvm.MethodName)) ∈ lw_all := lw_g (lw_at lw_m11 51 rfl) rfl
theorem q2571 : (Jvm.Cond.instanceMethod ({ cls := "RobotCell", name := "zone", desc := "(II)I" } : Jvm.MethodName)) ∈ lw_all := lw_g (lw_at lw_m11 78 rfl) rfl
theorem q2572 : (Jvm.Cond.selects "RobotCell" ({ cls := "RobotCell", name := "zone", desc := "(II)I" } : Jvm.MethodName) ({ cls := "RobotCell", name := "zone", desc := "(II)I" } : Jvm.MethodName)) ∈ lw_all := lw_g (lw_at lw_m11 79 rfl) rfl
theorem q2573 : (Jvm.Cond.code ({ cls := "RobotCell", name := "zone", desc := "(II)I" } : Jvm.MethodName) prog_1_method_18_code (9 : Nat) (Option.some Jvm.ClassFile.FieldType.int)) ∈ lw_all := lw_g (lw_at lw_m11 80 rfl) rfl
theorem q2574 : (Jvm.Cond.methodLink "RobotCell" (198 : Nat) ({ cls := "RobotCell$Cell", name := "conflicts", desc := "(I)I" } : Jvm.MethodName)) ∈ lw_all := lw_g (lw_at lw_m11 81 rfl) rfl
theorem q2579 : (Jvm.Cond.instanceMethod ({ cls := "RobotCell", name := "buffer", desc := "(II)I" } : Jvm.MethodName)) ∈ lw_all := lw_g (lw_at lw_m11 86 rfl) rfl
theorem q2580 : (Jvm.Cond.selects "RobotCell" ({ cls := "RobotCell", name := "buffer", desc := "(II)I" } : Jvm.MethodName) ({ cls := "RobotCell", name := "buffer", desc := "(II)I" } : Jvm.MethodName)) ∈ lw_all := lw_g (lw_at lw_m11 87 rfl) rfl
theorem q2581 : (Jvm.Cond.code ({ cls := "RobotCell", name := "buffer", desc := "(II)I" } : Jvm.MethodName) prog_1_method_19_code (3 : Nat) (Option.some Jvm.ClassFile.FieldType.int)) ∈ lw_all := lw_g (lw_at lw_m11 88 rfl) rfl
theorem q2582 : (Jvm.Cond.methodLink "RobotCell" (205 : Nat) ({ cls := "RobotCell$Buffer", name := "number", desc := "(I)I" } : Jvm.MethodName)) ∈ lw_all := lw_g (lw_at lw_m11 89 rfl) rfl
theorem q2591 : (Jvm.Cond.instanceMethod ({ cls := "RobotCell", name := "part", desc := "(II)I" } : Jvm.MethodName)) ∈ lw_all := lw_g (lw_at lw_m11 98 rfl) rfl
theorem q2592 : (Jvm.Cond.selects "RobotCell" ({ cls := "RobotCell", name := "part", desc := "(II)I" } : Jvm.MethodName) ({ cls := "RobotCell", name := "part", desc := "(II)I" } : Jvm.MethodName)) ∈ lw_all := lw_g (lw_at lw_m11 99 rfl) rfl
theorem q2593 : (Jvm.Cond.code ({ cls := "RobotCell", name := "part", desc := "(II)I" } : Jvm.MethodName) prog_1_method_21_code (4 : Nat) (Option.some Jvm.ClassFile.FieldType.int)) ∈ lw_all := lw_g (lw_at lw_m11 100 rfl) rfl
theorem q2594 : (Jvm.Cond.methodLink "RobotCell" (221 : Nat) ({ cls := "RobotCell", name := "checkFound", desc := "(Z)V" } : Jvm.MethodName)) ∈ lw_all := lw_g (lw_at lw_m11 101 rfl) rfl
theorem q2595 : (Jvm.Cond.static ({ cls := "RobotCell", name := "checkFound", desc := "(Z)V" } : Jvm.MethodName)) ∈ lw_all := lw_g (lw_at lw_m11 102 rfl) rfl
theorem q2596 : (Jvm.Cond.code ({ cls := "RobotCell", name := "checkFound", desc := "(Z)V" } : Jvm.MethodName) prog_1_method_5_code (1 : Nat) (Option.none : Option Jvm.ClassFile.FieldType)) ∈ lw_all := lw_g (lw_at lw_m11 103 rfl) rfl
theorem q2597 : (Jvm.Cond.classLink "RobotCell" (19 : Nat) "java/util/NoSuchElementException") ∈ lw_all := lw_g (lw_at lw_m11 104 rfl) rfl
theorem q2598 : (Jvm.Cond.methodLink "RobotCell" (21 : Nat) ({ cls := "java/util/NoSuchElementException", name := "<init>", desc := "()V" } : Jvm.MethodName)) ∈ lw_all := lw_g (lw_at lw_m11 105 rfl) rfl
theorem q2599 : (Jvm.Cond.methodLink "RobotCell" (224 : Nat) ({ cls := "RobotCell", name := "elementAt", desc := "(Ljava/lang/Iterable;I)Ljava/lang/Object;" } : Jvm.MethodName)) ∈ lw_all := lw_g (lw_at lw_m11 106 rfl) rfl
theorem q2600 : (Jvm.Cond.static ({ cls := "RobotCell", name := "elementAt", desc := "(Ljava/lang/Iterable;I)Ljava/lang/Object;" } : Jvm.MethodName)) ∈ lw_all := lw_g (lw_at lw_m11 107 rfl) rfl
theorem q2601 : (Jvm.Cond.code ({ cls := "RobotCell", name := "elementAt", desc := "(Ljava/lang/Iterable;I)Ljava/lang/Object;" } : Jvm.MethodName) prog_1_method_20_code (6 : Nat) (Option.some (Jvm.ClassFile.FieldType.object "java/lang/Object"))) ∈ lw_all := lw_g (lw_at lw_m11 108 rfl) rfl
theorem q2602 : (Jvm.Cond.interfaceEntry "RobotCell" (207 : Nat)) ∈ lw_tbl := lw_at lw_m11 109 rfl
theorem q2603 : (Jvm.Cond.methodLink "RobotCell" (207 : Nat) ({ cls := "java/lang/Iterable", name := "iterator", desc := "()Ljava/util/Iterator;" } : Jvm.MethodName)) ∈ lw_all := lw_g (lw_at lw_m11 110 rfl) rfl
theorem q2620 : (Jvm.Cond.interfaceEntry "RobotCell" (213 : Nat)) ∈ lw_tbl := lw_at lw_m11 127 rfl
theorem q2621 : (Jvm.Cond.methodLink "RobotCell" (213 : Nat) ({ cls := "java/util/Iterator", name := "hasNext", desc := "()Z" } : Jvm.MethodName)) ∈ lw_all := lw_g (lw_at lw_m11 128 rfl) rfl
theorem q2622 : (Jvm.Cond.interfaceEntry "RobotCell" (218 : Nat)) ∈ lw_tbl := lw_at lw_m11 129 rfl
theorem q2623 : (Jvm.Cond.methodLink "RobotCell" (218 : Nat) ({ cls := "java/util/Iterator", name := "next", desc := "()Ljava/lang/Object;" } : Jvm.MethodName)) ∈ lw_all := lw_g (lw_at lw_m11 130 rfl) rfl
theorem q2624 : (Jvm.Cond.classLink "RobotCell" (228 : Nat) "java/lang/Integer") ∈ lw_all := lw_g (lw_at lw_m11 131 rfl) rfl
theorem q2625 : (Jvm.Cond.methodLink "RobotCell" (230 : Nat) ({ cls := "java/lang/Integer", name := "intValue", desc := "()I" } : Jvm.MethodName)) ∈ lw_all := lw_g (lw_at lw_m11 132 rfl) rfl
theorem q2631 : (Jvm.Cond.instanceMethod ({ cls := "RobotCell", name := "give", desc := "(IIIIII)I" } : Jvm.MethodName)) ∈ lw_all := lw_g (lw_at lw_m11 138 rfl) rfl
theorem q2632 : (Jvm.Cond.selects "RobotCell" ({ cls := "RobotCell", name := "give", desc := "(IIIIII)I" } : Jvm.MethodName) ({ cls := "RobotCell", name := "give", desc := "(IIIIII)I" } : Jvm.MethodName)) ∈ lw_all := lw_g (lw_at lw_m11 139 rfl) rfl
theorem q2633 : (Jvm.Cond.code ({ cls := "RobotCell", name := "give", desc := "(IIIIII)I" } : Jvm.MethodName) prog_1_method_22_code (9 : Nat) (Option.some Jvm.ClassFile.FieldType.int)) ∈ lw_all := lw_g (lw_at lw_m11 140 rfl) rfl
theorem q2634 : (Jvm.Cond.classLink "RobotCell" (107 : Nat) "RobotCell$Order") ∈ lw_all := lw_g (lw_at lw_m11 141 rfl) rfl
theorem q2636 : (Jvm.Cond.methodLink "RobotCell" (233 : Nat) ({ cls := "RobotCell$Order", name := "<init>", desc := "(IIIIII)V" } : Jvm.MethodName)) ∈ lw_all := lw_g (lw_at lw_m11 143 rfl) rfl
theorem q2645 : (Jvm.Cond.fieldLinkNest "RobotCell" (106 : Nat) "RobotCell$Order" "arm" "I" "RobotCell") ∈ lw_tbl := lw_at lw_m11 152 rfl
theorem q2650 : (Jvm.Cond.fieldLinkNest "RobotCell" (121 : Nat) "RobotCell$Order" "path" "[I" "RobotCell") ∈ lw_tbl := lw_at lw_m11 157 rfl
theorem q2652 : (Jvm.Cond.fieldLinkNest "RobotCell" (125 : Nat) "RobotCell$Order" "work" "I" "RobotCell") ∈ lw_tbl := lw_at lw_m11 159 rfl
theorem q2655 : (Jvm.Cond.fieldLinkNest "RobotCell" (128 : Nat) "RobotCell$Order" "weight" "I" "RobotCell") ∈ lw_tbl := lw_at lw_m11 162 rfl
theorem q2659 : (Jvm.Cond.fieldLinkNest "RobotCell" (111 : Nat) "RobotCell$Order" "source" "I" "RobotCell") ∈ lw_tbl := lw_at lw_m11 166 rfl
theorem q2662 : (Jvm.Cond.fieldLinkNest "RobotCell" (118 : Nat) "RobotCell$Order" "target" "I" "RobotCell") ∈ lw_tbl := lw_at lw_m11 169 rfl
theorem q2678 : (Jvm.Cond.methodLink "RobotCell" (236 : Nat) ({ cls := "RobotCell", name := "giveIn", desc := "(LRobotCell$Cell;LRobotCell$Order;)I" } : Jvm.MethodName)) ∈ lw_all := lw_g (lw_at lw_m11 185 rfl) rfl
theorem q2679 : (Jvm.Cond.static ({ cls := "RobotCell", name := "giveIn", desc := "(LRobotCell$Cell;LRobotCell$Order;)I" } : Jvm.MethodName)) ∈ lw_all := lw_g (lw_at lw_m11 186 rfl) rfl
theorem q2680 : (Jvm.Cond.code ({ cls := "RobotCell", name := "giveIn", desc := "(LRobotCell$Cell;LRobotCell$Order;)I" } : Jvm.MethodName) prog_1_method_12_code (5 : Nat) (Option.some Jvm.ClassFile.FieldType.int)) ∈ lw_all := lw_g (lw_at lw_m11 187 rfl) rfl
theorem q2681 : (Jvm.Cond.methodLink "RobotCell" (114 : Nat) ({ cls := "RobotCell", name := "checkBuffer", desc := "(I)V" } : Jvm.MethodName)) ∈ lw_all := lw_g (lw_at lw_m11 188 rfl) rfl
theorem q2682 : (Jvm.Cond.static ({ cls := "RobotCell", name := "checkBuffer", desc := "(I)V" } : Jvm.MethodName)) ∈ lw_all := lw_g (lw_at lw_m11 189 rfl) rfl
theorem q2683 : (Jvm.Cond.code ({ cls := "RobotCell", name := "checkBuffer", desc := "(I)V" } : Jvm.MethodName) prog_1_method_11_code (1 : Nat) (Option.none : Option Jvm.ClassFile.FieldType)) ∈ lw_all := lw_g (lw_at lw_m11 190 rfl) rfl
theorem q2684 : (Jvm.Cond.methodLink "RobotCell" (134 : Nat) ({ cls := "RobotCell$Order", name := "isWithin", desc := "(I)Z" } : Jvm.MethodName)) ∈ lw_all := lw_g (lw_at lw_m11 191 rfl) rfl
theorem q2689 : (Jvm.Cond.classLink "RobotCell" (138 : Nat) "java/lang/UnsupportedOperationException") ∈ lw_all := lw_g (lw_at lw_m11 196 rfl) rfl
theorem q2698 : (Jvm.Cond.methodLink "RobotCell" (140 : Nat) ({ cls := "java/lang/UnsupportedOperationException", name := "<init>", desc := "()V" } : Jvm.MethodName)) ∈ lw_all := lw_g (lw_at lw_m11 205 rfl) rfl
theorem q2704 : (Jvm.Cond.methodLink "RobotCell" (145 : Nat) ({ cls := "java/util/ArrayList", name := "size", desc := "()I" } : Jvm.MethodName)) ∈ lw_all := lw_g (lw_at lw_m11 211 rfl) rfl
theorem q2708 : (Jvm.Cond.classLink "RobotCell" (148 : Nat) "RobotCell$Job") ∈ lw_all := lw_g (lw_at lw_m11 215 rfl) rfl
theorem q2709 : (Jvm.Cond.methodLink "RobotCell" (150 : Nat) ({ cls := "RobotCell$Job", name := "<init>", desc := "(ILRobotCell$Order;)V" } : Jvm.MethodName)) ∈ lw_all := lw_g (lw_at lw_m11 216 rfl) rfl
theorem q2710 : (Jvm.Cond.methodLink "RobotCell" (153 : Nat) ({ cls := "java/util/ArrayList", name := "add", desc := "(Ljava/lang/Object;)Z" } : Jvm.MethodName)) ∈ lw_all := lw_g (lw_at lw_m11 217 rfl) rfl
theorem q2715 : (Jvm.Cond.instanceMethod ({ cls := "RobotCell", name := "withdraw", desc := "(I)I" } : Jvm.MethodName)) ∈ lw_all := lw_g (lw_at lw_m11 222 rfl) rfl
theorem q2716 : (Jvm.Cond.selects "RobotCell" ({ cls := "RobotCell", name := "withdraw", desc := "(I)I" } : Jvm.MethodName) ({ cls := "RobotCell", name := "withdraw", desc := "(I)I" } : Jvm.MethodName)) ∈ lw_all := lw_g (lw_at lw_m11 223 rfl) rfl
theorem q2717 : (Jvm.Cond.code ({ cls := "RobotCell", name := "withdraw", desc := "(I)I" } : Jvm.MethodName) prog_1_method_23_code (4 : Nat) (Option.some Jvm.ClassFile.FieldType.int)) ∈ lw_all := lw_g (lw_at lw_m11 224 rfl) rfl
theorem q2718 : (Jvm.Cond.methodLink "RobotCell" (240 : Nat) ({ cls := "java/util/ArrayDeque", name := "isEmpty", desc := "()Z" } : Jvm.MethodName)) ∈ lw_all := lw_g (lw_at lw_m11 225 rfl) rfl
theorem q2722 : (Jvm.Cond.methodLink "RobotCell" (243 : Nat) ({ cls := "java/util/ArrayDeque", name := "removeLast", desc := "()Ljava/lang/Object;" } : Jvm.MethodName)) ∈ lw_all := lw_g (lw_at lw_m11 229 rfl) rfl
theorem q2737 : (Jvm.Cond.instanceMethod ({ cls := "RobotCell", name := "job", desc := "(II)I" } : Jvm.MethodName)) ∈ lw_all := lw_g (lw_at lw_m12 4 rfl) rfl
theorem q2738 : (Jvm.Cond.selects "RobotCell" ({ cls := "RobotCell", name := "job", desc := "(II)I" } : Jvm.MethodName) ({ cls := "RobotCell", name := "job", desc := "(II)I" } : Jvm.MethodName)) ∈ lw_all := lw_g (lw_at lw_m12 5 rfl) rfl
theorem q2739 : (Jvm.Cond.code ({ cls := "RobotCell", name := "job", desc := "(II)I" } : Jvm.MethodName) prog_1_method_24_code (3 : Nat) (Option.some Jvm.ClassFile.FieldType.int)) ∈ lw_all := lw_g (lw_at lw_m12 6 rfl) rfl
theorem q2740 : (Jvm.Cond.methodLink "RobotCell" (253 : Nat) ({ cls := "java/util/ArrayList", name := "get", desc := "(I)Ljava/lang/Object;" } : Jvm.MethodName)) ∈ lw_all := lw_g (lw_at lw_m12 7 rfl) rfl
theorem q2741 : (Jvm.Cond.methodLink "RobotCell" (257 : Nat) ({ cls := "RobotCell$Job", name := "part", desc := "(I)I" } : Jvm.MethodName)) ∈ lw_all := lw_g (lw_at lw_m12 8 rfl) rfl
theorem q2753 : (Jvm.Cond.instanceMethod ({ cls := "RobotCell", name := "arm", desc := "(II)I" } : Jvm.MethodName)) ∈ lw_all := lw_g (lw_at lw_m12 20 rfl) rfl
theorem q2754 : (Jvm.Cond.selects "RobotCell" ({ cls := "RobotCell", name := "arm", desc := "(II)I" } : Jvm.MethodName) ({ cls := "RobotCell", name := "arm", desc := "(II)I" } : Jvm.MethodName)) ∈ lw_all := lw_g (lw_at lw_m12 21 rfl) rfl
theorem q2755 : (Jvm.Cond.code ({ cls := "RobotCell", name := "arm", desc := "(II)I" } : Jvm.MethodName) prog_1_method_25_code (3 : Nat) (Option.some Jvm.ClassFile.FieldType.int)) ∈ lw_all := lw_g (lw_at lw_m12 22 rfl) rfl
theorem q2756 : (Jvm.Cond.methodLink "RobotCell" (260 : Nat) ({ cls := "RobotCell$Cell$Arm", name := "part", desc := "(I)I" } : Jvm.MethodName)) ∈ lw_all := lw_g (lw_at lw_m12 23 rfl) rfl
theorem q2770 : (Jvm.Cond.instanceMethod ({ cls := "RobotCell", name := "waiting", desc := "(II)I" } : Jvm.MethodName)) ∈ lw_all := lw_g (lw_at lw_m12 37 rfl) rfl
theorem q2771 : (Jvm.Cond.selects "RobotCell" ({ cls := "RobotCell", name := "waiting", desc := "(II)I" } : Jvm.MethodName) ({ cls := "RobotCell", name := "waiting", desc := "(II)I" } : Jvm.MethodName)) ∈ lw_all := lw_g (lw_at lw_m12 38 rfl) rfl
theorem q2772 : (Jvm.Cond.code ({ cls := "RobotCell", name := "waiting", desc := "(II)I" } : Jvm.MethodName) prog_1_method_26_code (4 : Nat) (Option.some Jvm.ClassFile.FieldType.int)) ∈ lw_all := lw_g (lw_at lw_m12 39 rfl) rfl
theorem q2777 : (Jvm.Cond.instanceMethod ({ cls := "RobotCell", name := "tick", desc := "(I)I" } : Jvm.MethodName)) ∈ lw_all := lw_g (lw_at lw_m12 44 rfl) rfl
theorem q2778 : (Jvm.Cond.selects "RobotCell" ({ cls := "RobotCell", name := "tick", desc := "(I)I" } : Jvm.MethodName) ({ cls := "RobotCell", name := "tick", desc := "(I)I" } : Jvm.MethodName)) ∈ lw_all := lw_g (lw_at lw_m12 45 rfl) rfl
theorem q2779 : (Jvm.Cond.code ({ cls := "RobotCell", name := "tick", desc := "(I)I" } : Jvm.MethodName) prog_1_method_27_code (4 : Nat) (Option.some Jvm.ClassFile.FieldType.int)) ∈ lw_all := lw_g (lw_at lw_m12 46 rfl) rfl
theorem q2780 : (Jvm.Cond.methodLink "RobotCell" (261 : Nat) ({ cls := "RobotCell", name := "tickIn", desc := "(LRobotCell$Cell;I)I" } : Jvm.MethodName)) ∈ lw_all := lw_g (lw_at lw_m12 47 rfl) rfl
theorem q2781 : (Jvm.Cond.static ({ cls := "RobotCell", name := "tickIn", desc := "(LRobotCell$Cell;I)I" } : Jvm.MethodName)) ∈ lw_all := lw_g (lw_at lw_m12 48 rfl) rfl
theorem q2782 : (Jvm.Cond.code ({ cls := "RobotCell", name := "tickIn", desc := "(LRobotCell$Cell;I)I" } : Jvm.MethodName) prog_1_method_13_code (4 : Nat) (Option.some Jvm.ClassFile.FieldType.int)) ∈ lw_all := lw_g (lw_at lw_m12 49 rfl) rfl
theorem q2783 : (Jvm.Cond.methodLink "RobotCell" (160 : Nat) ({ cls := "RobotCell$Cell", name := "tick", desc := "()V" } : Jvm.MethodName)) ∈ lw_all := lw_g (lw_at lw_m12 50 rfl) rfl
theorem q2909 : (Jvm.Cond.instanceMethod ({ cls := "RobotCell", name := "reason", desc := "(IZ)I" } : Jvm.MethodName)) ∈ lw_all := lw_g (lw_at lw_m12 176 rfl) rfl
theorem q2910 : (Jvm.Cond.selects "RobotCell" ({ cls := "RobotCell", name := "reason", desc := "(IZ)I" } : Jvm.MethodName) ({ cls := "RobotCell", name := "reason", desc := "(IZ)I" } : Jvm.MethodName)) ∈ lw_all := lw_g (lw_at lw_m12 177 rfl) rfl
theorem q2911 : (Jvm.Cond.code ({ cls := "RobotCell", name := "reason", desc := "(IZ)I" } : Jvm.MethodName) prog_1_method_28_code (3 : Nat) (Option.some Jvm.ClassFile.FieldType.int)) ∈ lw_all := lw_g (lw_at lw_m12 178 rfl) rfl
theorem q2916 : (Jvm.Cond.instanceMethod ({ cls := "RobotCell", name := "wouldBe", desc := "(I)I" } : Jvm.MethodName)) ∈ lw_all := lw_g (lw_at lw_m12 183 rfl) rfl
theorem q2917 : (Jvm.Cond.selects "RobotCell" ({ cls := "RobotCell", name := "wouldBe", desc := "(I)I" } : Jvm.MethodName) ({ cls := "RobotCell", name := "wouldBe", desc := "(I)I" } : Jvm.MethodName)) ∈ lw_all := lw_g (lw_at lw_m12 184 rfl) rfl
theorem q2918 : (Jvm.Cond.code ({ cls := "RobotCell", name := "wouldBe", desc := "(I)I" } : Jvm.MethodName) prog_1_method_29_code (3 : Nat) (Option.some Jvm.ClassFile.FieldType.int)) ∈ lw_all := lw_g (lw_at lw_m12 185 rfl) rfl
theorem q2919 : (Jvm.Cond.methodLink "RobotCell" (274 : Nat) ({ cls := "RobotCell$Cell$Arm", name := "hasNext", desc := "()Z" } : Jvm.MethodName)) ∈ lw_all := lw_g (lw_at lw_m12 186 rfl) rfl
theorem q2920 : (Jvm.Cond.methodLink "RobotCell" (275 : Nat) ({ cls := "RobotCell$Cell$Arm", name := "request", desc := "()I" } : Jvm.MethodName)) ∈ lw_all := lw_g (lw_at lw_m12 187 rfl) rfl
theorem q2925 : (Jvm.Cond.instanceMethod ({ cls := "RobotCell", name := "endsAfter", desc := "(I)I" } : Jvm.MethodName)) ∈ lw_all := lw_g (lw_at lw_m12 192 rfl) rfl
theorem q2926 : (Jvm.Cond.selects "RobotCell" ({ cls := "RobotCell", name := "endsAfter", desc := "(I)I" } : Jvm.MethodName) ({ cls := "RobotCell", name := "endsAfter", desc := "(I)I" } : Jvm.MethodName)) ∈ lw_all := lw_g (lw_at lw_m12 193 rfl) rfl
theorem q2927 : (Jvm.Cond.code ({ cls := "RobotCell", name := "endsAfter", desc := "(I)I" } : Jvm.MethodName) prog_1_method_30_code (4 : Nat) (Option.some Jvm.ClassFile.FieldType.int)) ∈ lw_all := lw_g (lw_at lw_m12 194 rfl) rfl
theorem q2932 : (Jvm.Cond.instanceMethod ({ cls := "RobotCell", name := "idleAfter", desc := "()I" } : Jvm.MethodName)) ∈ lw_all := lw_g (lw_at lw_m12 199 rfl) rfl
theorem q2933 : (Jvm.Cond.selects "RobotCell" ({ cls := "RobotCell", name := "idleAfter", desc := "()I" } : Jvm.MethodName) ({ cls := "RobotCell", name := "idleAfter", desc := "()I" } : Jvm.MethodName)) ∈ lw_all := lw_g (lw_at lw_m12 200 rfl) rfl
theorem q2934 : (Jvm.Cond.code ({ cls := "RobotCell", name := "idleAfter", desc := "()I" } : Jvm.MethodName) prog_1_method_31_code (3 : Nat) (Option.some Jvm.ClassFile.FieldType.int)) ∈ lw_all := lw_g (lw_at lw_m12 201 rfl) rfl
theorem q2935 : (Jvm.Cond.methodLink "RobotCell" (278 : Nat) ({ cls := "RobotCell$Cell", name := "isIdle", desc := "()Z" } : Jvm.MethodName)) ∈ lw_all := lw_g (lw_at lw_m12 202 rfl) rfl
theorem q2944 : (Jvm.Cond.instanceMethod ({ cls := "RobotCell", name := "entry", desc := "(II)I" } : Jvm.MethodName)) ∈ lw_all := lw_g (lw_at lw_m12 211 rfl) rfl
theorem q2945 : (Jvm.Cond.selects "RobotCell" ({ cls := "RobotCell", name := "entry", desc := "(II)I" } : Jvm.MethodName) ({ cls := "RobotCell", name := "entry", desc := "(II)I" } : Jvm.MethodName)) ∈ lw_all := lw_g (lw_at lw_m12 212 rfl) rfl
theorem q2946 : (Jvm.Cond.code ({ cls := "RobotCell", name := "entry", desc := "(II)I" } : Jvm.MethodName) prog_1_method_33_code (4 : Nat) (Option.some Jvm.ClassFile.FieldType.int)) ∈ lw_all := lw_g (lw_at lw_m12 213 rfl) rfl
theorem q2947 : (Jvm.Cond.classLink "RobotCell" (287 : Nat) "RobotCell$Entry") ∈ lw_all := lw_g (lw_at lw_m12 214 rfl) rfl
theorem q2948 : (Jvm.Cond.methodLink "RobotCell" (289 : Nat) ({ cls := "RobotCell$Entry", name := "part", desc := "(I)I" } : Jvm.MethodName)) ∈ lw_all := lw_g (lw_at lw_m12 215 rfl) rfl
theorem q2956 : (Jvm.Cond.instanceMethod ({ cls := "RobotCell", name := "account", desc := "(I)I" } : Jvm.MethodName)) ∈ lw_all := lw_g (lw_at lw_m12 223 rfl) rfl
theorem q2957 : (Jvm.Cond.selects "RobotCell" ({ cls := "RobotCell", name := "account", desc := "(I)I" } : Jvm.MethodName) ({ cls := "RobotCell", name := "account", desc := "(I)I" } : Jvm.MethodName)) ∈ lw_all := lw_g (lw_at lw_m12 224 rfl) rfl
theorem q2958 : (Jvm.Cond.code ({ cls := "RobotCell", name := "account", desc := "(I)I" } : Jvm.MethodName) prog_1_method_34_code (2 : Nat) (Option.some Jvm.ClassFile.FieldType.int)) ∈ lw_all := lw_g (lw_at lw_m12 225 rfl) rfl
theorem q2959 : (Jvm.Cond.methodLink "RobotCell" (296 : Nat) ({ cls := "RobotCell$Cell", name := "parts", desc := "()I" } : Jvm.MethodName)) ∈ lw_all := lw_g (lw_at lw_m12 226 rfl) rfl
theorem q2963 : (Jvm.Cond.methodLink "RobotCell" (301 : Nat) ({ cls := "RobotCell$Cell", name := "refusals", desc := "()I" } : Jvm.MethodName)) ∈ lw_all := lw_g (lw_at lw_m12 230 rfl) rfl
theorem q2967 : (Jvm.Cond.methodLink "RobotCell" (304 : Nat) ({ cls := "java/util/LinkedHashSet", name := "size", desc := "()I" } : Jvm.MethodName)) ∈ lw_all := lw_g (lw_at lw_m12 234 rfl) rfl
theorem q2996 : (Jvm.Cond.instanceMethod ({ cls := "RobotCell", name := "use", desc := "(I)F" } : Jvm.MethodName)) ∈ lw_all := lw_g (lw_at lw_m13 23 rfl) rfl
theorem q2997 : (Jvm.Cond.selects "RobotCell" ({ cls := "RobotCell", name := "use", desc := "(I)F" } : Jvm.MethodName) ({ cls := "RobotCell", name := "use", desc := "(I)F" } : Jvm.MethodName)) ∈ lw_all := lw_g (lw_at lw_m13 24 rfl) rfl
theorem q2998 : (Jvm.Cond.code ({ cls := "RobotCell", name := "use", desc := "(I)F" } : Jvm.MethodName) prog_1_method_35_code (2 : Nat) (Option.some Jvm.ClassFile.FieldType.float)) ∈ lw_all := lw_g (lw_at lw_m13 25 rfl) rfl
theorem q2999 : (Jvm.Cond.classLink "RobotCell" (305 : Nat) "java/lang/ArithmeticException") ∈ lw_all := lw_g (lw_at lw_m13 26 rfl) rfl
theorem q3000 : (Jvm.Cond.methodLink "RobotCell" (307 : Nat) ({ cls := "java/lang/ArithmeticException", name := "<init>", desc := "()V" } : Jvm.MethodName)) ∈ lw_all := lw_g (lw_at lw_m13 27 rfl) rfl
theorem q3008 : (Jvm.Cond.instanceMethod ({ cls := "RobotCell", name := "meanDuration", desc := "()D" } : Jvm.MethodName)) ∈ lw_all := lw_g (lw_at lw_m13 35 rfl) rfl
theorem q3009 : (Jvm.Cond.selects "RobotCell" ({ cls := "RobotCell", name := "meanDuration", desc := "()D" } : Jvm.MethodName) ({ cls := "RobotCell", name := "meanDuration", desc := "()D" } : Jvm.MethodName)) ∈ lw_all := lw_g (lw_at lw_m13 36 rfl) rfl
theorem q3010 : (Jvm.Cond.code ({ cls := "RobotCell", name := "meanDuration", desc := "()D" } : Jvm.MethodName) prog_1_method_36_code (1 : Nat) (Option.some Jvm.ClassFile.FieldType.double)) ∈ lw_all := lw_g (lw_at lw_m13 37 rfl) rfl
theorem q3015 : (Jvm.Cond.instanceMethod ({ cls := "RobotCell", name := "feed", desc := "(C)I" } : Jvm.MethodName)) ∈ lw_all := lw_g (lw_at lw_m13 42 rfl) rfl
theorem q3016 : (Jvm.Cond.selects "RobotCell" ({ cls := "RobotCell", name := "feed", desc := "(C)I" } : Jvm.MethodName) ({ cls := "RobotCell", name := "feed", desc := "(C)I" } : Jvm.MethodName)) ∈ lw_all := lw_g (lw_at lw_m13 43 rfl) rfl
theorem q3017 : (Jvm.Cond.code ({ cls := "RobotCell", name := "feed", desc := "(C)I" } : Jvm.MethodName) prog_1_method_37_code (2 : Nat) (Option.some Jvm.ClassFile.FieldType.int)) ∈ lw_all := lw_g (lw_at lw_m13 44 rfl) rfl
theorem q3022 : (Jvm.Cond.instanceMethod ({ cls := "RobotCell", name := "perform", desc := "()I" } : Jvm.MethodName)) ∈ lw_all := lw_g (lw_at lw_m13 49 rfl) rfl
theorem q3023 : (Jvm.Cond.selects "RobotCell" ({ cls := "RobotCell", name := "perform", desc := "()I" } : Jvm.MethodName) ({ cls := "RobotCell", name := "perform", desc := "()I" } : Jvm.MethodName)) ∈ lw_all := lw_g (lw_at lw_m13 50 rfl) rfl
theorem q3024 : (Jvm.Cond.codeWith ({ cls := "RobotCell", name := "perform", desc := "()I" } : Jvm.MethodName) prog_1_method_38_code (6 : Nat) (Option.some Jvm.ClassFile.FieldType.int) [((0 : Nat), (68 : Nat), (75 : Nat), (332 : Nat)), ((0 : Nat), (68 : Nat), (91 : Nat), (1 : Nat)), ((0 : Nat), (68 : Nat), (91 : Nat), (7 : Nat)), ((0 : Nat), (68 : Nat), (91 : Nat), (16 : Nat)), ((0 : Nat), (68 : Nat), (100 : Nat), (0 : Nat)), ((75 : Nat), (84 : Nat), (100 : Nat), (0 : Nat)), ((91 : Nat), (102 : Nat), (100 : Nat), (0 : Nat))]) ∈ lw_all := lw_g (lw_at lw_m13 51 rfl) rfl
theorem q3025 : (Jvm.Cond.classLink "RobotCell" (332 : Nat) "RobotCell$TextException") ∈ lw_all := lw_g (lw_at lw_m13 52 rfl) rfl
theorem q3026 : (Jvm.Cond.classLink "RobotCell" (317 : Nat) "RobotCell$Reader") ∈ lw_all := lw_g (lw_at lw_m13 53 rfl) rfl
theorem q3028 : (Jvm.Cond.methodLinkNest "RobotCell" (319 : Nat) ({ cls := "RobotCell$Reader", name := "<init>", desc := "(LRobotCell;)V" } : Jvm.MethodName) "RobotCell") ∈ lw_tbl := lw_at lw_m13 55 rfl
theorem q3039 : (Jvm.Cond.methodLink "RobotCell" (322 : Nat) ({ cls := "RobotCell$Reader", name := "all", desc := "()Ljava/util/ArrayList;" } : Jvm.MethodName)) ∈ lw_all := lw_g (lw_at lw_m13 66 rfl) rfl
theorem q3093 : (Jvm.Cond.fieldLinkNest "RobotCell" (334 : Nat) "RobotCell$TextException" "position" "I" "RobotCell") ∈ lw_tbl := lw_at lw_m13 120 rfl
theorem q3163 : (Jvm.Cond.methodLink "RobotCell" (326 : Nat) ({ cls := "java/util/ArrayList", name := "iterator", desc := "()Ljava/util/Iterator;" } : Jvm.MethodName)) ∈ lw_all := lw_g (lw_at lw_m13 190 rfl) rfl
theorem q3164 : (Jvm.Cond.classLink "RobotCell" (327 : Nat) "RobotCell$Command") ∈ lw_all := lw_g (lw_at lw_m13 191 rfl) rfl
theorem q3165 : (Jvm.Cond.methodLink "RobotCell" (329 : Nat) ({ cls := "RobotCell$Command", name := "perform", desc := "(LRobotCell$Cell;)V" } : Jvm.MethodName)) ∈ lw_all := lw_g (lw_at lw_m13 192 rfl) rfl
theorem q3187 : (Jvm.Cond.instanceMethod ({ cls := "RobotCell", name := "undo", desc := "()I" } : Jvm.MethodName)) ∈ lw_all := lw_g (lw_at lw_m13 214 rfl) rfl
theorem q3188 : (Jvm.Cond.selects "RobotCell" ({ cls := "RobotCell", name := "undo", desc := "()I" } : Jvm.MethodName) ({ cls := "RobotCell", name := "undo", desc := "()I" } : Jvm.MethodName)) ∈ lw_all := lw_g (lw_at lw_m13 215 rfl) rfl
theorem q3189 : (Jvm.Cond.code ({ cls := "RobotCell", name := "undo", desc := "()I" } : Jvm.MethodName) prog_1_method_39_code (1 : Nat) (Option.some Jvm.ClassFile.FieldType.int)) ∈ lw_all := lw_g (lw_at lw_m13 216 rfl) rfl
theorem q3194 : (Jvm.Cond.instanceMethod ({ cls := "RobotCell", name := "restore", desc := "()I" } : Jvm.MethodName)) ∈ lw_all := lw_g (lw_at lw_m13 221 rfl) rfl
theorem q3195 : (Jvm.Cond.selects "RobotCell" ({ cls := "RobotCell", name := "restore", desc := "()I" } : Jvm.MethodName) ({ cls := "RobotCell", name := "restore", desc := "()I" } : Jvm.MethodName)) ∈ lw_all := lw_g (lw_at lw_m13 222 rfl) rfl
theorem q3196 : (Jvm.Cond.code ({ cls := "RobotCell", name := "restore", desc := "()I" } : Jvm.MethodName) prog_1_method_41_code (1 : Nat) (Option.some Jvm.ClassFile.FieldType.int)) ∈ lw_all := lw_g (lw_at lw_m13 223 rfl) rfl
theorem q3197 : (Jvm.Cond.methodLink "RobotCell" (340 : Nat) ({ cls := "java/util/ArrayDeque", name := "clear", desc := "()V" } : Jvm.MethodName)) ∈ lw_all := lw_g (lw_at lw_m13 224 rfl) rfl
theorem q3764 : (Jvm.Cond.castable "RobotCell" "java/lang/Object") ∈ lw_tbl := lw_at lw_m16 71 rfl
theorem in_X1 : ∀ w ∈ wsX10, w ∈ lw_all := lw_in wsX10 [1303, 1305, 1307, 1309, 1311] (by decide +kernel) (by decide +kernel)
/-! RobotCell$Cell -/
set_option maxRecDepth 100000
def RX2 : String := "RobotCell$Cell"
def TX2 : u_T := fun k => match k with
  | 0 => ("RobotCell$Cell", "interlocks", "Ljava/util/LinkedHashSet;", true)
  | 1 => ("RobotCell$Cell", "buffers", "[LRobotCell$Buffer;", true)
  | 2 => ("RobotCell$Cell", "arms", "[LRobotCell$Cell$Arm;", true)
  | 3 => ("RobotCell$Cell", "jobs", "Ljava/util/ArrayList;", true)
  | 4 => ("RobotCell$Cell", "log", "Ljava/util/ArrayDeque;", true)
  | 5 => ("RobotCell$Cell", "heldTicks", "[I", true)
  | 6 => ("RobotCell$Cell", "time", "I", false)
  | 7 => ("RobotCell$Cell", "newParts", "I", false)
  | 8 => ("RobotCell$Cell", "goneParts", "I", false)
  | 9 => ("RobotCell$Cell", "endedJobs", "I", false)
  | 10 => ("RobotCell$Cell", "withdrawnJobs", "I", false)
  | _ => ("RobotCell$Cell", "durations", "I", false)
def tyX2 : Nat → FieldType := fun k => match k with
  | 0 => .object "java/util/LinkedHashSet"
  | 1 => .array (.object "RobotCell$Buffer")
  | 2 => .array (.object "RobotCell$Cell$Arm")
  | 3 => .object "java/util/ArrayList"
  | 4 => .object "java/util/ArrayDeque"
  | 5 => .array .int
  | 6 => .int
  | 7 => .int
  | 8 => .int
  | 9 => .int
  | 10 => .int
  | _ => .int
abbrev wsX20 : List Cond := u_ws RX2 TX2 12
theorem nmX2 : ∀ a, a < 12 → ∀ b, b < 12 → a ≠ b → (TX2 a).2.1 ≠ (TX2 b).2.1 := by decide +kernel
theorem tyX2_ok : ∀ k, k < 12 → parseFieldDescriptor (TX2 k).2.2.1 = some (tyX2 k) := by decide +kernel
abbrev cX2_init : ByteArray := prog_3_method_1_code
def yX2_init : MethodName := ⟨RX2, "<init>", "()V"⟩
def dkwX2_init_5 : List UInt8 := [177]
abbrev dktX2_init_5 : List UInt8 := dkwX2_init_5 ++ []
def dkwX2_init_4 : List UInt8 := [162, 0, 24, 42, 180, 0, 26, 27, 187, 0, 24, 89, 42, 27, 183, 0, 49, 83, 132, 1, 1, 167, 255, 233]
abbrev dktX2_init_4 : List UInt8 := dkwX2_init_4 ++ dktX2_init_5
def dkwX2_init_3 : List UInt8 := [180, 0, 20, 27, 187, 0, 18, 89, 183, 0, 48, 83, 132, 1, 1, 167, 255, 235, 3, 60, 27, 6]
abbrev dktX2_init_3 : List UInt8 := dkwX2_init_3 ++ dktX2_init_4
def dkwX2_init_2 : List UInt8 := [183, 0, 39, 181, 0, 40, 42, 16, 8, 188, 10, 181, 0, 44, 3, 60, 27, 6, 162, 0, 22, 42]
abbrev dktX2_init_2 : List UInt8 := dkwX2_init_2 ++ dktX2_init_3
def dkwX2_init_1 : List UInt8 := [6, 189, 0, 24, 181, 0, 26, 42, 187, 0, 30, 89, 183, 0, 32, 181, 0, 33, 42, 187, 0, 37, 89]
abbrev dktX2_init_1 : List UInt8 := dkwX2_init_1 ++ dktX2_init_2
def dkwX2_init_0 : List UInt8 := [42, 183, 0, 3, 42, 187, 0, 9, 89, 183, 0, 11, 181, 0, 12, 42, 6, 189, 0, 18, 181, 0, 20, 42]
abbrev dktX2_init_0 : List UInt8 := dkwX2_init_0 ++ dktX2_init_1
theorem dksX2_init_0 : cX2_init.data.toList.drop 0 = dktX2_init_0 := by decide +kernel
theorem dksX2_init_1 : cX2_init.data.toList.drop 24 = dktX2_init_1 := dk_seg dksX2_init_0 24 rfl rfl
theorem dksX2_init_2 : cX2_init.data.toList.drop 47 = dktX2_init_2 := dk_seg dksX2_init_1 23 rfl rfl
theorem dksX2_init_3 : cX2_init.data.toList.drop 69 = dktX2_init_3 := dk_seg dksX2_init_2 22 rfl rfl
theorem dksX2_init_4 : cX2_init.data.toList.drop 91 = dktX2_init_4 := dk_seg dksX2_init_3 22 rfl rfl
theorem dksX2_init_5 : cX2_init.data.toList.drop 115 = dktX2_init_5 := dk_seg dksX2_init_4 24 rfl rfl
theorem dX2_init_0 : decode cX2_init 0 = .ok (.aload_n 0, 1) := dk_42 (dk_at dksX2_init_0 0 rfl rfl)
theorem dX2_init_1 : decode cX2_init 1 = .ok (.invokespecial 3, 3) := dk_183 0 3 (dk_at dksX2_init_0 1 rfl rfl)
theorem dX2_init_4 : decode cX2_init 4 = .ok (.aload_n 0, 1) := dk_42 (dk_at dksX2_init_0 4 rfl rfl)
theorem dX2_init_5 : decode cX2_init 5 = .ok (.new 9, 3) := dk_187 0 9 (dk_at dksX2_init_0 5 rfl rfl)
theorem dX2_init_8 : decode cX2_init 8 = .ok (.dup, 1) := dk_89 (dk_at dksX2_init_0 8 rfl rfl)
theorem dX2_init_9 : decode cX2_init 9 = .ok (.invokespecial 11, 3) := dk_183 0 11 (dk_at dksX2_init_0 9 rfl rfl)
theorem dX2_init_12 : decode cX2_init 12 = .ok (.putfield 12, 3) := dk_181 0 12 (dk_at dksX2_init_0 12 rfl rfl)
theorem dX2_init_15 : decode cX2_init 15 = .ok (.aload_n 0, 1) := dk_42 (dk_at dksX2_init_0 15 rfl rfl)
theorem dX2_init_16 : decode cX2_init 16 = .ok (.iconst 3, 1) := dk_6 (dk_at dksX2_init_0 16 rfl rfl)
theorem dX2_init_17 : decode cX2_init 17 = .ok (.anewarray 18, 3) := dk_189 0 18 (dk_at dksX2_init_0 17 rfl rfl)
theorem dX2_init_20 : decode cX2_init 20 = .ok (.putfield 20, 3) := dk_181 0 20 (dk_at dksX2_init_0 20 rfl rfl)
theorem dX2_init_23 : decode cX2_init 23 = .ok (.aload_n 0, 1) := dk_42 (dk_at dksX2_init_0 23 rfl rfl)
theorem dX2_init_24 : decode cX2_init 24 = .ok (.iconst 3, 1) := dk_6 (dk_at dksX2_init_1 0 rfl rfl)
theorem dX2_init_25 : decode cX2_init 25 = .ok (.anewarray 24, 3) := dk_189 0 24 (dk_at dksX2_init_1 1 rfl rfl)
theorem dX2_init_28 : decode cX2_init 28 = .ok (.putfield 26, 3) := dk_181 0 26 (dk_at dksX2_init_1 4 rfl rfl)
theorem dX2_init_31 : decode cX2_init 31 = .ok (.aload_n 0, 1) := dk_42 (dk_at dksX2_init_1 7 rfl rfl)
theorem dX2_init_32 : decode cX2_init 32 = .ok (.new 30, 3) := dk_187 0 30 (dk_at dksX2_init_1 8 rfl rfl)
theorem dX2_init_35 : decode cX2_init 35 = .ok (.dup, 1) := dk_89 (dk_at dksX2_init_1 11 rfl rfl)
theorem dX2_init_36 : decode cX2_init 36 = .ok (.invokespecial 32, 3) := dk_183 0 32 (dk_at dksX2_init_1 12 rfl rfl)
theorem dX2_init_39 : decode cX2_init 39 = .ok (.putfield 33, 3) := dk_181 0 33 (dk_at dksX2_init_1 15 rfl rfl)
theorem dX2_init_42 : decode cX2_init 42 = .ok (.aload_n 0, 1) := dk_42 (dk_at dksX2_init_1 18 rfl rfl)
theorem dX2_init_43 : decode cX2_init 43 = .ok (.new 37, 3) := dk_187 0 37 (dk_at dksX2_init_1 19 rfl rfl)
theorem dX2_init_46 : decode cX2_init 46 = .ok (.dup, 1) := dk_89 (dk_at dksX2_init_1 22 rfl rfl)
theorem dX2_init_47 : decode cX2_init 47 = .ok (.invokespecial 39, 3) := dk_183 0 39 (dk_at dksX2_init_2 0 rfl rfl)
theorem dX2_init_50 : decode cX2_init 50 = .ok (.putfield 40, 3) := dk_181 0 40 (dk_at dksX2_init_2 3 rfl rfl)
theorem dX2_init_53 : decode cX2_init 53 = .ok (.aload_n 0, 1) := dk_42 (dk_at dksX2_init_2 6 rfl rfl)
theorem dX2_init_54 : decode cX2_init 54 = .ok (.bipush 8, 2) := dk_16 8 (dk_at dksX2_init_2 7 rfl rfl)
theorem dX2_init_56 : decode cX2_init 56 = .ok (.newarray .int, 2) := dk_188_10 (dk_at dksX2_init_2 9 rfl rfl)
theorem dX2_init_58 : decode cX2_init 58 = .ok (.putfield 44, 3) := dk_181 0 44 (dk_at dksX2_init_2 11 rfl rfl)
theorem dX2_init_61 : decode cX2_init 61 = .ok (.iconst 0, 1) := dk_3 (dk_at dksX2_init_2 14 rfl rfl)
theorem dX2_init_62 : decode cX2_init 62 = .ok (.istore_n 1, 1) := dk_60 (dk_at dksX2_init_2 15 rfl rfl)
theorem dX2_init_63 : decode cX2_init 63 = .ok (.iload_n 1, 1) := dk_27 (dk_at dksX2_init_2 16 rfl rfl)
theorem dX2_init_64 : decode cX2_init 64 = .ok (.iconst 3, 1) := dk_6 (dk_at dksX2_init_2 17 rfl rfl)
theorem dX2_init_65 : decode cX2_init 65 = .ok (.if_icmp .ge 22, 3) := dk_162 0 22 (dk_at dksX2_init_2 18 rfl rfl)
theorem dX2_init_68 : decode cX2_init 68 = .ok (.aload_n 0, 1) := dk_42 (dk_at dksX2_init_2 21 rfl rfl)
theorem dX2_init_69 : decode cX2_init 69 = .ok (.getfield 20, 3) := dk_180 0 20 (dk_at dksX2_init_3 0 rfl rfl)
theorem dX2_init_72 : decode cX2_init 72 = .ok (.iload_n 1, 1) := dk_27 (dk_at dksX2_init_3 3 rfl rfl)
theorem dX2_init_73 : decode cX2_init 73 = .ok (.new 18, 3) := dk_187 0 18 (dk_at dksX2_init_3 4 rfl rfl)
theorem dX2_init_76 : decode cX2_init 76 = .ok (.dup, 1) := dk_89 (dk_at dksX2_init_3 7 rfl rfl)
theorem dX2_init_77 : decode cX2_init 77 = .ok (.invokespecial 48, 3) := dk_183 0 48 (dk_at dksX2_init_3 8 rfl rfl)
theorem dX2_init_80 : decode cX2_init 80 = .ok (.aastore, 1) := dk_83 (dk_at dksX2_init_3 11 rfl rfl)
theorem dX2_init_81 : decode cX2_init 81 = .ok (.iinc 1 1, 3) := dk_132 1 1 (dk_at dksX2_init_3 12 rfl rfl)
theorem dX2_init_84 : decode cX2_init 84 = .ok (.goto (-21), 3) := dk_167 255 235 (dk_at dksX2_init_3 15 rfl rfl)
theorem dX2_init_87 : decode cX2_init 87 = .ok (.iconst 0, 1) := dk_3 (dk_at dksX2_init_3 18 rfl rfl)
theorem dX2_init_88 : decode cX2_init 88 = .ok (.istore_n 1, 1) := dk_60 (dk_at dksX2_init_3 19 rfl rfl)
theorem dX2_init_89 : decode cX2_init 89 = .ok (.iload_n 1, 1) := dk_27 (dk_at dksX2_init_3 20 rfl rfl)
theorem dX2_init_90 : decode cX2_init 90 = .ok (.iconst 3, 1) := dk_6 (dk_at dksX2_init_3 21 rfl rfl)
theorem dX2_init_91 : decode cX2_init 91 = .ok (.if_icmp .ge 24, 3) := dk_162 0 24 (dk_at dksX2_init_4 0 rfl rfl)
theorem dX2_init_94 : decode cX2_init 94 = .ok (.aload_n 0, 1) := dk_42 (dk_at dksX2_init_4 3 rfl rfl)
theorem dX2_init_95 : decode cX2_init 95 = .ok (.getfield 26, 3) := dk_180 0 26 (dk_at dksX2_init_4 4 rfl rfl)
theorem dX2_init_98 : decode cX2_init 98 = .ok (.iload_n 1, 1) := dk_27 (dk_at dksX2_init_4 7 rfl rfl)
theorem dX2_init_99 : decode cX2_init 99 = .ok (.new 24, 3) := dk_187 0 24 (dk_at dksX2_init_4 8 rfl rfl)
theorem dX2_init_102 : decode cX2_init 102 = .ok (.dup, 1) := dk_89 (dk_at dksX2_init_4 11 rfl rfl)
theorem dX2_init_103 : decode cX2_init 103 = .ok (.aload_n 0, 1) := dk_42 (dk_at dksX2_init_4 12 rfl rfl)
theorem dX2_init_104 : decode cX2_init 104 = .ok (.iload_n 1, 1) := dk_27 (dk_at dksX2_init_4 13 rfl rfl)
theorem dX2_init_105 : decode cX2_init 105 = .ok (.invokespecial 49, 3) := dk_183 0 49 (dk_at dksX2_init_4 14 rfl rfl)
theorem dX2_init_108 : decode cX2_init 108 = .ok (.aastore, 1) := dk_83 (dk_at dksX2_init_4 17 rfl rfl)
theorem dX2_init_109 : decode cX2_init 109 = .ok (.iinc 1 1, 3) := dk_132 1 1 (dk_at dksX2_init_4 18 rfl rfl)
theorem dX2_init_112 : decode cX2_init 112 = .ok (.goto (-23), 3) := dk_167 255 233 (dk_at dksX2_init_4 21 rfl rfl)
theorem dX2_init_115 : decode cX2_init 115 = .ok (.return_, 1) := dk_177 (dk_at dksX2_init_5 0 rfl rfl)
abbrev cX2_isSafe : ByteArray := prog_3_method_11_code
def yX2_isSafe : MethodName := ⟨RX2, "isSafe", "()Z"⟩
def dkwX2_isSafe_0 : List UInt8 := [42, 2, 3, 3, 1, 182, 0, 160, 2, 160, 0, 7, 4, 167, 0, 4, 3, 172]
abbrev dktX2_isSafe_0 : List UInt8 := dkwX2_isSafe_0 ++ []
theorem dksX2_isSafe_0 : cX2_isSafe.data.toList.drop 0 = dktX2_isSafe_0 := by decide +kernel
theorem dX2_isSafe_0 : decode cX2_isSafe 0 = .ok (.aload_n 0, 1) := dk_42 (dk_at dksX2_isSafe_0 0 rfl rfl)
theorem dX2_isSafe_1 : decode cX2_isSafe 1 = .ok (.iconst (-1), 1) := dk_2 (dk_at dksX2_isSafe_0 1 rfl rfl)
theorem dX2_isSafe_2 : decode cX2_isSafe 2 = .ok (.iconst 0, 1) := dk_3 (dk_at dksX2_isSafe_0 2 rfl rfl)
theorem dX2_isSafe_3 : decode cX2_isSafe 3 = .ok (.iconst 0, 1) := dk_3 (dk_at dksX2_isSafe_0 3 rfl rfl)
theorem dX2_isSafe_4 : decode cX2_isSafe 4 = .ok (.aconst_null, 1) := dk_1 (dk_at dksX2_isSafe_0 4 rfl rfl)
theorem dX2_isSafe_5 : decode cX2_isSafe 5 = .ok (.invokevirtual 160, 3) := dk_182 0 160 (dk_at dksX2_isSafe_0 5 rfl rfl)
theorem dX2_isSafe_8 : decode cX2_isSafe 8 = .ok (.iconst (-1), 1) := dk_2 (dk_at dksX2_isSafe_0 8 rfl rfl)
theorem dX2_isSafe_9 : decode cX2_isSafe 9 = .ok (.if_icmp .ne 7, 3) := dk_160 0 7 (dk_at dksX2_isSafe_0 9 rfl rfl)
theorem dX2_isSafe_12 : decode cX2_isSafe 12 = .ok (.iconst 1, 1) := dk_4 (dk_at dksX2_isSafe_0 12 rfl rfl)
theorem dX2_isSafe_13 : decode cX2_isSafe 13 = .ok (.goto 4, 3) := dk_167 0 4 (dk_at dksX2_isSafe_0 13 rfl rfl)
theorem dX2_isSafe_16 : decode cX2_isSafe 16 = .ok (.iconst 0, 1) := dk_3 (dk_at dksX2_isSafe_0 16 rfl rfl)
theorem dX2_isSafe_17 : decode cX2_isSafe 17 = .ok (.ireturn, 1) := dk_172 (dk_at dksX2_isSafe_0 17 rfl rfl)
abbrev cX2_stuck : ByteArray := prog_3_method_9_code
def yX2_stuck : MethodName := ⟨RX2, "stuck", "(IIILRobotCell$Order;)I"⟩
def dkwX2_stuck_0 : List UInt8 := [187, 0, 147, 89, 42, 27, 28, 25, 4, 29, 183, 0, 149, 182, 0, 152, 172]
abbrev dktX2_stuck_0 : List UInt8 := dkwX2_stuck_0 ++ []
theorem dksX2_stuck_0 : cX2_stuck.data.toList.drop 0 = dktX2_stuck_0 := by decide +kernel
theorem dX2_stuck_0 : decode cX2_stuck 0 = .ok (.new 147, 3) := dk_187 0 147 (dk_at dksX2_stuck_0 0 rfl rfl)
theorem dX2_stuck_3 : decode cX2_stuck 3 = .ok (.dup, 1) := dk_89 (dk_at dksX2_stuck_0 3 rfl rfl)
theorem dX2_stuck_4 : decode cX2_stuck 4 = .ok (.aload_n 0, 1) := dk_42 (dk_at dksX2_stuck_0 4 rfl rfl)
theorem dX2_stuck_5 : decode cX2_stuck 5 = .ok (.iload_n 1, 1) := dk_27 (dk_at dksX2_stuck_0 5 rfl rfl)
theorem dX2_stuck_6 : decode cX2_stuck 6 = .ok (.iload_n 2, 1) := dk_28 (dk_at dksX2_stuck_0 6 rfl rfl)
theorem dX2_stuck_7 : decode cX2_stuck 7 = .ok (.aload 4, 2) := dk_25 4 (dk_at dksX2_stuck_0 7 rfl rfl)
theorem dX2_stuck_9 : decode cX2_stuck 9 = .ok (.iload_n 3, 1) := dk_29 (dk_at dksX2_stuck_0 9 rfl rfl)
theorem dX2_stuck_10 : decode cX2_stuck 10 = .ok (.invokespecial 149, 3) := dk_183 0 149 (dk_at dksX2_stuck_0 10 rfl rfl)
theorem dX2_stuck_13 : decode cX2_stuck 13 = .ok (.invokevirtual 152, 3) := dk_182 0 152 (dk_at dksX2_stuck_0 13 rfl rfl)
theorem dX2_stuck_16 : decode cX2_stuck 16 = .ok (.ireturn, 1) := dk_172 (dk_at dksX2_stuck_0 16 rfl rfl)
abbrev cX2_zonesFrom : ByteArray := prog_3_method_10_code
def yX2_zonesFrom : MethodName := ⟨RX2, "zonesFrom", "(LRobotCell$Order;I)I"⟩
def dkwX2_zonesFrom_1 : List UInt8 := [132, 3, 1, 167, 255, 233, 28, 172]
abbrev dktX2_zonesFrom_1 : List UInt8 := dkwX2_zonesFrom_1 ++ []
def dkwX2_zonesFrom_0 : List UInt8 := [3, 61, 27, 62, 29, 42, 180, 0, 155, 190, 162, 0, 20, 28, 4, 42, 180, 0, 155, 29, 46, 120, 128, 61]
abbrev dktX2_zonesFrom_0 : List UInt8 := dkwX2_zonesFrom_0 ++ dktX2_zonesFrom_1
theorem dksX2_zonesFrom_0 : cX2_zonesFrom.data.toList.drop 0 = dktX2_zonesFrom_0 := by decide +kernel
theorem dksX2_zonesFrom_1 : cX2_zonesFrom.data.toList.drop 24 = dktX2_zonesFrom_1 := dk_seg dksX2_zonesFrom_0 24 rfl rfl
theorem dX2_zonesFrom_0 : decode cX2_zonesFrom 0 = .ok (.iconst 0, 1) := dk_3 (dk_at dksX2_zonesFrom_0 0 rfl rfl)
theorem dX2_zonesFrom_1 : decode cX2_zonesFrom 1 = .ok (.istore_n 2, 1) := dk_61 (dk_at dksX2_zonesFrom_0 1 rfl rfl)
theorem dX2_zonesFrom_2 : decode cX2_zonesFrom 2 = .ok (.iload_n 1, 1) := dk_27 (dk_at dksX2_zonesFrom_0 2 rfl rfl)
theorem dX2_zonesFrom_3 : decode cX2_zonesFrom 3 = .ok (.istore_n 3, 1) := dk_62 (dk_at dksX2_zonesFrom_0 3 rfl rfl)
theorem dX2_zonesFrom_4 : decode cX2_zonesFrom 4 = .ok (.iload_n 3, 1) := dk_29 (dk_at dksX2_zonesFrom_0 4 rfl rfl)
theorem dX2_zonesFrom_5 : decode cX2_zonesFrom 5 = .ok (.aload_n 0, 1) := dk_42 (dk_at dksX2_zonesFrom_0 5 rfl rfl)
theorem dX2_zonesFrom_6 : decode cX2_zonesFrom 6 = .ok (.getfield 155, 3) := dk_180 0 155 (dk_at dksX2_zonesFrom_0 6 rfl rfl)
theorem dX2_zonesFrom_9 : decode cX2_zonesFrom 9 = .ok (.arraylength, 1) := dk_190 (dk_at dksX2_zonesFrom_0 9 rfl rfl)
theorem dX2_zonesFrom_10 : decode cX2_zonesFrom 10 = .ok (.if_icmp .ge 20, 3) := dk_162 0 20 (dk_at dksX2_zonesFrom_0 10 rfl rfl)
theorem dX2_zonesFrom_13 : decode cX2_zonesFrom 13 = .ok (.iload_n 2, 1) := dk_28 (dk_at dksX2_zonesFrom_0 13 rfl rfl)
theorem dX2_zonesFrom_14 : decode cX2_zonesFrom 14 = .ok (.iconst 1, 1) := dk_4 (dk_at dksX2_zonesFrom_0 14 rfl rfl)
theorem dX2_zonesFrom_15 : decode cX2_zonesFrom 15 = .ok (.aload_n 0, 1) := dk_42 (dk_at dksX2_zonesFrom_0 15 rfl rfl)
theorem dX2_zonesFrom_16 : decode cX2_zonesFrom 16 = .ok (.getfield 155, 3) := dk_180 0 155 (dk_at dksX2_zonesFrom_0 16 rfl rfl)
theorem dX2_zonesFrom_19 : decode cX2_zonesFrom 19 = .ok (.iload_n 3, 1) := dk_29 (dk_at dksX2_zonesFrom_0 19 rfl rfl)
theorem dX2_zonesFrom_20 : decode cX2_zonesFrom 20 = .ok (.iaload, 1) := dk_46 (dk_at dksX2_zonesFrom_0 20 rfl rfl)
theorem dX2_zonesFrom_21 : decode cX2_zonesFrom 21 = .ok (.ishl, 1) := dk_120 (dk_at dksX2_zonesFrom_0 21 rfl rfl)
theorem dX2_zonesFrom_22 : decode cX2_zonesFrom 22 = .ok (.ior, 1) := dk_128 (dk_at dksX2_zonesFrom_0 22 rfl rfl)
theorem dX2_zonesFrom_23 : decode cX2_zonesFrom 23 = .ok (.istore_n 2, 1) := dk_61 (dk_at dksX2_zonesFrom_0 23 rfl rfl)
theorem dX2_zonesFrom_24 : decode cX2_zonesFrom 24 = .ok (.iinc 3 1, 3) := dk_132 3 1 (dk_at dksX2_zonesFrom_1 0 rfl rfl)
theorem dX2_zonesFrom_27 : decode cX2_zonesFrom 27 = .ok (.goto (-23), 3) := dk_167 255 233 (dk_at dksX2_zonesFrom_1 3 rfl rfl)
theorem dX2_zonesFrom_30 : decode cX2_zonesFrom 30 = .ok (.iload_n 2, 1) := dk_28 (dk_at dksX2_zonesFrom_1 6 rfl rfl)
theorem dX2_zonesFrom_31 : decode cX2_zonesFrom 31 = .ok (.ireturn, 1) := dk_172 (dk_at dksX2_zonesFrom_1 7 rfl rfl)
abbrev cX2_conflicts : ByteArray := prog_3_method_4_code
def yX2_conflicts : MethodName := ⟨RX2, "conflicts", "(I)I"⟩
def dkwX2_conflicts_2 : List UInt8 := [160, 0, 7, 3, 167, 0, 7, 4, 21, 5, 120, 128, 61, 167, 255, 211, 28, 172]
abbrev dktX2_conflicts_2 : List UInt8 := dkwX2_conflicts_2 ++ []
def dkwX2_conflicts_1 : List UInt8 := [185, 0, 62, 1, 0, 192, 0, 66, 58, 4, 25, 4, 27, 182, 0, 128, 54, 5, 28, 21, 5, 2]
abbrev dktX2_conflicts_1 : List UInt8 := dkwX2_conflicts_1 ++ dktX2_conflicts_2
def dkwX2_conflicts_0 : List UInt8 := [4, 27, 120, 61, 42, 180, 0, 12, 182, 0, 52, 78, 45, 185, 0, 56, 1, 0, 153, 0, 42, 45]
abbrev dktX2_conflicts_0 : List UInt8 := dkwX2_conflicts_0 ++ dktX2_conflicts_1
theorem dksX2_conflicts_0 : cX2_conflicts.data.toList.drop 0 = dktX2_conflicts_0 := by decide +kernel
theorem dksX2_conflicts_1 : cX2_conflicts.data.toList.drop 22 = dktX2_conflicts_1 := dk_seg dksX2_conflicts_0 22 rfl rfl
theorem dksX2_conflicts_2 : cX2_conflicts.data.toList.drop 44 = dktX2_conflicts_2 := dk_seg dksX2_conflicts_1 22 rfl rfl
theorem dX2_conflicts_0 : decode cX2_conflicts 0 = .ok (.iconst 1, 1) := dk_4 (dk_at dksX2_conflicts_0 0 rfl rfl)
theorem dX2_conflicts_1 : decode cX2_conflicts 1 = .ok (.iload_n 1, 1) := dk_27 (dk_at dksX2_conflicts_0 1 rfl rfl)
theorem dX2_conflicts_2 : decode cX2_conflicts 2 = .ok (.ishl, 1) := dk_120 (dk_at dksX2_conflicts_0 2 rfl rfl)
theorem dX2_conflicts_3 : decode cX2_conflicts 3 = .ok (.istore_n 2, 1) := dk_61 (dk_at dksX2_conflicts_0 3 rfl rfl)
theorem dX2_conflicts_4 : decode cX2_conflicts 4 = .ok (.aload_n 0, 1) := dk_42 (dk_at dksX2_conflicts_0 4 rfl rfl)
theorem dX2_conflicts_5 : decode cX2_conflicts 5 = .ok (.getfield 12, 3) := dk_180 0 12 (dk_at dksX2_conflicts_0 5 rfl rfl)
theorem dX2_conflicts_8 : decode cX2_conflicts 8 = .ok (.invokevirtual 52, 3) := dk_182 0 52 (dk_at dksX2_conflicts_0 8 rfl rfl)
theorem dX2_conflicts_11 : decode cX2_conflicts 11 = .ok (.astore_n 3, 1) := dk_78 (dk_at dksX2_conflicts_0 11 rfl rfl)
theorem dX2_conflicts_12 : decode cX2_conflicts 12 = .ok (.aload_n 3, 1) := dk_45 (dk_at dksX2_conflicts_0 12 rfl rfl)
theorem dX2_conflicts_13 : decode cX2_conflicts 13 = .ok (.invokeinterface 56 1, 5) := by decide +kernel
theorem dX2_conflicts_18 : decode cX2_conflicts 18 = .ok (.ifCond .eq 42, 3) := dk_153 0 42 (dk_at dksX2_conflicts_0 18 rfl rfl)
theorem dX2_conflicts_21 : decode cX2_conflicts 21 = .ok (.aload_n 3, 1) := dk_45 (dk_at dksX2_conflicts_0 21 rfl rfl)
theorem dX2_conflicts_22 : decode cX2_conflicts 22 = .ok (.invokeinterface 62 1, 5) := by decide +kernel
theorem dX2_conflicts_27 : decode cX2_conflicts 27 = .ok (.checkcast 66, 3) := dk_192 0 66 (dk_at dksX2_conflicts_1 5 rfl rfl)
theorem dX2_conflicts_30 : decode cX2_conflicts 30 = .ok (.astore 4, 2) := dk_58 4 (dk_at dksX2_conflicts_1 8 rfl rfl)
theorem dX2_conflicts_32 : decode cX2_conflicts 32 = .ok (.aload 4, 2) := dk_25 4 (dk_at dksX2_conflicts_1 10 rfl rfl)
theorem dX2_conflicts_34 : decode cX2_conflicts 34 = .ok (.iload_n 1, 1) := dk_27 (dk_at dksX2_conflicts_1 12 rfl rfl)
theorem dX2_conflicts_35 : decode cX2_conflicts 35 = .ok (.invokevirtual 128, 3) := dk_182 0 128 (dk_at dksX2_conflicts_1 13 rfl rfl)
theorem dX2_conflicts_38 : decode cX2_conflicts 38 = .ok (.istore 5, 2) := dk_54 5 (dk_at dksX2_conflicts_1 16 rfl rfl)
theorem dX2_conflicts_40 : decode cX2_conflicts 40 = .ok (.iload_n 2, 1) := dk_28 (dk_at dksX2_conflicts_1 18 rfl rfl)
theorem dX2_conflicts_41 : decode cX2_conflicts 41 = .ok (.iload 5, 2) := dk_21 5 (dk_at dksX2_conflicts_1 19 rfl rfl)
theorem dX2_conflicts_43 : decode cX2_conflicts 43 = .ok (.iconst (-1), 1) := dk_2 (dk_at dksX2_conflicts_1 21 rfl rfl)
theorem dX2_conflicts_44 : decode cX2_conflicts 44 = .ok (.if_icmp .ne 7, 3) := dk_160 0 7 (dk_at dksX2_conflicts_2 0 rfl rfl)
theorem dX2_conflicts_47 : decode cX2_conflicts 47 = .ok (.iconst 0, 1) := dk_3 (dk_at dksX2_conflicts_2 3 rfl rfl)
theorem dX2_conflicts_48 : decode cX2_conflicts 48 = .ok (.goto 7, 3) := dk_167 0 7 (dk_at dksX2_conflicts_2 4 rfl rfl)
theorem dX2_conflicts_51 : decode cX2_conflicts 51 = .ok (.iconst 1, 1) := dk_4 (dk_at dksX2_conflicts_2 7 rfl rfl)
theorem dX2_conflicts_52 : decode cX2_conflicts 52 = .ok (.iload 5, 2) := dk_21 5 (dk_at dksX2_conflicts_2 8 rfl rfl)
theorem dX2_conflicts_54 : decode cX2_conflicts 54 = .ok (.ishl, 1) := dk_120 (dk_at dksX2_conflicts_2 10 rfl rfl)
theorem dX2_conflicts_55 : decode cX2_conflicts 55 = .ok (.ior, 1) := dk_128 (dk_at dksX2_conflicts_2 11 rfl rfl)
theorem dX2_conflicts_56 : decode cX2_conflicts 56 = .ok (.istore_n 2, 1) := dk_61 (dk_at dksX2_conflicts_2 12 rfl rfl)
theorem dX2_conflicts_57 : decode cX2_conflicts 57 = .ok (.goto (-45), 3) := dk_167 255 211 (dk_at dksX2_conflicts_2 13 rfl rfl)
theorem dX2_conflicts_60 : decode cX2_conflicts 60 = .ok (.iload_n 2, 1) := dk_28 (dk_at dksX2_conflicts_2 16 rfl rfl)
theorem dX2_conflicts_61 : decode cX2_conflicts 61 = .ok (.ireturn, 1) := dk_172 (dk_at dksX2_conflicts_2 17 rfl rfl)
abbrev cX2_init_2 : ByteArray := prog_3_method_2_code
def yX2_init_2 : MethodName := ⟨RX2, "<init>", "(LRobotCell$Cell;)V"⟩
def dkwX2_init_2_13 : List UInt8 := [180, 0, 109, 181, 0, 109, 42, 43, 180, 0, 112, 181, 0, 112, 42, 43, 180, 0, 115, 181, 0, 115, 177]
abbrev dktX2_init_2_13 : List UInt8 := dkwX2_init_2_13 ++ []
def dkwX2_init_2_12 : List UInt8 := [180, 0, 99, 181, 0, 99, 42, 43, 180, 0, 103, 181, 0, 103, 42, 43, 180, 0, 106, 181, 0, 106, 42, 43]
abbrev dktX2_init_2_12 : List UInt8 := dkwX2_init_2_12 ++ dktX2_init_2_13
def dkwX2_init_2_11 : List UInt8 := [182, 0, 89, 167, 255, 229, 43, 180, 0, 44, 3, 42, 180, 0, 44, 3, 16, 8, 184, 0, 93, 42, 43]
abbrev dktX2_init_2_11 : List UInt8 := dkwX2_init_2_11 ++ dktX2_init_2_12
def dkwX2_init_2_10 : List UInt8 := [185, 0, 56, 1, 0, 153, 0, 24, 44, 185, 0, 62, 1, 0, 192, 0, 87, 78, 42, 180, 0, 40, 45]
abbrev dktX2_init_2_10 : List UInt8 := dkwX2_init_2_10 ++ dktX2_init_2_11
def dkwX2_init_2_9 : List UInt8 := [28, 50, 182, 0, 82, 132, 2, 1, 167, 255, 218, 43, 180, 0, 40, 182, 0, 86, 77, 44]
abbrev dktX2_init_2_9 : List UInt8 := dkwX2_init_2_9 ++ dktX2_init_2_10
def dkwX2_init_2_8 : List UInt8 := [180, 0, 26, 28, 187, 0, 24, 89, 42, 28, 183, 0, 49, 83, 42, 180, 0, 26, 28, 50, 43, 180, 0, 26]
abbrev dktX2_init_2_8 : List UInt8 := dkwX2_init_2_8 ++ dktX2_init_2_9
def dkwX2_init_2_7 : List UInt8 := [187, 0, 76, 89, 45, 183, 0, 78, 182, 0, 81, 54, 4, 167, 255, 220, 3, 61, 28, 6, 162, 0, 39, 42]
abbrev dktX2_init_2_7 : List UInt8 := dkwX2_init_2_7 ++ dktX2_init_2_8
def dkwX2_init_2_6 : List UInt8 := [44, 185, 0, 56, 1, 0, 153, 0, 33, 44, 185, 0, 62, 1, 0, 192, 0, 76, 78, 42, 180, 0, 33]
abbrev dktX2_init_2_6 : List UInt8 := dkwX2_init_2_6 ++ dktX2_init_2_7
def dkwX2_init_2_5 : List UInt8 := [43, 180, 0, 20, 28, 50, 183, 0, 72, 83, 132, 2, 1, 167, 255, 229, 43, 180, 0, 33, 182, 0, 75, 77]
abbrev dktX2_init_2_5 : List UInt8 := dkwX2_init_2_5 ++ dktX2_init_2_6
def dkwX2_init_2_4 : List UInt8 := [182, 0, 68, 54, 4, 167, 255, 227, 3, 61, 28, 6, 162, 0, 28, 42, 180, 0, 20, 28, 187, 0, 18, 89]
abbrev dktX2_init_2_4 : List UInt8 := dkwX2_init_2_4 ++ dktX2_init_2_5
def dkwX2_init_2_3 : List UInt8 := [185, 0, 56, 1, 0, 153, 0, 26, 44, 185, 0, 62, 1, 0, 192, 0, 66, 78, 42, 180, 0, 12, 45]
abbrev dktX2_init_2_3 : List UInt8 := dkwX2_init_2_3 ++ dktX2_init_2_4
def dkwX2_init_2_2 : List UInt8 := [183, 0, 39, 181, 0, 40, 42, 16, 8, 188, 10, 181, 0, 44, 43, 180, 0, 12, 182, 0, 52, 77, 44]
abbrev dktX2_init_2_2 : List UInt8 := dkwX2_init_2_2 ++ dktX2_init_2_3
def dkwX2_init_2_1 : List UInt8 := [6, 189, 0, 24, 181, 0, 26, 42, 187, 0, 30, 89, 183, 0, 32, 181, 0, 33, 42, 187, 0, 37, 89]
abbrev dktX2_init_2_1 : List UInt8 := dkwX2_init_2_1 ++ dktX2_init_2_2
def dkwX2_init_2_0 : List UInt8 := [42, 183, 0, 3, 42, 187, 0, 9, 89, 183, 0, 11, 181, 0, 12, 42, 6, 189, 0, 18, 181, 0, 20, 42]
abbrev dktX2_init_2_0 : List UInt8 := dkwX2_init_2_0 ++ dktX2_init_2_1
theorem dksX2_init_2_0 : cX2_init_2.data.toList.drop 0 = dktX2_init_2_0 := by decide +kernel
theorem dksX2_init_2_1 : cX2_init_2.data.toList.drop 24 = dktX2_init_2_1 := dk_seg dksX2_init_2_0 24 rfl rfl
theorem dksX2_init_2_2 : cX2_init_2.data.toList.drop 47 = dktX2_init_2_2 := dk_seg dksX2_init_2_1 23 rfl rfl
theorem dksX2_init_2_3 : cX2_init_2.data.toList.drop 70 = dktX2_init_2_3 := dk_seg dksX2_init_2_2 23 rfl rfl
theorem dksX2_init_2_4 : cX2_init_2.data.toList.drop 93 = dktX2_init_2_4 := dk_seg dksX2_init_2_3 23 rfl rfl
theorem dksX2_init_2_5 : cX2_init_2.data.toList.drop 117 = dktX2_init_2_5 := dk_seg dksX2_init_2_4 24 rfl rfl
theorem dksX2_init_2_6 : cX2_init_2.data.toList.drop 141 = dktX2_init_2_6 := dk_seg dksX2_init_2_5 24 rfl rfl
theorem dksX2_init_2_7 : cX2_init_2.data.toList.drop 164 = dktX2_init_2_7 := dk_seg dksX2_init_2_6 23 rfl rfl
theorem dksX2_init_2_8 : cX2_init_2.data.toList.drop 188 = dktX2_init_2_8 := dk_seg dksX2_init_2_7 24 rfl rfl
theorem dksX2_init_2_9 : cX2_init_2.data.toList.drop 212 = dktX2_init_2_9 := dk_seg dksX2_init_2_8 24 rfl rfl
theorem dksX2_init_2_10 : cX2_init_2.data.toList.drop 232 = dktX2_init_2_10 := dk_seg dksX2_init_2_9 20 rfl rfl
theorem dksX2_init_2_11 : cX2_init_2.data.toList.drop 255 = dktX2_init_2_11 := dk_seg dksX2_init_2_10 23 rfl rfl
theorem dksX2_init_2_12 : cX2_init_2.data.toList.drop 278 = dktX2_init_2_12 := dk_seg dksX2_init_2_11 23 rfl rfl
theorem dksX2_init_2_13 : cX2_init_2.data.toList.drop 302 = dktX2_init_2_13 := dk_seg dksX2_init_2_12 24 rfl rfl
theorem dX2_init_2_0 : decode cX2_init_2 0 = .ok (.aload_n 0, 1) := dk_42 (dk_at dksX2_init_2_0 0 rfl rfl)
theorem dX2_init_2_1 : decode cX2_init_2 1 = .ok (.invokespecial 3, 3) := dk_183 0 3 (dk_at dksX2_init_2_0 1 rfl rfl)
theorem dX2_init_2_4 : decode cX2_init_2 4 = .ok (.aload_n 0, 1) := dk_42 (dk_at dksX2_init_2_0 4 rfl rfl)
theorem dX2_init_2_5 : decode cX2_init_2 5 = .ok (.new 9, 3) := dk_187 0 9 (dk_at dksX2_init_2_0 5 rfl rfl)
theorem dX2_init_2_8 : decode cX2_init_2 8 = .ok (.dup, 1) := dk_89 (dk_at dksX2_init_2_0 8 rfl rfl)
theorem dX2_init_2_9 : decode cX2_init_2 9 = .ok (.invokespecial 11, 3) := dk_183 0 11 (dk_at dksX2_init_2_0 9 rfl rfl)
theorem dX2_init_2_12 : decode cX2_init_2 12 = .ok (.putfield 12, 3) := dk_181 0 12 (dk_at dksX2_init_2_0 12 rfl rfl)
theorem dX2_init_2_15 : decode cX2_init_2 15 = .ok (.aload_n 0, 1) := dk_42 (dk_at dksX2_init_2_0 15 rfl rfl)
theorem dX2_init_2_16 : decode cX2_init_2 16 = .ok (.iconst 3, 1) := dk_6 (dk_at dksX2_init_2_0 16 rfl rfl)
theorem dX2_init_2_17 : decode cX2_init_2 17 = .ok (.anewarray 18, 3) := dk_189 0 18 (dk_at dksX2_init_2_0 17 rfl rfl)
theorem dX2_init_2_20 : decode cX2_init_2 20 = .ok (.putfield 20, 3) := dk_181 0 20 (dk_at dksX2_init_2_0 20 rfl rfl)
theorem dX2_init_2_23 : decode cX2_init_2 23 = .ok (.aload_n 0, 1) := dk_42 (dk_at dksX2_init_2_0 23 rfl rfl)
theorem dX2_init_2_24 : decode cX2_init_2 24 = .ok (.iconst 3, 1) := dk_6 (dk_at dksX2_init_2_1 0 rfl rfl)
theorem dX2_init_2_25 : decode cX2_init_2 25 = .ok (.anewarray 24, 3) := dk_189 0 24 (dk_at dksX2_init_2_1 1 rfl rfl)
theorem dX2_init_2_28 : decode cX2_init_2 28 = .ok (.putfield 26, 3) := dk_181 0 26 (dk_at dksX2_init_2_1 4 rfl rfl)
theorem dX2_init_2_31 : decode cX2_init_2 31 = .ok (.aload_n 0, 1) := dk_42 (dk_at dksX2_init_2_1 7 rfl rfl)
theorem dX2_init_2_32 : decode cX2_init_2 32 = .ok (.new 30, 3) := dk_187 0 30 (dk_at dksX2_init_2_1 8 rfl rfl)
theorem dX2_init_2_35 : decode cX2_init_2 35 = .ok (.dup, 1) := dk_89 (dk_at dksX2_init_2_1 11 rfl rfl)
theorem dX2_init_2_36 : decode cX2_init_2 36 = .ok (.invokespecial 32, 3) := dk_183 0 32 (dk_at dksX2_init_2_1 12 rfl rfl)
theorem dX2_init_2_39 : decode cX2_init_2 39 = .ok (.putfield 33, 3) := dk_181 0 33 (dk_at dksX2_init_2_1 15 rfl rfl)
theorem dX2_init_2_42 : decode cX2_init_2 42 = .ok (.aload_n 0, 1) := dk_42 (dk_at dksX2_init_2_1 18 rfl rfl)
theorem dX2_init_2_43 : decode cX2_init_2 43 = .ok (.new 37, 3) := dk_187 0 37 (dk_at dksX2_init_2_1 19 rfl rfl)
theorem dX2_init_2_46 : decode cX2_init_2 46 = .ok (.dup, 1) := dk_89 (dk_at dksX2_init_2_1 22 rfl rfl)
theorem dX2_init_2_47 : decode cX2_init_2 47 = .ok (.invokespecial 39, 3) := dk_183 0 39 (dk_at dksX2_init_2_2 0 rfl rfl)
theorem dX2_init_2_50 : decode cX2_init_2 50 = .ok (.putfield 40, 3) := dk_181 0 40 (dk_at dksX2_init_2_2 3 rfl rfl)
theorem dX2_init_2_53 : decode cX2_init_2 53 = .ok (.aload_n 0, 1) := dk_42 (dk_at dksX2_init_2_2 6 rfl rfl)
theorem dX2_init_2_54 : decode cX2_init_2 54 = .ok (.bipush 8, 2) := dk_16 8 (dk_at dksX2_init_2_2 7 rfl rfl)
theorem dX2_init_2_56 : decode cX2_init_2 56 = .ok (.newarray .int, 2) := dk_188_10 (dk_at dksX2_init_2_2 9 rfl rfl)
theorem dX2_init_2_58 : decode cX2_init_2 58 = .ok (.putfield 44, 3) := dk_181 0 44 (dk_at dksX2_init_2_2 11 rfl rfl)
theorem dX2_init_2_61 : decode cX2_init_2 61 = .ok (.aload_n 1, 1) := dk_43 (dk_at dksX2_init_2_2 14 rfl rfl)
theorem dX2_init_2_62 : decode cX2_init_2 62 = .ok (.getfield 12, 3) := dk_180 0 12 (dk_at dksX2_init_2_2 15 rfl rfl)
theorem dX2_init_2_65 : decode cX2_init_2 65 = .ok (.invokevirtual 52, 3) := dk_182 0 52 (dk_at dksX2_init_2_2 18 rfl rfl)
theorem dX2_init_2_68 : decode cX2_init_2 68 = .ok (.astore_n 2, 1) := dk_77 (dk_at dksX2_init_2_2 21 rfl rfl)
theorem dX2_init_2_69 : decode cX2_init_2 69 = .ok (.aload_n 2, 1) := dk_44 (dk_at dksX2_init_2_2 22 rfl rfl)
theorem dX2_init_2_70 : decode cX2_init_2 70 = .ok (.invokeinterface 56 1, 5) := by decide +kernel
theorem dX2_init_2_75 : decode cX2_init_2 75 = .ok (.ifCond .eq 26, 3) := dk_153 0 26 (dk_at dksX2_init_2_3 5 rfl rfl)
theorem dX2_init_2_78 : decode cX2_init_2 78 = .ok (.aload_n 2, 1) := dk_44 (dk_at dksX2_init_2_3 8 rfl rfl)
theorem dX2_init_2_79 : decode cX2_init_2 79 = .ok (.invokeinterface 62 1, 5) := by decide +kernel
theorem dX2_init_2_84 : decode cX2_init_2 84 = .ok (.checkcast 66, 3) := dk_192 0 66 (dk_at dksX2_init_2_3 14 rfl rfl)
theorem dX2_init_2_87 : decode cX2_init_2 87 = .ok (.astore_n 3, 1) := dk_78 (dk_at dksX2_init_2_3 17 rfl rfl)
theorem dX2_init_2_88 : decode cX2_init_2 88 = .ok (.aload_n 0, 1) := dk_42 (dk_at dksX2_init_2_3 18 rfl rfl)
theorem dX2_init_2_89 : decode cX2_init_2 89 = .ok (.getfield 12, 3) := dk_180 0 12 (dk_at dksX2_init_2_3 19 rfl rfl)
theorem dX2_init_2_92 : decode cX2_init_2 92 = .ok (.aload_n 3, 1) := dk_45 (dk_at dksX2_init_2_3 22 rfl rfl)
theorem dX2_init_2_93 : decode cX2_init_2 93 = .ok (.invokevirtual 68, 3) := dk_182 0 68 (dk_at dksX2_init_2_4 0 rfl rfl)
theorem dX2_init_2_96 : decode cX2_init_2 96 = .ok (.istore 4, 2) := dk_54 4 (dk_at dksX2_init_2_4 3 rfl rfl)
theorem dX2_init_2_98 : decode cX2_init_2 98 = .ok (.goto (-29), 3) := dk_167 255 227 (dk_at dksX2_init_2_4 5 rfl rfl)
theorem dX2_init_2_101 : decode cX2_init_2 101 = .ok (.iconst 0, 1) := dk_3 (dk_at dksX2_init_2_4 8 rfl rfl)
theorem dX2_init_2_102 : decode cX2_init_2 102 = .ok (.istore_n 2, 1) := dk_61 (dk_at dksX2_init_2_4 9 rfl rfl)
theorem dX2_init_2_103 : decode cX2_init_2 103 = .ok (.iload_n 2, 1) := dk_28 (dk_at dksX2_init_2_4 10 rfl rfl)
theorem dX2_init_2_104 : decode cX2_init_2 104 = .ok (.iconst 3, 1) := dk_6 (dk_at dksX2_init_2_4 11 rfl rfl)
theorem dX2_init_2_105 : decode cX2_init_2 105 = .ok (.if_icmp .ge 28, 3) := dk_162 0 28 (dk_at dksX2_init_2_4 12 rfl rfl)
theorem dX2_init_2_108 : decode cX2_init_2 108 = .ok (.aload_n 0, 1) := dk_42 (dk_at dksX2_init_2_4 15 rfl rfl)
theorem dX2_init_2_109 : decode cX2_init_2 109 = .ok (.getfield 20, 3) := dk_180 0 20 (dk_at dksX2_init_2_4 16 rfl rfl)
theorem dX2_init_2_112 : decode cX2_init_2 112 = .ok (.iload_n 2, 1) := dk_28 (dk_at dksX2_init_2_4 19 rfl rfl)
theorem dX2_init_2_113 : decode cX2_init_2 113 = .ok (.new 18, 3) := dk_187 0 18 (dk_at dksX2_init_2_4 20 rfl rfl)
theorem dX2_init_2_116 : decode cX2_init_2 116 = .ok (.dup, 1) := dk_89 (dk_at dksX2_init_2_4 23 rfl rfl)
theorem dX2_init_2_117 : decode cX2_init_2 117 = .ok (.aload_n 1, 1) := dk_43 (dk_at dksX2_init_2_5 0 rfl rfl)
theorem dX2_init_2_118 : decode cX2_init_2 118 = .ok (.getfield 20, 3) := dk_180 0 20 (dk_at dksX2_init_2_5 1 rfl rfl)
theorem dX2_init_2_121 : decode cX2_init_2 121 = .ok (.iload_n 2, 1) := dk_28 (dk_at dksX2_init_2_5 4 rfl rfl)
theorem dX2_init_2_122 : decode cX2_init_2 122 = .ok (.aaload, 1) := dk_50 (dk_at dksX2_init_2_5 5 rfl rfl)
theorem dX2_init_2_123 : decode cX2_init_2 123 = .ok (.invokespecial 72, 3) := dk_183 0 72 (dk_at dksX2_init_2_5 6 rfl rfl)
theorem dX2_init_2_126 : decode cX2_init_2 126 = .ok (.aastore, 1) := dk_83 (dk_at dksX2_init_2_5 9 rfl rfl)
theorem dX2_init_2_127 : decode cX2_init_2 127 = .ok (.iinc 2 1, 3) := dk_132 2 1 (dk_at dksX2_init_2_5 10 rfl rfl)
theorem dX2_init_2_130 : decode cX2_init_2 130 = .ok (.goto (-27), 3) := dk_167 255 229 (dk_at dksX2_init_2_5 13 rfl rfl)
theorem dX2_init_2_133 : decode cX2_init_2 133 = .ok (.aload_n 1, 1) := dk_43 (dk_at dksX2_init_2_5 16 rfl rfl)
theorem dX2_init_2_134 : decode cX2_init_2 134 = .ok (.getfield 33, 3) := dk_180 0 33 (dk_at dksX2_init_2_5 17 rfl rfl)
theorem dX2_init_2_137 : decode cX2_init_2 137 = .ok (.invokevirtual 75, 3) := dk_182 0 75 (dk_at dksX2_init_2_5 20 rfl rfl)
theorem dX2_init_2_140 : decode cX2_init_2 140 = .ok (.astore_n 2, 1) := dk_77 (dk_at dksX2_init_2_5 23 rfl rfl)
theorem dX2_init_2_141 : decode cX2_init_2 141 = .ok (.aload_n 2, 1) := dk_44 (dk_at dksX2_init_2_6 0 rfl rfl)
theorem dX2_init_2_142 : decode cX2_init_2 142 = .ok (.invokeinterface 56 1, 5) := by decide +kernel
theorem dX2_init_2_147 : decode cX2_init_2 147 = .ok (.ifCond .eq 33, 3) := dk_153 0 33 (dk_at dksX2_init_2_6 6 rfl rfl)
theorem dX2_init_2_150 : decode cX2_init_2 150 = .ok (.aload_n 2, 1) := dk_44 (dk_at dksX2_init_2_6 9 rfl rfl)
theorem dX2_init_2_151 : decode cX2_init_2 151 = .ok (.invokeinterface 62 1, 5) := by decide +kernel
theorem dX2_init_2_156 : decode cX2_init_2 156 = .ok (.checkcast 76, 3) := dk_192 0 76 (dk_at dksX2_init_2_6 15 rfl rfl)
theorem dX2_init_2_159 : decode cX2_init_2 159 = .ok (.astore_n 3, 1) := dk_78 (dk_at dksX2_init_2_6 18 rfl rfl)
theorem dX2_init_2_160 : decode cX2_init_2 160 = .ok (.aload_n 0, 1) := dk_42 (dk_at dksX2_init_2_6 19 rfl rfl)
theorem dX2_init_2_161 : decode cX2_init_2 161 = .ok (.getfield 33, 3) := dk_180 0 33 (dk_at dksX2_init_2_6 20 rfl rfl)
theorem dX2_init_2_164 : decode cX2_init_2 164 = .ok (.new 76, 3) := dk_187 0 76 (dk_at dksX2_init_2_7 0 rfl rfl)
theorem dX2_init_2_167 : decode cX2_init_2 167 = .ok (.dup, 1) := dk_89 (dk_at dksX2_init_2_7 3 rfl rfl)
theorem dX2_init_2_168 : decode cX2_init_2 168 = .ok (.aload_n 3, 1) := dk_45 (dk_at dksX2_init_2_7 4 rfl rfl)
theorem dX2_init_2_169 : decode cX2_init_2 169 = .ok (.invokespecial 78, 3) := dk_183 0 78 (dk_at dksX2_init_2_7 5 rfl rfl)
theorem dX2_init_2_172 : decode cX2_init_2 172 = .ok (.invokevirtual 81, 3) := dk_182 0 81 (dk_at dksX2_init_2_7 8 rfl rfl)
theorem dX2_init_2_175 : decode cX2_init_2 175 = .ok (.istore 4, 2) := dk_54 4 (dk_at dksX2_init_2_7 11 rfl rfl)
theorem dX2_init_2_177 : decode cX2_init_2 177 = .ok (.goto (-36), 3) := dk_167 255 220 (dk_at dksX2_init_2_7 13 rfl rfl)
theorem dX2_init_2_180 : decode cX2_init_2 180 = .ok (.iconst 0, 1) := dk_3 (dk_at dksX2_init_2_7 16 rfl rfl)
theorem dX2_init_2_181 : decode cX2_init_2 181 = .ok (.istore_n 2, 1) := dk_61 (dk_at dksX2_init_2_7 17 rfl rfl)
theorem dX2_init_2_182 : decode cX2_init_2 182 = .ok (.iload_n 2, 1) := dk_28 (dk_at dksX2_init_2_7 18 rfl rfl)
theorem dX2_init_2_183 : decode cX2_init_2 183 = .ok (.iconst 3, 1) := dk_6 (dk_at dksX2_init_2_7 19 rfl rfl)
theorem dX2_init_2_184 : decode cX2_init_2 184 = .ok (.if_icmp .ge 39, 3) := dk_162 0 39 (dk_at dksX2_init_2_7 20 rfl rfl)
theorem dX2_init_2_187 : decode cX2_init_2 187 = .ok (.aload_n 0, 1) := dk_42 (dk_at dksX2_init_2_7 23 rfl rfl)
theorem dX2_init_2_188 : decode cX2_init_2 188 = .ok (.getfield 26, 3) := dk_180 0 26 (dk_at dksX2_init_2_8 0 rfl rfl)
theorem dX2_init_2_191 : decode cX2_init_2 191 = .ok (.iload_n 2, 1) := dk_28 (dk_at dksX2_init_2_8 3 rfl rfl)
theorem dX2_init_2_192 : decode cX2_init_2 192 = .ok (.new 24, 3) := dk_187 0 24 (dk_at dksX2_init_2_8 4 rfl rfl)
theorem dX2_init_2_195 : decode cX2_init_2 195 = .ok (.dup, 1) := dk_89 (dk_at dksX2_init_2_8 7 rfl rfl)
theorem dX2_init_2_196 : decode cX2_init_2 196 = .ok (.aload_n 0, 1) := dk_42 (dk_at dksX2_init_2_8 8 rfl rfl)
theorem dX2_init_2_197 : decode cX2_init_2 197 = .ok (.iload_n 2, 1) := dk_28 (dk_at dksX2_init_2_8 9 rfl rfl)
theorem dX2_init_2_198 : decode cX2_init_2 198 = .ok (.invokespecial 49, 3) := dk_183 0 49 (dk_at dksX2_init_2_8 10 rfl rfl)
theorem dX2_init_2_201 : decode cX2_init_2 201 = .ok (.aastore, 1) := dk_83 (dk_at dksX2_init_2_8 13 rfl rfl)
theorem dX2_init_2_202 : decode cX2_init_2 202 = .ok (.aload_n 0, 1) := dk_42 (dk_at dksX2_init_2_8 14 rfl rfl)
theorem dX2_init_2_203 : decode cX2_init_2 203 = .ok (.getfield 26, 3) := dk_180 0 26 (dk_at dksX2_init_2_8 15 rfl rfl)
theorem dX2_init_2_206 : decode cX2_init_2 206 = .ok (.iload_n 2, 1) := dk_28 (dk_at dksX2_init_2_8 18 rfl rfl)
theorem dX2_init_2_207 : decode cX2_init_2 207 = .ok (.aaload, 1) := dk_50 (dk_at dksX2_init_2_8 19 rfl rfl)
theorem dX2_init_2_208 : decode cX2_init_2 208 = .ok (.aload_n 1, 1) := dk_43 (dk_at dksX2_init_2_8 20 rfl rfl)
theorem dX2_init_2_209 : decode cX2_init_2 209 = .ok (.getfield 26, 3) := dk_180 0 26 (dk_at dksX2_init_2_8 21 rfl rfl)
theorem dX2_init_2_212 : decode cX2_init_2 212 = .ok (.iload_n 2, 1) := dk_28 (dk_at dksX2_init_2_9 0 rfl rfl)
theorem dX2_init_2_213 : decode cX2_init_2 213 = .ok (.aaload, 1) := dk_50 (dk_at dksX2_init_2_9 1 rfl rfl)
theorem dX2_init_2_214 : decode cX2_init_2 214 = .ok (.invokevirtual 82, 3) := dk_182 0 82 (dk_at dksX2_init_2_9 2 rfl rfl)
theorem dX2_init_2_217 : decode cX2_init_2 217 = .ok (.iinc 2 1, 3) := dk_132 2 1 (dk_at dksX2_init_2_9 5 rfl rfl)
theorem dX2_init_2_220 : decode cX2_init_2 220 = .ok (.goto (-38), 3) := dk_167 255 218 (dk_at dksX2_init_2_9 8 rfl rfl)
theorem dX2_init_2_223 : decode cX2_init_2 223 = .ok (.aload_n 1, 1) := dk_43 (dk_at dksX2_init_2_9 11 rfl rfl)
theorem dX2_init_2_224 : decode cX2_init_2 224 = .ok (.getfield 40, 3) := dk_180 0 40 (dk_at dksX2_init_2_9 12 rfl rfl)
theorem dX2_init_2_227 : decode cX2_init_2 227 = .ok (.invokevirtual 86, 3) := dk_182 0 86 (dk_at dksX2_init_2_9 15 rfl rfl)
theorem dX2_init_2_230 : decode cX2_init_2 230 = .ok (.astore_n 2, 1) := dk_77 (dk_at dksX2_init_2_9 18 rfl rfl)
theorem dX2_init_2_231 : decode cX2_init_2 231 = .ok (.aload_n 2, 1) := dk_44 (dk_at dksX2_init_2_9 19 rfl rfl)
theorem dX2_init_2_232 : decode cX2_init_2 232 = .ok (.invokeinterface 56 1, 5) := by decide +kernel
theorem dX2_init_2_237 : decode cX2_init_2 237 = .ok (.ifCond .eq 24, 3) := dk_153 0 24 (dk_at dksX2_init_2_10 5 rfl rfl)
theorem dX2_init_2_240 : decode cX2_init_2 240 = .ok (.aload_n 2, 1) := dk_44 (dk_at dksX2_init_2_10 8 rfl rfl)
theorem dX2_init_2_241 : decode cX2_init_2 241 = .ok (.invokeinterface 62 1, 5) := by decide +kernel
theorem dX2_init_2_246 : decode cX2_init_2 246 = .ok (.checkcast 87, 3) := dk_192 0 87 (dk_at dksX2_init_2_10 14 rfl rfl)
theorem dX2_init_2_249 : decode cX2_init_2 249 = .ok (.astore_n 3, 1) := dk_78 (dk_at dksX2_init_2_10 17 rfl rfl)
theorem dX2_init_2_250 : decode cX2_init_2 250 = .ok (.aload_n 0, 1) := dk_42 (dk_at dksX2_init_2_10 18 rfl rfl)
theorem dX2_init_2_251 : decode cX2_init_2 251 = .ok (.getfield 40, 3) := dk_180 0 40 (dk_at dksX2_init_2_10 19 rfl rfl)
theorem dX2_init_2_254 : decode cX2_init_2 254 = .ok (.aload_n 3, 1) := dk_45 (dk_at dksX2_init_2_10 22 rfl rfl)
theorem dX2_init_2_255 : decode cX2_init_2 255 = .ok (.invokevirtual 89, 3) := dk_182 0 89 (dk_at dksX2_init_2_11 0 rfl rfl)
theorem dX2_init_2_258 : decode cX2_init_2 258 = .ok (.goto (-27), 3) := dk_167 255 229 (dk_at dksX2_init_2_11 3 rfl rfl)
theorem dX2_init_2_261 : decode cX2_init_2 261 = .ok (.aload_n 1, 1) := dk_43 (dk_at dksX2_init_2_11 6 rfl rfl)
theorem dX2_init_2_262 : decode cX2_init_2 262 = .ok (.getfield 44, 3) := dk_180 0 44 (dk_at dksX2_init_2_11 7 rfl rfl)
theorem dX2_init_2_265 : decode cX2_init_2 265 = .ok (.iconst 0, 1) := dk_3 (dk_at dksX2_init_2_11 10 rfl rfl)
theorem dX2_init_2_266 : decode cX2_init_2 266 = .ok (.aload_n 0, 1) := dk_42 (dk_at dksX2_init_2_11 11 rfl rfl)
theorem dX2_init_2_267 : decode cX2_init_2 267 = .ok (.getfield 44, 3) := dk_180 0 44 (dk_at dksX2_init_2_11 12 rfl rfl)
theorem dX2_init_2_270 : decode cX2_init_2 270 = .ok (.iconst 0, 1) := dk_3 (dk_at dksX2_init_2_11 15 rfl rfl)
theorem dX2_init_2_271 : decode cX2_init_2 271 = .ok (.bipush 8, 2) := dk_16 8 (dk_at dksX2_init_2_11 16 rfl rfl)
theorem dX2_init_2_273 : decode cX2_init_2 273 = .ok (.invokestatic 93, 3) := dk_184 0 93 (dk_at dksX2_init_2_11 18 rfl rfl)
theorem dX2_init_2_276 : decode cX2_init_2 276 = .ok (.aload_n 0, 1) := dk_42 (dk_at dksX2_init_2_11 21 rfl rfl)
theorem dX2_init_2_277 : decode cX2_init_2 277 = .ok (.aload_n 1, 1) := dk_43 (dk_at dksX2_init_2_11 22 rfl rfl)
theorem dX2_init_2_278 : decode cX2_init_2 278 = .ok (.getfield 99, 3) := dk_180 0 99 (dk_at dksX2_init_2_12 0 rfl rfl)
theorem dX2_init_2_281 : decode cX2_init_2 281 = .ok (.putfield 99, 3) := dk_181 0 99 (dk_at dksX2_init_2_12 3 rfl rfl)
theorem dX2_init_2_284 : decode cX2_init_2 284 = .ok (.aload_n 0, 1) := dk_42 (dk_at dksX2_init_2_12 6 rfl rfl)
theorem dX2_init_2_285 : decode cX2_init_2 285 = .ok (.aload_n 1, 1) := dk_43 (dk_at dksX2_init_2_12 7 rfl rfl)
theorem dX2_init_2_286 : decode cX2_init_2 286 = .ok (.getfield 103, 3) := dk_180 0 103 (dk_at dksX2_init_2_12 8 rfl rfl)
theorem dX2_init_2_289 : decode cX2_init_2 289 = .ok (.putfield 103, 3) := dk_181 0 103 (dk_at dksX2_init_2_12 11 rfl rfl)
theorem dX2_init_2_292 : decode cX2_init_2 292 = .ok (.aload_n 0, 1) := dk_42 (dk_at dksX2_init_2_12 14 rfl rfl)
theorem dX2_init_2_293 : decode cX2_init_2 293 = .ok (.aload_n 1, 1) := dk_43 (dk_at dksX2_init_2_12 15 rfl rfl)
theorem dX2_init_2_294 : decode cX2_init_2 294 = .ok (.getfield 106, 3) := dk_180 0 106 (dk_at dksX2_init_2_12 16 rfl rfl)
theorem dX2_init_2_297 : decode cX2_init_2 297 = .ok (.putfield 106, 3) := dk_181 0 106 (dk_at dksX2_init_2_12 19 rfl rfl)
theorem dX2_init_2_300 : decode cX2_init_2 300 = .ok (.aload_n 0, 1) := dk_42 (dk_at dksX2_init_2_12 22 rfl rfl)
theorem dX2_init_2_301 : decode cX2_init_2 301 = .ok (.aload_n 1, 1) := dk_43 (dk_at dksX2_init_2_12 23 rfl rfl)
theorem dX2_init_2_302 : decode cX2_init_2 302 = .ok (.getfield 109, 3) := dk_180 0 109 (dk_at dksX2_init_2_13 0 rfl rfl)
theorem dX2_init_2_305 : decode cX2_init_2 305 = .ok (.putfield 109, 3) := dk_181 0 109 (dk_at dksX2_init_2_13 3 rfl rfl)
theorem dX2_init_2_308 : decode cX2_init_2 308 = .ok (.aload_n 0, 1) := dk_42 (dk_at dksX2_init_2_13 6 rfl rfl)
theorem dX2_init_2_309 : decode cX2_init_2 309 = .ok (.aload_n 1, 1) := dk_43 (dk_at dksX2_init_2_13 7 rfl rfl)
theorem dX2_init_2_310 : decode cX2_init_2 310 = .ok (.getfield 112, 3) := dk_180 0 112 (dk_at dksX2_init_2_13 8 rfl rfl)
theorem dX2_init_2_313 : decode cX2_init_2 313 = .ok (.putfield 112, 3) := dk_181 0 112 (dk_at dksX2_init_2_13 11 rfl rfl)
theorem dX2_init_2_316 : decode cX2_init_2 316 = .ok (.aload_n 0, 1) := dk_42 (dk_at dksX2_init_2_13 14 rfl rfl)
theorem dX2_init_2_317 : decode cX2_init_2 317 = .ok (.aload_n 1, 1) := dk_43 (dk_at dksX2_init_2_13 15 rfl rfl)
theorem dX2_init_2_318 : decode cX2_init_2 318 = .ok (.getfield 115, 3) := dk_180 0 115 (dk_at dksX2_init_2_13 16 rfl rfl)
theorem dX2_init_2_321 : decode cX2_init_2 321 = .ok (.putfield 115, 3) := dk_181 0 115 (dk_at dksX2_init_2_13 19 rfl rfl)
theorem dX2_init_2_324 : decode cX2_init_2 324 = .ok (.return_, 1) := dk_177 (dk_at dksX2_init_2_13 22 rfl rfl)
abbrev cX2_newPart : ByteArray := prog_3_method_5_code
def yX2_newPart : MethodName := ⟨RX2, "newPart", "()I"⟩
def dkwX2_newPart_0 : List UInt8 := [42, 89, 180, 0, 103, 4, 96, 181, 0, 103, 42, 180, 0, 103, 4, 100, 172]
abbrev dktX2_newPart_0 : List UInt8 := dkwX2_newPart_0 ++ []
theorem dksX2_newPart_0 : cX2_newPart.data.toList.drop 0 = dktX2_newPart_0 := by decide +kernel
theorem dX2_newPart_0 : decode cX2_newPart 0 = .ok (.aload_n 0, 1) := dk_42 (dk_at dksX2_newPart_0 0 rfl rfl)
theorem dX2_newPart_1 : decode cX2_newPart 1 = .ok (.dup, 1) := dk_89 (dk_at dksX2_newPart_0 1 rfl rfl)
theorem dX2_newPart_2 : decode cX2_newPart 2 = .ok (.getfield 103, 3) := dk_180 0 103 (dk_at dksX2_newPart_0 2 rfl rfl)
theorem dX2_newPart_5 : decode cX2_newPart 5 = .ok (.iconst 1, 1) := dk_4 (dk_at dksX2_newPart_0 5 rfl rfl)
theorem dX2_newPart_6 : decode cX2_newPart 6 = .ok (.iadd, 1) := dk_96 (dk_at dksX2_newPart_0 6 rfl rfl)
theorem dX2_newPart_7 : decode cX2_newPart 7 = .ok (.putfield 103, 3) := dk_181 0 103 (dk_at dksX2_newPart_0 7 rfl rfl)
theorem dX2_newPart_10 : decode cX2_newPart 10 = .ok (.aload_n 0, 1) := dk_42 (dk_at dksX2_newPart_0 10 rfl rfl)
theorem dX2_newPart_11 : decode cX2_newPart 11 = .ok (.getfield 103, 3) := dk_180 0 103 (dk_at dksX2_newPart_0 11 rfl rfl)
theorem dX2_newPart_14 : decode cX2_newPart 14 = .ok (.iconst 1, 1) := dk_4 (dk_at dksX2_newPart_0 14 rfl rfl)
theorem dX2_newPart_15 : decode cX2_newPart 15 = .ok (.isub, 1) := dk_100 (dk_at dksX2_newPart_0 15 rfl rfl)
theorem dX2_newPart_16 : decode cX2_newPart 16 = .ok (.ireturn, 1) := dk_172 (dk_at dksX2_newPart_0 16 rfl rfl)
abbrev cX2_tick : ByteArray := prog_3_method_13_code
def yX2_tick : MethodName := ⟨RX2, "tick", "()V"⟩
def dkwX2_tick_2 : List UInt8 := [62, 29, 28, 162, 0, 19, 43, 29, 50, 58, 4, 25, 4, 182, 0, 178, 132, 3, 1, 167, 255, 238, 177]
abbrev dktX2_tick_2 : List UInt8 := dkwX2_tick_2 ++ []
def dkwX2_tick_1 : List UInt8 := [43, 185, 0, 62, 1, 0, 192, 0, 24, 182, 0, 175, 167, 255, 235, 42, 180, 0, 26, 76, 43, 190, 61, 3]
abbrev dktX2_tick_1 : List UInt8 := dkwX2_tick_1 ++ dktX2_tick_2
def dkwX2_tick_0 : List UInt8 := [42, 89, 180, 0, 99, 4, 96, 181, 0, 99, 42, 182, 0, 172, 76, 43, 185, 0, 56, 1, 0, 153, 0, 18]
abbrev dktX2_tick_0 : List UInt8 := dkwX2_tick_0 ++ dktX2_tick_1
theorem dksX2_tick_0 : cX2_tick.data.toList.drop 0 = dktX2_tick_0 := by decide +kernel
theorem dksX2_tick_1 : cX2_tick.data.toList.drop 24 = dktX2_tick_1 := dk_seg dksX2_tick_0 24 rfl rfl
theorem dksX2_tick_2 : cX2_tick.data.toList.drop 48 = dktX2_tick_2 := dk_seg dksX2_tick_1 24 rfl rfl
theorem dX2_tick_0 : decode cX2_tick 0 = .ok (.aload_n 0, 1) := dk_42 (dk_at dksX2_tick_0 0 rfl rfl)
theorem dX2_tick_1 : decode cX2_tick 1 = .ok (.dup, 1) := dk_89 (dk_at dksX2_tick_0 1 rfl rfl)
theorem dX2_tick_2 : decode cX2_tick 2 = .ok (.getfield 99, 3) := dk_180 0 99 (dk_at dksX2_tick_0 2 rfl rfl)
theorem dX2_tick_5 : decode cX2_tick 5 = .ok (.iconst 1, 1) := dk_4 (dk_at dksX2_tick_0 5 rfl rfl)
theorem dX2_tick_6 : decode cX2_tick 6 = .ok (.iadd, 1) := dk_96 (dk_at dksX2_tick_0 6 rfl rfl)
theorem dX2_tick_7 : decode cX2_tick 7 = .ok (.putfield 99, 3) := dk_181 0 99 (dk_at dksX2_tick_0 7 rfl rfl)
theorem dX2_tick_10 : decode cX2_tick 10 = .ok (.aload_n 0, 1) := dk_42 (dk_at dksX2_tick_0 10 rfl rfl)
theorem dX2_tick_11 : decode cX2_tick 11 = .ok (.invokevirtual 172, 3) := dk_182 0 172 (dk_at dksX2_tick_0 11 rfl rfl)
theorem dX2_tick_14 : decode cX2_tick 14 = .ok (.astore_n 1, 1) := dk_76 (dk_at dksX2_tick_0 14 rfl rfl)
theorem dX2_tick_15 : decode cX2_tick 15 = .ok (.aload_n 1, 1) := dk_43 (dk_at dksX2_tick_0 15 rfl rfl)
theorem dX2_tick_16 : decode cX2_tick 16 = .ok (.invokeinterface 56 1, 5) := by decide +kernel
theorem dX2_tick_21 : decode cX2_tick 21 = .ok (.ifCond .eq 18, 3) := dk_153 0 18 (dk_at dksX2_tick_0 21 rfl rfl)
theorem dX2_tick_24 : decode cX2_tick 24 = .ok (.aload_n 1, 1) := dk_43 (dk_at dksX2_tick_1 0 rfl rfl)
theorem dX2_tick_25 : decode cX2_tick 25 = .ok (.invokeinterface 62 1, 5) := by decide +kernel
theorem dX2_tick_30 : decode cX2_tick 30 = .ok (.checkcast 24, 3) := dk_192 0 24 (dk_at dksX2_tick_1 6 rfl rfl)
theorem dX2_tick_33 : decode cX2_tick 33 = .ok (.invokevirtual 175, 3) := dk_182 0 175 (dk_at dksX2_tick_1 9 rfl rfl)
theorem dX2_tick_36 : decode cX2_tick 36 = .ok (.goto (-21), 3) := dk_167 255 235 (dk_at dksX2_tick_1 12 rfl rfl)
theorem dX2_tick_39 : decode cX2_tick 39 = .ok (.aload_n 0, 1) := dk_42 (dk_at dksX2_tick_1 15 rfl rfl)
theorem dX2_tick_40 : decode cX2_tick 40 = .ok (.getfield 26, 3) := dk_180 0 26 (dk_at dksX2_tick_1 16 rfl rfl)
theorem dX2_tick_43 : decode cX2_tick 43 = .ok (.astore_n 1, 1) := dk_76 (dk_at dksX2_tick_1 19 rfl rfl)
theorem dX2_tick_44 : decode cX2_tick 44 = .ok (.aload_n 1, 1) := dk_43 (dk_at dksX2_tick_1 20 rfl rfl)
theorem dX2_tick_45 : decode cX2_tick 45 = .ok (.arraylength, 1) := dk_190 (dk_at dksX2_tick_1 21 rfl rfl)
theorem dX2_tick_46 : decode cX2_tick 46 = .ok (.istore_n 2, 1) := dk_61 (dk_at dksX2_tick_1 22 rfl rfl)
theorem dX2_tick_47 : decode cX2_tick 47 = .ok (.iconst 0, 1) := dk_3 (dk_at dksX2_tick_1 23 rfl rfl)
theorem dX2_tick_48 : decode cX2_tick 48 = .ok (.istore_n 3, 1) := dk_62 (dk_at dksX2_tick_2 0 rfl rfl)
theorem dX2_tick_49 : decode cX2_tick 49 = .ok (.iload_n 3, 1) := dk_29 (dk_at dksX2_tick_2 1 rfl rfl)
theorem dX2_tick_50 : decode cX2_tick 50 = .ok (.iload_n 2, 1) := dk_28 (dk_at dksX2_tick_2 2 rfl rfl)
theorem dX2_tick_51 : decode cX2_tick 51 = .ok (.if_icmp .ge 19, 3) := dk_162 0 19 (dk_at dksX2_tick_2 3 rfl rfl)
theorem dX2_tick_54 : decode cX2_tick 54 = .ok (.aload_n 1, 1) := dk_43 (dk_at dksX2_tick_2 6 rfl rfl)
theorem dX2_tick_55 : decode cX2_tick 55 = .ok (.iload_n 3, 1) := dk_29 (dk_at dksX2_tick_2 7 rfl rfl)
theorem dX2_tick_56 : decode cX2_tick 56 = .ok (.aaload, 1) := dk_50 (dk_at dksX2_tick_2 8 rfl rfl)
theorem dX2_tick_57 : decode cX2_tick 57 = .ok (.astore 4, 2) := dk_58 4 (dk_at dksX2_tick_2 9 rfl rfl)
theorem dX2_tick_59 : decode cX2_tick 59 = .ok (.aload 4, 2) := dk_25 4 (dk_at dksX2_tick_2 11 rfl rfl)
theorem dX2_tick_61 : decode cX2_tick 61 = .ok (.invokevirtual 178, 3) := dk_182 0 178 (dk_at dksX2_tick_2 13 rfl rfl)
theorem dX2_tick_64 : decode cX2_tick 64 = .ok (.iinc 3 1, 3) := dk_132 3 1 (dk_at dksX2_tick_2 16 rfl rfl)
theorem dX2_tick_67 : decode cX2_tick 67 = .ok (.goto (-18), 3) := dk_167 255 238 (dk_at dksX2_tick_2 19 rfl rfl)
theorem dX2_tick_70 : decode cX2_tick 70 = .ok (.return_, 1) := dk_177 (dk_at dksX2_tick_2 22 rfl rfl)
abbrev cX2_acting : ByteArray := prog_3_method_12_code
def yX2_acting : MethodName := ⟨RX2, "acting", "()Ljava/util/Iterator;"⟩
def dkwX2_acting_3 : List UInt8 := [183, 0, 169, 176]
abbrev dktX2_acting_3 : List UInt8 := dkwX2_acting_3 ++ []
def dkwX2_acting_2 : List UInt8 := [46, 79, 132, 3, 255, 167, 255, 216, 43, 29, 28, 79, 132, 2, 1, 167, 255, 199, 187, 0, 167, 89, 42, 43]
abbrev dktX2_acting_2 : List UInt8 := dkwX2_acting_2 ++ dktX2_acting_3
def dkwX2_acting_1 : List UInt8 := [100, 46, 50, 180, 0, 164, 42, 180, 0, 26, 28, 50, 180, 0, 164, 162, 0, 17, 43, 29, 43, 29, 4, 100]
abbrev dktX2_acting_1 : List UInt8 := dkwX2_acting_1 ++ dktX2_acting_2
def dkwX2_acting_0 : List UInt8 := [6, 188, 10, 76, 3, 61, 28, 6, 162, 0, 58, 28, 62, 29, 158, 0, 42, 42, 180, 0, 26, 43, 29, 4]
abbrev dktX2_acting_0 : List UInt8 := dkwX2_acting_0 ++ dktX2_acting_1
theorem dksX2_acting_0 : cX2_acting.data.toList.drop 0 = dktX2_acting_0 := by decide +kernel
theorem dksX2_acting_1 : cX2_acting.data.toList.drop 24 = dktX2_acting_1 := dk_seg dksX2_acting_0 24 rfl rfl
theorem dksX2_acting_2 : cX2_acting.data.toList.drop 48 = dktX2_acting_2 := dk_seg dksX2_acting_1 24 rfl rfl
theorem dksX2_acting_3 : cX2_acting.data.toList.drop 72 = dktX2_acting_3 := dk_seg dksX2_acting_2 24 rfl rfl
theorem dX2_acting_0 : decode cX2_acting 0 = .ok (.iconst 3, 1) := dk_6 (dk_at dksX2_acting_0 0 rfl rfl)
theorem dX2_acting_1 : decode cX2_acting 1 = .ok (.newarray .int, 2) := dk_188_10 (dk_at dksX2_acting_0 1 rfl rfl)
theorem dX2_acting_3 : decode cX2_acting 3 = .ok (.astore_n 1, 1) := dk_76 (dk_at dksX2_acting_0 3 rfl rfl)
theorem dX2_acting_4 : decode cX2_acting 4 = .ok (.iconst 0, 1) := dk_3 (dk_at dksX2_acting_0 4 rfl rfl)
theorem dX2_acting_5 : decode cX2_acting 5 = .ok (.istore_n 2, 1) := dk_61 (dk_at dksX2_acting_0 5 rfl rfl)
theorem dX2_acting_6 : decode cX2_acting 6 = .ok (.iload_n 2, 1) := dk_28 (dk_at dksX2_acting_0 6 rfl rfl)
theorem dX2_acting_7 : decode cX2_acting 7 = .ok (.iconst 3, 1) := dk_6 (dk_at dksX2_acting_0 7 rfl rfl)
theorem dX2_acting_8 : decode cX2_acting 8 = .ok (.if_icmp .ge 58, 3) := dk_162 0 58 (dk_at dksX2_acting_0 8 rfl rfl)
theorem dX2_acting_11 : decode cX2_acting 11 = .ok (.iload_n 2, 1) := dk_28 (dk_at dksX2_acting_0 11 rfl rfl)
theorem dX2_acting_12 : decode cX2_acting 12 = .ok (.istore_n 3, 1) := dk_62 (dk_at dksX2_acting_0 12 rfl rfl)
theorem dX2_acting_13 : decode cX2_acting 13 = .ok (.iload_n 3, 1) := dk_29 (dk_at dksX2_acting_0 13 rfl rfl)
theorem dX2_acting_14 : decode cX2_acting 14 = .ok (.ifCond .le 42, 3) := dk_158 0 42 (dk_at dksX2_acting_0 14 rfl rfl)
theorem dX2_acting_17 : decode cX2_acting 17 = .ok (.aload_n 0, 1) := dk_42 (dk_at dksX2_acting_0 17 rfl rfl)
theorem dX2_acting_18 : decode cX2_acting 18 = .ok (.getfield 26, 3) := dk_180 0 26 (dk_at dksX2_acting_0 18 rfl rfl)
theorem dX2_acting_21 : decode cX2_acting 21 = .ok (.aload_n 1, 1) := dk_43 (dk_at dksX2_acting_0 21 rfl rfl)
theorem dX2_acting_22 : decode cX2_acting 22 = .ok (.iload_n 3, 1) := dk_29 (dk_at dksX2_acting_0 22 rfl rfl)
theorem dX2_acting_23 : decode cX2_acting 23 = .ok (.iconst 1, 1) := dk_4 (dk_at dksX2_acting_0 23 rfl rfl)
theorem dX2_acting_24 : decode cX2_acting 24 = .ok (.isub, 1) := dk_100 (dk_at dksX2_acting_1 0 rfl rfl)
theorem dX2_acting_25 : decode cX2_acting 25 = .ok (.iaload, 1) := dk_46 (dk_at dksX2_acting_1 1 rfl rfl)
theorem dX2_acting_26 : decode cX2_acting 26 = .ok (.aaload, 1) := dk_50 (dk_at dksX2_acting_1 2 rfl rfl)
theorem dX2_acting_27 : decode cX2_acting 27 = .ok (.getfield 164, 3) := dk_180 0 164 (dk_at dksX2_acting_1 3 rfl rfl)
theorem dX2_acting_30 : decode cX2_acting 30 = .ok (.aload_n 0, 1) := dk_42 (dk_at dksX2_acting_1 6 rfl rfl)
theorem dX2_acting_31 : decode cX2_acting 31 = .ok (.getfield 26, 3) := dk_180 0 26 (dk_at dksX2_acting_1 7 rfl rfl)
theorem dX2_acting_34 : decode cX2_acting 34 = .ok (.iload_n 2, 1) := dk_28 (dk_at dksX2_acting_1 10 rfl rfl)
theorem dX2_acting_35 : decode cX2_acting 35 = .ok (.aaload, 1) := dk_50 (dk_at dksX2_acting_1 11 rfl rfl)
theorem dX2_acting_36 : decode cX2_acting 36 = .ok (.getfield 164, 3) := dk_180 0 164 (dk_at dksX2_acting_1 12 rfl rfl)
theorem dX2_acting_39 : decode cX2_acting 39 = .ok (.if_icmp .ge 17, 3) := dk_162 0 17 (dk_at dksX2_acting_1 15 rfl rfl)
theorem dX2_acting_42 : decode cX2_acting 42 = .ok (.aload_n 1, 1) := dk_43 (dk_at dksX2_acting_1 18 rfl rfl)
theorem dX2_acting_43 : decode cX2_acting 43 = .ok (.iload_n 3, 1) := dk_29 (dk_at dksX2_acting_1 19 rfl rfl)
theorem dX2_acting_44 : decode cX2_acting 44 = .ok (.aload_n 1, 1) := dk_43 (dk_at dksX2_acting_1 20 rfl rfl)
theorem dX2_acting_45 : decode cX2_acting 45 = .ok (.iload_n 3, 1) := dk_29 (dk_at dksX2_acting_1 21 rfl rfl)
theorem dX2_acting_46 : decode cX2_acting 46 = .ok (.iconst 1, 1) := dk_4 (dk_at dksX2_acting_1 22 rfl rfl)
theorem dX2_acting_47 : decode cX2_acting 47 = .ok (.isub, 1) := dk_100 (dk_at dksX2_acting_1 23 rfl rfl)
theorem dX2_acting_48 : decode cX2_acting 48 = .ok (.iaload, 1) := dk_46 (dk_at dksX2_acting_2 0 rfl rfl)
theorem dX2_acting_49 : decode cX2_acting 49 = .ok (.iastore, 1) := dk_79 (dk_at dksX2_acting_2 1 rfl rfl)
theorem dX2_acting_50 : decode cX2_acting 50 = .ok (.iinc 3 (-1), 3) := dk_132 3 255 (dk_at dksX2_acting_2 2 rfl rfl)
theorem dX2_acting_53 : decode cX2_acting 53 = .ok (.goto (-40), 3) := dk_167 255 216 (dk_at dksX2_acting_2 5 rfl rfl)
theorem dX2_acting_56 : decode cX2_acting 56 = .ok (.aload_n 1, 1) := dk_43 (dk_at dksX2_acting_2 8 rfl rfl)
theorem dX2_acting_57 : decode cX2_acting 57 = .ok (.iload_n 3, 1) := dk_29 (dk_at dksX2_acting_2 9 rfl rfl)
theorem dX2_acting_58 : decode cX2_acting 58 = .ok (.iload_n 2, 1) := dk_28 (dk_at dksX2_acting_2 10 rfl rfl)
theorem dX2_acting_59 : decode cX2_acting 59 = .ok (.iastore, 1) := dk_79 (dk_at dksX2_acting_2 11 rfl rfl)
theorem dX2_acting_60 : decode cX2_acting 60 = .ok (.iinc 2 1, 3) := dk_132 2 1 (dk_at dksX2_acting_2 12 rfl rfl)
theorem dX2_acting_63 : decode cX2_acting 63 = .ok (.goto (-57), 3) := dk_167 255 199 (dk_at dksX2_acting_2 15 rfl rfl)
theorem dX2_acting_66 : decode cX2_acting 66 = .ok (.new 167, 3) := dk_187 0 167 (dk_at dksX2_acting_2 18 rfl rfl)
theorem dX2_acting_69 : decode cX2_acting 69 = .ok (.dup, 1) := dk_89 (dk_at dksX2_acting_2 21 rfl rfl)
theorem dX2_acting_70 : decode cX2_acting 70 = .ok (.aload_n 0, 1) := dk_42 (dk_at dksX2_acting_2 22 rfl rfl)
theorem dX2_acting_71 : decode cX2_acting 71 = .ok (.aload_n 1, 1) := dk_43 (dk_at dksX2_acting_2 23 rfl rfl)
theorem dX2_acting_72 : decode cX2_acting 72 = .ok (.invokespecial 169, 3) := dk_183 0 169 (dk_at dksX2_acting_3 0 rfl rfl)
theorem dX2_acting_75 : decode cX2_acting 75 = .ok (.areturn, 1) := dk_176 (dk_at dksX2_acting_3 3 rfl rfl)
abbrev cX2_note : ByteArray := prog_3_method_3_code
def yX2_note : MethodName := ⟨RX2, "note", "(III)V"⟩
def dkwX2_note_1 : List UInt8 := [42, 180, 0, 40, 187, 0, 87, 89, 42, 180, 0, 99, 27, 28, 29, 183, 0, 125, 182, 0, 89, 177]
abbrev dktX2_note_1 : List UInt8 := dkwX2_note_1 ++ []
def dkwX2_note_0 : List UInt8 := [42, 180, 0, 40, 182, 0, 118, 16, 24, 160, 0, 15, 42, 180, 0, 40, 182, 0, 122, 192, 0, 87, 58, 4]
abbrev dktX2_note_0 : List UInt8 := dkwX2_note_0 ++ dktX2_note_1
theorem dksX2_note_0 : cX2_note.data.toList.drop 0 = dktX2_note_0 := by decide +kernel
theorem dksX2_note_1 : cX2_note.data.toList.drop 24 = dktX2_note_1 := dk_seg dksX2_note_0 24 rfl rfl
theorem dX2_note_0 : decode cX2_note 0 = .ok (.aload_n 0, 1) := dk_42 (dk_at dksX2_note_0 0 rfl rfl)
theorem dX2_note_1 : decode cX2_note 1 = .ok (.getfield 40, 3) := dk_180 0 40 (dk_at dksX2_note_0 1 rfl rfl)
theorem dX2_note_4 : decode cX2_note 4 = .ok (.invokevirtual 118, 3) := dk_182 0 118 (dk_at dksX2_note_0 4 rfl rfl)
theorem dX2_note_7 : decode cX2_note 7 = .ok (.bipush 24, 2) := dk_16 24 (dk_at dksX2_note_0 7 rfl rfl)
theorem dX2_note_9 : decode cX2_note 9 = .ok (.if_icmp .ne 15, 3) := dk_160 0 15 (dk_at dksX2_note_0 9 rfl rfl)
theorem dX2_note_12 : decode cX2_note 12 = .ok (.aload_n 0, 1) := dk_42 (dk_at dksX2_note_0 12 rfl rfl)
theorem dX2_note_13 : decode cX2_note 13 = .ok (.getfield 40, 3) := dk_180 0 40 (dk_at dksX2_note_0 13 rfl rfl)
theorem dX2_note_16 : decode cX2_note 16 = .ok (.invokevirtual 122, 3) := dk_182 0 122 (dk_at dksX2_note_0 16 rfl rfl)
theorem dX2_note_19 : decode cX2_note 19 = .ok (.checkcast 87, 3) := dk_192 0 87 (dk_at dksX2_note_0 19 rfl rfl)
theorem dX2_note_22 : decode cX2_note 22 = .ok (.astore 4, 2) := dk_58 4 (dk_at dksX2_note_0 22 rfl rfl)
theorem dX2_note_24 : decode cX2_note 24 = .ok (.aload_n 0, 1) := dk_42 (dk_at dksX2_note_1 0 rfl rfl)
theorem dX2_note_25 : decode cX2_note 25 = .ok (.getfield 40, 3) := dk_180 0 40 (dk_at dksX2_note_1 1 rfl rfl)
theorem dX2_note_28 : decode cX2_note 28 = .ok (.new 87, 3) := dk_187 0 87 (dk_at dksX2_note_1 4 rfl rfl)
theorem dX2_note_31 : decode cX2_note 31 = .ok (.dup, 1) := dk_89 (dk_at dksX2_note_1 7 rfl rfl)
theorem dX2_note_32 : decode cX2_note 32 = .ok (.aload_n 0, 1) := dk_42 (dk_at dksX2_note_1 8 rfl rfl)
theorem dX2_note_33 : decode cX2_note 33 = .ok (.getfield 99, 3) := dk_180 0 99 (dk_at dksX2_note_1 9 rfl rfl)
theorem dX2_note_36 : decode cX2_note 36 = .ok (.iload_n 1, 1) := dk_27 (dk_at dksX2_note_1 12 rfl rfl)
theorem dX2_note_37 : decode cX2_note 37 = .ok (.iload_n 2, 1) := dk_28 (dk_at dksX2_note_1 13 rfl rfl)
theorem dX2_note_38 : decode cX2_note 38 = .ok (.iload_n 3, 1) := dk_29 (dk_at dksX2_note_1 14 rfl rfl)
theorem dX2_note_39 : decode cX2_note 39 = .ok (.invokespecial 125, 3) := dk_183 0 125 (dk_at dksX2_note_1 15 rfl rfl)
theorem dX2_note_42 : decode cX2_note 42 = .ok (.invokevirtual 89, 3) := dk_182 0 89 (dk_at dksX2_note_1 18 rfl rfl)
theorem dX2_note_45 : decode cX2_note 45 = .ok (.return_, 1) := dk_177 (dk_at dksX2_note_1 21 rfl rfl)
abbrev cX2_isIdle : ByteArray := prog_3_method_6_code
def yX2_isIdle : MethodName := ⟨RX2, "isIdle", "()Z"⟩
def dkwX2_isIdle_2 : List UInt8 := [167, 0, 4, 3, 126, 60, 132, 4, 1, 167, 255, 214, 27, 172]
abbrev dktX2_isIdle_2 : List UInt8 := dkwX2_isIdle_2 ++ []
def dkwX2_isIdle_1 : List UInt8 := [58, 5, 27, 25, 5, 180, 0, 132, 154, 0, 18, 25, 5, 180, 0, 135, 182, 0, 138, 153, 0, 7, 4]
abbrev dktX2_isIdle_1 : List UInt8 := dkwX2_isIdle_1 ++ dktX2_isIdle_2
def dkwX2_isIdle_0 : List UInt8 := [4, 60, 42, 180, 0, 26, 77, 44, 190, 62, 3, 54, 4, 21, 4, 29, 162, 0, 42, 44, 21, 4, 50]
abbrev dktX2_isIdle_0 : List UInt8 := dkwX2_isIdle_0 ++ dktX2_isIdle_1
theorem dksX2_isIdle_0 : cX2_isIdle.data.toList.drop 0 = dktX2_isIdle_0 := by decide +kernel
theorem dksX2_isIdle_1 : cX2_isIdle.data.toList.drop 23 = dktX2_isIdle_1 := dk_seg dksX2_isIdle_0 23 rfl rfl
theorem dksX2_isIdle_2 : cX2_isIdle.data.toList.drop 46 = dktX2_isIdle_2 := dk_seg dksX2_isIdle_1 23 rfl rfl
theorem dX2_isIdle_0 : decode cX2_isIdle 0 = .ok (.iconst 1, 1) := dk_4 (dk_at dksX2_isIdle_0 0 rfl rfl)
theorem dX2_isIdle_1 : decode cX2_isIdle 1 = .ok (.istore_n 1, 1) := dk_60 (dk_at dksX2_isIdle_0 1 rfl rfl)
theorem dX2_isIdle_2 : decode cX2_isIdle 2 = .ok (.aload_n 0, 1) := dk_42 (dk_at dksX2_isIdle_0 2 rfl rfl)
theorem dX2_isIdle_3 : decode cX2_isIdle 3 = .ok (.getfield 26, 3) := dk_180 0 26 (dk_at dksX2_isIdle_0 3 rfl rfl)
theorem dX2_isIdle_6 : decode cX2_isIdle 6 = .ok (.astore_n 2, 1) := dk_77 (dk_at dksX2_isIdle_0 6 rfl rfl)
theorem dX2_isIdle_7 : decode cX2_isIdle 7 = .ok (.aload_n 2, 1) := dk_44 (dk_at dksX2_isIdle_0 7 rfl rfl)
theorem dX2_isIdle_8 : decode cX2_isIdle 8 = .ok (.arraylength, 1) := dk_190 (dk_at dksX2_isIdle_0 8 rfl rfl)
theorem dX2_isIdle_9 : decode cX2_isIdle 9 = .ok (.istore_n 3, 1) := dk_62 (dk_at dksX2_isIdle_0 9 rfl rfl)
theorem dX2_isIdle_10 : decode cX2_isIdle 10 = .ok (.iconst 0, 1) := dk_3 (dk_at dksX2_isIdle_0 10 rfl rfl)
theorem dX2_isIdle_11 : decode cX2_isIdle 11 = .ok (.istore 4, 2) := dk_54 4 (dk_at dksX2_isIdle_0 11 rfl rfl)
theorem dX2_isIdle_13 : decode cX2_isIdle 13 = .ok (.iload 4, 2) := dk_21 4 (dk_at dksX2_isIdle_0 13 rfl rfl)
theorem dX2_isIdle_15 : decode cX2_isIdle 15 = .ok (.iload_n 3, 1) := dk_29 (dk_at dksX2_isIdle_0 15 rfl rfl)
theorem dX2_isIdle_16 : decode cX2_isIdle 16 = .ok (.if_icmp .ge 42, 3) := dk_162 0 42 (dk_at dksX2_isIdle_0 16 rfl rfl)
theorem dX2_isIdle_19 : decode cX2_isIdle 19 = .ok (.aload_n 2, 1) := dk_44 (dk_at dksX2_isIdle_0 19 rfl rfl)
theorem dX2_isIdle_20 : decode cX2_isIdle 20 = .ok (.iload 4, 2) := dk_21 4 (dk_at dksX2_isIdle_0 20 rfl rfl)
theorem dX2_isIdle_22 : decode cX2_isIdle 22 = .ok (.aaload, 1) := dk_50 (dk_at dksX2_isIdle_0 22 rfl rfl)
theorem dX2_isIdle_23 : decode cX2_isIdle 23 = .ok (.astore 5, 2) := dk_58 5 (dk_at dksX2_isIdle_1 0 rfl rfl)
theorem dX2_isIdle_25 : decode cX2_isIdle 25 = .ok (.iload_n 1, 1) := dk_27 (dk_at dksX2_isIdle_1 2 rfl rfl)
theorem dX2_isIdle_26 : decode cX2_isIdle 26 = .ok (.aload 5, 2) := dk_25 5 (dk_at dksX2_isIdle_1 3 rfl rfl)
theorem dX2_isIdle_28 : decode cX2_isIdle 28 = .ok (.getfield 132, 3) := dk_180 0 132 (dk_at dksX2_isIdle_1 5 rfl rfl)
theorem dX2_isIdle_31 : decode cX2_isIdle 31 = .ok (.ifCond .ne 18, 3) := dk_154 0 18 (dk_at dksX2_isIdle_1 8 rfl rfl)
theorem dX2_isIdle_34 : decode cX2_isIdle 34 = .ok (.aload 5, 2) := dk_25 5 (dk_at dksX2_isIdle_1 11 rfl rfl)
theorem dX2_isIdle_36 : decode cX2_isIdle 36 = .ok (.getfield 135, 3) := dk_180 0 135 (dk_at dksX2_isIdle_1 13 rfl rfl)
theorem dX2_isIdle_39 : decode cX2_isIdle 39 = .ok (.invokevirtual 138, 3) := dk_182 0 138 (dk_at dksX2_isIdle_1 16 rfl rfl)
theorem dX2_isIdle_42 : decode cX2_isIdle 42 = .ok (.ifCond .eq 7, 3) := dk_153 0 7 (dk_at dksX2_isIdle_1 19 rfl rfl)
theorem dX2_isIdle_45 : decode cX2_isIdle 45 = .ok (.iconst 1, 1) := dk_4 (dk_at dksX2_isIdle_1 22 rfl rfl)
theorem dX2_isIdle_46 : decode cX2_isIdle 46 = .ok (.goto 4, 3) := dk_167 0 4 (dk_at dksX2_isIdle_2 0 rfl rfl)
theorem dX2_isIdle_49 : decode cX2_isIdle 49 = .ok (.iconst 0, 1) := dk_3 (dk_at dksX2_isIdle_2 3 rfl rfl)
theorem dX2_isIdle_50 : decode cX2_isIdle 50 = .ok (.iand, 1) := dk_126 (dk_at dksX2_isIdle_2 4 rfl rfl)
theorem dX2_isIdle_51 : decode cX2_isIdle 51 = .ok (.istore_n 1, 1) := dk_60 (dk_at dksX2_isIdle_2 5 rfl rfl)
theorem dX2_isIdle_52 : decode cX2_isIdle 52 = .ok (.iinc 4 1, 3) := dk_132 4 1 (dk_at dksX2_isIdle_2 6 rfl rfl)
theorem dX2_isIdle_55 : decode cX2_isIdle 55 = .ok (.goto (-42), 3) := dk_167 255 214 (dk_at dksX2_isIdle_2 9 rfl rfl)
theorem dX2_isIdle_58 : decode cX2_isIdle 58 = .ok (.iload_n 1, 1) := dk_27 (dk_at dksX2_isIdle_2 12 rfl rfl)
theorem dX2_isIdle_59 : decode cX2_isIdle 59 = .ok (.ireturn, 1) := dk_172 (dk_at dksX2_isIdle_2 13 rfl rfl)
abbrev cX2_parts : ByteArray := prog_3_method_7_code
def yX2_parts : MethodName := ⟨RX2, "parts", "()I"⟩
def dkwX2_parts_1 : List UInt8 := [58, 5, 27, 25, 5, 180, 0, 141, 182, 0, 118, 96, 60, 132, 4, 1, 167, 255, 230, 27, 172]
abbrev dktX2_parts_1 : List UInt8 := dkwX2_parts_1 ++ []
def dkwX2_parts_0 : List UInt8 := [3, 60, 42, 180, 0, 20, 77, 44, 190, 62, 3, 54, 4, 21, 4, 29, 162, 0, 26, 44, 21, 4, 50]
abbrev dktX2_parts_0 : List UInt8 := dkwX2_parts_0 ++ dktX2_parts_1
theorem dksX2_parts_0 : cX2_parts.data.toList.drop 0 = dktX2_parts_0 := by decide +kernel
theorem dksX2_parts_1 : cX2_parts.data.toList.drop 23 = dktX2_parts_1 := dk_seg dksX2_parts_0 23 rfl rfl
theorem dX2_parts_0 : decode cX2_parts 0 = .ok (.iconst 0, 1) := dk_3 (dk_at dksX2_parts_0 0 rfl rfl)
theorem dX2_parts_1 : decode cX2_parts 1 = .ok (.istore_n 1, 1) := dk_60 (dk_at dksX2_parts_0 1 rfl rfl)
theorem dX2_parts_2 : decode cX2_parts 2 = .ok (.aload_n 0, 1) := dk_42 (dk_at dksX2_parts_0 2 rfl rfl)
theorem dX2_parts_3 : decode cX2_parts 3 = .ok (.getfield 20, 3) := dk_180 0 20 (dk_at dksX2_parts_0 3 rfl rfl)
theorem dX2_parts_6 : decode cX2_parts 6 = .ok (.astore_n 2, 1) := dk_77 (dk_at dksX2_parts_0 6 rfl rfl)
theorem dX2_parts_7 : decode cX2_parts 7 = .ok (.aload_n 2, 1) := dk_44 (dk_at dksX2_parts_0 7 rfl rfl)
theorem dX2_parts_8 : decode cX2_parts 8 = .ok (.arraylength, 1) := dk_190 (dk_at dksX2_parts_0 8 rfl rfl)
theorem dX2_parts_9 : decode cX2_parts 9 = .ok (.istore_n 3, 1) := dk_62 (dk_at dksX2_parts_0 9 rfl rfl)
theorem dX2_parts_10 : decode cX2_parts 10 = .ok (.iconst 0, 1) := dk_3 (dk_at dksX2_parts_0 10 rfl rfl)
theorem dX2_parts_11 : decode cX2_parts 11 = .ok (.istore 4, 2) := dk_54 4 (dk_at dksX2_parts_0 11 rfl rfl)
theorem dX2_parts_13 : decode cX2_parts 13 = .ok (.iload 4, 2) := dk_21 4 (dk_at dksX2_parts_0 13 rfl rfl)
theorem dX2_parts_15 : decode cX2_parts 15 = .ok (.iload_n 3, 1) := dk_29 (dk_at dksX2_parts_0 15 rfl rfl)
theorem dX2_parts_16 : decode cX2_parts 16 = .ok (.if_icmp .ge 26, 3) := dk_162 0 26 (dk_at dksX2_parts_0 16 rfl rfl)
theorem dX2_parts_19 : decode cX2_parts 19 = .ok (.aload_n 2, 1) := dk_44 (dk_at dksX2_parts_0 19 rfl rfl)
theorem dX2_parts_20 : decode cX2_parts 20 = .ok (.iload 4, 2) := dk_21 4 (dk_at dksX2_parts_0 20 rfl rfl)
theorem dX2_parts_22 : decode cX2_parts 22 = .ok (.aaload, 1) := dk_50 (dk_at dksX2_parts_0 22 rfl rfl)
theorem dX2_parts_23 : decode cX2_parts 23 = .ok (.astore 5, 2) := dk_58 5 (dk_at dksX2_parts_1 0 rfl rfl)
theorem dX2_parts_25 : decode cX2_parts 25 = .ok (.iload_n 1, 1) := dk_27 (dk_at dksX2_parts_1 2 rfl rfl)
theorem dX2_parts_26 : decode cX2_parts 26 = .ok (.aload 5, 2) := dk_25 5 (dk_at dksX2_parts_1 3 rfl rfl)
theorem dX2_parts_28 : decode cX2_parts 28 = .ok (.getfield 141, 3) := dk_180 0 141 (dk_at dksX2_parts_1 5 rfl rfl)
theorem dX2_parts_31 : decode cX2_parts 31 = .ok (.invokevirtual 118, 3) := dk_182 0 118 (dk_at dksX2_parts_1 8 rfl rfl)
theorem dX2_parts_34 : decode cX2_parts 34 = .ok (.iadd, 1) := dk_96 (dk_at dksX2_parts_1 11 rfl rfl)
theorem dX2_parts_35 : decode cX2_parts 35 = .ok (.istore_n 1, 1) := dk_60 (dk_at dksX2_parts_1 12 rfl rfl)
theorem dX2_parts_36 : decode cX2_parts 36 = .ok (.iinc 4 1, 3) := dk_132 4 1 (dk_at dksX2_parts_1 13 rfl rfl)
theorem dX2_parts_39 : decode cX2_parts 39 = .ok (.goto (-26), 3) := dk_167 255 230 (dk_at dksX2_parts_1 16 rfl rfl)
theorem dX2_parts_42 : decode cX2_parts 42 = .ok (.iload_n 1, 1) := dk_27 (dk_at dksX2_parts_1 19 rfl rfl)
theorem dX2_parts_43 : decode cX2_parts 43 = .ok (.ireturn, 1) := dk_172 (dk_at dksX2_parts_1 20 rfl rfl)
abbrev cX2_refusals : ByteArray := prog_3_method_8_code
def yX2_refusals : MethodName := ⟨RX2, "refusals", "()I"⟩
def dkwX2_refusals_1 : List UInt8 := [58, 5, 27, 25, 5, 180, 0, 144, 96, 60, 132, 4, 1, 167, 255, 233, 27, 172]
abbrev dktX2_refusals_1 : List UInt8 := dkwX2_refusals_1 ++ []
def dkwX2_refusals_0 : List UInt8 := [3, 60, 42, 180, 0, 26, 77, 44, 190, 62, 3, 54, 4, 21, 4, 29, 162, 0, 23, 44, 21, 4, 50]
abbrev dktX2_refusals_0 : List UInt8 := dkwX2_refusals_0 ++ dktX2_refusals_1
theorem dksX2_refusals_0 : cX2_refusals.data.toList.drop 0 = dktX2_refusals_0 := by decide +kernel
theorem dksX2_refusals_1 : cX2_refusals.data.toList.drop 23 = dktX2_refusals_1 := dk_seg dksX2_refusals_0 23 rfl rfl
theorem dX2_refusals_0 : decode cX2_refusals 0 = .ok (.iconst 0, 1) := dk_3 (dk_at dksX2_refusals_0 0 rfl rfl)
theorem dX2_refusals_1 : decode cX2_refusals 1 = .ok (.istore_n 1, 1) := dk_60 (dk_at dksX2_refusals_0 1 rfl rfl)
theorem dX2_refusals_2 : decode cX2_refusals 2 = .ok (.aload_n 0, 1) := dk_42 (dk_at dksX2_refusals_0 2 rfl rfl)
theorem dX2_refusals_3 : decode cX2_refusals 3 = .ok (.getfield 26, 3) := dk_180 0 26 (dk_at dksX2_refusals_0 3 rfl rfl)
theorem dX2_refusals_6 : decode cX2_refusals 6 = .ok (.astore_n 2, 1) := dk_77 (dk_at dksX2_refusals_0 6 rfl rfl)
theorem dX2_refusals_7 : decode cX2_refusals 7 = .ok (.aload_n 2, 1) := dk_44 (dk_at dksX2_refusals_0 7 rfl rfl)
theorem dX2_refusals_8 : decode cX2_refusals 8 = .ok (.arraylength, 1) := dk_190 (dk_at dksX2_refusals_0 8 rfl rfl)
theorem dX2_refusals_9 : decode cX2_refusals 9 = .ok (.istore_n 3, 1) := dk_62 (dk_at dksX2_refusals_0 9 rfl rfl)
theorem dX2_refusals_10 : decode cX2_refusals 10 = .ok (.iconst 0, 1) := dk_3 (dk_at dksX2_refusals_0 10 rfl rfl)
theorem dX2_refusals_11 : decode cX2_refusals 11 = .ok (.istore 4, 2) := dk_54 4 (dk_at dksX2_refusals_0 11 rfl rfl)
theorem dX2_refusals_13 : decode cX2_refusals 13 = .ok (.iload 4, 2) := dk_21 4 (dk_at dksX2_refusals_0 13 rfl rfl)
theorem dX2_refusals_15 : decode cX2_refusals 15 = .ok (.iload_n 3, 1) := dk_29 (dk_at dksX2_refusals_0 15 rfl rfl)
theorem dX2_refusals_16 : decode cX2_refusals 16 = .ok (.if_icmp .ge 23, 3) := dk_162 0 23 (dk_at dksX2_refusals_0 16 rfl rfl)
theorem dX2_refusals_19 : decode cX2_refusals 19 = .ok (.aload_n 2, 1) := dk_44 (dk_at dksX2_refusals_0 19 rfl rfl)
theorem dX2_refusals_20 : decode cX2_refusals 20 = .ok (.iload 4, 2) := dk_21 4 (dk_at dksX2_refusals_0 20 rfl rfl)
theorem dX2_refusals_22 : decode cX2_refusals 22 = .ok (.aaload, 1) := dk_50 (dk_at dksX2_refusals_0 22 rfl rfl)
theorem dX2_refusals_23 : decode cX2_refusals 23 = .ok (.astore 5, 2) := dk_58 5 (dk_at dksX2_refusals_1 0 rfl rfl)
theorem dX2_refusals_25 : decode cX2_refusals 25 = .ok (.iload_n 1, 1) := dk_27 (dk_at dksX2_refusals_1 2 rfl rfl)
theorem dX2_refusals_26 : decode cX2_refusals 26 = .ok (.aload 5, 2) := dk_25 5 (dk_at dksX2_refusals_1 3 rfl rfl)
theorem dX2_refusals_28 : decode cX2_refusals 28 = .ok (.getfield 144, 3) := dk_180 0 144 (dk_at dksX2_refusals_1 5 rfl rfl)
theorem dX2_refusals_31 : decode cX2_refusals 31 = .ok (.iadd, 1) := dk_96 (dk_at dksX2_refusals_1 8 rfl rfl)
theorem dX2_refusals_32 : decode cX2_refusals 32 = .ok (.istore_n 1, 1) := dk_60 (dk_at dksX2_refusals_1 9 rfl rfl)
theorem dX2_refusals_33 : decode cX2_refusals 33 = .ok (.iinc 4 1, 3) := dk_132 4 1 (dk_at dksX2_refusals_1 10 rfl rfl)
theorem dX2_refusals_36 : decode cX2_refusals 36 = .ok (.goto (-23), 3) := dk_167 255 233 (dk_at dksX2_refusals_1 13 rfl rfl)
theorem dX2_refusals_39 : decode cX2_refusals 39 = .ok (.iload_n 1, 1) := dk_27 (dk_at dksX2_refusals_1 16 rfl rfl)
theorem dX2_refusals_40 : decode cX2_refusals 40 = .ok (.ireturn, 1) := dk_172 (dk_at dksX2_refusals_1 17 rfl rfl)
theorem q95 : (Jvm.Cond.initialized "RobotCell$Cell") ∈ lw_all := lw_g (lw_at lw_m1 2 rfl) rfl
theorem q173 : (Jvm.Cond.instantiable "RobotCell$Cell" (12 : Nat)) ∈ lw_all := lw_g (lw_at lw_m1 80 rfl) rfl
theorem q175 : (Jvm.Cond.instanceMethod ({ cls := "RobotCell$Cell", name := "<init>", desc := "()V" } : Jvm.MethodName)) ∈ lw_all := lw_g (lw_at lw_m1 82 rfl) rfl
theorem q176 : (Jvm.Cond.code ({ cls := "RobotCell$Cell", name := "<init>", desc := "()V" } : Jvm.MethodName) prog_3_method_1_code (2 : Nat) (Option.none : Option Jvm.ClassFile.FieldType)) ∈ lw_all := lw_g (lw_at lw_m1 83 rfl) rfl
theorem q177 : (Jvm.Cond.methodLink "RobotCell$Cell" (3 : Nat) ({ cls := "java/lang/Object", name := "<init>", desc := "()V" } : Jvm.MethodName)) ∈ lw_all := lw_g (lw_at lw_m1 84 rfl) rfl
theorem q178 : (Jvm.Cond.classLink "RobotCell$Cell" (9 : Nat) "java/util/LinkedHashSet") ∈ lw_all := lw_g (lw_at lw_m1 85 rfl) rfl
theorem q180 : (Jvm.Cond.methodLink "RobotCell$Cell" (11 : Nat) ({ cls := "java/util/LinkedHashSet", name := "<init>", desc := "()V" } : Jvm.MethodName)) ∈ lw_all := lw_g (lw_at lw_m1 87 rfl) rfl
theorem q860 : (Jvm.Cond.selects "RobotCell$Cell" ({ cls := "java/lang/Object", name := "toString", desc := "()Ljava/lang/String;" } : Jvm.MethodName) ({ cls := "java/lang/Object", name := "toString", desc := "()Ljava/lang/String;" } : Jvm.MethodName)) ∈ lw_all := lw_g (lw_at lw_m4 47 rfl) rfl
theorem q880 : (Jvm.Cond.selects "RobotCell$Cell" ({ cls := "java/lang/Object", name := "getClass", desc := "()Ljava/lang/Class;" } : Jvm.MethodName) ({ cls := "java/lang/Object", name := "getClass", desc := "()Ljava/lang/Class;" } : Jvm.MethodName)) ∈ lw_all := lw_g (lw_at lw_m4 67 rfl) rfl
theorem q1088 : (Jvm.Cond.classLink "RobotCell$Cell" (18 : Nat) "RobotCell$Buffer") ∈ lw_all := lw_g (lw_at lw_m5 35 rfl) rfl
theorem q1090 : (Jvm.Cond.classLink "RobotCell$Cell" (24 : Nat) "RobotCell$Cell$Arm") ∈ lw_all := lw_g (lw_at lw_m5 37 rfl) rfl
theorem q1092 : (Jvm.Cond.classLink "RobotCell$Cell" (30 : Nat) "java/util/ArrayList") ∈ lw_all := lw_g (lw_at lw_m5 39 rfl) rfl
theorem q1094 : (Jvm.Cond.methodLink "RobotCell$Cell" (32 : Nat) ({ cls := "java/util/ArrayList", name := "<init>", desc := "()V" } : Jvm.MethodName)) ∈ lw_all := lw_g (lw_at lw_m5 41 rfl) rfl
theorem q1118 : (Jvm.Cond.classLink "RobotCell$Cell" (37 : Nat) "java/util/ArrayDeque") ∈ lw_all := lw_g (lw_at lw_m5 65 rfl) rfl
theorem q1120 : (Jvm.Cond.methodLink "RobotCell$Cell" (39 : Nat) ({ cls := "java/util/ArrayDeque", name := "<init>", desc := "()V" } : Jvm.MethodName)) ∈ lw_all := lw_g (lw_at lw_m5 67 rfl) rfl
theorem q1139 : (Jvm.Cond.methodLink "RobotCell$Cell" (48 : Nat) ({ cls := "RobotCell$Buffer", name := "<init>", desc := "()V" } : Jvm.MethodName)) ∈ lw_all := lw_g (lw_at lw_m5 86 rfl) rfl
theorem q1146 : (Jvm.Cond.fieldLinkNest "RobotCell$Cell" (141 : Nat) "RobotCell$Buffer" "parts" "Ljava/util/ArrayDeque;" "RobotCell") ∈ lw_tbl := lw_at lw_m5 93 rfl
theorem q1172 : (Jvm.Cond.methodLink "RobotCell$Cell" (49 : Nat) ({ cls := "RobotCell$Cell$Arm", name := "<init>", desc := "(LRobotCell$Cell;I)V" } : Jvm.MethodName)) ∈ lw_all := lw_g (lw_at lw_m5 119 rfl) rfl
theorem q1183 : (Jvm.Cond.fieldLinkNest "RobotCell$Cell" (135 : Nat) "RobotCell$Cell$Arm" "row" "Ljava/util/ArrayDeque;" "RobotCell") ∈ lw_tbl := lw_at lw_m5 130 rfl
theorem q1188 : (Jvm.Cond.fieldLinkNest "RobotCell$Cell" (132 : Nat) "RobotCell$Cell$Arm" "state" "I" "RobotCell") ∈ lw_tbl := lw_at lw_m5 135 rfl
theorem q1193 : (Jvm.Cond.fieldLinkNest "RobotCell$Cell" (164 : Nat) "RobotCell$Cell$Arm" "patience" "I" "RobotCell") ∈ lw_tbl := lw_at lw_m5 140 rfl
theorem q1200 : (Jvm.Cond.fieldLinkNest "RobotCell$Cell" (144 : Nat) "RobotCell$Cell$Arm" "refusals" "I" "RobotCell") ∈ lw_tbl := lw_at lw_m5 147 rfl
theorem q1234 : (Jvm.Cond.fieldLink "RobotCell$Cell" (12 : Nat) "RobotCell$Cell" "interlocks" "Ljava/util/LinkedHashSet;") ∈ lw_all := lw_g (lw_at lw_m5 181 rfl) rfl
theorem q1237 : (Jvm.Cond.fieldLink "RobotCell$Cell" (20 : Nat) "RobotCell$Cell" "buffers" "[LRobotCell$Buffer;") ∈ lw_all := lw_g (lw_at lw_m5 184 rfl) rfl
theorem q1240 : (Jvm.Cond.fieldLink "RobotCell$Cell" (26 : Nat) "RobotCell$Cell" "arms" "[LRobotCell$Cell$Arm;") ∈ lw_all := lw_g (lw_at lw_m5 187 rfl) rfl
theorem q1245 : (Jvm.Cond.fieldLink "RobotCell$Cell" (33 : Nat) "RobotCell$Cell" "jobs" "Ljava/util/ArrayList;") ∈ lw_all := lw_g (lw_at lw_m5 192 rfl) rfl
theorem q1248 : (Jvm.Cond.fieldLink "RobotCell$Cell" (40 : Nat) "RobotCell$Cell" "log" "Ljava/util/ArrayDeque;") ∈ lw_all := lw_g (lw_at lw_m5 195 rfl) rfl
theorem q1250 : (Jvm.Cond.fieldLink "RobotCell$Cell" (44 : Nat) "RobotCell$Cell" "heldTicks" "[I") ∈ lw_all := lw_g (lw_at lw_m5 197 rfl) rfl
theorem q1253 : (Jvm.Cond.fieldLink "RobotCell$Cell" (99 : Nat) "RobotCell$Cell" "time" "I") ∈ lw_all := lw_g (lw_at lw_m5 200 rfl) rfl
theorem q1256 : (Jvm.Cond.fieldLink "RobotCell$Cell" (103 : Nat) "RobotCell$Cell" "newParts" "I") ∈ lw_all := lw_g (lw_at lw_m5 203 rfl) rfl
theorem q1258 : (Jvm.Cond.fieldLink "RobotCell$Cell" (106 : Nat) "RobotCell$Cell" "goneParts" "I") ∈ lw_all := lw_g (lw_at lw_m5 205 rfl) rfl
theorem q1261 : (Jvm.Cond.fieldLink "RobotCell$Cell" (109 : Nat) "RobotCell$Cell" "endedJobs" "I") ∈ lw_all := lw_g (lw_at lw_m5 208 rfl) rfl
theorem q1264 : (Jvm.Cond.fieldLink "RobotCell$Cell" (112 : Nat) "RobotCell$Cell" "withdrawnJobs" "I") ∈ lw_all := lw_g (lw_at lw_m5 211 rfl) rfl
theorem q1266 : (Jvm.Cond.fieldLink "RobotCell$Cell" (115 : Nat) "RobotCell$Cell" "durations" "I") ∈ lw_all := lw_g (lw_at lw_m5 213 rfl) rfl
theorem q1269 : (Jvm.Cond.laysFinal "RobotCell$Cell" "RobotCell$Cell" "interlocks" "Ljava/util/LinkedHashSet;") ∈ lw_all := lw_g (lw_at lw_m5 216 rfl) rfl
theorem q1270 : (Jvm.Cond.soleField "RobotCell$Cell" "interlocks") ∈ lw_all := lw_g (lw_at lw_m5 217 rfl) rfl
theorem q1271 : (Jvm.Cond.laysFinal "RobotCell$Cell" "RobotCell$Cell" "buffers" "[LRobotCell$Buffer;") ∈ lw_all := lw_g (lw_at lw_m5 218 rfl) rfl
theorem q1272 : (Jvm.Cond.soleField "RobotCell$Cell" "buffers") ∈ lw_all := lw_g (lw_at lw_m5 219 rfl) rfl
theorem q1273 : (Jvm.Cond.laysFinal "RobotCell$Cell" "RobotCell$Cell" "arms" "[LRobotCell$Cell$Arm;") ∈ lw_all := lw_g (lw_at lw_m5 220 rfl) rfl
theorem q1274 : (Jvm.Cond.soleField "RobotCell$Cell" "arms") ∈ lw_all := lw_g (lw_at lw_m5 221 rfl) rfl
theorem q1275 : (Jvm.Cond.laysFinal "RobotCell$Cell" "RobotCell$Cell" "jobs" "Ljava/util/ArrayList;") ∈ lw_all := lw_g (lw_at lw_m5 222 rfl) rfl
theorem q1276 : (Jvm.Cond.soleField "RobotCell$Cell" "jobs") ∈ lw_all := lw_g (lw_at lw_m5 223 rfl) rfl
theorem q1277 : (Jvm.Cond.laysFinal "RobotCell$Cell" "RobotCell$Cell" "log" "Ljava/util/ArrayDeque;") ∈ lw_all := lw_g (lw_at lw_m5 224 rfl) rfl
theorem q1278 : (Jvm.Cond.soleField "RobotCell$Cell" "log") ∈ lw_all := lw_g (lw_at lw_m5 225 rfl) rfl
theorem q1279 : (Jvm.Cond.laysFinal "RobotCell$Cell" "RobotCell$Cell" "heldTicks" "[I") ∈ lw_all := lw_g (lw_at lw_m5 226 rfl) rfl
theorem q1280 : (Jvm.Cond.soleField "RobotCell$Cell" "heldTicks") ∈ lw_all := lw_g (lw_at lw_m5 227 rfl) rfl
theorem q1281 : (Jvm.Cond.lays "RobotCell$Cell" "RobotCell$Cell" "time" "I") ∈ lw_all := lw_g (lw_at lw_m5 228 rfl) rfl
theorem q1282 : (Jvm.Cond.soleField "RobotCell$Cell" "time") ∈ lw_all := lw_g (lw_at lw_m5 229 rfl) rfl
theorem q1283 : (Jvm.Cond.lays "RobotCell$Cell" "RobotCell$Cell" "newParts" "I") ∈ lw_all := lw_g (lw_at lw_m5 230 rfl) rfl
theorem q1284 : (Jvm.Cond.soleField "RobotCell$Cell" "newParts") ∈ lw_all := lw_g (lw_at lw_m5 231 rfl) rfl
theorem q1285 : (Jvm.Cond.lays "RobotCell$Cell" "RobotCell$Cell" "goneParts" "I") ∈ lw_all := lw_g (lw_at lw_m5 232 rfl) rfl
theorem q1286 : (Jvm.Cond.soleField "RobotCell$Cell" "goneParts") ∈ lw_all := lw_g (lw_at lw_m5 233 rfl) rfl
theorem q1287 : (Jvm.Cond.lays "RobotCell$Cell" "RobotCell$Cell" "endedJobs" "I") ∈ lw_all := lw_g (lw_at lw_m5 234 rfl) rfl
theorem q1288 : (Jvm.Cond.soleField "RobotCell$Cell" "endedJobs") ∈ lw_all := lw_g (lw_at lw_m5 235 rfl) rfl
theorem q1289 : (Jvm.Cond.lays "RobotCell$Cell" "RobotCell$Cell" "withdrawnJobs" "I") ∈ lw_all := lw_g (lw_at lw_m5 236 rfl) rfl
theorem q1290 : (Jvm.Cond.soleField "RobotCell$Cell" "withdrawnJobs") ∈ lw_all := lw_g (lw_at lw_m5 237 rfl) rfl
theorem q1291 : (Jvm.Cond.lays "RobotCell$Cell" "RobotCell$Cell" "durations" "I") ∈ lw_all := lw_g (lw_at lw_m5 238 rfl) rfl
theorem q1292 : (Jvm.Cond.soleField "RobotCell$Cell" "durations") ∈ lw_all := lw_g (lw_at lw_m5 239 rfl) rfl
theorem q1293 : (Jvm.Cond.superclass "RobotCell$Cell" "java/lang/Object") ∈ lw_all := lw_g (lw_at lw_m6 0 rfl) rfl
theorem q1319 : (Jvm.Cond.instanceMethod ({ cls := "RobotCell$Cell", name := "isSafe", desc := "()Z" } : Jvm.MethodName)) ∈ lw_all := lw_g (lw_at lw_m6 26 rfl) rfl
theorem q1320 : (Jvm.Cond.selects "RobotCell$Cell" ({ cls := "RobotCell$Cell", name := "isSafe", desc := "()Z" } : Jvm.MethodName) ({ cls := "RobotCell$Cell", name := "isSafe", desc := "()Z" } : Jvm.MethodName)) ∈ lw_all := lw_g (lw_at lw_m6 27 rfl) rfl
theorem q1321 : (Jvm.Cond.code ({ cls := "RobotCell$Cell", name := "isSafe", desc := "()Z" } : Jvm.MethodName) prog_3_method_11_code (1 : Nat) (Option.some Jvm.ClassFile.FieldType.boolean)) ∈ lw_all := lw_g (lw_at lw_m6 28 rfl) rfl
theorem q1322 : (Jvm.Cond.methodLink "RobotCell$Cell" (160 : Nat) ({ cls := "RobotCell$Cell", name := "stuck", desc := "(IIILRobotCell$Order;)I" } : Jvm.MethodName)) ∈ lw_all := lw_g (lw_at lw_m6 29 rfl) rfl
theorem q1323 : (Jvm.Cond.privateMethod ({ cls := "RobotCell$Cell", name := "stuck", desc := "(IIILRobotCell$Order;)I" } : Jvm.MethodName)) ∈ lw_tbl := lw_at lw_m6 30 rfl
theorem q1324 : (Jvm.Cond.instanceMethod ({ cls := "RobotCell$Cell", name := "stuck", desc := "(IIILRobotCell$Order;)I" } : Jvm.MethodName)) ∈ lw_all := lw_g (lw_at lw_m6 31 rfl) rfl
theorem q1325 : (Jvm.Cond.code ({ cls := "RobotCell$Cell", name := "stuck", desc := "(IIILRobotCell$Order;)I" } : Jvm.MethodName) prog_3_method_9_code (5 : Nat) (Option.some Jvm.ClassFile.FieldType.int)) ∈ lw_all := lw_g (lw_at lw_m6 32 rfl) rfl
theorem q1326 : (Jvm.Cond.classLink "RobotCell$Cell" (147 : Nat) "RobotCell$Cell$1Finish") ∈ lw_all := lw_g (lw_at lw_m6 33 rfl) rfl
theorem q1328 : (Jvm.Cond.methodLink "RobotCell$Cell" (149 : Nat) ({ cls := "RobotCell$Cell$1Finish", name := "<init>", desc := "(LRobotCell$Cell;IILRobotCell$Order;I)V" } : Jvm.MethodName)) ∈ lw_all := lw_g (lw_at lw_m6 35 rfl) rfl
theorem q1341 : (Jvm.Cond.static ({ cls := "RobotCell$Cell", name := "zonesFrom", desc := "(LRobotCell$Order;I)I" } : Jvm.MethodName)) ∈ lw_all := lw_g (lw_at lw_m6 48 rfl) rfl
theorem q1342 : (Jvm.Cond.code ({ cls := "RobotCell$Cell", name := "zonesFrom", desc := "(LRobotCell$Order;I)I" } : Jvm.MethodName) prog_3_method_10_code (4 : Nat) (Option.some Jvm.ClassFile.FieldType.int)) ∈ lw_all := lw_g (lw_at lw_m6 49 rfl) rfl
theorem q1373 : (Jvm.Cond.methodLink "RobotCell$Cell" (152 : Nat) ({ cls := "RobotCell$Cell$1Finish", name := "finishAll", desc := "()I" } : Jvm.MethodName)) ∈ lw_all := lw_g (lw_at lw_m6 80 rfl) rfl
theorem q1385 : (Jvm.Cond.instanceMethod ({ cls := "RobotCell$Cell", name := "conflicts", desc := "(I)I" } : Jvm.MethodName)) ∈ lw_all := lw_g (lw_at lw_m6 92 rfl) rfl
theorem q1386 : (Jvm.Cond.selects "RobotCell$Cell" ({ cls := "RobotCell$Cell", name := "conflicts", desc := "(I)I" } : Jvm.MethodName) ({ cls := "RobotCell$Cell", name := "conflicts", desc := "(I)I" } : Jvm.MethodName)) ∈ lw_all := lw_g (lw_at lw_m6 93 rfl) rfl
theorem q1387 : (Jvm.Cond.code ({ cls := "RobotCell$Cell", name := "conflicts", desc := "(I)I" } : Jvm.MethodName) prog_3_method_4_code (6 : Nat) (Option.some Jvm.ClassFile.FieldType.int)) ∈ lw_all := lw_g (lw_at lw_m6 94 rfl) rfl
theorem q1388 : (Jvm.Cond.methodLink "RobotCell$Cell" (52 : Nat) ({ cls := "java/util/LinkedHashSet", name := "iterator", desc := "()Ljava/util/Iterator;" } : Jvm.MethodName)) ∈ lw_all := lw_g (lw_at lw_m6 95 rfl) rfl
theorem q1489 : (Jvm.Cond.interfaceEntry "RobotCell$Cell" (56 : Nat)) ∈ lw_tbl := lw_at lw_m6 196 rfl
theorem q1490 : (Jvm.Cond.methodLink "RobotCell$Cell" (56 : Nat) ({ cls := "java/util/Iterator", name := "hasNext", desc := "()Z" } : Jvm.MethodName)) ∈ lw_all := lw_g (lw_at lw_m6 197 rfl) rfl
theorem q1523 : (Jvm.Cond.interfaceEntry "RobotCell$Cell" (62 : Nat)) ∈ lw_tbl := lw_at lw_m6 230 rfl
theorem q1524 : (Jvm.Cond.methodLink "RobotCell$Cell" (62 : Nat) ({ cls := "java/util/Iterator", name := "next", desc := "()Ljava/lang/Object;" } : Jvm.MethodName)) ∈ lw_all := lw_g (lw_at lw_m6 231 rfl) rfl
theorem q1615 : (Jvm.Cond.classLink "RobotCell$Cell" (66 : Nat) "RobotCell$Interlock") ∈ lw_all := lw_g (lw_at lw_m7 82 rfl) rfl
theorem q1616 : (Jvm.Cond.methodLink "RobotCell$Cell" (128 : Nat) ({ cls := "RobotCell$Interlock", name := "partner", desc := "(I)I" } : Jvm.MethodName)) ∈ lw_all := lw_g (lw_at lw_m7 83 rfl) rfl
theorem q1628 : (Jvm.Cond.instanceMethod ({ cls := "RobotCell$Cell", name := "<init>", desc := "(LRobotCell$Cell;)V" } : Jvm.MethodName)) ∈ lw_all := lw_g (lw_at lw_m7 95 rfl) rfl
theorem q1629 : (Jvm.Cond.code ({ cls := "RobotCell$Cell", name := "<init>", desc := "(LRobotCell$Cell;)V" } : Jvm.MethodName) prog_3_method_2_code (5 : Nat) (Option.none : Option Jvm.ClassFile.FieldType)) ∈ lw_all := lw_g (lw_at lw_m7 96 rfl) rfl
theorem q1630 : (Jvm.Cond.methodLink "RobotCell$Cell" (68 : Nat) ({ cls := "java/util/LinkedHashSet", name := "add", desc := "(Ljava/lang/Object;)Z" } : Jvm.MethodName)) ∈ lw_all := lw_g (lw_at lw_m7 97 rfl) rfl
theorem q1652 : (Jvm.Cond.selects "RobotCell$Cell" ({ cls := "java/lang/Object", name := "hashCode", desc := "()I" } : Jvm.MethodName) ({ cls := "java/lang/Object", name := "hashCode", desc := "()I" } : Jvm.MethodName)) ∈ lw_all := lw_g (lw_at lw_m7 119 rfl) rfl
theorem q2063 : (Jvm.Cond.selects "RobotCell$Cell" ({ cls := "java/lang/Object", name := "equals", desc := "(Ljava/lang/Object;)Z" } : Jvm.MethodName) ({ cls := "java/lang/Object", name := "equals", desc := "(Ljava/lang/Object;)Z" } : Jvm.MethodName)) ∈ lw_all := lw_g (lw_at lw_m9 50 rfl) rfl
theorem q2185 : (Jvm.Cond.methodLink "RobotCell$Cell" (72 : Nat) ({ cls := "RobotCell$Buffer", name := "<init>", desc := "(LRobotCell$Buffer;)V" } : Jvm.MethodName)) ∈ lw_all := lw_g (lw_at lw_m9 172 rfl) rfl
theorem q2254 : (Jvm.Cond.methodLink "RobotCell$Cell" (75 : Nat) ({ cls := "java/util/ArrayList", name := "iterator", desc := "()Ljava/util/Iterator;" } : Jvm.MethodName)) ∈ lw_all := lw_g (lw_at lw_m10 1 rfl) rfl
theorem q2277 : (Jvm.Cond.classLink "RobotCell$Cell" (76 : Nat) "RobotCell$Job") ∈ lw_all := lw_g (lw_at lw_m10 24 rfl) rfl
theorem q2279 : (Jvm.Cond.methodLink "RobotCell$Cell" (78 : Nat) ({ cls := "RobotCell$Job", name := "<init>", desc := "(LRobotCell$Job;)V" } : Jvm.MethodName)) ∈ lw_all := lw_g (lw_at lw_m10 26 rfl) rfl
theorem q2309 : (Jvm.Cond.methodLink "RobotCell$Cell" (81 : Nat) ({ cls := "java/util/ArrayList", name := "add", desc := "(Ljava/lang/Object;)Z" } : Jvm.MethodName)) ∈ lw_all := lw_g (lw_at lw_m10 56 rfl) rfl
theorem q2329 : (Jvm.Cond.methodLink "RobotCell$Cell" (82 : Nat) ({ cls := "RobotCell$Cell$Arm", name := "become", desc := "(LRobotCell$Cell$Arm;)V" } : Jvm.MethodName)) ∈ lw_all := lw_g (lw_at lw_m10 76 rfl) rfl
theorem q2352 : (Jvm.Cond.methodLink "RobotCell$Cell" (86 : Nat) ({ cls := "java/util/ArrayDeque", name := "iterator", desc := "()Ljava/util/Iterator;" } : Jvm.MethodName)) ∈ lw_all := lw_g (lw_at lw_m10 99 rfl) rfl
theorem q2353 : (Jvm.Cond.classLink "RobotCell$Cell" (87 : Nat) "RobotCell$Entry") ∈ lw_all := lw_g (lw_at lw_m10 100 rfl) rfl
theorem q2354 : (Jvm.Cond.methodLink "RobotCell$Cell" (89 : Nat) ({ cls := "java/util/ArrayDeque", name := "addLast", desc := "(Ljava/lang/Object;)V" } : Jvm.MethodName)) ∈ lw_all := lw_g (lw_at lw_m10 101 rfl) rfl
theorem q2355 : (Jvm.Cond.methodLink "RobotCell$Cell" (93 : Nat) ({ cls := "java/lang/System", name := "arraycopy", desc := "(Ljava/lang/Object;ILjava/lang/Object;II)V" } : Jvm.MethodName)) ∈ lw_all := lw_g (lw_at lw_m10 102 rfl) rfl
theorem q2541 : (Jvm.Cond.instanceMethod ({ cls := "RobotCell$Cell", name := "newPart", desc := "()I" } : Jvm.MethodName)) ∈ lw_all := lw_g (lw_at lw_m11 48 rfl) rfl
theorem q2542 : (Jvm.Cond.selects "RobotCell$Cell" ({ cls := "RobotCell$Cell", name := "newPart", desc := "()I" } : Jvm.MethodName) ({ cls := "RobotCell$Cell", name := "newPart", desc := "()I" } : Jvm.MethodName)) ∈ lw_all := lw_g (lw_at lw_m11 49 rfl) rfl
theorem q2543 : (Jvm.Cond.code ({ cls := "RobotCell$Cell", name := "newPart", desc := "()I" } : Jvm.MethodName) prog_3_method_5_code (1 : Nat) (Option.some Jvm.ClassFile.FieldType.int)) ∈ lw_all := lw_g (lw_at lw_m11 50 rfl) rfl
theorem q2649 : (Jvm.Cond.fieldLinkNest "RobotCell$Cell" (155 : Nat) "RobotCell$Order" "path" "[I" "RobotCell") ∈ lw_tbl := lw_at lw_m11 156 rfl
theorem q2784 : (Jvm.Cond.instanceMethod ({ cls := "RobotCell$Cell", name := "tick", desc := "()V" } : Jvm.MethodName)) ∈ lw_all := lw_g (lw_at lw_m12 51 rfl) rfl
theorem q2785 : (Jvm.Cond.selects "RobotCell$Cell" ({ cls := "RobotCell$Cell", name := "tick", desc := "()V" } : Jvm.MethodName) ({ cls := "RobotCell$Cell", name := "tick", desc := "()V" } : Jvm.MethodName)) ∈ lw_all := lw_g (lw_at lw_m12 52 rfl) rfl
theorem q2786 : (Jvm.Cond.code ({ cls := "RobotCell$Cell", name := "tick", desc := "()V" } : Jvm.MethodName) prog_3_method_13_code (5 : Nat) (Option.none : Option Jvm.ClassFile.FieldType)) ∈ lw_all := lw_g (lw_at lw_m12 53 rfl) rfl
theorem q2787 : (Jvm.Cond.methodLink "RobotCell$Cell" (172 : Nat) ({ cls := "RobotCell$Cell", name := "acting", desc := "()Ljava/util/Iterator;" } : Jvm.MethodName)) ∈ lw_all := lw_g (lw_at lw_m12 54 rfl) rfl
theorem q2788 : (Jvm.Cond.privateMethod ({ cls := "RobotCell$Cell", name := "acting", desc := "()Ljava/util/Iterator;" } : Jvm.MethodName)) ∈ lw_tbl := lw_at lw_m12 55 rfl
theorem q2789 : (Jvm.Cond.instanceMethod ({ cls := "RobotCell$Cell", name := "acting", desc := "()Ljava/util/Iterator;" } : Jvm.MethodName)) ∈ lw_all := lw_g (lw_at lw_m12 56 rfl) rfl
theorem q2790 : (Jvm.Cond.code ({ cls := "RobotCell$Cell", name := "acting", desc := "()Ljava/util/Iterator;" } : Jvm.MethodName) prog_3_method_12_code (4 : Nat) (Option.some (Jvm.ClassFile.FieldType.object "java/util/Iterator"))) ∈ lw_all := lw_g (lw_at lw_m12 57 rfl) rfl
theorem q2791 : (Jvm.Cond.classLink "RobotCell$Cell" (167 : Nat) "RobotCell$Cell$1") ∈ lw_all := lw_g (lw_at lw_m12 58 rfl) rfl
theorem q2793 : (Jvm.Cond.methodLink "RobotCell$Cell" (169 : Nat) ({ cls := "RobotCell$Cell$1", name := "<init>", desc := "(LRobotCell$Cell;[I)V" } : Jvm.MethodName)) ∈ lw_all := lw_g (lw_at lw_m12 60 rfl) rfl
theorem q2807 : (Jvm.Cond.methodLink "RobotCell$Cell" (175 : Nat) ({ cls := "RobotCell$Cell$Arm", name := "act", desc := "()V" } : Jvm.MethodName)) ∈ lw_all := lw_g (lw_at lw_m12 74 rfl) rfl
theorem q2854 : (Jvm.Cond.instanceMethod ({ cls := "RobotCell$Cell", name := "note", desc := "(III)V" } : Jvm.MethodName)) ∈ lw_all := lw_g (lw_at lw_m12 121 rfl) rfl
theorem q2855 : (Jvm.Cond.selects "RobotCell$Cell" ({ cls := "RobotCell$Cell", name := "note", desc := "(III)V" } : Jvm.MethodName) ({ cls := "RobotCell$Cell", name := "note", desc := "(III)V" } : Jvm.MethodName)) ∈ lw_all := lw_g (lw_at lw_m12 122 rfl) rfl
theorem q2856 : (Jvm.Cond.code ({ cls := "RobotCell$Cell", name := "note", desc := "(III)V" } : Jvm.MethodName) prog_3_method_3_code (5 : Nat) (Option.none : Option Jvm.ClassFile.FieldType)) ∈ lw_all := lw_g (lw_at lw_m12 123 rfl) rfl
theorem q2857 : (Jvm.Cond.methodLink "RobotCell$Cell" (118 : Nat) ({ cls := "java/util/ArrayDeque", name := "size", desc := "()I" } : Jvm.MethodName)) ∈ lw_all := lw_g (lw_at lw_m12 124 rfl) rfl
theorem q2858 : (Jvm.Cond.methodLink "RobotCell$Cell" (122 : Nat) ({ cls := "java/util/ArrayDeque", name := "removeFirst", desc := "()Ljava/lang/Object;" } : Jvm.MethodName)) ∈ lw_all := lw_g (lw_at lw_m12 125 rfl) rfl
theorem q2860 : (Jvm.Cond.methodLink "RobotCell$Cell" (125 : Nat) ({ cls := "RobotCell$Entry", name := "<init>", desc := "(IIII)V" } : Jvm.MethodName)) ∈ lw_all := lw_g (lw_at lw_m12 127 rfl) rfl
theorem q2900 : (Jvm.Cond.methodLink "RobotCell$Cell" (178 : Nat) ({ cls := "RobotCell$Cell$Arm", name := "count", desc := "()V" } : Jvm.MethodName)) ∈ lw_all := lw_g (lw_at lw_m12 167 rfl) rfl
theorem q2936 : (Jvm.Cond.instanceMethod ({ cls := "RobotCell$Cell", name := "isIdle", desc := "()Z" } : Jvm.MethodName)) ∈ lw_all := lw_g (lw_at lw_m12 203 rfl) rfl
theorem q2937 : (Jvm.Cond.selects "RobotCell$Cell" ({ cls := "RobotCell$Cell", name := "isIdle", desc := "()Z" } : Jvm.MethodName) ({ cls := "RobotCell$Cell", name := "isIdle", desc := "()Z" } : Jvm.MethodName)) ∈ lw_all := lw_g (lw_at lw_m12 204 rfl) rfl
theorem q2938 : (Jvm.Cond.code ({ cls := "RobotCell$Cell", name := "isIdle", desc := "()Z" } : Jvm.MethodName) prog_3_method_6_code (6 : Nat) (Option.some Jvm.ClassFile.FieldType.boolean)) ∈ lw_all := lw_g (lw_at lw_m12 205 rfl) rfl
theorem q2939 : (Jvm.Cond.methodLink "RobotCell$Cell" (138 : Nat) ({ cls := "java/util/ArrayDeque", name := "isEmpty", desc := "()Z" } : Jvm.MethodName)) ∈ lw_all := lw_g (lw_at lw_m12 206 rfl) rfl
theorem q2960 : (Jvm.Cond.instanceMethod ({ cls := "RobotCell$Cell", name := "parts", desc := "()I" } : Jvm.MethodName)) ∈ lw_all := lw_g (lw_at lw_m12 227 rfl) rfl
theorem q2961 : (Jvm.Cond.selects "RobotCell$Cell" ({ cls := "RobotCell$Cell", name := "parts", desc := "()I" } : Jvm.MethodName) ({ cls := "RobotCell$Cell", name := "parts", desc := "()I" } : Jvm.MethodName)) ∈ lw_all := lw_g (lw_at lw_m12 228 rfl) rfl
theorem q2962 : (Jvm.Cond.code ({ cls := "RobotCell$Cell", name := "parts", desc := "()I" } : Jvm.MethodName) prog_3_method_7_code (6 : Nat) (Option.some Jvm.ClassFile.FieldType.int)) ∈ lw_all := lw_g (lw_at lw_m12 229 rfl) rfl
theorem q2964 : (Jvm.Cond.instanceMethod ({ cls := "RobotCell$Cell", name := "refusals", desc := "()I" } : Jvm.MethodName)) ∈ lw_all := lw_g (lw_at lw_m12 231 rfl) rfl
theorem q2965 : (Jvm.Cond.selects "RobotCell$Cell" ({ cls := "RobotCell$Cell", name := "refusals", desc := "()I" } : Jvm.MethodName) ({ cls := "RobotCell$Cell", name := "refusals", desc := "()I" } : Jvm.MethodName)) ∈ lw_all := lw_g (lw_at lw_m12 232 rfl) rfl
theorem q2966 : (Jvm.Cond.code ({ cls := "RobotCell$Cell", name := "refusals", desc := "()I" } : Jvm.MethodName) prog_3_method_8_code (6 : Nat) (Option.some Jvm.ClassFile.FieldType.int)) ∈ lw_all := lw_g (lw_at lw_m12 233 rfl) rfl
theorem q3765 : (Jvm.Cond.castable "RobotCell$Cell" "java/lang/Object") ∈ lw_tbl := lw_at lw_m16 72 rfl
theorem in_X2 : ∀ w ∈ wsX20, w ∈ lw_all := lw_in wsX20 [1269, 1271, 1273, 1275, 1277, 1279, 1281, 1283, 1285, 1287, 1289, 1291] (by decide +kernel) (by decide +kernel)
/-! RobotCell$Buffer -/
set_option maxRecDepth 100000
def RX3 : String := "RobotCell$Buffer"
def TX3 : u_T := fun k => match k with
  | 0 => ("RobotCell$Buffer", "parts", "Ljava/util/ArrayDeque;", true)
  | 1 => ("RobotCell$Buffer", "capacity", "I", false)
  | 2 => ("RobotCell$Buffer", "promisedPlaces", "I", false)
  | 3 => ("RobotCell$Buffer", "promisedParts", "I", false)
  | 4 => ("RobotCell$Buffer", "came", "I", false)
  | _ => ("RobotCell$Buffer", "left", "I", false)
def tyX3 : Nat → FieldType := fun k => match k with
  | 0 => .object "java/util/ArrayDeque"
  | 1 => .int
  | 2 => .int
  | 3 => .int
  | 4 => .int
  | _ => .int
abbrev wsX30 : List Cond := u_ws RX3 TX3 6
theorem nmX3 : ∀ a, a < 6 → ∀ b, b < 6 → a ≠ b → (TX3 a).2.1 ≠ (TX3 b).2.1 := by decide +kernel
theorem tyX3_ok : ∀ k, k < 6 → parseFieldDescriptor (TX3 k).2.2.1 = some (tyX3 k) := by decide +kernel
abbrev cX3_init : ByteArray := prog_2_method_1_code
def yX3_init : MethodName := ⟨RX3, "<init>", "()V"⟩
def dkwX3_init_0 : List UInt8 := [42, 183, 0, 1, 42, 187, 0, 7, 89, 183, 0, 9, 181, 0, 10, 42, 5, 181, 0, 16, 177]
abbrev dktX3_init_0 : List UInt8 := dkwX3_init_0 ++ []
theorem dksX3_init_0 : cX3_init.data.toList.drop 0 = dktX3_init_0 := by decide +kernel
theorem dX3_init_0 : decode cX3_init 0 = .ok (.aload_n 0, 1) := dk_42 (dk_at dksX3_init_0 0 rfl rfl)
theorem dX3_init_1 : decode cX3_init 1 = .ok (.invokespecial 1, 3) := dk_183 0 1 (dk_at dksX3_init_0 1 rfl rfl)
theorem dX3_init_4 : decode cX3_init 4 = .ok (.aload_n 0, 1) := dk_42 (dk_at dksX3_init_0 4 rfl rfl)
theorem dX3_init_5 : decode cX3_init 5 = .ok (.new 7, 3) := dk_187 0 7 (dk_at dksX3_init_0 5 rfl rfl)
theorem dX3_init_8 : decode cX3_init 8 = .ok (.dup, 1) := dk_89 (dk_at dksX3_init_0 8 rfl rfl)
theorem dX3_init_9 : decode cX3_init 9 = .ok (.invokespecial 9, 3) := dk_183 0 9 (dk_at dksX3_init_0 9 rfl rfl)
theorem dX3_init_12 : decode cX3_init 12 = .ok (.putfield 10, 3) := dk_181 0 10 (dk_at dksX3_init_0 12 rfl rfl)
theorem dX3_init_15 : decode cX3_init 15 = .ok (.aload_n 0, 1) := dk_42 (dk_at dksX3_init_0 15 rfl rfl)
theorem dX3_init_16 : decode cX3_init 16 = .ok (.iconst 2, 1) := dk_5 (dk_at dksX3_init_0 16 rfl rfl)
theorem dX3_init_17 : decode cX3_init 17 = .ok (.putfield 16, 3) := dk_181 0 16 (dk_at dksX3_init_0 17 rfl rfl)
theorem dX3_init_20 : decode cX3_init 20 = .ok (.return_, 1) := dk_177 (dk_at dksX3_init_0 20 rfl rfl)
abbrev cX3_init_2 : ByteArray := prog_2_method_2_code
def yX3_init_2 : MethodName := ⟨RX3, "<init>", "(LRobotCell$Buffer;)V"⟩
def dkwX3_init_2_4 : List UInt8 := [181, 0, 49, 177]
abbrev dktX3_init_2_4 : List UInt8 := dkwX3_init_2_4 ++ []
def dkwX3_init_2_3 : List UInt8 := [181, 0, 40, 42, 43, 180, 0, 43, 181, 0, 43, 42, 43, 180, 0, 46, 181, 0, 46, 42, 43, 180, 0, 49]
abbrev dktX3_init_2_3 : List UInt8 := dkwX3_init_2_3 ++ dktX3_init_2_4
def dkwX3_init_2_2 : List UInt8 := [192, 0, 34, 182, 0, 36, 167, 255, 231, 42, 43, 180, 0, 16, 181, 0, 16, 42, 43, 180, 0, 40]
abbrev dktX3_init_2_2 : List UInt8 := dkwX3_init_2_2 ++ dktX3_init_2_3
def dkwX3_init_2_1 : List UInt8 := [182, 0, 20, 77, 44, 185, 0, 24, 1, 0, 153, 0, 22, 42, 180, 0, 10, 44, 185, 0, 30, 1, 0]
abbrev dktX3_init_2_1 : List UInt8 := dkwX3_init_2_1 ++ dktX3_init_2_2
def dkwX3_init_2_0 : List UInt8 := [42, 183, 0, 1, 42, 187, 0, 7, 89, 183, 0, 9, 181, 0, 10, 42, 5, 181, 0, 16, 43, 180, 0, 10]
abbrev dktX3_init_2_0 : List UInt8 := dkwX3_init_2_0 ++ dktX3_init_2_1
theorem dksX3_init_2_0 : cX3_init_2.data.toList.drop 0 = dktX3_init_2_0 := by decide +kernel
theorem dksX3_init_2_1 : cX3_init_2.data.toList.drop 24 = dktX3_init_2_1 := dk_seg dksX3_init_2_0 24 rfl rfl
theorem dksX3_init_2_2 : cX3_init_2.data.toList.drop 47 = dktX3_init_2_2 := dk_seg dksX3_init_2_1 23 rfl rfl
theorem dksX3_init_2_3 : cX3_init_2.data.toList.drop 69 = dktX3_init_2_3 := dk_seg dksX3_init_2_2 22 rfl rfl
theorem dksX3_init_2_4 : cX3_init_2.data.toList.drop 93 = dktX3_init_2_4 := dk_seg dksX3_init_2_3 24 rfl rfl
theorem dX3_init_2_0 : decode cX3_init_2 0 = .ok (.aload_n 0, 1) := dk_42 (dk_at dksX3_init_2_0 0 rfl rfl)
theorem dX3_init_2_1 : decode cX3_init_2 1 = .ok (.invokespecial 1, 3) := dk_183 0 1 (dk_at dksX3_init_2_0 1 rfl rfl)
theorem dX3_init_2_4 : decode cX3_init_2 4 = .ok (.aload_n 0, 1) := dk_42 (dk_at dksX3_init_2_0 4 rfl rfl)
theorem dX3_init_2_5 : decode cX3_init_2 5 = .ok (.new 7, 3) := dk_187 0 7 (dk_at dksX3_init_2_0 5 rfl rfl)
theorem dX3_init_2_8 : decode cX3_init_2 8 = .ok (.dup, 1) := dk_89 (dk_at dksX3_init_2_0 8 rfl rfl)
theorem dX3_init_2_9 : decode cX3_init_2 9 = .ok (.invokespecial 9, 3) := dk_183 0 9 (dk_at dksX3_init_2_0 9 rfl rfl)
theorem dX3_init_2_12 : decode cX3_init_2 12 = .ok (.putfield 10, 3) := dk_181 0 10 (dk_at dksX3_init_2_0 12 rfl rfl)
theorem dX3_init_2_15 : decode cX3_init_2 15 = .ok (.aload_n 0, 1) := dk_42 (dk_at dksX3_init_2_0 15 rfl rfl)
theorem dX3_init_2_16 : decode cX3_init_2 16 = .ok (.iconst 2, 1) := dk_5 (dk_at dksX3_init_2_0 16 rfl rfl)
theorem dX3_init_2_17 : decode cX3_init_2 17 = .ok (.putfield 16, 3) := dk_181 0 16 (dk_at dksX3_init_2_0 17 rfl rfl)
theorem dX3_init_2_20 : decode cX3_init_2 20 = .ok (.aload_n 1, 1) := dk_43 (dk_at dksX3_init_2_0 20 rfl rfl)
theorem dX3_init_2_21 : decode cX3_init_2 21 = .ok (.getfield 10, 3) := dk_180 0 10 (dk_at dksX3_init_2_0 21 rfl rfl)
theorem dX3_init_2_24 : decode cX3_init_2 24 = .ok (.invokevirtual 20, 3) := dk_182 0 20 (dk_at dksX3_init_2_1 0 rfl rfl)
theorem dX3_init_2_27 : decode cX3_init_2 27 = .ok (.astore_n 2, 1) := dk_77 (dk_at dksX3_init_2_1 3 rfl rfl)
theorem dX3_init_2_28 : decode cX3_init_2 28 = .ok (.aload_n 2, 1) := dk_44 (dk_at dksX3_init_2_1 4 rfl rfl)
theorem dX3_init_2_29 : decode cX3_init_2 29 = .ok (.invokeinterface 24 1, 5) := by decide +kernel
theorem dX3_init_2_34 : decode cX3_init_2 34 = .ok (.ifCond .eq 22, 3) := dk_153 0 22 (dk_at dksX3_init_2_1 10 rfl rfl)
theorem dX3_init_2_37 : decode cX3_init_2 37 = .ok (.aload_n 0, 1) := dk_42 (dk_at dksX3_init_2_1 13 rfl rfl)
theorem dX3_init_2_38 : decode cX3_init_2 38 = .ok (.getfield 10, 3) := dk_180 0 10 (dk_at dksX3_init_2_1 14 rfl rfl)
theorem dX3_init_2_41 : decode cX3_init_2 41 = .ok (.aload_n 2, 1) := dk_44 (dk_at dksX3_init_2_1 17 rfl rfl)
theorem dX3_init_2_42 : decode cX3_init_2 42 = .ok (.invokeinterface 30 1, 5) := by decide +kernel
theorem dX3_init_2_47 : decode cX3_init_2 47 = .ok (.checkcast 34, 3) := dk_192 0 34 (dk_at dksX3_init_2_2 0 rfl rfl)
theorem dX3_init_2_50 : decode cX3_init_2 50 = .ok (.invokevirtual 36, 3) := dk_182 0 36 (dk_at dksX3_init_2_2 3 rfl rfl)
theorem dX3_init_2_53 : decode cX3_init_2 53 = .ok (.goto (-25), 3) := dk_167 255 231 (dk_at dksX3_init_2_2 6 rfl rfl)
theorem dX3_init_2_56 : decode cX3_init_2 56 = .ok (.aload_n 0, 1) := dk_42 (dk_at dksX3_init_2_2 9 rfl rfl)
theorem dX3_init_2_57 : decode cX3_init_2 57 = .ok (.aload_n 1, 1) := dk_43 (dk_at dksX3_init_2_2 10 rfl rfl)
theorem dX3_init_2_58 : decode cX3_init_2 58 = .ok (.getfield 16, 3) := dk_180 0 16 (dk_at dksX3_init_2_2 11 rfl rfl)
theorem dX3_init_2_61 : decode cX3_init_2 61 = .ok (.putfield 16, 3) := dk_181 0 16 (dk_at dksX3_init_2_2 14 rfl rfl)
theorem dX3_init_2_64 : decode cX3_init_2 64 = .ok (.aload_n 0, 1) := dk_42 (dk_at dksX3_init_2_2 17 rfl rfl)
theorem dX3_init_2_65 : decode cX3_init_2 65 = .ok (.aload_n 1, 1) := dk_43 (dk_at dksX3_init_2_2 18 rfl rfl)
theorem dX3_init_2_66 : decode cX3_init_2 66 = .ok (.getfield 40, 3) := dk_180 0 40 (dk_at dksX3_init_2_2 19 rfl rfl)
theorem dX3_init_2_69 : decode cX3_init_2 69 = .ok (.putfield 40, 3) := dk_181 0 40 (dk_at dksX3_init_2_3 0 rfl rfl)
theorem dX3_init_2_72 : decode cX3_init_2 72 = .ok (.aload_n 0, 1) := dk_42 (dk_at dksX3_init_2_3 3 rfl rfl)
theorem dX3_init_2_73 : decode cX3_init_2 73 = .ok (.aload_n 1, 1) := dk_43 (dk_at dksX3_init_2_3 4 rfl rfl)
theorem dX3_init_2_74 : decode cX3_init_2 74 = .ok (.getfield 43, 3) := dk_180 0 43 (dk_at dksX3_init_2_3 5 rfl rfl)
theorem dX3_init_2_77 : decode cX3_init_2 77 = .ok (.putfield 43, 3) := dk_181 0 43 (dk_at dksX3_init_2_3 8 rfl rfl)
theorem dX3_init_2_80 : decode cX3_init_2 80 = .ok (.aload_n 0, 1) := dk_42 (dk_at dksX3_init_2_3 11 rfl rfl)
theorem dX3_init_2_81 : decode cX3_init_2 81 = .ok (.aload_n 1, 1) := dk_43 (dk_at dksX3_init_2_3 12 rfl rfl)
theorem dX3_init_2_82 : decode cX3_init_2 82 = .ok (.getfield 46, 3) := dk_180 0 46 (dk_at dksX3_init_2_3 13 rfl rfl)
theorem dX3_init_2_85 : decode cX3_init_2 85 = .ok (.putfield 46, 3) := dk_181 0 46 (dk_at dksX3_init_2_3 16 rfl rfl)
theorem dX3_init_2_88 : decode cX3_init_2 88 = .ok (.aload_n 0, 1) := dk_42 (dk_at dksX3_init_2_3 19 rfl rfl)
theorem dX3_init_2_89 : decode cX3_init_2 89 = .ok (.aload_n 1, 1) := dk_43 (dk_at dksX3_init_2_3 20 rfl rfl)
theorem dX3_init_2_90 : decode cX3_init_2 90 = .ok (.getfield 49, 3) := dk_180 0 49 (dk_at dksX3_init_2_3 21 rfl rfl)
theorem dX3_init_2_93 : decode cX3_init_2 93 = .ok (.putfield 49, 3) := dk_181 0 49 (dk_at dksX3_init_2_4 0 rfl rfl)
theorem dX3_init_2_96 : decode cX3_init_2 96 = .ok (.return_, 1) := dk_177 (dk_at dksX3_init_2_4 3 rfl rfl)
abbrev cX3_hasRoom : ByteArray := prog_2_method_3_code
def yX3_hasRoom : MethodName := ⟨RX3, "hasRoom", "()Z"⟩
def dkwX3_hasRoom_1 : List UInt8 := [172]
abbrev dktX3_hasRoom_1 : List UInt8 := dkwX3_hasRoom_1 ++ []
def dkwX3_hasRoom_0 : List UInt8 := [42, 180, 0, 10, 182, 0, 52, 42, 180, 0, 40, 96, 42, 180, 0, 16, 162, 0, 7, 4, 167, 0, 4, 3]
abbrev dktX3_hasRoom_0 : List UInt8 := dkwX3_hasRoom_0 ++ dktX3_hasRoom_1
theorem dksX3_hasRoom_0 : cX3_hasRoom.data.toList.drop 0 = dktX3_hasRoom_0 := by decide +kernel
theorem dksX3_hasRoom_1 : cX3_hasRoom.data.toList.drop 24 = dktX3_hasRoom_1 := dk_seg dksX3_hasRoom_0 24 rfl rfl
theorem dX3_hasRoom_0 : decode cX3_hasRoom 0 = .ok (.aload_n 0, 1) := dk_42 (dk_at dksX3_hasRoom_0 0 rfl rfl)
theorem dX3_hasRoom_1 : decode cX3_hasRoom 1 = .ok (.getfield 10, 3) := dk_180 0 10 (dk_at dksX3_hasRoom_0 1 rfl rfl)
theorem dX3_hasRoom_4 : decode cX3_hasRoom 4 = .ok (.invokevirtual 52, 3) := dk_182 0 52 (dk_at dksX3_hasRoom_0 4 rfl rfl)
theorem dX3_hasRoom_7 : decode cX3_hasRoom 7 = .ok (.aload_n 0, 1) := dk_42 (dk_at dksX3_hasRoom_0 7 rfl rfl)
theorem dX3_hasRoom_8 : decode cX3_hasRoom 8 = .ok (.getfield 40, 3) := dk_180 0 40 (dk_at dksX3_hasRoom_0 8 rfl rfl)
theorem dX3_hasRoom_11 : decode cX3_hasRoom 11 = .ok (.iadd, 1) := dk_96 (dk_at dksX3_hasRoom_0 11 rfl rfl)
theorem dX3_hasRoom_12 : decode cX3_hasRoom 12 = .ok (.aload_n 0, 1) := dk_42 (dk_at dksX3_hasRoom_0 12 rfl rfl)
theorem dX3_hasRoom_13 : decode cX3_hasRoom 13 = .ok (.getfield 16, 3) := dk_180 0 16 (dk_at dksX3_hasRoom_0 13 rfl rfl)
theorem dX3_hasRoom_16 : decode cX3_hasRoom 16 = .ok (.if_icmp .ge 7, 3) := dk_162 0 7 (dk_at dksX3_hasRoom_0 16 rfl rfl)
theorem dX3_hasRoom_19 : decode cX3_hasRoom 19 = .ok (.iconst 1, 1) := dk_4 (dk_at dksX3_hasRoom_0 19 rfl rfl)
theorem dX3_hasRoom_20 : decode cX3_hasRoom 20 = .ok (.goto 4, 3) := dk_167 0 4 (dk_at dksX3_hasRoom_0 20 rfl rfl)
theorem dX3_hasRoom_23 : decode cX3_hasRoom 23 = .ok (.iconst 0, 1) := dk_3 (dk_at dksX3_hasRoom_0 23 rfl rfl)
theorem dX3_hasRoom_24 : decode cX3_hasRoom 24 = .ok (.ireturn, 1) := dk_172 (dk_at dksX3_hasRoom_1 0 rfl rfl)
abbrev cX3_put : ByteArray := prog_2_method_5_code
def yX3_put : MethodName := ⟨RX3, "put", "(I)V"⟩
def dkwX3_put_0 : List UInt8 := [42, 180, 0, 10, 27, 184, 0, 56, 182, 0, 36, 42, 89, 180, 0, 46, 4, 96, 181, 0, 46, 177]
abbrev dktX3_put_0 : List UInt8 := dkwX3_put_0 ++ []
theorem dksX3_put_0 : cX3_put.data.toList.drop 0 = dktX3_put_0 := by decide +kernel
theorem dX3_put_0 : decode cX3_put 0 = .ok (.aload_n 0, 1) := dk_42 (dk_at dksX3_put_0 0 rfl rfl)
theorem dX3_put_1 : decode cX3_put 1 = .ok (.getfield 10, 3) := dk_180 0 10 (dk_at dksX3_put_0 1 rfl rfl)
theorem dX3_put_4 : decode cX3_put 4 = .ok (.iload_n 1, 1) := dk_27 (dk_at dksX3_put_0 4 rfl rfl)
theorem dX3_put_5 : decode cX3_put 5 = .ok (.invokestatic 56, 3) := dk_184 0 56 (dk_at dksX3_put_0 5 rfl rfl)
theorem dX3_put_8 : decode cX3_put 8 = .ok (.invokevirtual 36, 3) := dk_182 0 36 (dk_at dksX3_put_0 8 rfl rfl)
theorem dX3_put_11 : decode cX3_put 11 = .ok (.aload_n 0, 1) := dk_42 (dk_at dksX3_put_0 11 rfl rfl)
theorem dX3_put_12 : decode cX3_put 12 = .ok (.dup, 1) := dk_89 (dk_at dksX3_put_0 12 rfl rfl)
theorem dX3_put_13 : decode cX3_put 13 = .ok (.getfield 46, 3) := dk_180 0 46 (dk_at dksX3_put_0 13 rfl rfl)
theorem dX3_put_16 : decode cX3_put 16 = .ok (.iconst 1, 1) := dk_4 (dk_at dksX3_put_0 16 rfl rfl)
theorem dX3_put_17 : decode cX3_put 17 = .ok (.iadd, 1) := dk_96 (dk_at dksX3_put_0 17 rfl rfl)
theorem dX3_put_18 : decode cX3_put 18 = .ok (.putfield 46, 3) := dk_181 0 46 (dk_at dksX3_put_0 18 rfl rfl)
theorem dX3_put_21 : decode cX3_put 21 = .ok (.return_, 1) := dk_177 (dk_at dksX3_put_0 21 rfl rfl)
abbrev cX3_number : ByteArray := prog_2_method_7_code
def yX3_number : MethodName := ⟨RX3, "number", "(I)I"⟩
def dkwX3_number_3 : List UInt8 := [180, 0, 46, 172, 42, 180, 0, 49, 172]
abbrev dktX3_number_3 : List UInt8 := dkwX3_number_3 ++ []
def dkwX3_number_2 : List UInt8 := [42, 180, 0, 16, 172, 42, 180, 0, 10, 182, 0, 52, 172, 42, 180, 0, 40, 172, 42, 180, 0, 43, 172, 42]
abbrev dktX3_number_2 : List UInt8 := dkwX3_number_2 ++ dktX3_number_3
def dkwX3_number_1 : List UInt8 := [170, 0, 0, 0, 0, 0, 63, 0, 0, 0, 0, 0, 0, 0, 4, 0, 0, 0, 35, 0, 0, 0, 40, 0, 0, 0, 48, 0, 0, 0, 53, 0, 0, 0, 58]
abbrev dktX3_number_1 : List UInt8 := dkwX3_number_1 ++ dktX3_number_2
def dkwX3_number_0 : List UInt8 := [27]
abbrev dktX3_number_0 : List UInt8 := dkwX3_number_0 ++ dktX3_number_1
theorem dksX3_number_0 : cX3_number.data.toList.drop 0 = dktX3_number_0 := by decide +kernel
theorem dksX3_number_1 : cX3_number.data.toList.drop 1 = dktX3_number_1 := dk_seg dksX3_number_0 1 rfl rfl
theorem dksX3_number_2 : cX3_number.data.toList.drop 36 = dktX3_number_2 := dk_seg dksX3_number_1 35 rfl rfl
theorem dksX3_number_3 : cX3_number.data.toList.drop 60 = dktX3_number_3 := dk_seg dksX3_number_2 24 rfl rfl
theorem dX3_number_0 : decode cX3_number 0 = .ok (.iload_n 1, 1) := dk_27 (dk_at dksX3_number_0 0 rfl rfl)
theorem dX3_number_1 : decode cX3_number 1 = .ok (.tableswitch 63 0 4 #[35, 40, 48, 53, 58], 35) := by decide +kernel
theorem dX3_number_36 : decode cX3_number 36 = .ok (.aload_n 0, 1) := dk_42 (dk_at dksX3_number_2 0 rfl rfl)
theorem dX3_number_37 : decode cX3_number 37 = .ok (.getfield 16, 3) := dk_180 0 16 (dk_at dksX3_number_2 1 rfl rfl)
theorem dX3_number_40 : decode cX3_number 40 = .ok (.ireturn, 1) := dk_172 (dk_at dksX3_number_2 4 rfl rfl)
theorem dX3_number_41 : decode cX3_number 41 = .ok (.aload_n 0, 1) := dk_42 (dk_at dksX3_number_2 5 rfl rfl)
theorem dX3_number_42 : decode cX3_number 42 = .ok (.getfield 10, 3) := dk_180 0 10 (dk_at dksX3_number_2 6 rfl rfl)
theorem dX3_number_45 : decode cX3_number 45 = .ok (.invokevirtual 52, 3) := dk_182 0 52 (dk_at dksX3_number_2 9 rfl rfl)
theorem dX3_number_48 : decode cX3_number 48 = .ok (.ireturn, 1) := dk_172 (dk_at dksX3_number_2 12 rfl rfl)
theorem dX3_number_49 : decode cX3_number 49 = .ok (.aload_n 0, 1) := dk_42 (dk_at dksX3_number_2 13 rfl rfl)
theorem dX3_number_50 : decode cX3_number 50 = .ok (.getfield 40, 3) := dk_180 0 40 (dk_at dksX3_number_2 14 rfl rfl)
theorem dX3_number_53 : decode cX3_number 53 = .ok (.ireturn, 1) := dk_172 (dk_at dksX3_number_2 17 rfl rfl)
theorem dX3_number_54 : decode cX3_number 54 = .ok (.aload_n 0, 1) := dk_42 (dk_at dksX3_number_2 18 rfl rfl)
theorem dX3_number_55 : decode cX3_number 55 = .ok (.getfield 43, 3) := dk_180 0 43 (dk_at dksX3_number_2 19 rfl rfl)
theorem dX3_number_58 : decode cX3_number 58 = .ok (.ireturn, 1) := dk_172 (dk_at dksX3_number_2 22 rfl rfl)
theorem dX3_number_59 : decode cX3_number 59 = .ok (.aload_n 0, 1) := dk_42 (dk_at dksX3_number_2 23 rfl rfl)
theorem dX3_number_60 : decode cX3_number 60 = .ok (.getfield 46, 3) := dk_180 0 46 (dk_at dksX3_number_3 0 rfl rfl)
theorem dX3_number_63 : decode cX3_number 63 = .ok (.ireturn, 1) := dk_172 (dk_at dksX3_number_3 3 rfl rfl)
theorem dX3_number_64 : decode cX3_number 64 = .ok (.aload_n 0, 1) := dk_42 (dk_at dksX3_number_3 4 rfl rfl)
theorem dX3_number_65 : decode cX3_number 65 = .ok (.getfield 49, 3) := dk_180 0 49 (dk_at dksX3_number_3 5 rfl rfl)
theorem dX3_number_68 : decode cX3_number 68 = .ok (.ireturn, 1) := dk_172 (dk_at dksX3_number_3 8 rfl rfl)
abbrev cX3_hasPart : ByteArray := prog_2_method_4_code
def yX3_hasPart : MethodName := ⟨RX3, "hasPart", "()Z"⟩
def dkwX3_hasPart_0 : List UInt8 := [42, 180, 0, 10, 182, 0, 52, 42, 180, 0, 43, 164, 0, 7, 4, 167, 0, 4, 3, 172]
abbrev dktX3_hasPart_0 : List UInt8 := dkwX3_hasPart_0 ++ []
theorem dksX3_hasPart_0 : cX3_hasPart.data.toList.drop 0 = dktX3_hasPart_0 := by decide +kernel
theorem dX3_hasPart_0 : decode cX3_hasPart 0 = .ok (.aload_n 0, 1) := dk_42 (dk_at dksX3_hasPart_0 0 rfl rfl)
theorem dX3_hasPart_1 : decode cX3_hasPart 1 = .ok (.getfield 10, 3) := dk_180 0 10 (dk_at dksX3_hasPart_0 1 rfl rfl)
theorem dX3_hasPart_4 : decode cX3_hasPart 4 = .ok (.invokevirtual 52, 3) := dk_182 0 52 (dk_at dksX3_hasPart_0 4 rfl rfl)
theorem dX3_hasPart_7 : decode cX3_hasPart 7 = .ok (.aload_n 0, 1) := dk_42 (dk_at dksX3_hasPart_0 7 rfl rfl)
theorem dX3_hasPart_8 : decode cX3_hasPart 8 = .ok (.getfield 43, 3) := dk_180 0 43 (dk_at dksX3_hasPart_0 8 rfl rfl)
theorem dX3_hasPart_11 : decode cX3_hasPart 11 = .ok (.if_icmp .le 7, 3) := dk_164 0 7 (dk_at dksX3_hasPart_0 11 rfl rfl)
theorem dX3_hasPart_14 : decode cX3_hasPart 14 = .ok (.iconst 1, 1) := dk_4 (dk_at dksX3_hasPart_0 14 rfl rfl)
theorem dX3_hasPart_15 : decode cX3_hasPart 15 = .ok (.goto 4, 3) := dk_167 0 4 (dk_at dksX3_hasPart_0 15 rfl rfl)
theorem dX3_hasPart_18 : decode cX3_hasPart 18 = .ok (.iconst 0, 1) := dk_3 (dk_at dksX3_hasPart_0 18 rfl rfl)
theorem dX3_hasPart_19 : decode cX3_hasPart 19 = .ok (.ireturn, 1) := dk_172 (dk_at dksX3_hasPart_0 19 rfl rfl)
abbrev cX3_take : ByteArray := prog_2_method_6_code
def yX3_take : MethodName := ⟨RX3, "take", "()I"⟩
def dkwX3_take_0 : List UInt8 := [42, 89, 180, 0, 49, 4, 96, 181, 0, 49, 42, 180, 0, 10, 182, 0, 60, 192, 0, 34, 182, 0, 63, 172]
abbrev dktX3_take_0 : List UInt8 := dkwX3_take_0 ++ []
theorem dksX3_take_0 : cX3_take.data.toList.drop 0 = dktX3_take_0 := by decide +kernel
theorem dX3_take_0 : decode cX3_take 0 = .ok (.aload_n 0, 1) := dk_42 (dk_at dksX3_take_0 0 rfl rfl)
theorem dX3_take_1 : decode cX3_take 1 = .ok (.dup, 1) := dk_89 (dk_at dksX3_take_0 1 rfl rfl)
theorem dX3_take_2 : decode cX3_take 2 = .ok (.getfield 49, 3) := dk_180 0 49 (dk_at dksX3_take_0 2 rfl rfl)
theorem dX3_take_5 : decode cX3_take 5 = .ok (.iconst 1, 1) := dk_4 (dk_at dksX3_take_0 5 rfl rfl)
theorem dX3_take_6 : decode cX3_take 6 = .ok (.iadd, 1) := dk_96 (dk_at dksX3_take_0 6 rfl rfl)
theorem dX3_take_7 : decode cX3_take 7 = .ok (.putfield 49, 3) := dk_181 0 49 (dk_at dksX3_take_0 7 rfl rfl)
theorem dX3_take_10 : decode cX3_take 10 = .ok (.aload_n 0, 1) := dk_42 (dk_at dksX3_take_0 10 rfl rfl)
theorem dX3_take_11 : decode cX3_take 11 = .ok (.getfield 10, 3) := dk_180 0 10 (dk_at dksX3_take_0 11 rfl rfl)
theorem dX3_take_14 : decode cX3_take 14 = .ok (.invokevirtual 60, 3) := dk_182 0 60 (dk_at dksX3_take_0 14 rfl rfl)
theorem dX3_take_17 : decode cX3_take 17 = .ok (.checkcast 34, 3) := dk_192 0 34 (dk_at dksX3_take_0 17 rfl rfl)
theorem dX3_take_20 : decode cX3_take 20 = .ok (.invokevirtual 63, 3) := dk_182 0 63 (dk_at dksX3_take_0 20 rfl rfl)
theorem dX3_take_23 : decode cX3_take 23 = .ok (.ireturn, 1) := dk_172 (dk_at dksX3_take_0 23 rfl rfl)
theorem q129 : (Jvm.Cond.initialized "RobotCell$Buffer") ∈ lw_all := lw_g (lw_at lw_m1 36 rfl) rfl
theorem q859 : (Jvm.Cond.selects "RobotCell$Buffer" ({ cls := "java/lang/Object", name := "toString", desc := "()Ljava/lang/String;" } : Jvm.MethodName) ({ cls := "java/lang/Object", name := "toString", desc := "()Ljava/lang/String;" } : Jvm.MethodName)) ∈ lw_all := lw_g (lw_at lw_m4 46 rfl) rfl
theorem q879 : (Jvm.Cond.selects "RobotCell$Buffer" ({ cls := "java/lang/Object", name := "getClass", desc := "()Ljava/lang/Class;" } : Jvm.MethodName) ({ cls := "java/lang/Object", name := "getClass", desc := "()Ljava/lang/Class;" } : Jvm.MethodName)) ∈ lw_all := lw_g (lw_at lw_m4 66 rfl) rfl
theorem q1138 : (Jvm.Cond.instantiable "RobotCell$Buffer" (6 : Nat)) ∈ lw_all := lw_g (lw_at lw_m5 85 rfl) rfl
theorem q1140 : (Jvm.Cond.instanceMethod ({ cls := "RobotCell$Buffer", name := "<init>", desc := "()V" } : Jvm.MethodName)) ∈ lw_all := lw_g (lw_at lw_m5 87 rfl) rfl
theorem q1141 : (Jvm.Cond.code ({ cls := "RobotCell$Buffer", name := "<init>", desc := "()V" } : Jvm.MethodName) prog_2_method_1_code (1 : Nat) (Option.none : Option Jvm.ClassFile.FieldType)) ∈ lw_all := lw_g (lw_at lw_m5 88 rfl) rfl
theorem q1142 : (Jvm.Cond.methodLink "RobotCell$Buffer" (1 : Nat) ({ cls := "java/lang/Object", name := "<init>", desc := "()V" } : Jvm.MethodName)) ∈ lw_all := lw_g (lw_at lw_m5 89 rfl) rfl
theorem q1143 : (Jvm.Cond.classLink "RobotCell$Buffer" (7 : Nat) "java/util/ArrayDeque") ∈ lw_all := lw_g (lw_at lw_m5 90 rfl) rfl
theorem q1144 : (Jvm.Cond.methodLink "RobotCell$Buffer" (9 : Nat) ({ cls := "java/util/ArrayDeque", name := "<init>", desc := "()V" } : Jvm.MethodName)) ∈ lw_all := lw_g (lw_at lw_m5 91 rfl) rfl
theorem q1145 : (Jvm.Cond.fieldLink "RobotCell$Buffer" (10 : Nat) "RobotCell$Buffer" "parts" "Ljava/util/ArrayDeque;") ∈ lw_all := lw_g (lw_at lw_m5 92 rfl) rfl
theorem q1148 : (Jvm.Cond.fieldLink "RobotCell$Buffer" (16 : Nat) "RobotCell$Buffer" "capacity" "I") ∈ lw_all := lw_g (lw_at lw_m5 95 rfl) rfl
theorem q1150 : (Jvm.Cond.fieldLink "RobotCell$Buffer" (40 : Nat) "RobotCell$Buffer" "promisedPlaces" "I") ∈ lw_all := lw_g (lw_at lw_m5 97 rfl) rfl
theorem q1153 : (Jvm.Cond.fieldLink "RobotCell$Buffer" (43 : Nat) "RobotCell$Buffer" "promisedParts" "I") ∈ lw_all := lw_g (lw_at lw_m5 100 rfl) rfl
theorem q1155 : (Jvm.Cond.fieldLink "RobotCell$Buffer" (46 : Nat) "RobotCell$Buffer" "came" "I") ∈ lw_all := lw_g (lw_at lw_m5 102 rfl) rfl
theorem q1156 : (Jvm.Cond.fieldLink "RobotCell$Buffer" (49 : Nat) "RobotCell$Buffer" "left" "I") ∈ lw_all := lw_g (lw_at lw_m5 103 rfl) rfl
theorem q1157 : (Jvm.Cond.laysFinal "RobotCell$Buffer" "RobotCell$Buffer" "parts" "Ljava/util/ArrayDeque;") ∈ lw_all := lw_g (lw_at lw_m5 104 rfl) rfl
theorem q1158 : (Jvm.Cond.soleField "RobotCell$Buffer" "parts") ∈ lw_all := lw_g (lw_at lw_m5 105 rfl) rfl
theorem q1159 : (Jvm.Cond.lays "RobotCell$Buffer" "RobotCell$Buffer" "capacity" "I") ∈ lw_all := lw_g (lw_at lw_m5 106 rfl) rfl
theorem q1160 : (Jvm.Cond.soleField "RobotCell$Buffer" "capacity") ∈ lw_all := lw_g (lw_at lw_m5 107 rfl) rfl
theorem q1161 : (Jvm.Cond.lays "RobotCell$Buffer" "RobotCell$Buffer" "promisedPlaces" "I") ∈ lw_all := lw_g (lw_at lw_m5 108 rfl) rfl
theorem q1162 : (Jvm.Cond.soleField "RobotCell$Buffer" "promisedPlaces") ∈ lw_all := lw_g (lw_at lw_m5 109 rfl) rfl
theorem q1163 : (Jvm.Cond.lays "RobotCell$Buffer" "RobotCell$Buffer" "promisedParts" "I") ∈ lw_all := lw_g (lw_at lw_m5 110 rfl) rfl
theorem q1164 : (Jvm.Cond.soleField "RobotCell$Buffer" "promisedParts") ∈ lw_all := lw_g (lw_at lw_m5 111 rfl) rfl
theorem q1165 : (Jvm.Cond.lays "RobotCell$Buffer" "RobotCell$Buffer" "came" "I") ∈ lw_all := lw_g (lw_at lw_m5 112 rfl) rfl
theorem q1166 : (Jvm.Cond.soleField "RobotCell$Buffer" "came") ∈ lw_all := lw_g (lw_at lw_m5 113 rfl) rfl
theorem q1167 : (Jvm.Cond.lays "RobotCell$Buffer" "RobotCell$Buffer" "left" "I") ∈ lw_all := lw_g (lw_at lw_m5 114 rfl) rfl
theorem q1168 : (Jvm.Cond.soleField "RobotCell$Buffer" "left") ∈ lw_all := lw_g (lw_at lw_m5 115 rfl) rfl
theorem q1169 : (Jvm.Cond.superclass "RobotCell$Buffer" "java/lang/Object") ∈ lw_all := lw_g (lw_at lw_m5 116 rfl) rfl
theorem q1651 : (Jvm.Cond.selects "RobotCell$Buffer" ({ cls := "java/lang/Object", name := "hashCode", desc := "()I" } : Jvm.MethodName) ({ cls := "java/lang/Object", name := "hashCode", desc := "()I" } : Jvm.MethodName)) ∈ lw_all := lw_g (lw_at lw_m7 118 rfl) rfl
theorem q2062 : (Jvm.Cond.selects "RobotCell$Buffer" ({ cls := "java/lang/Object", name := "equals", desc := "(Ljava/lang/Object;)Z" } : Jvm.MethodName) ({ cls := "java/lang/Object", name := "equals", desc := "(Ljava/lang/Object;)Z" } : Jvm.MethodName)) ∈ lw_all := lw_g (lw_at lw_m9 49 rfl) rfl
theorem q2186 : (Jvm.Cond.instanceMethod ({ cls := "RobotCell$Buffer", name := "<init>", desc := "(LRobotCell$Buffer;)V" } : Jvm.MethodName)) ∈ lw_all := lw_g (lw_at lw_m9 173 rfl) rfl
theorem q2187 : (Jvm.Cond.code ({ cls := "RobotCell$Buffer", name := "<init>", desc := "(LRobotCell$Buffer;)V" } : Jvm.MethodName) prog_2_method_2_code (3 : Nat) (Option.none : Option Jvm.ClassFile.FieldType)) ∈ lw_all := lw_g (lw_at lw_m9 174 rfl) rfl
theorem q2188 : (Jvm.Cond.methodLink "RobotCell$Buffer" (20 : Nat) ({ cls := "java/util/ArrayDeque", name := "iterator", desc := "()Ljava/util/Iterator;" } : Jvm.MethodName)) ∈ lw_all := lw_g (lw_at lw_m9 175 rfl) rfl
theorem q2218 : (Jvm.Cond.interfaceEntry "RobotCell$Buffer" (24 : Nat)) ∈ lw_tbl := lw_at lw_m9 205 rfl
theorem q2219 : (Jvm.Cond.methodLink "RobotCell$Buffer" (24 : Nat) ({ cls := "java/util/Iterator", name := "hasNext", desc := "()Z" } : Jvm.MethodName)) ∈ lw_all := lw_g (lw_at lw_m9 206 rfl) rfl
theorem q2220 : (Jvm.Cond.interfaceEntry "RobotCell$Buffer" (30 : Nat)) ∈ lw_tbl := lw_at lw_m9 207 rfl
theorem q2221 : (Jvm.Cond.methodLink "RobotCell$Buffer" (30 : Nat) ({ cls := "java/util/Iterator", name := "next", desc := "()Ljava/lang/Object;" } : Jvm.MethodName)) ∈ lw_all := lw_g (lw_at lw_m9 208 rfl) rfl
theorem q2222 : (Jvm.Cond.classLink "RobotCell$Buffer" (34 : Nat) "java/lang/Integer") ∈ lw_all := lw_g (lw_at lw_m9 209 rfl) rfl
theorem q2223 : (Jvm.Cond.methodLink "RobotCell$Buffer" (36 : Nat) ({ cls := "java/util/ArrayDeque", name := "addLast", desc := "(Ljava/lang/Object;)V" } : Jvm.MethodName)) ∈ lw_all := lw_g (lw_at lw_m9 210 rfl) rfl
theorem q2536 : (Jvm.Cond.instanceMethod ({ cls := "RobotCell$Buffer", name := "hasRoom", desc := "()Z" } : Jvm.MethodName)) ∈ lw_all := lw_g (lw_at lw_m11 43 rfl) rfl
theorem q2537 : (Jvm.Cond.selects "RobotCell$Buffer" ({ cls := "RobotCell$Buffer", name := "hasRoom", desc := "()Z" } : Jvm.MethodName) ({ cls := "RobotCell$Buffer", name := "hasRoom", desc := "()Z" } : Jvm.MethodName)) ∈ lw_all := lw_g (lw_at lw_m11 44 rfl) rfl
theorem q2538 : (Jvm.Cond.code ({ cls := "RobotCell$Buffer", name := "hasRoom", desc := "()Z" } : Jvm.MethodName) prog_2_method_3_code (1 : Nat) (Option.some Jvm.ClassFile.FieldType.boolean)) ∈ lw_all := lw_g (lw_at lw_m11 45 rfl) rfl
theorem q2539 : (Jvm.Cond.methodLink "RobotCell$Buffer" (52 : Nat) ({ cls := "java/util/ArrayDeque", name := "size", desc := "()I" } : Jvm.MethodName)) ∈ lw_all := lw_g (lw_at lw_m11 46 rfl) rfl
theorem q2545 : (Jvm.Cond.instanceMethod ({ cls := "RobotCell$Buffer", name := "put", desc := "(I)V" } : Jvm.MethodName)) ∈ lw_all := lw_g (lw_at lw_m11 52 rfl) rfl
theorem q2546 : (Jvm.Cond.selects "RobotCell$Buffer" ({ cls := "RobotCell$Buffer", name := "put", desc := "(I)V" } : Jvm.MethodName) ({ cls := "RobotCell$Buffer", name := "put", desc := "(I)V" } : Jvm.MethodName)) ∈ lw_all := lw_g (lw_at lw_m11 53 rfl) rfl
theorem q2547 : (Jvm.Cond.code ({ cls := "RobotCell$Buffer", name := "put", desc := "(I)V" } : Jvm.MethodName) prog_2_method_5_code (2 : Nat) (Option.none : Option Jvm.ClassFile.FieldType)) ∈ lw_all := lw_g (lw_at lw_m11 54 rfl) rfl
theorem q2548 : (Jvm.Cond.methodLink "RobotCell$Buffer" (56 : Nat) ({ cls := "java/lang/Integer", name := "valueOf", desc := "(I)Ljava/lang/Integer;" } : Jvm.MethodName)) ∈ lw_all := lw_g (lw_at lw_m11 55 rfl) rfl
theorem q2583 : (Jvm.Cond.instanceMethod ({ cls := "RobotCell$Buffer", name := "number", desc := "(I)I" } : Jvm.MethodName)) ∈ lw_all := lw_g (lw_at lw_m11 90 rfl) rfl
theorem q2584 : (Jvm.Cond.selects "RobotCell$Buffer" ({ cls := "RobotCell$Buffer", name := "number", desc := "(I)I" } : Jvm.MethodName) ({ cls := "RobotCell$Buffer", name := "number", desc := "(I)I" } : Jvm.MethodName)) ∈ lw_all := lw_g (lw_at lw_m11 91 rfl) rfl
theorem q2585 : (Jvm.Cond.code ({ cls := "RobotCell$Buffer", name := "number", desc := "(I)I" } : Jvm.MethodName) prog_2_method_7_code (2 : Nat) (Option.some Jvm.ClassFile.FieldType.int)) ∈ lw_all := lw_g (lw_at lw_m11 92 rfl) rfl
theorem q2829 : (Jvm.Cond.instanceMethod ({ cls := "RobotCell$Buffer", name := "hasPart", desc := "()Z" } : Jvm.MethodName)) ∈ lw_all := lw_g (lw_at lw_m12 96 rfl) rfl
theorem q2830 : (Jvm.Cond.selects "RobotCell$Buffer" ({ cls := "RobotCell$Buffer", name := "hasPart", desc := "()Z" } : Jvm.MethodName) ({ cls := "RobotCell$Buffer", name := "hasPart", desc := "()Z" } : Jvm.MethodName)) ∈ lw_all := lw_g (lw_at lw_m12 97 rfl) rfl
theorem q2831 : (Jvm.Cond.code ({ cls := "RobotCell$Buffer", name := "hasPart", desc := "()Z" } : Jvm.MethodName) prog_2_method_4_code (1 : Nat) (Option.some Jvm.ClassFile.FieldType.boolean)) ∈ lw_all := lw_g (lw_at lw_m12 98 rfl) rfl
theorem q2889 : (Jvm.Cond.instanceMethod ({ cls := "RobotCell$Buffer", name := "take", desc := "()I" } : Jvm.MethodName)) ∈ lw_all := lw_g (lw_at lw_m12 156 rfl) rfl
theorem q2890 : (Jvm.Cond.selects "RobotCell$Buffer" ({ cls := "RobotCell$Buffer", name := "take", desc := "()I" } : Jvm.MethodName) ({ cls := "RobotCell$Buffer", name := "take", desc := "()I" } : Jvm.MethodName)) ∈ lw_all := lw_g (lw_at lw_m12 157 rfl) rfl
theorem q2891 : (Jvm.Cond.code ({ cls := "RobotCell$Buffer", name := "take", desc := "()I" } : Jvm.MethodName) prog_2_method_6_code (1 : Nat) (Option.some Jvm.ClassFile.FieldType.int)) ∈ lw_all := lw_g (lw_at lw_m12 158 rfl) rfl
theorem q2892 : (Jvm.Cond.methodLink "RobotCell$Buffer" (60 : Nat) ({ cls := "java/util/ArrayDeque", name := "removeFirst", desc := "()Ljava/lang/Object;" } : Jvm.MethodName)) ∈ lw_all := lw_g (lw_at lw_m12 159 rfl) rfl
theorem q2893 : (Jvm.Cond.methodLink "RobotCell$Buffer" (63 : Nat) ({ cls := "java/lang/Integer", name := "intValue", desc := "()I" } : Jvm.MethodName)) ∈ lw_all := lw_g (lw_at lw_m12 160 rfl) rfl
theorem q3761 : (Jvm.Cond.castable "RobotCell$Buffer" "java/lang/Object") ∈ lw_tbl := lw_at lw_m16 68 rfl
theorem in_X3 : ∀ w ∈ wsX30, w ∈ lw_all := lw_in wsX30 [1157, 1159, 1161, 1163, 1165, 1167] (by decide +kernel) (by decide +kernel)
/-! RobotCell$Cell$Arm -/
set_option maxRecDepth 100000
def RX4 : String := "RobotCell$Cell$Arm"
def TX4 : u_T := fun k => match k with
  | 0 => ("RobotCell$Cell$Arm", "number", "I", true)
  | 1 => ("RobotCell$Cell$Arm", "reach", "I", false)
  | 2 => ("RobotCell$Cell$Arm", "row", "Ljava/util/ArrayDeque;", true)
  | 3 => ("RobotCell$Cell$Arm", "job", "LRobotCell$Job;", false)
  | 4 => ("RobotCell$Cell$Arm", "state", "I", false)
  | 5 => ("RobotCell$Cell$Arm", "place", "I", false)
  | 6 => ("RobotCell$Cell$Arm", "toGo", "I", false)
  | 7 => ("RobotCell$Cell$Arm", "patience", "I", false)
  | 8 => ("RobotCell$Cell$Arm", "reason", "I", false)
  | 9 => ("RobotCell$Cell$Arm", "detail", "I", false)
  | 10 => ("RobotCell$Cell$Arm", "refusals", "I", false)
  | 11 => ("RobotCell$Cell$Arm", "busyTicks", "I", false)
  | 12 => ("RobotCell$Cell$Arm", "wasRefused", "Z", false)
  | _ => ("RobotCell$Cell$Arm", "this$0", "LRobotCell$Cell;", true)
def tyX4 : Nat → FieldType := fun k => match k with
  | 0 => .int
  | 1 => .int
  | 2 => .object "java/util/ArrayDeque"
  | 3 => .object "RobotCell$Job"
  | 4 => .int
  | 5 => .int
  | 6 => .int
  | 7 => .int
  | 8 => .int
  | 9 => .int
  | 10 => .int
  | 11 => .int
  | 12 => .boolean
  | _ => .object "RobotCell$Cell"
abbrev wsX40 : List Cond := u_ws RX4 TX4 14
set_option maxRecDepth 100000 in
theorem nmX4 : ∀ a, a < 14 → ∀ b, b < 14 → a ≠ b → (TX4 a).2.1 ≠ (TX4 b).2.1 := by decide +kernel
set_option maxRecDepth 100000 in
theorem tyX4_ok : ∀ k, k < 14 → parseFieldDescriptor (TX4 k).2.2.1 = some (tyX4 k) := by decide +kernel
abbrev cX4_init : ByteArray := prog_6_method_1_code
def yX4_init : MethodName := ⟨RX4, "<init>", "(LRobotCell$Cell;I)V"⟩
def dkwX4_init_1 : List UInt8 := [181, 0, 22, 42, 28, 181, 0, 26, 177]
abbrev dktX4_init_1 : List UInt8 := dkwX4_init_1 ++ []
def dkwX4_init_0 : List UInt8 := [42, 43, 181, 0, 3, 42, 183, 0, 9, 42, 17, 0, 255, 181, 0, 15, 42, 187, 0, 19, 89, 183, 0, 21]
abbrev dktX4_init_0 : List UInt8 := dkwX4_init_0 ++ dktX4_init_1
theorem dksX4_init_0 : cX4_init.data.toList.drop 0 = dktX4_init_0 := by decide +kernel
theorem dksX4_init_1 : cX4_init.data.toList.drop 24 = dktX4_init_1 := dk_seg dksX4_init_0 24 rfl rfl
theorem dX4_init_0 : decode cX4_init 0 = .ok (.aload_n 0, 1) := dk_42 (dk_at dksX4_init_0 0 rfl rfl)
theorem dX4_init_1 : decode cX4_init 1 = .ok (.aload_n 1, 1) := dk_43 (dk_at dksX4_init_0 1 rfl rfl)
theorem dX4_init_2 : decode cX4_init 2 = .ok (.putfield 3, 3) := dk_181 0 3 (dk_at dksX4_init_0 2 rfl rfl)
theorem dX4_init_5 : decode cX4_init 5 = .ok (.aload_n 0, 1) := dk_42 (dk_at dksX4_init_0 5 rfl rfl)
theorem dX4_init_6 : decode cX4_init 6 = .ok (.invokespecial 9, 3) := dk_183 0 9 (dk_at dksX4_init_0 6 rfl rfl)
theorem dX4_init_9 : decode cX4_init 9 = .ok (.aload_n 0, 1) := dk_42 (dk_at dksX4_init_0 9 rfl rfl)
theorem dX4_init_10 : decode cX4_init 10 = .ok (.sipush 255, 3) := dk_17 0 255 (dk_at dksX4_init_0 10 rfl rfl)
theorem dX4_init_13 : decode cX4_init 13 = .ok (.putfield 15, 3) := dk_181 0 15 (dk_at dksX4_init_0 13 rfl rfl)
theorem dX4_init_16 : decode cX4_init 16 = .ok (.aload_n 0, 1) := dk_42 (dk_at dksX4_init_0 16 rfl rfl)
theorem dX4_init_17 : decode cX4_init 17 = .ok (.new 19, 3) := dk_187 0 19 (dk_at dksX4_init_0 17 rfl rfl)
theorem dX4_init_20 : decode cX4_init 20 = .ok (.dup, 1) := dk_89 (dk_at dksX4_init_0 20 rfl rfl)
theorem dX4_init_21 : decode cX4_init 21 = .ok (.invokespecial 21, 3) := dk_183 0 21 (dk_at dksX4_init_0 21 rfl rfl)
theorem dX4_init_24 : decode cX4_init 24 = .ok (.putfield 22, 3) := dk_181 0 22 (dk_at dksX4_init_1 0 rfl rfl)
theorem dX4_init_27 : decode cX4_init 27 = .ok (.aload_n 0, 1) := dk_42 (dk_at dksX4_init_1 3 rfl rfl)
theorem dX4_init_28 : decode cX4_init 28 = .ok (.iload_n 2, 1) := dk_28 (dk_at dksX4_init_1 4 rfl rfl)
theorem dX4_init_29 : decode cX4_init 29 = .ok (.putfield 26, 3) := dk_181 0 26 (dk_at dksX4_init_1 5 rfl rfl)
theorem dX4_init_32 : decode cX4_init 32 = .ok (.return_, 1) := dk_177 (dk_at dksX4_init_1 8 rfl rfl)
abbrev cX4_held : ByteArray := prog_6_method_5_code
def yX4_held : MethodName := ⟨RX4, "held", "()I"⟩
def dkwX4_held_2 : List UInt8 := [96, 46, 120, 128, 167, 0, 4, 27, 172]
abbrev dktX4_held_2 : List UInt8 := dkwX4_held_2 ++ []
def dkwX4_held_1 : List UInt8 := [120, 60, 42, 180, 0, 66, 5, 160, 0, 24, 27, 4, 42, 182, 0, 98, 180, 0, 101, 42, 180, 0, 69, 4]
abbrev dktX4_held_1 : List UInt8 := dkwX4_held_1 ++ dktX4_held_2
def dkwX4_held_0 : List UInt8 := [42, 180, 0, 66, 154, 0, 7, 3, 167, 0, 17, 4, 42, 182, 0, 98, 180, 0, 101, 42, 180, 0, 69, 46]
abbrev dktX4_held_0 : List UInt8 := dkwX4_held_0 ++ dktX4_held_1
theorem dksX4_held_0 : cX4_held.data.toList.drop 0 = dktX4_held_0 := by decide +kernel
theorem dksX4_held_1 : cX4_held.data.toList.drop 24 = dktX4_held_1 := dk_seg dksX4_held_0 24 rfl rfl
theorem dksX4_held_2 : cX4_held.data.toList.drop 48 = dktX4_held_2 := dk_seg dksX4_held_1 24 rfl rfl
theorem dX4_held_0 : decode cX4_held 0 = .ok (.aload_n 0, 1) := dk_42 (dk_at dksX4_held_0 0 rfl rfl)
theorem dX4_held_1 : decode cX4_held 1 = .ok (.getfield 66, 3) := dk_180 0 66 (dk_at dksX4_held_0 1 rfl rfl)
theorem dX4_held_4 : decode cX4_held 4 = .ok (.ifCond .ne 7, 3) := dk_154 0 7 (dk_at dksX4_held_0 4 rfl rfl)
theorem dX4_held_7 : decode cX4_held 7 = .ok (.iconst 0, 1) := dk_3 (dk_at dksX4_held_0 7 rfl rfl)
theorem dX4_held_8 : decode cX4_held 8 = .ok (.goto 17, 3) := dk_167 0 17 (dk_at dksX4_held_0 8 rfl rfl)
theorem dX4_held_11 : decode cX4_held 11 = .ok (.iconst 1, 1) := dk_4 (dk_at dksX4_held_0 11 rfl rfl)
theorem dX4_held_12 : decode cX4_held 12 = .ok (.aload_n 0, 1) := dk_42 (dk_at dksX4_held_0 12 rfl rfl)
theorem dX4_held_13 : decode cX4_held 13 = .ok (.invokevirtual 98, 3) := dk_182 0 98 (dk_at dksX4_held_0 13 rfl rfl)
theorem dX4_held_16 : decode cX4_held 16 = .ok (.getfield 101, 3) := dk_180 0 101 (dk_at dksX4_held_0 16 rfl rfl)
theorem dX4_held_19 : decode cX4_held 19 = .ok (.aload_n 0, 1) := dk_42 (dk_at dksX4_held_0 19 rfl rfl)
theorem dX4_held_20 : decode cX4_held 20 = .ok (.getfield 69, 3) := dk_180 0 69 (dk_at dksX4_held_0 20 rfl rfl)
theorem dX4_held_23 : decode cX4_held 23 = .ok (.iaload, 1) := dk_46 (dk_at dksX4_held_0 23 rfl rfl)
theorem dX4_held_24 : decode cX4_held 24 = .ok (.ishl, 1) := dk_120 (dk_at dksX4_held_1 0 rfl rfl)
theorem dX4_held_25 : decode cX4_held 25 = .ok (.istore_n 1, 1) := dk_60 (dk_at dksX4_held_1 1 rfl rfl)
theorem dX4_held_26 : decode cX4_held 26 = .ok (.aload_n 0, 1) := dk_42 (dk_at dksX4_held_1 2 rfl rfl)
theorem dX4_held_27 : decode cX4_held 27 = .ok (.getfield 66, 3) := dk_180 0 66 (dk_at dksX4_held_1 3 rfl rfl)
theorem dX4_held_30 : decode cX4_held 30 = .ok (.iconst 2, 1) := dk_5 (dk_at dksX4_held_1 6 rfl rfl)
theorem dX4_held_31 : decode cX4_held 31 = .ok (.if_icmp .ne 24, 3) := dk_160 0 24 (dk_at dksX4_held_1 7 rfl rfl)
theorem dX4_held_34 : decode cX4_held 34 = .ok (.iload_n 1, 1) := dk_27 (dk_at dksX4_held_1 10 rfl rfl)
theorem dX4_held_35 : decode cX4_held 35 = .ok (.iconst 1, 1) := dk_4 (dk_at dksX4_held_1 11 rfl rfl)
theorem dX4_held_36 : decode cX4_held 36 = .ok (.aload_n 0, 1) := dk_42 (dk_at dksX4_held_1 12 rfl rfl)
theorem dX4_held_37 : decode cX4_held 37 = .ok (.invokevirtual 98, 3) := dk_182 0 98 (dk_at dksX4_held_1 13 rfl rfl)
theorem dX4_held_40 : decode cX4_held 40 = .ok (.getfield 101, 3) := dk_180 0 101 (dk_at dksX4_held_1 16 rfl rfl)
theorem dX4_held_43 : decode cX4_held 43 = .ok (.aload_n 0, 1) := dk_42 (dk_at dksX4_held_1 19 rfl rfl)
theorem dX4_held_44 : decode cX4_held 44 = .ok (.getfield 69, 3) := dk_180 0 69 (dk_at dksX4_held_1 20 rfl rfl)
theorem dX4_held_47 : decode cX4_held 47 = .ok (.iconst 1, 1) := dk_4 (dk_at dksX4_held_1 23 rfl rfl)
theorem dX4_held_48 : decode cX4_held 48 = .ok (.iadd, 1) := dk_96 (dk_at dksX4_held_2 0 rfl rfl)
theorem dX4_held_49 : decode cX4_held 49 = .ok (.iaload, 1) := dk_46 (dk_at dksX4_held_2 1 rfl rfl)
theorem dX4_held_50 : decode cX4_held 50 = .ok (.ishl, 1) := dk_120 (dk_at dksX4_held_2 2 rfl rfl)
theorem dX4_held_51 : decode cX4_held 51 = .ok (.ior, 1) := dk_128 (dk_at dksX4_held_2 3 rfl rfl)
theorem dX4_held_52 : decode cX4_held 52 = .ok (.goto 4, 3) := dk_167 0 4 (dk_at dksX4_held_2 4 rfl rfl)
theorem dX4_held_55 : decode cX4_held 55 = .ok (.iload_n 1, 1) := dk_27 (dk_at dksX4_held_2 7 rfl rfl)
theorem dX4_held_56 : decode cX4_held 56 = .ok (.ireturn, 1) := dk_172 (dk_at dksX4_held_2 8 rfl rfl)
abbrev cX4_order : ByteArray := prog_6_method_3_code
def yX4_order : MethodName := ⟨RX4, "order", "()LRobotCell$Order;"⟩
def dkwX4_order_0 : List UInt8 := [42, 180, 0, 62, 180, 0, 94, 176]
abbrev dktX4_order_0 : List UInt8 := dkwX4_order_0 ++ []
theorem dksX4_order_0 : cX4_order.data.toList.drop 0 = dktX4_order_0 := by decide +kernel
theorem dX4_order_0 : decode cX4_order 0 = .ok (.aload_n 0, 1) := dk_42 (dk_at dksX4_order_0 0 rfl rfl)
theorem dX4_order_1 : decode cX4_order 1 = .ok (.getfield 62, 3) := dk_180 0 62 (dk_at dksX4_order_0 1 rfl rfl)
theorem dX4_order_4 : decode cX4_order 4 = .ok (.getfield 94, 3) := dk_180 0 94 (dk_at dksX4_order_0 4 rfl rfl)
theorem dX4_order_7 : decode cX4_order 7 = .ok (.areturn, 1) := dk_176 (dk_at dksX4_order_0 7 rfl rfl)
abbrev cX4_reached : ByteArray := prog_6_method_4_code
def yX4_reached : MethodName := ⟨RX4, "reached", "()I"⟩
def dkwX4_reached_0 : List UInt8 := [42, 180, 0, 66, 5, 160, 0, 12, 42, 180, 0, 69, 4, 96, 167, 0, 7, 42, 180, 0, 69, 172]
abbrev dktX4_reached_0 : List UInt8 := dkwX4_reached_0 ++ []
theorem dksX4_reached_0 : cX4_reached.data.toList.drop 0 = dktX4_reached_0 := by decide +kernel
theorem dX4_reached_0 : decode cX4_reached 0 = .ok (.aload_n 0, 1) := dk_42 (dk_at dksX4_reached_0 0 rfl rfl)
theorem dX4_reached_1 : decode cX4_reached 1 = .ok (.getfield 66, 3) := dk_180 0 66 (dk_at dksX4_reached_0 1 rfl rfl)
theorem dX4_reached_4 : decode cX4_reached 4 = .ok (.iconst 2, 1) := dk_5 (dk_at dksX4_reached_0 4 rfl rfl)
theorem dX4_reached_5 : decode cX4_reached 5 = .ok (.if_icmp .ne 12, 3) := dk_160 0 12 (dk_at dksX4_reached_0 5 rfl rfl)
theorem dX4_reached_8 : decode cX4_reached 8 = .ok (.aload_n 0, 1) := dk_42 (dk_at dksX4_reached_0 8 rfl rfl)
theorem dX4_reached_9 : decode cX4_reached 9 = .ok (.getfield 69, 3) := dk_180 0 69 (dk_at dksX4_reached_0 9 rfl rfl)
theorem dX4_reached_12 : decode cX4_reached 12 = .ok (.iconst 1, 1) := dk_4 (dk_at dksX4_reached_0 12 rfl rfl)
theorem dX4_reached_13 : decode cX4_reached 13 = .ok (.iadd, 1) := dk_96 (dk_at dksX4_reached_0 13 rfl rfl)
theorem dX4_reached_14 : decode cX4_reached 14 = .ok (.goto 7, 3) := dk_167 0 7 (dk_at dksX4_reached_0 14 rfl rfl)
theorem dX4_reached_17 : decode cX4_reached 17 = .ok (.aload_n 0, 1) := dk_42 (dk_at dksX4_reached_0 17 rfl rfl)
theorem dX4_reached_18 : decode cX4_reached 18 = .ok (.getfield 69, 3) := dk_180 0 69 (dk_at dksX4_reached_0 18 rfl rfl)
theorem dX4_reached_21 : decode cX4_reached 21 = .ok (.ireturn, 1) := dk_172 (dk_at dksX4_reached_0 21 rfl rfl)
abbrev cX4_become : ByteArray := prog_6_method_2_code
def yX4_become : MethodName := ⟨RX4, "become", "(LRobotCell$Cell$Arm;)V"⟩
def dkwX4_become_7 : List UInt8 := [181, 0, 90, 177]
abbrev dktX4_become_7 : List UInt8 := dkwX4_become_7 ++ []
def dkwX4_become_6 : List UInt8 := [181, 0, 81, 42, 43, 180, 0, 84, 181, 0, 84, 42, 43, 180, 0, 87, 181, 0, 87, 42, 43, 180, 0, 90]
abbrev dktX4_become_6 : List UInt8 := dkwX4_become_6 ++ dktX4_become_7
def dkwX4_become_5 : List UInt8 := [181, 0, 72, 42, 43, 180, 0, 75, 181, 0, 75, 42, 43, 180, 0, 78, 181, 0, 78, 42, 43, 180, 0, 81]
abbrev dktX4_become_5 : List UInt8 := dkwX4_become_5 ++ dktX4_become_6
def dkwX4_become_4 : List UInt8 := [181, 0, 62, 42, 43, 180, 0, 66, 181, 0, 66, 42, 43, 180, 0, 69, 181, 0, 69, 42, 43, 180, 0, 72]
abbrev dktX4_become_4 : List UInt8 := dkwX4_become_4 ++ dktX4_become_5
def dkwX4_become_3 : List UInt8 := [1, 167, 0, 23, 42, 180, 0, 3, 180, 0, 45, 43, 180, 0, 62, 180, 0, 51, 182, 0, 52, 192, 0, 43]
abbrev dktX4_become_3 : List UInt8 := dkwX4_become_3 ++ dktX4_become_4
def dkwX4_become_2 : List UInt8 := [45, 180, 0, 51, 182, 0, 52, 192, 0, 43, 182, 0, 58, 167, 255, 213, 42, 43, 180, 0, 62, 199, 0, 7]
abbrev dktX4_become_2 : List UInt8 := dkwX4_become_2 ++ dktX4_become_3
def dkwX4_become_1 : List UInt8 := [153, 0, 40, 44, 185, 0, 39, 1, 0, 192, 0, 43, 78, 42, 180, 0, 22, 42, 180, 0, 3, 180, 0, 45]
abbrev dktX4_become_1 : List UInt8 := dkwX4_become_1 ++ dktX4_become_2
def dkwX4_become_0 : List UInt8 := [42, 43, 180, 0, 15, 181, 0, 15, 43, 180, 0, 22, 182, 0, 29, 77, 44, 185, 0, 33, 1, 0]
abbrev dktX4_become_0 : List UInt8 := dkwX4_become_0 ++ dktX4_become_1
theorem dksX4_become_0 : cX4_become.data.toList.drop 0 = dktX4_become_0 := by decide +kernel
theorem dksX4_become_1 : cX4_become.data.toList.drop 22 = dktX4_become_1 := dk_seg dksX4_become_0 22 rfl rfl
theorem dksX4_become_2 : cX4_become.data.toList.drop 46 = dktX4_become_2 := dk_seg dksX4_become_1 24 rfl rfl
theorem dksX4_become_3 : cX4_become.data.toList.drop 70 = dktX4_become_3 := dk_seg dksX4_become_2 24 rfl rfl
theorem dksX4_become_4 : cX4_become.data.toList.drop 94 = dktX4_become_4 := dk_seg dksX4_become_3 24 rfl rfl
theorem dksX4_become_5 : cX4_become.data.toList.drop 118 = dktX4_become_5 := dk_seg dksX4_become_4 24 rfl rfl
theorem dksX4_become_6 : cX4_become.data.toList.drop 142 = dktX4_become_6 := dk_seg dksX4_become_5 24 rfl rfl
theorem dksX4_become_7 : cX4_become.data.toList.drop 166 = dktX4_become_7 := dk_seg dksX4_become_6 24 rfl rfl
theorem dX4_become_0 : decode cX4_become 0 = .ok (.aload_n 0, 1) := dk_42 (dk_at dksX4_become_0 0 rfl rfl)
theorem dX4_become_1 : decode cX4_become 1 = .ok (.aload_n 1, 1) := dk_43 (dk_at dksX4_become_0 1 rfl rfl)
theorem dX4_become_2 : decode cX4_become 2 = .ok (.getfield 15, 3) := dk_180 0 15 (dk_at dksX4_become_0 2 rfl rfl)
theorem dX4_become_5 : decode cX4_become 5 = .ok (.putfield 15, 3) := dk_181 0 15 (dk_at dksX4_become_0 5 rfl rfl)
theorem dX4_become_8 : decode cX4_become 8 = .ok (.aload_n 1, 1) := dk_43 (dk_at dksX4_become_0 8 rfl rfl)
theorem dX4_become_9 : decode cX4_become 9 = .ok (.getfield 22, 3) := dk_180 0 22 (dk_at dksX4_become_0 9 rfl rfl)
theorem dX4_become_12 : decode cX4_become 12 = .ok (.invokevirtual 29, 3) := dk_182 0 29 (dk_at dksX4_become_0 12 rfl rfl)
theorem dX4_become_15 : decode cX4_become 15 = .ok (.astore_n 2, 1) := dk_77 (dk_at dksX4_become_0 15 rfl rfl)
theorem dX4_become_16 : decode cX4_become 16 = .ok (.aload_n 2, 1) := dk_44 (dk_at dksX4_become_0 16 rfl rfl)
theorem dX4_become_17 : decode cX4_become 17 = .ok (.invokeinterface 33 1, 5) := by decide +kernel
theorem dX4_become_22 : decode cX4_become 22 = .ok (.ifCond .eq 40, 3) := dk_153 0 40 (dk_at dksX4_become_1 0 rfl rfl)
theorem dX4_become_25 : decode cX4_become 25 = .ok (.aload_n 2, 1) := dk_44 (dk_at dksX4_become_1 3 rfl rfl)
theorem dX4_become_26 : decode cX4_become 26 = .ok (.invokeinterface 39 1, 5) := by decide +kernel
theorem dX4_become_31 : decode cX4_become 31 = .ok (.checkcast 43, 3) := dk_192 0 43 (dk_at dksX4_become_1 9 rfl rfl)
theorem dX4_become_34 : decode cX4_become 34 = .ok (.astore_n 3, 1) := dk_78 (dk_at dksX4_become_1 12 rfl rfl)
theorem dX4_become_35 : decode cX4_become 35 = .ok (.aload_n 0, 1) := dk_42 (dk_at dksX4_become_1 13 rfl rfl)
theorem dX4_become_36 : decode cX4_become 36 = .ok (.getfield 22, 3) := dk_180 0 22 (dk_at dksX4_become_1 14 rfl rfl)
theorem dX4_become_39 : decode cX4_become 39 = .ok (.aload_n 0, 1) := dk_42 (dk_at dksX4_become_1 17 rfl rfl)
theorem dX4_become_40 : decode cX4_become 40 = .ok (.getfield 3, 3) := dk_180 0 3 (dk_at dksX4_become_1 18 rfl rfl)
theorem dX4_become_43 : decode cX4_become 43 = .ok (.getfield 45, 3) := dk_180 0 45 (dk_at dksX4_become_1 21 rfl rfl)
theorem dX4_become_46 : decode cX4_become 46 = .ok (.aload_n 3, 1) := dk_45 (dk_at dksX4_become_2 0 rfl rfl)
theorem dX4_become_47 : decode cX4_become 47 = .ok (.getfield 51, 3) := dk_180 0 51 (dk_at dksX4_become_2 1 rfl rfl)
theorem dX4_become_50 : decode cX4_become 50 = .ok (.invokevirtual 52, 3) := dk_182 0 52 (dk_at dksX4_become_2 4 rfl rfl)
theorem dX4_become_53 : decode cX4_become 53 = .ok (.checkcast 43, 3) := dk_192 0 43 (dk_at dksX4_become_2 7 rfl rfl)
theorem dX4_become_56 : decode cX4_become 56 = .ok (.invokevirtual 58, 3) := dk_182 0 58 (dk_at dksX4_become_2 10 rfl rfl)
theorem dX4_become_59 : decode cX4_become 59 = .ok (.goto (-43), 3) := dk_167 255 213 (dk_at dksX4_become_2 13 rfl rfl)
theorem dX4_become_62 : decode cX4_become 62 = .ok (.aload_n 0, 1) := dk_42 (dk_at dksX4_become_2 16 rfl rfl)
theorem dX4_become_63 : decode cX4_become 63 = .ok (.aload_n 1, 1) := dk_43 (dk_at dksX4_become_2 17 rfl rfl)
theorem dX4_become_64 : decode cX4_become 64 = .ok (.getfield 62, 3) := dk_180 0 62 (dk_at dksX4_become_2 18 rfl rfl)
theorem dX4_become_67 : decode cX4_become 67 = .ok (.ifnonnull 7, 3) := dk_199 0 7 (dk_at dksX4_become_2 21 rfl rfl)
theorem dX4_become_70 : decode cX4_become 70 = .ok (.aconst_null, 1) := dk_1 (dk_at dksX4_become_3 0 rfl rfl)
theorem dX4_become_71 : decode cX4_become 71 = .ok (.goto 23, 3) := dk_167 0 23 (dk_at dksX4_become_3 1 rfl rfl)
theorem dX4_become_74 : decode cX4_become 74 = .ok (.aload_n 0, 1) := dk_42 (dk_at dksX4_become_3 4 rfl rfl)
theorem dX4_become_75 : decode cX4_become 75 = .ok (.getfield 3, 3) := dk_180 0 3 (dk_at dksX4_become_3 5 rfl rfl)
theorem dX4_become_78 : decode cX4_become 78 = .ok (.getfield 45, 3) := dk_180 0 45 (dk_at dksX4_become_3 8 rfl rfl)
theorem dX4_become_81 : decode cX4_become 81 = .ok (.aload_n 1, 1) := dk_43 (dk_at dksX4_become_3 11 rfl rfl)
theorem dX4_become_82 : decode cX4_become 82 = .ok (.getfield 62, 3) := dk_180 0 62 (dk_at dksX4_become_3 12 rfl rfl)
theorem dX4_become_85 : decode cX4_become 85 = .ok (.getfield 51, 3) := dk_180 0 51 (dk_at dksX4_become_3 15 rfl rfl)
theorem dX4_become_88 : decode cX4_become 88 = .ok (.invokevirtual 52, 3) := dk_182 0 52 (dk_at dksX4_become_3 18 rfl rfl)
theorem dX4_become_91 : decode cX4_become 91 = .ok (.checkcast 43, 3) := dk_192 0 43 (dk_at dksX4_become_3 21 rfl rfl)
theorem dX4_become_94 : decode cX4_become 94 = .ok (.putfield 62, 3) := dk_181 0 62 (dk_at dksX4_become_4 0 rfl rfl)
theorem dX4_become_97 : decode cX4_become 97 = .ok (.aload_n 0, 1) := dk_42 (dk_at dksX4_become_4 3 rfl rfl)
theorem dX4_become_98 : decode cX4_become 98 = .ok (.aload_n 1, 1) := dk_43 (dk_at dksX4_become_4 4 rfl rfl)
theorem dX4_become_99 : decode cX4_become 99 = .ok (.getfield 66, 3) := dk_180 0 66 (dk_at dksX4_become_4 5 rfl rfl)
theorem dX4_become_102 : decode cX4_become 102 = .ok (.putfield 66, 3) := dk_181 0 66 (dk_at dksX4_become_4 8 rfl rfl)
theorem dX4_become_105 : decode cX4_become 105 = .ok (.aload_n 0, 1) := dk_42 (dk_at dksX4_become_4 11 rfl rfl)
theorem dX4_become_106 : decode cX4_become 106 = .ok (.aload_n 1, 1) := dk_43 (dk_at dksX4_become_4 12 rfl rfl)
theorem dX4_become_107 : decode cX4_become 107 = .ok (.getfield 69, 3) := dk_180 0 69 (dk_at dksX4_become_4 13 rfl rfl)
theorem dX4_become_110 : decode cX4_become 110 = .ok (.putfield 69, 3) := dk_181 0 69 (dk_at dksX4_become_4 16 rfl rfl)
theorem dX4_become_113 : decode cX4_become 113 = .ok (.aload_n 0, 1) := dk_42 (dk_at dksX4_become_4 19 rfl rfl)
theorem dX4_become_114 : decode cX4_become 114 = .ok (.aload_n 1, 1) := dk_43 (dk_at dksX4_become_4 20 rfl rfl)
theorem dX4_become_115 : decode cX4_become 115 = .ok (.getfield 72, 3) := dk_180 0 72 (dk_at dksX4_become_4 21 rfl rfl)
theorem dX4_become_118 : decode cX4_become 118 = .ok (.putfield 72, 3) := dk_181 0 72 (dk_at dksX4_become_5 0 rfl rfl)
theorem dX4_become_121 : decode cX4_become 121 = .ok (.aload_n 0, 1) := dk_42 (dk_at dksX4_become_5 3 rfl rfl)
theorem dX4_become_122 : decode cX4_become 122 = .ok (.aload_n 1, 1) := dk_43 (dk_at dksX4_become_5 4 rfl rfl)
theorem dX4_become_123 : decode cX4_become 123 = .ok (.getfield 75, 3) := dk_180 0 75 (dk_at dksX4_become_5 5 rfl rfl)
theorem dX4_become_126 : decode cX4_become 126 = .ok (.putfield 75, 3) := dk_181 0 75 (dk_at dksX4_become_5 8 rfl rfl)
theorem dX4_become_129 : decode cX4_become 129 = .ok (.aload_n 0, 1) := dk_42 (dk_at dksX4_become_5 11 rfl rfl)
theorem dX4_become_130 : decode cX4_become 130 = .ok (.aload_n 1, 1) := dk_43 (dk_at dksX4_become_5 12 rfl rfl)
theorem dX4_become_131 : decode cX4_become 131 = .ok (.getfield 78, 3) := dk_180 0 78 (dk_at dksX4_become_5 13 rfl rfl)
theorem dX4_become_134 : decode cX4_become 134 = .ok (.putfield 78, 3) := dk_181 0 78 (dk_at dksX4_become_5 16 rfl rfl)
theorem dX4_become_137 : decode cX4_become 137 = .ok (.aload_n 0, 1) := dk_42 (dk_at dksX4_become_5 19 rfl rfl)
theorem dX4_become_138 : decode cX4_become 138 = .ok (.aload_n 1, 1) := dk_43 (dk_at dksX4_become_5 20 rfl rfl)
theorem dX4_become_139 : decode cX4_become 139 = .ok (.getfield 81, 3) := dk_180 0 81 (dk_at dksX4_become_5 21 rfl rfl)
theorem dX4_become_142 : decode cX4_become 142 = .ok (.putfield 81, 3) := dk_181 0 81 (dk_at dksX4_become_6 0 rfl rfl)
theorem dX4_become_145 : decode cX4_become 145 = .ok (.aload_n 0, 1) := dk_42 (dk_at dksX4_become_6 3 rfl rfl)
theorem dX4_become_146 : decode cX4_become 146 = .ok (.aload_n 1, 1) := dk_43 (dk_at dksX4_become_6 4 rfl rfl)
theorem dX4_become_147 : decode cX4_become 147 = .ok (.getfield 84, 3) := dk_180 0 84 (dk_at dksX4_become_6 5 rfl rfl)
theorem dX4_become_150 : decode cX4_become 150 = .ok (.putfield 84, 3) := dk_181 0 84 (dk_at dksX4_become_6 8 rfl rfl)
theorem dX4_become_153 : decode cX4_become 153 = .ok (.aload_n 0, 1) := dk_42 (dk_at dksX4_become_6 11 rfl rfl)
theorem dX4_become_154 : decode cX4_become 154 = .ok (.aload_n 1, 1) := dk_43 (dk_at dksX4_become_6 12 rfl rfl)
theorem dX4_become_155 : decode cX4_become 155 = .ok (.getfield 87, 3) := dk_180 0 87 (dk_at dksX4_become_6 13 rfl rfl)
theorem dX4_become_158 : decode cX4_become 158 = .ok (.putfield 87, 3) := dk_181 0 87 (dk_at dksX4_become_6 16 rfl rfl)
theorem dX4_become_161 : decode cX4_become 161 = .ok (.aload_n 0, 1) := dk_42 (dk_at dksX4_become_6 19 rfl rfl)
theorem dX4_become_162 : decode cX4_become 162 = .ok (.aload_n 1, 1) := dk_43 (dk_at dksX4_become_6 20 rfl rfl)
theorem dX4_become_163 : decode cX4_become 163 = .ok (.getfield 90, 3) := dk_180 0 90 (dk_at dksX4_become_6 21 rfl rfl)
theorem dX4_become_166 : decode cX4_become 166 = .ok (.putfield 90, 3) := dk_181 0 90 (dk_at dksX4_become_7 0 rfl rfl)
theorem dX4_become_169 : decode cX4_become 169 = .ok (.return_, 1) := dk_177 (dk_at dksX4_become_7 3 rfl rfl)
abbrev cX4_part : ByteArray := prog_6_method_22_code
def yX4_part : MethodName := ⟨RX4, "part", "(I)I"⟩
def dkwX4_part_5 : List UInt8 := [180, 0, 75, 172, 42, 182, 0, 115, 172, 42, 180, 0, 84, 172, 42, 180, 0, 87, 172]
abbrev dktX4_part_5 : List UInt8 := dkwX4_part_5 ++ []
def dkwX4_part_4 : List UInt8 := [4, 159, 0, 11, 42, 180, 0, 66, 5, 160, 0, 10, 42, 180, 0, 72, 167, 0, 4, 3, 172, 42]
abbrev dktX4_part_4 : List UInt8 := dkwX4_part_4 ++ dktX4_part_5
def dkwX4_part_3 : List UInt8 := [180, 0, 62, 180, 0, 51, 172, 42, 180, 0, 22, 182, 0, 248, 172, 42, 182, 0, 181, 172, 42, 180, 0, 66]
abbrev dktX4_part_3 : List UInt8 := dkwX4_part_3 ++ dktX4_part_4
def dkwX4_part_2 : List UInt8 := [42, 180, 0, 15, 172, 42, 180, 0, 66, 172, 42, 180, 0, 62, 199, 0, 7, 2, 167, 0, 10, 42]
abbrev dktX4_part_2 : List UInt8 := dkwX4_part_2 ++ dktX4_part_3
def dkwX4_part_1 : List UInt8 := [170, 0, 0, 0, 0, 0, 133, 0, 0, 0, 0, 0, 0, 0, 8, 0, 0, 0, 51, 0, 0, 0, 56, 0, 0, 0, 61, 0, 0, 0, 80, 0, 0, 0, 88, 0, 0, 0, 93, 0, 0, 0, 118, 0, 0, 0, 123, 0, 0, 0, 128]
abbrev dktX4_part_1 : List UInt8 := dkwX4_part_1 ++ dktX4_part_2
def dkwX4_part_0 : List UInt8 := [27]
abbrev dktX4_part_0 : List UInt8 := dkwX4_part_0 ++ dktX4_part_1
theorem dksX4_part_0 : cX4_part.data.toList.drop 0 = dktX4_part_0 := by decide +kernel
theorem dksX4_part_1 : cX4_part.data.toList.drop 1 = dktX4_part_1 := dk_seg dksX4_part_0 1 rfl rfl
theorem dksX4_part_2 : cX4_part.data.toList.drop 52 = dktX4_part_2 := dk_seg dksX4_part_1 51 rfl rfl
theorem dksX4_part_3 : cX4_part.data.toList.drop 74 = dktX4_part_3 := dk_seg dksX4_part_2 22 rfl rfl
theorem dksX4_part_4 : cX4_part.data.toList.drop 98 = dktX4_part_4 := dk_seg dksX4_part_3 24 rfl rfl
theorem dksX4_part_5 : cX4_part.data.toList.drop 120 = dktX4_part_5 := dk_seg dksX4_part_4 22 rfl rfl
theorem dX4_part_0 : decode cX4_part 0 = .ok (.iload_n 1, 1) := dk_27 (dk_at dksX4_part_0 0 rfl rfl)
theorem dX4_part_1 : decode cX4_part 1 = .ok (.tableswitch 133 0 8 #[51, 56, 61, 80, 88, 93, 118, 123, 128], 51) := by decide +kernel
theorem dX4_part_52 : decode cX4_part 52 = .ok (.aload_n 0, 1) := dk_42 (dk_at dksX4_part_2 0 rfl rfl)
theorem dX4_part_53 : decode cX4_part 53 = .ok (.getfield 15, 3) := dk_180 0 15 (dk_at dksX4_part_2 1 rfl rfl)
theorem dX4_part_56 : decode cX4_part 56 = .ok (.ireturn, 1) := dk_172 (dk_at dksX4_part_2 4 rfl rfl)
theorem dX4_part_57 : decode cX4_part 57 = .ok (.aload_n 0, 1) := dk_42 (dk_at dksX4_part_2 5 rfl rfl)
theorem dX4_part_58 : decode cX4_part 58 = .ok (.getfield 66, 3) := dk_180 0 66 (dk_at dksX4_part_2 6 rfl rfl)
theorem dX4_part_61 : decode cX4_part 61 = .ok (.ireturn, 1) := dk_172 (dk_at dksX4_part_2 9 rfl rfl)
theorem dX4_part_62 : decode cX4_part 62 = .ok (.aload_n 0, 1) := dk_42 (dk_at dksX4_part_2 10 rfl rfl)
theorem dX4_part_63 : decode cX4_part 63 = .ok (.getfield 62, 3) := dk_180 0 62 (dk_at dksX4_part_2 11 rfl rfl)
theorem dX4_part_66 : decode cX4_part 66 = .ok (.ifnonnull 7, 3) := dk_199 0 7 (dk_at dksX4_part_2 14 rfl rfl)
theorem dX4_part_69 : decode cX4_part 69 = .ok (.iconst (-1), 1) := dk_2 (dk_at dksX4_part_2 17 rfl rfl)
theorem dX4_part_70 : decode cX4_part 70 = .ok (.goto 10, 3) := dk_167 0 10 (dk_at dksX4_part_2 18 rfl rfl)
theorem dX4_part_73 : decode cX4_part 73 = .ok (.aload_n 0, 1) := dk_42 (dk_at dksX4_part_2 21 rfl rfl)
theorem dX4_part_74 : decode cX4_part 74 = .ok (.getfield 62, 3) := dk_180 0 62 (dk_at dksX4_part_3 0 rfl rfl)
theorem dX4_part_77 : decode cX4_part 77 = .ok (.getfield 51, 3) := dk_180 0 51 (dk_at dksX4_part_3 3 rfl rfl)
theorem dX4_part_80 : decode cX4_part 80 = .ok (.ireturn, 1) := dk_172 (dk_at dksX4_part_3 6 rfl rfl)
theorem dX4_part_81 : decode cX4_part 81 = .ok (.aload_n 0, 1) := dk_42 (dk_at dksX4_part_3 7 rfl rfl)
theorem dX4_part_82 : decode cX4_part 82 = .ok (.getfield 22, 3) := dk_180 0 22 (dk_at dksX4_part_3 8 rfl rfl)
theorem dX4_part_85 : decode cX4_part 85 = .ok (.invokevirtual 248, 3) := dk_182 0 248 (dk_at dksX4_part_3 11 rfl rfl)
theorem dX4_part_88 : decode cX4_part 88 = .ok (.ireturn, 1) := dk_172 (dk_at dksX4_part_3 14 rfl rfl)
theorem dX4_part_89 : decode cX4_part 89 = .ok (.aload_n 0, 1) := dk_42 (dk_at dksX4_part_3 15 rfl rfl)
theorem dX4_part_90 : decode cX4_part 90 = .ok (.invokevirtual 181, 3) := dk_182 0 181 (dk_at dksX4_part_3 16 rfl rfl)
theorem dX4_part_93 : decode cX4_part 93 = .ok (.ireturn, 1) := dk_172 (dk_at dksX4_part_3 19 rfl rfl)
theorem dX4_part_94 : decode cX4_part 94 = .ok (.aload_n 0, 1) := dk_42 (dk_at dksX4_part_3 20 rfl rfl)
theorem dX4_part_95 : decode cX4_part 95 = .ok (.getfield 66, 3) := dk_180 0 66 (dk_at dksX4_part_3 21 rfl rfl)
theorem dX4_part_98 : decode cX4_part 98 = .ok (.iconst 1, 1) := dk_4 (dk_at dksX4_part_4 0 rfl rfl)
theorem dX4_part_99 : decode cX4_part 99 = .ok (.if_icmp .eq 11, 3) := dk_159 0 11 (dk_at dksX4_part_4 1 rfl rfl)
theorem dX4_part_102 : decode cX4_part 102 = .ok (.aload_n 0, 1) := dk_42 (dk_at dksX4_part_4 4 rfl rfl)
theorem dX4_part_103 : decode cX4_part 103 = .ok (.getfield 66, 3) := dk_180 0 66 (dk_at dksX4_part_4 5 rfl rfl)
theorem dX4_part_106 : decode cX4_part 106 = .ok (.iconst 2, 1) := dk_5 (dk_at dksX4_part_4 8 rfl rfl)
theorem dX4_part_107 : decode cX4_part 107 = .ok (.if_icmp .ne 10, 3) := dk_160 0 10 (dk_at dksX4_part_4 9 rfl rfl)
theorem dX4_part_110 : decode cX4_part 110 = .ok (.aload_n 0, 1) := dk_42 (dk_at dksX4_part_4 12 rfl rfl)
theorem dX4_part_111 : decode cX4_part 111 = .ok (.getfield 72, 3) := dk_180 0 72 (dk_at dksX4_part_4 13 rfl rfl)
theorem dX4_part_114 : decode cX4_part 114 = .ok (.goto 4, 3) := dk_167 0 4 (dk_at dksX4_part_4 16 rfl rfl)
theorem dX4_part_117 : decode cX4_part 117 = .ok (.iconst 0, 1) := dk_3 (dk_at dksX4_part_4 19 rfl rfl)
theorem dX4_part_118 : decode cX4_part 118 = .ok (.ireturn, 1) := dk_172 (dk_at dksX4_part_4 20 rfl rfl)
theorem dX4_part_119 : decode cX4_part 119 = .ok (.aload_n 0, 1) := dk_42 (dk_at dksX4_part_4 21 rfl rfl)
theorem dX4_part_120 : decode cX4_part 120 = .ok (.getfield 75, 3) := dk_180 0 75 (dk_at dksX4_part_5 0 rfl rfl)
theorem dX4_part_123 : decode cX4_part 123 = .ok (.ireturn, 1) := dk_172 (dk_at dksX4_part_5 3 rfl rfl)
theorem dX4_part_124 : decode cX4_part 124 = .ok (.aload_n 0, 1) := dk_42 (dk_at dksX4_part_5 4 rfl rfl)
theorem dX4_part_125 : decode cX4_part 125 = .ok (.invokevirtual 115, 3) := dk_182 0 115 (dk_at dksX4_part_5 5 rfl rfl)
theorem dX4_part_128 : decode cX4_part 128 = .ok (.ireturn, 1) := dk_172 (dk_at dksX4_part_5 8 rfl rfl)
theorem dX4_part_129 : decode cX4_part 129 = .ok (.aload_n 0, 1) := dk_42 (dk_at dksX4_part_5 9 rfl rfl)
theorem dX4_part_130 : decode cX4_part 130 = .ok (.getfield 84, 3) := dk_180 0 84 (dk_at dksX4_part_5 10 rfl rfl)
theorem dX4_part_133 : decode cX4_part 133 = .ok (.ireturn, 1) := dk_172 (dk_at dksX4_part_5 13 rfl rfl)
theorem dX4_part_134 : decode cX4_part 134 = .ok (.aload_n 0, 1) := dk_42 (dk_at dksX4_part_5 14 rfl rfl)
theorem dX4_part_135 : decode cX4_part 135 = .ok (.getfield 87, 3) := dk_180 0 87 (dk_at dksX4_part_5 15 rfl rfl)
theorem dX4_part_138 : decode cX4_part 138 = .ok (.ireturn, 1) := dk_172 (dk_at dksX4_part_5 18 rfl rfl)
abbrev cX4_zone : ByteArray := prog_6_method_6_code
def yX4_zone : MethodName := ⟨RX4, "zone", "()I"⟩
def dkwX4_zone_0 : List UInt8 := [42, 180, 0, 66, 154, 0, 7, 2, 167, 0, 15, 42, 182, 0, 98, 180, 0, 101, 42, 180, 0, 69, 46, 172]
abbrev dktX4_zone_0 : List UInt8 := dkwX4_zone_0 ++ []
theorem dksX4_zone_0 : cX4_zone.data.toList.drop 0 = dktX4_zone_0 := by decide +kernel
theorem dX4_zone_0 : decode cX4_zone 0 = .ok (.aload_n 0, 1) := dk_42 (dk_at dksX4_zone_0 0 rfl rfl)
theorem dX4_zone_1 : decode cX4_zone 1 = .ok (.getfield 66, 3) := dk_180 0 66 (dk_at dksX4_zone_0 1 rfl rfl)
theorem dX4_zone_4 : decode cX4_zone 4 = .ok (.ifCond .ne 7, 3) := dk_154 0 7 (dk_at dksX4_zone_0 4 rfl rfl)
theorem dX4_zone_7 : decode cX4_zone 7 = .ok (.iconst (-1), 1) := dk_2 (dk_at dksX4_zone_0 7 rfl rfl)
theorem dX4_zone_8 : decode cX4_zone 8 = .ok (.goto 15, 3) := dk_167 0 15 (dk_at dksX4_zone_0 8 rfl rfl)
theorem dX4_zone_11 : decode cX4_zone 11 = .ok (.aload_n 0, 1) := dk_42 (dk_at dksX4_zone_0 11 rfl rfl)
theorem dX4_zone_12 : decode cX4_zone 12 = .ok (.invokevirtual 98, 3) := dk_182 0 98 (dk_at dksX4_zone_0 12 rfl rfl)
theorem dX4_zone_15 : decode cX4_zone 15 = .ok (.getfield 101, 3) := dk_180 0 101 (dk_at dksX4_zone_0 15 rfl rfl)
theorem dX4_zone_18 : decode cX4_zone 18 = .ok (.aload_n 0, 1) := dk_42 (dk_at dksX4_zone_0 18 rfl rfl)
theorem dX4_zone_19 : decode cX4_zone 19 = .ok (.getfield 69, 3) := dk_180 0 69 (dk_at dksX4_zone_0 19 rfl rfl)
theorem dX4_zone_22 : decode cX4_zone 22 = .ok (.iaload, 1) := dk_46 (dk_at dksX4_zone_0 22 rfl rfl)
theorem dX4_zone_23 : decode cX4_zone 23 = .ok (.ireturn, 1) := dk_172 (dk_at dksX4_zone_0 23 rfl rfl)
abbrev cX4_act : ByteArray := prog_6_method_20_code
def yX4_act : MethodName := ⟨RX4, "act", "()V"⟩
def dkwX4_act_5 : List UInt8 := [182, 0, 238, 177]
abbrev dktX4_act_5 : List UInt8 := dkwX4_act_5 ++ []
def dkwX4_act_4 : List UInt8 := [42, 180, 0, 66, 4, 160, 0, 10, 42, 182, 0, 235, 167, 0, 14, 42, 180, 0, 72, 154, 0, 7, 42]
abbrev dktX4_act_4 : List UInt8 := dkwX4_act_4 ++ dktX4_act_5
def dkwX4_act_3 : List UInt8 := [42, 182, 0, 223, 167, 0, 46, 42, 89, 180, 0, 72, 4, 100, 181, 0, 72, 42, 180, 0, 72, 154, 0, 18]
abbrev dktX4_act_3 : List UInt8 := dkwX4_act_3 ++ dktX4_act_4
def dkwX4_act_2 : List UInt8 := [42, 180, 0, 22, 182, 0, 229, 154, 0, 67, 42, 182, 0, 190, 153, 0, 60, 42, 182, 0, 232, 167, 0, 53]
abbrev dktX4_act_2 : List UInt8 := dkwX4_act_2 ++ dktX4_act_3
def dkwX4_act_1 : List UInt8 := [171, 0, 0, 0, 0, 0, 58, 0, 0, 0, 2, 0, 0, 0, 0, 0, 0, 0, 27, 0, 0, 0, 3, 0, 0, 0, 51]
abbrev dktX4_act_1 : List UInt8 := dkwX4_act_1 ++ dktX4_act_2
def dkwX4_act_0 : List UInt8 := [42, 3, 181, 0, 90, 42, 180, 0, 66]
abbrev dktX4_act_0 : List UInt8 := dkwX4_act_0 ++ dktX4_act_1
theorem dksX4_act_0 : cX4_act.data.toList.drop 0 = dktX4_act_0 := by decide +kernel
theorem dksX4_act_1 : cX4_act.data.toList.drop 9 = dktX4_act_1 := dk_seg dksX4_act_0 9 rfl rfl
theorem dksX4_act_2 : cX4_act.data.toList.drop 36 = dktX4_act_2 := dk_seg dksX4_act_1 27 rfl rfl
theorem dksX4_act_3 : cX4_act.data.toList.drop 60 = dktX4_act_3 := dk_seg dksX4_act_2 24 rfl rfl
theorem dksX4_act_4 : cX4_act.data.toList.drop 84 = dktX4_act_4 := dk_seg dksX4_act_3 24 rfl rfl
theorem dksX4_act_5 : cX4_act.data.toList.drop 107 = dktX4_act_5 := dk_seg dksX4_act_4 23 rfl rfl
theorem dX4_act_0 : decode cX4_act 0 = .ok (.aload_n 0, 1) := dk_42 (dk_at dksX4_act_0 0 rfl rfl)
theorem dX4_act_1 : decode cX4_act 1 = .ok (.iconst 0, 1) := dk_3 (dk_at dksX4_act_0 1 rfl rfl)
theorem dX4_act_2 : decode cX4_act 2 = .ok (.putfield 90, 3) := dk_181 0 90 (dk_at dksX4_act_0 2 rfl rfl)
theorem dX4_act_5 : decode cX4_act 5 = .ok (.aload_n 0, 1) := dk_42 (dk_at dksX4_act_0 5 rfl rfl)
theorem dX4_act_6 : decode cX4_act 6 = .ok (.getfield 66, 3) := dk_180 0 66 (dk_at dksX4_act_0 6 rfl rfl)
theorem dX4_act_9 : decode cX4_act 9 = .ok (.lookupswitch 58 #[(0, 27), (3, 51)], 27) := by decide +kernel
theorem dX4_act_36 : decode cX4_act 36 = .ok (.aload_n 0, 1) := dk_42 (dk_at dksX4_act_2 0 rfl rfl)
theorem dX4_act_37 : decode cX4_act 37 = .ok (.getfield 22, 3) := dk_180 0 22 (dk_at dksX4_act_2 1 rfl rfl)
theorem dX4_act_40 : decode cX4_act 40 = .ok (.invokevirtual 229, 3) := dk_182 0 229 (dk_at dksX4_act_2 4 rfl rfl)
theorem dX4_act_43 : decode cX4_act 43 = .ok (.ifCond .ne 67, 3) := dk_154 0 67 (dk_at dksX4_act_2 7 rfl rfl)
theorem dX4_act_46 : decode cX4_act 46 = .ok (.aload_n 0, 1) := dk_42 (dk_at dksX4_act_2 10 rfl rfl)
theorem dX4_act_47 : decode cX4_act 47 = .ok (.invokevirtual 190, 3) := dk_182 0 190 (dk_at dksX4_act_2 11 rfl rfl)
theorem dX4_act_50 : decode cX4_act 50 = .ok (.ifCond .eq 60, 3) := dk_153 0 60 (dk_at dksX4_act_2 14 rfl rfl)
theorem dX4_act_53 : decode cX4_act 53 = .ok (.aload_n 0, 1) := dk_42 (dk_at dksX4_act_2 17 rfl rfl)
theorem dX4_act_54 : decode cX4_act 54 = .ok (.invokevirtual 232, 3) := dk_182 0 232 (dk_at dksX4_act_2 18 rfl rfl)
theorem dX4_act_57 : decode cX4_act 57 = .ok (.goto 53, 3) := dk_167 0 53 (dk_at dksX4_act_2 21 rfl rfl)
theorem dX4_act_60 : decode cX4_act 60 = .ok (.aload_n 0, 1) := dk_42 (dk_at dksX4_act_3 0 rfl rfl)
theorem dX4_act_61 : decode cX4_act 61 = .ok (.invokevirtual 223, 3) := dk_182 0 223 (dk_at dksX4_act_3 1 rfl rfl)
theorem dX4_act_64 : decode cX4_act 64 = .ok (.goto 46, 3) := dk_167 0 46 (dk_at dksX4_act_3 4 rfl rfl)
theorem dX4_act_67 : decode cX4_act 67 = .ok (.aload_n 0, 1) := dk_42 (dk_at dksX4_act_3 7 rfl rfl)
theorem dX4_act_68 : decode cX4_act 68 = .ok (.dup, 1) := dk_89 (dk_at dksX4_act_3 8 rfl rfl)
theorem dX4_act_69 : decode cX4_act 69 = .ok (.getfield 72, 3) := dk_180 0 72 (dk_at dksX4_act_3 9 rfl rfl)
theorem dX4_act_72 : decode cX4_act 72 = .ok (.iconst 1, 1) := dk_4 (dk_at dksX4_act_3 12 rfl rfl)
theorem dX4_act_73 : decode cX4_act 73 = .ok (.isub, 1) := dk_100 (dk_at dksX4_act_3 13 rfl rfl)
theorem dX4_act_74 : decode cX4_act 74 = .ok (.putfield 72, 3) := dk_181 0 72 (dk_at dksX4_act_3 14 rfl rfl)
theorem dX4_act_77 : decode cX4_act 77 = .ok (.aload_n 0, 1) := dk_42 (dk_at dksX4_act_3 17 rfl rfl)
theorem dX4_act_78 : decode cX4_act 78 = .ok (.getfield 72, 3) := dk_180 0 72 (dk_at dksX4_act_3 18 rfl rfl)
theorem dX4_act_81 : decode cX4_act 81 = .ok (.ifCond .ne 18, 3) := dk_154 0 18 (dk_at dksX4_act_3 21 rfl rfl)
theorem dX4_act_84 : decode cX4_act 84 = .ok (.aload_n 0, 1) := dk_42 (dk_at dksX4_act_4 0 rfl rfl)
theorem dX4_act_85 : decode cX4_act 85 = .ok (.getfield 66, 3) := dk_180 0 66 (dk_at dksX4_act_4 1 rfl rfl)
theorem dX4_act_88 : decode cX4_act 88 = .ok (.iconst 1, 1) := dk_4 (dk_at dksX4_act_4 4 rfl rfl)
theorem dX4_act_89 : decode cX4_act 89 = .ok (.if_icmp .ne 10, 3) := dk_160 0 10 (dk_at dksX4_act_4 5 rfl rfl)
theorem dX4_act_92 : decode cX4_act 92 = .ok (.aload_n 0, 1) := dk_42 (dk_at dksX4_act_4 8 rfl rfl)
theorem dX4_act_93 : decode cX4_act 93 = .ok (.invokevirtual 235, 3) := dk_182 0 235 (dk_at dksX4_act_4 9 rfl rfl)
theorem dX4_act_96 : decode cX4_act 96 = .ok (.goto 14, 3) := dk_167 0 14 (dk_at dksX4_act_4 12 rfl rfl)
theorem dX4_act_99 : decode cX4_act 99 = .ok (.aload_n 0, 1) := dk_42 (dk_at dksX4_act_4 15 rfl rfl)
theorem dX4_act_100 : decode cX4_act 100 = .ok (.getfield 72, 3) := dk_180 0 72 (dk_at dksX4_act_4 16 rfl rfl)
theorem dX4_act_103 : decode cX4_act 103 = .ok (.ifCond .ne 7, 3) := dk_154 0 7 (dk_at dksX4_act_4 19 rfl rfl)
theorem dX4_act_106 : decode cX4_act 106 = .ok (.aload_n 0, 1) := dk_42 (dk_at dksX4_act_4 22 rfl rfl)
theorem dX4_act_107 : decode cX4_act 107 = .ok (.invokevirtual 238, 3) := dk_182 0 238 (dk_at dksX4_act_5 0 rfl rfl)
theorem dX4_act_110 : decode cX4_act 110 = .ok (.return_, 1) := dk_177 (dk_at dksX4_act_5 3 rfl rfl)
abbrev cX4_isGranted : ByteArray := prog_6_method_12_code
def yX4_isGranted : MethodName := ⟨RX4, "isGranted", "()Z"⟩
def dkwX4_isGranted_1 : List UInt8 := [181, 0, 90, 42, 89, 180, 0, 84, 27, 153, 0, 7, 3, 167, 0, 4, 4, 96, 181, 0, 84, 27, 172]
abbrev dktX4_isGranted_1 : List UInt8 := dkwX4_isGranted_1 ++ []
def dkwX4_isGranted_0 : List UInt8 := [42, 182, 0, 159, 154, 0, 7, 4, 167, 0, 4, 3, 60, 42, 27, 154, 0, 7, 4, 167, 0, 4, 3]
abbrev dktX4_isGranted_0 : List UInt8 := dkwX4_isGranted_0 ++ dktX4_isGranted_1
theorem dksX4_isGranted_0 : cX4_isGranted.data.toList.drop 0 = dktX4_isGranted_0 := by decide +kernel
theorem dksX4_isGranted_1 : cX4_isGranted.data.toList.drop 23 = dktX4_isGranted_1 := dk_seg dksX4_isGranted_0 23 rfl rfl
theorem dX4_isGranted_0 : decode cX4_isGranted 0 = .ok (.aload_n 0, 1) := dk_42 (dk_at dksX4_isGranted_0 0 rfl rfl)
theorem dX4_isGranted_1 : decode cX4_isGranted 1 = .ok (.invokevirtual 159, 3) := dk_182 0 159 (dk_at dksX4_isGranted_0 1 rfl rfl)
theorem dX4_isGranted_4 : decode cX4_isGranted 4 = .ok (.ifCond .ne 7, 3) := dk_154 0 7 (dk_at dksX4_isGranted_0 4 rfl rfl)
theorem dX4_isGranted_7 : decode cX4_isGranted 7 = .ok (.iconst 1, 1) := dk_4 (dk_at dksX4_isGranted_0 7 rfl rfl)
theorem dX4_isGranted_8 : decode cX4_isGranted 8 = .ok (.goto 4, 3) := dk_167 0 4 (dk_at dksX4_isGranted_0 8 rfl rfl)
theorem dX4_isGranted_11 : decode cX4_isGranted 11 = .ok (.iconst 0, 1) := dk_3 (dk_at dksX4_isGranted_0 11 rfl rfl)
theorem dX4_isGranted_12 : decode cX4_isGranted 12 = .ok (.istore_n 1, 1) := dk_60 (dk_at dksX4_isGranted_0 12 rfl rfl)
theorem dX4_isGranted_13 : decode cX4_isGranted 13 = .ok (.aload_n 0, 1) := dk_42 (dk_at dksX4_isGranted_0 13 rfl rfl)
theorem dX4_isGranted_14 : decode cX4_isGranted 14 = .ok (.iload_n 1, 1) := dk_27 (dk_at dksX4_isGranted_0 14 rfl rfl)
theorem dX4_isGranted_15 : decode cX4_isGranted 15 = .ok (.ifCond .ne 7, 3) := dk_154 0 7 (dk_at dksX4_isGranted_0 15 rfl rfl)
theorem dX4_isGranted_18 : decode cX4_isGranted 18 = .ok (.iconst 1, 1) := dk_4 (dk_at dksX4_isGranted_0 18 rfl rfl)
theorem dX4_isGranted_19 : decode cX4_isGranted 19 = .ok (.goto 4, 3) := dk_167 0 4 (dk_at dksX4_isGranted_0 19 rfl rfl)
theorem dX4_isGranted_22 : decode cX4_isGranted 22 = .ok (.iconst 0, 1) := dk_3 (dk_at dksX4_isGranted_0 22 rfl rfl)
theorem dX4_isGranted_23 : decode cX4_isGranted 23 = .ok (.putfield 90, 3) := dk_181 0 90 (dk_at dksX4_isGranted_1 0 rfl rfl)
theorem dX4_isGranted_26 : decode cX4_isGranted 26 = .ok (.aload_n 0, 1) := dk_42 (dk_at dksX4_isGranted_1 3 rfl rfl)
theorem dX4_isGranted_27 : decode cX4_isGranted 27 = .ok (.dup, 1) := dk_89 (dk_at dksX4_isGranted_1 4 rfl rfl)
theorem dX4_isGranted_28 : decode cX4_isGranted 28 = .ok (.getfield 84, 3) := dk_180 0 84 (dk_at dksX4_isGranted_1 5 rfl rfl)
theorem dX4_isGranted_31 : decode cX4_isGranted 31 = .ok (.iload_n 1, 1) := dk_27 (dk_at dksX4_isGranted_1 8 rfl rfl)
theorem dX4_isGranted_32 : decode cX4_isGranted 32 = .ok (.ifCond .eq 7, 3) := dk_153 0 7 (dk_at dksX4_isGranted_1 9 rfl rfl)
theorem dX4_isGranted_35 : decode cX4_isGranted 35 = .ok (.iconst 0, 1) := dk_3 (dk_at dksX4_isGranted_1 12 rfl rfl)
theorem dX4_isGranted_36 : decode cX4_isGranted 36 = .ok (.goto 4, 3) := dk_167 0 4 (dk_at dksX4_isGranted_1 13 rfl rfl)
theorem dX4_isGranted_39 : decode cX4_isGranted 39 = .ok (.iconst 1, 1) := dk_4 (dk_at dksX4_isGranted_1 16 rfl rfl)
theorem dX4_isGranted_40 : decode cX4_isGranted 40 = .ok (.iadd, 1) := dk_96 (dk_at dksX4_isGranted_1 17 rfl rfl)
theorem dX4_isGranted_41 : decode cX4_isGranted 41 = .ok (.putfield 84, 3) := dk_181 0 84 (dk_at dksX4_isGranted_1 18 rfl rfl)
theorem dX4_isGranted_44 : decode cX4_isGranted 44 = .ok (.iload_n 1, 1) := dk_27 (dk_at dksX4_isGranted_1 21 rfl rfl)
theorem dX4_isGranted_45 : decode cX4_isGranted 45 = .ok (.ireturn, 1) := dk_172 (dk_at dksX4_isGranted_1 22 rfl rfl)
abbrev cX4_request : ByteArray := prog_6_method_11_code
def yX4_request : MethodName := ⟨RX4, "request", "()I"⟩
def dkwX4_request_1 : List UInt8 := [167, 0, 17, 42, 42, 182, 0, 98, 42, 182, 0, 107, 4, 96, 182, 0, 148, 172]
abbrev dktX4_request_1 : List UInt8 := dkwX4_request_1 ++ []
def dkwX4_request_0 : List UInt8 := [42, 180, 0, 66, 154, 0, 23, 42, 42, 180, 0, 22, 182, 0, 152, 192, 0, 43, 180, 0, 94, 182, 0, 155]
abbrev dktX4_request_0 : List UInt8 := dkwX4_request_0 ++ dktX4_request_1
theorem dksX4_request_0 : cX4_request.data.toList.drop 0 = dktX4_request_0 := by decide +kernel
theorem dksX4_request_1 : cX4_request.data.toList.drop 24 = dktX4_request_1 := dk_seg dksX4_request_0 24 rfl rfl
theorem dX4_request_0 : decode cX4_request 0 = .ok (.aload_n 0, 1) := dk_42 (dk_at dksX4_request_0 0 rfl rfl)
theorem dX4_request_1 : decode cX4_request 1 = .ok (.getfield 66, 3) := dk_180 0 66 (dk_at dksX4_request_0 1 rfl rfl)
theorem dX4_request_4 : decode cX4_request 4 = .ok (.ifCond .ne 23, 3) := dk_154 0 23 (dk_at dksX4_request_0 4 rfl rfl)
theorem dX4_request_7 : decode cX4_request 7 = .ok (.aload_n 0, 1) := dk_42 (dk_at dksX4_request_0 7 rfl rfl)
theorem dX4_request_8 : decode cX4_request 8 = .ok (.aload_n 0, 1) := dk_42 (dk_at dksX4_request_0 8 rfl rfl)
theorem dX4_request_9 : decode cX4_request 9 = .ok (.getfield 22, 3) := dk_180 0 22 (dk_at dksX4_request_0 9 rfl rfl)
theorem dX4_request_12 : decode cX4_request 12 = .ok (.invokevirtual 152, 3) := dk_182 0 152 (dk_at dksX4_request_0 12 rfl rfl)
theorem dX4_request_15 : decode cX4_request 15 = .ok (.checkcast 43, 3) := dk_192 0 43 (dk_at dksX4_request_0 15 rfl rfl)
theorem dX4_request_18 : decode cX4_request 18 = .ok (.getfield 94, 3) := dk_180 0 94 (dk_at dksX4_request_0 18 rfl rfl)
theorem dX4_request_21 : decode cX4_request 21 = .ok (.invokevirtual 155, 3) := dk_182 0 155 (dk_at dksX4_request_0 21 rfl rfl)
theorem dX4_request_24 : decode cX4_request 24 = .ok (.goto 17, 3) := dk_167 0 17 (dk_at dksX4_request_1 0 rfl rfl)
theorem dX4_request_27 : decode cX4_request 27 = .ok (.aload_n 0, 1) := dk_42 (dk_at dksX4_request_1 3 rfl rfl)
theorem dX4_request_28 : decode cX4_request 28 = .ok (.aload_n 0, 1) := dk_42 (dk_at dksX4_request_1 4 rfl rfl)
theorem dX4_request_29 : decode cX4_request 29 = .ok (.invokevirtual 98, 3) := dk_182 0 98 (dk_at dksX4_request_1 5 rfl rfl)
theorem dX4_request_32 : decode cX4_request 32 = .ok (.aload_n 0, 1) := dk_42 (dk_at dksX4_request_1 8 rfl rfl)
theorem dX4_request_33 : decode cX4_request 33 = .ok (.invokevirtual 107, 3) := dk_182 0 107 (dk_at dksX4_request_1 9 rfl rfl)
theorem dX4_request_36 : decode cX4_request 36 = .ok (.iconst 1, 1) := dk_4 (dk_at dksX4_request_1 12 rfl rfl)
theorem dX4_request_37 : decode cX4_request 37 = .ok (.iadd, 1) := dk_96 (dk_at dksX4_request_1 13 rfl rfl)
theorem dX4_request_38 : decode cX4_request 38 = .ok (.invokevirtual 148, 3) := dk_182 0 148 (dk_at dksX4_request_1 14 rfl rfl)
theorem dX4_request_41 : decode cX4_request 41 = .ok (.ireturn, 1) := dk_172 (dk_at dksX4_request_1 17 rfl rfl)
abbrev cX4_requestStart : ByteArray := prog_6_method_10_code
def yX4_requestStart : MethodName := ⟨RX4, "requestStart", "(LRobotCell$Order;)I"⟩
def dkwX4_requestStart_3 : List UInt8 := [182, 0, 122, 172, 42, 43, 3, 182, 0, 148, 172]
abbrev dktX4_requestStart_3 : List UInt8 := dkwX4_requestStart_3 ++ []
def dkwX4_requestStart_2 : List UInt8 := [180, 0, 3, 180, 0, 133, 43, 180, 0, 142, 50, 182, 0, 145, 154, 0, 13, 42, 5, 43, 180, 0, 142]
abbrev dktX4_requestStart_2 : List UInt8 := dkwX4_requestStart_2 ++ dktX4_requestStart_3
def dkwX4_requestStart_1 : List UInt8 := [154, 0, 13, 42, 4, 43, 180, 0, 130, 182, 0, 122, 172, 43, 180, 0, 142, 2, 159, 0, 31, 42]
abbrev dktX4_requestStart_1 : List UInt8 := dkwX4_requestStart_1 ++ dktX4_requestStart_2
def dkwX4_requestStart_0 : List UInt8 := [43, 180, 0, 130, 2, 159, 0, 31, 42, 180, 0, 3, 180, 0, 133, 43, 180, 0, 130, 50, 182, 0, 137]
abbrev dktX4_requestStart_0 : List UInt8 := dkwX4_requestStart_0 ++ dktX4_requestStart_1
theorem dksX4_requestStart_0 : cX4_requestStart.data.toList.drop 0 = dktX4_requestStart_0 := by decide +kernel
theorem dksX4_requestStart_1 : cX4_requestStart.data.toList.drop 23 = dktX4_requestStart_1 := dk_seg dksX4_requestStart_0 23 rfl rfl
theorem dksX4_requestStart_2 : cX4_requestStart.data.toList.drop 45 = dktX4_requestStart_2 := dk_seg dksX4_requestStart_1 22 rfl rfl
theorem dksX4_requestStart_3 : cX4_requestStart.data.toList.drop 68 = dktX4_requestStart_3 := dk_seg dksX4_requestStart_2 23 rfl rfl
theorem dX4_requestStart_0 : decode cX4_requestStart 0 = .ok (.aload_n 1, 1) := dk_43 (dk_at dksX4_requestStart_0 0 rfl rfl)
theorem dX4_requestStart_1 : decode cX4_requestStart 1 = .ok (.getfield 130, 3) := dk_180 0 130 (dk_at dksX4_requestStart_0 1 rfl rfl)
theorem dX4_requestStart_4 : decode cX4_requestStart 4 = .ok (.iconst (-1), 1) := dk_2 (dk_at dksX4_requestStart_0 4 rfl rfl)
theorem dX4_requestStart_5 : decode cX4_requestStart 5 = .ok (.if_icmp .eq 31, 3) := dk_159 0 31 (dk_at dksX4_requestStart_0 5 rfl rfl)
theorem dX4_requestStart_8 : decode cX4_requestStart 8 = .ok (.aload_n 0, 1) := dk_42 (dk_at dksX4_requestStart_0 8 rfl rfl)
theorem dX4_requestStart_9 : decode cX4_requestStart 9 = .ok (.getfield 3, 3) := dk_180 0 3 (dk_at dksX4_requestStart_0 9 rfl rfl)
theorem dX4_requestStart_12 : decode cX4_requestStart 12 = .ok (.getfield 133, 3) := dk_180 0 133 (dk_at dksX4_requestStart_0 12 rfl rfl)
theorem dX4_requestStart_15 : decode cX4_requestStart 15 = .ok (.aload_n 1, 1) := dk_43 (dk_at dksX4_requestStart_0 15 rfl rfl)
theorem dX4_requestStart_16 : decode cX4_requestStart 16 = .ok (.getfield 130, 3) := dk_180 0 130 (dk_at dksX4_requestStart_0 16 rfl rfl)
theorem dX4_requestStart_19 : decode cX4_requestStart 19 = .ok (.aaload, 1) := dk_50 (dk_at dksX4_requestStart_0 19 rfl rfl)
theorem dX4_requestStart_20 : decode cX4_requestStart 20 = .ok (.invokevirtual 137, 3) := dk_182 0 137 (dk_at dksX4_requestStart_0 20 rfl rfl)
theorem dX4_requestStart_23 : decode cX4_requestStart 23 = .ok (.ifCond .ne 13, 3) := dk_154 0 13 (dk_at dksX4_requestStart_1 0 rfl rfl)
theorem dX4_requestStart_26 : decode cX4_requestStart 26 = .ok (.aload_n 0, 1) := dk_42 (dk_at dksX4_requestStart_1 3 rfl rfl)
theorem dX4_requestStart_27 : decode cX4_requestStart 27 = .ok (.iconst 1, 1) := dk_4 (dk_at dksX4_requestStart_1 4 rfl rfl)
theorem dX4_requestStart_28 : decode cX4_requestStart 28 = .ok (.aload_n 1, 1) := dk_43 (dk_at dksX4_requestStart_1 5 rfl rfl)
theorem dX4_requestStart_29 : decode cX4_requestStart 29 = .ok (.getfield 130, 3) := dk_180 0 130 (dk_at dksX4_requestStart_1 6 rfl rfl)
theorem dX4_requestStart_32 : decode cX4_requestStart 32 = .ok (.invokevirtual 122, 3) := dk_182 0 122 (dk_at dksX4_requestStart_1 9 rfl rfl)
theorem dX4_requestStart_35 : decode cX4_requestStart 35 = .ok (.ireturn, 1) := dk_172 (dk_at dksX4_requestStart_1 12 rfl rfl)
theorem dX4_requestStart_36 : decode cX4_requestStart 36 = .ok (.aload_n 1, 1) := dk_43 (dk_at dksX4_requestStart_1 13 rfl rfl)
theorem dX4_requestStart_37 : decode cX4_requestStart 37 = .ok (.getfield 142, 3) := dk_180 0 142 (dk_at dksX4_requestStart_1 14 rfl rfl)
theorem dX4_requestStart_40 : decode cX4_requestStart 40 = .ok (.iconst (-1), 1) := dk_2 (dk_at dksX4_requestStart_1 17 rfl rfl)
theorem dX4_requestStart_41 : decode cX4_requestStart 41 = .ok (.if_icmp .eq 31, 3) := dk_159 0 31 (dk_at dksX4_requestStart_1 18 rfl rfl)
theorem dX4_requestStart_44 : decode cX4_requestStart 44 = .ok (.aload_n 0, 1) := dk_42 (dk_at dksX4_requestStart_1 21 rfl rfl)
theorem dX4_requestStart_45 : decode cX4_requestStart 45 = .ok (.getfield 3, 3) := dk_180 0 3 (dk_at dksX4_requestStart_2 0 rfl rfl)
theorem dX4_requestStart_48 : decode cX4_requestStart 48 = .ok (.getfield 133, 3) := dk_180 0 133 (dk_at dksX4_requestStart_2 3 rfl rfl)
theorem dX4_requestStart_51 : decode cX4_requestStart 51 = .ok (.aload_n 1, 1) := dk_43 (dk_at dksX4_requestStart_2 6 rfl rfl)
theorem dX4_requestStart_52 : decode cX4_requestStart 52 = .ok (.getfield 142, 3) := dk_180 0 142 (dk_at dksX4_requestStart_2 7 rfl rfl)
theorem dX4_requestStart_55 : decode cX4_requestStart 55 = .ok (.aaload, 1) := dk_50 (dk_at dksX4_requestStart_2 10 rfl rfl)
theorem dX4_requestStart_56 : decode cX4_requestStart 56 = .ok (.invokevirtual 145, 3) := dk_182 0 145 (dk_at dksX4_requestStart_2 11 rfl rfl)
theorem dX4_requestStart_59 : decode cX4_requestStart 59 = .ok (.ifCond .ne 13, 3) := dk_154 0 13 (dk_at dksX4_requestStart_2 14 rfl rfl)
theorem dX4_requestStart_62 : decode cX4_requestStart 62 = .ok (.aload_n 0, 1) := dk_42 (dk_at dksX4_requestStart_2 17 rfl rfl)
theorem dX4_requestStart_63 : decode cX4_requestStart 63 = .ok (.iconst 2, 1) := dk_5 (dk_at dksX4_requestStart_2 18 rfl rfl)
theorem dX4_requestStart_64 : decode cX4_requestStart 64 = .ok (.aload_n 1, 1) := dk_43 (dk_at dksX4_requestStart_2 19 rfl rfl)
theorem dX4_requestStart_65 : decode cX4_requestStart 65 = .ok (.getfield 142, 3) := dk_180 0 142 (dk_at dksX4_requestStart_2 20 rfl rfl)
theorem dX4_requestStart_68 : decode cX4_requestStart 68 = .ok (.invokevirtual 122, 3) := dk_182 0 122 (dk_at dksX4_requestStart_3 0 rfl rfl)
theorem dX4_requestStart_71 : decode cX4_requestStart 71 = .ok (.ireturn, 1) := dk_172 (dk_at dksX4_requestStart_3 3 rfl rfl)
theorem dX4_requestStart_72 : decode cX4_requestStart 72 = .ok (.aload_n 0, 1) := dk_42 (dk_at dksX4_requestStart_3 4 rfl rfl)
theorem dX4_requestStart_73 : decode cX4_requestStart 73 = .ok (.aload_n 1, 1) := dk_43 (dk_at dksX4_requestStart_3 5 rfl rfl)
theorem dX4_requestStart_74 : decode cX4_requestStart 74 = .ok (.iconst 0, 1) := dk_3 (dk_at dksX4_requestStart_3 6 rfl rfl)
theorem dX4_requestStart_75 : decode cX4_requestStart 75 = .ok (.invokevirtual 148, 3) := dk_182 0 148 (dk_at dksX4_requestStart_3 7 rfl rfl)
theorem dX4_requestStart_78 : decode cX4_requestStart 78 = .ok (.ireturn, 1) := dk_172 (dk_at dksX4_requestStart_3 10 rfl rfl)
abbrev cX4_refuse : ByteArray := prog_6_method_8_code
def yX4_refuse : MethodName := ⟨RX4, "refuse", "(II)I"⟩
def dkwX4_refuse_0 : List UInt8 := [42, 27, 181, 0, 78, 42, 28, 181, 0, 81, 27, 172]
abbrev dktX4_refuse_0 : List UInt8 := dkwX4_refuse_0 ++ []
theorem dksX4_refuse_0 : cX4_refuse.data.toList.drop 0 = dktX4_refuse_0 := by decide +kernel
theorem dX4_refuse_0 : decode cX4_refuse 0 = .ok (.aload_n 0, 1) := dk_42 (dk_at dksX4_refuse_0 0 rfl rfl)
theorem dX4_refuse_1 : decode cX4_refuse 1 = .ok (.iload_n 1, 1) := dk_27 (dk_at dksX4_refuse_0 1 rfl rfl)
theorem dX4_refuse_2 : decode cX4_refuse 2 = .ok (.putfield 78, 3) := dk_181 0 78 (dk_at dksX4_refuse_0 2 rfl rfl)
theorem dX4_refuse_5 : decode cX4_refuse 5 = .ok (.aload_n 0, 1) := dk_42 (dk_at dksX4_refuse_0 5 rfl rfl)
theorem dX4_refuse_6 : decode cX4_refuse 6 = .ok (.iload_n 2, 1) := dk_28 (dk_at dksX4_refuse_0 6 rfl rfl)
theorem dX4_refuse_7 : decode cX4_refuse 7 = .ok (.putfield 81, 3) := dk_181 0 81 (dk_at dksX4_refuse_0 7 rfl rfl)
theorem dX4_refuse_10 : decode cX4_refuse 10 = .ok (.iload_n 1, 1) := dk_27 (dk_at dksX4_refuse_0 10 rfl rfl)
theorem dX4_refuse_11 : decode cX4_refuse 11 = .ok (.ireturn, 1) := dk_172 (dk_at dksX4_refuse_0 11 rfl rfl)
abbrev cX4_requestZone : ByteArray := prog_6_method_9_code
def yX4_requestZone : MethodName := ⟨RX4, "requestZone", "(LRobotCell$Order;I)I"⟩
def dkwX4_requestZone_4 : List UInt8 := [182, 0, 126, 54, 4, 21, 4, 2, 160, 0, 7, 3, 167, 0, 10, 42, 7, 21, 4, 182, 0, 122, 172]
abbrev dktX4_requestZone_4 : List UInt8 := dkwX4_requestZone_4 ++ []
def dkwX4_requestZone_3 : List UInt8 := [182, 0, 122, 172, 132, 6, 1, 167, 255, 205, 42, 180, 0, 3, 42, 180, 0, 26, 29, 28, 4, 96, 43]
abbrev dktX4_requestZone_3 : List UInt8 := dkwX4_requestZone_3 ++ dktX4_requestZone_4
def dkwX4_requestZone_2 : List UInt8 := [182, 0, 115, 42, 180, 0, 3, 29, 182, 0, 118, 126, 153, 0, 14, 42, 6, 25, 7, 180, 0, 26]
abbrev dktX4_requestZone_2 : List UInt8 := dkwX4_requestZone_2 ++ dktX4_requestZone_3
def dkwX4_requestZone_1 : List UInt8 := [21, 6, 21, 5, 162, 0, 50, 25, 4, 21, 6, 50, 58, 7, 25, 7, 42, 165, 0, 31, 25, 7]
abbrev dktX4_requestZone_1 : List UInt8 := dkwX4_requestZone_1 ++ dktX4_requestZone_2
def dkwX4_requestZone_0 : List UInt8 := [43, 180, 0, 101, 28, 46, 62, 42, 180, 0, 3, 180, 0, 111, 58, 4, 25, 4, 190, 54, 5, 3, 54, 6]
abbrev dktX4_requestZone_0 : List UInt8 := dkwX4_requestZone_0 ++ dktX4_requestZone_1
theorem dksX4_requestZone_0 : cX4_requestZone.data.toList.drop 0 = dktX4_requestZone_0 := by decide +kernel
theorem dksX4_requestZone_1 : cX4_requestZone.data.toList.drop 24 = dktX4_requestZone_1 := dk_seg dksX4_requestZone_0 24 rfl rfl
theorem dksX4_requestZone_2 : cX4_requestZone.data.toList.drop 46 = dktX4_requestZone_2 := dk_seg dksX4_requestZone_1 22 rfl rfl
theorem dksX4_requestZone_3 : cX4_requestZone.data.toList.drop 68 = dktX4_requestZone_3 := dk_seg dksX4_requestZone_2 22 rfl rfl
theorem dksX4_requestZone_4 : cX4_requestZone.data.toList.drop 91 = dktX4_requestZone_4 := dk_seg dksX4_requestZone_3 23 rfl rfl
theorem dX4_requestZone_0 : decode cX4_requestZone 0 = .ok (.aload_n 1, 1) := dk_43 (dk_at dksX4_requestZone_0 0 rfl rfl)
theorem dX4_requestZone_1 : decode cX4_requestZone 1 = .ok (.getfield 101, 3) := dk_180 0 101 (dk_at dksX4_requestZone_0 1 rfl rfl)
theorem dX4_requestZone_4 : decode cX4_requestZone 4 = .ok (.iload_n 2, 1) := dk_28 (dk_at dksX4_requestZone_0 4 rfl rfl)
theorem dX4_requestZone_5 : decode cX4_requestZone 5 = .ok (.iaload, 1) := dk_46 (dk_at dksX4_requestZone_0 5 rfl rfl)
theorem dX4_requestZone_6 : decode cX4_requestZone 6 = .ok (.istore_n 3, 1) := dk_62 (dk_at dksX4_requestZone_0 6 rfl rfl)
theorem dX4_requestZone_7 : decode cX4_requestZone 7 = .ok (.aload_n 0, 1) := dk_42 (dk_at dksX4_requestZone_0 7 rfl rfl)
theorem dX4_requestZone_8 : decode cX4_requestZone 8 = .ok (.getfield 3, 3) := dk_180 0 3 (dk_at dksX4_requestZone_0 8 rfl rfl)
theorem dX4_requestZone_11 : decode cX4_requestZone 11 = .ok (.getfield 111, 3) := dk_180 0 111 (dk_at dksX4_requestZone_0 11 rfl rfl)
theorem dX4_requestZone_14 : decode cX4_requestZone 14 = .ok (.astore 4, 2) := dk_58 4 (dk_at dksX4_requestZone_0 14 rfl rfl)
theorem dX4_requestZone_16 : decode cX4_requestZone 16 = .ok (.aload 4, 2) := dk_25 4 (dk_at dksX4_requestZone_0 16 rfl rfl)
theorem dX4_requestZone_18 : decode cX4_requestZone 18 = .ok (.arraylength, 1) := dk_190 (dk_at dksX4_requestZone_0 18 rfl rfl)
theorem dX4_requestZone_19 : decode cX4_requestZone 19 = .ok (.istore 5, 2) := dk_54 5 (dk_at dksX4_requestZone_0 19 rfl rfl)
theorem dX4_requestZone_21 : decode cX4_requestZone 21 = .ok (.iconst 0, 1) := dk_3 (dk_at dksX4_requestZone_0 21 rfl rfl)
theorem dX4_requestZone_22 : decode cX4_requestZone 22 = .ok (.istore 6, 2) := dk_54 6 (dk_at dksX4_requestZone_0 22 rfl rfl)
theorem dX4_requestZone_24 : decode cX4_requestZone 24 = .ok (.iload 6, 2) := dk_21 6 (dk_at dksX4_requestZone_1 0 rfl rfl)
theorem dX4_requestZone_26 : decode cX4_requestZone 26 = .ok (.iload 5, 2) := dk_21 5 (dk_at dksX4_requestZone_1 2 rfl rfl)
theorem dX4_requestZone_28 : decode cX4_requestZone 28 = .ok (.if_icmp .ge 50, 3) := dk_162 0 50 (dk_at dksX4_requestZone_1 4 rfl rfl)
theorem dX4_requestZone_31 : decode cX4_requestZone 31 = .ok (.aload 4, 2) := dk_25 4 (dk_at dksX4_requestZone_1 7 rfl rfl)
theorem dX4_requestZone_33 : decode cX4_requestZone 33 = .ok (.iload 6, 2) := dk_21 6 (dk_at dksX4_requestZone_1 9 rfl rfl)
theorem dX4_requestZone_35 : decode cX4_requestZone 35 = .ok (.aaload, 1) := dk_50 (dk_at dksX4_requestZone_1 11 rfl rfl)
theorem dX4_requestZone_36 : decode cX4_requestZone 36 = .ok (.astore 7, 2) := dk_58 7 (dk_at dksX4_requestZone_1 12 rfl rfl)
theorem dX4_requestZone_38 : decode cX4_requestZone 38 = .ok (.aload 7, 2) := dk_25 7 (dk_at dksX4_requestZone_1 14 rfl rfl)
theorem dX4_requestZone_40 : decode cX4_requestZone 40 = .ok (.aload_n 0, 1) := dk_42 (dk_at dksX4_requestZone_1 16 rfl rfl)
theorem dX4_requestZone_41 : decode cX4_requestZone 41 = .ok (.if_acmp .eq 31, 3) := dk_165 0 31 (dk_at dksX4_requestZone_1 17 rfl rfl)
theorem dX4_requestZone_44 : decode cX4_requestZone 44 = .ok (.aload 7, 2) := dk_25 7 (dk_at dksX4_requestZone_1 20 rfl rfl)
theorem dX4_requestZone_46 : decode cX4_requestZone 46 = .ok (.invokevirtual 115, 3) := dk_182 0 115 (dk_at dksX4_requestZone_2 0 rfl rfl)
theorem dX4_requestZone_49 : decode cX4_requestZone 49 = .ok (.aload_n 0, 1) := dk_42 (dk_at dksX4_requestZone_2 3 rfl rfl)
theorem dX4_requestZone_50 : decode cX4_requestZone 50 = .ok (.getfield 3, 3) := dk_180 0 3 (dk_at dksX4_requestZone_2 4 rfl rfl)
theorem dX4_requestZone_53 : decode cX4_requestZone 53 = .ok (.iload_n 3, 1) := dk_29 (dk_at dksX4_requestZone_2 7 rfl rfl)
theorem dX4_requestZone_54 : decode cX4_requestZone 54 = .ok (.invokevirtual 118, 3) := dk_182 0 118 (dk_at dksX4_requestZone_2 8 rfl rfl)
theorem dX4_requestZone_57 : decode cX4_requestZone 57 = .ok (.iand, 1) := dk_126 (dk_at dksX4_requestZone_2 11 rfl rfl)
theorem dX4_requestZone_58 : decode cX4_requestZone 58 = .ok (.ifCond .eq 14, 3) := dk_153 0 14 (dk_at dksX4_requestZone_2 12 rfl rfl)
theorem dX4_requestZone_61 : decode cX4_requestZone 61 = .ok (.aload_n 0, 1) := dk_42 (dk_at dksX4_requestZone_2 15 rfl rfl)
theorem dX4_requestZone_62 : decode cX4_requestZone 62 = .ok (.iconst 3, 1) := dk_6 (dk_at dksX4_requestZone_2 16 rfl rfl)
theorem dX4_requestZone_63 : decode cX4_requestZone 63 = .ok (.aload 7, 2) := dk_25 7 (dk_at dksX4_requestZone_2 17 rfl rfl)
theorem dX4_requestZone_65 : decode cX4_requestZone 65 = .ok (.getfield 26, 3) := dk_180 0 26 (dk_at dksX4_requestZone_2 19 rfl rfl)
theorem dX4_requestZone_68 : decode cX4_requestZone 68 = .ok (.invokevirtual 122, 3) := dk_182 0 122 (dk_at dksX4_requestZone_3 0 rfl rfl)
theorem dX4_requestZone_71 : decode cX4_requestZone 71 = .ok (.ireturn, 1) := dk_172 (dk_at dksX4_requestZone_3 3 rfl rfl)
theorem dX4_requestZone_72 : decode cX4_requestZone 72 = .ok (.iinc 6 1, 3) := dk_132 6 1 (dk_at dksX4_requestZone_3 4 rfl rfl)
theorem dX4_requestZone_75 : decode cX4_requestZone 75 = .ok (.goto (-51), 3) := dk_167 255 205 (dk_at dksX4_requestZone_3 7 rfl rfl)
theorem dX4_requestZone_78 : decode cX4_requestZone 78 = .ok (.aload_n 0, 1) := dk_42 (dk_at dksX4_requestZone_3 10 rfl rfl)
theorem dX4_requestZone_79 : decode cX4_requestZone 79 = .ok (.getfield 3, 3) := dk_180 0 3 (dk_at dksX4_requestZone_3 11 rfl rfl)
theorem dX4_requestZone_82 : decode cX4_requestZone 82 = .ok (.aload_n 0, 1) := dk_42 (dk_at dksX4_requestZone_3 14 rfl rfl)
theorem dX4_requestZone_83 : decode cX4_requestZone 83 = .ok (.getfield 26, 3) := dk_180 0 26 (dk_at dksX4_requestZone_3 15 rfl rfl)
theorem dX4_requestZone_86 : decode cX4_requestZone 86 = .ok (.iload_n 3, 1) := dk_29 (dk_at dksX4_requestZone_3 18 rfl rfl)
theorem dX4_requestZone_87 : decode cX4_requestZone 87 = .ok (.iload_n 2, 1) := dk_28 (dk_at dksX4_requestZone_3 19 rfl rfl)
theorem dX4_requestZone_88 : decode cX4_requestZone 88 = .ok (.iconst 1, 1) := dk_4 (dk_at dksX4_requestZone_3 20 rfl rfl)
theorem dX4_requestZone_89 : decode cX4_requestZone 89 = .ok (.iadd, 1) := dk_96 (dk_at dksX4_requestZone_3 21 rfl rfl)
theorem dX4_requestZone_90 : decode cX4_requestZone 90 = .ok (.aload_n 1, 1) := dk_43 (dk_at dksX4_requestZone_3 22 rfl rfl)
theorem dX4_requestZone_91 : decode cX4_requestZone 91 = .ok (.invokevirtual 126, 3) := dk_182 0 126 (dk_at dksX4_requestZone_4 0 rfl rfl)
theorem dX4_requestZone_94 : decode cX4_requestZone 94 = .ok (.istore 4, 2) := dk_54 4 (dk_at dksX4_requestZone_4 3 rfl rfl)
theorem dX4_requestZone_96 : decode cX4_requestZone 96 = .ok (.iload 4, 2) := dk_21 4 (dk_at dksX4_requestZone_4 5 rfl rfl)
theorem dX4_requestZone_98 : decode cX4_requestZone 98 = .ok (.iconst (-1), 1) := dk_2 (dk_at dksX4_requestZone_4 7 rfl rfl)
theorem dX4_requestZone_99 : decode cX4_requestZone 99 = .ok (.if_icmp .ne 7, 3) := dk_160 0 7 (dk_at dksX4_requestZone_4 8 rfl rfl)
theorem dX4_requestZone_102 : decode cX4_requestZone 102 = .ok (.iconst 0, 1) := dk_3 (dk_at dksX4_requestZone_4 11 rfl rfl)
theorem dX4_requestZone_103 : decode cX4_requestZone 103 = .ok (.goto 10, 3) := dk_167 0 10 (dk_at dksX4_requestZone_4 12 rfl rfl)
theorem dX4_requestZone_106 : decode cX4_requestZone 106 = .ok (.aload_n 0, 1) := dk_42 (dk_at dksX4_requestZone_4 15 rfl rfl)
theorem dX4_requestZone_107 : decode cX4_requestZone 107 = .ok (.iconst 4, 1) := dk_7 (dk_at dksX4_requestZone_4 16 rfl rfl)
theorem dX4_requestZone_108 : decode cX4_requestZone 108 = .ok (.iload 4, 2) := dk_21 4 (dk_at dksX4_requestZone_4 17 rfl rfl)
theorem dX4_requestZone_110 : decode cX4_requestZone 110 = .ok (.invokevirtual 122, 3) := dk_182 0 122 (dk_at dksX4_requestZone_4 19 rfl rfl)
theorem dX4_requestZone_113 : decode cX4_requestZone 113 = .ok (.ireturn, 1) := dk_172 (dk_at dksX4_requestZone_4 22 rfl rfl)
abbrev cX4_start : ByteArray := prog_6_method_13_code
def yX4_start : MethodName := ⟨RX4, "start", "()V"⟩
def dkwX4_start_5 : List UInt8 := [180, 0, 3, 42, 180, 0, 26, 3, 42, 182, 0, 181, 182, 0, 184, 177]
abbrev dktX4_start_5 : List UInt8 := dkwX4_start_5 ++ []
def dkwX4_start_4 : List UInt8 := [180, 0, 142, 50, 89, 180, 0, 175, 4, 96, 181, 0, 175, 42, 3, 181, 0, 69, 42, 182, 0, 178, 42]
abbrev dktX4_start_4 : List UInt8 := dkwX4_start_4 ++ dktX4_start_5
def dkwX4_start_3 : List UInt8 := [42, 182, 0, 98, 180, 0, 142, 2, 159, 0, 27, 42, 180, 0, 3, 180, 0, 133, 42, 182, 0, 98]
abbrev dktX4_start_3 : List UInt8 := dkwX4_start_3 ++ dktX4_start_4
def dkwX4_start_2 : List UInt8 := [42, 180, 0, 3, 180, 0, 133, 42, 182, 0, 98, 180, 0, 130, 50, 89, 180, 0, 172, 4, 96, 181, 0, 172]
abbrev dktX4_start_2 : List UInt8 := dkwX4_start_2 ++ dktX4_start_3
def dkwX4_start_1 : List UInt8 := [180, 0, 62, 42, 180, 0, 3, 180, 0, 166, 181, 0, 169, 42, 182, 0, 98, 180, 0, 130, 2, 159, 0, 27]
abbrev dktX4_start_1 : List UInt8 := dkwX4_start_1 ++ dktX4_start_2
def dkwX4_start_0 : List UInt8 := [42, 42, 180, 0, 22, 182, 0, 162, 192, 0, 43, 181, 0, 62, 42, 180, 0, 62, 4, 181, 0, 165, 42]
abbrev dktX4_start_0 : List UInt8 := dkwX4_start_0 ++ dktX4_start_1
theorem dksX4_start_0 : cX4_start.data.toList.drop 0 = dktX4_start_0 := by decide +kernel
theorem dksX4_start_1 : cX4_start.data.toList.drop 23 = dktX4_start_1 := dk_seg dksX4_start_0 23 rfl rfl
theorem dksX4_start_2 : cX4_start.data.toList.drop 47 = dktX4_start_2 := dk_seg dksX4_start_1 24 rfl rfl
theorem dksX4_start_3 : cX4_start.data.toList.drop 71 = dktX4_start_3 := dk_seg dksX4_start_2 24 rfl rfl
theorem dksX4_start_4 : cX4_start.data.toList.drop 93 = dktX4_start_4 := dk_seg dksX4_start_3 22 rfl rfl
theorem dksX4_start_5 : cX4_start.data.toList.drop 116 = dktX4_start_5 := dk_seg dksX4_start_4 23 rfl rfl
theorem dX4_start_0 : decode cX4_start 0 = .ok (.aload_n 0, 1) := dk_42 (dk_at dksX4_start_0 0 rfl rfl)
theorem dX4_start_1 : decode cX4_start 1 = .ok (.aload_n 0, 1) := dk_42 (dk_at dksX4_start_0 1 rfl rfl)
theorem dX4_start_2 : decode cX4_start 2 = .ok (.getfield 22, 3) := dk_180 0 22 (dk_at dksX4_start_0 2 rfl rfl)
theorem dX4_start_5 : decode cX4_start 5 = .ok (.invokevirtual 162, 3) := dk_182 0 162 (dk_at dksX4_start_0 5 rfl rfl)
theorem dX4_start_8 : decode cX4_start 8 = .ok (.checkcast 43, 3) := dk_192 0 43 (dk_at dksX4_start_0 8 rfl rfl)
theorem dX4_start_11 : decode cX4_start 11 = .ok (.putfield 62, 3) := dk_181 0 62 (dk_at dksX4_start_0 11 rfl rfl)
theorem dX4_start_14 : decode cX4_start 14 = .ok (.aload_n 0, 1) := dk_42 (dk_at dksX4_start_0 14 rfl rfl)
theorem dX4_start_15 : decode cX4_start 15 = .ok (.getfield 62, 3) := dk_180 0 62 (dk_at dksX4_start_0 15 rfl rfl)
theorem dX4_start_18 : decode cX4_start 18 = .ok (.iconst 1, 1) := dk_4 (dk_at dksX4_start_0 18 rfl rfl)
theorem dX4_start_19 : decode cX4_start 19 = .ok (.putfield 165, 3) := dk_181 0 165 (dk_at dksX4_start_0 19 rfl rfl)
theorem dX4_start_22 : decode cX4_start 22 = .ok (.aload_n 0, 1) := dk_42 (dk_at dksX4_start_0 22 rfl rfl)
theorem dX4_start_23 : decode cX4_start 23 = .ok (.getfield 62, 3) := dk_180 0 62 (dk_at dksX4_start_1 0 rfl rfl)
theorem dX4_start_26 : decode cX4_start 26 = .ok (.aload_n 0, 1) := dk_42 (dk_at dksX4_start_1 3 rfl rfl)
theorem dX4_start_27 : decode cX4_start 27 = .ok (.getfield 3, 3) := dk_180 0 3 (dk_at dksX4_start_1 4 rfl rfl)
theorem dX4_start_30 : decode cX4_start 30 = .ok (.getfield 166, 3) := dk_180 0 166 (dk_at dksX4_start_1 7 rfl rfl)
theorem dX4_start_33 : decode cX4_start 33 = .ok (.putfield 169, 3) := dk_181 0 169 (dk_at dksX4_start_1 10 rfl rfl)
theorem dX4_start_36 : decode cX4_start 36 = .ok (.aload_n 0, 1) := dk_42 (dk_at dksX4_start_1 13 rfl rfl)
theorem dX4_start_37 : decode cX4_start 37 = .ok (.invokevirtual 98, 3) := dk_182 0 98 (dk_at dksX4_start_1 14 rfl rfl)
theorem dX4_start_40 : decode cX4_start 40 = .ok (.getfield 130, 3) := dk_180 0 130 (dk_at dksX4_start_1 17 rfl rfl)
theorem dX4_start_43 : decode cX4_start 43 = .ok (.iconst (-1), 1) := dk_2 (dk_at dksX4_start_1 20 rfl rfl)
theorem dX4_start_44 : decode cX4_start 44 = .ok (.if_icmp .eq 27, 3) := dk_159 0 27 (dk_at dksX4_start_1 21 rfl rfl)
theorem dX4_start_47 : decode cX4_start 47 = .ok (.aload_n 0, 1) := dk_42 (dk_at dksX4_start_2 0 rfl rfl)
theorem dX4_start_48 : decode cX4_start 48 = .ok (.getfield 3, 3) := dk_180 0 3 (dk_at dksX4_start_2 1 rfl rfl)
theorem dX4_start_51 : decode cX4_start 51 = .ok (.getfield 133, 3) := dk_180 0 133 (dk_at dksX4_start_2 4 rfl rfl)
theorem dX4_start_54 : decode cX4_start 54 = .ok (.aload_n 0, 1) := dk_42 (dk_at dksX4_start_2 7 rfl rfl)
theorem dX4_start_55 : decode cX4_start 55 = .ok (.invokevirtual 98, 3) := dk_182 0 98 (dk_at dksX4_start_2 8 rfl rfl)
theorem dX4_start_58 : decode cX4_start 58 = .ok (.getfield 130, 3) := dk_180 0 130 (dk_at dksX4_start_2 11 rfl rfl)
theorem dX4_start_61 : decode cX4_start 61 = .ok (.aaload, 1) := dk_50 (dk_at dksX4_start_2 14 rfl rfl)
theorem dX4_start_62 : decode cX4_start 62 = .ok (.dup, 1) := dk_89 (dk_at dksX4_start_2 15 rfl rfl)
theorem dX4_start_63 : decode cX4_start 63 = .ok (.getfield 172, 3) := dk_180 0 172 (dk_at dksX4_start_2 16 rfl rfl)
theorem dX4_start_66 : decode cX4_start 66 = .ok (.iconst 1, 1) := dk_4 (dk_at dksX4_start_2 19 rfl rfl)
theorem dX4_start_67 : decode cX4_start 67 = .ok (.iadd, 1) := dk_96 (dk_at dksX4_start_2 20 rfl rfl)
theorem dX4_start_68 : decode cX4_start 68 = .ok (.putfield 172, 3) := dk_181 0 172 (dk_at dksX4_start_2 21 rfl rfl)
theorem dX4_start_71 : decode cX4_start 71 = .ok (.aload_n 0, 1) := dk_42 (dk_at dksX4_start_3 0 rfl rfl)
theorem dX4_start_72 : decode cX4_start 72 = .ok (.invokevirtual 98, 3) := dk_182 0 98 (dk_at dksX4_start_3 1 rfl rfl)
theorem dX4_start_75 : decode cX4_start 75 = .ok (.getfield 142, 3) := dk_180 0 142 (dk_at dksX4_start_3 4 rfl rfl)
theorem dX4_start_78 : decode cX4_start 78 = .ok (.iconst (-1), 1) := dk_2 (dk_at dksX4_start_3 7 rfl rfl)
theorem dX4_start_79 : decode cX4_start 79 = .ok (.if_icmp .eq 27, 3) := dk_159 0 27 (dk_at dksX4_start_3 8 rfl rfl)
theorem dX4_start_82 : decode cX4_start 82 = .ok (.aload_n 0, 1) := dk_42 (dk_at dksX4_start_3 11 rfl rfl)
theorem dX4_start_83 : decode cX4_start 83 = .ok (.getfield 3, 3) := dk_180 0 3 (dk_at dksX4_start_3 12 rfl rfl)
theorem dX4_start_86 : decode cX4_start 86 = .ok (.getfield 133, 3) := dk_180 0 133 (dk_at dksX4_start_3 15 rfl rfl)
theorem dX4_start_89 : decode cX4_start 89 = .ok (.aload_n 0, 1) := dk_42 (dk_at dksX4_start_3 18 rfl rfl)
theorem dX4_start_90 : decode cX4_start 90 = .ok (.invokevirtual 98, 3) := dk_182 0 98 (dk_at dksX4_start_3 19 rfl rfl)
theorem dX4_start_93 : decode cX4_start 93 = .ok (.getfield 142, 3) := dk_180 0 142 (dk_at dksX4_start_4 0 rfl rfl)
theorem dX4_start_96 : decode cX4_start 96 = .ok (.aaload, 1) := dk_50 (dk_at dksX4_start_4 3 rfl rfl)
theorem dX4_start_97 : decode cX4_start 97 = .ok (.dup, 1) := dk_89 (dk_at dksX4_start_4 4 rfl rfl)
theorem dX4_start_98 : decode cX4_start 98 = .ok (.getfield 175, 3) := dk_180 0 175 (dk_at dksX4_start_4 5 rfl rfl)
theorem dX4_start_101 : decode cX4_start 101 = .ok (.iconst 1, 1) := dk_4 (dk_at dksX4_start_4 8 rfl rfl)
theorem dX4_start_102 : decode cX4_start 102 = .ok (.iadd, 1) := dk_96 (dk_at dksX4_start_4 9 rfl rfl)
theorem dX4_start_103 : decode cX4_start 103 = .ok (.putfield 175, 3) := dk_181 0 175 (dk_at dksX4_start_4 10 rfl rfl)
theorem dX4_start_106 : decode cX4_start 106 = .ok (.aload_n 0, 1) := dk_42 (dk_at dksX4_start_4 13 rfl rfl)
theorem dX4_start_107 : decode cX4_start 107 = .ok (.iconst 0, 1) := dk_3 (dk_at dksX4_start_4 14 rfl rfl)
theorem dX4_start_108 : decode cX4_start 108 = .ok (.putfield 69, 3) := dk_181 0 69 (dk_at dksX4_start_4 15 rfl rfl)
theorem dX4_start_111 : decode cX4_start 111 = .ok (.aload_n 0, 1) := dk_42 (dk_at dksX4_start_4 18 rfl rfl)
theorem dX4_start_112 : decode cX4_start 112 = .ok (.invokevirtual 178, 3) := dk_182 0 178 (dk_at dksX4_start_4 19 rfl rfl)
theorem dX4_start_115 : decode cX4_start 115 = .ok (.aload_n 0, 1) := dk_42 (dk_at dksX4_start_4 22 rfl rfl)
theorem dX4_start_116 : decode cX4_start 116 = .ok (.getfield 3, 3) := dk_180 0 3 (dk_at dksX4_start_5 0 rfl rfl)
theorem dX4_start_119 : decode cX4_start 119 = .ok (.aload_n 0, 1) := dk_42 (dk_at dksX4_start_5 3 rfl rfl)
theorem dX4_start_120 : decode cX4_start 120 = .ok (.getfield 26, 3) := dk_180 0 26 (dk_at dksX4_start_5 4 rfl rfl)
theorem dX4_start_123 : decode cX4_start 123 = .ok (.iconst 0, 1) := dk_3 (dk_at dksX4_start_5 7 rfl rfl)
theorem dX4_start_124 : decode cX4_start 124 = .ok (.aload_n 0, 1) := dk_42 (dk_at dksX4_start_5 8 rfl rfl)
theorem dX4_start_125 : decode cX4_start 125 = .ok (.invokevirtual 181, 3) := dk_182 0 181 (dk_at dksX4_start_5 9 rfl rfl)
theorem dX4_start_128 : decode cX4_start 128 = .ok (.invokevirtual 184, 3) := dk_182 0 184 (dk_at dksX4_start_5 12 rfl rfl)
theorem dX4_start_131 : decode cX4_start 131 = .ok (.return_, 1) := dk_177 (dk_at dksX4_start_5 15 rfl rfl)
abbrev cX4_work : ByteArray := prog_6_method_14_code
def yX4_work : MethodName := ⟨RX4, "work", "()V"⟩
def dkwX4_work_0 : List UInt8 := [42, 4, 181, 0, 66, 42, 42, 182, 0, 98, 180, 0, 188, 181, 0, 72, 177]
abbrev dktX4_work_0 : List UInt8 := dkwX4_work_0 ++ []
theorem dksX4_work_0 : cX4_work.data.toList.drop 0 = dktX4_work_0 := by decide +kernel
theorem dX4_work_0 : decode cX4_work 0 = .ok (.aload_n 0, 1) := dk_42 (dk_at dksX4_work_0 0 rfl rfl)
theorem dX4_work_1 : decode cX4_work 1 = .ok (.iconst 1, 1) := dk_4 (dk_at dksX4_work_0 1 rfl rfl)
theorem dX4_work_2 : decode cX4_work 2 = .ok (.putfield 66, 3) := dk_181 0 66 (dk_at dksX4_work_0 2 rfl rfl)
theorem dX4_work_5 : decode cX4_work 5 = .ok (.aload_n 0, 1) := dk_42 (dk_at dksX4_work_0 5 rfl rfl)
theorem dX4_work_6 : decode cX4_work 6 = .ok (.aload_n 0, 1) := dk_42 (dk_at dksX4_work_0 6 rfl rfl)
theorem dX4_work_7 : decode cX4_work 7 = .ok (.invokevirtual 98, 3) := dk_182 0 98 (dk_at dksX4_work_0 7 rfl rfl)
theorem dX4_work_10 : decode cX4_work 10 = .ok (.getfield 188, 3) := dk_180 0 188 (dk_at dksX4_work_0 10 rfl rfl)
theorem dX4_work_13 : decode cX4_work 13 = .ok (.putfield 72, 3) := dk_181 0 72 (dk_at dksX4_work_0 13 rfl rfl)
theorem dX4_work_16 : decode cX4_work 16 = .ok (.return_, 1) := dk_177 (dk_at dksX4_work_0 16 rfl rfl)
abbrev cX4_goOn : ByteArray := prog_6_method_16_code
def yX4_goOn : MethodName := ⟨RX4, "goOn", "()V"⟩
def dkwX4_goOn_3 : List UInt8 := [42, 6, 181, 0, 66, 42, 3, 181, 0, 72, 177]
abbrev dktX4_goOn_3 : List UInt8 := dkwX4_goOn_3 ++ []
def dkwX4_goOn_2 : List UInt8 := [181, 0, 72, 42, 5, 181, 0, 66, 42, 180, 0, 3, 42, 180, 0, 26, 4, 27, 182, 0, 184, 167, 0, 13]
abbrev dktX4_goOn_2 : List UInt8 := dkwX4_goOn_2 ++ dktX4_goOn_3
def dkwX4_goOn_1 : List UInt8 := [42, 182, 0, 98, 180, 0, 193, 7, 108, 96, 42, 27, 182, 0, 196, 153, 0, 7, 4, 167, 0, 4, 3, 96]
abbrev dktX4_goOn_1 : List UInt8 := dkwX4_goOn_1 ++ dktX4_goOn_2
def dkwX4_goOn_0 : List UInt8 := [42, 182, 0, 190, 153, 0, 68, 42, 182, 0, 98, 180, 0, 101, 42, 180, 0, 69, 4, 96, 46, 60, 42, 4]
abbrev dktX4_goOn_0 : List UInt8 := dkwX4_goOn_0 ++ dktX4_goOn_1
theorem dksX4_goOn_0 : cX4_goOn.data.toList.drop 0 = dktX4_goOn_0 := by decide +kernel
theorem dksX4_goOn_1 : cX4_goOn.data.toList.drop 24 = dktX4_goOn_1 := dk_seg dksX4_goOn_0 24 rfl rfl
theorem dksX4_goOn_2 : cX4_goOn.data.toList.drop 48 = dktX4_goOn_2 := dk_seg dksX4_goOn_1 24 rfl rfl
theorem dksX4_goOn_3 : cX4_goOn.data.toList.drop 72 = dktX4_goOn_3 := dk_seg dksX4_goOn_2 24 rfl rfl
theorem dX4_goOn_0 : decode cX4_goOn 0 = .ok (.aload_n 0, 1) := dk_42 (dk_at dksX4_goOn_0 0 rfl rfl)
theorem dX4_goOn_1 : decode cX4_goOn 1 = .ok (.invokevirtual 190, 3) := dk_182 0 190 (dk_at dksX4_goOn_0 1 rfl rfl)
theorem dX4_goOn_4 : decode cX4_goOn 4 = .ok (.ifCond .eq 68, 3) := dk_153 0 68 (dk_at dksX4_goOn_0 4 rfl rfl)
theorem dX4_goOn_7 : decode cX4_goOn 7 = .ok (.aload_n 0, 1) := dk_42 (dk_at dksX4_goOn_0 7 rfl rfl)
theorem dX4_goOn_8 : decode cX4_goOn 8 = .ok (.invokevirtual 98, 3) := dk_182 0 98 (dk_at dksX4_goOn_0 8 rfl rfl)
theorem dX4_goOn_11 : decode cX4_goOn 11 = .ok (.getfield 101, 3) := dk_180 0 101 (dk_at dksX4_goOn_0 11 rfl rfl)
theorem dX4_goOn_14 : decode cX4_goOn 14 = .ok (.aload_n 0, 1) := dk_42 (dk_at dksX4_goOn_0 14 rfl rfl)
theorem dX4_goOn_15 : decode cX4_goOn 15 = .ok (.getfield 69, 3) := dk_180 0 69 (dk_at dksX4_goOn_0 15 rfl rfl)
theorem dX4_goOn_18 : decode cX4_goOn 18 = .ok (.iconst 1, 1) := dk_4 (dk_at dksX4_goOn_0 18 rfl rfl)
theorem dX4_goOn_19 : decode cX4_goOn 19 = .ok (.iadd, 1) := dk_96 (dk_at dksX4_goOn_0 19 rfl rfl)
theorem dX4_goOn_20 : decode cX4_goOn 20 = .ok (.iaload, 1) := dk_46 (dk_at dksX4_goOn_0 20 rfl rfl)
theorem dX4_goOn_21 : decode cX4_goOn 21 = .ok (.istore_n 1, 1) := dk_60 (dk_at dksX4_goOn_0 21 rfl rfl)
theorem dX4_goOn_22 : decode cX4_goOn 22 = .ok (.aload_n 0, 1) := dk_42 (dk_at dksX4_goOn_0 22 rfl rfl)
theorem dX4_goOn_23 : decode cX4_goOn 23 = .ok (.iconst 1, 1) := dk_4 (dk_at dksX4_goOn_0 23 rfl rfl)
theorem dX4_goOn_24 : decode cX4_goOn 24 = .ok (.aload_n 0, 1) := dk_42 (dk_at dksX4_goOn_1 0 rfl rfl)
theorem dX4_goOn_25 : decode cX4_goOn 25 = .ok (.invokevirtual 98, 3) := dk_182 0 98 (dk_at dksX4_goOn_1 1 rfl rfl)
theorem dX4_goOn_28 : decode cX4_goOn 28 = .ok (.getfield 193, 3) := dk_180 0 193 (dk_at dksX4_goOn_1 4 rfl rfl)
theorem dX4_goOn_31 : decode cX4_goOn 31 = .ok (.iconst 4, 1) := dk_7 (dk_at dksX4_goOn_1 7 rfl rfl)
theorem dX4_goOn_32 : decode cX4_goOn 32 = .ok (.idiv, 1) := dk_108 (dk_at dksX4_goOn_1 8 rfl rfl)
theorem dX4_goOn_33 : decode cX4_goOn 33 = .ok (.iadd, 1) := dk_96 (dk_at dksX4_goOn_1 9 rfl rfl)
theorem dX4_goOn_34 : decode cX4_goOn 34 = .ok (.aload_n 0, 1) := dk_42 (dk_at dksX4_goOn_1 10 rfl rfl)
theorem dX4_goOn_35 : decode cX4_goOn 35 = .ok (.iload_n 1, 1) := dk_27 (dk_at dksX4_goOn_1 11 rfl rfl)
theorem dX4_goOn_36 : decode cX4_goOn 36 = .ok (.invokevirtual 196, 3) := dk_182 0 196 (dk_at dksX4_goOn_1 12 rfl rfl)
theorem dX4_goOn_39 : decode cX4_goOn 39 = .ok (.ifCond .eq 7, 3) := dk_153 0 7 (dk_at dksX4_goOn_1 15 rfl rfl)
theorem dX4_goOn_42 : decode cX4_goOn 42 = .ok (.iconst 1, 1) := dk_4 (dk_at dksX4_goOn_1 18 rfl rfl)
theorem dX4_goOn_43 : decode cX4_goOn 43 = .ok (.goto 4, 3) := dk_167 0 4 (dk_at dksX4_goOn_1 19 rfl rfl)
theorem dX4_goOn_46 : decode cX4_goOn 46 = .ok (.iconst 0, 1) := dk_3 (dk_at dksX4_goOn_1 22 rfl rfl)
theorem dX4_goOn_47 : decode cX4_goOn 47 = .ok (.iadd, 1) := dk_96 (dk_at dksX4_goOn_1 23 rfl rfl)
theorem dX4_goOn_48 : decode cX4_goOn 48 = .ok (.putfield 72, 3) := dk_181 0 72 (dk_at dksX4_goOn_2 0 rfl rfl)
theorem dX4_goOn_51 : decode cX4_goOn 51 = .ok (.aload_n 0, 1) := dk_42 (dk_at dksX4_goOn_2 3 rfl rfl)
theorem dX4_goOn_52 : decode cX4_goOn 52 = .ok (.iconst 2, 1) := dk_5 (dk_at dksX4_goOn_2 4 rfl rfl)
theorem dX4_goOn_53 : decode cX4_goOn 53 = .ok (.putfield 66, 3) := dk_181 0 66 (dk_at dksX4_goOn_2 5 rfl rfl)
theorem dX4_goOn_56 : decode cX4_goOn 56 = .ok (.aload_n 0, 1) := dk_42 (dk_at dksX4_goOn_2 8 rfl rfl)
theorem dX4_goOn_57 : decode cX4_goOn 57 = .ok (.getfield 3, 3) := dk_180 0 3 (dk_at dksX4_goOn_2 9 rfl rfl)
theorem dX4_goOn_60 : decode cX4_goOn 60 = .ok (.aload_n 0, 1) := dk_42 (dk_at dksX4_goOn_2 12 rfl rfl)
theorem dX4_goOn_61 : decode cX4_goOn 61 = .ok (.getfield 26, 3) := dk_180 0 26 (dk_at dksX4_goOn_2 13 rfl rfl)
theorem dX4_goOn_64 : decode cX4_goOn 64 = .ok (.iconst 1, 1) := dk_4 (dk_at dksX4_goOn_2 16 rfl rfl)
theorem dX4_goOn_65 : decode cX4_goOn 65 = .ok (.iload_n 1, 1) := dk_27 (dk_at dksX4_goOn_2 17 rfl rfl)
theorem dX4_goOn_66 : decode cX4_goOn 66 = .ok (.invokevirtual 184, 3) := dk_182 0 184 (dk_at dksX4_goOn_2 18 rfl rfl)
theorem dX4_goOn_69 : decode cX4_goOn 69 = .ok (.goto 13, 3) := dk_167 0 13 (dk_at dksX4_goOn_2 21 rfl rfl)
theorem dX4_goOn_72 : decode cX4_goOn 72 = .ok (.aload_n 0, 1) := dk_42 (dk_at dksX4_goOn_3 0 rfl rfl)
theorem dX4_goOn_73 : decode cX4_goOn 73 = .ok (.iconst 3, 1) := dk_6 (dk_at dksX4_goOn_3 1 rfl rfl)
theorem dX4_goOn_74 : decode cX4_goOn 74 = .ok (.putfield 66, 3) := dk_181 0 66 (dk_at dksX4_goOn_3 2 rfl rfl)
theorem dX4_goOn_77 : decode cX4_goOn 77 = .ok (.aload_n 0, 1) := dk_42 (dk_at dksX4_goOn_3 5 rfl rfl)
theorem dX4_goOn_78 : decode cX4_goOn 78 = .ok (.iconst 0, 1) := dk_3 (dk_at dksX4_goOn_3 6 rfl rfl)
theorem dX4_goOn_79 : decode cX4_goOn 79 = .ok (.putfield 72, 3) := dk_181 0 72 (dk_at dksX4_goOn_3 7 rfl rfl)
theorem dX4_goOn_82 : decode cX4_goOn 82 = .ok (.return_, 1) := dk_177 (dk_at dksX4_goOn_3 10 rfl rfl)
abbrev cX4_hasNeighbors : ByteArray := prog_6_method_15_code
def yX4_hasNeighbors : MethodName := ⟨RX4, "hasNeighbors", "(I)Z"⟩
def dkwX4_hasNeighbors_4 : List UInt8 := [172]
abbrev dktX4_hasNeighbors_4 : List UInt8 := dkwX4_hasNeighbors_4 ++ []
def dkwX4_hasNeighbors_3 : List UInt8 := [25, 7, 182, 0, 115, 28, 126, 153, 0, 7, 4, 167, 0, 4, 3, 128, 62, 132, 6, 1, 167, 255, 215, 29]
abbrev dktX4_hasNeighbors_3 : List UInt8 := dkwX4_hasNeighbors_3 ++ dktX4_hasNeighbors_4
def dkwX4_hasNeighbors_2 : List UInt8 := [54, 6, 21, 6, 21, 5, 162, 0, 40, 25, 4, 21, 6, 50, 58, 7, 29, 25, 7, 42, 165, 0, 17]
abbrev dktX4_hasNeighbors_2 : List UInt8 := dkwX4_hasNeighbors_2 ++ dktX4_hasNeighbors_3
def dkwX4_hasNeighbors_1 : List UInt8 := [27, 4, 96, 120, 128, 61, 3, 62, 42, 180, 0, 3, 180, 0, 111, 58, 4, 25, 4, 190, 54, 5, 3]
abbrev dktX4_hasNeighbors_1 : List UInt8 := dkwX4_hasNeighbors_1 ++ dktX4_hasNeighbors_2
def dkwX4_hasNeighbors_0 : List UInt8 := [27, 154, 0, 7, 3, 167, 0, 8, 4, 27, 4, 100, 120, 27, 16, 7, 160, 0, 7, 3, 167, 0, 8, 4]
abbrev dktX4_hasNeighbors_0 : List UInt8 := dkwX4_hasNeighbors_0 ++ dktX4_hasNeighbors_1
theorem dksX4_hasNeighbors_0 : cX4_hasNeighbors.data.toList.drop 0 = dktX4_hasNeighbors_0 := by decide +kernel
theorem dksX4_hasNeighbors_1 : cX4_hasNeighbors.data.toList.drop 24 = dktX4_hasNeighbors_1 := dk_seg dksX4_hasNeighbors_0 24 rfl rfl
theorem dksX4_hasNeighbors_2 : cX4_hasNeighbors.data.toList.drop 47 = dktX4_hasNeighbors_2 := dk_seg dksX4_hasNeighbors_1 23 rfl rfl
theorem dksX4_hasNeighbors_3 : cX4_hasNeighbors.data.toList.drop 70 = dktX4_hasNeighbors_3 := dk_seg dksX4_hasNeighbors_2 23 rfl rfl
theorem dksX4_hasNeighbors_4 : cX4_hasNeighbors.data.toList.drop 94 = dktX4_hasNeighbors_4 := dk_seg dksX4_hasNeighbors_3 24 rfl rfl
theorem dX4_hasNeighbors_0 : decode cX4_hasNeighbors 0 = .ok (.iload_n 1, 1) := dk_27 (dk_at dksX4_hasNeighbors_0 0 rfl rfl)
theorem dX4_hasNeighbors_1 : decode cX4_hasNeighbors 1 = .ok (.ifCond .ne 7, 3) := dk_154 0 7 (dk_at dksX4_hasNeighbors_0 1 rfl rfl)
theorem dX4_hasNeighbors_4 : decode cX4_hasNeighbors 4 = .ok (.iconst 0, 1) := dk_3 (dk_at dksX4_hasNeighbors_0 4 rfl rfl)
theorem dX4_hasNeighbors_5 : decode cX4_hasNeighbors 5 = .ok (.goto 8, 3) := dk_167 0 8 (dk_at dksX4_hasNeighbors_0 5 rfl rfl)
theorem dX4_hasNeighbors_8 : decode cX4_hasNeighbors 8 = .ok (.iconst 1, 1) := dk_4 (dk_at dksX4_hasNeighbors_0 8 rfl rfl)
theorem dX4_hasNeighbors_9 : decode cX4_hasNeighbors 9 = .ok (.iload_n 1, 1) := dk_27 (dk_at dksX4_hasNeighbors_0 9 rfl rfl)
theorem dX4_hasNeighbors_10 : decode cX4_hasNeighbors 10 = .ok (.iconst 1, 1) := dk_4 (dk_at dksX4_hasNeighbors_0 10 rfl rfl)
theorem dX4_hasNeighbors_11 : decode cX4_hasNeighbors 11 = .ok (.isub, 1) := dk_100 (dk_at dksX4_hasNeighbors_0 11 rfl rfl)
theorem dX4_hasNeighbors_12 : decode cX4_hasNeighbors 12 = .ok (.ishl, 1) := dk_120 (dk_at dksX4_hasNeighbors_0 12 rfl rfl)
theorem dX4_hasNeighbors_13 : decode cX4_hasNeighbors 13 = .ok (.iload_n 1, 1) := dk_27 (dk_at dksX4_hasNeighbors_0 13 rfl rfl)
theorem dX4_hasNeighbors_14 : decode cX4_hasNeighbors 14 = .ok (.bipush 7, 2) := dk_16 7 (dk_at dksX4_hasNeighbors_0 14 rfl rfl)
theorem dX4_hasNeighbors_16 : decode cX4_hasNeighbors 16 = .ok (.if_icmp .ne 7, 3) := dk_160 0 7 (dk_at dksX4_hasNeighbors_0 16 rfl rfl)
theorem dX4_hasNeighbors_19 : decode cX4_hasNeighbors 19 = .ok (.iconst 0, 1) := dk_3 (dk_at dksX4_hasNeighbors_0 19 rfl rfl)
theorem dX4_hasNeighbors_20 : decode cX4_hasNeighbors 20 = .ok (.goto 8, 3) := dk_167 0 8 (dk_at dksX4_hasNeighbors_0 20 rfl rfl)
theorem dX4_hasNeighbors_23 : decode cX4_hasNeighbors 23 = .ok (.iconst 1, 1) := dk_4 (dk_at dksX4_hasNeighbors_0 23 rfl rfl)
theorem dX4_hasNeighbors_24 : decode cX4_hasNeighbors 24 = .ok (.iload_n 1, 1) := dk_27 (dk_at dksX4_hasNeighbors_1 0 rfl rfl)
theorem dX4_hasNeighbors_25 : decode cX4_hasNeighbors 25 = .ok (.iconst 1, 1) := dk_4 (dk_at dksX4_hasNeighbors_1 1 rfl rfl)
theorem dX4_hasNeighbors_26 : decode cX4_hasNeighbors 26 = .ok (.iadd, 1) := dk_96 (dk_at dksX4_hasNeighbors_1 2 rfl rfl)
theorem dX4_hasNeighbors_27 : decode cX4_hasNeighbors 27 = .ok (.ishl, 1) := dk_120 (dk_at dksX4_hasNeighbors_1 3 rfl rfl)
theorem dX4_hasNeighbors_28 : decode cX4_hasNeighbors 28 = .ok (.ior, 1) := dk_128 (dk_at dksX4_hasNeighbors_1 4 rfl rfl)
theorem dX4_hasNeighbors_29 : decode cX4_hasNeighbors 29 = .ok (.istore_n 2, 1) := dk_61 (dk_at dksX4_hasNeighbors_1 5 rfl rfl)
theorem dX4_hasNeighbors_30 : decode cX4_hasNeighbors 30 = .ok (.iconst 0, 1) := dk_3 (dk_at dksX4_hasNeighbors_1 6 rfl rfl)
theorem dX4_hasNeighbors_31 : decode cX4_hasNeighbors 31 = .ok (.istore_n 3, 1) := dk_62 (dk_at dksX4_hasNeighbors_1 7 rfl rfl)
theorem dX4_hasNeighbors_32 : decode cX4_hasNeighbors 32 = .ok (.aload_n 0, 1) := dk_42 (dk_at dksX4_hasNeighbors_1 8 rfl rfl)
theorem dX4_hasNeighbors_33 : decode cX4_hasNeighbors 33 = .ok (.getfield 3, 3) := dk_180 0 3 (dk_at dksX4_hasNeighbors_1 9 rfl rfl)
theorem dX4_hasNeighbors_36 : decode cX4_hasNeighbors 36 = .ok (.getfield 111, 3) := dk_180 0 111 (dk_at dksX4_hasNeighbors_1 12 rfl rfl)
theorem dX4_hasNeighbors_39 : decode cX4_hasNeighbors 39 = .ok (.astore 4, 2) := dk_58 4 (dk_at dksX4_hasNeighbors_1 15 rfl rfl)
theorem dX4_hasNeighbors_41 : decode cX4_hasNeighbors 41 = .ok (.aload 4, 2) := dk_25 4 (dk_at dksX4_hasNeighbors_1 17 rfl rfl)
theorem dX4_hasNeighbors_43 : decode cX4_hasNeighbors 43 = .ok (.arraylength, 1) := dk_190 (dk_at dksX4_hasNeighbors_1 19 rfl rfl)
theorem dX4_hasNeighbors_44 : decode cX4_hasNeighbors 44 = .ok (.istore 5, 2) := dk_54 5 (dk_at dksX4_hasNeighbors_1 20 rfl rfl)
theorem dX4_hasNeighbors_46 : decode cX4_hasNeighbors 46 = .ok (.iconst 0, 1) := dk_3 (dk_at dksX4_hasNeighbors_1 22 rfl rfl)
theorem dX4_hasNeighbors_47 : decode cX4_hasNeighbors 47 = .ok (.istore 6, 2) := dk_54 6 (dk_at dksX4_hasNeighbors_2 0 rfl rfl)
theorem dX4_hasNeighbors_49 : decode cX4_hasNeighbors 49 = .ok (.iload 6, 2) := dk_21 6 (dk_at dksX4_hasNeighbors_2 2 rfl rfl)
theorem dX4_hasNeighbors_51 : decode cX4_hasNeighbors 51 = .ok (.iload 5, 2) := dk_21 5 (dk_at dksX4_hasNeighbors_2 4 rfl rfl)
theorem dX4_hasNeighbors_53 : decode cX4_hasNeighbors 53 = .ok (.if_icmp .ge 40, 3) := dk_162 0 40 (dk_at dksX4_hasNeighbors_2 6 rfl rfl)
theorem dX4_hasNeighbors_56 : decode cX4_hasNeighbors 56 = .ok (.aload 4, 2) := dk_25 4 (dk_at dksX4_hasNeighbors_2 9 rfl rfl)
theorem dX4_hasNeighbors_58 : decode cX4_hasNeighbors 58 = .ok (.iload 6, 2) := dk_21 6 (dk_at dksX4_hasNeighbors_2 11 rfl rfl)
theorem dX4_hasNeighbors_60 : decode cX4_hasNeighbors 60 = .ok (.aaload, 1) := dk_50 (dk_at dksX4_hasNeighbors_2 13 rfl rfl)
theorem dX4_hasNeighbors_61 : decode cX4_hasNeighbors 61 = .ok (.astore 7, 2) := dk_58 7 (dk_at dksX4_hasNeighbors_2 14 rfl rfl)
theorem dX4_hasNeighbors_63 : decode cX4_hasNeighbors 63 = .ok (.iload_n 3, 1) := dk_29 (dk_at dksX4_hasNeighbors_2 16 rfl rfl)
theorem dX4_hasNeighbors_64 : decode cX4_hasNeighbors 64 = .ok (.aload 7, 2) := dk_25 7 (dk_at dksX4_hasNeighbors_2 17 rfl rfl)
theorem dX4_hasNeighbors_66 : decode cX4_hasNeighbors 66 = .ok (.aload_n 0, 1) := dk_42 (dk_at dksX4_hasNeighbors_2 19 rfl rfl)
theorem dX4_hasNeighbors_67 : decode cX4_hasNeighbors 67 = .ok (.if_acmp .eq 17, 3) := dk_165 0 17 (dk_at dksX4_hasNeighbors_2 20 rfl rfl)
theorem dX4_hasNeighbors_70 : decode cX4_hasNeighbors 70 = .ok (.aload 7, 2) := dk_25 7 (dk_at dksX4_hasNeighbors_3 0 rfl rfl)
theorem dX4_hasNeighbors_72 : decode cX4_hasNeighbors 72 = .ok (.invokevirtual 115, 3) := dk_182 0 115 (dk_at dksX4_hasNeighbors_3 2 rfl rfl)
theorem dX4_hasNeighbors_75 : decode cX4_hasNeighbors 75 = .ok (.iload_n 2, 1) := dk_28 (dk_at dksX4_hasNeighbors_3 5 rfl rfl)
theorem dX4_hasNeighbors_76 : decode cX4_hasNeighbors 76 = .ok (.iand, 1) := dk_126 (dk_at dksX4_hasNeighbors_3 6 rfl rfl)
theorem dX4_hasNeighbors_77 : decode cX4_hasNeighbors 77 = .ok (.ifCond .eq 7, 3) := dk_153 0 7 (dk_at dksX4_hasNeighbors_3 7 rfl rfl)
theorem dX4_hasNeighbors_80 : decode cX4_hasNeighbors 80 = .ok (.iconst 1, 1) := dk_4 (dk_at dksX4_hasNeighbors_3 10 rfl rfl)
theorem dX4_hasNeighbors_81 : decode cX4_hasNeighbors 81 = .ok (.goto 4, 3) := dk_167 0 4 (dk_at dksX4_hasNeighbors_3 11 rfl rfl)
theorem dX4_hasNeighbors_84 : decode cX4_hasNeighbors 84 = .ok (.iconst 0, 1) := dk_3 (dk_at dksX4_hasNeighbors_3 14 rfl rfl)
theorem dX4_hasNeighbors_85 : decode cX4_hasNeighbors 85 = .ok (.ior, 1) := dk_128 (dk_at dksX4_hasNeighbors_3 15 rfl rfl)
theorem dX4_hasNeighbors_86 : decode cX4_hasNeighbors 86 = .ok (.istore_n 3, 1) := dk_62 (dk_at dksX4_hasNeighbors_3 16 rfl rfl)
theorem dX4_hasNeighbors_87 : decode cX4_hasNeighbors 87 = .ok (.iinc 6 1, 3) := dk_132 6 1 (dk_at dksX4_hasNeighbors_3 17 rfl rfl)
theorem dX4_hasNeighbors_90 : decode cX4_hasNeighbors 90 = .ok (.goto (-41), 3) := dk_167 255 215 (dk_at dksX4_hasNeighbors_3 20 rfl rfl)
theorem dX4_hasNeighbors_93 : decode cX4_hasNeighbors 93 = .ok (.iload_n 3, 1) := dk_29 (dk_at dksX4_hasNeighbors_3 23 rfl rfl)
theorem dX4_hasNeighbors_94 : decode cX4_hasNeighbors 94 = .ok (.ireturn, 1) := dk_172 (dk_at dksX4_hasNeighbors_4 0 rfl rfl)
abbrev cX4_finishWork : ByteArray := prog_6_method_19_code
def yX4_finishWork : MethodName := ⟨RX4, "finishWork", "()V"⟩
def dkwX4_finishWork_0 : List UInt8 := [42, 182, 0, 222, 153, 0, 10, 42, 182, 0, 223, 167, 0, 7, 42, 182, 0, 226, 177]
abbrev dktX4_finishWork_0 : List UInt8 := dkwX4_finishWork_0 ++ []
theorem dksX4_finishWork_0 : cX4_finishWork.data.toList.drop 0 = dktX4_finishWork_0 := by decide +kernel
theorem dX4_finishWork_0 : decode cX4_finishWork 0 = .ok (.aload_n 0, 1) := dk_42 (dk_at dksX4_finishWork_0 0 rfl rfl)
theorem dX4_finishWork_1 : decode cX4_finishWork 1 = .ok (.invokevirtual 222, 3) := dk_182 0 222 (dk_at dksX4_finishWork_0 1 rfl rfl)
theorem dX4_finishWork_4 : decode cX4_finishWork 4 = .ok (.ifCond .eq 10, 3) := dk_153 0 10 (dk_at dksX4_finishWork_0 4 rfl rfl)
theorem dX4_finishWork_7 : decode cX4_finishWork 7 = .ok (.aload_n 0, 1) := dk_42 (dk_at dksX4_finishWork_0 7 rfl rfl)
theorem dX4_finishWork_8 : decode cX4_finishWork 8 = .ok (.invokevirtual 223, 3) := dk_182 0 223 (dk_at dksX4_finishWork_0 8 rfl rfl)
theorem dX4_finishWork_11 : decode cX4_finishWork 11 = .ok (.goto 7, 3) := dk_167 0 7 (dk_at dksX4_finishWork_0 11 rfl rfl)
theorem dX4_finishWork_14 : decode cX4_finishWork 14 = .ok (.aload_n 0, 1) := dk_42 (dk_at dksX4_finishWork_0 14 rfl rfl)
theorem dX4_finishWork_15 : decode cX4_finishWork 15 = .ok (.invokevirtual 226, 3) := dk_182 0 226 (dk_at dksX4_finishWork_0 15 rfl rfl)
theorem dX4_finishWork_18 : decode cX4_finishWork 18 = .ok (.return_, 1) := dk_177 (dk_at dksX4_finishWork_0 18 rfl rfl)
abbrev cX4_hasNext : ByteArray := prog_6_method_7_code
def yX4_hasNext : MethodName := ⟨RX4, "hasNext", "()Z"⟩
def dkwX4_hasNext_0 : List UInt8 := [42, 182, 0, 107, 4, 96, 42, 182, 0, 98, 180, 0, 101, 190, 162, 0, 7, 4, 167, 0, 4, 3, 172]
abbrev dktX4_hasNext_0 : List UInt8 := dkwX4_hasNext_0 ++ []
theorem dksX4_hasNext_0 : cX4_hasNext.data.toList.drop 0 = dktX4_hasNext_0 := by decide +kernel
theorem dX4_hasNext_0 : decode cX4_hasNext 0 = .ok (.aload_n 0, 1) := dk_42 (dk_at dksX4_hasNext_0 0 rfl rfl)
theorem dX4_hasNext_1 : decode cX4_hasNext 1 = .ok (.invokevirtual 107, 3) := dk_182 0 107 (dk_at dksX4_hasNext_0 1 rfl rfl)
theorem dX4_hasNext_4 : decode cX4_hasNext 4 = .ok (.iconst 1, 1) := dk_4 (dk_at dksX4_hasNext_0 4 rfl rfl)
theorem dX4_hasNext_5 : decode cX4_hasNext 5 = .ok (.iadd, 1) := dk_96 (dk_at dksX4_hasNext_0 5 rfl rfl)
theorem dX4_hasNext_6 : decode cX4_hasNext 6 = .ok (.aload_n 0, 1) := dk_42 (dk_at dksX4_hasNext_0 6 rfl rfl)
theorem dX4_hasNext_7 : decode cX4_hasNext 7 = .ok (.invokevirtual 98, 3) := dk_182 0 98 (dk_at dksX4_hasNext_0 7 rfl rfl)
theorem dX4_hasNext_10 : decode cX4_hasNext 10 = .ok (.getfield 101, 3) := dk_180 0 101 (dk_at dksX4_hasNext_0 10 rfl rfl)
theorem dX4_hasNext_13 : decode cX4_hasNext 13 = .ok (.arraylength, 1) := dk_190 (dk_at dksX4_hasNext_0 13 rfl rfl)
theorem dX4_hasNext_14 : decode cX4_hasNext 14 = .ok (.if_icmp .ge 7, 3) := dk_162 0 7 (dk_at dksX4_hasNext_0 14 rfl rfl)
theorem dX4_hasNext_17 : decode cX4_hasNext 17 = .ok (.iconst 1, 1) := dk_4 (dk_at dksX4_hasNext_0 17 rfl rfl)
theorem dX4_hasNext_18 : decode cX4_hasNext 18 = .ok (.goto 4, 3) := dk_167 0 4 (dk_at dksX4_hasNext_0 18 rfl rfl)
theorem dX4_hasNext_21 : decode cX4_hasNext 21 = .ok (.iconst 0, 1) := dk_3 (dk_at dksX4_hasNext_0 21 rfl rfl)
theorem dX4_hasNext_22 : decode cX4_hasNext 22 = .ok (.ireturn, 1) := dk_172 (dk_at dksX4_hasNext_0 22 rfl rfl)
abbrev cX4_end : ByteArray := prog_6_method_17_code
def yX4_end : MethodName := ⟨RX4, "end", "()V"⟩
def dkwX4_end_8 : List UInt8 := [180, 0, 3, 89, 180, 0, 219, 4, 96, 181, 0, 219, 42, 1, 181, 0, 62, 42, 3, 181, 0, 66, 177]
abbrev dktX4_end_8 : List UInt8 := dkwX4_end_8 ++ []
def dkwX4_end_7 : List UInt8 := [180, 0, 216, 42, 180, 0, 62, 180, 0, 213, 42, 180, 0, 62, 180, 0, 169, 100, 96, 181, 0, 216, 42]
abbrev dktX4_end_7 : List UInt8 := dkwX4_end_7 ++ dktX4_end_8
def dkwX4_end_6 : List UInt8 := [5, 181, 0, 165, 42, 180, 0, 62, 42, 180, 0, 3, 180, 0, 166, 181, 0, 213, 42, 180, 0, 3, 89]
abbrev dktX4_end_6 : List UInt8 := dkwX4_end_6 ++ dktX4_end_7
def dkwX4_end_5 : List UInt8 := [96, 181, 0, 210, 42, 180, 0, 3, 42, 180, 0, 26, 6, 42, 182, 0, 181, 182, 0, 184, 42, 180, 0, 62]
abbrev dktX4_end_5 : List UInt8 := dkwX4_end_5 ++ dktX4_end_6
def dkwX4_end_4 : List UInt8 := [167, 0, 4, 27, 182, 0, 206, 167, 0, 21, 27, 2, 159, 0, 16, 42, 180, 0, 3, 89, 180, 0, 210, 4]
abbrev dktX4_end_4 : List UInt8 := dkwX4_end_4 ++ dktX4_end_5
def dkwX4_end_3 : List UInt8 := [89, 180, 0, 175, 4, 100, 181, 0, 175, 44, 27, 2, 160, 0, 13, 42, 180, 0, 3, 182, 0, 203]
abbrev dktX4_end_3 : List UInt8 := dkwX4_end_3 ++ dktX4_end_4
def dkwX4_end_2 : List UInt8 := [180, 0, 142, 2, 159, 0, 52, 42, 180, 0, 3, 180, 0, 133, 42, 182, 0, 98, 180, 0, 142, 50, 77, 44]
abbrev dktX4_end_2 : List UInt8 := dkwX4_end_2 ++ dktX4_end_3
def dkwX4_end_1 : List UInt8 := [180, 0, 130, 50, 77, 44, 182, 0, 200, 60, 44, 89, 180, 0, 172, 4, 100, 181, 0, 172, 42, 182, 0, 98]
abbrev dktX4_end_1 : List UInt8 := dkwX4_end_1 ++ dktX4_end_2
def dkwX4_end_0 : List UInt8 := [2, 60, 42, 182, 0, 98, 180, 0, 130, 2, 159, 0, 34, 42, 180, 0, 3, 180, 0, 133, 42, 182, 0, 98]
abbrev dktX4_end_0 : List UInt8 := dkwX4_end_0 ++ dktX4_end_1
theorem dksX4_end_0 : cX4_end.data.toList.drop 0 = dktX4_end_0 := by decide +kernel
theorem dksX4_end_1 : cX4_end.data.toList.drop 24 = dktX4_end_1 := dk_seg dksX4_end_0 24 rfl rfl
theorem dksX4_end_2 : cX4_end.data.toList.drop 48 = dktX4_end_2 := dk_seg dksX4_end_1 24 rfl rfl
theorem dksX4_end_3 : cX4_end.data.toList.drop 72 = dktX4_end_3 := dk_seg dksX4_end_2 24 rfl rfl
theorem dksX4_end_4 : cX4_end.data.toList.drop 94 = dktX4_end_4 := dk_seg dksX4_end_3 22 rfl rfl
theorem dksX4_end_5 : cX4_end.data.toList.drop 118 = dktX4_end_5 := dk_seg dksX4_end_4 24 rfl rfl
theorem dksX4_end_6 : cX4_end.data.toList.drop 142 = dktX4_end_6 := dk_seg dksX4_end_5 24 rfl rfl
theorem dksX4_end_7 : cX4_end.data.toList.drop 165 = dktX4_end_7 := dk_seg dksX4_end_6 23 rfl rfl
theorem dksX4_end_8 : cX4_end.data.toList.drop 188 = dktX4_end_8 := dk_seg dksX4_end_7 23 rfl rfl
theorem dX4_end_0 : decode cX4_end 0 = .ok (.iconst (-1), 1) := dk_2 (dk_at dksX4_end_0 0 rfl rfl)
theorem dX4_end_1 : decode cX4_end 1 = .ok (.istore_n 1, 1) := dk_60 (dk_at dksX4_end_0 1 rfl rfl)
theorem dX4_end_2 : decode cX4_end 2 = .ok (.aload_n 0, 1) := dk_42 (dk_at dksX4_end_0 2 rfl rfl)
theorem dX4_end_3 : decode cX4_end 3 = .ok (.invokevirtual 98, 3) := dk_182 0 98 (dk_at dksX4_end_0 3 rfl rfl)
theorem dX4_end_6 : decode cX4_end 6 = .ok (.getfield 130, 3) := dk_180 0 130 (dk_at dksX4_end_0 6 rfl rfl)
theorem dX4_end_9 : decode cX4_end 9 = .ok (.iconst (-1), 1) := dk_2 (dk_at dksX4_end_0 9 rfl rfl)
theorem dX4_end_10 : decode cX4_end 10 = .ok (.if_icmp .eq 34, 3) := dk_159 0 34 (dk_at dksX4_end_0 10 rfl rfl)
theorem dX4_end_13 : decode cX4_end 13 = .ok (.aload_n 0, 1) := dk_42 (dk_at dksX4_end_0 13 rfl rfl)
theorem dX4_end_14 : decode cX4_end 14 = .ok (.getfield 3, 3) := dk_180 0 3 (dk_at dksX4_end_0 14 rfl rfl)
theorem dX4_end_17 : decode cX4_end 17 = .ok (.getfield 133, 3) := dk_180 0 133 (dk_at dksX4_end_0 17 rfl rfl)
theorem dX4_end_20 : decode cX4_end 20 = .ok (.aload_n 0, 1) := dk_42 (dk_at dksX4_end_0 20 rfl rfl)
theorem dX4_end_21 : decode cX4_end 21 = .ok (.invokevirtual 98, 3) := dk_182 0 98 (dk_at dksX4_end_0 21 rfl rfl)
theorem dX4_end_24 : decode cX4_end 24 = .ok (.getfield 130, 3) := dk_180 0 130 (dk_at dksX4_end_1 0 rfl rfl)
theorem dX4_end_27 : decode cX4_end 27 = .ok (.aaload, 1) := dk_50 (dk_at dksX4_end_1 3 rfl rfl)
theorem dX4_end_28 : decode cX4_end 28 = .ok (.astore_n 2, 1) := dk_77 (dk_at dksX4_end_1 4 rfl rfl)
theorem dX4_end_29 : decode cX4_end 29 = .ok (.aload_n 2, 1) := dk_44 (dk_at dksX4_end_1 5 rfl rfl)
theorem dX4_end_30 : decode cX4_end 30 = .ok (.invokevirtual 200, 3) := dk_182 0 200 (dk_at dksX4_end_1 6 rfl rfl)
theorem dX4_end_33 : decode cX4_end 33 = .ok (.istore_n 1, 1) := dk_60 (dk_at dksX4_end_1 9 rfl rfl)
theorem dX4_end_34 : decode cX4_end 34 = .ok (.aload_n 2, 1) := dk_44 (dk_at dksX4_end_1 10 rfl rfl)
theorem dX4_end_35 : decode cX4_end 35 = .ok (.dup, 1) := dk_89 (dk_at dksX4_end_1 11 rfl rfl)
theorem dX4_end_36 : decode cX4_end 36 = .ok (.getfield 172, 3) := dk_180 0 172 (dk_at dksX4_end_1 12 rfl rfl)
theorem dX4_end_39 : decode cX4_end 39 = .ok (.iconst 1, 1) := dk_4 (dk_at dksX4_end_1 15 rfl rfl)
theorem dX4_end_40 : decode cX4_end 40 = .ok (.isub, 1) := dk_100 (dk_at dksX4_end_1 16 rfl rfl)
theorem dX4_end_41 : decode cX4_end 41 = .ok (.putfield 172, 3) := dk_181 0 172 (dk_at dksX4_end_1 17 rfl rfl)
theorem dX4_end_44 : decode cX4_end 44 = .ok (.aload_n 0, 1) := dk_42 (dk_at dksX4_end_1 20 rfl rfl)
theorem dX4_end_45 : decode cX4_end 45 = .ok (.invokevirtual 98, 3) := dk_182 0 98 (dk_at dksX4_end_1 21 rfl rfl)
theorem dX4_end_48 : decode cX4_end 48 = .ok (.getfield 142, 3) := dk_180 0 142 (dk_at dksX4_end_2 0 rfl rfl)
theorem dX4_end_51 : decode cX4_end 51 = .ok (.iconst (-1), 1) := dk_2 (dk_at dksX4_end_2 3 rfl rfl)
theorem dX4_end_52 : decode cX4_end 52 = .ok (.if_icmp .eq 52, 3) := dk_159 0 52 (dk_at dksX4_end_2 4 rfl rfl)
theorem dX4_end_55 : decode cX4_end 55 = .ok (.aload_n 0, 1) := dk_42 (dk_at dksX4_end_2 7 rfl rfl)
theorem dX4_end_56 : decode cX4_end 56 = .ok (.getfield 3, 3) := dk_180 0 3 (dk_at dksX4_end_2 8 rfl rfl)
theorem dX4_end_59 : decode cX4_end 59 = .ok (.getfield 133, 3) := dk_180 0 133 (dk_at dksX4_end_2 11 rfl rfl)
theorem dX4_end_62 : decode cX4_end 62 = .ok (.aload_n 0, 1) := dk_42 (dk_at dksX4_end_2 14 rfl rfl)
theorem dX4_end_63 : decode cX4_end 63 = .ok (.invokevirtual 98, 3) := dk_182 0 98 (dk_at dksX4_end_2 15 rfl rfl)
theorem dX4_end_66 : decode cX4_end 66 = .ok (.getfield 142, 3) := dk_180 0 142 (dk_at dksX4_end_2 18 rfl rfl)
theorem dX4_end_69 : decode cX4_end 69 = .ok (.aaload, 1) := dk_50 (dk_at dksX4_end_2 21 rfl rfl)
theorem dX4_end_70 : decode cX4_end 70 = .ok (.astore_n 2, 1) := dk_77 (dk_at dksX4_end_2 22 rfl rfl)
theorem dX4_end_71 : decode cX4_end 71 = .ok (.aload_n 2, 1) := dk_44 (dk_at dksX4_end_2 23 rfl rfl)
theorem dX4_end_72 : decode cX4_end 72 = .ok (.dup, 1) := dk_89 (dk_at dksX4_end_3 0 rfl rfl)
theorem dX4_end_73 : decode cX4_end 73 = .ok (.getfield 175, 3) := dk_180 0 175 (dk_at dksX4_end_3 1 rfl rfl)
theorem dX4_end_76 : decode cX4_end 76 = .ok (.iconst 1, 1) := dk_4 (dk_at dksX4_end_3 4 rfl rfl)
theorem dX4_end_77 : decode cX4_end 77 = .ok (.isub, 1) := dk_100 (dk_at dksX4_end_3 5 rfl rfl)
theorem dX4_end_78 : decode cX4_end 78 = .ok (.putfield 175, 3) := dk_181 0 175 (dk_at dksX4_end_3 6 rfl rfl)
theorem dX4_end_81 : decode cX4_end 81 = .ok (.aload_n 2, 1) := dk_44 (dk_at dksX4_end_3 9 rfl rfl)
theorem dX4_end_82 : decode cX4_end 82 = .ok (.iload_n 1, 1) := dk_27 (dk_at dksX4_end_3 10 rfl rfl)
theorem dX4_end_83 : decode cX4_end 83 = .ok (.iconst (-1), 1) := dk_2 (dk_at dksX4_end_3 11 rfl rfl)
theorem dX4_end_84 : decode cX4_end 84 = .ok (.if_icmp .ne 13, 3) := dk_160 0 13 (dk_at dksX4_end_3 12 rfl rfl)
theorem dX4_end_87 : decode cX4_end 87 = .ok (.aload_n 0, 1) := dk_42 (dk_at dksX4_end_3 15 rfl rfl)
theorem dX4_end_88 : decode cX4_end 88 = .ok (.getfield 3, 3) := dk_180 0 3 (dk_at dksX4_end_3 16 rfl rfl)
theorem dX4_end_91 : decode cX4_end 91 = .ok (.invokevirtual 203, 3) := dk_182 0 203 (dk_at dksX4_end_3 19 rfl rfl)
theorem dX4_end_94 : decode cX4_end 94 = .ok (.goto 4, 3) := dk_167 0 4 (dk_at dksX4_end_4 0 rfl rfl)
theorem dX4_end_97 : decode cX4_end 97 = .ok (.iload_n 1, 1) := dk_27 (dk_at dksX4_end_4 3 rfl rfl)
theorem dX4_end_98 : decode cX4_end 98 = .ok (.invokevirtual 206, 3) := dk_182 0 206 (dk_at dksX4_end_4 4 rfl rfl)
theorem dX4_end_101 : decode cX4_end 101 = .ok (.goto 21, 3) := dk_167 0 21 (dk_at dksX4_end_4 7 rfl rfl)
theorem dX4_end_104 : decode cX4_end 104 = .ok (.iload_n 1, 1) := dk_27 (dk_at dksX4_end_4 10 rfl rfl)
theorem dX4_end_105 : decode cX4_end 105 = .ok (.iconst (-1), 1) := dk_2 (dk_at dksX4_end_4 11 rfl rfl)
theorem dX4_end_106 : decode cX4_end 106 = .ok (.if_icmp .eq 16, 3) := dk_159 0 16 (dk_at dksX4_end_4 12 rfl rfl)
theorem dX4_end_109 : decode cX4_end 109 = .ok (.aload_n 0, 1) := dk_42 (dk_at dksX4_end_4 15 rfl rfl)
theorem dX4_end_110 : decode cX4_end 110 = .ok (.getfield 3, 3) := dk_180 0 3 (dk_at dksX4_end_4 16 rfl rfl)
theorem dX4_end_113 : decode cX4_end 113 = .ok (.dup, 1) := dk_89 (dk_at dksX4_end_4 19 rfl rfl)
theorem dX4_end_114 : decode cX4_end 114 = .ok (.getfield 210, 3) := dk_180 0 210 (dk_at dksX4_end_4 20 rfl rfl)
theorem dX4_end_117 : decode cX4_end 117 = .ok (.iconst 1, 1) := dk_4 (dk_at dksX4_end_4 23 rfl rfl)
theorem dX4_end_118 : decode cX4_end 118 = .ok (.iadd, 1) := dk_96 (dk_at dksX4_end_5 0 rfl rfl)
theorem dX4_end_119 : decode cX4_end 119 = .ok (.putfield 210, 3) := dk_181 0 210 (dk_at dksX4_end_5 1 rfl rfl)
theorem dX4_end_122 : decode cX4_end 122 = .ok (.aload_n 0, 1) := dk_42 (dk_at dksX4_end_5 4 rfl rfl)
theorem dX4_end_123 : decode cX4_end 123 = .ok (.getfield 3, 3) := dk_180 0 3 (dk_at dksX4_end_5 5 rfl rfl)
theorem dX4_end_126 : decode cX4_end 126 = .ok (.aload_n 0, 1) := dk_42 (dk_at dksX4_end_5 8 rfl rfl)
theorem dX4_end_127 : decode cX4_end 127 = .ok (.getfield 26, 3) := dk_180 0 26 (dk_at dksX4_end_5 9 rfl rfl)
theorem dX4_end_130 : decode cX4_end 130 = .ok (.iconst 3, 1) := dk_6 (dk_at dksX4_end_5 12 rfl rfl)
theorem dX4_end_131 : decode cX4_end 131 = .ok (.aload_n 0, 1) := dk_42 (dk_at dksX4_end_5 13 rfl rfl)
theorem dX4_end_132 : decode cX4_end 132 = .ok (.invokevirtual 181, 3) := dk_182 0 181 (dk_at dksX4_end_5 14 rfl rfl)
theorem dX4_end_135 : decode cX4_end 135 = .ok (.invokevirtual 184, 3) := dk_182 0 184 (dk_at dksX4_end_5 17 rfl rfl)
theorem dX4_end_138 : decode cX4_end 138 = .ok (.aload_n 0, 1) := dk_42 (dk_at dksX4_end_5 20 rfl rfl)
theorem dX4_end_139 : decode cX4_end 139 = .ok (.getfield 62, 3) := dk_180 0 62 (dk_at dksX4_end_5 21 rfl rfl)
theorem dX4_end_142 : decode cX4_end 142 = .ok (.iconst 2, 1) := dk_5 (dk_at dksX4_end_6 0 rfl rfl)
theorem dX4_end_143 : decode cX4_end 143 = .ok (.putfield 165, 3) := dk_181 0 165 (dk_at dksX4_end_6 1 rfl rfl)
theorem dX4_end_146 : decode cX4_end 146 = .ok (.aload_n 0, 1) := dk_42 (dk_at dksX4_end_6 4 rfl rfl)
theorem dX4_end_147 : decode cX4_end 147 = .ok (.getfield 62, 3) := dk_180 0 62 (dk_at dksX4_end_6 5 rfl rfl)
theorem dX4_end_150 : decode cX4_end 150 = .ok (.aload_n 0, 1) := dk_42 (dk_at dksX4_end_6 8 rfl rfl)
theorem dX4_end_151 : decode cX4_end 151 = .ok (.getfield 3, 3) := dk_180 0 3 (dk_at dksX4_end_6 9 rfl rfl)
theorem dX4_end_154 : decode cX4_end 154 = .ok (.getfield 166, 3) := dk_180 0 166 (dk_at dksX4_end_6 12 rfl rfl)
theorem dX4_end_157 : decode cX4_end 157 = .ok (.putfield 213, 3) := dk_181 0 213 (dk_at dksX4_end_6 15 rfl rfl)
theorem dX4_end_160 : decode cX4_end 160 = .ok (.aload_n 0, 1) := dk_42 (dk_at dksX4_end_6 18 rfl rfl)
theorem dX4_end_161 : decode cX4_end 161 = .ok (.getfield 3, 3) := dk_180 0 3 (dk_at dksX4_end_6 19 rfl rfl)
theorem dX4_end_164 : decode cX4_end 164 = .ok (.dup, 1) := dk_89 (dk_at dksX4_end_6 22 rfl rfl)
theorem dX4_end_165 : decode cX4_end 165 = .ok (.getfield 216, 3) := dk_180 0 216 (dk_at dksX4_end_7 0 rfl rfl)
theorem dX4_end_168 : decode cX4_end 168 = .ok (.aload_n 0, 1) := dk_42 (dk_at dksX4_end_7 3 rfl rfl)
theorem dX4_end_169 : decode cX4_end 169 = .ok (.getfield 62, 3) := dk_180 0 62 (dk_at dksX4_end_7 4 rfl rfl)
theorem dX4_end_172 : decode cX4_end 172 = .ok (.getfield 213, 3) := dk_180 0 213 (dk_at dksX4_end_7 7 rfl rfl)
theorem dX4_end_175 : decode cX4_end 175 = .ok (.aload_n 0, 1) := dk_42 (dk_at dksX4_end_7 10 rfl rfl)
theorem dX4_end_176 : decode cX4_end 176 = .ok (.getfield 62, 3) := dk_180 0 62 (dk_at dksX4_end_7 11 rfl rfl)
theorem dX4_end_179 : decode cX4_end 179 = .ok (.getfield 169, 3) := dk_180 0 169 (dk_at dksX4_end_7 14 rfl rfl)
theorem dX4_end_182 : decode cX4_end 182 = .ok (.isub, 1) := dk_100 (dk_at dksX4_end_7 17 rfl rfl)
theorem dX4_end_183 : decode cX4_end 183 = .ok (.iadd, 1) := dk_96 (dk_at dksX4_end_7 18 rfl rfl)
theorem dX4_end_184 : decode cX4_end 184 = .ok (.putfield 216, 3) := dk_181 0 216 (dk_at dksX4_end_7 19 rfl rfl)
theorem dX4_end_187 : decode cX4_end 187 = .ok (.aload_n 0, 1) := dk_42 (dk_at dksX4_end_7 22 rfl rfl)
theorem dX4_end_188 : decode cX4_end 188 = .ok (.getfield 3, 3) := dk_180 0 3 (dk_at dksX4_end_8 0 rfl rfl)
theorem dX4_end_191 : decode cX4_end 191 = .ok (.dup, 1) := dk_89 (dk_at dksX4_end_8 3 rfl rfl)
theorem dX4_end_192 : decode cX4_end 192 = .ok (.getfield 219, 3) := dk_180 0 219 (dk_at dksX4_end_8 4 rfl rfl)
theorem dX4_end_195 : decode cX4_end 195 = .ok (.iconst 1, 1) := dk_4 (dk_at dksX4_end_8 7 rfl rfl)
theorem dX4_end_196 : decode cX4_end 196 = .ok (.iadd, 1) := dk_96 (dk_at dksX4_end_8 8 rfl rfl)
theorem dX4_end_197 : decode cX4_end 197 = .ok (.putfield 219, 3) := dk_181 0 219 (dk_at dksX4_end_8 9 rfl rfl)
theorem dX4_end_200 : decode cX4_end 200 = .ok (.aload_n 0, 1) := dk_42 (dk_at dksX4_end_8 12 rfl rfl)
theorem dX4_end_201 : decode cX4_end 201 = .ok (.aconst_null, 1) := dk_1 (dk_at dksX4_end_8 13 rfl rfl)
theorem dX4_end_202 : decode cX4_end 202 = .ok (.putfield 62, 3) := dk_181 0 62 (dk_at dksX4_end_8 14 rfl rfl)
theorem dX4_end_205 : decode cX4_end 205 = .ok (.aload_n 0, 1) := dk_42 (dk_at dksX4_end_8 17 rfl rfl)
theorem dX4_end_206 : decode cX4_end 206 = .ok (.iconst 0, 1) := dk_3 (dk_at dksX4_end_8 18 rfl rfl)
theorem dX4_end_207 : decode cX4_end 207 = .ok (.putfield 66, 3) := dk_181 0 66 (dk_at dksX4_end_8 19 rfl rfl)
theorem dX4_end_210 : decode cX4_end 210 = .ok (.return_, 1) := dk_177 (dk_at dksX4_end_8 22 rfl rfl)
abbrev cX4_arrive : ByteArray := prog_6_method_18_code
def yX4_arrive : MethodName := ⟨RX4, "arrive", "()V"⟩
def dkwX4_arrive_1 : List UInt8 := [180, 0, 26, 5, 27, 182, 0, 184, 177]
abbrev dktX4_arrive_1 : List UInt8 := dkwX4_arrive_1 ++ []
def dkwX4_arrive_0 : List UInt8 := [42, 182, 0, 181, 60, 42, 89, 180, 0, 69, 4, 96, 181, 0, 69, 42, 182, 0, 178, 42, 180, 0, 3, 42]
abbrev dktX4_arrive_0 : List UInt8 := dkwX4_arrive_0 ++ dktX4_arrive_1
theorem dksX4_arrive_0 : cX4_arrive.data.toList.drop 0 = dktX4_arrive_0 := by decide +kernel
theorem dksX4_arrive_1 : cX4_arrive.data.toList.drop 24 = dktX4_arrive_1 := dk_seg dksX4_arrive_0 24 rfl rfl
theorem dX4_arrive_0 : decode cX4_arrive 0 = .ok (.aload_n 0, 1) := dk_42 (dk_at dksX4_arrive_0 0 rfl rfl)
theorem dX4_arrive_1 : decode cX4_arrive 1 = .ok (.invokevirtual 181, 3) := dk_182 0 181 (dk_at dksX4_arrive_0 1 rfl rfl)
theorem dX4_arrive_4 : decode cX4_arrive 4 = .ok (.istore_n 1, 1) := dk_60 (dk_at dksX4_arrive_0 4 rfl rfl)
theorem dX4_arrive_5 : decode cX4_arrive 5 = .ok (.aload_n 0, 1) := dk_42 (dk_at dksX4_arrive_0 5 rfl rfl)
theorem dX4_arrive_6 : decode cX4_arrive 6 = .ok (.dup, 1) := dk_89 (dk_at dksX4_arrive_0 6 rfl rfl)
theorem dX4_arrive_7 : decode cX4_arrive 7 = .ok (.getfield 69, 3) := dk_180 0 69 (dk_at dksX4_arrive_0 7 rfl rfl)
theorem dX4_arrive_10 : decode cX4_arrive 10 = .ok (.iconst 1, 1) := dk_4 (dk_at dksX4_arrive_0 10 rfl rfl)
theorem dX4_arrive_11 : decode cX4_arrive 11 = .ok (.iadd, 1) := dk_96 (dk_at dksX4_arrive_0 11 rfl rfl)
theorem dX4_arrive_12 : decode cX4_arrive 12 = .ok (.putfield 69, 3) := dk_181 0 69 (dk_at dksX4_arrive_0 12 rfl rfl)
theorem dX4_arrive_15 : decode cX4_arrive 15 = .ok (.aload_n 0, 1) := dk_42 (dk_at dksX4_arrive_0 15 rfl rfl)
theorem dX4_arrive_16 : decode cX4_arrive 16 = .ok (.invokevirtual 178, 3) := dk_182 0 178 (dk_at dksX4_arrive_0 16 rfl rfl)
theorem dX4_arrive_19 : decode cX4_arrive 19 = .ok (.aload_n 0, 1) := dk_42 (dk_at dksX4_arrive_0 19 rfl rfl)
theorem dX4_arrive_20 : decode cX4_arrive 20 = .ok (.getfield 3, 3) := dk_180 0 3 (dk_at dksX4_arrive_0 20 rfl rfl)
theorem dX4_arrive_23 : decode cX4_arrive 23 = .ok (.aload_n 0, 1) := dk_42 (dk_at dksX4_arrive_0 23 rfl rfl)
theorem dX4_arrive_24 : decode cX4_arrive 24 = .ok (.getfield 26, 3) := dk_180 0 26 (dk_at dksX4_arrive_1 0 rfl rfl)
theorem dX4_arrive_27 : decode cX4_arrive 27 = .ok (.iconst 2, 1) := dk_5 (dk_at dksX4_arrive_1 3 rfl rfl)
theorem dX4_arrive_28 : decode cX4_arrive 28 = .ok (.iload_n 1, 1) := dk_27 (dk_at dksX4_arrive_1 4 rfl rfl)
theorem dX4_arrive_29 : decode cX4_arrive 29 = .ok (.invokevirtual 184, 3) := dk_182 0 184 (dk_at dksX4_arrive_1 5 rfl rfl)
theorem dX4_arrive_32 : decode cX4_arrive 32 = .ok (.return_, 1) := dk_177 (dk_at dksX4_arrive_1 8 rfl rfl)
abbrev cX4_count : ByteArray := prog_6_method_21_code
def yX4_count : MethodName := ⟨RX4, "count", "()V"⟩
def dkwX4_count_3 : List UInt8 := [4, 167, 0, 4, 3, 96, 79, 132, 1, 1, 167, 255, 219, 177]
abbrev dktX4_count_3 : List UInt8 := dkwX4_count_3 ++ []
def dkwX4_count_2 : List UInt8 := [162, 0, 37, 42, 180, 0, 3, 180, 0, 241, 27, 92, 46, 42, 182, 0, 115, 27, 184, 0, 244, 153, 0, 7]
abbrev dktX4_count_2 : List UInt8 := dkwX4_count_2 ++ dktX4_count_3
def dkwX4_count_1 : List UInt8 := [180, 0, 87, 42, 180, 0, 66, 154, 0, 7, 3, 167, 0, 4, 4, 96, 181, 0, 87, 3, 60, 27, 16, 8]
abbrev dktX4_count_1 : List UInt8 := dkwX4_count_1 ++ dktX4_count_2
def dkwX4_count_0 : List UInt8 := [42, 42, 180, 0, 90, 153, 0, 12, 42, 180, 0, 75, 4, 96, 167, 0, 4, 3, 181, 0, 75, 42, 89]
abbrev dktX4_count_0 : List UInt8 := dkwX4_count_0 ++ dktX4_count_1
theorem dksX4_count_0 : cX4_count.data.toList.drop 0 = dktX4_count_0 := by decide +kernel
theorem dksX4_count_1 : cX4_count.data.toList.drop 23 = dktX4_count_1 := dk_seg dksX4_count_0 23 rfl rfl
theorem dksX4_count_2 : cX4_count.data.toList.drop 47 = dktX4_count_2 := dk_seg dksX4_count_1 24 rfl rfl
theorem dksX4_count_3 : cX4_count.data.toList.drop 71 = dktX4_count_3 := dk_seg dksX4_count_2 24 rfl rfl
theorem dX4_count_0 : decode cX4_count 0 = .ok (.aload_n 0, 1) := dk_42 (dk_at dksX4_count_0 0 rfl rfl)
theorem dX4_count_1 : decode cX4_count 1 = .ok (.aload_n 0, 1) := dk_42 (dk_at dksX4_count_0 1 rfl rfl)
theorem dX4_count_2 : decode cX4_count 2 = .ok (.getfield 90, 3) := dk_180 0 90 (dk_at dksX4_count_0 2 rfl rfl)
theorem dX4_count_5 : decode cX4_count 5 = .ok (.ifCond .eq 12, 3) := dk_153 0 12 (dk_at dksX4_count_0 5 rfl rfl)
theorem dX4_count_8 : decode cX4_count 8 = .ok (.aload_n 0, 1) := dk_42 (dk_at dksX4_count_0 8 rfl rfl)
theorem dX4_count_9 : decode cX4_count 9 = .ok (.getfield 75, 3) := dk_180 0 75 (dk_at dksX4_count_0 9 rfl rfl)
theorem dX4_count_12 : decode cX4_count 12 = .ok (.iconst 1, 1) := dk_4 (dk_at dksX4_count_0 12 rfl rfl)
theorem dX4_count_13 : decode cX4_count 13 = .ok (.iadd, 1) := dk_96 (dk_at dksX4_count_0 13 rfl rfl)
theorem dX4_count_14 : decode cX4_count 14 = .ok (.goto 4, 3) := dk_167 0 4 (dk_at dksX4_count_0 14 rfl rfl)
theorem dX4_count_17 : decode cX4_count 17 = .ok (.iconst 0, 1) := dk_3 (dk_at dksX4_count_0 17 rfl rfl)
theorem dX4_count_18 : decode cX4_count 18 = .ok (.putfield 75, 3) := dk_181 0 75 (dk_at dksX4_count_0 18 rfl rfl)
theorem dX4_count_21 : decode cX4_count 21 = .ok (.aload_n 0, 1) := dk_42 (dk_at dksX4_count_0 21 rfl rfl)
theorem dX4_count_22 : decode cX4_count 22 = .ok (.dup, 1) := dk_89 (dk_at dksX4_count_0 22 rfl rfl)
theorem dX4_count_23 : decode cX4_count 23 = .ok (.getfield 87, 3) := dk_180 0 87 (dk_at dksX4_count_1 0 rfl rfl)
theorem dX4_count_26 : decode cX4_count 26 = .ok (.aload_n 0, 1) := dk_42 (dk_at dksX4_count_1 3 rfl rfl)
theorem dX4_count_27 : decode cX4_count 27 = .ok (.getfield 66, 3) := dk_180 0 66 (dk_at dksX4_count_1 4 rfl rfl)
theorem dX4_count_30 : decode cX4_count 30 = .ok (.ifCond .ne 7, 3) := dk_154 0 7 (dk_at dksX4_count_1 7 rfl rfl)
theorem dX4_count_33 : decode cX4_count 33 = .ok (.iconst 0, 1) := dk_3 (dk_at dksX4_count_1 10 rfl rfl)
theorem dX4_count_34 : decode cX4_count 34 = .ok (.goto 4, 3) := dk_167 0 4 (dk_at dksX4_count_1 11 rfl rfl)
theorem dX4_count_37 : decode cX4_count 37 = .ok (.iconst 1, 1) := dk_4 (dk_at dksX4_count_1 14 rfl rfl)
theorem dX4_count_38 : decode cX4_count 38 = .ok (.iadd, 1) := dk_96 (dk_at dksX4_count_1 15 rfl rfl)
theorem dX4_count_39 : decode cX4_count 39 = .ok (.putfield 87, 3) := dk_181 0 87 (dk_at dksX4_count_1 16 rfl rfl)
theorem dX4_count_42 : decode cX4_count 42 = .ok (.iconst 0, 1) := dk_3 (dk_at dksX4_count_1 19 rfl rfl)
theorem dX4_count_43 : decode cX4_count 43 = .ok (.istore_n 1, 1) := dk_60 (dk_at dksX4_count_1 20 rfl rfl)
theorem dX4_count_44 : decode cX4_count 44 = .ok (.iload_n 1, 1) := dk_27 (dk_at dksX4_count_1 21 rfl rfl)
theorem dX4_count_45 : decode cX4_count 45 = .ok (.bipush 8, 2) := dk_16 8 (dk_at dksX4_count_1 22 rfl rfl)
theorem dX4_count_47 : decode cX4_count 47 = .ok (.if_icmp .ge 37, 3) := dk_162 0 37 (dk_at dksX4_count_2 0 rfl rfl)
theorem dX4_count_50 : decode cX4_count 50 = .ok (.aload_n 0, 1) := dk_42 (dk_at dksX4_count_2 3 rfl rfl)
theorem dX4_count_51 : decode cX4_count 51 = .ok (.getfield 3, 3) := dk_180 0 3 (dk_at dksX4_count_2 4 rfl rfl)
theorem dX4_count_54 : decode cX4_count 54 = .ok (.getfield 241, 3) := dk_180 0 241 (dk_at dksX4_count_2 7 rfl rfl)
theorem dX4_count_57 : decode cX4_count 57 = .ok (.iload_n 1, 1) := dk_27 (dk_at dksX4_count_2 10 rfl rfl)
theorem dX4_count_58 : decode cX4_count 58 = .ok (.dup2, 1) := dk_92 (dk_at dksX4_count_2 11 rfl rfl)
theorem dX4_count_59 : decode cX4_count 59 = .ok (.iaload, 1) := dk_46 (dk_at dksX4_count_2 12 rfl rfl)
theorem dX4_count_60 : decode cX4_count 60 = .ok (.aload_n 0, 1) := dk_42 (dk_at dksX4_count_2 13 rfl rfl)
theorem dX4_count_61 : decode cX4_count 61 = .ok (.invokevirtual 115, 3) := dk_182 0 115 (dk_at dksX4_count_2 14 rfl rfl)
theorem dX4_count_64 : decode cX4_count 64 = .ok (.iload_n 1, 1) := dk_27 (dk_at dksX4_count_2 17 rfl rfl)
theorem dX4_count_65 : decode cX4_count 65 = .ok (.invokestatic 244, 3) := dk_184 0 244 (dk_at dksX4_count_2 18 rfl rfl)
theorem dX4_count_68 : decode cX4_count 68 = .ok (.ifCond .eq 7, 3) := dk_153 0 7 (dk_at dksX4_count_2 21 rfl rfl)
theorem dX4_count_71 : decode cX4_count 71 = .ok (.iconst 1, 1) := dk_4 (dk_at dksX4_count_3 0 rfl rfl)
theorem dX4_count_72 : decode cX4_count 72 = .ok (.goto 4, 3) := dk_167 0 4 (dk_at dksX4_count_3 1 rfl rfl)
theorem dX4_count_75 : decode cX4_count 75 = .ok (.iconst 0, 1) := dk_3 (dk_at dksX4_count_3 4 rfl rfl)
theorem dX4_count_76 : decode cX4_count 76 = .ok (.iadd, 1) := dk_96 (dk_at dksX4_count_3 5 rfl rfl)
theorem dX4_count_77 : decode cX4_count 77 = .ok (.iastore, 1) := dk_79 (dk_at dksX4_count_3 6 rfl rfl)
theorem dX4_count_78 : decode cX4_count 78 = .ok (.iinc 1 1, 3) := dk_132 1 1 (dk_at dksX4_count_3 7 rfl rfl)
theorem dX4_count_81 : decode cX4_count 81 = .ok (.goto (-37), 3) := dk_167 255 219 (dk_at dksX4_count_3 10 rfl rfl)
theorem dX4_count_84 : decode cX4_count 84 = .ok (.return_, 1) := dk_177 (dk_at dksX4_count_3 13 rfl rfl)
theorem q130 : (Jvm.Cond.initialized "RobotCell$Cell$Arm") ∈ lw_all := lw_g (lw_at lw_m1 37 rfl) rfl
theorem q863 : (Jvm.Cond.selects "RobotCell$Cell$Arm" ({ cls := "java/lang/Object", name := "toString", desc := "()Ljava/lang/String;" } : Jvm.MethodName) ({ cls := "java/lang/Object", name := "toString", desc := "()Ljava/lang/String;" } : Jvm.MethodName)) ∈ lw_all := lw_g (lw_at lw_m4 50 rfl) rfl
theorem q883 : (Jvm.Cond.selects "RobotCell$Cell$Arm" ({ cls := "java/lang/Object", name := "getClass", desc := "()Ljava/lang/Class;" } : Jvm.MethodName) ({ cls := "java/lang/Object", name := "getClass", desc := "()Ljava/lang/Class;" } : Jvm.MethodName)) ∈ lw_all := lw_g (lw_at lw_m4 70 rfl) rfl
theorem q1151 : (Jvm.Cond.fieldLinkNest "RobotCell$Cell$Arm" (175 : Nat) "RobotCell$Buffer" "promisedPlaces" "I" "RobotCell") ∈ lw_tbl := lw_at lw_m5 98 rfl
theorem q1154 : (Jvm.Cond.fieldLinkNest "RobotCell$Cell$Arm" (172 : Nat) "RobotCell$Buffer" "promisedParts" "I" "RobotCell") ∈ lw_tbl := lw_at lw_m5 101 rfl
theorem q1171 : (Jvm.Cond.instantiable "RobotCell$Cell$Arm" (14 : Nat)) ∈ lw_all := lw_g (lw_at lw_m5 118 rfl) rfl
theorem q1173 : (Jvm.Cond.instanceMethod ({ cls := "RobotCell$Cell$Arm", name := "<init>", desc := "(LRobotCell$Cell;I)V" } : Jvm.MethodName)) ∈ lw_all := lw_g (lw_at lw_m5 120 rfl) rfl
theorem q1174 : (Jvm.Cond.code ({ cls := "RobotCell$Cell$Arm", name := "<init>", desc := "(LRobotCell$Cell;I)V" } : Jvm.MethodName) prog_6_method_1_code (3 : Nat) (Option.none : Option Jvm.ClassFile.FieldType)) ∈ lw_all := lw_g (lw_at lw_m5 121 rfl) rfl
theorem q1175 : (Jvm.Cond.methodLink "RobotCell$Cell$Arm" (9 : Nat) ({ cls := "java/lang/Object", name := "<init>", desc := "()V" } : Jvm.MethodName)) ∈ lw_all := lw_g (lw_at lw_m5 122 rfl) rfl
theorem q1176 : (Jvm.Cond.classLink "RobotCell$Cell$Arm" (19 : Nat) "java/util/ArrayDeque") ∈ lw_all := lw_g (lw_at lw_m5 123 rfl) rfl
theorem q1177 : (Jvm.Cond.methodLink "RobotCell$Cell$Arm" (21 : Nat) ({ cls := "java/util/ArrayDeque", name := "<init>", desc := "()V" } : Jvm.MethodName)) ∈ lw_all := lw_g (lw_at lw_m5 124 rfl) rfl
theorem q1178 : (Jvm.Cond.fieldLink "RobotCell$Cell$Arm" (26 : Nat) "RobotCell$Cell$Arm" "number" "I") ∈ lw_all := lw_g (lw_at lw_m5 125 rfl) rfl
theorem q1180 : (Jvm.Cond.fieldLink "RobotCell$Cell$Arm" (15 : Nat) "RobotCell$Cell$Arm" "reach" "I") ∈ lw_all := lw_g (lw_at lw_m5 127 rfl) rfl
theorem q1182 : (Jvm.Cond.fieldLink "RobotCell$Cell$Arm" (22 : Nat) "RobotCell$Cell$Arm" "row" "Ljava/util/ArrayDeque;") ∈ lw_all := lw_g (lw_at lw_m5 129 rfl) rfl
theorem q1185 : (Jvm.Cond.fieldLink "RobotCell$Cell$Arm" (62 : Nat) "RobotCell$Cell$Arm" "job" "LRobotCell$Job;") ∈ lw_all := lw_g (lw_at lw_m5 132 rfl) rfl
theorem q1187 : (Jvm.Cond.fieldLink "RobotCell$Cell$Arm" (66 : Nat) "RobotCell$Cell$Arm" "state" "I") ∈ lw_all := lw_g (lw_at lw_m5 134 rfl) rfl
theorem q1190 : (Jvm.Cond.fieldLink "RobotCell$Cell$Arm" (69 : Nat) "RobotCell$Cell$Arm" "place" "I") ∈ lw_all := lw_g (lw_at lw_m5 137 rfl) rfl
theorem q1191 : (Jvm.Cond.fieldLink "RobotCell$Cell$Arm" (72 : Nat) "RobotCell$Cell$Arm" "toGo" "I") ∈ lw_all := lw_g (lw_at lw_m5 138 rfl) rfl
theorem q1192 : (Jvm.Cond.fieldLink "RobotCell$Cell$Arm" (75 : Nat) "RobotCell$Cell$Arm" "patience" "I") ∈ lw_all := lw_g (lw_at lw_m5 139 rfl) rfl
theorem q1195 : (Jvm.Cond.fieldLink "RobotCell$Cell$Arm" (78 : Nat) "RobotCell$Cell$Arm" "reason" "I") ∈ lw_all := lw_g (lw_at lw_m5 142 rfl) rfl
theorem q1197 : (Jvm.Cond.fieldLink "RobotCell$Cell$Arm" (81 : Nat) "RobotCell$Cell$Arm" "detail" "I") ∈ lw_all := lw_g (lw_at lw_m5 144 rfl) rfl
theorem q1199 : (Jvm.Cond.fieldLink "RobotCell$Cell$Arm" (84 : Nat) "RobotCell$Cell$Arm" "refusals" "I") ∈ lw_all := lw_g (lw_at lw_m5 146 rfl) rfl
theorem q1201 : (Jvm.Cond.fieldLink "RobotCell$Cell$Arm" (87 : Nat) "RobotCell$Cell$Arm" "busyTicks" "I") ∈ lw_all := lw_g (lw_at lw_m5 148 rfl) rfl
theorem q1203 : (Jvm.Cond.fieldLink "RobotCell$Cell$Arm" (90 : Nat) "RobotCell$Cell$Arm" "wasRefused" "Z") ∈ lw_all := lw_g (lw_at lw_m5 150 rfl) rfl
theorem q1204 : (Jvm.Cond.fieldLink "RobotCell$Cell$Arm" (3 : Nat) "RobotCell$Cell$Arm" "this$0" "LRobotCell$Cell;") ∈ lw_all := lw_g (lw_at lw_m5 151 rfl) rfl
theorem q1205 : (Jvm.Cond.laysFinal "RobotCell$Cell$Arm" "RobotCell$Cell$Arm" "number" "I") ∈ lw_all := lw_g (lw_at lw_m5 152 rfl) rfl
theorem q1206 : (Jvm.Cond.soleField "RobotCell$Cell$Arm" "number") ∈ lw_all := lw_g (lw_at lw_m5 153 rfl) rfl
theorem q1207 : (Jvm.Cond.lays "RobotCell$Cell$Arm" "RobotCell$Cell$Arm" "reach" "I") ∈ lw_all := lw_g (lw_at lw_m5 154 rfl) rfl
theorem q1208 : (Jvm.Cond.soleField "RobotCell$Cell$Arm" "reach") ∈ lw_all := lw_g (lw_at lw_m5 155 rfl) rfl
theorem q1209 : (Jvm.Cond.laysFinal "RobotCell$Cell$Arm" "RobotCell$Cell$Arm" "row" "Ljava/util/ArrayDeque;") ∈ lw_all := lw_g (lw_at lw_m5 156 rfl) rfl
theorem q1210 : (Jvm.Cond.soleField "RobotCell$Cell$Arm" "row") ∈ lw_all := lw_g (lw_at lw_m5 157 rfl) rfl
theorem q1211 : (Jvm.Cond.lays "RobotCell$Cell$Arm" "RobotCell$Cell$Arm" "job" "LRobotCell$Job;") ∈ lw_all := lw_g (lw_at lw_m5 158 rfl) rfl
theorem q1212 : (Jvm.Cond.soleField "RobotCell$Cell$Arm" "job") ∈ lw_all := lw_g (lw_at lw_m5 159 rfl) rfl
theorem q1213 : (Jvm.Cond.lays "RobotCell$Cell$Arm" "RobotCell$Cell$Arm" "state" "I") ∈ lw_all := lw_g (lw_at lw_m5 160 rfl) rfl
theorem q1214 : (Jvm.Cond.soleField "RobotCell$Cell$Arm" "state") ∈ lw_all := lw_g (lw_at lw_m5 161 rfl) rfl
theorem q1215 : (Jvm.Cond.lays "RobotCell$Cell$Arm" "RobotCell$Cell$Arm" "place" "I") ∈ lw_all := lw_g (lw_at lw_m5 162 rfl) rfl
theorem q1216 : (Jvm.Cond.soleField "RobotCell$Cell$Arm" "place") ∈ lw_all := lw_g (lw_at lw_m5 163 rfl) rfl
theorem q1217 : (Jvm.Cond.lays "RobotCell$Cell$Arm" "RobotCell$Cell$Arm" "toGo" "I") ∈ lw_all := lw_g (lw_at lw_m5 164 rfl) rfl
theorem q1218 : (Jvm.Cond.soleField "RobotCell$Cell$Arm" "toGo") ∈ lw_all := lw_g (lw_at lw_m5 165 rfl) rfl
theorem q1219 : (Jvm.Cond.lays "RobotCell$Cell$Arm" "RobotCell$Cell$Arm" "patience" "I") ∈ lw_all := lw_g (lw_at lw_m5 166 rfl) rfl
theorem q1220 : (Jvm.Cond.soleField "RobotCell$Cell$Arm" "patience") ∈ lw_all := lw_g (lw_at lw_m5 167 rfl) rfl
theorem q1221 : (Jvm.Cond.lays "RobotCell$Cell$Arm" "RobotCell$Cell$Arm" "reason" "I") ∈ lw_all := lw_g (lw_at lw_m5 168 rfl) rfl
theorem q1222 : (Jvm.Cond.soleField "RobotCell$Cell$Arm" "reason") ∈ lw_all := lw_g (lw_at lw_m5 169 rfl) rfl
theorem q1223 : (Jvm.Cond.lays "RobotCell$Cell$Arm" "RobotCell$Cell$Arm" "detail" "I") ∈ lw_all := lw_g (lw_at lw_m5 170 rfl) rfl
theorem q1224 : (Jvm.Cond.soleField "RobotCell$Cell$Arm" "detail") ∈ lw_all := lw_g (lw_at lw_m5 171 rfl) rfl
theorem q1225 : (Jvm.Cond.lays "RobotCell$Cell$Arm" "RobotCell$Cell$Arm" "refusals" "I") ∈ lw_all := lw_g (lw_at lw_m5 172 rfl) rfl
theorem q1226 : (Jvm.Cond.soleField "RobotCell$Cell$Arm" "refusals") ∈ lw_all := lw_g (lw_at lw_m5 173 rfl) rfl
theorem q1227 : (Jvm.Cond.lays "RobotCell$Cell$Arm" "RobotCell$Cell$Arm" "busyTicks" "I") ∈ lw_all := lw_g (lw_at lw_m5 174 rfl) rfl
theorem q1228 : (Jvm.Cond.soleField "RobotCell$Cell$Arm" "busyTicks") ∈ lw_all := lw_g (lw_at lw_m5 175 rfl) rfl
theorem q1229 : (Jvm.Cond.lays "RobotCell$Cell$Arm" "RobotCell$Cell$Arm" "wasRefused" "Z") ∈ lw_all := lw_g (lw_at lw_m5 176 rfl) rfl
theorem q1230 : (Jvm.Cond.soleField "RobotCell$Cell$Arm" "wasRefused") ∈ lw_all := lw_g (lw_at lw_m5 177 rfl) rfl
theorem q1231 : (Jvm.Cond.laysFinal "RobotCell$Cell$Arm" "RobotCell$Cell$Arm" "this$0" "LRobotCell$Cell;") ∈ lw_all := lw_g (lw_at lw_m5 178 rfl) rfl
theorem q1232 : (Jvm.Cond.soleField "RobotCell$Cell$Arm" "this$0") ∈ lw_all := lw_g (lw_at lw_m5 179 rfl) rfl
theorem q1233 : (Jvm.Cond.superclass "RobotCell$Cell$Arm" "java/lang/Object") ∈ lw_all := lw_g (lw_at lw_m5 180 rfl) rfl
theorem q1238 : (Jvm.Cond.fieldLinkNest "RobotCell$Cell$Arm" (133 : Nat) "RobotCell$Cell" "buffers" "[LRobotCell$Buffer;" "RobotCell") ∈ lw_tbl := lw_at lw_m5 185 rfl
theorem q1244 : (Jvm.Cond.fieldLinkNest "RobotCell$Cell$Arm" (111 : Nat) "RobotCell$Cell" "arms" "[LRobotCell$Cell$Arm;" "RobotCell") ∈ lw_tbl := lw_at lw_m5 191 rfl
theorem q1246 : (Jvm.Cond.fieldLinkNest "RobotCell$Cell$Arm" (45 : Nat) "RobotCell$Cell" "jobs" "Ljava/util/ArrayList;" "RobotCell") ∈ lw_tbl := lw_at lw_m5 193 rfl
theorem q1252 : (Jvm.Cond.fieldLinkNest "RobotCell$Cell$Arm" (241 : Nat) "RobotCell$Cell" "heldTicks" "[I" "RobotCell") ∈ lw_tbl := lw_at lw_m5 199 rfl
theorem q1254 : (Jvm.Cond.fieldLinkNest "RobotCell$Cell$Arm" (166 : Nat) "RobotCell$Cell" "time" "I" "RobotCell") ∈ lw_tbl := lw_at lw_m5 201 rfl
theorem q1259 : (Jvm.Cond.fieldLinkNest "RobotCell$Cell$Arm" (210 : Nat) "RobotCell$Cell" "goneParts" "I" "RobotCell") ∈ lw_tbl := lw_at lw_m5 206 rfl
theorem q1263 : (Jvm.Cond.fieldLinkNest "RobotCell$Cell$Arm" (219 : Nat) "RobotCell$Cell" "endedJobs" "I" "RobotCell") ∈ lw_tbl := lw_at lw_m5 210 rfl
theorem q1267 : (Jvm.Cond.fieldLinkNest "RobotCell$Cell$Arm" (216 : Nat) "RobotCell$Cell" "durations" "I" "RobotCell") ∈ lw_tbl := lw_at lw_m5 214 rfl
theorem q1333 : (Jvm.Cond.instanceMethod ({ cls := "RobotCell$Cell$Arm", name := "held", desc := "()I" } : Jvm.MethodName)) ∈ lw_all := lw_g (lw_at lw_m6 40 rfl) rfl
theorem q1334 : (Jvm.Cond.selects "RobotCell$Cell$Arm" ({ cls := "RobotCell$Cell$Arm", name := "held", desc := "()I" } : Jvm.MethodName) ({ cls := "RobotCell$Cell$Arm", name := "held", desc := "()I" } : Jvm.MethodName)) ∈ lw_all := lw_g (lw_at lw_m6 41 rfl) rfl
theorem q1335 : (Jvm.Cond.code ({ cls := "RobotCell$Cell$Arm", name := "held", desc := "()I" } : Jvm.MethodName) prog_6_method_5_code (2 : Nat) (Option.some Jvm.ClassFile.FieldType.int)) ∈ lw_all := lw_g (lw_at lw_m6 42 rfl) rfl
theorem q1336 : (Jvm.Cond.methodLink "RobotCell$Cell$Arm" (98 : Nat) ({ cls := "RobotCell$Cell$Arm", name := "order", desc := "()LRobotCell$Order;" } : Jvm.MethodName)) ∈ lw_all := lw_g (lw_at lw_m6 43 rfl) rfl
theorem q1337 : (Jvm.Cond.instanceMethod ({ cls := "RobotCell$Cell$Arm", name := "order", desc := "()LRobotCell$Order;" } : Jvm.MethodName)) ∈ lw_all := lw_g (lw_at lw_m6 44 rfl) rfl
theorem q1338 : (Jvm.Cond.selects "RobotCell$Cell$Arm" ({ cls := "RobotCell$Cell$Arm", name := "order", desc := "()LRobotCell$Order;" } : Jvm.MethodName) ({ cls := "RobotCell$Cell$Arm", name := "order", desc := "()LRobotCell$Order;" } : Jvm.MethodName)) ∈ lw_all := lw_g (lw_at lw_m6 45 rfl) rfl
theorem q1339 : (Jvm.Cond.code ({ cls := "RobotCell$Cell$Arm", name := "order", desc := "()LRobotCell$Order;" } : Jvm.MethodName) prog_6_method_3_code (1 : Nat) (Option.some (Jvm.ClassFile.FieldType.object "RobotCell$Order"))) ∈ lw_all := lw_g (lw_at lw_m6 46 rfl) rfl
theorem q1345 : (Jvm.Cond.instanceMethod ({ cls := "RobotCell$Cell$Arm", name := "reached", desc := "()I" } : Jvm.MethodName)) ∈ lw_all := lw_g (lw_at lw_m6 52 rfl) rfl
theorem q1346 : (Jvm.Cond.selects "RobotCell$Cell$Arm" ({ cls := "RobotCell$Cell$Arm", name := "reached", desc := "()I" } : Jvm.MethodName) ({ cls := "RobotCell$Cell$Arm", name := "reached", desc := "()I" } : Jvm.MethodName)) ∈ lw_all := lw_g (lw_at lw_m6 53 rfl) rfl
theorem q1347 : (Jvm.Cond.code ({ cls := "RobotCell$Cell$Arm", name := "reached", desc := "()I" } : Jvm.MethodName) prog_6_method_4_code (1 : Nat) (Option.some Jvm.ClassFile.FieldType.int)) ∈ lw_all := lw_g (lw_at lw_m6 54 rfl) rfl
theorem q1655 : (Jvm.Cond.selects "RobotCell$Cell$Arm" ({ cls := "java/lang/Object", name := "hashCode", desc := "()I" } : Jvm.MethodName) ({ cls := "java/lang/Object", name := "hashCode", desc := "()I" } : Jvm.MethodName)) ∈ lw_all := lw_g (lw_at lw_m7 122 rfl) rfl
theorem q2066 : (Jvm.Cond.selects "RobotCell$Cell$Arm" ({ cls := "java/lang/Object", name := "equals", desc := "(Ljava/lang/Object;)Z" } : Jvm.MethodName) ({ cls := "java/lang/Object", name := "equals", desc := "(Ljava/lang/Object;)Z" } : Jvm.MethodName)) ∈ lw_all := lw_g (lw_at lw_m9 53 rfl) rfl
theorem q2287 : (Jvm.Cond.fieldLinkNest "RobotCell$Cell$Arm" (51 : Nat) "RobotCell$Job" "number" "I" "RobotCell") ∈ lw_tbl := lw_at lw_m10 34 rfl
theorem q2290 : (Jvm.Cond.fieldLinkNest "RobotCell$Cell$Arm" (94 : Nat) "RobotCell$Job" "order" "LRobotCell$Order;" "RobotCell") ∈ lw_tbl := lw_at lw_m10 37 rfl
theorem q2292 : (Jvm.Cond.fieldLinkNest "RobotCell$Cell$Arm" (165 : Nat) "RobotCell$Job" "state" "I" "RobotCell") ∈ lw_tbl := lw_at lw_m10 39 rfl
theorem q2295 : (Jvm.Cond.fieldLinkNest "RobotCell$Cell$Arm" (169 : Nat) "RobotCell$Job" "started" "I" "RobotCell") ∈ lw_tbl := lw_at lw_m10 42 rfl
theorem q2297 : (Jvm.Cond.fieldLinkNest "RobotCell$Cell$Arm" (213 : Nat) "RobotCell$Job" "ended" "I" "RobotCell") ∈ lw_tbl := lw_at lw_m10 44 rfl
theorem q2330 : (Jvm.Cond.instanceMethod ({ cls := "RobotCell$Cell$Arm", name := "become", desc := "(LRobotCell$Cell$Arm;)V" } : Jvm.MethodName)) ∈ lw_all := lw_g (lw_at lw_m10 77 rfl) rfl
theorem q2331 : (Jvm.Cond.selects "RobotCell$Cell$Arm" ({ cls := "RobotCell$Cell$Arm", name := "become", desc := "(LRobotCell$Cell$Arm;)V" } : Jvm.MethodName) ({ cls := "RobotCell$Cell$Arm", name := "become", desc := "(LRobotCell$Cell$Arm;)V" } : Jvm.MethodName)) ∈ lw_all := lw_g (lw_at lw_m10 78 rfl) rfl
theorem q2332 : (Jvm.Cond.code ({ cls := "RobotCell$Cell$Arm", name := "become", desc := "(LRobotCell$Cell$Arm;)V" } : Jvm.MethodName) prog_6_method_2_code (4 : Nat) (Option.none : Option Jvm.ClassFile.FieldType)) ∈ lw_all := lw_g (lw_at lw_m10 79 rfl) rfl
theorem q2333 : (Jvm.Cond.methodLink "RobotCell$Cell$Arm" (29 : Nat) ({ cls := "java/util/ArrayDeque", name := "iterator", desc := "()Ljava/util/Iterator;" } : Jvm.MethodName)) ∈ lw_all := lw_g (lw_at lw_m10 80 rfl) rfl
theorem q2334 : (Jvm.Cond.interfaceEntry "RobotCell$Cell$Arm" (33 : Nat)) ∈ lw_tbl := lw_at lw_m10 81 rfl
theorem q2335 : (Jvm.Cond.methodLink "RobotCell$Cell$Arm" (33 : Nat) ({ cls := "java/util/Iterator", name := "hasNext", desc := "()Z" } : Jvm.MethodName)) ∈ lw_all := lw_g (lw_at lw_m10 82 rfl) rfl
theorem q2336 : (Jvm.Cond.interfaceEntry "RobotCell$Cell$Arm" (39 : Nat)) ∈ lw_tbl := lw_at lw_m10 83 rfl
theorem q2337 : (Jvm.Cond.methodLink "RobotCell$Cell$Arm" (39 : Nat) ({ cls := "java/util/Iterator", name := "next", desc := "()Ljava/lang/Object;" } : Jvm.MethodName)) ∈ lw_all := lw_g (lw_at lw_m10 84 rfl) rfl
theorem q2338 : (Jvm.Cond.classLink "RobotCell$Cell$Arm" (43 : Nat) "RobotCell$Job") ∈ lw_all := lw_g (lw_at lw_m10 85 rfl) rfl
theorem q2339 : (Jvm.Cond.methodLink "RobotCell$Cell$Arm" (52 : Nat) ({ cls := "java/util/ArrayList", name := "get", desc := "(I)Ljava/lang/Object;" } : Jvm.MethodName)) ∈ lw_all := lw_g (lw_at lw_m10 86 rfl) rfl
theorem q2351 : (Jvm.Cond.methodLink "RobotCell$Cell$Arm" (58 : Nat) ({ cls := "java/util/ArrayDeque", name := "addLast", desc := "(Ljava/lang/Object;)V" } : Jvm.MethodName)) ∈ lw_all := lw_g (lw_at lw_m10 98 rfl) rfl
theorem q2648 : (Jvm.Cond.fieldLinkNest "RobotCell$Cell$Arm" (101 : Nat) "RobotCell$Order" "path" "[I" "RobotCell") ∈ lw_tbl := lw_at lw_m11 155 rfl
theorem q2653 : (Jvm.Cond.fieldLinkNest "RobotCell$Cell$Arm" (188 : Nat) "RobotCell$Order" "work" "I" "RobotCell") ∈ lw_tbl := lw_at lw_m11 160 rfl
theorem q2656 : (Jvm.Cond.fieldLinkNest "RobotCell$Cell$Arm" (193 : Nat) "RobotCell$Order" "weight" "I" "RobotCell") ∈ lw_tbl := lw_at lw_m11 163 rfl
theorem q2658 : (Jvm.Cond.fieldLinkNest "RobotCell$Cell$Arm" (130 : Nat) "RobotCell$Order" "source" "I" "RobotCell") ∈ lw_tbl := lw_at lw_m11 165 rfl
theorem q2661 : (Jvm.Cond.fieldLinkNest "RobotCell$Cell$Arm" (142 : Nat) "RobotCell$Order" "target" "I" "RobotCell") ∈ lw_tbl := lw_at lw_m11 168 rfl
theorem q2757 : (Jvm.Cond.instanceMethod ({ cls := "RobotCell$Cell$Arm", name := "part", desc := "(I)I" } : Jvm.MethodName)) ∈ lw_all := lw_g (lw_at lw_m12 24 rfl) rfl
theorem q2758 : (Jvm.Cond.selects "RobotCell$Cell$Arm" ({ cls := "RobotCell$Cell$Arm", name := "part", desc := "(I)I" } : Jvm.MethodName) ({ cls := "RobotCell$Cell$Arm", name := "part", desc := "(I)I" } : Jvm.MethodName)) ∈ lw_all := lw_g (lw_at lw_m12 25 rfl) rfl
theorem q2759 : (Jvm.Cond.code ({ cls := "RobotCell$Cell$Arm", name := "part", desc := "(I)I" } : Jvm.MethodName) prog_6_method_22_code (2 : Nat) (Option.some Jvm.ClassFile.FieldType.int)) ∈ lw_all := lw_g (lw_at lw_m12 26 rfl) rfl
theorem q2760 : (Jvm.Cond.methodLink "RobotCell$Cell$Arm" (248 : Nat) ({ cls := "java/util/ArrayDeque", name := "size", desc := "()I" } : Jvm.MethodName)) ∈ lw_all := lw_g (lw_at lw_m12 27 rfl) rfl
theorem q2761 : (Jvm.Cond.methodLink "RobotCell$Cell$Arm" (181 : Nat) ({ cls := "RobotCell$Cell$Arm", name := "zone", desc := "()I" } : Jvm.MethodName)) ∈ lw_all := lw_g (lw_at lw_m12 28 rfl) rfl
theorem q2762 : (Jvm.Cond.instanceMethod ({ cls := "RobotCell$Cell$Arm", name := "zone", desc := "()I" } : Jvm.MethodName)) ∈ lw_all := lw_g (lw_at lw_m12 29 rfl) rfl
theorem q2763 : (Jvm.Cond.selects "RobotCell$Cell$Arm" ({ cls := "RobotCell$Cell$Arm", name := "zone", desc := "()I" } : Jvm.MethodName) ({ cls := "RobotCell$Cell$Arm", name := "zone", desc := "()I" } : Jvm.MethodName)) ∈ lw_all := lw_g (lw_at lw_m12 30 rfl) rfl
theorem q2764 : (Jvm.Cond.code ({ cls := "RobotCell$Cell$Arm", name := "zone", desc := "()I" } : Jvm.MethodName) prog_6_method_6_code (1 : Nat) (Option.some Jvm.ClassFile.FieldType.int)) ∈ lw_all := lw_g (lw_at lw_m12 31 rfl) rfl
theorem q2765 : (Jvm.Cond.methodLink "RobotCell$Cell$Arm" (115 : Nat) ({ cls := "RobotCell$Cell$Arm", name := "held", desc := "()I" } : Jvm.MethodName)) ∈ lw_all := lw_g (lw_at lw_m12 32 rfl) rfl
theorem q2808 : (Jvm.Cond.instanceMethod ({ cls := "RobotCell$Cell$Arm", name := "act", desc := "()V" } : Jvm.MethodName)) ∈ lw_all := lw_g (lw_at lw_m12 75 rfl) rfl
theorem q2809 : (Jvm.Cond.selects "RobotCell$Cell$Arm" ({ cls := "RobotCell$Cell$Arm", name := "act", desc := "()V" } : Jvm.MethodName) ({ cls := "RobotCell$Cell$Arm", name := "act", desc := "()V" } : Jvm.MethodName)) ∈ lw_all := lw_g (lw_at lw_m12 76 rfl) rfl
theorem q2810 : (Jvm.Cond.code ({ cls := "RobotCell$Cell$Arm", name := "act", desc := "()V" } : Jvm.MethodName) prog_6_method_20_code (1 : Nat) (Option.none : Option Jvm.ClassFile.FieldType)) ∈ lw_all := lw_g (lw_at lw_m12 77 rfl) rfl
theorem q2811 : (Jvm.Cond.methodLink "RobotCell$Cell$Arm" (229 : Nat) ({ cls := "java/util/ArrayDeque", name := "isEmpty", desc := "()Z" } : Jvm.MethodName)) ∈ lw_all := lw_g (lw_at lw_m12 78 rfl) rfl
theorem q2812 : (Jvm.Cond.methodLink "RobotCell$Cell$Arm" (190 : Nat) ({ cls := "RobotCell$Cell$Arm", name := "isGranted", desc := "()Z" } : Jvm.MethodName)) ∈ lw_all := lw_g (lw_at lw_m12 79 rfl) rfl
theorem q2813 : (Jvm.Cond.privateMethod ({ cls := "RobotCell$Cell$Arm", name := "isGranted", desc := "()Z" } : Jvm.MethodName)) ∈ lw_tbl := lw_at lw_m12 80 rfl
theorem q2814 : (Jvm.Cond.instanceMethod ({ cls := "RobotCell$Cell$Arm", name := "isGranted", desc := "()Z" } : Jvm.MethodName)) ∈ lw_all := lw_g (lw_at lw_m12 81 rfl) rfl
theorem q2815 : (Jvm.Cond.code ({ cls := "RobotCell$Cell$Arm", name := "isGranted", desc := "()Z" } : Jvm.MethodName) prog_6_method_12_code (2 : Nat) (Option.some Jvm.ClassFile.FieldType.boolean)) ∈ lw_all := lw_g (lw_at lw_m12 82 rfl) rfl
theorem q2816 : (Jvm.Cond.methodLink "RobotCell$Cell$Arm" (159 : Nat) ({ cls := "RobotCell$Cell$Arm", name := "request", desc := "()I" } : Jvm.MethodName)) ∈ lw_all := lw_g (lw_at lw_m12 83 rfl) rfl
theorem q2817 : (Jvm.Cond.instanceMethod ({ cls := "RobotCell$Cell$Arm", name := "request", desc := "()I" } : Jvm.MethodName)) ∈ lw_all := lw_g (lw_at lw_m12 84 rfl) rfl
theorem q2818 : (Jvm.Cond.selects "RobotCell$Cell$Arm" ({ cls := "RobotCell$Cell$Arm", name := "request", desc := "()I" } : Jvm.MethodName) ({ cls := "RobotCell$Cell$Arm", name := "request", desc := "()I" } : Jvm.MethodName)) ∈ lw_all := lw_g (lw_at lw_m12 85 rfl) rfl
theorem q2819 : (Jvm.Cond.code ({ cls := "RobotCell$Cell$Arm", name := "request", desc := "()I" } : Jvm.MethodName) prog_6_method_11_code (1 : Nat) (Option.some Jvm.ClassFile.FieldType.int)) ∈ lw_all := lw_g (lw_at lw_m12 86 rfl) rfl
theorem q2820 : (Jvm.Cond.methodLink "RobotCell$Cell$Arm" (152 : Nat) ({ cls := "java/util/ArrayDeque", name := "getFirst", desc := "()Ljava/lang/Object;" } : Jvm.MethodName)) ∈ lw_all := lw_g (lw_at lw_m12 87 rfl) rfl
theorem q2824 : (Jvm.Cond.methodLink "RobotCell$Cell$Arm" (155 : Nat) ({ cls := "RobotCell$Cell$Arm", name := "requestStart", desc := "(LRobotCell$Order;)I" } : Jvm.MethodName)) ∈ lw_all := lw_g (lw_at lw_m12 91 rfl) rfl
theorem q2825 : (Jvm.Cond.privateMethod ({ cls := "RobotCell$Cell$Arm", name := "requestStart", desc := "(LRobotCell$Order;)I" } : Jvm.MethodName)) ∈ lw_tbl := lw_at lw_m12 92 rfl
theorem q2826 : (Jvm.Cond.instanceMethod ({ cls := "RobotCell$Cell$Arm", name := "requestStart", desc := "(LRobotCell$Order;)I" } : Jvm.MethodName)) ∈ lw_all := lw_g (lw_at lw_m12 93 rfl) rfl
theorem q2827 : (Jvm.Cond.code ({ cls := "RobotCell$Cell$Arm", name := "requestStart", desc := "(LRobotCell$Order;)I" } : Jvm.MethodName) prog_6_method_10_code (2 : Nat) (Option.some Jvm.ClassFile.FieldType.int)) ∈ lw_all := lw_g (lw_at lw_m12 94 rfl) rfl
theorem q2828 : (Jvm.Cond.methodLink "RobotCell$Cell$Arm" (137 : Nat) ({ cls := "RobotCell$Buffer", name := "hasPart", desc := "()Z" } : Jvm.MethodName)) ∈ lw_all := lw_g (lw_at lw_m12 95 rfl) rfl
theorem q2832 : (Jvm.Cond.methodLink "RobotCell$Cell$Arm" (122 : Nat) ({ cls := "RobotCell$Cell$Arm", name := "refuse", desc := "(II)I" } : Jvm.MethodName)) ∈ lw_all := lw_g (lw_at lw_m12 99 rfl) rfl
theorem q2833 : (Jvm.Cond.privateMethod ({ cls := "RobotCell$Cell$Arm", name := "refuse", desc := "(II)I" } : Jvm.MethodName)) ∈ lw_tbl := lw_at lw_m12 100 rfl
theorem q2834 : (Jvm.Cond.instanceMethod ({ cls := "RobotCell$Cell$Arm", name := "refuse", desc := "(II)I" } : Jvm.MethodName)) ∈ lw_all := lw_g (lw_at lw_m12 101 rfl) rfl
theorem q2835 : (Jvm.Cond.code ({ cls := "RobotCell$Cell$Arm", name := "refuse", desc := "(II)I" } : Jvm.MethodName) prog_6_method_8_code (3 : Nat) (Option.some Jvm.ClassFile.FieldType.int)) ∈ lw_all := lw_g (lw_at lw_m12 102 rfl) rfl
theorem q2836 : (Jvm.Cond.methodLink "RobotCell$Cell$Arm" (145 : Nat) ({ cls := "RobotCell$Buffer", name := "hasRoom", desc := "()Z" } : Jvm.MethodName)) ∈ lw_all := lw_g (lw_at lw_m12 103 rfl) rfl
theorem q2837 : (Jvm.Cond.methodLink "RobotCell$Cell$Arm" (148 : Nat) ({ cls := "RobotCell$Cell$Arm", name := "requestZone", desc := "(LRobotCell$Order;I)I" } : Jvm.MethodName)) ∈ lw_all := lw_g (lw_at lw_m12 104 rfl) rfl
theorem q2838 : (Jvm.Cond.privateMethod ({ cls := "RobotCell$Cell$Arm", name := "requestZone", desc := "(LRobotCell$Order;I)I" } : Jvm.MethodName)) ∈ lw_tbl := lw_at lw_m12 105 rfl
theorem q2839 : (Jvm.Cond.instanceMethod ({ cls := "RobotCell$Cell$Arm", name := "requestZone", desc := "(LRobotCell$Order;I)I" } : Jvm.MethodName)) ∈ lw_all := lw_g (lw_at lw_m12 106 rfl) rfl
theorem q2840 : (Jvm.Cond.code ({ cls := "RobotCell$Cell$Arm", name := "requestZone", desc := "(LRobotCell$Order;I)I" } : Jvm.MethodName) prog_6_method_9_code (8 : Nat) (Option.some Jvm.ClassFile.FieldType.int)) ∈ lw_all := lw_g (lw_at lw_m12 107 rfl) rfl
theorem q2841 : (Jvm.Cond.methodLink "RobotCell$Cell$Arm" (118 : Nat) ({ cls := "RobotCell$Cell", name := "conflicts", desc := "(I)I" } : Jvm.MethodName)) ∈ lw_all := lw_g (lw_at lw_m12 108 rfl) rfl
theorem q2842 : (Jvm.Cond.methodLinkNest "RobotCell$Cell$Arm" (126 : Nat) ({ cls := "RobotCell$Cell", name := "stuck", desc := "(IIILRobotCell$Order;)I" } : Jvm.MethodName) "RobotCell") ∈ lw_tbl := lw_at lw_m12 109 rfl
theorem q2843 : (Jvm.Cond.methodLink "RobotCell$Cell$Arm" (107 : Nat) ({ cls := "RobotCell$Cell$Arm", name := "reached", desc := "()I" } : Jvm.MethodName)) ∈ lw_all := lw_g (lw_at lw_m12 110 rfl) rfl
theorem q2844 : (Jvm.Cond.methodLink "RobotCell$Cell$Arm" (232 : Nat) ({ cls := "RobotCell$Cell$Arm", name := "start", desc := "()V" } : Jvm.MethodName)) ∈ lw_all := lw_g (lw_at lw_m12 111 rfl) rfl
theorem q2845 : (Jvm.Cond.privateMethod ({ cls := "RobotCell$Cell$Arm", name := "start", desc := "()V" } : Jvm.MethodName)) ∈ lw_tbl := lw_at lw_m12 112 rfl
theorem q2846 : (Jvm.Cond.instanceMethod ({ cls := "RobotCell$Cell$Arm", name := "start", desc := "()V" } : Jvm.MethodName)) ∈ lw_all := lw_g (lw_at lw_m12 113 rfl) rfl
theorem q2847 : (Jvm.Cond.code ({ cls := "RobotCell$Cell$Arm", name := "start", desc := "()V" } : Jvm.MethodName) prog_6_method_13_code (1 : Nat) (Option.none : Option Jvm.ClassFile.FieldType)) ∈ lw_all := lw_g (lw_at lw_m12 114 rfl) rfl
theorem q2848 : (Jvm.Cond.methodLink "RobotCell$Cell$Arm" (162 : Nat) ({ cls := "java/util/ArrayDeque", name := "removeFirst", desc := "()Ljava/lang/Object;" } : Jvm.MethodName)) ∈ lw_all := lw_g (lw_at lw_m12 115 rfl) rfl
theorem q2849 : (Jvm.Cond.methodLink "RobotCell$Cell$Arm" (178 : Nat) ({ cls := "RobotCell$Cell$Arm", name := "work", desc := "()V" } : Jvm.MethodName)) ∈ lw_all := lw_g (lw_at lw_m12 116 rfl) rfl
theorem q2850 : (Jvm.Cond.privateMethod ({ cls := "RobotCell$Cell$Arm", name := "work", desc := "()V" } : Jvm.MethodName)) ∈ lw_tbl := lw_at lw_m12 117 rfl
theorem q2851 : (Jvm.Cond.instanceMethod ({ cls := "RobotCell$Cell$Arm", name := "work", desc := "()V" } : Jvm.MethodName)) ∈ lw_all := lw_g (lw_at lw_m12 118 rfl) rfl
theorem q2852 : (Jvm.Cond.code ({ cls := "RobotCell$Cell$Arm", name := "work", desc := "()V" } : Jvm.MethodName) prog_6_method_14_code (1 : Nat) (Option.none : Option Jvm.ClassFile.FieldType)) ∈ lw_all := lw_g (lw_at lw_m12 119 rfl) rfl
theorem q2853 : (Jvm.Cond.methodLink "RobotCell$Cell$Arm" (184 : Nat) ({ cls := "RobotCell$Cell", name := "note", desc := "(III)V" } : Jvm.MethodName)) ∈ lw_all := lw_g (lw_at lw_m12 120 rfl) rfl
theorem q2868 : (Jvm.Cond.methodLink "RobotCell$Cell$Arm" (223 : Nat) ({ cls := "RobotCell$Cell$Arm", name := "goOn", desc := "()V" } : Jvm.MethodName)) ∈ lw_all := lw_g (lw_at lw_m12 135 rfl) rfl
theorem q2869 : (Jvm.Cond.privateMethod ({ cls := "RobotCell$Cell$Arm", name := "goOn", desc := "()V" } : Jvm.MethodName)) ∈ lw_tbl := lw_at lw_m12 136 rfl
theorem q2870 : (Jvm.Cond.instanceMethod ({ cls := "RobotCell$Cell$Arm", name := "goOn", desc := "()V" } : Jvm.MethodName)) ∈ lw_all := lw_g (lw_at lw_m12 137 rfl) rfl
theorem q2871 : (Jvm.Cond.code ({ cls := "RobotCell$Cell$Arm", name := "goOn", desc := "()V" } : Jvm.MethodName) prog_6_method_16_code (2 : Nat) (Option.none : Option Jvm.ClassFile.FieldType)) ∈ lw_all := lw_g (lw_at lw_m12 138 rfl) rfl
theorem q2872 : (Jvm.Cond.methodLink "RobotCell$Cell$Arm" (196 : Nat) ({ cls := "RobotCell$Cell$Arm", name := "hasNeighbors", desc := "(I)Z" } : Jvm.MethodName)) ∈ lw_all := lw_g (lw_at lw_m12 139 rfl) rfl
theorem q2873 : (Jvm.Cond.privateMethod ({ cls := "RobotCell$Cell$Arm", name := "hasNeighbors", desc := "(I)Z" } : Jvm.MethodName)) ∈ lw_tbl := lw_at lw_m12 140 rfl
theorem q2874 : (Jvm.Cond.instanceMethod ({ cls := "RobotCell$Cell$Arm", name := "hasNeighbors", desc := "(I)Z" } : Jvm.MethodName)) ∈ lw_all := lw_g (lw_at lw_m12 141 rfl) rfl
theorem q2875 : (Jvm.Cond.code ({ cls := "RobotCell$Cell$Arm", name := "hasNeighbors", desc := "(I)Z" } : Jvm.MethodName) prog_6_method_15_code (8 : Nat) (Option.some Jvm.ClassFile.FieldType.boolean)) ∈ lw_all := lw_g (lw_at lw_m12 142 rfl) rfl
theorem q2876 : (Jvm.Cond.methodLink "RobotCell$Cell$Arm" (235 : Nat) ({ cls := "RobotCell$Cell$Arm", name := "finishWork", desc := "()V" } : Jvm.MethodName)) ∈ lw_all := lw_g (lw_at lw_m12 143 rfl) rfl
theorem q2877 : (Jvm.Cond.privateMethod ({ cls := "RobotCell$Cell$Arm", name := "finishWork", desc := "()V" } : Jvm.MethodName)) ∈ lw_tbl := lw_at lw_m12 144 rfl
theorem q2878 : (Jvm.Cond.instanceMethod ({ cls := "RobotCell$Cell$Arm", name := "finishWork", desc := "()V" } : Jvm.MethodName)) ∈ lw_all := lw_g (lw_at lw_m12 145 rfl) rfl
theorem q2879 : (Jvm.Cond.code ({ cls := "RobotCell$Cell$Arm", name := "finishWork", desc := "()V" } : Jvm.MethodName) prog_6_method_19_code (1 : Nat) (Option.none : Option Jvm.ClassFile.FieldType)) ∈ lw_all := lw_g (lw_at lw_m12 146 rfl) rfl
theorem q2880 : (Jvm.Cond.methodLink "RobotCell$Cell$Arm" (222 : Nat) ({ cls := "RobotCell$Cell$Arm", name := "hasNext", desc := "()Z" } : Jvm.MethodName)) ∈ lw_all := lw_g (lw_at lw_m12 147 rfl) rfl
theorem q2881 : (Jvm.Cond.instanceMethod ({ cls := "RobotCell$Cell$Arm", name := "hasNext", desc := "()Z" } : Jvm.MethodName)) ∈ lw_all := lw_g (lw_at lw_m12 148 rfl) rfl
theorem q2882 : (Jvm.Cond.selects "RobotCell$Cell$Arm" ({ cls := "RobotCell$Cell$Arm", name := "hasNext", desc := "()Z" } : Jvm.MethodName) ({ cls := "RobotCell$Cell$Arm", name := "hasNext", desc := "()Z" } : Jvm.MethodName)) ∈ lw_all := lw_g (lw_at lw_m12 149 rfl) rfl
theorem q2883 : (Jvm.Cond.code ({ cls := "RobotCell$Cell$Arm", name := "hasNext", desc := "()Z" } : Jvm.MethodName) prog_6_method_7_code (1 : Nat) (Option.some Jvm.ClassFile.FieldType.boolean)) ∈ lw_all := lw_g (lw_at lw_m12 150 rfl) rfl
theorem q2884 : (Jvm.Cond.methodLink "RobotCell$Cell$Arm" (226 : Nat) ({ cls := "RobotCell$Cell$Arm", name := "end", desc := "()V" } : Jvm.MethodName)) ∈ lw_all := lw_g (lw_at lw_m12 151 rfl) rfl
theorem q2885 : (Jvm.Cond.privateMethod ({ cls := "RobotCell$Cell$Arm", name := "end", desc := "()V" } : Jvm.MethodName)) ∈ lw_tbl := lw_at lw_m12 152 rfl
theorem q2886 : (Jvm.Cond.instanceMethod ({ cls := "RobotCell$Cell$Arm", name := "end", desc := "()V" } : Jvm.MethodName)) ∈ lw_all := lw_g (lw_at lw_m12 153 rfl) rfl
theorem q2887 : (Jvm.Cond.code ({ cls := "RobotCell$Cell$Arm", name := "end", desc := "()V" } : Jvm.MethodName) prog_6_method_17_code (3 : Nat) (Option.none : Option Jvm.ClassFile.FieldType)) ∈ lw_all := lw_g (lw_at lw_m12 154 rfl) rfl
theorem q2888 : (Jvm.Cond.methodLink "RobotCell$Cell$Arm" (200 : Nat) ({ cls := "RobotCell$Buffer", name := "take", desc := "()I" } : Jvm.MethodName)) ∈ lw_all := lw_g (lw_at lw_m12 155 rfl) rfl
theorem q2894 : (Jvm.Cond.methodLink "RobotCell$Cell$Arm" (203 : Nat) ({ cls := "RobotCell$Cell", name := "newPart", desc := "()I" } : Jvm.MethodName)) ∈ lw_all := lw_g (lw_at lw_m12 161 rfl) rfl
theorem q2895 : (Jvm.Cond.methodLink "RobotCell$Cell$Arm" (206 : Nat) ({ cls := "RobotCell$Buffer", name := "put", desc := "(I)V" } : Jvm.MethodName)) ∈ lw_all := lw_g (lw_at lw_m12 162 rfl) rfl
theorem q2896 : (Jvm.Cond.methodLink "RobotCell$Cell$Arm" (238 : Nat) ({ cls := "RobotCell$Cell$Arm", name := "arrive", desc := "()V" } : Jvm.MethodName)) ∈ lw_all := lw_g (lw_at lw_m12 163 rfl) rfl
theorem q2897 : (Jvm.Cond.privateMethod ({ cls := "RobotCell$Cell$Arm", name := "arrive", desc := "()V" } : Jvm.MethodName)) ∈ lw_tbl := lw_at lw_m12 164 rfl
theorem q2898 : (Jvm.Cond.instanceMethod ({ cls := "RobotCell$Cell$Arm", name := "arrive", desc := "()V" } : Jvm.MethodName)) ∈ lw_all := lw_g (lw_at lw_m12 165 rfl) rfl
theorem q2899 : (Jvm.Cond.code ({ cls := "RobotCell$Cell$Arm", name := "arrive", desc := "()V" } : Jvm.MethodName) prog_6_method_18_code (2 : Nat) (Option.none : Option Jvm.ClassFile.FieldType)) ∈ lw_all := lw_g (lw_at lw_m12 166 rfl) rfl
theorem q2901 : (Jvm.Cond.instanceMethod ({ cls := "RobotCell$Cell$Arm", name := "count", desc := "()V" } : Jvm.MethodName)) ∈ lw_all := lw_g (lw_at lw_m12 168 rfl) rfl
theorem q2902 : (Jvm.Cond.selects "RobotCell$Cell$Arm" ({ cls := "RobotCell$Cell$Arm", name := "count", desc := "()V" } : Jvm.MethodName) ({ cls := "RobotCell$Cell$Arm", name := "count", desc := "()V" } : Jvm.MethodName)) ∈ lw_all := lw_g (lw_at lw_m12 169 rfl) rfl
theorem q2903 : (Jvm.Cond.code ({ cls := "RobotCell$Cell$Arm", name := "count", desc := "()V" } : Jvm.MethodName) prog_6_method_21_code (2 : Nat) (Option.none : Option Jvm.ClassFile.FieldType)) ∈ lw_all := lw_g (lw_at lw_m12 170 rfl) rfl
theorem q2904 : (Jvm.Cond.methodLinkNest "RobotCell$Cell$Arm" (244 : Nat) ({ cls := "RobotCell", name := "contains", desc := "(II)Z" } : Jvm.MethodName) "RobotCell") ∈ lw_tbl := lw_at lw_m12 171 rfl
theorem q3762 : (Jvm.Cond.castable "RobotCell$Cell$Arm" "java/lang/Object") ∈ lw_tbl := lw_at lw_m16 69 rfl
theorem in_X4 : ∀ w ∈ wsX40, w ∈ lw_all := lw_in wsX40 [1205, 1207, 1209, 1211, 1213, 1215, 1217, 1219, 1221, 1223, 1225, 1227, 1229, 1231] (by decide +kernel) (by decide +kernel)
/-! RobotCell$Job -/
set_option maxRecDepth 100000
def RX6 : String := "RobotCell$Job"
def TX6 : u_T := fun k => match k with
  | 0 => ("RobotCell$Job", "number", "I", true)
  | 1 => ("RobotCell$Job", "order", "LRobotCell$Order;", true)
  | 2 => ("RobotCell$Job", "state", "I", false)
  | 3 => ("RobotCell$Job", "started", "I", false)
  | _ => ("RobotCell$Job", "ended", "I", false)
def tyX6 : Nat → FieldType := fun k => match k with
  | 0 => .int
  | 1 => .object "RobotCell$Order"
  | 2 => .int
  | 3 => .int
  | _ => .int
abbrev wsX60 : List Cond := u_ws RX6 TX6 5
theorem nmX6 : ∀ a, a < 5 → ∀ b, b < 5 → a ≠ b → (TX6 a).2.1 ≠ (TX6 b).2.1 := by decide +kernel
theorem tyX6_ok : ∀ k, k < 5 → parseFieldDescriptor (TX6 k).2.2.1 = some (tyX6 k) := by decide +kernel
abbrev cX6_init : ByteArray := prog_10_method_2_code
def yX6_init : MethodName := ⟨RX6, "<init>", "(LRobotCell$Job;)V"⟩
def dkwX6_init_1 : List UInt8 := [180, 0, 9, 181, 0, 9, 42, 43, 180, 0, 15, 181, 0, 15, 177]
abbrev dktX6_init_1 : List UInt8 := dkwX6_init_1 ++ []
def dkwX6_init_0 : List UInt8 := [42, 43, 180, 0, 18, 43, 180, 0, 21, 183, 0, 25, 42, 43, 180, 0, 28, 181, 0, 28, 42, 43]
abbrev dktX6_init_0 : List UInt8 := dkwX6_init_0 ++ dktX6_init_1
theorem dksX6_init_0 : cX6_init.data.toList.drop 0 = dktX6_init_0 := by decide +kernel
theorem dksX6_init_1 : cX6_init.data.toList.drop 22 = dktX6_init_1 := dk_seg dksX6_init_0 22 rfl rfl
theorem dX6_init_0 : decode cX6_init 0 = .ok (.aload_n 0, 1) := dk_42 (dk_at dksX6_init_0 0 rfl rfl)
theorem dX6_init_1 : decode cX6_init 1 = .ok (.aload_n 1, 1) := dk_43 (dk_at dksX6_init_0 1 rfl rfl)
theorem dX6_init_2 : decode cX6_init 2 = .ok (.getfield 18, 3) := dk_180 0 18 (dk_at dksX6_init_0 2 rfl rfl)
theorem dX6_init_5 : decode cX6_init 5 = .ok (.aload_n 1, 1) := dk_43 (dk_at dksX6_init_0 5 rfl rfl)
theorem dX6_init_6 : decode cX6_init 6 = .ok (.getfield 21, 3) := dk_180 0 21 (dk_at dksX6_init_0 6 rfl rfl)
theorem dX6_init_9 : decode cX6_init 9 = .ok (.invokespecial 25, 3) := dk_183 0 25 (dk_at dksX6_init_0 9 rfl rfl)
theorem dX6_init_12 : decode cX6_init 12 = .ok (.aload_n 0, 1) := dk_42 (dk_at dksX6_init_0 12 rfl rfl)
theorem dX6_init_13 : decode cX6_init 13 = .ok (.aload_n 1, 1) := dk_43 (dk_at dksX6_init_0 13 rfl rfl)
theorem dX6_init_14 : decode cX6_init 14 = .ok (.getfield 28, 3) := dk_180 0 28 (dk_at dksX6_init_0 14 rfl rfl)
theorem dX6_init_17 : decode cX6_init 17 = .ok (.putfield 28, 3) := dk_181 0 28 (dk_at dksX6_init_0 17 rfl rfl)
theorem dX6_init_20 : decode cX6_init 20 = .ok (.aload_n 0, 1) := dk_42 (dk_at dksX6_init_0 20 rfl rfl)
theorem dX6_init_21 : decode cX6_init 21 = .ok (.aload_n 1, 1) := dk_43 (dk_at dksX6_init_0 21 rfl rfl)
theorem dX6_init_22 : decode cX6_init 22 = .ok (.getfield 9, 3) := dk_180 0 9 (dk_at dksX6_init_1 0 rfl rfl)
theorem dX6_init_25 : decode cX6_init 25 = .ok (.putfield 9, 3) := dk_181 0 9 (dk_at dksX6_init_1 3 rfl rfl)
theorem dX6_init_28 : decode cX6_init 28 = .ok (.aload_n 0, 1) := dk_42 (dk_at dksX6_init_1 6 rfl rfl)
theorem dX6_init_29 : decode cX6_init 29 = .ok (.aload_n 1, 1) := dk_43 (dk_at dksX6_init_1 7 rfl rfl)
theorem dX6_init_30 : decode cX6_init 30 = .ok (.getfield 15, 3) := dk_180 0 15 (dk_at dksX6_init_1 8 rfl rfl)
theorem dX6_init_33 : decode cX6_init 33 = .ok (.putfield 15, 3) := dk_181 0 15 (dk_at dksX6_init_1 11 rfl rfl)
theorem dX6_init_36 : decode cX6_init 36 = .ok (.return_, 1) := dk_177 (dk_at dksX6_init_1 14 rfl rfl)
abbrev cX6_init_2 : ByteArray := prog_10_method_1_code
def yX6_init_2 : MethodName := ⟨RX6, "<init>", "(ILRobotCell$Order;)V"⟩
def dkwX6_init_2_1 : List UInt8 := [177]
abbrev dktX6_init_2_1 : List UInt8 := dkwX6_init_2_1 ++ []
def dkwX6_init_2_0 : List UInt8 := [42, 183, 0, 3, 42, 2, 181, 0, 9, 42, 2, 181, 0, 15, 42, 27, 181, 0, 18, 42, 44, 181, 0, 21]
abbrev dktX6_init_2_0 : List UInt8 := dkwX6_init_2_0 ++ dktX6_init_2_1
theorem dksX6_init_2_0 : cX6_init_2.data.toList.drop 0 = dktX6_init_2_0 := by decide +kernel
theorem dksX6_init_2_1 : cX6_init_2.data.toList.drop 24 = dktX6_init_2_1 := dk_seg dksX6_init_2_0 24 rfl rfl
theorem dX6_init_2_0 : decode cX6_init_2 0 = .ok (.aload_n 0, 1) := dk_42 (dk_at dksX6_init_2_0 0 rfl rfl)
theorem dX6_init_2_1 : decode cX6_init_2 1 = .ok (.invokespecial 3, 3) := dk_183 0 3 (dk_at dksX6_init_2_0 1 rfl rfl)
theorem dX6_init_2_4 : decode cX6_init_2 4 = .ok (.aload_n 0, 1) := dk_42 (dk_at dksX6_init_2_0 4 rfl rfl)
theorem dX6_init_2_5 : decode cX6_init_2 5 = .ok (.iconst (-1), 1) := dk_2 (dk_at dksX6_init_2_0 5 rfl rfl)
theorem dX6_init_2_6 : decode cX6_init_2 6 = .ok (.putfield 9, 3) := dk_181 0 9 (dk_at dksX6_init_2_0 6 rfl rfl)
theorem dX6_init_2_9 : decode cX6_init_2 9 = .ok (.aload_n 0, 1) := dk_42 (dk_at dksX6_init_2_0 9 rfl rfl)
theorem dX6_init_2_10 : decode cX6_init_2 10 = .ok (.iconst (-1), 1) := dk_2 (dk_at dksX6_init_2_0 10 rfl rfl)
theorem dX6_init_2_11 : decode cX6_init_2 11 = .ok (.putfield 15, 3) := dk_181 0 15 (dk_at dksX6_init_2_0 11 rfl rfl)
theorem dX6_init_2_14 : decode cX6_init_2 14 = .ok (.aload_n 0, 1) := dk_42 (dk_at dksX6_init_2_0 14 rfl rfl)
theorem dX6_init_2_15 : decode cX6_init_2 15 = .ok (.iload_n 1, 1) := dk_27 (dk_at dksX6_init_2_0 15 rfl rfl)
theorem dX6_init_2_16 : decode cX6_init_2 16 = .ok (.putfield 18, 3) := dk_181 0 18 (dk_at dksX6_init_2_0 16 rfl rfl)
theorem dX6_init_2_19 : decode cX6_init_2 19 = .ok (.aload_n 0, 1) := dk_42 (dk_at dksX6_init_2_0 19 rfl rfl)
theorem dX6_init_2_20 : decode cX6_init_2 20 = .ok (.aload_n 2, 1) := dk_44 (dk_at dksX6_init_2_0 20 rfl rfl)
theorem dX6_init_2_21 : decode cX6_init_2 21 = .ok (.putfield 21, 3) := dk_181 0 21 (dk_at dksX6_init_2_0 21 rfl rfl)
theorem dX6_init_2_24 : decode cX6_init_2 24 = .ok (.return_, 1) := dk_177 (dk_at dksX6_init_2_1 0 rfl rfl)
abbrev cX6_part : ByteArray := prog_10_method_3_code
def yX6_part : MethodName := ⟨RX6, "part", "(I)I"⟩
def dkwX6_part_2 : List UInt8 := [172]
abbrev dktX6_part_2 : List UInt8 := dkwX6_part_2 ++ []
def dkwX6_part_1 : List UInt8 := [167, 0, 24, 27, 16, 8, 160, 0, 10, 42, 180, 0, 15, 167, 0, 11, 42, 180, 0, 21, 27, 182, 0, 31]
abbrev dktX6_part_1 : List UInt8 := dkwX6_part_1 ++ dktX6_part_2
def dkwX6_part_0 : List UInt8 := [27, 16, 6, 160, 0, 10, 42, 180, 0, 28, 167, 0, 37, 27, 16, 7, 160, 0, 10, 42, 180, 0, 9]
abbrev dktX6_part_0 : List UInt8 := dkwX6_part_0 ++ dktX6_part_1
theorem dksX6_part_0 : cX6_part.data.toList.drop 0 = dktX6_part_0 := by decide +kernel
theorem dksX6_part_1 : cX6_part.data.toList.drop 23 = dktX6_part_1 := dk_seg dksX6_part_0 23 rfl rfl
theorem dksX6_part_2 : cX6_part.data.toList.drop 47 = dktX6_part_2 := dk_seg dksX6_part_1 24 rfl rfl
theorem dX6_part_0 : decode cX6_part 0 = .ok (.iload_n 1, 1) := dk_27 (dk_at dksX6_part_0 0 rfl rfl)
theorem dX6_part_1 : decode cX6_part 1 = .ok (.bipush 6, 2) := dk_16 6 (dk_at dksX6_part_0 1 rfl rfl)
theorem dX6_part_3 : decode cX6_part 3 = .ok (.if_icmp .ne 10, 3) := dk_160 0 10 (dk_at dksX6_part_0 3 rfl rfl)
theorem dX6_part_6 : decode cX6_part 6 = .ok (.aload_n 0, 1) := dk_42 (dk_at dksX6_part_0 6 rfl rfl)
theorem dX6_part_7 : decode cX6_part 7 = .ok (.getfield 28, 3) := dk_180 0 28 (dk_at dksX6_part_0 7 rfl rfl)
theorem dX6_part_10 : decode cX6_part 10 = .ok (.goto 37, 3) := dk_167 0 37 (dk_at dksX6_part_0 10 rfl rfl)
theorem dX6_part_13 : decode cX6_part 13 = .ok (.iload_n 1, 1) := dk_27 (dk_at dksX6_part_0 13 rfl rfl)
theorem dX6_part_14 : decode cX6_part 14 = .ok (.bipush 7, 2) := dk_16 7 (dk_at dksX6_part_0 14 rfl rfl)
theorem dX6_part_16 : decode cX6_part 16 = .ok (.if_icmp .ne 10, 3) := dk_160 0 10 (dk_at dksX6_part_0 16 rfl rfl)
theorem dX6_part_19 : decode cX6_part 19 = .ok (.aload_n 0, 1) := dk_42 (dk_at dksX6_part_0 19 rfl rfl)
theorem dX6_part_20 : decode cX6_part 20 = .ok (.getfield 9, 3) := dk_180 0 9 (dk_at dksX6_part_0 20 rfl rfl)
theorem dX6_part_23 : decode cX6_part 23 = .ok (.goto 24, 3) := dk_167 0 24 (dk_at dksX6_part_1 0 rfl rfl)
theorem dX6_part_26 : decode cX6_part 26 = .ok (.iload_n 1, 1) := dk_27 (dk_at dksX6_part_1 3 rfl rfl)
theorem dX6_part_27 : decode cX6_part 27 = .ok (.bipush 8, 2) := dk_16 8 (dk_at dksX6_part_1 4 rfl rfl)
theorem dX6_part_29 : decode cX6_part 29 = .ok (.if_icmp .ne 10, 3) := dk_160 0 10 (dk_at dksX6_part_1 6 rfl rfl)
theorem dX6_part_32 : decode cX6_part 32 = .ok (.aload_n 0, 1) := dk_42 (dk_at dksX6_part_1 9 rfl rfl)
theorem dX6_part_33 : decode cX6_part 33 = .ok (.getfield 15, 3) := dk_180 0 15 (dk_at dksX6_part_1 10 rfl rfl)
theorem dX6_part_36 : decode cX6_part 36 = .ok (.goto 11, 3) := dk_167 0 11 (dk_at dksX6_part_1 13 rfl rfl)
theorem dX6_part_39 : decode cX6_part 39 = .ok (.aload_n 0, 1) := dk_42 (dk_at dksX6_part_1 16 rfl rfl)
theorem dX6_part_40 : decode cX6_part 40 = .ok (.getfield 21, 3) := dk_180 0 21 (dk_at dksX6_part_1 17 rfl rfl)
theorem dX6_part_43 : decode cX6_part 43 = .ok (.iload_n 1, 1) := dk_27 (dk_at dksX6_part_1 20 rfl rfl)
theorem dX6_part_44 : decode cX6_part 44 = .ok (.invokevirtual 31, 3) := dk_182 0 31 (dk_at dksX6_part_1 21 rfl rfl)
theorem dX6_part_47 : decode cX6_part 47 = .ok (.ireturn, 1) := dk_172 (dk_at dksX6_part_2 0 rfl rfl)
theorem q149 : (Jvm.Cond.initialized "RobotCell$Job") ∈ lw_all := lw_g (lw_at lw_m1 56 rfl) rfl
theorem q866 : (Jvm.Cond.selects "RobotCell$Job" ({ cls := "java/lang/Object", name := "toString", desc := "()Ljava/lang/String;" } : Jvm.MethodName) ({ cls := "java/lang/Object", name := "toString", desc := "()Ljava/lang/String;" } : Jvm.MethodName)) ∈ lw_all := lw_g (lw_at lw_m4 53 rfl) rfl
theorem q886 : (Jvm.Cond.selects "RobotCell$Job" ({ cls := "java/lang/Object", name := "getClass", desc := "()Ljava/lang/Class;" } : Jvm.MethodName) ({ cls := "java/lang/Object", name := "getClass", desc := "()Ljava/lang/Class;" } : Jvm.MethodName)) ∈ lw_all := lw_g (lw_at lw_m4 73 rfl) rfl
theorem q1660 : (Jvm.Cond.selects "RobotCell$Job" ({ cls := "java/lang/Object", name := "hashCode", desc := "()I" } : Jvm.MethodName) ({ cls := "java/lang/Object", name := "hashCode", desc := "()I" } : Jvm.MethodName)) ∈ lw_all := lw_g (lw_at lw_m7 127 rfl) rfl
theorem q2072 : (Jvm.Cond.selects "RobotCell$Job" ({ cls := "java/lang/Object", name := "equals", desc := "(Ljava/lang/Object;)Z" } : Jvm.MethodName) ({ cls := "java/lang/Object", name := "equals", desc := "(Ljava/lang/Object;)Z" } : Jvm.MethodName)) ∈ lw_all := lw_g (lw_at lw_m9 59 rfl) rfl
theorem q2278 : (Jvm.Cond.instantiable "RobotCell$Job" (5 : Nat)) ∈ lw_all := lw_g (lw_at lw_m10 25 rfl) rfl
theorem q2280 : (Jvm.Cond.instanceMethod ({ cls := "RobotCell$Job", name := "<init>", desc := "(LRobotCell$Job;)V" } : Jvm.MethodName)) ∈ lw_all := lw_g (lw_at lw_m10 27 rfl) rfl
theorem q2281 : (Jvm.Cond.code ({ cls := "RobotCell$Job", name := "<init>", desc := "(LRobotCell$Job;)V" } : Jvm.MethodName) prog_10_method_2_code (2 : Nat) (Option.none : Option Jvm.ClassFile.FieldType)) ∈ lw_all := lw_g (lw_at lw_m10 28 rfl) rfl
theorem q2282 : (Jvm.Cond.methodLink "RobotCell$Job" (25 : Nat) ({ cls := "RobotCell$Job", name := "<init>", desc := "(ILRobotCell$Order;)V" } : Jvm.MethodName)) ∈ lw_all := lw_g (lw_at lw_m10 29 rfl) rfl
theorem q2283 : (Jvm.Cond.instanceMethod ({ cls := "RobotCell$Job", name := "<init>", desc := "(ILRobotCell$Order;)V" } : Jvm.MethodName)) ∈ lw_all := lw_g (lw_at lw_m10 30 rfl) rfl
theorem q2284 : (Jvm.Cond.code ({ cls := "RobotCell$Job", name := "<init>", desc := "(ILRobotCell$Order;)V" } : Jvm.MethodName) prog_10_method_1_code (3 : Nat) (Option.none : Option Jvm.ClassFile.FieldType)) ∈ lw_all := lw_g (lw_at lw_m10 31 rfl) rfl
theorem q2285 : (Jvm.Cond.methodLink "RobotCell$Job" (3 : Nat) ({ cls := "java/lang/Object", name := "<init>", desc := "()V" } : Jvm.MethodName)) ∈ lw_all := lw_g (lw_at lw_m10 32 rfl) rfl
theorem q2286 : (Jvm.Cond.fieldLink "RobotCell$Job" (18 : Nat) "RobotCell$Job" "number" "I") ∈ lw_all := lw_g (lw_at lw_m10 33 rfl) rfl
theorem q2289 : (Jvm.Cond.fieldLink "RobotCell$Job" (21 : Nat) "RobotCell$Job" "order" "LRobotCell$Order;") ∈ lw_all := lw_g (lw_at lw_m10 36 rfl) rfl
theorem q2291 : (Jvm.Cond.fieldLink "RobotCell$Job" (28 : Nat) "RobotCell$Job" "state" "I") ∈ lw_all := lw_g (lw_at lw_m10 38 rfl) rfl
theorem q2294 : (Jvm.Cond.fieldLink "RobotCell$Job" (9 : Nat) "RobotCell$Job" "started" "I") ∈ lw_all := lw_g (lw_at lw_m10 41 rfl) rfl
theorem q2296 : (Jvm.Cond.fieldLink "RobotCell$Job" (15 : Nat) "RobotCell$Job" "ended" "I") ∈ lw_all := lw_g (lw_at lw_m10 43 rfl) rfl
theorem q2298 : (Jvm.Cond.laysFinal "RobotCell$Job" "RobotCell$Job" "number" "I") ∈ lw_all := lw_g (lw_at lw_m10 45 rfl) rfl
theorem q2299 : (Jvm.Cond.soleField "RobotCell$Job" "number") ∈ lw_all := lw_g (lw_at lw_m10 46 rfl) rfl
theorem q2300 : (Jvm.Cond.laysFinal "RobotCell$Job" "RobotCell$Job" "order" "LRobotCell$Order;") ∈ lw_all := lw_g (lw_at lw_m10 47 rfl) rfl
theorem q2301 : (Jvm.Cond.soleField "RobotCell$Job" "order") ∈ lw_all := lw_g (lw_at lw_m10 48 rfl) rfl
theorem q2302 : (Jvm.Cond.lays "RobotCell$Job" "RobotCell$Job" "state" "I") ∈ lw_all := lw_g (lw_at lw_m10 49 rfl) rfl
theorem q2303 : (Jvm.Cond.soleField "RobotCell$Job" "state") ∈ lw_all := lw_g (lw_at lw_m10 50 rfl) rfl
theorem q2304 : (Jvm.Cond.lays "RobotCell$Job" "RobotCell$Job" "started" "I") ∈ lw_all := lw_g (lw_at lw_m10 51 rfl) rfl
theorem q2305 : (Jvm.Cond.soleField "RobotCell$Job" "started") ∈ lw_all := lw_g (lw_at lw_m10 52 rfl) rfl
theorem q2306 : (Jvm.Cond.lays "RobotCell$Job" "RobotCell$Job" "ended" "I") ∈ lw_all := lw_g (lw_at lw_m10 53 rfl) rfl
theorem q2307 : (Jvm.Cond.soleField "RobotCell$Job" "ended") ∈ lw_all := lw_g (lw_at lw_m10 54 rfl) rfl
theorem q2308 : (Jvm.Cond.superclass "RobotCell$Job" "java/lang/Object") ∈ lw_all := lw_g (lw_at lw_m10 55 rfl) rfl
theorem q2742 : (Jvm.Cond.instanceMethod ({ cls := "RobotCell$Job", name := "part", desc := "(I)I" } : Jvm.MethodName)) ∈ lw_all := lw_g (lw_at lw_m12 9 rfl) rfl
theorem q2743 : (Jvm.Cond.selects "RobotCell$Job" ({ cls := "RobotCell$Job", name := "part", desc := "(I)I" } : Jvm.MethodName) ({ cls := "RobotCell$Job", name := "part", desc := "(I)I" } : Jvm.MethodName)) ∈ lw_all := lw_g (lw_at lw_m12 10 rfl) rfl
theorem q2744 : (Jvm.Cond.code ({ cls := "RobotCell$Job", name := "part", desc := "(I)I" } : Jvm.MethodName) prog_10_method_3_code (2 : Nat) (Option.some Jvm.ClassFile.FieldType.int)) ∈ lw_all := lw_g (lw_at lw_m12 11 rfl) rfl
theorem q2745 : (Jvm.Cond.methodLink "RobotCell$Job" (31 : Nat) ({ cls := "RobotCell$Order", name := "number", desc := "(I)I" } : Jvm.MethodName)) ∈ lw_all := lw_g (lw_at lw_m12 12 rfl) rfl
theorem q3789 : (Jvm.Cond.castable "RobotCell$Job" "java/lang/Object") ∈ lw_tbl := lw_at lw_m16 96 rfl
theorem in_X6 : ∀ w ∈ wsX60, w ∈ lw_all := lw_in wsX60 [2298, 2300, 2302, 2304, 2306] (by decide +kernel) (by decide +kernel)
/-! RobotCell$Interlock -/
set_option maxRecDepth 100000
def RX7 : String := "RobotCell$Interlock"
def TX7 : u_T := fun k => match k with
  | 0 => ("RobotCell$Interlock", "low", "I", true)
  | _ => ("RobotCell$Interlock", "high", "I", true)
def tyX7 : Nat → FieldType := fun k => match k with
  | 0 => .int
  | _ => .int
abbrev wsX70 : List Cond := u_ws RX7 TX7 2
theorem nmX7 : ∀ a, a < 2 → ∀ b, b < 2 → a ≠ b → (TX7 a).2.1 ≠ (TX7 b).2.1 := by decide +kernel
theorem tyX7_ok : ∀ k, k < 2 → parseFieldDescriptor (TX7 k).2.2.1 = some (tyX7 k) := by decide +kernel
abbrev cX7_partner : ByteArray := prog_9_method_2_code
def yX7_partner : MethodName := ⟨RX7, "partner", "(I)I"⟩
def dkwX7_partner_1 : List UInt8 := [180, 0, 15, 167, 0, 4, 2, 172]
abbrev dktX7_partner_1 : List UInt8 := dkwX7_partner_1 ++ []
def dkwX7_partner_0 : List UInt8 := [27, 42, 180, 0, 15, 160, 0, 10, 42, 180, 0, 24, 167, 0, 19, 27, 42, 180, 0, 24, 160, 0, 10, 42]
abbrev dktX7_partner_0 : List UInt8 := dkwX7_partner_0 ++ dktX7_partner_1
theorem dksX7_partner_0 : cX7_partner.data.toList.drop 0 = dktX7_partner_0 := by decide +kernel
theorem dksX7_partner_1 : cX7_partner.data.toList.drop 24 = dktX7_partner_1 := dk_seg dksX7_partner_0 24 rfl rfl
theorem dX7_partner_0 : decode cX7_partner 0 = .ok (.iload_n 1, 1) := dk_27 (dk_at dksX7_partner_0 0 rfl rfl)
theorem dX7_partner_1 : decode cX7_partner 1 = .ok (.aload_n 0, 1) := dk_42 (dk_at dksX7_partner_0 1 rfl rfl)
theorem dX7_partner_2 : decode cX7_partner 2 = .ok (.getfield 15, 3) := dk_180 0 15 (dk_at dksX7_partner_0 2 rfl rfl)
theorem dX7_partner_5 : decode cX7_partner 5 = .ok (.if_icmp .ne 10, 3) := dk_160 0 10 (dk_at dksX7_partner_0 5 rfl rfl)
theorem dX7_partner_8 : decode cX7_partner 8 = .ok (.aload_n 0, 1) := dk_42 (dk_at dksX7_partner_0 8 rfl rfl)
theorem dX7_partner_9 : decode cX7_partner 9 = .ok (.getfield 24, 3) := dk_180 0 24 (dk_at dksX7_partner_0 9 rfl rfl)
theorem dX7_partner_12 : decode cX7_partner 12 = .ok (.goto 19, 3) := dk_167 0 19 (dk_at dksX7_partner_0 12 rfl rfl)
theorem dX7_partner_15 : decode cX7_partner 15 = .ok (.iload_n 1, 1) := dk_27 (dk_at dksX7_partner_0 15 rfl rfl)
theorem dX7_partner_16 : decode cX7_partner 16 = .ok (.aload_n 0, 1) := dk_42 (dk_at dksX7_partner_0 16 rfl rfl)
theorem dX7_partner_17 : decode cX7_partner 17 = .ok (.getfield 24, 3) := dk_180 0 24 (dk_at dksX7_partner_0 17 rfl rfl)
theorem dX7_partner_20 : decode cX7_partner 20 = .ok (.if_icmp .ne 10, 3) := dk_160 0 10 (dk_at dksX7_partner_0 20 rfl rfl)
theorem dX7_partner_23 : decode cX7_partner 23 = .ok (.aload_n 0, 1) := dk_42 (dk_at dksX7_partner_0 23 rfl rfl)
theorem dX7_partner_24 : decode cX7_partner 24 = .ok (.getfield 15, 3) := dk_180 0 15 (dk_at dksX7_partner_1 0 rfl rfl)
theorem dX7_partner_27 : decode cX7_partner 27 = .ok (.goto 4, 3) := dk_167 0 4 (dk_at dksX7_partner_1 3 rfl rfl)
theorem dX7_partner_30 : decode cX7_partner 30 = .ok (.iconst (-1), 1) := dk_2 (dk_at dksX7_partner_1 6 rfl rfl)
theorem dX7_partner_31 : decode cX7_partner 31 = .ok (.ireturn, 1) := dk_172 (dk_at dksX7_partner_1 7 rfl rfl)
abbrev cX7_hashCode : ByteArray := prog_9_method_4_code
def yX7_hashCode : MethodName := ⟨RX7, "hashCode", "()I"⟩
def dkwX7_hashCode_0 : List UInt8 := [16, 8, 42, 180, 0, 15, 104, 42, 180, 0, 24, 96, 172]
abbrev dktX7_hashCode_0 : List UInt8 := dkwX7_hashCode_0 ++ []
theorem dksX7_hashCode_0 : cX7_hashCode.data.toList.drop 0 = dktX7_hashCode_0 := by decide +kernel
theorem dX7_hashCode_0 : decode cX7_hashCode 0 = .ok (.bipush 8, 2) := dk_16 8 (dk_at dksX7_hashCode_0 0 rfl rfl)
theorem dX7_hashCode_2 : decode cX7_hashCode 2 = .ok (.aload_n 0, 1) := dk_42 (dk_at dksX7_hashCode_0 2 rfl rfl)
theorem dX7_hashCode_3 : decode cX7_hashCode 3 = .ok (.getfield 15, 3) := dk_180 0 15 (dk_at dksX7_hashCode_0 3 rfl rfl)
theorem dX7_hashCode_6 : decode cX7_hashCode 6 = .ok (.imul, 1) := dk_104 (dk_at dksX7_hashCode_0 6 rfl rfl)
theorem dX7_hashCode_7 : decode cX7_hashCode 7 = .ok (.aload_n 0, 1) := dk_42 (dk_at dksX7_hashCode_0 7 rfl rfl)
theorem dX7_hashCode_8 : decode cX7_hashCode 8 = .ok (.getfield 24, 3) := dk_180 0 24 (dk_at dksX7_hashCode_0 8 rfl rfl)
theorem dX7_hashCode_11 : decode cX7_hashCode 11 = .ok (.iadd, 1) := dk_96 (dk_at dksX7_hashCode_0 11 rfl rfl)
theorem dX7_hashCode_12 : decode cX7_hashCode 12 = .ok (.ireturn, 1) := dk_172 (dk_at dksX7_hashCode_0 12 rfl rfl)
abbrev cX7_equals : ByteArray := prog_9_method_3_code
def yX7_equals : MethodName := ⟨RX7, "equals", "(Ljava/lang/Object;)Z"⟩
def dkwX7_equals_1 : List UInt8 := [192, 0, 16, 180, 0, 24, 42, 180, 0, 24, 160, 0, 7, 4, 167, 0, 4, 3, 172]
abbrev dktX7_equals_1 : List UInt8 := dkwX7_equals_1 ++ []
def dkwX7_equals_0 : List UInt8 := [43, 193, 0, 16, 153, 0, 35, 43, 192, 0, 16, 180, 0, 15, 42, 180, 0, 15, 160, 0, 21, 43]
abbrev dktX7_equals_0 : List UInt8 := dkwX7_equals_0 ++ dktX7_equals_1
theorem dksX7_equals_0 : cX7_equals.data.toList.drop 0 = dktX7_equals_0 := by decide +kernel
theorem dksX7_equals_1 : cX7_equals.data.toList.drop 22 = dktX7_equals_1 := dk_seg dksX7_equals_0 22 rfl rfl
theorem dX7_equals_0 : decode cX7_equals 0 = .ok (.aload_n 1, 1) := dk_43 (dk_at dksX7_equals_0 0 rfl rfl)
theorem dX7_equals_1 : decode cX7_equals 1 = .ok (.instanceof 16, 3) := dk_193 0 16 (dk_at dksX7_equals_0 1 rfl rfl)
theorem dX7_equals_4 : decode cX7_equals 4 = .ok (.ifCond .eq 35, 3) := dk_153 0 35 (dk_at dksX7_equals_0 4 rfl rfl)
theorem dX7_equals_7 : decode cX7_equals 7 = .ok (.aload_n 1, 1) := dk_43 (dk_at dksX7_equals_0 7 rfl rfl)
theorem dX7_equals_8 : decode cX7_equals 8 = .ok (.checkcast 16, 3) := dk_192 0 16 (dk_at dksX7_equals_0 8 rfl rfl)
theorem dX7_equals_11 : decode cX7_equals 11 = .ok (.getfield 15, 3) := dk_180 0 15 (dk_at dksX7_equals_0 11 rfl rfl)
theorem dX7_equals_14 : decode cX7_equals 14 = .ok (.aload_n 0, 1) := dk_42 (dk_at dksX7_equals_0 14 rfl rfl)
theorem dX7_equals_15 : decode cX7_equals 15 = .ok (.getfield 15, 3) := dk_180 0 15 (dk_at dksX7_equals_0 15 rfl rfl)
theorem dX7_equals_18 : decode cX7_equals 18 = .ok (.if_icmp .ne 21, 3) := dk_160 0 21 (dk_at dksX7_equals_0 18 rfl rfl)
theorem dX7_equals_21 : decode cX7_equals 21 = .ok (.aload_n 1, 1) := dk_43 (dk_at dksX7_equals_0 21 rfl rfl)
theorem dX7_equals_22 : decode cX7_equals 22 = .ok (.checkcast 16, 3) := dk_192 0 16 (dk_at dksX7_equals_1 0 rfl rfl)
theorem dX7_equals_25 : decode cX7_equals 25 = .ok (.getfield 24, 3) := dk_180 0 24 (dk_at dksX7_equals_1 3 rfl rfl)
theorem dX7_equals_28 : decode cX7_equals 28 = .ok (.aload_n 0, 1) := dk_42 (dk_at dksX7_equals_1 6 rfl rfl)
theorem dX7_equals_29 : decode cX7_equals 29 = .ok (.getfield 24, 3) := dk_180 0 24 (dk_at dksX7_equals_1 7 rfl rfl)
theorem dX7_equals_32 : decode cX7_equals 32 = .ok (.if_icmp .ne 7, 3) := dk_160 0 7 (dk_at dksX7_equals_1 10 rfl rfl)
theorem dX7_equals_35 : decode cX7_equals 35 = .ok (.iconst 1, 1) := dk_4 (dk_at dksX7_equals_1 13 rfl rfl)
theorem dX7_equals_36 : decode cX7_equals 36 = .ok (.goto 4, 3) := dk_167 0 4 (dk_at dksX7_equals_1 14 rfl rfl)
theorem dX7_equals_39 : decode cX7_equals 39 = .ok (.iconst 0, 1) := dk_3 (dk_at dksX7_equals_1 17 rfl rfl)
theorem dX7_equals_40 : decode cX7_equals 40 = .ok (.ireturn, 1) := dk_172 (dk_at dksX7_equals_1 18 rfl rfl)
abbrev cX7_init : ByteArray := prog_9_method_1_code
def yX7_init : MethodName := ⟨RX7, "<init>", "(II)V"⟩
def dkwX7_init_0 : List UInt8 := [42, 183, 0, 3, 42, 27, 28, 184, 0, 9, 181, 0, 15, 42, 27, 28, 184, 0, 21, 181, 0, 24, 177]
abbrev dktX7_init_0 : List UInt8 := dkwX7_init_0 ++ []
theorem dksX7_init_0 : cX7_init.data.toList.drop 0 = dktX7_init_0 := by decide +kernel
theorem dX7_init_0 : decode cX7_init 0 = .ok (.aload_n 0, 1) := dk_42 (dk_at dksX7_init_0 0 rfl rfl)
theorem dX7_init_1 : decode cX7_init 1 = .ok (.invokespecial 3, 3) := dk_183 0 3 (dk_at dksX7_init_0 1 rfl rfl)
theorem dX7_init_4 : decode cX7_init 4 = .ok (.aload_n 0, 1) := dk_42 (dk_at dksX7_init_0 4 rfl rfl)
theorem dX7_init_5 : decode cX7_init 5 = .ok (.iload_n 1, 1) := dk_27 (dk_at dksX7_init_0 5 rfl rfl)
theorem dX7_init_6 : decode cX7_init 6 = .ok (.iload_n 2, 1) := dk_28 (dk_at dksX7_init_0 6 rfl rfl)
theorem dX7_init_7 : decode cX7_init 7 = .ok (.invokestatic 9, 3) := dk_184 0 9 (dk_at dksX7_init_0 7 rfl rfl)
theorem dX7_init_10 : decode cX7_init 10 = .ok (.putfield 15, 3) := dk_181 0 15 (dk_at dksX7_init_0 10 rfl rfl)
theorem dX7_init_13 : decode cX7_init 13 = .ok (.aload_n 0, 1) := dk_42 (dk_at dksX7_init_0 13 rfl rfl)
theorem dX7_init_14 : decode cX7_init 14 = .ok (.iload_n 1, 1) := dk_27 (dk_at dksX7_init_0 14 rfl rfl)
theorem dX7_init_15 : decode cX7_init 15 = .ok (.iload_n 2, 1) := dk_28 (dk_at dksX7_init_0 15 rfl rfl)
theorem dX7_init_16 : decode cX7_init 16 = .ok (.invokestatic 21, 3) := dk_184 0 21 (dk_at dksX7_init_0 16 rfl rfl)
theorem dX7_init_19 : decode cX7_init 19 = .ok (.putfield 24, 3) := dk_181 0 24 (dk_at dksX7_init_0 19 rfl rfl)
theorem dX7_init_22 : decode cX7_init 22 = .ok (.return_, 1) := dk_177 (dk_at dksX7_init_0 22 rfl rfl)
theorem q150 : (Jvm.Cond.initialized "RobotCell$Interlock") ∈ lw_all := lw_g (lw_at lw_m1 57 rfl) rfl
theorem q865 : (Jvm.Cond.selects "RobotCell$Interlock" ({ cls := "java/lang/Object", name := "toString", desc := "()Ljava/lang/String;" } : Jvm.MethodName) ({ cls := "java/lang/Object", name := "toString", desc := "()Ljava/lang/String;" } : Jvm.MethodName)) ∈ lw_all := lw_g (lw_at lw_m4 52 rfl) rfl
theorem q885 : (Jvm.Cond.selects "RobotCell$Interlock" ({ cls := "java/lang/Object", name := "getClass", desc := "()Ljava/lang/Class;" } : Jvm.MethodName) ({ cls := "java/lang/Object", name := "getClass", desc := "()Ljava/lang/Class;" } : Jvm.MethodName)) ∈ lw_all := lw_g (lw_at lw_m4 72 rfl) rfl
theorem q1617 : (Jvm.Cond.instanceMethod ({ cls := "RobotCell$Interlock", name := "partner", desc := "(I)I" } : Jvm.MethodName)) ∈ lw_all := lw_g (lw_at lw_m7 84 rfl) rfl
theorem q1618 : (Jvm.Cond.selects "RobotCell$Interlock" ({ cls := "RobotCell$Interlock", name := "partner", desc := "(I)I" } : Jvm.MethodName) ({ cls := "RobotCell$Interlock", name := "partner", desc := "(I)I" } : Jvm.MethodName)) ∈ lw_all := lw_g (lw_at lw_m7 85 rfl) rfl
theorem q1619 : (Jvm.Cond.code ({ cls := "RobotCell$Interlock", name := "partner", desc := "(I)I" } : Jvm.MethodName) prog_9_method_2_code (2 : Nat) (Option.some Jvm.ClassFile.FieldType.int)) ∈ lw_all := lw_g (lw_at lw_m7 86 rfl) rfl
theorem q1657 : (Jvm.Cond.selects "RobotCell$Interlock" ({ cls := "java/lang/Object", name := "hashCode", desc := "()I" } : Jvm.MethodName) ({ cls := "RobotCell$Interlock", name := "hashCode", desc := "()I" } : Jvm.MethodName)) ∈ lw_all := lw_g (lw_at lw_m7 124 rfl) rfl
theorem q1658 : (Jvm.Cond.instanceMethod ({ cls := "RobotCell$Interlock", name := "hashCode", desc := "()I" } : Jvm.MethodName)) ∈ lw_all := lw_g (lw_at lw_m7 125 rfl) rfl
theorem q1659 : (Jvm.Cond.code ({ cls := "RobotCell$Interlock", name := "hashCode", desc := "()I" } : Jvm.MethodName) prog_9_method_4_code (1 : Nat) (Option.some Jvm.ClassFile.FieldType.int)) ∈ lw_all := lw_g (lw_at lw_m7 126 rfl) rfl
theorem q2068 : (Jvm.Cond.selects "RobotCell$Interlock" ({ cls := "java/lang/Object", name := "equals", desc := "(Ljava/lang/Object;)Z" } : Jvm.MethodName) ({ cls := "RobotCell$Interlock", name := "equals", desc := "(Ljava/lang/Object;)Z" } : Jvm.MethodName)) ∈ lw_all := lw_g (lw_at lw_m9 55 rfl) rfl
theorem q2069 : (Jvm.Cond.instanceMethod ({ cls := "RobotCell$Interlock", name := "equals", desc := "(Ljava/lang/Object;)Z" } : Jvm.MethodName)) ∈ lw_all := lw_g (lw_at lw_m9 56 rfl) rfl
theorem q2070 : (Jvm.Cond.code ({ cls := "RobotCell$Interlock", name := "equals", desc := "(Ljava/lang/Object;)Z" } : Jvm.MethodName) prog_9_method_3_code (2 : Nat) (Option.some Jvm.ClassFile.FieldType.boolean)) ∈ lw_all := lw_g (lw_at lw_m9 57 rfl) rfl
theorem q2071 : (Jvm.Cond.classLink "RobotCell$Interlock" (16 : Nat) "RobotCell$Interlock") ∈ lw_all := lw_g (lw_at lw_m9 58 rfl) rfl
theorem q2417 : (Jvm.Cond.instantiable "RobotCell$Interlock" (2 : Nat)) ∈ lw_all := lw_g (lw_at lw_m10 164 rfl) rfl
theorem q2419 : (Jvm.Cond.instanceMethod ({ cls := "RobotCell$Interlock", name := "<init>", desc := "(II)V" } : Jvm.MethodName)) ∈ lw_all := lw_g (lw_at lw_m10 166 rfl) rfl
theorem q2420 : (Jvm.Cond.code ({ cls := "RobotCell$Interlock", name := "<init>", desc := "(II)V" } : Jvm.MethodName) prog_9_method_1_code (3 : Nat) (Option.none : Option Jvm.ClassFile.FieldType)) ∈ lw_all := lw_g (lw_at lw_m10 167 rfl) rfl
theorem q2421 : (Jvm.Cond.methodLink "RobotCell$Interlock" (3 : Nat) ({ cls := "java/lang/Object", name := "<init>", desc := "()V" } : Jvm.MethodName)) ∈ lw_all := lw_g (lw_at lw_m10 168 rfl) rfl
theorem q2422 : (Jvm.Cond.methodLink "RobotCell$Interlock" (9 : Nat) ({ cls := "java/lang/Math", name := "min", desc := "(II)I" } : Jvm.MethodName)) ∈ lw_all := lw_g (lw_at lw_m10 169 rfl) rfl
theorem q2423 : (Jvm.Cond.methodLink "RobotCell$Interlock" (21 : Nat) ({ cls := "java/lang/Math", name := "max", desc := "(II)I" } : Jvm.MethodName)) ∈ lw_all := lw_g (lw_at lw_m10 170 rfl) rfl
theorem q2424 : (Jvm.Cond.fieldLink "RobotCell$Interlock" (15 : Nat) "RobotCell$Interlock" "low" "I") ∈ lw_all := lw_g (lw_at lw_m10 171 rfl) rfl
theorem q2425 : (Jvm.Cond.fieldLink "RobotCell$Interlock" (24 : Nat) "RobotCell$Interlock" "high" "I") ∈ lw_all := lw_g (lw_at lw_m10 172 rfl) rfl
theorem q2426 : (Jvm.Cond.laysFinal "RobotCell$Interlock" "RobotCell$Interlock" "low" "I") ∈ lw_all := lw_g (lw_at lw_m10 173 rfl) rfl
theorem q2427 : (Jvm.Cond.soleField "RobotCell$Interlock" "low") ∈ lw_all := lw_g (lw_at lw_m10 174 rfl) rfl
theorem q2428 : (Jvm.Cond.laysFinal "RobotCell$Interlock" "RobotCell$Interlock" "high" "I") ∈ lw_all := lw_g (lw_at lw_m10 175 rfl) rfl
theorem q2429 : (Jvm.Cond.soleField "RobotCell$Interlock" "high") ∈ lw_all := lw_g (lw_at lw_m10 176 rfl) rfl
theorem q2430 : (Jvm.Cond.superclass "RobotCell$Interlock" "java/lang/Object") ∈ lw_all := lw_g (lw_at lw_m10 177 rfl) rfl
theorem q3791 : (Jvm.Cond.castable "RobotCell$Interlock" "java/lang/Object") ∈ lw_tbl := lw_at lw_m16 98 rfl
theorem in_X7 : ∀ w ∈ wsX70, w ∈ lw_all := lw_in wsX70 [2426, 2428] (by decide +kernel) (by decide +kernel)
/-! RobotCell$Order -/
set_option maxRecDepth 100000
def RX8 : String := "RobotCell$Order"
def TX8 : u_T := fun k => match k with
  | 0 => ("RobotCell$Order", "arm", "I", true)
  | 1 => ("RobotCell$Order", "code", "I", true)
  | 2 => ("RobotCell$Order", "path", "[I", true)
  | 3 => ("RobotCell$Order", "work", "I", true)
  | 4 => ("RobotCell$Order", "weight", "I", true)
  | 5 => ("RobotCell$Order", "source", "I", true)
  | _ => ("RobotCell$Order", "target", "I", true)
def tyX8 : Nat → FieldType := fun k => match k with
  | 0 => .int
  | 1 => .int
  | 2 => .array .int
  | 3 => .int
  | 4 => .int
  | 5 => .int
  | _ => .int
abbrev wsX80 : List Cond := u_ws RX8 TX8 7
theorem nmX8 : ∀ a, a < 7 → ∀ b, b < 7 → a ≠ b → (TX8 a).2.1 ≠ (TX8 b).2.1 := by decide +kernel
theorem tyX8_ok : ∀ k, k < 7 → parseFieldDescriptor (TX8 k).2.2.1 = some (tyX8 k) := by decide +kernel
abbrev cX8_init : ByteArray := prog_11_method_1_code
def yX8_init : MethodName := ⟨RX8, "<init>", "(IIIIII)V"⟩
def dkwX8_init_1 : List UInt8 := [181, 0, 26, 42, 21, 4, 181, 0, 29, 42, 21, 5, 181, 0, 32, 42, 21, 6, 181, 0, 35, 177]
abbrev dktX8_init_1 : List UInt8 := dkwX8_init_1 ++ []
def dkwX8_init_0 : List UInt8 := [42, 183, 0, 3, 42, 27, 181, 0, 9, 42, 28, 181, 0, 15, 42, 28, 184, 0, 18, 181, 0, 22, 42, 29]
abbrev dktX8_init_0 : List UInt8 := dkwX8_init_0 ++ dktX8_init_1
theorem dksX8_init_0 : cX8_init.data.toList.drop 0 = dktX8_init_0 := by decide +kernel
theorem dksX8_init_1 : cX8_init.data.toList.drop 24 = dktX8_init_1 := dk_seg dksX8_init_0 24 rfl rfl
theorem dX8_init_0 : decode cX8_init 0 = .ok (.aload_n 0, 1) := dk_42 (dk_at dksX8_init_0 0 rfl rfl)
theorem dX8_init_1 : decode cX8_init 1 = .ok (.invokespecial 3, 3) := dk_183 0 3 (dk_at dksX8_init_0 1 rfl rfl)
theorem dX8_init_4 : decode cX8_init 4 = .ok (.aload_n 0, 1) := dk_42 (dk_at dksX8_init_0 4 rfl rfl)
theorem dX8_init_5 : decode cX8_init 5 = .ok (.iload_n 1, 1) := dk_27 (dk_at dksX8_init_0 5 rfl rfl)
theorem dX8_init_6 : decode cX8_init 6 = .ok (.putfield 9, 3) := dk_181 0 9 (dk_at dksX8_init_0 6 rfl rfl)
theorem dX8_init_9 : decode cX8_init 9 = .ok (.aload_n 0, 1) := dk_42 (dk_at dksX8_init_0 9 rfl rfl)
theorem dX8_init_10 : decode cX8_init 10 = .ok (.iload_n 2, 1) := dk_28 (dk_at dksX8_init_0 10 rfl rfl)
theorem dX8_init_11 : decode cX8_init 11 = .ok (.putfield 15, 3) := dk_181 0 15 (dk_at dksX8_init_0 11 rfl rfl)
theorem dX8_init_14 : decode cX8_init 14 = .ok (.aload_n 0, 1) := dk_42 (dk_at dksX8_init_0 14 rfl rfl)
theorem dX8_init_15 : decode cX8_init 15 = .ok (.iload_n 2, 1) := dk_28 (dk_at dksX8_init_0 15 rfl rfl)
theorem dX8_init_16 : decode cX8_init 16 = .ok (.invokestatic 18, 3) := dk_184 0 18 (dk_at dksX8_init_0 16 rfl rfl)
theorem dX8_init_19 : decode cX8_init 19 = .ok (.putfield 22, 3) := dk_181 0 22 (dk_at dksX8_init_0 19 rfl rfl)
theorem dX8_init_22 : decode cX8_init 22 = .ok (.aload_n 0, 1) := dk_42 (dk_at dksX8_init_0 22 rfl rfl)
theorem dX8_init_23 : decode cX8_init 23 = .ok (.iload_n 3, 1) := dk_29 (dk_at dksX8_init_0 23 rfl rfl)
theorem dX8_init_24 : decode cX8_init 24 = .ok (.putfield 26, 3) := dk_181 0 26 (dk_at dksX8_init_1 0 rfl rfl)
theorem dX8_init_27 : decode cX8_init 27 = .ok (.aload_n 0, 1) := dk_42 (dk_at dksX8_init_1 3 rfl rfl)
theorem dX8_init_28 : decode cX8_init 28 = .ok (.iload 4, 2) := dk_21 4 (dk_at dksX8_init_1 4 rfl rfl)
theorem dX8_init_30 : decode cX8_init 30 = .ok (.putfield 29, 3) := dk_181 0 29 (dk_at dksX8_init_1 6 rfl rfl)
theorem dX8_init_33 : decode cX8_init 33 = .ok (.aload_n 0, 1) := dk_42 (dk_at dksX8_init_1 9 rfl rfl)
theorem dX8_init_34 : decode cX8_init 34 = .ok (.iload 5, 2) := dk_21 5 (dk_at dksX8_init_1 10 rfl rfl)
theorem dX8_init_36 : decode cX8_init 36 = .ok (.putfield 32, 3) := dk_181 0 32 (dk_at dksX8_init_1 12 rfl rfl)
theorem dX8_init_39 : decode cX8_init 39 = .ok (.aload_n 0, 1) := dk_42 (dk_at dksX8_init_1 15 rfl rfl)
theorem dX8_init_40 : decode cX8_init 40 = .ok (.iload 6, 2) := dk_21 6 (dk_at dksX8_init_1 16 rfl rfl)
theorem dX8_init_42 : decode cX8_init 42 = .ok (.putfield 35, 3) := dk_181 0 35 (dk_at dksX8_init_1 18 rfl rfl)
theorem dX8_init_45 : decode cX8_init 45 = .ok (.return_, 1) := dk_177 (dk_at dksX8_init_1 21 rfl rfl)
abbrev cX8_pathOf : ByteArray := prog_11_method_2_code
def yX8_pathOf : MethodName := ⟨RX8, "pathOf", "(I)[I"⟩
def dkwX8_pathOf_5 : List UInt8 := [167, 0, 6, 3, 188, 10, 176]
abbrev dktX8_pathOf_5 : List UInt8 := dkwX8_pathOf_5 ++ []
def dkwX8_pathOf_4 : List UInt8 := [159, 0, 7, 4, 167, 0, 4, 3, 126, 54, 4, 132, 5, 255, 167, 255, 189, 21, 4, 153, 0, 7, 44]
abbrev dktX8_pathOf_4 : List UInt8 := dkwX8_pathOf_4 ++ dktX8_pathOf_5
def dkwX8_pathOf_3 : List UInt8 := [184, 0, 38, 153, 0, 28, 21, 5, 27, 4, 100, 159, 0, 16, 44, 21, 5, 46, 44, 21, 5, 4, 96, 46]
abbrev dktX8_pathOf_3 : List UInt8 := dkwX8_pathOf_3 ++ dktX8_pathOf_4
def dkwX8_pathOf_2 : List UInt8 := [21, 5, 29, 16, 10, 112, 4, 100, 79, 29, 16, 10, 108, 62, 21, 4, 44, 21, 5, 46, 3, 16, 7]
abbrev dktX8_pathOf_2 : List UInt8 := dkwX8_pathOf_2 ++ dktX8_pathOf_3
def dkwX8_pathOf_1 : List UInt8 := [62, 27, 8, 163, 0, 7, 4, 167, 0, 4, 3, 54, 4, 27, 4, 100, 54, 5, 21, 5, 155, 0, 68, 44]
abbrev dktX8_pathOf_1 : List UInt8 := dkwX8_pathOf_1 ++ dktX8_pathOf_2
def dkwX8_pathOf_0 : List UInt8 := [3, 60, 26, 61, 28, 158, 0, 14, 132, 1, 1, 28, 16, 10, 108, 61, 167, 255, 244, 27, 188, 10, 77, 26]
abbrev dktX8_pathOf_0 : List UInt8 := dkwX8_pathOf_0 ++ dktX8_pathOf_1
theorem dksX8_pathOf_0 : cX8_pathOf.data.toList.drop 0 = dktX8_pathOf_0 := by decide +kernel
theorem dksX8_pathOf_1 : cX8_pathOf.data.toList.drop 24 = dktX8_pathOf_1 := dk_seg dksX8_pathOf_0 24 rfl rfl
theorem dksX8_pathOf_2 : cX8_pathOf.data.toList.drop 48 = dktX8_pathOf_2 := dk_seg dksX8_pathOf_1 24 rfl rfl
theorem dksX8_pathOf_3 : cX8_pathOf.data.toList.drop 71 = dktX8_pathOf_3 := dk_seg dksX8_pathOf_2 23 rfl rfl
theorem dksX8_pathOf_4 : cX8_pathOf.data.toList.drop 95 = dktX8_pathOf_4 := dk_seg dksX8_pathOf_3 24 rfl rfl
theorem dksX8_pathOf_5 : cX8_pathOf.data.toList.drop 118 = dktX8_pathOf_5 := dk_seg dksX8_pathOf_4 23 rfl rfl
theorem dX8_pathOf_0 : decode cX8_pathOf 0 = .ok (.iconst 0, 1) := dk_3 (dk_at dksX8_pathOf_0 0 rfl rfl)
theorem dX8_pathOf_1 : decode cX8_pathOf 1 = .ok (.istore_n 1, 1) := dk_60 (dk_at dksX8_pathOf_0 1 rfl rfl)
theorem dX8_pathOf_2 : decode cX8_pathOf 2 = .ok (.iload_n 0, 1) := dk_26 (dk_at dksX8_pathOf_0 2 rfl rfl)
theorem dX8_pathOf_3 : decode cX8_pathOf 3 = .ok (.istore_n 2, 1) := dk_61 (dk_at dksX8_pathOf_0 3 rfl rfl)
theorem dX8_pathOf_4 : decode cX8_pathOf 4 = .ok (.iload_n 2, 1) := dk_28 (dk_at dksX8_pathOf_0 4 rfl rfl)
theorem dX8_pathOf_5 : decode cX8_pathOf 5 = .ok (.ifCond .le 14, 3) := dk_158 0 14 (dk_at dksX8_pathOf_0 5 rfl rfl)
theorem dX8_pathOf_8 : decode cX8_pathOf 8 = .ok (.iinc 1 1, 3) := dk_132 1 1 (dk_at dksX8_pathOf_0 8 rfl rfl)
theorem dX8_pathOf_11 : decode cX8_pathOf 11 = .ok (.iload_n 2, 1) := dk_28 (dk_at dksX8_pathOf_0 11 rfl rfl)
theorem dX8_pathOf_12 : decode cX8_pathOf 12 = .ok (.bipush 10, 2) := dk_16 10 (dk_at dksX8_pathOf_0 12 rfl rfl)
theorem dX8_pathOf_14 : decode cX8_pathOf 14 = .ok (.idiv, 1) := dk_108 (dk_at dksX8_pathOf_0 14 rfl rfl)
theorem dX8_pathOf_15 : decode cX8_pathOf 15 = .ok (.istore_n 2, 1) := dk_61 (dk_at dksX8_pathOf_0 15 rfl rfl)
theorem dX8_pathOf_16 : decode cX8_pathOf 16 = .ok (.goto (-12), 3) := dk_167 255 244 (dk_at dksX8_pathOf_0 16 rfl rfl)
theorem dX8_pathOf_19 : decode cX8_pathOf 19 = .ok (.iload_n 1, 1) := dk_27 (dk_at dksX8_pathOf_0 19 rfl rfl)
theorem dX8_pathOf_20 : decode cX8_pathOf 20 = .ok (.newarray .int, 2) := dk_188_10 (dk_at dksX8_pathOf_0 20 rfl rfl)
theorem dX8_pathOf_22 : decode cX8_pathOf 22 = .ok (.astore_n 2, 1) := dk_77 (dk_at dksX8_pathOf_0 22 rfl rfl)
theorem dX8_pathOf_23 : decode cX8_pathOf 23 = .ok (.iload_n 0, 1) := dk_26 (dk_at dksX8_pathOf_0 23 rfl rfl)
theorem dX8_pathOf_24 : decode cX8_pathOf 24 = .ok (.istore_n 3, 1) := dk_62 (dk_at dksX8_pathOf_1 0 rfl rfl)
theorem dX8_pathOf_25 : decode cX8_pathOf 25 = .ok (.iload_n 1, 1) := dk_27 (dk_at dksX8_pathOf_1 1 rfl rfl)
theorem dX8_pathOf_26 : decode cX8_pathOf 26 = .ok (.iconst 5, 1) := dk_8 (dk_at dksX8_pathOf_1 2 rfl rfl)
theorem dX8_pathOf_27 : decode cX8_pathOf 27 = .ok (.if_icmp .gt 7, 3) := dk_163 0 7 (dk_at dksX8_pathOf_1 3 rfl rfl)
theorem dX8_pathOf_30 : decode cX8_pathOf 30 = .ok (.iconst 1, 1) := dk_4 (dk_at dksX8_pathOf_1 6 rfl rfl)
theorem dX8_pathOf_31 : decode cX8_pathOf 31 = .ok (.goto 4, 3) := dk_167 0 4 (dk_at dksX8_pathOf_1 7 rfl rfl)
theorem dX8_pathOf_34 : decode cX8_pathOf 34 = .ok (.iconst 0, 1) := dk_3 (dk_at dksX8_pathOf_1 10 rfl rfl)
theorem dX8_pathOf_35 : decode cX8_pathOf 35 = .ok (.istore 4, 2) := dk_54 4 (dk_at dksX8_pathOf_1 11 rfl rfl)
theorem dX8_pathOf_37 : decode cX8_pathOf 37 = .ok (.iload_n 1, 1) := dk_27 (dk_at dksX8_pathOf_1 13 rfl rfl)
theorem dX8_pathOf_38 : decode cX8_pathOf 38 = .ok (.iconst 1, 1) := dk_4 (dk_at dksX8_pathOf_1 14 rfl rfl)
theorem dX8_pathOf_39 : decode cX8_pathOf 39 = .ok (.isub, 1) := dk_100 (dk_at dksX8_pathOf_1 15 rfl rfl)
theorem dX8_pathOf_40 : decode cX8_pathOf 40 = .ok (.istore 5, 2) := dk_54 5 (dk_at dksX8_pathOf_1 16 rfl rfl)
theorem dX8_pathOf_42 : decode cX8_pathOf 42 = .ok (.iload 5, 2) := dk_21 5 (dk_at dksX8_pathOf_1 18 rfl rfl)
theorem dX8_pathOf_44 : decode cX8_pathOf 44 = .ok (.ifCond .lt 68, 3) := dk_155 0 68 (dk_at dksX8_pathOf_1 20 rfl rfl)
theorem dX8_pathOf_47 : decode cX8_pathOf 47 = .ok (.aload_n 2, 1) := dk_44 (dk_at dksX8_pathOf_1 23 rfl rfl)
theorem dX8_pathOf_48 : decode cX8_pathOf 48 = .ok (.iload 5, 2) := dk_21 5 (dk_at dksX8_pathOf_2 0 rfl rfl)
theorem dX8_pathOf_50 : decode cX8_pathOf 50 = .ok (.iload_n 3, 1) := dk_29 (dk_at dksX8_pathOf_2 2 rfl rfl)
theorem dX8_pathOf_51 : decode cX8_pathOf 51 = .ok (.bipush 10, 2) := dk_16 10 (dk_at dksX8_pathOf_2 3 rfl rfl)
theorem dX8_pathOf_53 : decode cX8_pathOf 53 = .ok (.irem, 1) := dk_112 (dk_at dksX8_pathOf_2 5 rfl rfl)
theorem dX8_pathOf_54 : decode cX8_pathOf 54 = .ok (.iconst 1, 1) := dk_4 (dk_at dksX8_pathOf_2 6 rfl rfl)
theorem dX8_pathOf_55 : decode cX8_pathOf 55 = .ok (.isub, 1) := dk_100 (dk_at dksX8_pathOf_2 7 rfl rfl)
theorem dX8_pathOf_56 : decode cX8_pathOf 56 = .ok (.iastore, 1) := dk_79 (dk_at dksX8_pathOf_2 8 rfl rfl)
theorem dX8_pathOf_57 : decode cX8_pathOf 57 = .ok (.iload_n 3, 1) := dk_29 (dk_at dksX8_pathOf_2 9 rfl rfl)
theorem dX8_pathOf_58 : decode cX8_pathOf 58 = .ok (.bipush 10, 2) := dk_16 10 (dk_at dksX8_pathOf_2 10 rfl rfl)
theorem dX8_pathOf_60 : decode cX8_pathOf 60 = .ok (.idiv, 1) := dk_108 (dk_at dksX8_pathOf_2 12 rfl rfl)
theorem dX8_pathOf_61 : decode cX8_pathOf 61 = .ok (.istore_n 3, 1) := dk_62 (dk_at dksX8_pathOf_2 13 rfl rfl)
theorem dX8_pathOf_62 : decode cX8_pathOf 62 = .ok (.iload 4, 2) := dk_21 4 (dk_at dksX8_pathOf_2 14 rfl rfl)
theorem dX8_pathOf_64 : decode cX8_pathOf 64 = .ok (.aload_n 2, 1) := dk_44 (dk_at dksX8_pathOf_2 16 rfl rfl)
theorem dX8_pathOf_65 : decode cX8_pathOf 65 = .ok (.iload 5, 2) := dk_21 5 (dk_at dksX8_pathOf_2 17 rfl rfl)
theorem dX8_pathOf_67 : decode cX8_pathOf 67 = .ok (.iaload, 1) := dk_46 (dk_at dksX8_pathOf_2 19 rfl rfl)
theorem dX8_pathOf_68 : decode cX8_pathOf 68 = .ok (.iconst 0, 1) := dk_3 (dk_at dksX8_pathOf_2 20 rfl rfl)
theorem dX8_pathOf_69 : decode cX8_pathOf 69 = .ok (.bipush 7, 2) := dk_16 7 (dk_at dksX8_pathOf_2 21 rfl rfl)
theorem dX8_pathOf_71 : decode cX8_pathOf 71 = .ok (.invokestatic 38, 3) := dk_184 0 38 (dk_at dksX8_pathOf_3 0 rfl rfl)
theorem dX8_pathOf_74 : decode cX8_pathOf 74 = .ok (.ifCond .eq 28, 3) := dk_153 0 28 (dk_at dksX8_pathOf_3 3 rfl rfl)
theorem dX8_pathOf_77 : decode cX8_pathOf 77 = .ok (.iload 5, 2) := dk_21 5 (dk_at dksX8_pathOf_3 6 rfl rfl)
theorem dX8_pathOf_79 : decode cX8_pathOf 79 = .ok (.iload_n 1, 1) := dk_27 (dk_at dksX8_pathOf_3 8 rfl rfl)
theorem dX8_pathOf_80 : decode cX8_pathOf 80 = .ok (.iconst 1, 1) := dk_4 (dk_at dksX8_pathOf_3 9 rfl rfl)
theorem dX8_pathOf_81 : decode cX8_pathOf 81 = .ok (.isub, 1) := dk_100 (dk_at dksX8_pathOf_3 10 rfl rfl)
theorem dX8_pathOf_82 : decode cX8_pathOf 82 = .ok (.if_icmp .eq 16, 3) := dk_159 0 16 (dk_at dksX8_pathOf_3 11 rfl rfl)
theorem dX8_pathOf_85 : decode cX8_pathOf 85 = .ok (.aload_n 2, 1) := dk_44 (dk_at dksX8_pathOf_3 14 rfl rfl)
theorem dX8_pathOf_86 : decode cX8_pathOf 86 = .ok (.iload 5, 2) := dk_21 5 (dk_at dksX8_pathOf_3 15 rfl rfl)
theorem dX8_pathOf_88 : decode cX8_pathOf 88 = .ok (.iaload, 1) := dk_46 (dk_at dksX8_pathOf_3 17 rfl rfl)
theorem dX8_pathOf_89 : decode cX8_pathOf 89 = .ok (.aload_n 2, 1) := dk_44 (dk_at dksX8_pathOf_3 18 rfl rfl)
theorem dX8_pathOf_90 : decode cX8_pathOf 90 = .ok (.iload 5, 2) := dk_21 5 (dk_at dksX8_pathOf_3 19 rfl rfl)
theorem dX8_pathOf_92 : decode cX8_pathOf 92 = .ok (.iconst 1, 1) := dk_4 (dk_at dksX8_pathOf_3 21 rfl rfl)
theorem dX8_pathOf_93 : decode cX8_pathOf 93 = .ok (.iadd, 1) := dk_96 (dk_at dksX8_pathOf_3 22 rfl rfl)
theorem dX8_pathOf_94 : decode cX8_pathOf 94 = .ok (.iaload, 1) := dk_46 (dk_at dksX8_pathOf_3 23 rfl rfl)
theorem dX8_pathOf_95 : decode cX8_pathOf 95 = .ok (.if_icmp .eq 7, 3) := dk_159 0 7 (dk_at dksX8_pathOf_4 0 rfl rfl)
theorem dX8_pathOf_98 : decode cX8_pathOf 98 = .ok (.iconst 1, 1) := dk_4 (dk_at dksX8_pathOf_4 3 rfl rfl)
theorem dX8_pathOf_99 : decode cX8_pathOf 99 = .ok (.goto 4, 3) := dk_167 0 4 (dk_at dksX8_pathOf_4 4 rfl rfl)
theorem dX8_pathOf_102 : decode cX8_pathOf 102 = .ok (.iconst 0, 1) := dk_3 (dk_at dksX8_pathOf_4 7 rfl rfl)
theorem dX8_pathOf_103 : decode cX8_pathOf 103 = .ok (.iand, 1) := dk_126 (dk_at dksX8_pathOf_4 8 rfl rfl)
theorem dX8_pathOf_104 : decode cX8_pathOf 104 = .ok (.istore 4, 2) := dk_54 4 (dk_at dksX8_pathOf_4 9 rfl rfl)
theorem dX8_pathOf_106 : decode cX8_pathOf 106 = .ok (.iinc 5 (-1), 3) := dk_132 5 255 (dk_at dksX8_pathOf_4 11 rfl rfl)
theorem dX8_pathOf_109 : decode cX8_pathOf 109 = .ok (.goto (-67), 3) := dk_167 255 189 (dk_at dksX8_pathOf_4 14 rfl rfl)
theorem dX8_pathOf_112 : decode cX8_pathOf 112 = .ok (.iload 4, 2) := dk_21 4 (dk_at dksX8_pathOf_4 17 rfl rfl)
theorem dX8_pathOf_114 : decode cX8_pathOf 114 = .ok (.ifCond .eq 7, 3) := dk_153 0 7 (dk_at dksX8_pathOf_4 19 rfl rfl)
theorem dX8_pathOf_117 : decode cX8_pathOf 117 = .ok (.aload_n 2, 1) := dk_44 (dk_at dksX8_pathOf_4 22 rfl rfl)
theorem dX8_pathOf_118 : decode cX8_pathOf 118 = .ok (.goto 6, 3) := dk_167 0 6 (dk_at dksX8_pathOf_5 0 rfl rfl)
theorem dX8_pathOf_121 : decode cX8_pathOf 121 = .ok (.iconst 0, 1) := dk_3 (dk_at dksX8_pathOf_5 3 rfl rfl)
theorem dX8_pathOf_122 : decode cX8_pathOf 122 = .ok (.newarray .int, 2) := dk_188_10 (dk_at dksX8_pathOf_5 4 rfl rfl)
theorem dX8_pathOf_124 : decode cX8_pathOf 124 = .ok (.areturn, 1) := dk_176 (dk_at dksX8_pathOf_5 6 rfl rfl)
abbrev cX8_isWithin : ByteArray := prog_11_method_3_code
def yX8_isWithin : MethodName := ⟨RX8, "isWithin", "(I)Z"⟩
def dkwX8_isWithin_1 : List UInt8 := [46, 54, 6, 28, 27, 21, 6, 184, 0, 42, 126, 61, 132, 5, 1, 167, 255, 231, 28, 172]
abbrev dktX8_isWithin_1 : List UInt8 := dkwX8_isWithin_1 ++ []
def dkwX8_isWithin_0 : List UInt8 := [4, 61, 42, 180, 0, 22, 78, 45, 190, 54, 4, 3, 54, 5, 21, 5, 21, 4, 162, 0, 24, 45, 21, 5]
abbrev dktX8_isWithin_0 : List UInt8 := dkwX8_isWithin_0 ++ dktX8_isWithin_1
theorem dksX8_isWithin_0 : cX8_isWithin.data.toList.drop 0 = dktX8_isWithin_0 := by decide +kernel
theorem dksX8_isWithin_1 : cX8_isWithin.data.toList.drop 24 = dktX8_isWithin_1 := dk_seg dksX8_isWithin_0 24 rfl rfl
theorem dX8_isWithin_0 : decode cX8_isWithin 0 = .ok (.iconst 1, 1) := dk_4 (dk_at dksX8_isWithin_0 0 rfl rfl)
theorem dX8_isWithin_1 : decode cX8_isWithin 1 = .ok (.istore_n 2, 1) := dk_61 (dk_at dksX8_isWithin_0 1 rfl rfl)
theorem dX8_isWithin_2 : decode cX8_isWithin 2 = .ok (.aload_n 0, 1) := dk_42 (dk_at dksX8_isWithin_0 2 rfl rfl)
theorem dX8_isWithin_3 : decode cX8_isWithin 3 = .ok (.getfield 22, 3) := dk_180 0 22 (dk_at dksX8_isWithin_0 3 rfl rfl)
theorem dX8_isWithin_6 : decode cX8_isWithin 6 = .ok (.astore_n 3, 1) := dk_78 (dk_at dksX8_isWithin_0 6 rfl rfl)
theorem dX8_isWithin_7 : decode cX8_isWithin 7 = .ok (.aload_n 3, 1) := dk_45 (dk_at dksX8_isWithin_0 7 rfl rfl)
theorem dX8_isWithin_8 : decode cX8_isWithin 8 = .ok (.arraylength, 1) := dk_190 (dk_at dksX8_isWithin_0 8 rfl rfl)
theorem dX8_isWithin_9 : decode cX8_isWithin 9 = .ok (.istore 4, 2) := dk_54 4 (dk_at dksX8_isWithin_0 9 rfl rfl)
theorem dX8_isWithin_11 : decode cX8_isWithin 11 = .ok (.iconst 0, 1) := dk_3 (dk_at dksX8_isWithin_0 11 rfl rfl)
theorem dX8_isWithin_12 : decode cX8_isWithin 12 = .ok (.istore 5, 2) := dk_54 5 (dk_at dksX8_isWithin_0 12 rfl rfl)
theorem dX8_isWithin_14 : decode cX8_isWithin 14 = .ok (.iload 5, 2) := dk_21 5 (dk_at dksX8_isWithin_0 14 rfl rfl)
theorem dX8_isWithin_16 : decode cX8_isWithin 16 = .ok (.iload 4, 2) := dk_21 4 (dk_at dksX8_isWithin_0 16 rfl rfl)
theorem dX8_isWithin_18 : decode cX8_isWithin 18 = .ok (.if_icmp .ge 24, 3) := dk_162 0 24 (dk_at dksX8_isWithin_0 18 rfl rfl)
theorem dX8_isWithin_21 : decode cX8_isWithin 21 = .ok (.aload_n 3, 1) := dk_45 (dk_at dksX8_isWithin_0 21 rfl rfl)
theorem dX8_isWithin_22 : decode cX8_isWithin 22 = .ok (.iload 5, 2) := dk_21 5 (dk_at dksX8_isWithin_0 22 rfl rfl)
theorem dX8_isWithin_24 : decode cX8_isWithin 24 = .ok (.iaload, 1) := dk_46 (dk_at dksX8_isWithin_1 0 rfl rfl)
theorem dX8_isWithin_25 : decode cX8_isWithin 25 = .ok (.istore 6, 2) := dk_54 6 (dk_at dksX8_isWithin_1 1 rfl rfl)
theorem dX8_isWithin_27 : decode cX8_isWithin 27 = .ok (.iload_n 2, 1) := dk_28 (dk_at dksX8_isWithin_1 3 rfl rfl)
theorem dX8_isWithin_28 : decode cX8_isWithin 28 = .ok (.iload_n 1, 1) := dk_27 (dk_at dksX8_isWithin_1 4 rfl rfl)
theorem dX8_isWithin_29 : decode cX8_isWithin 29 = .ok (.iload 6, 2) := dk_21 6 (dk_at dksX8_isWithin_1 5 rfl rfl)
theorem dX8_isWithin_31 : decode cX8_isWithin 31 = .ok (.invokestatic 42, 3) := dk_184 0 42 (dk_at dksX8_isWithin_1 7 rfl rfl)
theorem dX8_isWithin_34 : decode cX8_isWithin 34 = .ok (.iand, 1) := dk_126 (dk_at dksX8_isWithin_1 10 rfl rfl)
theorem dX8_isWithin_35 : decode cX8_isWithin 35 = .ok (.istore_n 2, 1) := dk_61 (dk_at dksX8_isWithin_1 11 rfl rfl)
theorem dX8_isWithin_36 : decode cX8_isWithin 36 = .ok (.iinc 5 1, 3) := dk_132 5 1 (dk_at dksX8_isWithin_1 12 rfl rfl)
theorem dX8_isWithin_39 : decode cX8_isWithin 39 = .ok (.goto (-25), 3) := dk_167 255 231 (dk_at dksX8_isWithin_1 15 rfl rfl)
theorem dX8_isWithin_42 : decode cX8_isWithin 42 = .ok (.iload_n 2, 1) := dk_28 (dk_at dksX8_isWithin_1 18 rfl rfl)
theorem dX8_isWithin_43 : decode cX8_isWithin 43 = .ok (.ireturn, 1) := dk_172 (dk_at dksX8_isWithin_1 19 rfl rfl)
abbrev cX8_number : ByteArray := prog_11_method_4_code
def yX8_number : MethodName := ⟨RX8, "number", "(I)I"⟩
def dkwX8_number_3 : List UInt8 := [172, 42, 180, 0, 35, 172]
abbrev dktX8_number_3 : List UInt8 := dkwX8_number_3 ++ []
def dkwX8_number_2 : List UInt8 := [42, 180, 0, 9, 172, 42, 180, 0, 15, 172, 42, 180, 0, 26, 172, 42, 180, 0, 29, 172, 42, 180, 0, 32]
abbrev dktX8_number_2 : List UInt8 := dkwX8_number_2 ++ dktX8_number_3
def dkwX8_number_1 : List UInt8 := [170, 0, 0, 0, 0, 0, 60, 0, 0, 0, 0, 0, 0, 0, 4, 0, 0, 0, 35, 0, 0, 0, 40, 0, 0, 0, 45, 0, 0, 0, 50, 0, 0, 0, 55]
abbrev dktX8_number_1 : List UInt8 := dkwX8_number_1 ++ dktX8_number_2
def dkwX8_number_0 : List UInt8 := [27]
abbrev dktX8_number_0 : List UInt8 := dkwX8_number_0 ++ dktX8_number_1
theorem dksX8_number_0 : cX8_number.data.toList.drop 0 = dktX8_number_0 := by decide +kernel
theorem dksX8_number_1 : cX8_number.data.toList.drop 1 = dktX8_number_1 := dk_seg dksX8_number_0 1 rfl rfl
theorem dksX8_number_2 : cX8_number.data.toList.drop 36 = dktX8_number_2 := dk_seg dksX8_number_1 35 rfl rfl
theorem dksX8_number_3 : cX8_number.data.toList.drop 60 = dktX8_number_3 := dk_seg dksX8_number_2 24 rfl rfl
theorem dX8_number_0 : decode cX8_number 0 = .ok (.iload_n 1, 1) := dk_27 (dk_at dksX8_number_0 0 rfl rfl)
theorem dX8_number_1 : decode cX8_number 1 = .ok (.tableswitch 60 0 4 #[35, 40, 45, 50, 55], 35) := by decide +kernel
theorem dX8_number_36 : decode cX8_number 36 = .ok (.aload_n 0, 1) := dk_42 (dk_at dksX8_number_2 0 rfl rfl)
theorem dX8_number_37 : decode cX8_number 37 = .ok (.getfield 9, 3) := dk_180 0 9 (dk_at dksX8_number_2 1 rfl rfl)
theorem dX8_number_40 : decode cX8_number 40 = .ok (.ireturn, 1) := dk_172 (dk_at dksX8_number_2 4 rfl rfl)
theorem dX8_number_41 : decode cX8_number 41 = .ok (.aload_n 0, 1) := dk_42 (dk_at dksX8_number_2 5 rfl rfl)
theorem dX8_number_42 : decode cX8_number 42 = .ok (.getfield 15, 3) := dk_180 0 15 (dk_at dksX8_number_2 6 rfl rfl)
theorem dX8_number_45 : decode cX8_number 45 = .ok (.ireturn, 1) := dk_172 (dk_at dksX8_number_2 9 rfl rfl)
theorem dX8_number_46 : decode cX8_number 46 = .ok (.aload_n 0, 1) := dk_42 (dk_at dksX8_number_2 10 rfl rfl)
theorem dX8_number_47 : decode cX8_number 47 = .ok (.getfield 26, 3) := dk_180 0 26 (dk_at dksX8_number_2 11 rfl rfl)
theorem dX8_number_50 : decode cX8_number 50 = .ok (.ireturn, 1) := dk_172 (dk_at dksX8_number_2 14 rfl rfl)
theorem dX8_number_51 : decode cX8_number 51 = .ok (.aload_n 0, 1) := dk_42 (dk_at dksX8_number_2 15 rfl rfl)
theorem dX8_number_52 : decode cX8_number 52 = .ok (.getfield 29, 3) := dk_180 0 29 (dk_at dksX8_number_2 16 rfl rfl)
theorem dX8_number_55 : decode cX8_number 55 = .ok (.ireturn, 1) := dk_172 (dk_at dksX8_number_2 19 rfl rfl)
theorem dX8_number_56 : decode cX8_number 56 = .ok (.aload_n 0, 1) := dk_42 (dk_at dksX8_number_2 20 rfl rfl)
theorem dX8_number_57 : decode cX8_number 57 = .ok (.getfield 32, 3) := dk_180 0 32 (dk_at dksX8_number_2 21 rfl rfl)
theorem dX8_number_60 : decode cX8_number 60 = .ok (.ireturn, 1) := dk_172 (dk_at dksX8_number_3 0 rfl rfl)
theorem dX8_number_61 : decode cX8_number 61 = .ok (.aload_n 0, 1) := dk_42 (dk_at dksX8_number_3 1 rfl rfl)
theorem dX8_number_62 : decode cX8_number 62 = .ok (.getfield 35, 3) := dk_180 0 35 (dk_at dksX8_number_3 2 rfl rfl)
theorem dX8_number_65 : decode cX8_number 65 = .ok (.ireturn, 1) := dk_172 (dk_at dksX8_number_3 5 rfl rfl)
theorem q152 : (Jvm.Cond.initialized "RobotCell$Order") ∈ lw_all := lw_g (lw_at lw_m1 59 rfl) rfl
theorem q867 : (Jvm.Cond.selects "RobotCell$Order" ({ cls := "java/lang/Object", name := "toString", desc := "()Ljava/lang/String;" } : Jvm.MethodName) ({ cls := "java/lang/Object", name := "toString", desc := "()Ljava/lang/String;" } : Jvm.MethodName)) ∈ lw_all := lw_g (lw_at lw_m4 54 rfl) rfl
theorem q887 : (Jvm.Cond.selects "RobotCell$Order" ({ cls := "java/lang/Object", name := "getClass", desc := "()Ljava/lang/Class;" } : Jvm.MethodName) ({ cls := "java/lang/Object", name := "getClass", desc := "()Ljava/lang/Class;" } : Jvm.MethodName)) ∈ lw_all := lw_g (lw_at lw_m4 74 rfl) rfl
theorem q1661 : (Jvm.Cond.selects "RobotCell$Order" ({ cls := "java/lang/Object", name := "hashCode", desc := "()I" } : Jvm.MethodName) ({ cls := "java/lang/Object", name := "hashCode", desc := "()I" } : Jvm.MethodName)) ∈ lw_all := lw_g (lw_at lw_m7 128 rfl) rfl
theorem q2073 : (Jvm.Cond.selects "RobotCell$Order" ({ cls := "java/lang/Object", name := "equals", desc := "(Ljava/lang/Object;)Z" } : Jvm.MethodName) ({ cls := "java/lang/Object", name := "equals", desc := "(Ljava/lang/Object;)Z" } : Jvm.MethodName)) ∈ lw_all := lw_g (lw_at lw_m9 60 rfl) rfl
theorem q2635 : (Jvm.Cond.instantiable "RobotCell$Order" (7 : Nat)) ∈ lw_all := lw_g (lw_at lw_m11 142 rfl) rfl
theorem q2637 : (Jvm.Cond.instanceMethod ({ cls := "RobotCell$Order", name := "<init>", desc := "(IIIIII)V" } : Jvm.MethodName)) ∈ lw_all := lw_g (lw_at lw_m11 144 rfl) rfl
theorem q2638 : (Jvm.Cond.code ({ cls := "RobotCell$Order", name := "<init>", desc := "(IIIIII)V" } : Jvm.MethodName) prog_11_method_1_code (7 : Nat) (Option.none : Option Jvm.ClassFile.FieldType)) ∈ lw_all := lw_g (lw_at lw_m11 145 rfl) rfl
theorem q2639 : (Jvm.Cond.methodLink "RobotCell$Order" (3 : Nat) ({ cls := "java/lang/Object", name := "<init>", desc := "()V" } : Jvm.MethodName)) ∈ lw_all := lw_g (lw_at lw_m11 146 rfl) rfl
theorem q2640 : (Jvm.Cond.methodLink "RobotCell$Order" (18 : Nat) ({ cls := "RobotCell$Order", name := "pathOf", desc := "(I)[I" } : Jvm.MethodName)) ∈ lw_all := lw_g (lw_at lw_m11 147 rfl) rfl
theorem q2641 : (Jvm.Cond.static ({ cls := "RobotCell$Order", name := "pathOf", desc := "(I)[I" } : Jvm.MethodName)) ∈ lw_all := lw_g (lw_at lw_m11 148 rfl) rfl
theorem q2642 : (Jvm.Cond.code ({ cls := "RobotCell$Order", name := "pathOf", desc := "(I)[I" } : Jvm.MethodName) prog_11_method_2_code (6 : Nat) (Option.some (Jvm.ClassFile.FieldType.array Jvm.ClassFile.FieldType.int))) ∈ lw_all := lw_g (lw_at lw_m11 149 rfl) rfl
theorem q2643 : (Jvm.Cond.methodLinkNest "RobotCell$Order" (38 : Nat) ({ cls := "RobotCell", name := "inRange", desc := "(III)Z" } : Jvm.MethodName) "RobotCell") ∈ lw_tbl := lw_at lw_m11 150 rfl
theorem q2644 : (Jvm.Cond.fieldLink "RobotCell$Order" (9 : Nat) "RobotCell$Order" "arm" "I") ∈ lw_all := lw_g (lw_at lw_m11 151 rfl) rfl
theorem q2646 : (Jvm.Cond.fieldLink "RobotCell$Order" (15 : Nat) "RobotCell$Order" "code" "I") ∈ lw_all := lw_g (lw_at lw_m11 153 rfl) rfl
theorem q2647 : (Jvm.Cond.fieldLink "RobotCell$Order" (22 : Nat) "RobotCell$Order" "path" "[I") ∈ lw_all := lw_g (lw_at lw_m11 154 rfl) rfl
theorem q2651 : (Jvm.Cond.fieldLink "RobotCell$Order" (26 : Nat) "RobotCell$Order" "work" "I") ∈ lw_all := lw_g (lw_at lw_m11 158 rfl) rfl
theorem q2654 : (Jvm.Cond.fieldLink "RobotCell$Order" (29 : Nat) "RobotCell$Order" "weight" "I") ∈ lw_all := lw_g (lw_at lw_m11 161 rfl) rfl
theorem q2657 : (Jvm.Cond.fieldLink "RobotCell$Order" (32 : Nat) "RobotCell$Order" "source" "I") ∈ lw_all := lw_g (lw_at lw_m11 164 rfl) rfl
theorem q2660 : (Jvm.Cond.fieldLink "RobotCell$Order" (35 : Nat) "RobotCell$Order" "target" "I") ∈ lw_all := lw_g (lw_at lw_m11 167 rfl) rfl
theorem q2663 : (Jvm.Cond.laysFinal "RobotCell$Order" "RobotCell$Order" "arm" "I") ∈ lw_all := lw_g (lw_at lw_m11 170 rfl) rfl
theorem q2664 : (Jvm.Cond.soleField "RobotCell$Order" "arm") ∈ lw_all := lw_g (lw_at lw_m11 171 rfl) rfl
theorem q2665 : (Jvm.Cond.laysFinal "RobotCell$Order" "RobotCell$Order" "code" "I") ∈ lw_all := lw_g (lw_at lw_m11 172 rfl) rfl
theorem q2666 : (Jvm.Cond.soleField "RobotCell$Order" "code") ∈ lw_all := lw_g (lw_at lw_m11 173 rfl) rfl
theorem q2667 : (Jvm.Cond.laysFinal "RobotCell$Order" "RobotCell$Order" "path" "[I") ∈ lw_all := lw_g (lw_at lw_m11 174 rfl) rfl
theorem q2668 : (Jvm.Cond.soleField "RobotCell$Order" "path") ∈ lw_all := lw_g (lw_at lw_m11 175 rfl) rfl
theorem q2669 : (Jvm.Cond.laysFinal "RobotCell$Order" "RobotCell$Order" "work" "I") ∈ lw_all := lw_g (lw_at lw_m11 176 rfl) rfl
theorem q2670 : (Jvm.Cond.soleField "RobotCell$Order" "work") ∈ lw_all := lw_g (lw_at lw_m11 177 rfl) rfl
theorem q2671 : (Jvm.Cond.laysFinal "RobotCell$Order" "RobotCell$Order" "weight" "I") ∈ lw_all := lw_g (lw_at lw_m11 178 rfl) rfl
theorem q2672 : (Jvm.Cond.soleField "RobotCell$Order" "weight") ∈ lw_all := lw_g (lw_at lw_m11 179 rfl) rfl
theorem q2673 : (Jvm.Cond.laysFinal "RobotCell$Order" "RobotCell$Order" "source" "I") ∈ lw_all := lw_g (lw_at lw_m11 180 rfl) rfl
theorem q2674 : (Jvm.Cond.soleField "RobotCell$Order" "source") ∈ lw_all := lw_g (lw_at lw_m11 181 rfl) rfl
theorem q2675 : (Jvm.Cond.laysFinal "RobotCell$Order" "RobotCell$Order" "target" "I") ∈ lw_all := lw_g (lw_at lw_m11 182 rfl) rfl
theorem q2676 : (Jvm.Cond.soleField "RobotCell$Order" "target") ∈ lw_all := lw_g (lw_at lw_m11 183 rfl) rfl
theorem q2677 : (Jvm.Cond.superclass "RobotCell$Order" "java/lang/Object") ∈ lw_all := lw_g (lw_at lw_m11 184 rfl) rfl
theorem q2685 : (Jvm.Cond.instanceMethod ({ cls := "RobotCell$Order", name := "isWithin", desc := "(I)Z" } : Jvm.MethodName)) ∈ lw_all := lw_g (lw_at lw_m11 192 rfl) rfl
theorem q2686 : (Jvm.Cond.selects "RobotCell$Order" ({ cls := "RobotCell$Order", name := "isWithin", desc := "(I)Z" } : Jvm.MethodName) ({ cls := "RobotCell$Order", name := "isWithin", desc := "(I)Z" } : Jvm.MethodName)) ∈ lw_all := lw_g (lw_at lw_m11 193 rfl) rfl
theorem q2687 : (Jvm.Cond.code ({ cls := "RobotCell$Order", name := "isWithin", desc := "(I)Z" } : Jvm.MethodName) prog_11_method_3_code (7 : Nat) (Option.some Jvm.ClassFile.FieldType.boolean)) ∈ lw_all := lw_g (lw_at lw_m11 194 rfl) rfl
theorem q2688 : (Jvm.Cond.methodLinkNest "RobotCell$Order" (42 : Nat) ({ cls := "RobotCell", name := "contains", desc := "(II)Z" } : Jvm.MethodName) "RobotCell") ∈ lw_tbl := lw_at lw_m11 195 rfl
theorem q2746 : (Jvm.Cond.instanceMethod ({ cls := "RobotCell$Order", name := "number", desc := "(I)I" } : Jvm.MethodName)) ∈ lw_all := lw_g (lw_at lw_m12 13 rfl) rfl
theorem q2747 : (Jvm.Cond.selects "RobotCell$Order" ({ cls := "RobotCell$Order", name := "number", desc := "(I)I" } : Jvm.MethodName) ({ cls := "RobotCell$Order", name := "number", desc := "(I)I" } : Jvm.MethodName)) ∈ lw_all := lw_g (lw_at lw_m12 14 rfl) rfl
theorem q2748 : (Jvm.Cond.code ({ cls := "RobotCell$Order", name := "number", desc := "(I)I" } : Jvm.MethodName) prog_11_method_4_code (2 : Nat) (Option.some Jvm.ClassFile.FieldType.int)) ∈ lw_all := lw_g (lw_at lw_m12 15 rfl) rfl
theorem q3793 : (Jvm.Cond.castable "RobotCell$Order" "java/lang/Object") ∈ lw_tbl := lw_at lw_m16 100 rfl
theorem in_X8 : ∀ w ∈ wsX80, w ∈ lw_all := lw_in wsX80 [2663, 2665, 2667, 2669, 2671, 2673, 2675] (by decide +kernel) (by decide +kernel)
/-! RobotCell$Cell$1 -/
set_option maxRecDepth 100000
def RX9 : String := "RobotCell$Cell$1"
def TX9 : u_T := fun k => match k with
  | 0 => ("RobotCell$Cell$1", "next", "I", false)
  | 1 => ("RobotCell$Cell$1", "val$order", "[I", true)
  | _ => ("RobotCell$Cell$1", "this$0", "LRobotCell$Cell;", true)
def tyX9 : Nat → FieldType := fun k => match k with
  | 0 => .int
  | 1 => .array .int
  | _ => .object "RobotCell$Cell"
abbrev wsX90 : List Cond := u_ws RX9 TX9 3
theorem nmX9 : ∀ a, a < 3 → ∀ b, b < 3 → a ≠ b → (TX9 a).2.1 ≠ (TX9 b).2.1 := by decide +kernel
theorem tyX9_ok : ∀ k, k < 3 → parseFieldDescriptor (TX9 k).2.2.1 = some (tyX9 k) := by decide +kernel
abbrev cX9_hasNext : ByteArray := prog_4_method_2_code
def yX9_hasNext : MethodName := ⟨RX9, "hasNext", "()Z"⟩
def dkwX9_hasNext_0 : List UInt8 := [42, 180, 0, 19, 6, 162, 0, 7, 4, 167, 0, 4, 3, 172]
abbrev dktX9_hasNext_0 : List UInt8 := dkwX9_hasNext_0 ++ []
theorem dksX9_hasNext_0 : cX9_hasNext.data.toList.drop 0 = dktX9_hasNext_0 := by decide +kernel
theorem dX9_hasNext_0 : decode cX9_hasNext 0 = .ok (.aload_n 0, 1) := dk_42 (dk_at dksX9_hasNext_0 0 rfl rfl)
theorem dX9_hasNext_1 : decode cX9_hasNext 1 = .ok (.getfield 19, 3) := dk_180 0 19 (dk_at dksX9_hasNext_0 1 rfl rfl)
theorem dX9_hasNext_4 : decode cX9_hasNext 4 = .ok (.iconst 3, 1) := dk_6 (dk_at dksX9_hasNext_0 4 rfl rfl)
theorem dX9_hasNext_5 : decode cX9_hasNext 5 = .ok (.if_icmp .ge 7, 3) := dk_162 0 7 (dk_at dksX9_hasNext_0 5 rfl rfl)
theorem dX9_hasNext_8 : decode cX9_hasNext 8 = .ok (.iconst 1, 1) := dk_4 (dk_at dksX9_hasNext_0 8 rfl rfl)
theorem dX9_hasNext_9 : decode cX9_hasNext 9 = .ok (.goto 4, 3) := dk_167 0 4 (dk_at dksX9_hasNext_0 9 rfl rfl)
theorem dX9_hasNext_12 : decode cX9_hasNext 12 = .ok (.iconst 0, 1) := dk_3 (dk_at dksX9_hasNext_0 12 rfl rfl)
theorem dX9_hasNext_13 : decode cX9_hasNext 13 = .ok (.ireturn, 1) := dk_172 (dk_at dksX9_hasNext_0 13 rfl rfl)
abbrev cX9_next : ByteArray := prog_4_method_4_code
def yX9_next : MethodName := ⟨RX9, "next", "()Ljava/lang/Object;"⟩
theorem dX9_next_0 : decode cX9_next 0 = .ok (.aload_n 0, 1) := by decide +kernel
theorem dX9_next_1 : decode cX9_next 1 = .ok (.invokevirtual 36, 3) := by decide +kernel
theorem dX9_next_4 : decode cX9_next 4 = .ok (.areturn, 1) := by decide +kernel
abbrev cX9_next_2 : ByteArray := prog_4_method_3_code
def yX9_next_2 : MethodName := ⟨RX9, "next", "()LRobotCell$Cell$Arm;"⟩
def dkwX9_next_2_1 : List UInt8 := [181, 0, 19, 42, 180, 0, 3, 180, 0, 30, 42, 180, 0, 9, 42, 180, 0, 19, 4, 100, 46, 50, 176]
abbrev dktX9_next_2_1 : List UInt8 := dkwX9_next_2_1 ++ []
def dkwX9_next_2_0 : List UInt8 := [42, 182, 0, 23, 154, 0, 11, 187, 0, 27, 89, 183, 0, 29, 191, 42, 89, 180, 0, 19, 4, 96]
abbrev dktX9_next_2_0 : List UInt8 := dkwX9_next_2_0 ++ dktX9_next_2_1
theorem dksX9_next_2_0 : cX9_next_2.data.toList.drop 0 = dktX9_next_2_0 := by decide +kernel
theorem dksX9_next_2_1 : cX9_next_2.data.toList.drop 22 = dktX9_next_2_1 := dk_seg dksX9_next_2_0 22 rfl rfl
theorem dX9_next_2_0 : decode cX9_next_2 0 = .ok (.aload_n 0, 1) := dk_42 (dk_at dksX9_next_2_0 0 rfl rfl)
theorem dX9_next_2_1 : decode cX9_next_2 1 = .ok (.invokevirtual 23, 3) := dk_182 0 23 (dk_at dksX9_next_2_0 1 rfl rfl)
theorem dX9_next_2_4 : decode cX9_next_2 4 = .ok (.ifCond .ne 11, 3) := dk_154 0 11 (dk_at dksX9_next_2_0 4 rfl rfl)
theorem dX9_next_2_7 : decode cX9_next_2 7 = .ok (.new 27, 3) := dk_187 0 27 (dk_at dksX9_next_2_0 7 rfl rfl)
theorem dX9_next_2_10 : decode cX9_next_2 10 = .ok (.dup, 1) := dk_89 (dk_at dksX9_next_2_0 10 rfl rfl)
theorem dX9_next_2_11 : decode cX9_next_2 11 = .ok (.invokespecial 29, 3) := dk_183 0 29 (dk_at dksX9_next_2_0 11 rfl rfl)
theorem dX9_next_2_14 : decode cX9_next_2 14 = .ok (.athrow, 1) := dk_191 (dk_at dksX9_next_2_0 14 rfl rfl)
theorem dX9_next_2_15 : decode cX9_next_2 15 = .ok (.aload_n 0, 1) := dk_42 (dk_at dksX9_next_2_0 15 rfl rfl)
theorem dX9_next_2_16 : decode cX9_next_2 16 = .ok (.dup, 1) := dk_89 (dk_at dksX9_next_2_0 16 rfl rfl)
theorem dX9_next_2_17 : decode cX9_next_2 17 = .ok (.getfield 19, 3) := dk_180 0 19 (dk_at dksX9_next_2_0 17 rfl rfl)
theorem dX9_next_2_20 : decode cX9_next_2 20 = .ok (.iconst 1, 1) := dk_4 (dk_at dksX9_next_2_0 20 rfl rfl)
theorem dX9_next_2_21 : decode cX9_next_2 21 = .ok (.iadd, 1) := dk_96 (dk_at dksX9_next_2_0 21 rfl rfl)
theorem dX9_next_2_22 : decode cX9_next_2 22 = .ok (.putfield 19, 3) := dk_181 0 19 (dk_at dksX9_next_2_1 0 rfl rfl)
theorem dX9_next_2_25 : decode cX9_next_2 25 = .ok (.aload_n 0, 1) := dk_42 (dk_at dksX9_next_2_1 3 rfl rfl)
theorem dX9_next_2_26 : decode cX9_next_2 26 = .ok (.getfield 3, 3) := dk_180 0 3 (dk_at dksX9_next_2_1 4 rfl rfl)
theorem dX9_next_2_29 : decode cX9_next_2 29 = .ok (.getfield 30, 3) := dk_180 0 30 (dk_at dksX9_next_2_1 7 rfl rfl)
theorem dX9_next_2_32 : decode cX9_next_2 32 = .ok (.aload_n 0, 1) := dk_42 (dk_at dksX9_next_2_1 10 rfl rfl)
theorem dX9_next_2_33 : decode cX9_next_2 33 = .ok (.getfield 9, 3) := dk_180 0 9 (dk_at dksX9_next_2_1 11 rfl rfl)
theorem dX9_next_2_36 : decode cX9_next_2 36 = .ok (.aload_n 0, 1) := dk_42 (dk_at dksX9_next_2_1 14 rfl rfl)
theorem dX9_next_2_37 : decode cX9_next_2 37 = .ok (.getfield 19, 3) := dk_180 0 19 (dk_at dksX9_next_2_1 15 rfl rfl)
theorem dX9_next_2_40 : decode cX9_next_2 40 = .ok (.iconst 1, 1) := dk_4 (dk_at dksX9_next_2_1 18 rfl rfl)
theorem dX9_next_2_41 : decode cX9_next_2 41 = .ok (.isub, 1) := dk_100 (dk_at dksX9_next_2_1 19 rfl rfl)
theorem dX9_next_2_42 : decode cX9_next_2 42 = .ok (.iaload, 1) := dk_46 (dk_at dksX9_next_2_1 20 rfl rfl)
theorem dX9_next_2_43 : decode cX9_next_2 43 = .ok (.aaload, 1) := dk_50 (dk_at dksX9_next_2_1 21 rfl rfl)
theorem dX9_next_2_44 : decode cX9_next_2 44 = .ok (.areturn, 1) := dk_176 (dk_at dksX9_next_2_1 22 rfl rfl)
abbrev cX9_init : ByteArray := prog_4_method_1_code
def yX9_init : MethodName := ⟨RX9, "<init>", "(LRobotCell$Cell;[I)V"⟩
def dkwX9_init_0 : List UInt8 := [42, 43, 181, 0, 3, 42, 44, 181, 0, 9, 42, 183, 0, 13, 177]
abbrev dktX9_init_0 : List UInt8 := dkwX9_init_0 ++ []
theorem dksX9_init_0 : cX9_init.data.toList.drop 0 = dktX9_init_0 := by decide +kernel
theorem dX9_init_0 : decode cX9_init 0 = .ok (.aload_n 0, 1) := dk_42 (dk_at dksX9_init_0 0 rfl rfl)
theorem dX9_init_1 : decode cX9_init 1 = .ok (.aload_n 1, 1) := dk_43 (dk_at dksX9_init_0 1 rfl rfl)
theorem dX9_init_2 : decode cX9_init 2 = .ok (.putfield 3, 3) := dk_181 0 3 (dk_at dksX9_init_0 2 rfl rfl)
theorem dX9_init_5 : decode cX9_init 5 = .ok (.aload_n 0, 1) := dk_42 (dk_at dksX9_init_0 5 rfl rfl)
theorem dX9_init_6 : decode cX9_init 6 = .ok (.aload_n 2, 1) := dk_44 (dk_at dksX9_init_0 6 rfl rfl)
theorem dX9_init_7 : decode cX9_init 7 = .ok (.putfield 9, 3) := dk_181 0 9 (dk_at dksX9_init_0 7 rfl rfl)
theorem dX9_init_10 : decode cX9_init 10 = .ok (.aload_n 0, 1) := dk_42 (dk_at dksX9_init_0 10 rfl rfl)
theorem dX9_init_11 : decode cX9_init 11 = .ok (.invokespecial 13, 3) := dk_183 0 13 (dk_at dksX9_init_0 11 rfl rfl)
theorem dX9_init_14 : decode cX9_init 14 = .ok (.return_, 1) := dk_177 (dk_at dksX9_init_0 14 rfl rfl)
theorem q154 : (Jvm.Cond.initialized "RobotCell$Cell$1") ∈ lw_all := lw_g (lw_at lw_m1 61 rfl) rfl
theorem q861 : (Jvm.Cond.selects "RobotCell$Cell$1" ({ cls := "java/lang/Object", name := "toString", desc := "()Ljava/lang/String;" } : Jvm.MethodName) ({ cls := "java/lang/Object", name := "toString", desc := "()Ljava/lang/String;" } : Jvm.MethodName)) ∈ lw_all := lw_g (lw_at lw_m4 48 rfl) rfl
theorem q881 : (Jvm.Cond.selects "RobotCell$Cell$1" ({ cls := "java/lang/Object", name := "getClass", desc := "()Ljava/lang/Class;" } : Jvm.MethodName) ({ cls := "java/lang/Object", name := "getClass", desc := "()Ljava/lang/Class;" } : Jvm.MethodName)) ∈ lw_all := lw_g (lw_at lw_m4 68 rfl) rfl
theorem q1242 : (Jvm.Cond.fieldLinkNest "RobotCell$Cell$1" (30 : Nat) "RobotCell$Cell" "arms" "[LRobotCell$Cell$Arm;" "RobotCell") ∈ lw_tbl := lw_at lw_m5 189 rfl
theorem q1493 : (Jvm.Cond.castable "RobotCell$Cell$1" "java/util/Iterator") ∈ lw_tbl := lw_at lw_m6 200 rfl
theorem q1494 : (Jvm.Cond.selects "RobotCell$Cell$1" ({ cls := "java/util/Iterator", name := "hasNext", desc := "()Z" } : Jvm.MethodName) ({ cls := "RobotCell$Cell$1", name := "hasNext", desc := "()Z" } : Jvm.MethodName)) ∈ lw_all := lw_g (lw_at lw_m6 201 rfl) rfl
theorem q1495 : (Jvm.Cond.unhidden "RobotCell$Cell$1" "hasNext" "()Z") ∈ lw_tbl := lw_at lw_m6 202 rfl
theorem q1496 : (Jvm.Cond.instanceMethod ({ cls := "RobotCell$Cell$1", name := "hasNext", desc := "()Z" } : Jvm.MethodName)) ∈ lw_all := lw_g (lw_at lw_m6 203 rfl) rfl
theorem q1497 : (Jvm.Cond.publicMethod ({ cls := "RobotCell$Cell$1", name := "hasNext", desc := "()Z" } : Jvm.MethodName)) ∈ lw_tbl := lw_at lw_m6 204 rfl
theorem q1498 : (Jvm.Cond.code ({ cls := "RobotCell$Cell$1", name := "hasNext", desc := "()Z" } : Jvm.MethodName) prog_4_method_2_code (1 : Nat) (Option.some Jvm.ClassFile.FieldType.boolean)) ∈ lw_all := lw_g (lw_at lw_m6 205 rfl) rfl
theorem q1527 : (Jvm.Cond.selects "RobotCell$Cell$1" ({ cls := "java/util/Iterator", name := "next", desc := "()Ljava/lang/Object;" } : Jvm.MethodName) ({ cls := "RobotCell$Cell$1", name := "next", desc := "()Ljava/lang/Object;" } : Jvm.MethodName)) ∈ lw_all := lw_g (lw_at lw_m6 234 rfl) rfl
theorem q1528 : (Jvm.Cond.unhidden "RobotCell$Cell$1" "next" "()Ljava/lang/Object;") ∈ lw_tbl := lw_at lw_m6 235 rfl
theorem q1529 : (Jvm.Cond.instanceMethod ({ cls := "RobotCell$Cell$1", name := "next", desc := "()Ljava/lang/Object;" } : Jvm.MethodName)) ∈ lw_all := lw_g (lw_at lw_m6 236 rfl) rfl
theorem q1530 : (Jvm.Cond.publicMethod ({ cls := "RobotCell$Cell$1", name := "next", desc := "()Ljava/lang/Object;" } : Jvm.MethodName)) ∈ lw_tbl := lw_at lw_m6 237 rfl
theorem q1531 : (Jvm.Cond.code ({ cls := "RobotCell$Cell$1", name := "next", desc := "()Ljava/lang/Object;" } : Jvm.MethodName) prog_4_method_4_code (1 : Nat) (Option.some (Jvm.ClassFile.FieldType.object "java/lang/Object"))) ∈ lw_all := lw_g (lw_at lw_m6 238 rfl) rfl
theorem q1532 : (Jvm.Cond.methodLink "RobotCell$Cell$1" (36 : Nat) ({ cls := "RobotCell$Cell$1", name := "next", desc := "()LRobotCell$Cell$Arm;" } : Jvm.MethodName)) ∈ lw_all := lw_g (lw_at lw_m6 239 rfl) rfl
theorem q1533 : (Jvm.Cond.instanceMethod ({ cls := "RobotCell$Cell$1", name := "next", desc := "()LRobotCell$Cell$Arm;" } : Jvm.MethodName)) ∈ lw_all := lw_g (lw_at lw_m7 0 rfl) rfl
theorem q1534 : (Jvm.Cond.selects "RobotCell$Cell$1" ({ cls := "RobotCell$Cell$1", name := "next", desc := "()LRobotCell$Cell$Arm;" } : Jvm.MethodName) ({ cls := "RobotCell$Cell$1", name := "next", desc := "()LRobotCell$Cell$Arm;" } : Jvm.MethodName)) ∈ lw_all := lw_g (lw_at lw_m7 1 rfl) rfl
theorem q1535 : (Jvm.Cond.code ({ cls := "RobotCell$Cell$1", name := "next", desc := "()LRobotCell$Cell$Arm;" } : Jvm.MethodName) prog_4_method_3_code (1 : Nat) (Option.some (Jvm.ClassFile.FieldType.object "RobotCell$Cell$Arm"))) ∈ lw_all := lw_g (lw_at lw_m7 2 rfl) rfl
theorem q1536 : (Jvm.Cond.methodLink "RobotCell$Cell$1" (23 : Nat) ({ cls := "RobotCell$Cell$1", name := "hasNext", desc := "()Z" } : Jvm.MethodName)) ∈ lw_all := lw_g (lw_at lw_m7 3 rfl) rfl
theorem q1537 : (Jvm.Cond.classLink "RobotCell$Cell$1" (27 : Nat) "java/util/NoSuchElementException") ∈ lw_all := lw_g (lw_at lw_m7 4 rfl) rfl
theorem q1546 : (Jvm.Cond.methodLink "RobotCell$Cell$1" (29 : Nat) ({ cls := "java/util/NoSuchElementException", name := "<init>", desc := "()V" } : Jvm.MethodName)) ∈ lw_all := lw_g (lw_at lw_m7 13 rfl) rfl
theorem q1653 : (Jvm.Cond.selects "RobotCell$Cell$1" ({ cls := "java/lang/Object", name := "hashCode", desc := "()I" } : Jvm.MethodName) ({ cls := "java/lang/Object", name := "hashCode", desc := "()I" } : Jvm.MethodName)) ∈ lw_all := lw_g (lw_at lw_m7 120 rfl) rfl
theorem q2064 : (Jvm.Cond.selects "RobotCell$Cell$1" ({ cls := "java/lang/Object", name := "equals", desc := "(Ljava/lang/Object;)Z" } : Jvm.MethodName) ({ cls := "java/lang/Object", name := "equals", desc := "(Ljava/lang/Object;)Z" } : Jvm.MethodName)) ∈ lw_all := lw_g (lw_at lw_m9 51 rfl) rfl
theorem q2792 : (Jvm.Cond.instantiable "RobotCell$Cell$1" (3 : Nat)) ∈ lw_all := lw_g (lw_at lw_m12 59 rfl) rfl
theorem q2794 : (Jvm.Cond.instanceMethod ({ cls := "RobotCell$Cell$1", name := "<init>", desc := "(LRobotCell$Cell;[I)V" } : Jvm.MethodName)) ∈ lw_all := lw_g (lw_at lw_m12 61 rfl) rfl
theorem q2795 : (Jvm.Cond.code ({ cls := "RobotCell$Cell$1", name := "<init>", desc := "(LRobotCell$Cell;[I)V" } : Jvm.MethodName) prog_4_method_1_code (3 : Nat) (Option.none : Option Jvm.ClassFile.FieldType)) ∈ lw_all := lw_g (lw_at lw_m12 62 rfl) rfl
theorem q2796 : (Jvm.Cond.methodLink "RobotCell$Cell$1" (13 : Nat) ({ cls := "java/lang/Object", name := "<init>", desc := "()V" } : Jvm.MethodName)) ∈ lw_all := lw_g (lw_at lw_m12 63 rfl) rfl
theorem q2797 : (Jvm.Cond.fieldLink "RobotCell$Cell$1" (19 : Nat) "RobotCell$Cell$1" "next" "I") ∈ lw_all := lw_g (lw_at lw_m12 64 rfl) rfl
theorem q2798 : (Jvm.Cond.fieldLink "RobotCell$Cell$1" (9 : Nat) "RobotCell$Cell$1" "val$order" "[I") ∈ lw_all := lw_g (lw_at lw_m12 65 rfl) rfl
theorem q2799 : (Jvm.Cond.fieldLink "RobotCell$Cell$1" (3 : Nat) "RobotCell$Cell$1" "this$0" "LRobotCell$Cell;") ∈ lw_all := lw_g (lw_at lw_m12 66 rfl) rfl
theorem q2800 : (Jvm.Cond.lays "RobotCell$Cell$1" "RobotCell$Cell$1" "next" "I") ∈ lw_all := lw_g (lw_at lw_m12 67 rfl) rfl
theorem q2801 : (Jvm.Cond.soleField "RobotCell$Cell$1" "next") ∈ lw_all := lw_g (lw_at lw_m12 68 rfl) rfl
theorem q2802 : (Jvm.Cond.laysFinal "RobotCell$Cell$1" "RobotCell$Cell$1" "val$order" "[I") ∈ lw_all := lw_g (lw_at lw_m12 69 rfl) rfl
theorem q2803 : (Jvm.Cond.soleField "RobotCell$Cell$1" "val$order") ∈ lw_all := lw_g (lw_at lw_m12 70 rfl) rfl
theorem q2804 : (Jvm.Cond.laysFinal "RobotCell$Cell$1" "RobotCell$Cell$1" "this$0" "LRobotCell$Cell;") ∈ lw_all := lw_g (lw_at lw_m12 71 rfl) rfl
theorem q2805 : (Jvm.Cond.soleField "RobotCell$Cell$1" "this$0") ∈ lw_all := lw_g (lw_at lw_m12 72 rfl) rfl
theorem q2806 : (Jvm.Cond.superclass "RobotCell$Cell$1" "java/lang/Object") ∈ lw_all := lw_g (lw_at lw_m12 73 rfl) rfl
theorem q3741 : (Jvm.Cond.selects "RobotCell$Cell$1" ({ cls := "RobotCell$Cell$1", name := "hasNext", desc := "()Z" } : Jvm.MethodName) ({ cls := "RobotCell$Cell$1", name := "hasNext", desc := "()Z" } : Jvm.MethodName)) ∈ lw_all := lw_g (lw_at lw_m16 48 rfl) rfl
theorem q3795 : (Jvm.Cond.castable "RobotCell$Cell$1" "java/lang/Object") ∈ lw_tbl := lw_at lw_m16 102 rfl
theorem in_X9 : ∀ w ∈ wsX90, w ∈ lw_all := lw_in wsX90 [2800, 2802, 2804] (by decide +kernel) (by decide +kernel)
/-! RobotCell$Cell$1Finish -/
set_option maxRecDepth 100000
def RX10 : String := "RobotCell$Cell$1Finish"
def TX10 : u_T := fun k => match k with
  | 0 => ("RobotCell$Cell$1Finish", "left", "I", false)
  | 1 => ("RobotCell$Cell$1Finish", "held", "[I", true)
  | 2 => ("RobotCell$Cell$1Finish", "needs", "[I", true)
  | 3 => ("RobotCell$Cell$1Finish", "val$asking", "I", true)
  | 4 => ("RobotCell$Cell$1Finish", "val$zone", "I", true)
  | 5 => ("RobotCell$Cell$1Finish", "val$order", "LRobotCell$Order;", true)
  | 6 => ("RobotCell$Cell$1Finish", "val$from", "I", true)
  | _ => ("RobotCell$Cell$1Finish", "this$0", "LRobotCell$Cell;", true)
def tyX10 : Nat → FieldType := fun k => match k with
  | 0 => .int
  | 1 => .array .int
  | 2 => .array .int
  | 3 => .int
  | 4 => .int
  | 5 => .object "RobotCell$Order"
  | 6 => .int
  | _ => .object "RobotCell$Cell"
abbrev wsX100 : List Cond := u_ws RX10 TX10 8
theorem nmX10 : ∀ a, a < 8 → ∀ b, b < 8 → a ≠ b → (TX10 a).2.1 ≠ (TX10 b).2.1 := by decide +kernel
theorem tyX10_ok : ∀ k, k < 8 → parseFieldDescriptor (TX10 k).2.2.1 = some (tyX10 k) := by decide +kernel
abbrev cX10_init : ByteArray := prog_5_method_1_code
def yX10_init : MethodName := ⟨RX10, "<init>", "(LRobotCell$Cell;IILRobotCell$Order;I)V"⟩
def dkwX10_init_8 : List UInt8 := [167, 255, 116, 177]
abbrev dktX10_init_8 : List UInt8 := dkwX10_init_8 ++ []
def dkwX10_init_7 : List UInt8 := [182, 0, 57, 43, 180, 0, 36, 21, 6, 50, 182, 0, 61, 4, 96, 184, 0, 53, 79, 132, 6, 1]
abbrev dktX10_init_7 : List UInt8 := dkwX10_init_7 ++ dktX10_init_8
def dkwX10_init_6 : List UInt8 := [153, 0, 17, 42, 180, 0, 16, 42, 180, 0, 20, 184, 0, 53, 167, 0, 28, 43, 180, 0, 36, 21, 6, 50]
abbrev dktX10_init_6 : List UInt8 := dkwX10_init_6 ++ dktX10_init_7
def dkwX10_init_5 : List UInt8 := [153, 0, 12, 4, 42, 180, 0, 13, 120, 167, 0, 4, 3, 128, 79, 42, 180, 0, 33, 21, 6, 21, 7]
abbrev dktX10_init_5 : List UInt8 := dkwX10_init_5 ++ dktX10_init_6
def dkwX10_init_4 : List UInt8 := [120, 128, 181, 0, 47, 42, 180, 0, 29, 21, 6, 43, 180, 0, 36, 21, 6, 50, 182, 0, 50, 21, 7]
abbrev dktX10_init_4 : List UInt8 := dkwX10_init_4 ++ dktX10_init_5
def dkwX10_init_3 : List UInt8 := [154, 0, 16, 43, 180, 0, 36, 21, 6, 50, 180, 0, 42, 153, 0, 100, 42, 89, 180, 0, 47, 4, 21, 6]
abbrev dktX10_init_3 : List UInt8 := dkwX10_init_3 ++ dktX10_init_4
def dkwX10_init_2 : List UInt8 := [21, 6, 6, 162, 0, 140, 21, 6, 42, 180, 0, 9, 160, 0, 7, 4, 167, 0, 4, 3, 54, 7, 21, 7]
abbrev dktX10_init_2 : List UInt8 := dkwX10_init_2 ++ dktX10_init_3
def dkwX10_init_1 : List UInt8 := [181, 0, 20, 42, 183, 0, 23, 42, 6, 188, 10, 181, 0, 29, 42, 6, 188, 10, 181, 0, 33, 3, 54, 6]
abbrev dktX10_init_1 : List UInt8 := dkwX10_init_1 ++ dktX10_init_2
def dkwX10_init_0 : List UInt8 := [42, 43, 181, 0, 3, 42, 28, 181, 0, 9, 42, 29, 181, 0, 13, 42, 25, 4, 181, 0, 16, 42, 21, 5]
abbrev dktX10_init_0 : List UInt8 := dkwX10_init_0 ++ dktX10_init_1
theorem dksX10_init_0 : cX10_init.data.toList.drop 0 = dktX10_init_0 := by decide +kernel
theorem dksX10_init_1 : cX10_init.data.toList.drop 24 = dktX10_init_1 := dk_seg dksX10_init_0 24 rfl rfl
theorem dksX10_init_2 : cX10_init.data.toList.drop 48 = dktX10_init_2 := dk_seg dksX10_init_1 24 rfl rfl
theorem dksX10_init_3 : cX10_init.data.toList.drop 72 = dktX10_init_3 := dk_seg dksX10_init_2 24 rfl rfl
theorem dksX10_init_4 : cX10_init.data.toList.drop 96 = dktX10_init_4 := dk_seg dksX10_init_3 24 rfl rfl
theorem dksX10_init_5 : cX10_init.data.toList.drop 119 = dktX10_init_5 := dk_seg dksX10_init_4 23 rfl rfl
theorem dksX10_init_6 : cX10_init.data.toList.drop 142 = dktX10_init_6 := dk_seg dksX10_init_5 23 rfl rfl
theorem dksX10_init_7 : cX10_init.data.toList.drop 166 = dktX10_init_7 := dk_seg dksX10_init_6 24 rfl rfl
theorem dksX10_init_8 : cX10_init.data.toList.drop 188 = dktX10_init_8 := dk_seg dksX10_init_7 22 rfl rfl
theorem dX10_init_0 : decode cX10_init 0 = .ok (.aload_n 0, 1) := dk_42 (dk_at dksX10_init_0 0 rfl rfl)
theorem dX10_init_1 : decode cX10_init 1 = .ok (.aload_n 1, 1) := dk_43 (dk_at dksX10_init_0 1 rfl rfl)
theorem dX10_init_2 : decode cX10_init 2 = .ok (.putfield 3, 3) := dk_181 0 3 (dk_at dksX10_init_0 2 rfl rfl)
theorem dX10_init_5 : decode cX10_init 5 = .ok (.aload_n 0, 1) := dk_42 (dk_at dksX10_init_0 5 rfl rfl)
theorem dX10_init_6 : decode cX10_init 6 = .ok (.iload_n 2, 1) := dk_28 (dk_at dksX10_init_0 6 rfl rfl)
theorem dX10_init_7 : decode cX10_init 7 = .ok (.putfield 9, 3) := dk_181 0 9 (dk_at dksX10_init_0 7 rfl rfl)
theorem dX10_init_10 : decode cX10_init 10 = .ok (.aload_n 0, 1) := dk_42 (dk_at dksX10_init_0 10 rfl rfl)
theorem dX10_init_11 : decode cX10_init 11 = .ok (.iload_n 3, 1) := dk_29 (dk_at dksX10_init_0 11 rfl rfl)
theorem dX10_init_12 : decode cX10_init 12 = .ok (.putfield 13, 3) := dk_181 0 13 (dk_at dksX10_init_0 12 rfl rfl)
theorem dX10_init_15 : decode cX10_init 15 = .ok (.aload_n 0, 1) := dk_42 (dk_at dksX10_init_0 15 rfl rfl)
theorem dX10_init_16 : decode cX10_init 16 = .ok (.aload 4, 2) := dk_25 4 (dk_at dksX10_init_0 16 rfl rfl)
theorem dX10_init_18 : decode cX10_init 18 = .ok (.putfield 16, 3) := dk_181 0 16 (dk_at dksX10_init_0 18 rfl rfl)
theorem dX10_init_21 : decode cX10_init 21 = .ok (.aload_n 0, 1) := dk_42 (dk_at dksX10_init_0 21 rfl rfl)
theorem dX10_init_22 : decode cX10_init 22 = .ok (.iload 5, 2) := dk_21 5 (dk_at dksX10_init_0 22 rfl rfl)
theorem dX10_init_24 : decode cX10_init 24 = .ok (.putfield 20, 3) := dk_181 0 20 (dk_at dksX10_init_1 0 rfl rfl)
theorem dX10_init_27 : decode cX10_init 27 = .ok (.aload_n 0, 1) := dk_42 (dk_at dksX10_init_1 3 rfl rfl)
theorem dX10_init_28 : decode cX10_init 28 = .ok (.invokespecial 23, 3) := dk_183 0 23 (dk_at dksX10_init_1 4 rfl rfl)
theorem dX10_init_31 : decode cX10_init 31 = .ok (.aload_n 0, 1) := dk_42 (dk_at dksX10_init_1 7 rfl rfl)
theorem dX10_init_32 : decode cX10_init 32 = .ok (.iconst 3, 1) := dk_6 (dk_at dksX10_init_1 8 rfl rfl)
theorem dX10_init_33 : decode cX10_init 33 = .ok (.newarray .int, 2) := dk_188_10 (dk_at dksX10_init_1 9 rfl rfl)
theorem dX10_init_35 : decode cX10_init 35 = .ok (.putfield 29, 3) := dk_181 0 29 (dk_at dksX10_init_1 11 rfl rfl)
theorem dX10_init_38 : decode cX10_init 38 = .ok (.aload_n 0, 1) := dk_42 (dk_at dksX10_init_1 14 rfl rfl)
theorem dX10_init_39 : decode cX10_init 39 = .ok (.iconst 3, 1) := dk_6 (dk_at dksX10_init_1 15 rfl rfl)
theorem dX10_init_40 : decode cX10_init 40 = .ok (.newarray .int, 2) := dk_188_10 (dk_at dksX10_init_1 16 rfl rfl)
theorem dX10_init_42 : decode cX10_init 42 = .ok (.putfield 33, 3) := dk_181 0 33 (dk_at dksX10_init_1 18 rfl rfl)
theorem dX10_init_45 : decode cX10_init 45 = .ok (.iconst 0, 1) := dk_3 (dk_at dksX10_init_1 21 rfl rfl)
theorem dX10_init_46 : decode cX10_init 46 = .ok (.istore 6, 2) := dk_54 6 (dk_at dksX10_init_1 22 rfl rfl)
theorem dX10_init_48 : decode cX10_init 48 = .ok (.iload 6, 2) := dk_21 6 (dk_at dksX10_init_2 0 rfl rfl)
theorem dX10_init_50 : decode cX10_init 50 = .ok (.iconst 3, 1) := dk_6 (dk_at dksX10_init_2 2 rfl rfl)
theorem dX10_init_51 : decode cX10_init 51 = .ok (.if_icmp .ge 140, 3) := dk_162 0 140 (dk_at dksX10_init_2 3 rfl rfl)
theorem dX10_init_54 : decode cX10_init 54 = .ok (.iload 6, 2) := dk_21 6 (dk_at dksX10_init_2 6 rfl rfl)
theorem dX10_init_56 : decode cX10_init 56 = .ok (.aload_n 0, 1) := dk_42 (dk_at dksX10_init_2 8 rfl rfl)
theorem dX10_init_57 : decode cX10_init 57 = .ok (.getfield 9, 3) := dk_180 0 9 (dk_at dksX10_init_2 9 rfl rfl)
theorem dX10_init_60 : decode cX10_init 60 = .ok (.if_icmp .ne 7, 3) := dk_160 0 7 (dk_at dksX10_init_2 12 rfl rfl)
theorem dX10_init_63 : decode cX10_init 63 = .ok (.iconst 1, 1) := dk_4 (dk_at dksX10_init_2 15 rfl rfl)
theorem dX10_init_64 : decode cX10_init 64 = .ok (.goto 4, 3) := dk_167 0 4 (dk_at dksX10_init_2 16 rfl rfl)
theorem dX10_init_67 : decode cX10_init 67 = .ok (.iconst 0, 1) := dk_3 (dk_at dksX10_init_2 19 rfl rfl)
theorem dX10_init_68 : decode cX10_init 68 = .ok (.istore 7, 2) := dk_54 7 (dk_at dksX10_init_2 20 rfl rfl)
theorem dX10_init_70 : decode cX10_init 70 = .ok (.iload 7, 2) := dk_21 7 (dk_at dksX10_init_2 22 rfl rfl)
theorem dX10_init_72 : decode cX10_init 72 = .ok (.ifCond .ne 16, 3) := dk_154 0 16 (dk_at dksX10_init_3 0 rfl rfl)
theorem dX10_init_75 : decode cX10_init 75 = .ok (.aload_n 1, 1) := dk_43 (dk_at dksX10_init_3 3 rfl rfl)
theorem dX10_init_76 : decode cX10_init 76 = .ok (.getfield 36, 3) := dk_180 0 36 (dk_at dksX10_init_3 4 rfl rfl)
theorem dX10_init_79 : decode cX10_init 79 = .ok (.iload 6, 2) := dk_21 6 (dk_at dksX10_init_3 7 rfl rfl)
theorem dX10_init_81 : decode cX10_init 81 = .ok (.aaload, 1) := dk_50 (dk_at dksX10_init_3 9 rfl rfl)
theorem dX10_init_82 : decode cX10_init 82 = .ok (.getfield 42, 3) := dk_180 0 42 (dk_at dksX10_init_3 10 rfl rfl)
theorem dX10_init_85 : decode cX10_init 85 = .ok (.ifCond .eq 100, 3) := dk_153 0 100 (dk_at dksX10_init_3 13 rfl rfl)
theorem dX10_init_88 : decode cX10_init 88 = .ok (.aload_n 0, 1) := dk_42 (dk_at dksX10_init_3 16 rfl rfl)
theorem dX10_init_89 : decode cX10_init 89 = .ok (.dup, 1) := dk_89 (dk_at dksX10_init_3 17 rfl rfl)
theorem dX10_init_90 : decode cX10_init 90 = .ok (.getfield 47, 3) := dk_180 0 47 (dk_at dksX10_init_3 18 rfl rfl)
theorem dX10_init_93 : decode cX10_init 93 = .ok (.iconst 1, 1) := dk_4 (dk_at dksX10_init_3 21 rfl rfl)
theorem dX10_init_94 : decode cX10_init 94 = .ok (.iload 6, 2) := dk_21 6 (dk_at dksX10_init_3 22 rfl rfl)
theorem dX10_init_96 : decode cX10_init 96 = .ok (.ishl, 1) := dk_120 (dk_at dksX10_init_4 0 rfl rfl)
theorem dX10_init_97 : decode cX10_init 97 = .ok (.ior, 1) := dk_128 (dk_at dksX10_init_4 1 rfl rfl)
theorem dX10_init_98 : decode cX10_init 98 = .ok (.putfield 47, 3) := dk_181 0 47 (dk_at dksX10_init_4 2 rfl rfl)
theorem dX10_init_101 : decode cX10_init 101 = .ok (.aload_n 0, 1) := dk_42 (dk_at dksX10_init_4 5 rfl rfl)
theorem dX10_init_102 : decode cX10_init 102 = .ok (.getfield 29, 3) := dk_180 0 29 (dk_at dksX10_init_4 6 rfl rfl)
theorem dX10_init_105 : decode cX10_init 105 = .ok (.iload 6, 2) := dk_21 6 (dk_at dksX10_init_4 9 rfl rfl)
theorem dX10_init_107 : decode cX10_init 107 = .ok (.aload_n 1, 1) := dk_43 (dk_at dksX10_init_4 11 rfl rfl)
theorem dX10_init_108 : decode cX10_init 108 = .ok (.getfield 36, 3) := dk_180 0 36 (dk_at dksX10_init_4 12 rfl rfl)
theorem dX10_init_111 : decode cX10_init 111 = .ok (.iload 6, 2) := dk_21 6 (dk_at dksX10_init_4 15 rfl rfl)
theorem dX10_init_113 : decode cX10_init 113 = .ok (.aaload, 1) := dk_50 (dk_at dksX10_init_4 17 rfl rfl)
theorem dX10_init_114 : decode cX10_init 114 = .ok (.invokevirtual 50, 3) := dk_182 0 50 (dk_at dksX10_init_4 18 rfl rfl)
theorem dX10_init_117 : decode cX10_init 117 = .ok (.iload 7, 2) := dk_21 7 (dk_at dksX10_init_4 21 rfl rfl)
theorem dX10_init_119 : decode cX10_init 119 = .ok (.ifCond .eq 12, 3) := dk_153 0 12 (dk_at dksX10_init_5 0 rfl rfl)
theorem dX10_init_122 : decode cX10_init 122 = .ok (.iconst 1, 1) := dk_4 (dk_at dksX10_init_5 3 rfl rfl)
theorem dX10_init_123 : decode cX10_init 123 = .ok (.aload_n 0, 1) := dk_42 (dk_at dksX10_init_5 4 rfl rfl)
theorem dX10_init_124 : decode cX10_init 124 = .ok (.getfield 13, 3) := dk_180 0 13 (dk_at dksX10_init_5 5 rfl rfl)
theorem dX10_init_127 : decode cX10_init 127 = .ok (.ishl, 1) := dk_120 (dk_at dksX10_init_5 8 rfl rfl)
theorem dX10_init_128 : decode cX10_init 128 = .ok (.goto 4, 3) := dk_167 0 4 (dk_at dksX10_init_5 9 rfl rfl)
theorem dX10_init_131 : decode cX10_init 131 = .ok (.iconst 0, 1) := dk_3 (dk_at dksX10_init_5 12 rfl rfl)
theorem dX10_init_132 : decode cX10_init 132 = .ok (.ior, 1) := dk_128 (dk_at dksX10_init_5 13 rfl rfl)
theorem dX10_init_133 : decode cX10_init 133 = .ok (.iastore, 1) := dk_79 (dk_at dksX10_init_5 14 rfl rfl)
theorem dX10_init_134 : decode cX10_init 134 = .ok (.aload_n 0, 1) := dk_42 (dk_at dksX10_init_5 15 rfl rfl)
theorem dX10_init_135 : decode cX10_init 135 = .ok (.getfield 33, 3) := dk_180 0 33 (dk_at dksX10_init_5 16 rfl rfl)
theorem dX10_init_138 : decode cX10_init 138 = .ok (.iload 6, 2) := dk_21 6 (dk_at dksX10_init_5 19 rfl rfl)
theorem dX10_init_140 : decode cX10_init 140 = .ok (.iload 7, 2) := dk_21 7 (dk_at dksX10_init_5 21 rfl rfl)
theorem dX10_init_142 : decode cX10_init 142 = .ok (.ifCond .eq 17, 3) := dk_153 0 17 (dk_at dksX10_init_6 0 rfl rfl)
theorem dX10_init_145 : decode cX10_init 145 = .ok (.aload_n 0, 1) := dk_42 (dk_at dksX10_init_6 3 rfl rfl)
theorem dX10_init_146 : decode cX10_init 146 = .ok (.getfield 16, 3) := dk_180 0 16 (dk_at dksX10_init_6 4 rfl rfl)
theorem dX10_init_149 : decode cX10_init 149 = .ok (.aload_n 0, 1) := dk_42 (dk_at dksX10_init_6 7 rfl rfl)
theorem dX10_init_150 : decode cX10_init 150 = .ok (.getfield 20, 3) := dk_180 0 20 (dk_at dksX10_init_6 8 rfl rfl)
theorem dX10_init_153 : decode cX10_init 153 = .ok (.invokestatic 53, 3) := dk_184 0 53 (dk_at dksX10_init_6 11 rfl rfl)
theorem dX10_init_156 : decode cX10_init 156 = .ok (.goto 28, 3) := dk_167 0 28 (dk_at dksX10_init_6 14 rfl rfl)
theorem dX10_init_159 : decode cX10_init 159 = .ok (.aload_n 1, 1) := dk_43 (dk_at dksX10_init_6 17 rfl rfl)
theorem dX10_init_160 : decode cX10_init 160 = .ok (.getfield 36, 3) := dk_180 0 36 (dk_at dksX10_init_6 18 rfl rfl)
theorem dX10_init_163 : decode cX10_init 163 = .ok (.iload 6, 2) := dk_21 6 (dk_at dksX10_init_6 21 rfl rfl)
theorem dX10_init_165 : decode cX10_init 165 = .ok (.aaload, 1) := dk_50 (dk_at dksX10_init_6 23 rfl rfl)
theorem dX10_init_166 : decode cX10_init 166 = .ok (.invokevirtual 57, 3) := dk_182 0 57 (dk_at dksX10_init_7 0 rfl rfl)
theorem dX10_init_169 : decode cX10_init 169 = .ok (.aload_n 1, 1) := dk_43 (dk_at dksX10_init_7 3 rfl rfl)
theorem dX10_init_170 : decode cX10_init 170 = .ok (.getfield 36, 3) := dk_180 0 36 (dk_at dksX10_init_7 4 rfl rfl)
theorem dX10_init_173 : decode cX10_init 173 = .ok (.iload 6, 2) := dk_21 6 (dk_at dksX10_init_7 7 rfl rfl)
theorem dX10_init_175 : decode cX10_init 175 = .ok (.aaload, 1) := dk_50 (dk_at dksX10_init_7 9 rfl rfl)
theorem dX10_init_176 : decode cX10_init 176 = .ok (.invokevirtual 61, 3) := dk_182 0 61 (dk_at dksX10_init_7 10 rfl rfl)
theorem dX10_init_179 : decode cX10_init 179 = .ok (.iconst 1, 1) := dk_4 (dk_at dksX10_init_7 13 rfl rfl)
theorem dX10_init_180 : decode cX10_init 180 = .ok (.iadd, 1) := dk_96 (dk_at dksX10_init_7 14 rfl rfl)
theorem dX10_init_181 : decode cX10_init 181 = .ok (.invokestatic 53, 3) := dk_184 0 53 (dk_at dksX10_init_7 15 rfl rfl)
theorem dX10_init_184 : decode cX10_init 184 = .ok (.iastore, 1) := dk_79 (dk_at dksX10_init_7 18 rfl rfl)
theorem dX10_init_185 : decode cX10_init 185 = .ok (.iinc 6 1, 3) := dk_132 6 1 (dk_at dksX10_init_7 19 rfl rfl)
theorem dX10_init_188 : decode cX10_init 188 = .ok (.goto (-140), 3) := dk_167 255 116 (dk_at dksX10_init_8 0 rfl rfl)
theorem dX10_init_191 : decode cX10_init 191 = .ok (.return_, 1) := dk_177 (dk_at dksX10_init_8 3 rfl rfl)
abbrev cX10_finishAll : ByteArray := prog_5_method_3_code
def yX10_finishAll : MethodName := ⟨RX10, "finishAll", "()I"⟩
def dkwX10_finishAll_3 : List UInt8 := [167, 0, 10, 42, 180, 0, 47, 184, 0, 76, 172]
abbrev dktX10_finishAll_3 : List UInt8 := dkwX10_finishAll_3 ++ []
def dkwX10_finishAll_2 : List UInt8 := [181, 0, 47, 4, 60, 132, 2, 1, 167, 255, 213, 167, 255, 202, 42, 180, 0, 47, 154, 0, 7, 2]
abbrev dktX10_finishAll_2 : List UInt8 := dkwX10_finishAll_2 ++ dktX10_finishAll_3
def dkwX10_finishAll_1 : List UInt8 := [153, 0, 27, 42, 28, 182, 0, 72, 153, 0, 19, 42, 89, 180, 0, 47, 4, 28, 120, 2, 130, 126]
abbrev dktX10_finishAll_1 : List UInt8 := dkwX10_finishAll_1 ++ dktX10_finishAll_2
def dkwX10_finishAll_0 : List UInt8 := [4, 60, 27, 153, 0, 56, 3, 60, 3, 61, 28, 6, 162, 0, 44, 42, 180, 0, 47, 28, 184, 0, 64]
abbrev dktX10_finishAll_0 : List UInt8 := dkwX10_finishAll_0 ++ dktX10_finishAll_1
theorem dksX10_finishAll_0 : cX10_finishAll.data.toList.drop 0 = dktX10_finishAll_0 := by decide +kernel
theorem dksX10_finishAll_1 : cX10_finishAll.data.toList.drop 23 = dktX10_finishAll_1 := dk_seg dksX10_finishAll_0 23 rfl rfl
theorem dksX10_finishAll_2 : cX10_finishAll.data.toList.drop 45 = dktX10_finishAll_2 := dk_seg dksX10_finishAll_1 22 rfl rfl
theorem dksX10_finishAll_3 : cX10_finishAll.data.toList.drop 67 = dktX10_finishAll_3 := dk_seg dksX10_finishAll_2 22 rfl rfl
theorem dX10_finishAll_0 : decode cX10_finishAll 0 = .ok (.iconst 1, 1) := dk_4 (dk_at dksX10_finishAll_0 0 rfl rfl)
theorem dX10_finishAll_1 : decode cX10_finishAll 1 = .ok (.istore_n 1, 1) := dk_60 (dk_at dksX10_finishAll_0 1 rfl rfl)
theorem dX10_finishAll_2 : decode cX10_finishAll 2 = .ok (.iload_n 1, 1) := dk_27 (dk_at dksX10_finishAll_0 2 rfl rfl)
theorem dX10_finishAll_3 : decode cX10_finishAll 3 = .ok (.ifCond .eq 56, 3) := dk_153 0 56 (dk_at dksX10_finishAll_0 3 rfl rfl)
theorem dX10_finishAll_6 : decode cX10_finishAll 6 = .ok (.iconst 0, 1) := dk_3 (dk_at dksX10_finishAll_0 6 rfl rfl)
theorem dX10_finishAll_7 : decode cX10_finishAll 7 = .ok (.istore_n 1, 1) := dk_60 (dk_at dksX10_finishAll_0 7 rfl rfl)
theorem dX10_finishAll_8 : decode cX10_finishAll 8 = .ok (.iconst 0, 1) := dk_3 (dk_at dksX10_finishAll_0 8 rfl rfl)
theorem dX10_finishAll_9 : decode cX10_finishAll 9 = .ok (.istore_n 2, 1) := dk_61 (dk_at dksX10_finishAll_0 9 rfl rfl)
theorem dX10_finishAll_10 : decode cX10_finishAll 10 = .ok (.iload_n 2, 1) := dk_28 (dk_at dksX10_finishAll_0 10 rfl rfl)
theorem dX10_finishAll_11 : decode cX10_finishAll 11 = .ok (.iconst 3, 1) := dk_6 (dk_at dksX10_finishAll_0 11 rfl rfl)
theorem dX10_finishAll_12 : decode cX10_finishAll 12 = .ok (.if_icmp .ge 44, 3) := dk_162 0 44 (dk_at dksX10_finishAll_0 12 rfl rfl)
theorem dX10_finishAll_15 : decode cX10_finishAll 15 = .ok (.aload_n 0, 1) := dk_42 (dk_at dksX10_finishAll_0 15 rfl rfl)
theorem dX10_finishAll_16 : decode cX10_finishAll 16 = .ok (.getfield 47, 3) := dk_180 0 47 (dk_at dksX10_finishAll_0 16 rfl rfl)
theorem dX10_finishAll_19 : decode cX10_finishAll 19 = .ok (.iload_n 2, 1) := dk_28 (dk_at dksX10_finishAll_0 19 rfl rfl)
theorem dX10_finishAll_20 : decode cX10_finishAll 20 = .ok (.invokestatic 64, 3) := dk_184 0 64 (dk_at dksX10_finishAll_0 20 rfl rfl)
theorem dX10_finishAll_23 : decode cX10_finishAll 23 = .ok (.ifCond .eq 27, 3) := dk_153 0 27 (dk_at dksX10_finishAll_1 0 rfl rfl)
theorem dX10_finishAll_26 : decode cX10_finishAll 26 = .ok (.aload_n 0, 1) := dk_42 (dk_at dksX10_finishAll_1 3 rfl rfl)
theorem dX10_finishAll_27 : decode cX10_finishAll 27 = .ok (.iload_n 2, 1) := dk_28 (dk_at dksX10_finishAll_1 4 rfl rfl)
theorem dX10_finishAll_28 : decode cX10_finishAll 28 = .ok (.invokevirtual 72, 3) := dk_182 0 72 (dk_at dksX10_finishAll_1 5 rfl rfl)
theorem dX10_finishAll_31 : decode cX10_finishAll 31 = .ok (.ifCond .eq 19, 3) := dk_153 0 19 (dk_at dksX10_finishAll_1 8 rfl rfl)
theorem dX10_finishAll_34 : decode cX10_finishAll 34 = .ok (.aload_n 0, 1) := dk_42 (dk_at dksX10_finishAll_1 11 rfl rfl)
theorem dX10_finishAll_35 : decode cX10_finishAll 35 = .ok (.dup, 1) := dk_89 (dk_at dksX10_finishAll_1 12 rfl rfl)
theorem dX10_finishAll_36 : decode cX10_finishAll 36 = .ok (.getfield 47, 3) := dk_180 0 47 (dk_at dksX10_finishAll_1 13 rfl rfl)
theorem dX10_finishAll_39 : decode cX10_finishAll 39 = .ok (.iconst 1, 1) := dk_4 (dk_at dksX10_finishAll_1 16 rfl rfl)
theorem dX10_finishAll_40 : decode cX10_finishAll 40 = .ok (.iload_n 2, 1) := dk_28 (dk_at dksX10_finishAll_1 17 rfl rfl)
theorem dX10_finishAll_41 : decode cX10_finishAll 41 = .ok (.ishl, 1) := dk_120 (dk_at dksX10_finishAll_1 18 rfl rfl)
theorem dX10_finishAll_42 : decode cX10_finishAll 42 = .ok (.iconst (-1), 1) := dk_2 (dk_at dksX10_finishAll_1 19 rfl rfl)
theorem dX10_finishAll_43 : decode cX10_finishAll 43 = .ok (.ixor, 1) := dk_130 (dk_at dksX10_finishAll_1 20 rfl rfl)
theorem dX10_finishAll_44 : decode cX10_finishAll 44 = .ok (.iand, 1) := dk_126 (dk_at dksX10_finishAll_1 21 rfl rfl)
theorem dX10_finishAll_45 : decode cX10_finishAll 45 = .ok (.putfield 47, 3) := dk_181 0 47 (dk_at dksX10_finishAll_2 0 rfl rfl)
theorem dX10_finishAll_48 : decode cX10_finishAll 48 = .ok (.iconst 1, 1) := dk_4 (dk_at dksX10_finishAll_2 3 rfl rfl)
theorem dX10_finishAll_49 : decode cX10_finishAll 49 = .ok (.istore_n 1, 1) := dk_60 (dk_at dksX10_finishAll_2 4 rfl rfl)
theorem dX10_finishAll_50 : decode cX10_finishAll 50 = .ok (.iinc 2 1, 3) := dk_132 2 1 (dk_at dksX10_finishAll_2 5 rfl rfl)
theorem dX10_finishAll_53 : decode cX10_finishAll 53 = .ok (.goto (-43), 3) := dk_167 255 213 (dk_at dksX10_finishAll_2 8 rfl rfl)
theorem dX10_finishAll_56 : decode cX10_finishAll 56 = .ok (.goto (-54), 3) := dk_167 255 202 (dk_at dksX10_finishAll_2 11 rfl rfl)
theorem dX10_finishAll_59 : decode cX10_finishAll 59 = .ok (.aload_n 0, 1) := dk_42 (dk_at dksX10_finishAll_2 14 rfl rfl)
theorem dX10_finishAll_60 : decode cX10_finishAll 60 = .ok (.getfield 47, 3) := dk_180 0 47 (dk_at dksX10_finishAll_2 15 rfl rfl)
theorem dX10_finishAll_63 : decode cX10_finishAll 63 = .ok (.ifCond .ne 7, 3) := dk_154 0 7 (dk_at dksX10_finishAll_2 18 rfl rfl)
theorem dX10_finishAll_66 : decode cX10_finishAll 66 = .ok (.iconst (-1), 1) := dk_2 (dk_at dksX10_finishAll_2 21 rfl rfl)
theorem dX10_finishAll_67 : decode cX10_finishAll 67 = .ok (.goto 10, 3) := dk_167 0 10 (dk_at dksX10_finishAll_3 0 rfl rfl)
theorem dX10_finishAll_70 : decode cX10_finishAll 70 = .ok (.aload_n 0, 1) := dk_42 (dk_at dksX10_finishAll_3 3 rfl rfl)
theorem dX10_finishAll_71 : decode cX10_finishAll 71 = .ok (.getfield 47, 3) := dk_180 0 47 (dk_at dksX10_finishAll_3 4 rfl rfl)
theorem dX10_finishAll_74 : decode cX10_finishAll 74 = .ok (.invokestatic 76, 3) := dk_184 0 76 (dk_at dksX10_finishAll_3 7 rfl rfl)
theorem dX10_finishAll_77 : decode cX10_finishAll 77 = .ok (.ireturn, 1) := dk_172 (dk_at dksX10_finishAll_3 10 rfl rfl)
abbrev cX10_canFinish : ByteArray := prog_5_method_2_code
def yX10_canFinish : MethodName := ⟨RX10, "canFinish", "(I)Z"⟩
def dkwX10_canFinish_4 : List UInt8 := [167, 255, 210, 29, 172]
abbrev dktX10_canFinish_4 : List UInt8 := dkwX10_canFinish_4 ++ []
def dkwX10_canFinish_3 : List UInt8 := [42, 180, 0, 3, 21, 4, 182, 0, 68, 28, 126, 154, 0, 7, 4, 167, 0, 4, 3, 126, 62, 132, 4, 1]
abbrev dktX10_canFinish_3 : List UInt8 := dkwX10_canFinish_3 ++ dktX10_canFinish_4
def dkwX10_canFinish_2 : List UInt8 := [54, 4, 21, 4, 16, 8, 162, 0, 45, 29, 42, 180, 0, 33, 27, 46, 21, 4, 184, 0, 64, 153, 0, 17]
abbrev dktX10_canFinish_2 : List UInt8 := dkwX10_canFinish_2 ++ dktX10_canFinish_3
def dkwX10_canFinish_1 : List UInt8 := [153, 0, 12, 42, 180, 0, 29, 29, 46, 167, 0, 4, 3, 128, 61, 132, 3, 1, 167, 255, 219, 4, 62, 3]
abbrev dktX10_canFinish_1 : List UInt8 := dkwX10_canFinish_1 ++ dktX10_canFinish_2
def dkwX10_canFinish_0 : List UInt8 := [3, 61, 3, 62, 29, 6, 162, 0, 38, 28, 29, 27, 159, 0, 23, 42, 180, 0, 47, 29, 184, 0, 64]
abbrev dktX10_canFinish_0 : List UInt8 := dkwX10_canFinish_0 ++ dktX10_canFinish_1
theorem dksX10_canFinish_0 : cX10_canFinish.data.toList.drop 0 = dktX10_canFinish_0 := by decide +kernel
theorem dksX10_canFinish_1 : cX10_canFinish.data.toList.drop 23 = dktX10_canFinish_1 := dk_seg dksX10_canFinish_0 23 rfl rfl
theorem dksX10_canFinish_2 : cX10_canFinish.data.toList.drop 47 = dktX10_canFinish_2 := dk_seg dksX10_canFinish_1 24 rfl rfl
theorem dksX10_canFinish_3 : cX10_canFinish.data.toList.drop 71 = dktX10_canFinish_3 := dk_seg dksX10_canFinish_2 24 rfl rfl
theorem dksX10_canFinish_4 : cX10_canFinish.data.toList.drop 95 = dktX10_canFinish_4 := dk_seg dksX10_canFinish_3 24 rfl rfl
theorem dX10_canFinish_0 : decode cX10_canFinish 0 = .ok (.iconst 0, 1) := dk_3 (dk_at dksX10_canFinish_0 0 rfl rfl)
theorem dX10_canFinish_1 : decode cX10_canFinish 1 = .ok (.istore_n 2, 1) := dk_61 (dk_at dksX10_canFinish_0 1 rfl rfl)
theorem dX10_canFinish_2 : decode cX10_canFinish 2 = .ok (.iconst 0, 1) := dk_3 (dk_at dksX10_canFinish_0 2 rfl rfl)
theorem dX10_canFinish_3 : decode cX10_canFinish 3 = .ok (.istore_n 3, 1) := dk_62 (dk_at dksX10_canFinish_0 3 rfl rfl)
theorem dX10_canFinish_4 : decode cX10_canFinish 4 = .ok (.iload_n 3, 1) := dk_29 (dk_at dksX10_canFinish_0 4 rfl rfl)
theorem dX10_canFinish_5 : decode cX10_canFinish 5 = .ok (.iconst 3, 1) := dk_6 (dk_at dksX10_canFinish_0 5 rfl rfl)
theorem dX10_canFinish_6 : decode cX10_canFinish 6 = .ok (.if_icmp .ge 38, 3) := dk_162 0 38 (dk_at dksX10_canFinish_0 6 rfl rfl)
theorem dX10_canFinish_9 : decode cX10_canFinish 9 = .ok (.iload_n 2, 1) := dk_28 (dk_at dksX10_canFinish_0 9 rfl rfl)
theorem dX10_canFinish_10 : decode cX10_canFinish 10 = .ok (.iload_n 3, 1) := dk_29 (dk_at dksX10_canFinish_0 10 rfl rfl)
theorem dX10_canFinish_11 : decode cX10_canFinish 11 = .ok (.iload_n 1, 1) := dk_27 (dk_at dksX10_canFinish_0 11 rfl rfl)
theorem dX10_canFinish_12 : decode cX10_canFinish 12 = .ok (.if_icmp .eq 23, 3) := dk_159 0 23 (dk_at dksX10_canFinish_0 12 rfl rfl)
theorem dX10_canFinish_15 : decode cX10_canFinish 15 = .ok (.aload_n 0, 1) := dk_42 (dk_at dksX10_canFinish_0 15 rfl rfl)
theorem dX10_canFinish_16 : decode cX10_canFinish 16 = .ok (.getfield 47, 3) := dk_180 0 47 (dk_at dksX10_canFinish_0 16 rfl rfl)
theorem dX10_canFinish_19 : decode cX10_canFinish 19 = .ok (.iload_n 3, 1) := dk_29 (dk_at dksX10_canFinish_0 19 rfl rfl)
theorem dX10_canFinish_20 : decode cX10_canFinish 20 = .ok (.invokestatic 64, 3) := dk_184 0 64 (dk_at dksX10_canFinish_0 20 rfl rfl)
theorem dX10_canFinish_23 : decode cX10_canFinish 23 = .ok (.ifCond .eq 12, 3) := dk_153 0 12 (dk_at dksX10_canFinish_1 0 rfl rfl)
theorem dX10_canFinish_26 : decode cX10_canFinish 26 = .ok (.aload_n 0, 1) := dk_42 (dk_at dksX10_canFinish_1 3 rfl rfl)
theorem dX10_canFinish_27 : decode cX10_canFinish 27 = .ok (.getfield 29, 3) := dk_180 0 29 (dk_at dksX10_canFinish_1 4 rfl rfl)
theorem dX10_canFinish_30 : decode cX10_canFinish 30 = .ok (.iload_n 3, 1) := dk_29 (dk_at dksX10_canFinish_1 7 rfl rfl)
theorem dX10_canFinish_31 : decode cX10_canFinish 31 = .ok (.iaload, 1) := dk_46 (dk_at dksX10_canFinish_1 8 rfl rfl)
theorem dX10_canFinish_32 : decode cX10_canFinish 32 = .ok (.goto 4, 3) := dk_167 0 4 (dk_at dksX10_canFinish_1 9 rfl rfl)
theorem dX10_canFinish_35 : decode cX10_canFinish 35 = .ok (.iconst 0, 1) := dk_3 (dk_at dksX10_canFinish_1 12 rfl rfl)
theorem dX10_canFinish_36 : decode cX10_canFinish 36 = .ok (.ior, 1) := dk_128 (dk_at dksX10_canFinish_1 13 rfl rfl)
theorem dX10_canFinish_37 : decode cX10_canFinish 37 = .ok (.istore_n 2, 1) := dk_61 (dk_at dksX10_canFinish_1 14 rfl rfl)
theorem dX10_canFinish_38 : decode cX10_canFinish 38 = .ok (.iinc 3 1, 3) := dk_132 3 1 (dk_at dksX10_canFinish_1 15 rfl rfl)
theorem dX10_canFinish_41 : decode cX10_canFinish 41 = .ok (.goto (-37), 3) := dk_167 255 219 (dk_at dksX10_canFinish_1 18 rfl rfl)
theorem dX10_canFinish_44 : decode cX10_canFinish 44 = .ok (.iconst 1, 1) := dk_4 (dk_at dksX10_canFinish_1 21 rfl rfl)
theorem dX10_canFinish_45 : decode cX10_canFinish 45 = .ok (.istore_n 3, 1) := dk_62 (dk_at dksX10_canFinish_1 22 rfl rfl)
theorem dX10_canFinish_46 : decode cX10_canFinish 46 = .ok (.iconst 0, 1) := dk_3 (dk_at dksX10_canFinish_1 23 rfl rfl)
theorem dX10_canFinish_47 : decode cX10_canFinish 47 = .ok (.istore 4, 2) := dk_54 4 (dk_at dksX10_canFinish_2 0 rfl rfl)
theorem dX10_canFinish_49 : decode cX10_canFinish 49 = .ok (.iload 4, 2) := dk_21 4 (dk_at dksX10_canFinish_2 2 rfl rfl)
theorem dX10_canFinish_51 : decode cX10_canFinish 51 = .ok (.bipush 8, 2) := dk_16 8 (dk_at dksX10_canFinish_2 4 rfl rfl)
theorem dX10_canFinish_53 : decode cX10_canFinish 53 = .ok (.if_icmp .ge 45, 3) := dk_162 0 45 (dk_at dksX10_canFinish_2 6 rfl rfl)
theorem dX10_canFinish_56 : decode cX10_canFinish 56 = .ok (.iload_n 3, 1) := dk_29 (dk_at dksX10_canFinish_2 9 rfl rfl)
theorem dX10_canFinish_57 : decode cX10_canFinish 57 = .ok (.aload_n 0, 1) := dk_42 (dk_at dksX10_canFinish_2 10 rfl rfl)
theorem dX10_canFinish_58 : decode cX10_canFinish 58 = .ok (.getfield 33, 3) := dk_180 0 33 (dk_at dksX10_canFinish_2 11 rfl rfl)
theorem dX10_canFinish_61 : decode cX10_canFinish 61 = .ok (.iload_n 1, 1) := dk_27 (dk_at dksX10_canFinish_2 14 rfl rfl)
theorem dX10_canFinish_62 : decode cX10_canFinish 62 = .ok (.iaload, 1) := dk_46 (dk_at dksX10_canFinish_2 15 rfl rfl)
theorem dX10_canFinish_63 : decode cX10_canFinish 63 = .ok (.iload 4, 2) := dk_21 4 (dk_at dksX10_canFinish_2 16 rfl rfl)
theorem dX10_canFinish_65 : decode cX10_canFinish 65 = .ok (.invokestatic 64, 3) := dk_184 0 64 (dk_at dksX10_canFinish_2 18 rfl rfl)
theorem dX10_canFinish_68 : decode cX10_canFinish 68 = .ok (.ifCond .eq 17, 3) := dk_153 0 17 (dk_at dksX10_canFinish_2 21 rfl rfl)
theorem dX10_canFinish_71 : decode cX10_canFinish 71 = .ok (.aload_n 0, 1) := dk_42 (dk_at dksX10_canFinish_3 0 rfl rfl)
theorem dX10_canFinish_72 : decode cX10_canFinish 72 = .ok (.getfield 3, 3) := dk_180 0 3 (dk_at dksX10_canFinish_3 1 rfl rfl)
theorem dX10_canFinish_75 : decode cX10_canFinish 75 = .ok (.iload 4, 2) := dk_21 4 (dk_at dksX10_canFinish_3 4 rfl rfl)
theorem dX10_canFinish_77 : decode cX10_canFinish 77 = .ok (.invokevirtual 68, 3) := dk_182 0 68 (dk_at dksX10_canFinish_3 6 rfl rfl)
theorem dX10_canFinish_80 : decode cX10_canFinish 80 = .ok (.iload_n 2, 1) := dk_28 (dk_at dksX10_canFinish_3 9 rfl rfl)
theorem dX10_canFinish_81 : decode cX10_canFinish 81 = .ok (.iand, 1) := dk_126 (dk_at dksX10_canFinish_3 10 rfl rfl)
theorem dX10_canFinish_82 : decode cX10_canFinish 82 = .ok (.ifCond .ne 7, 3) := dk_154 0 7 (dk_at dksX10_canFinish_3 11 rfl rfl)
theorem dX10_canFinish_85 : decode cX10_canFinish 85 = .ok (.iconst 1, 1) := dk_4 (dk_at dksX10_canFinish_3 14 rfl rfl)
theorem dX10_canFinish_86 : decode cX10_canFinish 86 = .ok (.goto 4, 3) := dk_167 0 4 (dk_at dksX10_canFinish_3 15 rfl rfl)
theorem dX10_canFinish_89 : decode cX10_canFinish 89 = .ok (.iconst 0, 1) := dk_3 (dk_at dksX10_canFinish_3 18 rfl rfl)
theorem dX10_canFinish_90 : decode cX10_canFinish 90 = .ok (.iand, 1) := dk_126 (dk_at dksX10_canFinish_3 19 rfl rfl)
theorem dX10_canFinish_91 : decode cX10_canFinish 91 = .ok (.istore_n 3, 1) := dk_62 (dk_at dksX10_canFinish_3 20 rfl rfl)
theorem dX10_canFinish_92 : decode cX10_canFinish 92 = .ok (.iinc 4 1, 3) := dk_132 4 1 (dk_at dksX10_canFinish_3 21 rfl rfl)
theorem dX10_canFinish_95 : decode cX10_canFinish 95 = .ok (.goto (-46), 3) := dk_167 255 210 (dk_at dksX10_canFinish_4 0 rfl rfl)
theorem dX10_canFinish_98 : decode cX10_canFinish 98 = .ok (.iload_n 3, 1) := dk_29 (dk_at dksX10_canFinish_4 3 rfl rfl)
theorem dX10_canFinish_99 : decode cX10_canFinish 99 = .ok (.ireturn, 1) := dk_172 (dk_at dksX10_canFinish_4 4 rfl rfl)
theorem q155 : (Jvm.Cond.initialized "RobotCell$Cell$1Finish") ∈ lw_all := lw_g (lw_at lw_m1 62 rfl) rfl
theorem q862 : (Jvm.Cond.selects "RobotCell$Cell$1Finish" ({ cls := "java/lang/Object", name := "toString", desc := "()Ljava/lang/String;" } : Jvm.MethodName) ({ cls := "java/lang/Object", name := "toString", desc := "()Ljava/lang/String;" } : Jvm.MethodName)) ∈ lw_all := lw_g (lw_at lw_m4 49 rfl) rfl
theorem q882 : (Jvm.Cond.selects "RobotCell$Cell$1Finish" ({ cls := "java/lang/Object", name := "getClass", desc := "()Ljava/lang/Class;" } : Jvm.MethodName) ({ cls := "java/lang/Object", name := "getClass", desc := "()Ljava/lang/Class;" } : Jvm.MethodName)) ∈ lw_all := lw_g (lw_at lw_m4 69 rfl) rfl
theorem q1186 : (Jvm.Cond.fieldLinkNest "RobotCell$Cell$1Finish" (42 : Nat) "RobotCell$Cell$Arm" "state" "I" "RobotCell") ∈ lw_tbl := lw_at lw_m5 133 rfl
theorem q1241 : (Jvm.Cond.fieldLinkNest "RobotCell$Cell$1Finish" (36 : Nat) "RobotCell$Cell" "arms" "[LRobotCell$Cell$Arm;" "RobotCell") ∈ lw_tbl := lw_at lw_m5 188 rfl
theorem q1327 : (Jvm.Cond.instantiable "RobotCell$Cell$1Finish" (8 : Nat)) ∈ lw_all := lw_g (lw_at lw_m6 34 rfl) rfl
theorem q1329 : (Jvm.Cond.instanceMethod ({ cls := "RobotCell$Cell$1Finish", name := "<init>", desc := "(LRobotCell$Cell;IILRobotCell$Order;I)V" } : Jvm.MethodName)) ∈ lw_all := lw_g (lw_at lw_m6 36 rfl) rfl
theorem q1330 : (Jvm.Cond.code ({ cls := "RobotCell$Cell$1Finish", name := "<init>", desc := "(LRobotCell$Cell;IILRobotCell$Order;I)V" } : Jvm.MethodName) prog_5_method_1_code (8 : Nat) (Option.none : Option Jvm.ClassFile.FieldType)) ∈ lw_all := lw_g (lw_at lw_m6 37 rfl) rfl
theorem q1331 : (Jvm.Cond.methodLink "RobotCell$Cell$1Finish" (23 : Nat) ({ cls := "java/lang/Object", name := "<init>", desc := "()V" } : Jvm.MethodName)) ∈ lw_all := lw_g (lw_at lw_m6 38 rfl) rfl
theorem q1332 : (Jvm.Cond.methodLink "RobotCell$Cell$1Finish" (50 : Nat) ({ cls := "RobotCell$Cell$Arm", name := "held", desc := "()I" } : Jvm.MethodName)) ∈ lw_all := lw_g (lw_at lw_m6 39 rfl) rfl
theorem q1340 : (Jvm.Cond.methodLinkNest "RobotCell$Cell$1Finish" (53 : Nat) ({ cls := "RobotCell$Cell", name := "zonesFrom", desc := "(LRobotCell$Order;I)I" } : Jvm.MethodName) "RobotCell") ∈ lw_tbl := lw_at lw_m6 47 rfl
theorem q1343 : (Jvm.Cond.methodLink "RobotCell$Cell$1Finish" (57 : Nat) ({ cls := "RobotCell$Cell$Arm", name := "order", desc := "()LRobotCell$Order;" } : Jvm.MethodName)) ∈ lw_all := lw_g (lw_at lw_m6 50 rfl) rfl
theorem q1344 : (Jvm.Cond.methodLink "RobotCell$Cell$1Finish" (61 : Nat) ({ cls := "RobotCell$Cell$Arm", name := "reached", desc := "()I" } : Jvm.MethodName)) ∈ lw_all := lw_g (lw_at lw_m6 51 rfl) rfl
theorem q1348 : (Jvm.Cond.fieldLink "RobotCell$Cell$1Finish" (47 : Nat) "RobotCell$Cell$1Finish" "left" "I") ∈ lw_all := lw_g (lw_at lw_m6 55 rfl) rfl
theorem q1349 : (Jvm.Cond.fieldLink "RobotCell$Cell$1Finish" (29 : Nat) "RobotCell$Cell$1Finish" "held" "[I") ∈ lw_all := lw_g (lw_at lw_m6 56 rfl) rfl
theorem q1350 : (Jvm.Cond.fieldLink "RobotCell$Cell$1Finish" (33 : Nat) "RobotCell$Cell$1Finish" "needs" "[I") ∈ lw_all := lw_g (lw_at lw_m6 57 rfl) rfl
theorem q1351 : (Jvm.Cond.fieldLink "RobotCell$Cell$1Finish" (9 : Nat) "RobotCell$Cell$1Finish" "val$asking" "I") ∈ lw_all := lw_g (lw_at lw_m6 58 rfl) rfl
theorem q1352 : (Jvm.Cond.fieldLink "RobotCell$Cell$1Finish" (13 : Nat) "RobotCell$Cell$1Finish" "val$zone" "I") ∈ lw_all := lw_g (lw_at lw_m6 59 rfl) rfl
theorem q1353 : (Jvm.Cond.fieldLink "RobotCell$Cell$1Finish" (16 : Nat) "RobotCell$Cell$1Finish" "val$order" "LRobotCell$Order;") ∈ lw_all := lw_g (lw_at lw_m6 60 rfl) rfl
theorem q1354 : (Jvm.Cond.fieldLink "RobotCell$Cell$1Finish" (20 : Nat) "RobotCell$Cell$1Finish" "val$from" "I") ∈ lw_all := lw_g (lw_at lw_m6 61 rfl) rfl
theorem q1355 : (Jvm.Cond.fieldLink "RobotCell$Cell$1Finish" (3 : Nat) "RobotCell$Cell$1Finish" "this$0" "LRobotCell$Cell;") ∈ lw_all := lw_g (lw_at lw_m6 62 rfl) rfl
theorem q1356 : (Jvm.Cond.lays "RobotCell$Cell$1Finish" "RobotCell$Cell$1Finish" "left" "I") ∈ lw_all := lw_g (lw_at lw_m6 63 rfl) rfl
theorem q1357 : (Jvm.Cond.soleField "RobotCell$Cell$1Finish" "left") ∈ lw_all := lw_g (lw_at lw_m6 64 rfl) rfl
theorem q1358 : (Jvm.Cond.laysFinal "RobotCell$Cell$1Finish" "RobotCell$Cell$1Finish" "held" "[I") ∈ lw_all := lw_g (lw_at lw_m6 65 rfl) rfl
theorem q1359 : (Jvm.Cond.soleField "RobotCell$Cell$1Finish" "held") ∈ lw_all := lw_g (lw_at lw_m6 66 rfl) rfl
theorem q1360 : (Jvm.Cond.laysFinal "RobotCell$Cell$1Finish" "RobotCell$Cell$1Finish" "needs" "[I") ∈ lw_all := lw_g (lw_at lw_m6 67 rfl) rfl
theorem q1361 : (Jvm.Cond.soleField "RobotCell$Cell$1Finish" "needs") ∈ lw_all := lw_g (lw_at lw_m6 68 rfl) rfl
theorem q1362 : (Jvm.Cond.laysFinal "RobotCell$Cell$1Finish" "RobotCell$Cell$1Finish" "val$asking" "I") ∈ lw_all := lw_g (lw_at lw_m6 69 rfl) rfl
theorem q1363 : (Jvm.Cond.soleField "RobotCell$Cell$1Finish" "val$asking") ∈ lw_all := lw_g (lw_at lw_m6 70 rfl) rfl
theorem q1364 : (Jvm.Cond.laysFinal "RobotCell$Cell$1Finish" "RobotCell$Cell$1Finish" "val$zone" "I") ∈ lw_all := lw_g (lw_at lw_m6 71 rfl) rfl
theorem q1365 : (Jvm.Cond.soleField "RobotCell$Cell$1Finish" "val$zone") ∈ lw_all := lw_g (lw_at lw_m6 72 rfl) rfl
theorem q1366 : (Jvm.Cond.laysFinal "RobotCell$Cell$1Finish" "RobotCell$Cell$1Finish" "val$order" "LRobotCell$Order;") ∈ lw_all := lw_g (lw_at lw_m6 73 rfl) rfl
theorem q1367 : (Jvm.Cond.soleField "RobotCell$Cell$1Finish" "val$order") ∈ lw_all := lw_g (lw_at lw_m6 74 rfl) rfl
theorem q1368 : (Jvm.Cond.laysFinal "RobotCell$Cell$1Finish" "RobotCell$Cell$1Finish" "val$from" "I") ∈ lw_all := lw_g (lw_at lw_m6 75 rfl) rfl
theorem q1369 : (Jvm.Cond.soleField "RobotCell$Cell$1Finish" "val$from") ∈ lw_all := lw_g (lw_at lw_m6 76 rfl) rfl
theorem q1370 : (Jvm.Cond.laysFinal "RobotCell$Cell$1Finish" "RobotCell$Cell$1Finish" "this$0" "LRobotCell$Cell;") ∈ lw_all := lw_g (lw_at lw_m6 77 rfl) rfl
theorem q1371 : (Jvm.Cond.soleField "RobotCell$Cell$1Finish" "this$0") ∈ lw_all := lw_g (lw_at lw_m6 78 rfl) rfl
theorem q1372 : (Jvm.Cond.superclass "RobotCell$Cell$1Finish" "java/lang/Object") ∈ lw_all := lw_g (lw_at lw_m6 79 rfl) rfl
theorem q1374 : (Jvm.Cond.instanceMethod ({ cls := "RobotCell$Cell$1Finish", name := "finishAll", desc := "()I" } : Jvm.MethodName)) ∈ lw_all := lw_g (lw_at lw_m6 81 rfl) rfl
theorem q1375 : (Jvm.Cond.selects "RobotCell$Cell$1Finish" ({ cls := "RobotCell$Cell$1Finish", name := "finishAll", desc := "()I" } : Jvm.MethodName) ({ cls := "RobotCell$Cell$1Finish", name := "finishAll", desc := "()I" } : Jvm.MethodName)) ∈ lw_all := lw_g (lw_at lw_m6 82 rfl) rfl
theorem q1376 : (Jvm.Cond.code ({ cls := "RobotCell$Cell$1Finish", name := "finishAll", desc := "()I" } : Jvm.MethodName) prog_5_method_3_code (3 : Nat) (Option.some Jvm.ClassFile.FieldType.int)) ∈ lw_all := lw_g (lw_at lw_m6 83 rfl) rfl
theorem q1377 : (Jvm.Cond.methodLinkNest "RobotCell$Cell$1Finish" (64 : Nat) ({ cls := "RobotCell", name := "contains", desc := "(II)Z" } : Jvm.MethodName) "RobotCell") ∈ lw_tbl := lw_at lw_m6 84 rfl
theorem q1380 : (Jvm.Cond.methodLink "RobotCell$Cell$1Finish" (72 : Nat) ({ cls := "RobotCell$Cell$1Finish", name := "canFinish", desc := "(I)Z" } : Jvm.MethodName)) ∈ lw_all := lw_g (lw_at lw_m6 87 rfl) rfl
theorem q1381 : (Jvm.Cond.privateMethod ({ cls := "RobotCell$Cell$1Finish", name := "canFinish", desc := "(I)Z" } : Jvm.MethodName)) ∈ lw_tbl := lw_at lw_m6 88 rfl
theorem q1382 : (Jvm.Cond.instanceMethod ({ cls := "RobotCell$Cell$1Finish", name := "canFinish", desc := "(I)Z" } : Jvm.MethodName)) ∈ lw_all := lw_g (lw_at lw_m6 89 rfl) rfl
theorem q1383 : (Jvm.Cond.code ({ cls := "RobotCell$Cell$1Finish", name := "canFinish", desc := "(I)Z" } : Jvm.MethodName) prog_5_method_2_code (5 : Nat) (Option.some Jvm.ClassFile.FieldType.boolean)) ∈ lw_all := lw_g (lw_at lw_m6 90 rfl) rfl
theorem q1384 : (Jvm.Cond.methodLink "RobotCell$Cell$1Finish" (68 : Nat) ({ cls := "RobotCell$Cell", name := "conflicts", desc := "(I)I" } : Jvm.MethodName)) ∈ lw_all := lw_g (lw_at lw_m6 91 rfl) rfl
theorem q1620 : (Jvm.Cond.methodLink "RobotCell$Cell$1Finish" (76 : Nat) ({ cls := "java/lang/Integer", name := "numberOfTrailingZeros", desc := "(I)I" } : Jvm.MethodName)) ∈ lw_all := lw_g (lw_at lw_m7 87 rfl) rfl
theorem q1654 : (Jvm.Cond.selects "RobotCell$Cell$1Finish" ({ cls := "java/lang/Object", name := "hashCode", desc := "()I" } : Jvm.MethodName) ({ cls := "java/lang/Object", name := "hashCode", desc := "()I" } : Jvm.MethodName)) ∈ lw_all := lw_g (lw_at lw_m7 121 rfl) rfl
theorem q2065 : (Jvm.Cond.selects "RobotCell$Cell$1Finish" ({ cls := "java/lang/Object", name := "equals", desc := "(Ljava/lang/Object;)Z" } : Jvm.MethodName) ({ cls := "java/lang/Object", name := "equals", desc := "(Ljava/lang/Object;)Z" } : Jvm.MethodName)) ∈ lw_all := lw_g (lw_at lw_m9 52 rfl) rfl
theorem q3796 : (Jvm.Cond.castable "RobotCell$Cell$1Finish" "java/lang/Object") ∈ lw_tbl := lw_at lw_m16 103 rfl
theorem in_X10 : ∀ w ∈ wsX100, w ∈ lw_all := lw_in wsX100 [1356, 1358, 1360, 1362, 1364, 1366, 1368, 1370] (by decide +kernel) (by decide +kernel)
/-! RobotCell$Entry -/
set_option maxRecDepth 100000
def RX11 : String := "RobotCell$Entry"
def TX11 : u_T := fun k => match k with
  | _ => ("RobotCell$Entry", "parts", "[I", true)
def tyX11 : Nat → FieldType := fun k => match k with
  | _ => .array .int
abbrev wsX110 : List Cond := u_ws RX11 TX11 1
theorem nmX11 : ∀ a, a < 1 → ∀ b, b < 1 → a ≠ b → (TX11 a).2.1 ≠ (TX11 b).2.1 := by decide +kernel
theorem tyX11_ok : ∀ k, k < 1 → parseFieldDescriptor (TX11 k).2.2.1 = some (tyX11 k) := by decide +kernel
abbrev cX11_init : ByteArray := prog_8_method_1_code
def yX11_init : MethodName := ⟨RX11, "<init>", "(IIII)V"⟩
def dkwX11_init_1 : List UInt8 := [79, 181, 0, 7, 177]
abbrev dktX11_init_1 : List UInt8 := dkwX11_init_1 ++ []
def dkwX11_init_0 : List UInt8 := [42, 183, 0, 1, 42, 7, 188, 10, 89, 3, 27, 79, 89, 4, 28, 79, 89, 5, 29, 79, 89, 6, 21, 4]
abbrev dktX11_init_0 : List UInt8 := dkwX11_init_0 ++ dktX11_init_1
theorem dksX11_init_0 : cX11_init.data.toList.drop 0 = dktX11_init_0 := by decide +kernel
theorem dksX11_init_1 : cX11_init.data.toList.drop 24 = dktX11_init_1 := dk_seg dksX11_init_0 24 rfl rfl
theorem dX11_init_0 : decode cX11_init 0 = .ok (.aload_n 0, 1) := dk_42 (dk_at dksX11_init_0 0 rfl rfl)
theorem dX11_init_1 : decode cX11_init 1 = .ok (.invokespecial 1, 3) := dk_183 0 1 (dk_at dksX11_init_0 1 rfl rfl)
theorem dX11_init_4 : decode cX11_init 4 = .ok (.aload_n 0, 1) := dk_42 (dk_at dksX11_init_0 4 rfl rfl)
theorem dX11_init_5 : decode cX11_init 5 = .ok (.iconst 4, 1) := dk_7 (dk_at dksX11_init_0 5 rfl rfl)
theorem dX11_init_6 : decode cX11_init 6 = .ok (.newarray .int, 2) := dk_188_10 (dk_at dksX11_init_0 6 rfl rfl)
theorem dX11_init_8 : decode cX11_init 8 = .ok (.dup, 1) := dk_89 (dk_at dksX11_init_0 8 rfl rfl)
theorem dX11_init_9 : decode cX11_init 9 = .ok (.iconst 0, 1) := dk_3 (dk_at dksX11_init_0 9 rfl rfl)
theorem dX11_init_10 : decode cX11_init 10 = .ok (.iload_n 1, 1) := dk_27 (dk_at dksX11_init_0 10 rfl rfl)
theorem dX11_init_11 : decode cX11_init 11 = .ok (.iastore, 1) := dk_79 (dk_at dksX11_init_0 11 rfl rfl)
theorem dX11_init_12 : decode cX11_init 12 = .ok (.dup, 1) := dk_89 (dk_at dksX11_init_0 12 rfl rfl)
theorem dX11_init_13 : decode cX11_init 13 = .ok (.iconst 1, 1) := dk_4 (dk_at dksX11_init_0 13 rfl rfl)
theorem dX11_init_14 : decode cX11_init 14 = .ok (.iload_n 2, 1) := dk_28 (dk_at dksX11_init_0 14 rfl rfl)
theorem dX11_init_15 : decode cX11_init 15 = .ok (.iastore, 1) := dk_79 (dk_at dksX11_init_0 15 rfl rfl)
theorem dX11_init_16 : decode cX11_init 16 = .ok (.dup, 1) := dk_89 (dk_at dksX11_init_0 16 rfl rfl)
theorem dX11_init_17 : decode cX11_init 17 = .ok (.iconst 2, 1) := dk_5 (dk_at dksX11_init_0 17 rfl rfl)
theorem dX11_init_18 : decode cX11_init 18 = .ok (.iload_n 3, 1) := dk_29 (dk_at dksX11_init_0 18 rfl rfl)
theorem dX11_init_19 : decode cX11_init 19 = .ok (.iastore, 1) := dk_79 (dk_at dksX11_init_0 19 rfl rfl)
theorem dX11_init_20 : decode cX11_init 20 = .ok (.dup, 1) := dk_89 (dk_at dksX11_init_0 20 rfl rfl)
theorem dX11_init_21 : decode cX11_init 21 = .ok (.iconst 3, 1) := dk_6 (dk_at dksX11_init_0 21 rfl rfl)
theorem dX11_init_22 : decode cX11_init 22 = .ok (.iload 4, 2) := dk_21 4 (dk_at dksX11_init_0 22 rfl rfl)
theorem dX11_init_24 : decode cX11_init 24 = .ok (.iastore, 1) := dk_79 (dk_at dksX11_init_1 0 rfl rfl)
theorem dX11_init_25 : decode cX11_init 25 = .ok (.putfield 7, 3) := dk_181 0 7 (dk_at dksX11_init_1 1 rfl rfl)
theorem dX11_init_28 : decode cX11_init 28 = .ok (.return_, 1) := dk_177 (dk_at dksX11_init_1 4 rfl rfl)
abbrev cX11_part : ByteArray := prog_8_method_2_code
def yX11_part : MethodName := ⟨RX11, "part", "(I)I"⟩
def dkwX11_part_0 : List UInt8 := [42, 180, 0, 7, 27, 46, 172]
abbrev dktX11_part_0 : List UInt8 := dkwX11_part_0 ++ []
theorem dksX11_part_0 : cX11_part.data.toList.drop 0 = dktX11_part_0 := by decide +kernel
theorem dX11_part_0 : decode cX11_part 0 = .ok (.aload_n 0, 1) := dk_42 (dk_at dksX11_part_0 0 rfl rfl)
theorem dX11_part_1 : decode cX11_part 1 = .ok (.getfield 7, 3) := dk_180 0 7 (dk_at dksX11_part_0 1 rfl rfl)
theorem dX11_part_4 : decode cX11_part 4 = .ok (.iload_n 1, 1) := dk_27 (dk_at dksX11_part_0 4 rfl rfl)
theorem dX11_part_5 : decode cX11_part 5 = .ok (.iaload, 1) := dk_46 (dk_at dksX11_part_0 5 rfl rfl)
theorem dX11_part_6 : decode cX11_part 6 = .ok (.ireturn, 1) := dk_172 (dk_at dksX11_part_0 6 rfl rfl)
theorem q156 : (Jvm.Cond.initialized "RobotCell$Entry") ∈ lw_all := lw_g (lw_at lw_m1 63 rfl) rfl
theorem q864 : (Jvm.Cond.selects "RobotCell$Entry" ({ cls := "java/lang/Object", name := "toString", desc := "()Ljava/lang/String;" } : Jvm.MethodName) ({ cls := "java/lang/Object", name := "toString", desc := "()Ljava/lang/String;" } : Jvm.MethodName)) ∈ lw_all := lw_g (lw_at lw_m4 51 rfl) rfl
theorem q884 : (Jvm.Cond.selects "RobotCell$Entry" ({ cls := "java/lang/Object", name := "getClass", desc := "()Ljava/lang/Class;" } : Jvm.MethodName) ({ cls := "java/lang/Object", name := "getClass", desc := "()Ljava/lang/Class;" } : Jvm.MethodName)) ∈ lw_all := lw_g (lw_at lw_m4 71 rfl) rfl
theorem q1656 : (Jvm.Cond.selects "RobotCell$Entry" ({ cls := "java/lang/Object", name := "hashCode", desc := "()I" } : Jvm.MethodName) ({ cls := "java/lang/Object", name := "hashCode", desc := "()I" } : Jvm.MethodName)) ∈ lw_all := lw_g (lw_at lw_m7 123 rfl) rfl
theorem q2067 : (Jvm.Cond.selects "RobotCell$Entry" ({ cls := "java/lang/Object", name := "equals", desc := "(Ljava/lang/Object;)Z" } : Jvm.MethodName) ({ cls := "java/lang/Object", name := "equals", desc := "(Ljava/lang/Object;)Z" } : Jvm.MethodName)) ∈ lw_all := lw_g (lw_at lw_m9 54 rfl) rfl
theorem q2859 : (Jvm.Cond.instantiable "RobotCell$Entry" (1 : Nat)) ∈ lw_all := lw_g (lw_at lw_m12 126 rfl) rfl
theorem q2861 : (Jvm.Cond.instanceMethod ({ cls := "RobotCell$Entry", name := "<init>", desc := "(IIII)V" } : Jvm.MethodName)) ∈ lw_all := lw_g (lw_at lw_m12 128 rfl) rfl
theorem q2862 : (Jvm.Cond.code ({ cls := "RobotCell$Entry", name := "<init>", desc := "(IIII)V" } : Jvm.MethodName) prog_8_method_1_code (5 : Nat) (Option.none : Option Jvm.ClassFile.FieldType)) ∈ lw_all := lw_g (lw_at lw_m12 129 rfl) rfl
theorem q2863 : (Jvm.Cond.methodLink "RobotCell$Entry" (1 : Nat) ({ cls := "java/lang/Object", name := "<init>", desc := "()V" } : Jvm.MethodName)) ∈ lw_all := lw_g (lw_at lw_m12 130 rfl) rfl
theorem q2864 : (Jvm.Cond.fieldLink "RobotCell$Entry" (7 : Nat) "RobotCell$Entry" "parts" "[I") ∈ lw_all := lw_g (lw_at lw_m12 131 rfl) rfl
theorem q2865 : (Jvm.Cond.laysFinal "RobotCell$Entry" "RobotCell$Entry" "parts" "[I") ∈ lw_all := lw_g (lw_at lw_m12 132 rfl) rfl
theorem q2866 : (Jvm.Cond.soleField "RobotCell$Entry" "parts") ∈ lw_all := lw_g (lw_at lw_m12 133 rfl) rfl
theorem q2867 : (Jvm.Cond.superclass "RobotCell$Entry" "java/lang/Object") ∈ lw_all := lw_g (lw_at lw_m12 134 rfl) rfl
theorem q2949 : (Jvm.Cond.instanceMethod ({ cls := "RobotCell$Entry", name := "part", desc := "(I)I" } : Jvm.MethodName)) ∈ lw_all := lw_g (lw_at lw_m12 216 rfl) rfl
theorem q2950 : (Jvm.Cond.selects "RobotCell$Entry" ({ cls := "RobotCell$Entry", name := "part", desc := "(I)I" } : Jvm.MethodName) ({ cls := "RobotCell$Entry", name := "part", desc := "(I)I" } : Jvm.MethodName)) ∈ lw_all := lw_g (lw_at lw_m12 217 rfl) rfl
theorem q2951 : (Jvm.Cond.code ({ cls := "RobotCell$Entry", name := "part", desc := "(I)I" } : Jvm.MethodName) prog_8_method_2_code (2 : Nat) (Option.some Jvm.ClassFile.FieldType.int)) ∈ lw_all := lw_g (lw_at lw_m12 218 rfl) rfl
theorem q3797 : (Jvm.Cond.castable "RobotCell$Entry" "java/lang/Object") ∈ lw_tbl := lw_at lw_m16 104 rfl
theorem in_X11 : ∀ w ∈ wsX110, w ∈ lw_all := lw_in wsX110 [2865] (by decide +kernel) (by decide +kernel)
/-! RobotCell$Reader -/
set_option maxRecDepth 100000
def RX12 : String := "RobotCell$Reader"
def TX12 : u_T := fun k => match k with
  | 0 => ("RobotCell$Reader", "position", "I", false)
  | _ => ("RobotCell$Reader", "this$0", "LRobotCell;", true)
def tyX12 : Nat → FieldType := fun k => match k with
  | 0 => .int
  | _ => .object "RobotCell"
abbrev wsX120 : List Cond := u_ws RX12 TX12 2
theorem nmX12 : ∀ a, a < 2 → ∀ b, b < 2 → a ≠ b → (TX12 a).2.1 ≠ (TX12 b).2.1 := by decide +kernel
theorem tyX12_ok : ∀ k, k < 2 → parseFieldDescriptor (TX12 k).2.2.1 = some (tyX12 k) := by decide +kernel
abbrev cX12_init : ByteArray := prog_12_method_1_code
def yX12_init : MethodName := ⟨RX12, "<init>", "(LRobotCell;)V"⟩
def dkwX12_init_0 : List UInt8 := [42, 43, 181, 0, 3, 42, 183, 0, 9, 177]
abbrev dktX12_init_0 : List UInt8 := dkwX12_init_0 ++ []
theorem dksX12_init_0 : cX12_init.data.toList.drop 0 = dktX12_init_0 := by decide +kernel
theorem dX12_init_0 : decode cX12_init 0 = .ok (.aload_n 0, 1) := dk_42 (dk_at dksX12_init_0 0 rfl rfl)
theorem dX12_init_1 : decode cX12_init 1 = .ok (.aload_n 1, 1) := dk_43 (dk_at dksX12_init_0 1 rfl rfl)
theorem dX12_init_2 : decode cX12_init 2 = .ok (.putfield 3, 3) := dk_181 0 3 (dk_at dksX12_init_0 2 rfl rfl)
theorem dX12_init_5 : decode cX12_init 5 = .ok (.aload_n 0, 1) := dk_42 (dk_at dksX12_init_0 5 rfl rfl)
theorem dX12_init_6 : decode cX12_init 6 = .ok (.invokespecial 9, 3) := dk_183 0 9 (dk_at dksX12_init_0 6 rfl rfl)
theorem dX12_init_9 : decode cX12_init 9 = .ok (.return_, 1) := dk_177 (dk_at dksX12_init_0 9 rfl rfl)
abbrev cX12_all : ByteArray := prog_12_method_13_code
def yX12_all : MethodName := ⟨RX12, "all", "()Ljava/util/ArrayList;"⟩
def dkwX12_all_2 : List UInt8 := [180, 0, 24, 160, 0, 7, 4, 167, 0, 4, 3, 182, 0, 43, 43, 176]
abbrev dktX12_all_2 : List UInt8 := dkwX12_all_2 ++ []
def dkwX12_all_1 : List UInt8 := [153, 0, 15, 43, 42, 182, 0, 100, 182, 0, 103, 61, 167, 255, 238, 42, 42, 180, 0, 17, 42, 180, 0, 3]
abbrev dktX12_all_1 : List UInt8 := dkwX12_all_1 ++ dktX12_all_2
def dkwX12_all_0 : List UInt8 := [187, 0, 97, 89, 183, 0, 99, 76, 43, 42, 182, 0, 100, 182, 0, 103, 61, 42, 16, 59, 182, 0, 57]
abbrev dktX12_all_0 : List UInt8 := dkwX12_all_0 ++ dktX12_all_1
theorem dksX12_all_0 : cX12_all.data.toList.drop 0 = dktX12_all_0 := by decide +kernel
theorem dksX12_all_1 : cX12_all.data.toList.drop 23 = dktX12_all_1 := dk_seg dksX12_all_0 23 rfl rfl
theorem dksX12_all_2 : cX12_all.data.toList.drop 47 = dktX12_all_2 := dk_seg dksX12_all_1 24 rfl rfl
theorem dX12_all_0 : decode cX12_all 0 = .ok (.new 97, 3) := dk_187 0 97 (dk_at dksX12_all_0 0 rfl rfl)
theorem dX12_all_3 : decode cX12_all 3 = .ok (.dup, 1) := dk_89 (dk_at dksX12_all_0 3 rfl rfl)
theorem dX12_all_4 : decode cX12_all 4 = .ok (.invokespecial 99, 3) := dk_183 0 99 (dk_at dksX12_all_0 4 rfl rfl)
theorem dX12_all_7 : decode cX12_all 7 = .ok (.astore_n 1, 1) := dk_76 (dk_at dksX12_all_0 7 rfl rfl)
theorem dX12_all_8 : decode cX12_all 8 = .ok (.aload_n 1, 1) := dk_43 (dk_at dksX12_all_0 8 rfl rfl)
theorem dX12_all_9 : decode cX12_all 9 = .ok (.aload_n 0, 1) := dk_42 (dk_at dksX12_all_0 9 rfl rfl)
theorem dX12_all_10 : decode cX12_all 10 = .ok (.invokevirtual 100, 3) := dk_182 0 100 (dk_at dksX12_all_0 10 rfl rfl)
theorem dX12_all_13 : decode cX12_all 13 = .ok (.invokevirtual 103, 3) := dk_182 0 103 (dk_at dksX12_all_0 13 rfl rfl)
theorem dX12_all_16 : decode cX12_all 16 = .ok (.istore_n 2, 1) := dk_61 (dk_at dksX12_all_0 16 rfl rfl)
theorem dX12_all_17 : decode cX12_all 17 = .ok (.aload_n 0, 1) := dk_42 (dk_at dksX12_all_0 17 rfl rfl)
theorem dX12_all_18 : decode cX12_all 18 = .ok (.bipush 59, 2) := dk_16 59 (dk_at dksX12_all_0 18 rfl rfl)
theorem dX12_all_20 : decode cX12_all 20 = .ok (.invokevirtual 57, 3) := dk_182 0 57 (dk_at dksX12_all_0 20 rfl rfl)
theorem dX12_all_23 : decode cX12_all 23 = .ok (.ifCond .eq 15, 3) := dk_153 0 15 (dk_at dksX12_all_1 0 rfl rfl)
theorem dX12_all_26 : decode cX12_all 26 = .ok (.aload_n 1, 1) := dk_43 (dk_at dksX12_all_1 3 rfl rfl)
theorem dX12_all_27 : decode cX12_all 27 = .ok (.aload_n 0, 1) := dk_42 (dk_at dksX12_all_1 4 rfl rfl)
theorem dX12_all_28 : decode cX12_all 28 = .ok (.invokevirtual 100, 3) := dk_182 0 100 (dk_at dksX12_all_1 5 rfl rfl)
theorem dX12_all_31 : decode cX12_all 31 = .ok (.invokevirtual 103, 3) := dk_182 0 103 (dk_at dksX12_all_1 8 rfl rfl)
theorem dX12_all_34 : decode cX12_all 34 = .ok (.istore_n 2, 1) := dk_61 (dk_at dksX12_all_1 11 rfl rfl)
theorem dX12_all_35 : decode cX12_all 35 = .ok (.goto (-18), 3) := dk_167 255 238 (dk_at dksX12_all_1 12 rfl rfl)
theorem dX12_all_38 : decode cX12_all 38 = .ok (.aload_n 0, 1) := dk_42 (dk_at dksX12_all_1 15 rfl rfl)
theorem dX12_all_39 : decode cX12_all 39 = .ok (.aload_n 0, 1) := dk_42 (dk_at dksX12_all_1 16 rfl rfl)
theorem dX12_all_40 : decode cX12_all 40 = .ok (.getfield 17, 3) := dk_180 0 17 (dk_at dksX12_all_1 17 rfl rfl)
theorem dX12_all_43 : decode cX12_all 43 = .ok (.aload_n 0, 1) := dk_42 (dk_at dksX12_all_1 20 rfl rfl)
theorem dX12_all_44 : decode cX12_all 44 = .ok (.getfield 3, 3) := dk_180 0 3 (dk_at dksX12_all_1 21 rfl rfl)
theorem dX12_all_47 : decode cX12_all 47 = .ok (.getfield 24, 3) := dk_180 0 24 (dk_at dksX12_all_2 0 rfl rfl)
theorem dX12_all_50 : decode cX12_all 50 = .ok (.if_icmp .ne 7, 3) := dk_160 0 7 (dk_at dksX12_all_2 3 rfl rfl)
theorem dX12_all_53 : decode cX12_all 53 = .ok (.iconst 1, 1) := dk_4 (dk_at dksX12_all_2 6 rfl rfl)
theorem dX12_all_54 : decode cX12_all 54 = .ok (.goto 4, 3) := dk_167 0 4 (dk_at dksX12_all_2 7 rfl rfl)
theorem dX12_all_57 : decode cX12_all 57 = .ok (.iconst 0, 1) := dk_3 (dk_at dksX12_all_2 10 rfl rfl)
theorem dX12_all_58 : decode cX12_all 58 = .ok (.invokevirtual 43, 3) := dk_182 0 43 (dk_at dksX12_all_2 11 rfl rfl)
theorem dX12_all_61 : decode cX12_all 61 = .ok (.aload_n 1, 1) := dk_43 (dk_at dksX12_all_2 14 rfl rfl)
theorem dX12_all_62 : decode cX12_all 62 = .ok (.areturn, 1) := dk_176 (dk_at dksX12_all_2 15 rfl rfl)
abbrev cX12_command : ByteArray := prog_12_method_12_code
def yX12_command : MethodName := ⟨RX12, "command", "()LRobotCell$Command;"⟩
def dkwX12_command_1 : List UInt8 := [182, 0, 91, 176, 42, 42, 16, 105, 182, 0, 57, 182, 0, 43, 42, 182, 0, 94, 176]
abbrev dktX12_command_1 : List UInt8 := dkwX12_command_1 ++ []
def dkwX12_command_0 : List UInt8 := [42, 16, 106, 182, 0, 57, 153, 0, 8, 42, 182, 0, 87, 176, 42, 16, 116, 182, 0, 57, 153, 0, 8, 42]
abbrev dktX12_command_0 : List UInt8 := dkwX12_command_0 ++ dktX12_command_1
theorem dksX12_command_0 : cX12_command.data.toList.drop 0 = dktX12_command_0 := by decide +kernel
theorem dksX12_command_1 : cX12_command.data.toList.drop 24 = dktX12_command_1 := dk_seg dksX12_command_0 24 rfl rfl
theorem dX12_command_0 : decode cX12_command 0 = .ok (.aload_n 0, 1) := dk_42 (dk_at dksX12_command_0 0 rfl rfl)
theorem dX12_command_1 : decode cX12_command 1 = .ok (.bipush 106, 2) := dk_16 106 (dk_at dksX12_command_0 1 rfl rfl)
theorem dX12_command_3 : decode cX12_command 3 = .ok (.invokevirtual 57, 3) := dk_182 0 57 (dk_at dksX12_command_0 3 rfl rfl)
theorem dX12_command_6 : decode cX12_command 6 = .ok (.ifCond .eq 8, 3) := dk_153 0 8 (dk_at dksX12_command_0 6 rfl rfl)
theorem dX12_command_9 : decode cX12_command 9 = .ok (.aload_n 0, 1) := dk_42 (dk_at dksX12_command_0 9 rfl rfl)
theorem dX12_command_10 : decode cX12_command 10 = .ok (.invokevirtual 87, 3) := dk_182 0 87 (dk_at dksX12_command_0 10 rfl rfl)
theorem dX12_command_13 : decode cX12_command 13 = .ok (.areturn, 1) := dk_176 (dk_at dksX12_command_0 13 rfl rfl)
theorem dX12_command_14 : decode cX12_command 14 = .ok (.aload_n 0, 1) := dk_42 (dk_at dksX12_command_0 14 rfl rfl)
theorem dX12_command_15 : decode cX12_command 15 = .ok (.bipush 116, 2) := dk_16 116 (dk_at dksX12_command_0 15 rfl rfl)
theorem dX12_command_17 : decode cX12_command 17 = .ok (.invokevirtual 57, 3) := dk_182 0 57 (dk_at dksX12_command_0 17 rfl rfl)
theorem dX12_command_20 : decode cX12_command 20 = .ok (.ifCond .eq 8, 3) := dk_153 0 8 (dk_at dksX12_command_0 20 rfl rfl)
theorem dX12_command_23 : decode cX12_command 23 = .ok (.aload_n 0, 1) := dk_42 (dk_at dksX12_command_0 23 rfl rfl)
theorem dX12_command_24 : decode cX12_command 24 = .ok (.invokevirtual 91, 3) := dk_182 0 91 (dk_at dksX12_command_1 0 rfl rfl)
theorem dX12_command_27 : decode cX12_command 27 = .ok (.areturn, 1) := dk_176 (dk_at dksX12_command_1 3 rfl rfl)
theorem dX12_command_28 : decode cX12_command 28 = .ok (.aload_n 0, 1) := dk_42 (dk_at dksX12_command_1 4 rfl rfl)
theorem dX12_command_29 : decode cX12_command 29 = .ok (.aload_n 0, 1) := dk_42 (dk_at dksX12_command_1 5 rfl rfl)
theorem dX12_command_30 : decode cX12_command 30 = .ok (.bipush 105, 2) := dk_16 105 (dk_at dksX12_command_1 6 rfl rfl)
theorem dX12_command_32 : decode cX12_command 32 = .ok (.invokevirtual 57, 3) := dk_182 0 57 (dk_at dksX12_command_1 8 rfl rfl)
theorem dX12_command_35 : decode cX12_command 35 = .ok (.invokevirtual 43, 3) := dk_182 0 43 (dk_at dksX12_command_1 11 rfl rfl)
theorem dX12_command_38 : decode cX12_command 38 = .ok (.aload_n 0, 1) := dk_42 (dk_at dksX12_command_1 14 rfl rfl)
theorem dX12_command_39 : decode cX12_command 39 = .ok (.invokevirtual 94, 3) := dk_182 0 94 (dk_at dksX12_command_1 15 rfl rfl)
theorem dX12_command_42 : decode cX12_command 42 = .ok (.areturn, 1) := dk_176 (dk_at dksX12_command_1 18 rfl rfl)
abbrev cX12_takes : ByteArray := prog_12_method_4_code
def yX12_takes : MethodName := ⟨RX12, "takes", "(C)Z"⟩
def dkwX12_takes_1 : List UInt8 := [28, 172]
abbrev dktX12_takes_1 : List UInt8 := dkwX12_takes_1 ++ []
def dkwX12_takes_0 : List UInt8 := [42, 27, 182, 0, 31, 61, 42, 89, 180, 0, 17, 28, 153, 0, 7, 4, 167, 0, 4, 3, 96, 181, 0, 17]
abbrev dktX12_takes_0 : List UInt8 := dkwX12_takes_0 ++ dktX12_takes_1
theorem dksX12_takes_0 : cX12_takes.data.toList.drop 0 = dktX12_takes_0 := by decide +kernel
theorem dksX12_takes_1 : cX12_takes.data.toList.drop 24 = dktX12_takes_1 := dk_seg dksX12_takes_0 24 rfl rfl
theorem dX12_takes_0 : decode cX12_takes 0 = .ok (.aload_n 0, 1) := dk_42 (dk_at dksX12_takes_0 0 rfl rfl)
theorem dX12_takes_1 : decode cX12_takes 1 = .ok (.iload_n 1, 1) := dk_27 (dk_at dksX12_takes_0 1 rfl rfl)
theorem dX12_takes_2 : decode cX12_takes 2 = .ok (.invokevirtual 31, 3) := dk_182 0 31 (dk_at dksX12_takes_0 2 rfl rfl)
theorem dX12_takes_5 : decode cX12_takes 5 = .ok (.istore_n 2, 1) := dk_61 (dk_at dksX12_takes_0 5 rfl rfl)
theorem dX12_takes_6 : decode cX12_takes 6 = .ok (.aload_n 0, 1) := dk_42 (dk_at dksX12_takes_0 6 rfl rfl)
theorem dX12_takes_7 : decode cX12_takes 7 = .ok (.dup, 1) := dk_89 (dk_at dksX12_takes_0 7 rfl rfl)
theorem dX12_takes_8 : decode cX12_takes 8 = .ok (.getfield 17, 3) := dk_180 0 17 (dk_at dksX12_takes_0 8 rfl rfl)
theorem dX12_takes_11 : decode cX12_takes 11 = .ok (.iload_n 2, 1) := dk_28 (dk_at dksX12_takes_0 11 rfl rfl)
theorem dX12_takes_12 : decode cX12_takes 12 = .ok (.ifCond .eq 7, 3) := dk_153 0 7 (dk_at dksX12_takes_0 12 rfl rfl)
theorem dX12_takes_15 : decode cX12_takes 15 = .ok (.iconst 1, 1) := dk_4 (dk_at dksX12_takes_0 15 rfl rfl)
theorem dX12_takes_16 : decode cX12_takes 16 = .ok (.goto 4, 3) := dk_167 0 4 (dk_at dksX12_takes_0 16 rfl rfl)
theorem dX12_takes_19 : decode cX12_takes 19 = .ok (.iconst 0, 1) := dk_3 (dk_at dksX12_takes_0 19 rfl rfl)
theorem dX12_takes_20 : decode cX12_takes 20 = .ok (.iadd, 1) := dk_96 (dk_at dksX12_takes_0 20 rfl rfl)
theorem dX12_takes_21 : decode cX12_takes 21 = .ok (.putfield 17, 3) := dk_181 0 17 (dk_at dksX12_takes_0 21 rfl rfl)
theorem dX12_takes_24 : decode cX12_takes 24 = .ok (.iload_n 2, 1) := dk_28 (dk_at dksX12_takes_1 0 rfl rfl)
theorem dX12_takes_25 : decode cX12_takes 25 = .ok (.ireturn, 1) := dk_172 (dk_at dksX12_takes_1 1 rfl rfl)
abbrev cX12_isNext : ByteArray := prog_12_method_3_code
def yX12_isNext : MethodName := ⟨RX12, "isNext", "(C)Z"⟩
def dkwX12_isNext_1 : List UInt8 := [180, 0, 17, 52, 27, 160, 0, 7, 4, 167, 0, 4, 3, 172]
abbrev dktX12_isNext_1 : List UInt8 := dkwX12_isNext_1 ++ []
def dkwX12_isNext_0 : List UInt8 := [42, 180, 0, 17, 42, 180, 0, 3, 180, 0, 24, 162, 0, 23, 42, 180, 0, 3, 180, 0, 27, 42]
abbrev dktX12_isNext_0 : List UInt8 := dkwX12_isNext_0 ++ dktX12_isNext_1
theorem dksX12_isNext_0 : cX12_isNext.data.toList.drop 0 = dktX12_isNext_0 := by decide +kernel
theorem dksX12_isNext_1 : cX12_isNext.data.toList.drop 22 = dktX12_isNext_1 := dk_seg dksX12_isNext_0 22 rfl rfl
theorem dX12_isNext_0 : decode cX12_isNext 0 = .ok (.aload_n 0, 1) := dk_42 (dk_at dksX12_isNext_0 0 rfl rfl)
theorem dX12_isNext_1 : decode cX12_isNext 1 = .ok (.getfield 17, 3) := dk_180 0 17 (dk_at dksX12_isNext_0 1 rfl rfl)
theorem dX12_isNext_4 : decode cX12_isNext 4 = .ok (.aload_n 0, 1) := dk_42 (dk_at dksX12_isNext_0 4 rfl rfl)
theorem dX12_isNext_5 : decode cX12_isNext 5 = .ok (.getfield 3, 3) := dk_180 0 3 (dk_at dksX12_isNext_0 5 rfl rfl)
theorem dX12_isNext_8 : decode cX12_isNext 8 = .ok (.getfield 24, 3) := dk_180 0 24 (dk_at dksX12_isNext_0 8 rfl rfl)
theorem dX12_isNext_11 : decode cX12_isNext 11 = .ok (.if_icmp .ge 23, 3) := dk_162 0 23 (dk_at dksX12_isNext_0 11 rfl rfl)
theorem dX12_isNext_14 : decode cX12_isNext 14 = .ok (.aload_n 0, 1) := dk_42 (dk_at dksX12_isNext_0 14 rfl rfl)
theorem dX12_isNext_15 : decode cX12_isNext 15 = .ok (.getfield 3, 3) := dk_180 0 3 (dk_at dksX12_isNext_0 15 rfl rfl)
theorem dX12_isNext_18 : decode cX12_isNext 18 = .ok (.getfield 27, 3) := dk_180 0 27 (dk_at dksX12_isNext_0 18 rfl rfl)
theorem dX12_isNext_21 : decode cX12_isNext 21 = .ok (.aload_n 0, 1) := dk_42 (dk_at dksX12_isNext_0 21 rfl rfl)
theorem dX12_isNext_22 : decode cX12_isNext 22 = .ok (.getfield 17, 3) := dk_180 0 17 (dk_at dksX12_isNext_1 0 rfl rfl)
theorem dX12_isNext_25 : decode cX12_isNext 25 = .ok (.caload, 1) := dk_52 (dk_at dksX12_isNext_1 3 rfl rfl)
theorem dX12_isNext_26 : decode cX12_isNext 26 = .ok (.iload_n 1, 1) := dk_27 (dk_at dksX12_isNext_1 4 rfl rfl)
theorem dX12_isNext_27 : decode cX12_isNext 27 = .ok (.if_icmp .ne 7, 3) := dk_160 0 7 (dk_at dksX12_isNext_1 5 rfl rfl)
theorem dX12_isNext_30 : decode cX12_isNext 30 = .ok (.iconst 1, 1) := dk_4 (dk_at dksX12_isNext_1 8 rfl rfl)
theorem dX12_isNext_31 : decode cX12_isNext 31 = .ok (.goto 4, 3) := dk_167 0 4 (dk_at dksX12_isNext_1 9 rfl rfl)
theorem dX12_isNext_34 : decode cX12_isNext 34 = .ok (.iconst 0, 1) := dk_3 (dk_at dksX12_isNext_1 12 rfl rfl)
theorem dX12_isNext_35 : decode cX12_isNext 35 = .ok (.ireturn, 1) := dk_172 (dk_at dksX12_isNext_1 13 rfl rfl)
abbrev cX12_job : ByteArray := prog_12_method_9_code
def yX12_job : MethodName := ⟨RX12, "job", "()LRobotCell$Command;"⟩
def dkwX12_job_3 : List UInt8 := [42, 16, 62, 182, 0, 63, 183, 0, 69, 58, 6, 187, 0, 72, 89, 42, 25, 6, 183, 0, 74, 176]
abbrev dktX12_job_3 : List UInt8 := dkwX12_job_3 ++ []
def dkwX12_job_2 : List UInt8 := [182, 0, 47, 54, 4, 42, 16, 60, 182, 0, 63, 54, 5, 187, 0, 67, 89, 27, 28, 29, 21, 4, 21, 5]
abbrev dktX12_job_2 : List UInt8 := dkwX12_job_2 ++ dktX12_job_3
def dkwX12_job_1 : List UInt8 := [182, 0, 57, 182, 0, 43, 42, 182, 0, 47, 62, 42, 42, 16, 119, 182, 0, 57, 182, 0, 43, 42]
abbrev dktX12_job_1 : List UInt8 := dkwX12_job_1 ++ dktX12_job_2
def dkwX12_job_0 : List UInt8 := [42, 182, 0, 47, 60, 42, 42, 16, 58, 182, 0, 57, 182, 0, 43, 42, 182, 0, 60, 61, 42, 42, 16, 47]
abbrev dktX12_job_0 : List UInt8 := dkwX12_job_0 ++ dktX12_job_1
theorem dksX12_job_0 : cX12_job.data.toList.drop 0 = dktX12_job_0 := by decide +kernel
theorem dksX12_job_1 : cX12_job.data.toList.drop 24 = dktX12_job_1 := dk_seg dksX12_job_0 24 rfl rfl
theorem dksX12_job_2 : cX12_job.data.toList.drop 46 = dktX12_job_2 := dk_seg dksX12_job_1 22 rfl rfl
theorem dksX12_job_3 : cX12_job.data.toList.drop 70 = dktX12_job_3 := dk_seg dksX12_job_2 24 rfl rfl
theorem dX12_job_0 : decode cX12_job 0 = .ok (.aload_n 0, 1) := dk_42 (dk_at dksX12_job_0 0 rfl rfl)
theorem dX12_job_1 : decode cX12_job 1 = .ok (.invokevirtual 47, 3) := dk_182 0 47 (dk_at dksX12_job_0 1 rfl rfl)
theorem dX12_job_4 : decode cX12_job 4 = .ok (.istore_n 1, 1) := dk_60 (dk_at dksX12_job_0 4 rfl rfl)
theorem dX12_job_5 : decode cX12_job 5 = .ok (.aload_n 0, 1) := dk_42 (dk_at dksX12_job_0 5 rfl rfl)
theorem dX12_job_6 : decode cX12_job 6 = .ok (.aload_n 0, 1) := dk_42 (dk_at dksX12_job_0 6 rfl rfl)
theorem dX12_job_7 : decode cX12_job 7 = .ok (.bipush 58, 2) := dk_16 58 (dk_at dksX12_job_0 7 rfl rfl)
theorem dX12_job_9 : decode cX12_job 9 = .ok (.invokevirtual 57, 3) := dk_182 0 57 (dk_at dksX12_job_0 9 rfl rfl)
theorem dX12_job_12 : decode cX12_job 12 = .ok (.invokevirtual 43, 3) := dk_182 0 43 (dk_at dksX12_job_0 12 rfl rfl)
theorem dX12_job_15 : decode cX12_job 15 = .ok (.aload_n 0, 1) := dk_42 (dk_at dksX12_job_0 15 rfl rfl)
theorem dX12_job_16 : decode cX12_job 16 = .ok (.invokevirtual 60, 3) := dk_182 0 60 (dk_at dksX12_job_0 16 rfl rfl)
theorem dX12_job_19 : decode cX12_job 19 = .ok (.istore_n 2, 1) := dk_61 (dk_at dksX12_job_0 19 rfl rfl)
theorem dX12_job_20 : decode cX12_job 20 = .ok (.aload_n 0, 1) := dk_42 (dk_at dksX12_job_0 20 rfl rfl)
theorem dX12_job_21 : decode cX12_job 21 = .ok (.aload_n 0, 1) := dk_42 (dk_at dksX12_job_0 21 rfl rfl)
theorem dX12_job_22 : decode cX12_job 22 = .ok (.bipush 47, 2) := dk_16 47 (dk_at dksX12_job_0 22 rfl rfl)
theorem dX12_job_24 : decode cX12_job 24 = .ok (.invokevirtual 57, 3) := dk_182 0 57 (dk_at dksX12_job_1 0 rfl rfl)
theorem dX12_job_27 : decode cX12_job 27 = .ok (.invokevirtual 43, 3) := dk_182 0 43 (dk_at dksX12_job_1 3 rfl rfl)
theorem dX12_job_30 : decode cX12_job 30 = .ok (.aload_n 0, 1) := dk_42 (dk_at dksX12_job_1 6 rfl rfl)
theorem dX12_job_31 : decode cX12_job 31 = .ok (.invokevirtual 47, 3) := dk_182 0 47 (dk_at dksX12_job_1 7 rfl rfl)
theorem dX12_job_34 : decode cX12_job 34 = .ok (.istore_n 3, 1) := dk_62 (dk_at dksX12_job_1 10 rfl rfl)
theorem dX12_job_35 : decode cX12_job 35 = .ok (.aload_n 0, 1) := dk_42 (dk_at dksX12_job_1 11 rfl rfl)
theorem dX12_job_36 : decode cX12_job 36 = .ok (.aload_n 0, 1) := dk_42 (dk_at dksX12_job_1 12 rfl rfl)
theorem dX12_job_37 : decode cX12_job 37 = .ok (.bipush 119, 2) := dk_16 119 (dk_at dksX12_job_1 13 rfl rfl)
theorem dX12_job_39 : decode cX12_job 39 = .ok (.invokevirtual 57, 3) := dk_182 0 57 (dk_at dksX12_job_1 15 rfl rfl)
theorem dX12_job_42 : decode cX12_job 42 = .ok (.invokevirtual 43, 3) := dk_182 0 43 (dk_at dksX12_job_1 18 rfl rfl)
theorem dX12_job_45 : decode cX12_job 45 = .ok (.aload_n 0, 1) := dk_42 (dk_at dksX12_job_1 21 rfl rfl)
theorem dX12_job_46 : decode cX12_job 46 = .ok (.invokevirtual 47, 3) := dk_182 0 47 (dk_at dksX12_job_2 0 rfl rfl)
theorem dX12_job_49 : decode cX12_job 49 = .ok (.istore 4, 2) := dk_54 4 (dk_at dksX12_job_2 3 rfl rfl)
theorem dX12_job_51 : decode cX12_job 51 = .ok (.aload_n 0, 1) := dk_42 (dk_at dksX12_job_2 5 rfl rfl)
theorem dX12_job_52 : decode cX12_job 52 = .ok (.bipush 60, 2) := dk_16 60 (dk_at dksX12_job_2 6 rfl rfl)
theorem dX12_job_54 : decode cX12_job 54 = .ok (.invokevirtual 63, 3) := dk_182 0 63 (dk_at dksX12_job_2 8 rfl rfl)
theorem dX12_job_57 : decode cX12_job 57 = .ok (.istore 5, 2) := dk_54 5 (dk_at dksX12_job_2 11 rfl rfl)
theorem dX12_job_59 : decode cX12_job 59 = .ok (.new 67, 3) := dk_187 0 67 (dk_at dksX12_job_2 13 rfl rfl)
theorem dX12_job_62 : decode cX12_job 62 = .ok (.dup, 1) := dk_89 (dk_at dksX12_job_2 16 rfl rfl)
theorem dX12_job_63 : decode cX12_job 63 = .ok (.iload_n 1, 1) := dk_27 (dk_at dksX12_job_2 17 rfl rfl)
theorem dX12_job_64 : decode cX12_job 64 = .ok (.iload_n 2, 1) := dk_28 (dk_at dksX12_job_2 18 rfl rfl)
theorem dX12_job_65 : decode cX12_job 65 = .ok (.iload_n 3, 1) := dk_29 (dk_at dksX12_job_2 19 rfl rfl)
theorem dX12_job_66 : decode cX12_job 66 = .ok (.iload 4, 2) := dk_21 4 (dk_at dksX12_job_2 20 rfl rfl)
theorem dX12_job_68 : decode cX12_job 68 = .ok (.iload 5, 2) := dk_21 5 (dk_at dksX12_job_2 22 rfl rfl)
theorem dX12_job_70 : decode cX12_job 70 = .ok (.aload_n 0, 1) := dk_42 (dk_at dksX12_job_3 0 rfl rfl)
theorem dX12_job_71 : decode cX12_job 71 = .ok (.bipush 62, 2) := dk_16 62 (dk_at dksX12_job_3 1 rfl rfl)
theorem dX12_job_73 : decode cX12_job 73 = .ok (.invokevirtual 63, 3) := dk_182 0 63 (dk_at dksX12_job_3 3 rfl rfl)
theorem dX12_job_76 : decode cX12_job 76 = .ok (.invokespecial 69, 3) := dk_183 0 69 (dk_at dksX12_job_3 6 rfl rfl)
theorem dX12_job_79 : decode cX12_job 79 = .ok (.astore 6, 2) := dk_58 6 (dk_at dksX12_job_3 9 rfl rfl)
theorem dX12_job_81 : decode cX12_job 81 = .ok (.new 72, 3) := dk_187 0 72 (dk_at dksX12_job_3 11 rfl rfl)
theorem dX12_job_84 : decode cX12_job 84 = .ok (.dup, 1) := dk_89 (dk_at dksX12_job_3 14 rfl rfl)
theorem dX12_job_85 : decode cX12_job 85 = .ok (.aload_n 0, 1) := dk_42 (dk_at dksX12_job_3 15 rfl rfl)
theorem dX12_job_86 : decode cX12_job 86 = .ok (.aload 6, 2) := dk_25 6 (dk_at dksX12_job_3 16 rfl rfl)
theorem dX12_job_88 : decode cX12_job 88 = .ok (.invokespecial 74, 3) := dk_183 0 74 (dk_at dksX12_job_3 18 rfl rfl)
theorem dX12_job_91 : decode cX12_job 91 = .ok (.areturn, 1) := dk_176 (dk_at dksX12_job_3 21 rfl rfl)
abbrev cX12_digit : ByteArray := prog_12_method_6_code
def yX12_digit : MethodName := ⟨RX12, "digit", "()I"⟩
def dkwX12_digit_1 : List UInt8 := [180, 0, 27, 42, 180, 0, 17, 4, 100, 52, 16, 48, 100, 172]
abbrev dktX12_digit_1 : List UInt8 := dkwX12_digit_1 ++ []
def dkwX12_digit_0 : List UInt8 := [42, 42, 182, 0, 39, 182, 0, 43, 42, 89, 180, 0, 17, 4, 96, 181, 0, 17, 42, 180, 0, 3]
abbrev dktX12_digit_0 : List UInt8 := dkwX12_digit_0 ++ dktX12_digit_1
theorem dksX12_digit_0 : cX12_digit.data.toList.drop 0 = dktX12_digit_0 := by decide +kernel
theorem dksX12_digit_1 : cX12_digit.data.toList.drop 22 = dktX12_digit_1 := dk_seg dksX12_digit_0 22 rfl rfl
theorem dX12_digit_0 : decode cX12_digit 0 = .ok (.aload_n 0, 1) := dk_42 (dk_at dksX12_digit_0 0 rfl rfl)
theorem dX12_digit_1 : decode cX12_digit 1 = .ok (.aload_n 0, 1) := dk_42 (dk_at dksX12_digit_0 1 rfl rfl)
theorem dX12_digit_2 : decode cX12_digit 2 = .ok (.invokevirtual 39, 3) := dk_182 0 39 (dk_at dksX12_digit_0 2 rfl rfl)
theorem dX12_digit_5 : decode cX12_digit 5 = .ok (.invokevirtual 43, 3) := dk_182 0 43 (dk_at dksX12_digit_0 5 rfl rfl)
theorem dX12_digit_8 : decode cX12_digit 8 = .ok (.aload_n 0, 1) := dk_42 (dk_at dksX12_digit_0 8 rfl rfl)
theorem dX12_digit_9 : decode cX12_digit 9 = .ok (.dup, 1) := dk_89 (dk_at dksX12_digit_0 9 rfl rfl)
theorem dX12_digit_10 : decode cX12_digit 10 = .ok (.getfield 17, 3) := dk_180 0 17 (dk_at dksX12_digit_0 10 rfl rfl)
theorem dX12_digit_13 : decode cX12_digit 13 = .ok (.iconst 1, 1) := dk_4 (dk_at dksX12_digit_0 13 rfl rfl)
theorem dX12_digit_14 : decode cX12_digit 14 = .ok (.iadd, 1) := dk_96 (dk_at dksX12_digit_0 14 rfl rfl)
theorem dX12_digit_15 : decode cX12_digit 15 = .ok (.putfield 17, 3) := dk_181 0 17 (dk_at dksX12_digit_0 15 rfl rfl)
theorem dX12_digit_18 : decode cX12_digit 18 = .ok (.aload_n 0, 1) := dk_42 (dk_at dksX12_digit_0 18 rfl rfl)
theorem dX12_digit_19 : decode cX12_digit 19 = .ok (.getfield 3, 3) := dk_180 0 3 (dk_at dksX12_digit_0 19 rfl rfl)
theorem dX12_digit_22 : decode cX12_digit 22 = .ok (.getfield 27, 3) := dk_180 0 27 (dk_at dksX12_digit_1 0 rfl rfl)
theorem dX12_digit_25 : decode cX12_digit 25 = .ok (.aload_n 0, 1) := dk_42 (dk_at dksX12_digit_1 3 rfl rfl)
theorem dX12_digit_26 : decode cX12_digit 26 = .ok (.getfield 17, 3) := dk_180 0 17 (dk_at dksX12_digit_1 4 rfl rfl)
theorem dX12_digit_29 : decode cX12_digit 29 = .ok (.iconst 1, 1) := dk_4 (dk_at dksX12_digit_1 7 rfl rfl)
theorem dX12_digit_30 : decode cX12_digit 30 = .ok (.isub, 1) := dk_100 (dk_at dksX12_digit_1 8 rfl rfl)
theorem dX12_digit_31 : decode cX12_digit 31 = .ok (.caload, 1) := dk_52 (dk_at dksX12_digit_1 9 rfl rfl)
theorem dX12_digit_32 : decode cX12_digit 32 = .ok (.bipush 48, 2) := dk_16 48 (dk_at dksX12_digit_1 10 rfl rfl)
theorem dX12_digit_34 : decode cX12_digit 34 = .ok (.isub, 1) := dk_100 (dk_at dksX12_digit_1 12 rfl rfl)
theorem dX12_digit_35 : decode cX12_digit 35 = .ok (.ireturn, 1) := dk_172 (dk_at dksX12_digit_1 13 rfl rfl)
abbrev cX12_isDigit : ByteArray := prog_12_method_5_code
def yX12_isDigit : MethodName := ⟨RX12, "isDigit", "()Z"⟩
def dkwX12_isDigit_1 : List UInt8 := [180, 0, 17, 52, 16, 48, 16, 57, 184, 0, 35, 153, 0, 7, 4, 167, 0, 4, 3, 172]
abbrev dktX12_isDigit_1 : List UInt8 := dkwX12_isDigit_1 ++ []
def dkwX12_isDigit_0 : List UInt8 := [42, 180, 0, 17, 42, 180, 0, 3, 180, 0, 24, 162, 0, 29, 42, 180, 0, 3, 180, 0, 27, 42]
abbrev dktX12_isDigit_0 : List UInt8 := dkwX12_isDigit_0 ++ dktX12_isDigit_1
theorem dksX12_isDigit_0 : cX12_isDigit.data.toList.drop 0 = dktX12_isDigit_0 := by decide +kernel
theorem dksX12_isDigit_1 : cX12_isDigit.data.toList.drop 22 = dktX12_isDigit_1 := dk_seg dksX12_isDigit_0 22 rfl rfl
theorem dX12_isDigit_0 : decode cX12_isDigit 0 = .ok (.aload_n 0, 1) := dk_42 (dk_at dksX12_isDigit_0 0 rfl rfl)
theorem dX12_isDigit_1 : decode cX12_isDigit 1 = .ok (.getfield 17, 3) := dk_180 0 17 (dk_at dksX12_isDigit_0 1 rfl rfl)
theorem dX12_isDigit_4 : decode cX12_isDigit 4 = .ok (.aload_n 0, 1) := dk_42 (dk_at dksX12_isDigit_0 4 rfl rfl)
theorem dX12_isDigit_5 : decode cX12_isDigit 5 = .ok (.getfield 3, 3) := dk_180 0 3 (dk_at dksX12_isDigit_0 5 rfl rfl)
theorem dX12_isDigit_8 : decode cX12_isDigit 8 = .ok (.getfield 24, 3) := dk_180 0 24 (dk_at dksX12_isDigit_0 8 rfl rfl)
theorem dX12_isDigit_11 : decode cX12_isDigit 11 = .ok (.if_icmp .ge 29, 3) := dk_162 0 29 (dk_at dksX12_isDigit_0 11 rfl rfl)
theorem dX12_isDigit_14 : decode cX12_isDigit 14 = .ok (.aload_n 0, 1) := dk_42 (dk_at dksX12_isDigit_0 14 rfl rfl)
theorem dX12_isDigit_15 : decode cX12_isDigit 15 = .ok (.getfield 3, 3) := dk_180 0 3 (dk_at dksX12_isDigit_0 15 rfl rfl)
theorem dX12_isDigit_18 : decode cX12_isDigit 18 = .ok (.getfield 27, 3) := dk_180 0 27 (dk_at dksX12_isDigit_0 18 rfl rfl)
theorem dX12_isDigit_21 : decode cX12_isDigit 21 = .ok (.aload_n 0, 1) := dk_42 (dk_at dksX12_isDigit_0 21 rfl rfl)
theorem dX12_isDigit_22 : decode cX12_isDigit 22 = .ok (.getfield 17, 3) := dk_180 0 17 (dk_at dksX12_isDigit_1 0 rfl rfl)
theorem dX12_isDigit_25 : decode cX12_isDigit 25 = .ok (.caload, 1) := dk_52 (dk_at dksX12_isDigit_1 3 rfl rfl)
theorem dX12_isDigit_26 : decode cX12_isDigit 26 = .ok (.bipush 48, 2) := dk_16 48 (dk_at dksX12_isDigit_1 4 rfl rfl)
theorem dX12_isDigit_28 : decode cX12_isDigit 28 = .ok (.bipush 57, 2) := dk_16 57 (dk_at dksX12_isDigit_1 6 rfl rfl)
theorem dX12_isDigit_30 : decode cX12_isDigit 30 = .ok (.invokestatic 35, 3) := dk_184 0 35 (dk_at dksX12_isDigit_1 8 rfl rfl)
theorem dX12_isDigit_33 : decode cX12_isDigit 33 = .ok (.ifCond .eq 7, 3) := dk_153 0 7 (dk_at dksX12_isDigit_1 11 rfl rfl)
theorem dX12_isDigit_36 : decode cX12_isDigit 36 = .ok (.iconst 1, 1) := dk_4 (dk_at dksX12_isDigit_1 14 rfl rfl)
theorem dX12_isDigit_37 : decode cX12_isDigit 37 = .ok (.goto 4, 3) := dk_167 0 4 (dk_at dksX12_isDigit_1 15 rfl rfl)
theorem dX12_isDigit_40 : decode cX12_isDigit 40 = .ok (.iconst 0, 1) := dk_3 (dk_at dksX12_isDigit_1 18 rfl rfl)
theorem dX12_isDigit_41 : decode cX12_isDigit 41 = .ok (.ireturn, 1) := dk_172 (dk_at dksX12_isDigit_1 19 rfl rfl)
abbrev cX12_need : ByteArray := prog_12_method_2_code
def yX12_need : MethodName := ⟨RX12, "need", "(Z)V"⟩
def dkwX12_need_0 : List UInt8 := [27, 154, 0, 15, 187, 0, 15, 89, 42, 180, 0, 17, 183, 0, 21, 191, 177]
abbrev dktX12_need_0 : List UInt8 := dkwX12_need_0 ++ []
theorem dksX12_need_0 : cX12_need.data.toList.drop 0 = dktX12_need_0 := by decide +kernel
theorem dX12_need_0 : decode cX12_need 0 = .ok (.iload_n 1, 1) := dk_27 (dk_at dksX12_need_0 0 rfl rfl)
theorem dX12_need_1 : decode cX12_need 1 = .ok (.ifCond .ne 15, 3) := dk_154 0 15 (dk_at dksX12_need_0 1 rfl rfl)
theorem dX12_need_4 : decode cX12_need 4 = .ok (.new 15, 3) := dk_187 0 15 (dk_at dksX12_need_0 4 rfl rfl)
theorem dX12_need_7 : decode cX12_need 7 = .ok (.dup, 1) := dk_89 (dk_at dksX12_need_0 7 rfl rfl)
theorem dX12_need_8 : decode cX12_need 8 = .ok (.aload_n 0, 1) := dk_42 (dk_at dksX12_need_0 8 rfl rfl)
theorem dX12_need_9 : decode cX12_need 9 = .ok (.getfield 17, 3) := dk_180 0 17 (dk_at dksX12_need_0 9 rfl rfl)
theorem dX12_need_12 : decode cX12_need 12 = .ok (.invokespecial 21, 3) := dk_183 0 21 (dk_at dksX12_need_0 12 rfl rfl)
theorem dX12_need_15 : decode cX12_need 15 = .ok (.athrow, 1) := dk_191 (dk_at dksX12_need_0 15 rfl rfl)
theorem dX12_need_16 : decode cX12_need 16 = .ok (.return_, 1) := dk_177 (dk_at dksX12_need_0 16 rfl rfl)
abbrev cX12_path : ByteArray := prog_12_method_7_code
def yX12_path : MethodName := ⟨RX12, "path", "()I"⟩
def dkwX12_path_4 : List UInt8 := [172]
abbrev dktX12_path_4 : List UInt8 := dkwX12_path_4 ++ []
def dkwX12_path_3 : List UInt8 := [153, 0, 7, 4, 167, 0, 4, 3, 62, 132, 4, 1, 167, 255, 184, 28, 153, 0, 7, 27, 167, 0, 4, 3]
abbrev dktX12_path_3 : List UInt8 := dkwX12_path_3 ++ dktX12_path_4
def dkwX12_path_2 : List UInt8 := [16, 7, 184, 0, 51, 96, 4, 96, 60, 21, 4, 4, 96, 8, 162, 0, 16, 42, 16, 44, 182, 0, 57]
abbrev dktX12_path_2 : List UInt8 := dkwX12_path_2 ++ dktX12_path_3
def dkwX12_path_1 : List UInt8 := [54, 5, 28, 21, 5, 16, 8, 162, 0, 7, 4, 167, 0, 4, 3, 126, 61, 16, 10, 27, 104, 21, 5]
abbrev dktX12_path_1 : List UInt8 := dkwX12_path_1 ++ dktX12_path_2
def dkwX12_path_0 : List UInt8 := [3, 60, 4, 61, 4, 62, 3, 54, 4, 21, 4, 8, 162, 0, 72, 29, 153, 0, 68, 42, 182, 0, 47]
abbrev dktX12_path_0 : List UInt8 := dkwX12_path_0 ++ dktX12_path_1
theorem dksX12_path_0 : cX12_path.data.toList.drop 0 = dktX12_path_0 := by decide +kernel
theorem dksX12_path_1 : cX12_path.data.toList.drop 23 = dktX12_path_1 := dk_seg dksX12_path_0 23 rfl rfl
theorem dksX12_path_2 : cX12_path.data.toList.drop 46 = dktX12_path_2 := dk_seg dksX12_path_1 23 rfl rfl
theorem dksX12_path_3 : cX12_path.data.toList.drop 69 = dktX12_path_3 := dk_seg dksX12_path_2 23 rfl rfl
theorem dksX12_path_4 : cX12_path.data.toList.drop 93 = dktX12_path_4 := dk_seg dksX12_path_3 24 rfl rfl
theorem dX12_path_0 : decode cX12_path 0 = .ok (.iconst 0, 1) := dk_3 (dk_at dksX12_path_0 0 rfl rfl)
theorem dX12_path_1 : decode cX12_path 1 = .ok (.istore_n 1, 1) := dk_60 (dk_at dksX12_path_0 1 rfl rfl)
theorem dX12_path_2 : decode cX12_path 2 = .ok (.iconst 1, 1) := dk_4 (dk_at dksX12_path_0 2 rfl rfl)
theorem dX12_path_3 : decode cX12_path 3 = .ok (.istore_n 2, 1) := dk_61 (dk_at dksX12_path_0 3 rfl rfl)
theorem dX12_path_4 : decode cX12_path 4 = .ok (.iconst 1, 1) := dk_4 (dk_at dksX12_path_0 4 rfl rfl)
theorem dX12_path_5 : decode cX12_path 5 = .ok (.istore_n 3, 1) := dk_62 (dk_at dksX12_path_0 5 rfl rfl)
theorem dX12_path_6 : decode cX12_path 6 = .ok (.iconst 0, 1) := dk_3 (dk_at dksX12_path_0 6 rfl rfl)
theorem dX12_path_7 : decode cX12_path 7 = .ok (.istore 4, 2) := dk_54 4 (dk_at dksX12_path_0 7 rfl rfl)
theorem dX12_path_9 : decode cX12_path 9 = .ok (.iload 4, 2) := dk_21 4 (dk_at dksX12_path_0 9 rfl rfl)
theorem dX12_path_11 : decode cX12_path 11 = .ok (.iconst 5, 1) := dk_8 (dk_at dksX12_path_0 11 rfl rfl)
theorem dX12_path_12 : decode cX12_path 12 = .ok (.if_icmp .ge 72, 3) := dk_162 0 72 (dk_at dksX12_path_0 12 rfl rfl)
theorem dX12_path_15 : decode cX12_path 15 = .ok (.iload_n 3, 1) := dk_29 (dk_at dksX12_path_0 15 rfl rfl)
theorem dX12_path_16 : decode cX12_path 16 = .ok (.ifCond .eq 68, 3) := dk_153 0 68 (dk_at dksX12_path_0 16 rfl rfl)
theorem dX12_path_19 : decode cX12_path 19 = .ok (.aload_n 0, 1) := dk_42 (dk_at dksX12_path_0 19 rfl rfl)
theorem dX12_path_20 : decode cX12_path 20 = .ok (.invokevirtual 47, 3) := dk_182 0 47 (dk_at dksX12_path_0 20 rfl rfl)
theorem dX12_path_23 : decode cX12_path 23 = .ok (.istore 5, 2) := dk_54 5 (dk_at dksX12_path_1 0 rfl rfl)
theorem dX12_path_25 : decode cX12_path 25 = .ok (.iload_n 2, 1) := dk_28 (dk_at dksX12_path_1 2 rfl rfl)
theorem dX12_path_26 : decode cX12_path 26 = .ok (.iload 5, 2) := dk_21 5 (dk_at dksX12_path_1 3 rfl rfl)
theorem dX12_path_28 : decode cX12_path 28 = .ok (.bipush 8, 2) := dk_16 8 (dk_at dksX12_path_1 5 rfl rfl)
theorem dX12_path_30 : decode cX12_path 30 = .ok (.if_icmp .ge 7, 3) := dk_162 0 7 (dk_at dksX12_path_1 7 rfl rfl)
theorem dX12_path_33 : decode cX12_path 33 = .ok (.iconst 1, 1) := dk_4 (dk_at dksX12_path_1 10 rfl rfl)
theorem dX12_path_34 : decode cX12_path 34 = .ok (.goto 4, 3) := dk_167 0 4 (dk_at dksX12_path_1 11 rfl rfl)
theorem dX12_path_37 : decode cX12_path 37 = .ok (.iconst 0, 1) := dk_3 (dk_at dksX12_path_1 14 rfl rfl)
theorem dX12_path_38 : decode cX12_path 38 = .ok (.iand, 1) := dk_126 (dk_at dksX12_path_1 15 rfl rfl)
theorem dX12_path_39 : decode cX12_path 39 = .ok (.istore_n 2, 1) := dk_61 (dk_at dksX12_path_1 16 rfl rfl)
theorem dX12_path_40 : decode cX12_path 40 = .ok (.bipush 10, 2) := dk_16 10 (dk_at dksX12_path_1 17 rfl rfl)
theorem dX12_path_42 : decode cX12_path 42 = .ok (.iload_n 1, 1) := dk_27 (dk_at dksX12_path_1 19 rfl rfl)
theorem dX12_path_43 : decode cX12_path 43 = .ok (.imul, 1) := dk_104 (dk_at dksX12_path_1 20 rfl rfl)
theorem dX12_path_44 : decode cX12_path 44 = .ok (.iload 5, 2) := dk_21 5 (dk_at dksX12_path_1 21 rfl rfl)
theorem dX12_path_46 : decode cX12_path 46 = .ok (.bipush 7, 2) := dk_16 7 (dk_at dksX12_path_2 0 rfl rfl)
theorem dX12_path_48 : decode cX12_path 48 = .ok (.invokestatic 51, 3) := dk_184 0 51 (dk_at dksX12_path_2 2 rfl rfl)
theorem dX12_path_51 : decode cX12_path 51 = .ok (.iadd, 1) := dk_96 (dk_at dksX12_path_2 5 rfl rfl)
theorem dX12_path_52 : decode cX12_path 52 = .ok (.iconst 1, 1) := dk_4 (dk_at dksX12_path_2 6 rfl rfl)
theorem dX12_path_53 : decode cX12_path 53 = .ok (.iadd, 1) := dk_96 (dk_at dksX12_path_2 7 rfl rfl)
theorem dX12_path_54 : decode cX12_path 54 = .ok (.istore_n 1, 1) := dk_60 (dk_at dksX12_path_2 8 rfl rfl)
theorem dX12_path_55 : decode cX12_path 55 = .ok (.iload 4, 2) := dk_21 4 (dk_at dksX12_path_2 9 rfl rfl)
theorem dX12_path_57 : decode cX12_path 57 = .ok (.iconst 1, 1) := dk_4 (dk_at dksX12_path_2 11 rfl rfl)
theorem dX12_path_58 : decode cX12_path 58 = .ok (.iadd, 1) := dk_96 (dk_at dksX12_path_2 12 rfl rfl)
theorem dX12_path_59 : decode cX12_path 59 = .ok (.iconst 5, 1) := dk_8 (dk_at dksX12_path_2 13 rfl rfl)
theorem dX12_path_60 : decode cX12_path 60 = .ok (.if_icmp .ge 16, 3) := dk_162 0 16 (dk_at dksX12_path_2 14 rfl rfl)
theorem dX12_path_63 : decode cX12_path 63 = .ok (.aload_n 0, 1) := dk_42 (dk_at dksX12_path_2 17 rfl rfl)
theorem dX12_path_64 : decode cX12_path 64 = .ok (.bipush 44, 2) := dk_16 44 (dk_at dksX12_path_2 18 rfl rfl)
theorem dX12_path_66 : decode cX12_path 66 = .ok (.invokevirtual 57, 3) := dk_182 0 57 (dk_at dksX12_path_2 20 rfl rfl)
theorem dX12_path_69 : decode cX12_path 69 = .ok (.ifCond .eq 7, 3) := dk_153 0 7 (dk_at dksX12_path_3 0 rfl rfl)
theorem dX12_path_72 : decode cX12_path 72 = .ok (.iconst 1, 1) := dk_4 (dk_at dksX12_path_3 3 rfl rfl)
theorem dX12_path_73 : decode cX12_path 73 = .ok (.goto 4, 3) := dk_167 0 4 (dk_at dksX12_path_3 4 rfl rfl)
theorem dX12_path_76 : decode cX12_path 76 = .ok (.iconst 0, 1) := dk_3 (dk_at dksX12_path_3 7 rfl rfl)
theorem dX12_path_77 : decode cX12_path 77 = .ok (.istore_n 3, 1) := dk_62 (dk_at dksX12_path_3 8 rfl rfl)
theorem dX12_path_78 : decode cX12_path 78 = .ok (.iinc 4 1, 3) := dk_132 4 1 (dk_at dksX12_path_3 9 rfl rfl)
theorem dX12_path_81 : decode cX12_path 81 = .ok (.goto (-72), 3) := dk_167 255 184 (dk_at dksX12_path_3 12 rfl rfl)
theorem dX12_path_84 : decode cX12_path 84 = .ok (.iload_n 2, 1) := dk_28 (dk_at dksX12_path_3 15 rfl rfl)
theorem dX12_path_85 : decode cX12_path 85 = .ok (.ifCond .eq 7, 3) := dk_153 0 7 (dk_at dksX12_path_3 16 rfl rfl)
theorem dX12_path_88 : decode cX12_path 88 = .ok (.iload_n 1, 1) := dk_27 (dk_at dksX12_path_3 19 rfl rfl)
theorem dX12_path_89 : decode cX12_path 89 = .ok (.goto 4, 3) := dk_167 0 4 (dk_at dksX12_path_3 20 rfl rfl)
theorem dX12_path_92 : decode cX12_path 92 = .ok (.iconst 0, 1) := dk_3 (dk_at dksX12_path_3 23 rfl rfl)
theorem dX12_path_93 : decode cX12_path 93 = .ok (.ireturn, 1) := dk_172 (dk_at dksX12_path_4 0 rfl rfl)
abbrev cX12_buffer : ByteArray := prog_12_method_8_code
def yX12_buffer : MethodName := ⟨RX12, "buffer", "(C)I"⟩
def dkwX12_buffer_0 : List UInt8 := [42, 27, 182, 0, 57, 153, 0, 10, 42, 182, 0, 47, 167, 0, 4, 2, 172]
abbrev dktX12_buffer_0 : List UInt8 := dkwX12_buffer_0 ++ []
theorem dksX12_buffer_0 : cX12_buffer.data.toList.drop 0 = dktX12_buffer_0 := by decide +kernel
theorem dX12_buffer_0 : decode cX12_buffer 0 = .ok (.aload_n 0, 1) := dk_42 (dk_at dksX12_buffer_0 0 rfl rfl)
theorem dX12_buffer_1 : decode cX12_buffer 1 = .ok (.iload_n 1, 1) := dk_27 (dk_at dksX12_buffer_0 1 rfl rfl)
theorem dX12_buffer_2 : decode cX12_buffer 2 = .ok (.invokevirtual 57, 3) := dk_182 0 57 (dk_at dksX12_buffer_0 2 rfl rfl)
theorem dX12_buffer_5 : decode cX12_buffer 5 = .ok (.ifCond .eq 10, 3) := dk_153 0 10 (dk_at dksX12_buffer_0 5 rfl rfl)
theorem dX12_buffer_8 : decode cX12_buffer 8 = .ok (.aload_n 0, 1) := dk_42 (dk_at dksX12_buffer_0 8 rfl rfl)
theorem dX12_buffer_9 : decode cX12_buffer 9 = .ok (.invokevirtual 47, 3) := dk_182 0 47 (dk_at dksX12_buffer_0 9 rfl rfl)
theorem dX12_buffer_12 : decode cX12_buffer 12 = .ok (.goto 4, 3) := dk_167 0 4 (dk_at dksX12_buffer_0 12 rfl rfl)
theorem dX12_buffer_15 : decode cX12_buffer 15 = .ok (.iconst (-1), 1) := dk_2 (dk_at dksX12_buffer_0 15 rfl rfl)
theorem dX12_buffer_16 : decode cX12_buffer 16 = .ok (.ireturn, 1) := dk_172 (dk_at dksX12_buffer_0 16 rfl rfl)
abbrev cX12_ticks : ByteArray := prog_12_method_10_code
def yX12_ticks : MethodName := ⟨RX12, "ticks", "()LRobotCell$Command;"⟩
def dkwX12_ticks_1 : List UInt8 := [27, 61, 187, 0, 77, 89, 42, 28, 183, 0, 79, 176]
abbrev dktX12_ticks_1 : List UInt8 := dkwX12_ticks_1 ++ []
def dkwX12_ticks_0 : List UInt8 := [42, 182, 0, 47, 60, 42, 182, 0, 39, 153, 0, 15, 16, 10, 27, 104, 42, 182, 0, 47, 96, 167, 0, 4]
abbrev dktX12_ticks_0 : List UInt8 := dkwX12_ticks_0 ++ dktX12_ticks_1
theorem dksX12_ticks_0 : cX12_ticks.data.toList.drop 0 = dktX12_ticks_0 := by decide +kernel
theorem dksX12_ticks_1 : cX12_ticks.data.toList.drop 24 = dktX12_ticks_1 := dk_seg dksX12_ticks_0 24 rfl rfl
theorem dX12_ticks_0 : decode cX12_ticks 0 = .ok (.aload_n 0, 1) := dk_42 (dk_at dksX12_ticks_0 0 rfl rfl)
theorem dX12_ticks_1 : decode cX12_ticks 1 = .ok (.invokevirtual 47, 3) := dk_182 0 47 (dk_at dksX12_ticks_0 1 rfl rfl)
theorem dX12_ticks_4 : decode cX12_ticks 4 = .ok (.istore_n 1, 1) := dk_60 (dk_at dksX12_ticks_0 4 rfl rfl)
theorem dX12_ticks_5 : decode cX12_ticks 5 = .ok (.aload_n 0, 1) := dk_42 (dk_at dksX12_ticks_0 5 rfl rfl)
theorem dX12_ticks_6 : decode cX12_ticks 6 = .ok (.invokevirtual 39, 3) := dk_182 0 39 (dk_at dksX12_ticks_0 6 rfl rfl)
theorem dX12_ticks_9 : decode cX12_ticks 9 = .ok (.ifCond .eq 15, 3) := dk_153 0 15 (dk_at dksX12_ticks_0 9 rfl rfl)
theorem dX12_ticks_12 : decode cX12_ticks 12 = .ok (.bipush 10, 2) := dk_16 10 (dk_at dksX12_ticks_0 12 rfl rfl)
theorem dX12_ticks_14 : decode cX12_ticks 14 = .ok (.iload_n 1, 1) := dk_27 (dk_at dksX12_ticks_0 14 rfl rfl)
theorem dX12_ticks_15 : decode cX12_ticks 15 = .ok (.imul, 1) := dk_104 (dk_at dksX12_ticks_0 15 rfl rfl)
theorem dX12_ticks_16 : decode cX12_ticks 16 = .ok (.aload_n 0, 1) := dk_42 (dk_at dksX12_ticks_0 16 rfl rfl)
theorem dX12_ticks_17 : decode cX12_ticks 17 = .ok (.invokevirtual 47, 3) := dk_182 0 47 (dk_at dksX12_ticks_0 17 rfl rfl)
theorem dX12_ticks_20 : decode cX12_ticks 20 = .ok (.iadd, 1) := dk_96 (dk_at dksX12_ticks_0 20 rfl rfl)
theorem dX12_ticks_21 : decode cX12_ticks 21 = .ok (.goto 4, 3) := dk_167 0 4 (dk_at dksX12_ticks_0 21 rfl rfl)
theorem dX12_ticks_24 : decode cX12_ticks 24 = .ok (.iload_n 1, 1) := dk_27 (dk_at dksX12_ticks_1 0 rfl rfl)
theorem dX12_ticks_25 : decode cX12_ticks 25 = .ok (.istore_n 2, 1) := dk_61 (dk_at dksX12_ticks_1 1 rfl rfl)
theorem dX12_ticks_26 : decode cX12_ticks 26 = .ok (.new 77, 3) := dk_187 0 77 (dk_at dksX12_ticks_1 2 rfl rfl)
theorem dX12_ticks_29 : decode cX12_ticks 29 = .ok (.dup, 1) := dk_89 (dk_at dksX12_ticks_1 5 rfl rfl)
theorem dX12_ticks_30 : decode cX12_ticks 30 = .ok (.aload_n 0, 1) := dk_42 (dk_at dksX12_ticks_1 6 rfl rfl)
theorem dX12_ticks_31 : decode cX12_ticks 31 = .ok (.iload_n 2, 1) := dk_28 (dk_at dksX12_ticks_1 7 rfl rfl)
theorem dX12_ticks_32 : decode cX12_ticks 32 = .ok (.invokespecial 79, 3) := dk_183 0 79 (dk_at dksX12_ticks_1 8 rfl rfl)
theorem dX12_ticks_35 : decode cX12_ticks 35 = .ok (.areturn, 1) := dk_176 (dk_at dksX12_ticks_1 11 rfl rfl)
abbrev cX12_interlock : ByteArray := prog_12_method_11_code
def yX12_interlock : MethodName := ⟨RX12, "interlock", "()LRobotCell$Command;"⟩
def dkwX12_interlock_0 : List UInt8 := [42, 182, 0, 47, 60, 42, 182, 0, 47, 61, 187, 0, 82, 89, 42, 27, 28, 183, 0, 84, 176]
abbrev dktX12_interlock_0 : List UInt8 := dkwX12_interlock_0 ++ []
theorem dksX12_interlock_0 : cX12_interlock.data.toList.drop 0 = dktX12_interlock_0 := by decide +kernel
theorem dX12_interlock_0 : decode cX12_interlock 0 = .ok (.aload_n 0, 1) := dk_42 (dk_at dksX12_interlock_0 0 rfl rfl)
theorem dX12_interlock_1 : decode cX12_interlock 1 = .ok (.invokevirtual 47, 3) := dk_182 0 47 (dk_at dksX12_interlock_0 1 rfl rfl)
theorem dX12_interlock_4 : decode cX12_interlock 4 = .ok (.istore_n 1, 1) := dk_60 (dk_at dksX12_interlock_0 4 rfl rfl)
theorem dX12_interlock_5 : decode cX12_interlock 5 = .ok (.aload_n 0, 1) := dk_42 (dk_at dksX12_interlock_0 5 rfl rfl)
theorem dX12_interlock_6 : decode cX12_interlock 6 = .ok (.invokevirtual 47, 3) := dk_182 0 47 (dk_at dksX12_interlock_0 6 rfl rfl)
theorem dX12_interlock_9 : decode cX12_interlock 9 = .ok (.istore_n 2, 1) := dk_61 (dk_at dksX12_interlock_0 9 rfl rfl)
theorem dX12_interlock_10 : decode cX12_interlock 10 = .ok (.new 82, 3) := dk_187 0 82 (dk_at dksX12_interlock_0 10 rfl rfl)
theorem dX12_interlock_13 : decode cX12_interlock 13 = .ok (.dup, 1) := dk_89 (dk_at dksX12_interlock_0 13 rfl rfl)
theorem dX12_interlock_14 : decode cX12_interlock 14 = .ok (.aload_n 0, 1) := dk_42 (dk_at dksX12_interlock_0 14 rfl rfl)
theorem dX12_interlock_15 : decode cX12_interlock 15 = .ok (.iload_n 1, 1) := dk_27 (dk_at dksX12_interlock_0 15 rfl rfl)
theorem dX12_interlock_16 : decode cX12_interlock 16 = .ok (.iload_n 2, 1) := dk_28 (dk_at dksX12_interlock_0 16 rfl rfl)
theorem dX12_interlock_17 : decode cX12_interlock 17 = .ok (.invokespecial 84, 3) := dk_183 0 84 (dk_at dksX12_interlock_0 17 rfl rfl)
theorem dX12_interlock_20 : decode cX12_interlock 20 = .ok (.areturn, 1) := dk_176 (dk_at dksX12_interlock_0 20 rfl rfl)
theorem q158 : (Jvm.Cond.initialized "RobotCell$Reader") ∈ lw_all := lw_g (lw_at lw_m1 65 rfl) rfl
theorem q868 : (Jvm.Cond.selects "RobotCell$Reader" ({ cls := "java/lang/Object", name := "toString", desc := "()Ljava/lang/String;" } : Jvm.MethodName) ({ cls := "java/lang/Object", name := "toString", desc := "()Ljava/lang/String;" } : Jvm.MethodName)) ∈ lw_all := lw_g (lw_at lw_m4 55 rfl) rfl
theorem q888 : (Jvm.Cond.selects "RobotCell$Reader" ({ cls := "java/lang/Object", name := "getClass", desc := "()Ljava/lang/Class;" } : Jvm.MethodName) ({ cls := "java/lang/Object", name := "getClass", desc := "()Ljava/lang/Class;" } : Jvm.MethodName)) ∈ lw_all := lw_g (lw_at lw_m4 75 rfl) rfl
theorem q1299 : (Jvm.Cond.fieldLinkNest "RobotCell$Reader" (27 : Nat) "RobotCell" "input" "[C" "RobotCell") ∈ lw_tbl := lw_at lw_m6 6 rfl
theorem q1301 : (Jvm.Cond.fieldLinkNest "RobotCell$Reader" (24 : Nat) "RobotCell" "inputLength" "I" "RobotCell") ∈ lw_tbl := lw_at lw_m6 8 rfl
theorem q1662 : (Jvm.Cond.selects "RobotCell$Reader" ({ cls := "java/lang/Object", name := "hashCode", desc := "()I" } : Jvm.MethodName) ({ cls := "java/lang/Object", name := "hashCode", desc := "()I" } : Jvm.MethodName)) ∈ lw_all := lw_g (lw_at lw_m7 129 rfl) rfl
theorem q2074 : (Jvm.Cond.selects "RobotCell$Reader" ({ cls := "java/lang/Object", name := "equals", desc := "(Ljava/lang/Object;)Z" } : Jvm.MethodName) ({ cls := "java/lang/Object", name := "equals", desc := "(Ljava/lang/Object;)Z" } : Jvm.MethodName)) ∈ lw_all := lw_g (lw_at lw_m9 61 rfl) rfl
theorem q3027 : (Jvm.Cond.instantiable "RobotCell$Reader" (2 : Nat)) ∈ lw_all := lw_g (lw_at lw_m13 54 rfl) rfl
theorem q3029 : (Jvm.Cond.instanceMethod ({ cls := "RobotCell$Reader", name := "<init>", desc := "(LRobotCell;)V" } : Jvm.MethodName)) ∈ lw_all := lw_g (lw_at lw_m13 56 rfl) rfl
theorem q3030 : (Jvm.Cond.code ({ cls := "RobotCell$Reader", name := "<init>", desc := "(LRobotCell;)V" } : Jvm.MethodName) prog_12_method_1_code (2 : Nat) (Option.none : Option Jvm.ClassFile.FieldType)) ∈ lw_all := lw_g (lw_at lw_m13 57 rfl) rfl
theorem q3031 : (Jvm.Cond.methodLink "RobotCell$Reader" (9 : Nat) ({ cls := "java/lang/Object", name := "<init>", desc := "()V" } : Jvm.MethodName)) ∈ lw_all := lw_g (lw_at lw_m13 58 rfl) rfl
theorem q3032 : (Jvm.Cond.fieldLink "RobotCell$Reader" (17 : Nat) "RobotCell$Reader" "position" "I") ∈ lw_all := lw_g (lw_at lw_m13 59 rfl) rfl
theorem q3033 : (Jvm.Cond.fieldLink "RobotCell$Reader" (3 : Nat) "RobotCell$Reader" "this$0" "LRobotCell;") ∈ lw_all := lw_g (lw_at lw_m13 60 rfl) rfl
theorem q3034 : (Jvm.Cond.lays "RobotCell$Reader" "RobotCell$Reader" "position" "I") ∈ lw_all := lw_g (lw_at lw_m13 61 rfl) rfl
theorem q3035 : (Jvm.Cond.soleField "RobotCell$Reader" "position") ∈ lw_all := lw_g (lw_at lw_m13 62 rfl) rfl
theorem q3036 : (Jvm.Cond.laysFinal "RobotCell$Reader" "RobotCell$Reader" "this$0" "LRobotCell;") ∈ lw_all := lw_g (lw_at lw_m13 63 rfl) rfl
theorem q3037 : (Jvm.Cond.soleField "RobotCell$Reader" "this$0") ∈ lw_all := lw_g (lw_at lw_m13 64 rfl) rfl
theorem q3038 : (Jvm.Cond.superclass "RobotCell$Reader" "java/lang/Object") ∈ lw_all := lw_g (lw_at lw_m13 65 rfl) rfl
theorem q3040 : (Jvm.Cond.instanceMethod ({ cls := "RobotCell$Reader", name := "all", desc := "()Ljava/util/ArrayList;" } : Jvm.MethodName)) ∈ lw_all := lw_g (lw_at lw_m13 67 rfl) rfl
theorem q3041 : (Jvm.Cond.selects "RobotCell$Reader" ({ cls := "RobotCell$Reader", name := "all", desc := "()Ljava/util/ArrayList;" } : Jvm.MethodName) ({ cls := "RobotCell$Reader", name := "all", desc := "()Ljava/util/ArrayList;" } : Jvm.MethodName)) ∈ lw_all := lw_g (lw_at lw_m13 68 rfl) rfl
theorem q3042 : (Jvm.Cond.code ({ cls := "RobotCell$Reader", name := "all", desc := "()Ljava/util/ArrayList;" } : Jvm.MethodName) prog_12_method_13_code (3 : Nat) (Option.some (Jvm.ClassFile.FieldType.object "java/util/ArrayList"))) ∈ lw_all := lw_g (lw_at lw_m13 69 rfl) rfl
theorem q3043 : (Jvm.Cond.classLink "RobotCell$Reader" (97 : Nat) "java/util/ArrayList") ∈ lw_all := lw_g (lw_at lw_m13 70 rfl) rfl
theorem q3044 : (Jvm.Cond.methodLink "RobotCell$Reader" (99 : Nat) ({ cls := "java/util/ArrayList", name := "<init>", desc := "()V" } : Jvm.MethodName)) ∈ lw_all := lw_g (lw_at lw_m13 71 rfl) rfl
theorem q3045 : (Jvm.Cond.methodLink "RobotCell$Reader" (100 : Nat) ({ cls := "RobotCell$Reader", name := "command", desc := "()LRobotCell$Command;" } : Jvm.MethodName)) ∈ lw_all := lw_g (lw_at lw_m13 72 rfl) rfl
theorem q3046 : (Jvm.Cond.privateMethod ({ cls := "RobotCell$Reader", name := "command", desc := "()LRobotCell$Command;" } : Jvm.MethodName)) ∈ lw_tbl := lw_at lw_m13 73 rfl
theorem q3047 : (Jvm.Cond.instanceMethod ({ cls := "RobotCell$Reader", name := "command", desc := "()LRobotCell$Command;" } : Jvm.MethodName)) ∈ lw_all := lw_g (lw_at lw_m13 74 rfl) rfl
theorem q3048 : (Jvm.Cond.code ({ cls := "RobotCell$Reader", name := "command", desc := "()LRobotCell$Command;" } : Jvm.MethodName) prog_12_method_12_code (1 : Nat) (Option.some (Jvm.ClassFile.FieldType.object "RobotCell$Command"))) ∈ lw_all := lw_g (lw_at lw_m13 75 rfl) rfl
theorem q3049 : (Jvm.Cond.methodLink "RobotCell$Reader" (57 : Nat) ({ cls := "RobotCell$Reader", name := "takes", desc := "(C)Z" } : Jvm.MethodName)) ∈ lw_all := lw_g (lw_at lw_m13 76 rfl) rfl
theorem q3050 : (Jvm.Cond.privateMethod ({ cls := "RobotCell$Reader", name := "takes", desc := "(C)Z" } : Jvm.MethodName)) ∈ lw_tbl := lw_at lw_m13 77 rfl
theorem q3051 : (Jvm.Cond.instanceMethod ({ cls := "RobotCell$Reader", name := "takes", desc := "(C)Z" } : Jvm.MethodName)) ∈ lw_all := lw_g (lw_at lw_m13 78 rfl) rfl
theorem q3052 : (Jvm.Cond.code ({ cls := "RobotCell$Reader", name := "takes", desc := "(C)Z" } : Jvm.MethodName) prog_12_method_4_code (3 : Nat) (Option.some Jvm.ClassFile.FieldType.boolean)) ∈ lw_all := lw_g (lw_at lw_m13 79 rfl) rfl
theorem q3053 : (Jvm.Cond.methodLink "RobotCell$Reader" (31 : Nat) ({ cls := "RobotCell$Reader", name := "isNext", desc := "(C)Z" } : Jvm.MethodName)) ∈ lw_all := lw_g (lw_at lw_m13 80 rfl) rfl
theorem q3054 : (Jvm.Cond.privateMethod ({ cls := "RobotCell$Reader", name := "isNext", desc := "(C)Z" } : Jvm.MethodName)) ∈ lw_tbl := lw_at lw_m13 81 rfl
theorem q3055 : (Jvm.Cond.instanceMethod ({ cls := "RobotCell$Reader", name := "isNext", desc := "(C)Z" } : Jvm.MethodName)) ∈ lw_all := lw_g (lw_at lw_m13 82 rfl) rfl
theorem q3056 : (Jvm.Cond.code ({ cls := "RobotCell$Reader", name := "isNext", desc := "(C)Z" } : Jvm.MethodName) prog_12_method_3_code (2 : Nat) (Option.some Jvm.ClassFile.FieldType.boolean)) ∈ lw_all := lw_g (lw_at lw_m13 83 rfl) rfl
theorem q3057 : (Jvm.Cond.methodLink "RobotCell$Reader" (87 : Nat) ({ cls := "RobotCell$Reader", name := "job", desc := "()LRobotCell$Command;" } : Jvm.MethodName)) ∈ lw_all := lw_g (lw_at lw_m13 84 rfl) rfl
theorem q3058 : (Jvm.Cond.privateMethod ({ cls := "RobotCell$Reader", name := "job", desc := "()LRobotCell$Command;" } : Jvm.MethodName)) ∈ lw_tbl := lw_at lw_m13 85 rfl
theorem q3059 : (Jvm.Cond.instanceMethod ({ cls := "RobotCell$Reader", name := "job", desc := "()LRobotCell$Command;" } : Jvm.MethodName)) ∈ lw_all := lw_g (lw_at lw_m13 86 rfl) rfl
theorem q3060 : (Jvm.Cond.code ({ cls := "RobotCell$Reader", name := "job", desc := "()LRobotCell$Command;" } : Jvm.MethodName) prog_12_method_9_code (7 : Nat) (Option.some (Jvm.ClassFile.FieldType.object "RobotCell$Command"))) ∈ lw_all := lw_g (lw_at lw_m13 87 rfl) rfl
theorem q3061 : (Jvm.Cond.methodLink "RobotCell$Reader" (47 : Nat) ({ cls := "RobotCell$Reader", name := "digit", desc := "()I" } : Jvm.MethodName)) ∈ lw_all := lw_g (lw_at lw_m13 88 rfl) rfl
theorem q3062 : (Jvm.Cond.privateMethod ({ cls := "RobotCell$Reader", name := "digit", desc := "()I" } : Jvm.MethodName)) ∈ lw_tbl := lw_at lw_m13 89 rfl
theorem q3063 : (Jvm.Cond.instanceMethod ({ cls := "RobotCell$Reader", name := "digit", desc := "()I" } : Jvm.MethodName)) ∈ lw_all := lw_g (lw_at lw_m13 90 rfl) rfl
theorem q3064 : (Jvm.Cond.code ({ cls := "RobotCell$Reader", name := "digit", desc := "()I" } : Jvm.MethodName) prog_12_method_6_code (1 : Nat) (Option.some Jvm.ClassFile.FieldType.int)) ∈ lw_all := lw_g (lw_at lw_m13 91 rfl) rfl
theorem q3065 : (Jvm.Cond.methodLink "RobotCell$Reader" (39 : Nat) ({ cls := "RobotCell$Reader", name := "isDigit", desc := "()Z" } : Jvm.MethodName)) ∈ lw_all := lw_g (lw_at lw_m13 92 rfl) rfl
theorem q3066 : (Jvm.Cond.privateMethod ({ cls := "RobotCell$Reader", name := "isDigit", desc := "()Z" } : Jvm.MethodName)) ∈ lw_tbl := lw_at lw_m13 93 rfl
theorem q3067 : (Jvm.Cond.instanceMethod ({ cls := "RobotCell$Reader", name := "isDigit", desc := "()Z" } : Jvm.MethodName)) ∈ lw_all := lw_g (lw_at lw_m13 94 rfl) rfl
theorem q3068 : (Jvm.Cond.code ({ cls := "RobotCell$Reader", name := "isDigit", desc := "()Z" } : Jvm.MethodName) prog_12_method_5_code (1 : Nat) (Option.some Jvm.ClassFile.FieldType.boolean)) ∈ lw_all := lw_g (lw_at lw_m13 95 rfl) rfl
theorem q3069 : (Jvm.Cond.methodLinkNest "RobotCell$Reader" (35 : Nat) ({ cls := "RobotCell", name := "inRange", desc := "(III)Z" } : Jvm.MethodName) "RobotCell") ∈ lw_tbl := lw_at lw_m13 96 rfl
theorem q3070 : (Jvm.Cond.methodLink "RobotCell$Reader" (43 : Nat) ({ cls := "RobotCell$Reader", name := "need", desc := "(Z)V" } : Jvm.MethodName)) ∈ lw_all := lw_g (lw_at lw_m13 97 rfl) rfl
theorem q3071 : (Jvm.Cond.privateMethod ({ cls := "RobotCell$Reader", name := "need", desc := "(Z)V" } : Jvm.MethodName)) ∈ lw_tbl := lw_at lw_m13 98 rfl
theorem q3072 : (Jvm.Cond.instanceMethod ({ cls := "RobotCell$Reader", name := "need", desc := "(Z)V" } : Jvm.MethodName)) ∈ lw_all := lw_g (lw_at lw_m13 99 rfl) rfl
theorem q3073 : (Jvm.Cond.code ({ cls := "RobotCell$Reader", name := "need", desc := "(Z)V" } : Jvm.MethodName) prog_12_method_2_code (2 : Nat) (Option.none : Option Jvm.ClassFile.FieldType)) ∈ lw_all := lw_g (lw_at lw_m13 100 rfl) rfl
theorem q3074 : (Jvm.Cond.classLink "RobotCell$Reader" (15 : Nat) "RobotCell$TextException") ∈ lw_all := lw_g (lw_at lw_m13 101 rfl) rfl
theorem q3083 : (Jvm.Cond.methodLink "RobotCell$Reader" (21 : Nat) ({ cls := "RobotCell$TextException", name := "<init>", desc := "(I)V" } : Jvm.MethodName)) ∈ lw_all := lw_g (lw_at lw_m13 110 rfl) rfl
theorem q3098 : (Jvm.Cond.methodLink "RobotCell$Reader" (60 : Nat) ({ cls := "RobotCell$Reader", name := "path", desc := "()I" } : Jvm.MethodName)) ∈ lw_all := lw_g (lw_at lw_m13 125 rfl) rfl
theorem q3099 : (Jvm.Cond.privateMethod ({ cls := "RobotCell$Reader", name := "path", desc := "()I" } : Jvm.MethodName)) ∈ lw_tbl := lw_at lw_m13 126 rfl
theorem q3100 : (Jvm.Cond.instanceMethod ({ cls := "RobotCell$Reader", name := "path", desc := "()I" } : Jvm.MethodName)) ∈ lw_all := lw_g (lw_at lw_m13 127 rfl) rfl
theorem q3101 : (Jvm.Cond.code ({ cls := "RobotCell$Reader", name := "path", desc := "()I" } : Jvm.MethodName) prog_12_method_7_code (6 : Nat) (Option.some Jvm.ClassFile.FieldType.int)) ∈ lw_all := lw_g (lw_at lw_m13 128 rfl) rfl
theorem q3102 : (Jvm.Cond.methodLink "RobotCell$Reader" (51 : Nat) ({ cls := "java/lang/Math", name := "min", desc := "(II)I" } : Jvm.MethodName)) ∈ lw_all := lw_g (lw_at lw_m13 129 rfl) rfl
theorem q3103 : (Jvm.Cond.methodLink "RobotCell$Reader" (63 : Nat) ({ cls := "RobotCell$Reader", name := "buffer", desc := "(C)I" } : Jvm.MethodName)) ∈ lw_all := lw_g (lw_at lw_m13 130 rfl) rfl
theorem q3104 : (Jvm.Cond.privateMethod ({ cls := "RobotCell$Reader", name := "buffer", desc := "(C)I" } : Jvm.MethodName)) ∈ lw_tbl := lw_at lw_m13 131 rfl
theorem q3105 : (Jvm.Cond.instanceMethod ({ cls := "RobotCell$Reader", name := "buffer", desc := "(C)I" } : Jvm.MethodName)) ∈ lw_all := lw_g (lw_at lw_m13 132 rfl) rfl
theorem q3106 : (Jvm.Cond.code ({ cls := "RobotCell$Reader", name := "buffer", desc := "(C)I" } : Jvm.MethodName) prog_12_method_8_code (2 : Nat) (Option.some Jvm.ClassFile.FieldType.int)) ∈ lw_all := lw_g (lw_at lw_m13 133 rfl) rfl
theorem q3107 : (Jvm.Cond.classLink "RobotCell$Reader" (67 : Nat) "RobotCell$Order") ∈ lw_all := lw_g (lw_at lw_m13 134 rfl) rfl
theorem q3108 : (Jvm.Cond.methodLink "RobotCell$Reader" (69 : Nat) ({ cls := "RobotCell$Order", name := "<init>", desc := "(IIIIII)V" } : Jvm.MethodName)) ∈ lw_all := lw_g (lw_at lw_m13 135 rfl) rfl
theorem q3109 : (Jvm.Cond.classLink "RobotCell$Reader" (72 : Nat) "RobotCell$Reader$1") ∈ lw_all := lw_g (lw_at lw_m13 136 rfl) rfl
theorem q3111 : (Jvm.Cond.methodLink "RobotCell$Reader" (74 : Nat) ({ cls := "RobotCell$Reader$1", name := "<init>", desc := "(LRobotCell$Reader;LRobotCell$Order;)V" } : Jvm.MethodName)) ∈ lw_all := lw_g (lw_at lw_m13 138 rfl) rfl
theorem q3125 : (Jvm.Cond.methodLink "RobotCell$Reader" (91 : Nat) ({ cls := "RobotCell$Reader", name := "ticks", desc := "()LRobotCell$Command;" } : Jvm.MethodName)) ∈ lw_all := lw_g (lw_at lw_m13 152 rfl) rfl
theorem q3126 : (Jvm.Cond.privateMethod ({ cls := "RobotCell$Reader", name := "ticks", desc := "()LRobotCell$Command;" } : Jvm.MethodName)) ∈ lw_tbl := lw_at lw_m13 153 rfl
theorem q3127 : (Jvm.Cond.instanceMethod ({ cls := "RobotCell$Reader", name := "ticks", desc := "()LRobotCell$Command;" } : Jvm.MethodName)) ∈ lw_all := lw_g (lw_at lw_m13 154 rfl) rfl
theorem q3128 : (Jvm.Cond.code ({ cls := "RobotCell$Reader", name := "ticks", desc := "()LRobotCell$Command;" } : Jvm.MethodName) prog_12_method_10_code (3 : Nat) (Option.some (Jvm.ClassFile.FieldType.object "RobotCell$Command"))) ∈ lw_all := lw_g (lw_at lw_m13 155 rfl) rfl
theorem q3129 : (Jvm.Cond.classLink "RobotCell$Reader" (77 : Nat) "RobotCell$Reader$2") ∈ lw_all := lw_g (lw_at lw_m13 156 rfl) rfl
theorem q3131 : (Jvm.Cond.methodLink "RobotCell$Reader" (79 : Nat) ({ cls := "RobotCell$Reader$2", name := "<init>", desc := "(LRobotCell$Reader;I)V" } : Jvm.MethodName)) ∈ lw_all := lw_g (lw_at lw_m13 158 rfl) rfl
theorem q3142 : (Jvm.Cond.methodLink "RobotCell$Reader" (94 : Nat) ({ cls := "RobotCell$Reader", name := "interlock", desc := "()LRobotCell$Command;" } : Jvm.MethodName)) ∈ lw_all := lw_g (lw_at lw_m13 169 rfl) rfl
theorem q3143 : (Jvm.Cond.privateMethod ({ cls := "RobotCell$Reader", name := "interlock", desc := "()LRobotCell$Command;" } : Jvm.MethodName)) ∈ lw_tbl := lw_at lw_m13 170 rfl
theorem q3144 : (Jvm.Cond.instanceMethod ({ cls := "RobotCell$Reader", name := "interlock", desc := "()LRobotCell$Command;" } : Jvm.MethodName)) ∈ lw_all := lw_g (lw_at lw_m13 171 rfl) rfl
theorem q3145 : (Jvm.Cond.code ({ cls := "RobotCell$Reader", name := "interlock", desc := "()LRobotCell$Command;" } : Jvm.MethodName) prog_12_method_11_code (3 : Nat) (Option.some (Jvm.ClassFile.FieldType.object "RobotCell$Command"))) ∈ lw_all := lw_g (lw_at lw_m13 172 rfl) rfl
theorem q3146 : (Jvm.Cond.classLink "RobotCell$Reader" (82 : Nat) "RobotCell$Reader$3") ∈ lw_all := lw_g (lw_at lw_m13 173 rfl) rfl
theorem q3148 : (Jvm.Cond.methodLink "RobotCell$Reader" (84 : Nat) ({ cls := "RobotCell$Reader$3", name := "<init>", desc := "(LRobotCell$Reader;II)V" } : Jvm.MethodName)) ∈ lw_all := lw_g (lw_at lw_m13 175 rfl) rfl
theorem q3162 : (Jvm.Cond.methodLink "RobotCell$Reader" (103 : Nat) ({ cls := "java/util/ArrayList", name := "add", desc := "(Ljava/lang/Object;)Z" } : Jvm.MethodName)) ∈ lw_all := lw_g (lw_at lw_m13 189 rfl) rfl
theorem q3799 : (Jvm.Cond.castable "RobotCell$Reader" "java/lang/Object") ∈ lw_tbl := lw_at lw_m16 106 rfl
theorem in_X12 : ∀ w ∈ wsX120, w ∈ lw_all := lw_in wsX120 [3034, 3036] (by decide +kernel) (by decide +kernel)
/-! RobotCell$TextException -/
set_option maxRecDepth 100000
def RX13 : String := "RobotCell$TextException"
def TX13 : u_T := fun k => match k with
  | 0 => ("java/lang/Throwable", "cause", "Ljava/lang/Throwable;", false)
  | 1 => ("java/lang/Throwable", "stackTrace", "[Ljava/lang/StackTraceElement;", false)
  | 2 => ("java/lang/Throwable", "suppressedExceptions", "Ljava/util/List;", false)
  | 3 => ("java/lang/Throwable", "detailMessage", "Ljava/lang/String;", false)
  | 4 => ("java/lang/Throwable", "backtrace", "Ljava/lang/Object;", false)
  | 5 => ("java/lang/Throwable", "depth", "I", false)
  | _ => ("RobotCell$TextException", "position", "I", true)
def tyX13 : Nat → FieldType := fun k => match k with
  | 0 => .object "java/lang/Throwable"
  | 1 => .array (.object "java/lang/StackTraceElement")
  | 2 => .object "java/util/List"
  | 3 => .object "java/lang/String"
  | 4 => .object "java/lang/Object"
  | 5 => .int
  | _ => .int
abbrev wsX130 : List Cond := u_ws RX13 TX13 7
theorem nmX13 : ∀ a, a < 7 → ∀ b, b < 7 → a ≠ b → (TX13 a).2.1 ≠ (TX13 b).2.1 := by decide +kernel
theorem tyX13_ok : ∀ k, k < 7 → parseFieldDescriptor (TX13 k).2.2.1 = some (tyX13 k) := by decide +kernel
abbrev cX13_init : ByteArray := prog_16_method_1_code
def yX13_init : MethodName := ⟨RX13, "<init>", "(I)V"⟩
def dkwX13_init_0 : List UInt8 := [42, 1, 1, 3, 3, 183, 0, 1, 42, 27, 181, 0, 7, 177]
abbrev dktX13_init_0 : List UInt8 := dkwX13_init_0 ++ []
theorem dksX13_init_0 : cX13_init.data.toList.drop 0 = dktX13_init_0 := by decide +kernel
theorem dX13_init_0 : decode cX13_init 0 = .ok (.aload_n 0, 1) := dk_42 (dk_at dksX13_init_0 0 rfl rfl)
theorem dX13_init_1 : decode cX13_init 1 = .ok (.aconst_null, 1) := dk_1 (dk_at dksX13_init_0 1 rfl rfl)
theorem dX13_init_2 : decode cX13_init 2 = .ok (.aconst_null, 1) := dk_1 (dk_at dksX13_init_0 2 rfl rfl)
theorem dX13_init_3 : decode cX13_init 3 = .ok (.iconst 0, 1) := dk_3 (dk_at dksX13_init_0 3 rfl rfl)
theorem dX13_init_4 : decode cX13_init 4 = .ok (.iconst 0, 1) := dk_3 (dk_at dksX13_init_0 4 rfl rfl)
theorem dX13_init_5 : decode cX13_init 5 = .ok (.invokespecial 1, 3) := dk_183 0 1 (dk_at dksX13_init_0 5 rfl rfl)
theorem dX13_init_8 : decode cX13_init 8 = .ok (.aload_n 0, 1) := dk_42 (dk_at dksX13_init_0 8 rfl rfl)
theorem dX13_init_9 : decode cX13_init 9 = .ok (.iload_n 1, 1) := dk_27 (dk_at dksX13_init_0 9 rfl rfl)
theorem dX13_init_10 : decode cX13_init 10 = .ok (.putfield 7, 3) := dk_181 0 7 (dk_at dksX13_init_0 10 rfl rfl)
theorem dX13_init_13 : decode cX13_init 13 = .ok (.return_, 1) := dk_177 (dk_at dksX13_init_0 13 rfl rfl)
theorem q159 : (Jvm.Cond.initialized "RobotCell$TextException") ∈ lw_all := lw_g (lw_at lw_m1 66 rfl) rfl
theorem q239 : (Jvm.Cond.selects "RobotCell$TextException" ({ cls := "java/lang/Throwable", name := "fillInStackTrace", desc := "()Ljava/lang/Throwable;" } : Jvm.MethodName) ({ cls := "java/lang/Throwable", name := "fillInStackTrace", desc := "()Ljava/lang/Throwable;" } : Jvm.MethodName)) ∈ lw_all := lw_g (lw_at lw_m1 146 rfl) rfl
theorem q872 : (Jvm.Cond.selects "RobotCell$TextException" ({ cls := "java/lang/Object", name := "toString", desc := "()Ljava/lang/String;" } : Jvm.MethodName) ({ cls := "java/lang/Throwable", name := "toString", desc := "()Ljava/lang/String;" } : Jvm.MethodName)) ∈ lw_all := lw_g (lw_at lw_m4 59 rfl) rfl
theorem q892 : (Jvm.Cond.selects "RobotCell$TextException" ({ cls := "java/lang/Object", name := "getClass", desc := "()Ljava/lang/Class;" } : Jvm.MethodName) ({ cls := "java/lang/Object", name := "getClass", desc := "()Ljava/lang/Class;" } : Jvm.MethodName)) ∈ lw_all := lw_g (lw_at lw_m4 79 rfl) rfl
theorem q925 : (Jvm.Cond.selects "RobotCell$TextException" ({ cls := "java/lang/Throwable", name := "getLocalizedMessage", desc := "()Ljava/lang/String;" } : Jvm.MethodName) ({ cls := "java/lang/Throwable", name := "getLocalizedMessage", desc := "()Ljava/lang/String;" } : Jvm.MethodName)) ∈ lw_all := lw_g (lw_at lw_m4 112 rfl) rfl
theorem q938 : (Jvm.Cond.selects "RobotCell$TextException" ({ cls := "java/lang/Throwable", name := "getMessage", desc := "()Ljava/lang/String;" } : Jvm.MethodName) ({ cls := "java/lang/Throwable", name := "getMessage", desc := "()Ljava/lang/String;" } : Jvm.MethodName)) ∈ lw_all := lw_g (lw_at lw_m4 125 rfl) rfl
theorem q1666 : (Jvm.Cond.selects "RobotCell$TextException" ({ cls := "java/lang/Object", name := "hashCode", desc := "()I" } : Jvm.MethodName) ({ cls := "java/lang/Object", name := "hashCode", desc := "()I" } : Jvm.MethodName)) ∈ lw_all := lw_g (lw_at lw_m7 133 rfl) rfl
theorem q2078 : (Jvm.Cond.selects "RobotCell$TextException" ({ cls := "java/lang/Object", name := "equals", desc := "(Ljava/lang/Object;)Z" } : Jvm.MethodName) ({ cls := "java/lang/Object", name := "equals", desc := "(Ljava/lang/Object;)Z" } : Jvm.MethodName)) ∈ lw_all := lw_g (lw_at lw_m9 65 rfl) rfl
theorem q3075 : (Jvm.Cond.instantiable "RobotCell$TextException" (7 : Nat)) ∈ lw_all := lw_g (lw_at lw_m13 102 rfl) rfl
theorem q3076 : (Jvm.Cond.castable "RobotCell$TextException" "RobotCell$TextException") ∈ lw_tbl := lw_at lw_m13 103 rfl
theorem q3077 : (Jvm.Cond.selects "RobotCell$TextException" ({ cls := "java/lang/Throwable", name := "fillInStackTrace", desc := "(I)Ljava/lang/Throwable;" } : Jvm.MethodName) ({ cls := "java/lang/Throwable", name := "fillInStackTrace", desc := "(I)Ljava/lang/Throwable;" } : Jvm.MethodName)) ∈ lw_all := lw_g (lw_at lw_m13 104 rfl) rfl
theorem q3078 : (Jvm.Cond.lays "RobotCell$TextException" "java/lang/Throwable" "cause" "Ljava/lang/Throwable;") ∈ lw_all := lw_g (lw_at lw_m13 105 rfl) rfl
theorem q3079 : (Jvm.Cond.lays "RobotCell$TextException" "java/lang/Throwable" "stackTrace" "[Ljava/lang/StackTraceElement;") ∈ lw_all := lw_g (lw_at lw_m13 106 rfl) rfl
theorem q3080 : (Jvm.Cond.lays "RobotCell$TextException" "java/lang/Throwable" "suppressedExceptions" "Ljava/util/List;") ∈ lw_all := lw_g (lw_at lw_m13 107 rfl) rfl
theorem q3081 : (Jvm.Cond.lays "RobotCell$TextException" "java/lang/Throwable" "detailMessage" "Ljava/lang/String;") ∈ lw_all := lw_g (lw_at lw_m13 108 rfl) rfl
theorem q3082 : (Jvm.Cond.lays "RobotCell$TextException" "java/lang/Throwable" "backtrace" "Ljava/lang/Object;") ∈ lw_all := lw_g (lw_at lw_m13 109 rfl) rfl
theorem q3084 : (Jvm.Cond.instanceMethod ({ cls := "RobotCell$TextException", name := "<init>", desc := "(I)V" } : Jvm.MethodName)) ∈ lw_all := lw_g (lw_at lw_m13 111 rfl) rfl
theorem q3085 : (Jvm.Cond.code ({ cls := "RobotCell$TextException", name := "<init>", desc := "(I)V" } : Jvm.MethodName) prog_16_method_1_code (2 : Nat) (Option.none : Option Jvm.ClassFile.FieldType)) ∈ lw_all := lw_g (lw_at lw_m13 112 rfl) rfl
theorem q3086 : (Jvm.Cond.methodLink "RobotCell$TextException" (1 : Nat) ({ cls := "java/lang/Exception", name := "<init>", desc := "(Ljava/lang/String;Ljava/lang/Throwable;ZZ)V" } : Jvm.MethodName)) ∈ lw_all := lw_g (lw_at lw_m13 113 rfl) rfl
theorem q3092 : (Jvm.Cond.fieldLink "RobotCell$TextException" (7 : Nat) "RobotCell$TextException" "position" "I") ∈ lw_all := lw_g (lw_at lw_m13 119 rfl) rfl
theorem q3094 : (Jvm.Cond.laysFinal "RobotCell$TextException" "RobotCell$TextException" "position" "I") ∈ lw_all := lw_g (lw_at lw_m13 121 rfl) rfl
theorem q3095 : (Jvm.Cond.soleField "RobotCell$TextException" "position") ∈ lw_all := lw_g (lw_at lw_m13 122 rfl) rfl
theorem q3096 : (Jvm.Cond.lays "RobotCell$TextException" "java/lang/Throwable" "depth" "I") ∈ lw_all := lw_g (lw_at lw_m13 123 rfl) rfl
theorem q3097 : (Jvm.Cond.superclass "RobotCell$TextException" "java/lang/Exception") ∈ lw_all := lw_g (lw_at lw_m13 124 rfl) rfl
theorem q3748 : (Jvm.Cond.castable "RobotCell$TextException" "java/lang/Throwable") ∈ lw_tbl := lw_at lw_m16 55 rfl
theorem q3800 : (Jvm.Cond.castable "RobotCell$TextException" "java/lang/Object") ∈ lw_tbl := lw_at lw_m16 107 rfl
theorem in_X13 : ∀ w ∈ wsX130, w ∈ lw_all := lw_in wsX130 [3078, 3079, 3080, 3081, 3082, 3096, 3094] (by decide +kernel) (by decide +kernel)
/-! RobotCell$Command -/
set_option maxRecDepth 100000
def RX14 : String := "RobotCell$Command"
abbrev cX14_init : ByteArray := prog_7_method_1_code
def yX14_init : MethodName := ⟨RX14, "<init>", "()V"⟩
theorem dX14_init_0 : decode cX14_init 0 = .ok (.aload_n 0, 1) := by decide +kernel
theorem dX14_init_1 : decode cX14_init 1 = .ok (.invokespecial 1, 3) := by decide +kernel
theorem dX14_init_4 : decode cX14_init 4 = .ok (.return_, 1) := by decide +kernel
theorem q160 : (Jvm.Cond.initialized "RobotCell$Command") ∈ lw_all := lw_g (lw_at lw_m1 67 rfl) rfl
theorem q3115 : (Jvm.Cond.instanceMethod ({ cls := "RobotCell$Command", name := "<init>", desc := "()V" } : Jvm.MethodName)) ∈ lw_all := lw_g (lw_at lw_m13 142 rfl) rfl
theorem q3116 : (Jvm.Cond.code ({ cls := "RobotCell$Command", name := "<init>", desc := "()V" } : Jvm.MethodName) prog_7_method_1_code (1 : Nat) (Option.none : Option Jvm.ClassFile.FieldType)) ∈ lw_all := lw_g (lw_at lw_m13 143 rfl) rfl
theorem q3117 : (Jvm.Cond.methodLink "RobotCell$Command" (1 : Nat) ({ cls := "java/lang/Object", name := "<init>", desc := "()V" } : Jvm.MethodName)) ∈ lw_all := lw_g (lw_at lw_m13 144 rfl) rfl
theorem q3166 : (Jvm.Cond.declares ({ cls := "RobotCell$Command", name := "perform", desc := "(LRobotCell$Cell;)V" } : Jvm.MethodName)) ∈ lw_tbl := lw_at lw_m13 193 rfl
theorem q3167 : (Jvm.Cond.sameMethod "RobotCell$Command" "RobotCell$Command" "perform" "(LRobotCell$Cell;)V") ∈ lw_all := lw_g (lw_at lw_m13 194 rfl) rfl
/-! RobotCell$Reader$1 -/
set_option maxRecDepth 100000
def RX15 : String := "RobotCell$Reader$1"
def TX15 : u_T := fun k => match k with
  | 0 => ("RobotCell$Reader$1", "val$order", "LRobotCell$Order;", true)
  | _ => ("RobotCell$Reader$1", "this$1", "LRobotCell$Reader;", true)
def tyX15 : Nat → FieldType := fun k => match k with
  | 0 => .object "RobotCell$Order"
  | _ => .object "RobotCell$Reader"
abbrev wsX150 : List Cond := u_ws RX15 TX15 2
theorem nmX15 : ∀ a, a < 2 → ∀ b, b < 2 → a ≠ b → (TX15 a).2.1 ≠ (TX15 b).2.1 := by decide +kernel
theorem tyX15_ok : ∀ k, k < 2 → parseFieldDescriptor (TX15 k).2.2.1 = some (tyX15 k) := by decide +kernel
abbrev cX15_init : ByteArray := prog_13_method_1_code
def yX15_init : MethodName := ⟨RX15, "<init>", "(LRobotCell$Reader;LRobotCell$Order;)V"⟩
def dkwX15_init_0 : List UInt8 := [42, 43, 181, 0, 1, 42, 44, 181, 0, 7, 42, 183, 0, 11, 177]
abbrev dktX15_init_0 : List UInt8 := dkwX15_init_0 ++ []
theorem dksX15_init_0 : cX15_init.data.toList.drop 0 = dktX15_init_0 := by decide +kernel
theorem dX15_init_0 : decode cX15_init 0 = .ok (.aload_n 0, 1) := dk_42 (dk_at dksX15_init_0 0 rfl rfl)
theorem dX15_init_1 : decode cX15_init 1 = .ok (.aload_n 1, 1) := dk_43 (dk_at dksX15_init_0 1 rfl rfl)
theorem dX15_init_2 : decode cX15_init 2 = .ok (.putfield 1, 3) := dk_181 0 1 (dk_at dksX15_init_0 2 rfl rfl)
theorem dX15_init_5 : decode cX15_init 5 = .ok (.aload_n 0, 1) := dk_42 (dk_at dksX15_init_0 5 rfl rfl)
theorem dX15_init_6 : decode cX15_init 6 = .ok (.aload_n 2, 1) := dk_44 (dk_at dksX15_init_0 6 rfl rfl)
theorem dX15_init_7 : decode cX15_init 7 = .ok (.putfield 7, 3) := dk_181 0 7 (dk_at dksX15_init_0 7 rfl rfl)
theorem dX15_init_10 : decode cX15_init 10 = .ok (.aload_n 0, 1) := dk_42 (dk_at dksX15_init_0 10 rfl rfl)
theorem dX15_init_11 : decode cX15_init 11 = .ok (.invokespecial 11, 3) := dk_183 0 11 (dk_at dksX15_init_0 11 rfl rfl)
theorem dX15_init_14 : decode cX15_init 14 = .ok (.return_, 1) := dk_177 (dk_at dksX15_init_0 14 rfl rfl)
abbrev cX15_perform : ByteArray := prog_13_method_2_code
def yX15_perform : MethodName := ⟨RX15, "perform", "(LRobotCell$Cell;)V"⟩
def dkwX15_perform_0 : List UInt8 := [43, 42, 180, 0, 7, 184, 0, 17, 61, 177]
abbrev dktX15_perform_0 : List UInt8 := dkwX15_perform_0 ++ []
theorem dksX15_perform_0 : cX15_perform.data.toList.drop 0 = dktX15_perform_0 := by decide +kernel
theorem dX15_perform_0 : decode cX15_perform 0 = .ok (.aload_n 1, 1) := dk_43 (dk_at dksX15_perform_0 0 rfl rfl)
theorem dX15_perform_1 : decode cX15_perform 1 = .ok (.aload_n 0, 1) := dk_42 (dk_at dksX15_perform_0 1 rfl rfl)
theorem dX15_perform_2 : decode cX15_perform 2 = .ok (.getfield 7, 3) := dk_180 0 7 (dk_at dksX15_perform_0 2 rfl rfl)
theorem dX15_perform_5 : decode cX15_perform 5 = .ok (.invokestatic 17, 3) := dk_184 0 17 (dk_at dksX15_perform_0 5 rfl rfl)
theorem dX15_perform_8 : decode cX15_perform 8 = .ok (.istore_n 2, 1) := dk_61 (dk_at dksX15_perform_0 8 rfl rfl)
theorem dX15_perform_9 : decode cX15_perform 9 = .ok (.return_, 1) := dk_177 (dk_at dksX15_perform_0 9 rfl rfl)
theorem q161 : (Jvm.Cond.initialized "RobotCell$Reader$1") ∈ lw_all := lw_g (lw_at lw_m1 68 rfl) rfl
theorem q869 : (Jvm.Cond.selects "RobotCell$Reader$1" ({ cls := "java/lang/Object", name := "toString", desc := "()Ljava/lang/String;" } : Jvm.MethodName) ({ cls := "java/lang/Object", name := "toString", desc := "()Ljava/lang/String;" } : Jvm.MethodName)) ∈ lw_all := lw_g (lw_at lw_m4 56 rfl) rfl
theorem q889 : (Jvm.Cond.selects "RobotCell$Reader$1" ({ cls := "java/lang/Object", name := "getClass", desc := "()Ljava/lang/Class;" } : Jvm.MethodName) ({ cls := "java/lang/Object", name := "getClass", desc := "()Ljava/lang/Class;" } : Jvm.MethodName)) ∈ lw_all := lw_g (lw_at lw_m4 76 rfl) rfl
theorem q1663 : (Jvm.Cond.selects "RobotCell$Reader$1" ({ cls := "java/lang/Object", name := "hashCode", desc := "()I" } : Jvm.MethodName) ({ cls := "java/lang/Object", name := "hashCode", desc := "()I" } : Jvm.MethodName)) ∈ lw_all := lw_g (lw_at lw_m7 130 rfl) rfl
theorem q2075 : (Jvm.Cond.selects "RobotCell$Reader$1" ({ cls := "java/lang/Object", name := "equals", desc := "(Ljava/lang/Object;)Z" } : Jvm.MethodName) ({ cls := "java/lang/Object", name := "equals", desc := "(Ljava/lang/Object;)Z" } : Jvm.MethodName)) ∈ lw_all := lw_g (lw_at lw_m9 62 rfl) rfl
theorem q3110 : (Jvm.Cond.instantiable "RobotCell$Reader$1" (2 : Nat)) ∈ lw_all := lw_g (lw_at lw_m13 137 rfl) rfl
theorem q3112 : (Jvm.Cond.instanceMethod ({ cls := "RobotCell$Reader$1", name := "<init>", desc := "(LRobotCell$Reader;LRobotCell$Order;)V" } : Jvm.MethodName)) ∈ lw_all := lw_g (lw_at lw_m13 139 rfl) rfl
theorem q3113 : (Jvm.Cond.code ({ cls := "RobotCell$Reader$1", name := "<init>", desc := "(LRobotCell$Reader;LRobotCell$Order;)V" } : Jvm.MethodName) prog_13_method_1_code (3 : Nat) (Option.none : Option Jvm.ClassFile.FieldType)) ∈ lw_all := lw_g (lw_at lw_m13 140 rfl) rfl
theorem q3114 : (Jvm.Cond.methodLinkNest "RobotCell$Reader$1" (11 : Nat) ({ cls := "RobotCell$Command", name := "<init>", desc := "()V" } : Jvm.MethodName) "RobotCell") ∈ lw_tbl := lw_at lw_m13 141 rfl
theorem q3118 : (Jvm.Cond.fieldLink "RobotCell$Reader$1" (7 : Nat) "RobotCell$Reader$1" "val$order" "LRobotCell$Order;") ∈ lw_all := lw_g (lw_at lw_m13 145 rfl) rfl
theorem q3119 : (Jvm.Cond.fieldLink "RobotCell$Reader$1" (1 : Nat) "RobotCell$Reader$1" "this$1" "LRobotCell$Reader;") ∈ lw_all := lw_g (lw_at lw_m13 146 rfl) rfl
theorem q3120 : (Jvm.Cond.laysFinal "RobotCell$Reader$1" "RobotCell$Reader$1" "val$order" "LRobotCell$Order;") ∈ lw_all := lw_g (lw_at lw_m13 147 rfl) rfl
theorem q3121 : (Jvm.Cond.soleField "RobotCell$Reader$1" "val$order") ∈ lw_all := lw_g (lw_at lw_m13 148 rfl) rfl
theorem q3122 : (Jvm.Cond.laysFinal "RobotCell$Reader$1" "RobotCell$Reader$1" "this$1" "LRobotCell$Reader;") ∈ lw_all := lw_g (lw_at lw_m13 149 rfl) rfl
theorem q3123 : (Jvm.Cond.soleField "RobotCell$Reader$1" "this$1") ∈ lw_all := lw_g (lw_at lw_m13 150 rfl) rfl
theorem q3124 : (Jvm.Cond.superclass "RobotCell$Reader$1" "RobotCell$Command") ∈ lw_all := lw_g (lw_at lw_m13 151 rfl) rfl
theorem q3168 : (Jvm.Cond.selects "RobotCell$Reader$1" ({ cls := "RobotCell$Command", name := "perform", desc := "(LRobotCell$Cell;)V" } : Jvm.MethodName) ({ cls := "RobotCell$Reader$1", name := "perform", desc := "(LRobotCell$Cell;)V" } : Jvm.MethodName)) ∈ lw_all := lw_g (lw_at lw_m13 195 rfl) rfl
theorem q3169 : (Jvm.Cond.instanceMethod ({ cls := "RobotCell$Reader$1", name := "perform", desc := "(LRobotCell$Cell;)V" } : Jvm.MethodName)) ∈ lw_all := lw_g (lw_at lw_m13 196 rfl) rfl
theorem q3170 : (Jvm.Cond.code ({ cls := "RobotCell$Reader$1", name := "perform", desc := "(LRobotCell$Cell;)V" } : Jvm.MethodName) prog_13_method_2_code (3 : Nat) (Option.none : Option Jvm.ClassFile.FieldType)) ∈ lw_all := lw_g (lw_at lw_m13 197 rfl) rfl
theorem q3171 : (Jvm.Cond.methodLinkNest "RobotCell$Reader$1" (17 : Nat) ({ cls := "RobotCell", name := "giveIn", desc := "(LRobotCell$Cell;LRobotCell$Order;)I" } : Jvm.MethodName) "RobotCell") ∈ lw_tbl := lw_at lw_m13 198 rfl
theorem q3758 : (Jvm.Cond.castable "RobotCell$Reader$1" "RobotCell$Command") ∈ lw_tbl := lw_at lw_m16 65 rfl
theorem q3801 : (Jvm.Cond.castable "RobotCell$Reader$1" "java/lang/Object") ∈ lw_tbl := lw_at lw_m16 108 rfl
theorem in_X15 : ∀ w ∈ wsX150, w ∈ lw_all := lw_in wsX150 [3120, 3122] (by decide +kernel) (by decide +kernel)
/-! RobotCell$Reader$2 -/
set_option maxRecDepth 100000
def RX16 : String := "RobotCell$Reader$2"
def TX16 : u_T := fun k => match k with
  | 0 => ("RobotCell$Reader$2", "val$ticks", "I", true)
  | _ => ("RobotCell$Reader$2", "this$1", "LRobotCell$Reader;", true)
def tyX16 : Nat → FieldType := fun k => match k with
  | 0 => .int
  | _ => .object "RobotCell$Reader"
abbrev wsX160 : List Cond := u_ws RX16 TX16 2
theorem nmX16 : ∀ a, a < 2 → ∀ b, b < 2 → a ≠ b → (TX16 a).2.1 ≠ (TX16 b).2.1 := by decide +kernel
theorem tyX16_ok : ∀ k, k < 2 → parseFieldDescriptor (TX16 k).2.2.1 = some (tyX16 k) := by decide +kernel
abbrev cX16_init : ByteArray := prog_14_method_1_code
def yX16_init : MethodName := ⟨RX16, "<init>", "(LRobotCell$Reader;I)V"⟩
def dkwX16_init_0 : List UInt8 := [42, 43, 181, 0, 1, 42, 28, 181, 0, 7, 42, 183, 0, 11, 177]
abbrev dktX16_init_0 : List UInt8 := dkwX16_init_0 ++ []
theorem dksX16_init_0 : cX16_init.data.toList.drop 0 = dktX16_init_0 := by decide +kernel
theorem dX16_init_0 : decode cX16_init 0 = .ok (.aload_n 0, 1) := dk_42 (dk_at dksX16_init_0 0 rfl rfl)
theorem dX16_init_1 : decode cX16_init 1 = .ok (.aload_n 1, 1) := dk_43 (dk_at dksX16_init_0 1 rfl rfl)
theorem dX16_init_2 : decode cX16_init 2 = .ok (.putfield 1, 3) := dk_181 0 1 (dk_at dksX16_init_0 2 rfl rfl)
theorem dX16_init_5 : decode cX16_init 5 = .ok (.aload_n 0, 1) := dk_42 (dk_at dksX16_init_0 5 rfl rfl)
theorem dX16_init_6 : decode cX16_init 6 = .ok (.iload_n 2, 1) := dk_28 (dk_at dksX16_init_0 6 rfl rfl)
theorem dX16_init_7 : decode cX16_init 7 = .ok (.putfield 7, 3) := dk_181 0 7 (dk_at dksX16_init_0 7 rfl rfl)
theorem dX16_init_10 : decode cX16_init 10 = .ok (.aload_n 0, 1) := dk_42 (dk_at dksX16_init_0 10 rfl rfl)
theorem dX16_init_11 : decode cX16_init 11 = .ok (.invokespecial 11, 3) := dk_183 0 11 (dk_at dksX16_init_0 11 rfl rfl)
theorem dX16_init_14 : decode cX16_init 14 = .ok (.return_, 1) := dk_177 (dk_at dksX16_init_0 14 rfl rfl)
abbrev cX16_perform : ByteArray := prog_14_method_2_code
def yX16_perform : MethodName := ⟨RX16, "perform", "(LRobotCell$Cell;)V"⟩
def dkwX16_perform_0 : List UInt8 := [43, 42, 180, 0, 7, 184, 0, 17, 61, 177]
abbrev dktX16_perform_0 : List UInt8 := dkwX16_perform_0 ++ []
theorem dksX16_perform_0 : cX16_perform.data.toList.drop 0 = dktX16_perform_0 := by decide +kernel
theorem dX16_perform_0 : decode cX16_perform 0 = .ok (.aload_n 1, 1) := dk_43 (dk_at dksX16_perform_0 0 rfl rfl)
theorem dX16_perform_1 : decode cX16_perform 1 = .ok (.aload_n 0, 1) := dk_42 (dk_at dksX16_perform_0 1 rfl rfl)
theorem dX16_perform_2 : decode cX16_perform 2 = .ok (.getfield 7, 3) := dk_180 0 7 (dk_at dksX16_perform_0 2 rfl rfl)
theorem dX16_perform_5 : decode cX16_perform 5 = .ok (.invokestatic 17, 3) := dk_184 0 17 (dk_at dksX16_perform_0 5 rfl rfl)
theorem dX16_perform_8 : decode cX16_perform 8 = .ok (.istore_n 2, 1) := dk_61 (dk_at dksX16_perform_0 8 rfl rfl)
theorem dX16_perform_9 : decode cX16_perform 9 = .ok (.return_, 1) := dk_177 (dk_at dksX16_perform_0 9 rfl rfl)
theorem q162 : (Jvm.Cond.initialized "RobotCell$Reader$2") ∈ lw_all := lw_g (lw_at lw_m1 69 rfl) rfl
theorem q870 : (Jvm.Cond.selects "RobotCell$Reader$2" ({ cls := "java/lang/Object", name := "toString", desc := "()Ljava/lang/String;" } : Jvm.MethodName) ({ cls := "java/lang/Object", name := "toString", desc := "()Ljava/lang/String;" } : Jvm.MethodName)) ∈ lw_all := lw_g (lw_at lw_m4 57 rfl) rfl
theorem q890 : (Jvm.Cond.selects "RobotCell$Reader$2" ({ cls := "java/lang/Object", name := "getClass", desc := "()Ljava/lang/Class;" } : Jvm.MethodName) ({ cls := "java/lang/Object", name := "getClass", desc := "()Ljava/lang/Class;" } : Jvm.MethodName)) ∈ lw_all := lw_g (lw_at lw_m4 77 rfl) rfl
theorem q1664 : (Jvm.Cond.selects "RobotCell$Reader$2" ({ cls := "java/lang/Object", name := "hashCode", desc := "()I" } : Jvm.MethodName) ({ cls := "java/lang/Object", name := "hashCode", desc := "()I" } : Jvm.MethodName)) ∈ lw_all := lw_g (lw_at lw_m7 131 rfl) rfl
theorem q2076 : (Jvm.Cond.selects "RobotCell$Reader$2" ({ cls := "java/lang/Object", name := "equals", desc := "(Ljava/lang/Object;)Z" } : Jvm.MethodName) ({ cls := "java/lang/Object", name := "equals", desc := "(Ljava/lang/Object;)Z" } : Jvm.MethodName)) ∈ lw_all := lw_g (lw_at lw_m9 63 rfl) rfl
theorem q3130 : (Jvm.Cond.instantiable "RobotCell$Reader$2" (2 : Nat)) ∈ lw_all := lw_g (lw_at lw_m13 157 rfl) rfl
theorem q3132 : (Jvm.Cond.instanceMethod ({ cls := "RobotCell$Reader$2", name := "<init>", desc := "(LRobotCell$Reader;I)V" } : Jvm.MethodName)) ∈ lw_all := lw_g (lw_at lw_m13 159 rfl) rfl
theorem q3133 : (Jvm.Cond.code ({ cls := "RobotCell$Reader$2", name := "<init>", desc := "(LRobotCell$Reader;I)V" } : Jvm.MethodName) prog_14_method_1_code (3 : Nat) (Option.none : Option Jvm.ClassFile.FieldType)) ∈ lw_all := lw_g (lw_at lw_m13 160 rfl) rfl
theorem q3134 : (Jvm.Cond.methodLinkNest "RobotCell$Reader$2" (11 : Nat) ({ cls := "RobotCell$Command", name := "<init>", desc := "()V" } : Jvm.MethodName) "RobotCell") ∈ lw_tbl := lw_at lw_m13 161 rfl
theorem q3135 : (Jvm.Cond.fieldLink "RobotCell$Reader$2" (7 : Nat) "RobotCell$Reader$2" "val$ticks" "I") ∈ lw_all := lw_g (lw_at lw_m13 162 rfl) rfl
theorem q3136 : (Jvm.Cond.fieldLink "RobotCell$Reader$2" (1 : Nat) "RobotCell$Reader$2" "this$1" "LRobotCell$Reader;") ∈ lw_all := lw_g (lw_at lw_m13 163 rfl) rfl
theorem q3137 : (Jvm.Cond.laysFinal "RobotCell$Reader$2" "RobotCell$Reader$2" "val$ticks" "I") ∈ lw_all := lw_g (lw_at lw_m13 164 rfl) rfl
theorem q3138 : (Jvm.Cond.soleField "RobotCell$Reader$2" "val$ticks") ∈ lw_all := lw_g (lw_at lw_m13 165 rfl) rfl
theorem q3139 : (Jvm.Cond.laysFinal "RobotCell$Reader$2" "RobotCell$Reader$2" "this$1" "LRobotCell$Reader;") ∈ lw_all := lw_g (lw_at lw_m13 166 rfl) rfl
theorem q3140 : (Jvm.Cond.soleField "RobotCell$Reader$2" "this$1") ∈ lw_all := lw_g (lw_at lw_m13 167 rfl) rfl
theorem q3141 : (Jvm.Cond.superclass "RobotCell$Reader$2" "RobotCell$Command") ∈ lw_all := lw_g (lw_at lw_m13 168 rfl) rfl
theorem q3172 : (Jvm.Cond.selects "RobotCell$Reader$2" ({ cls := "RobotCell$Command", name := "perform", desc := "(LRobotCell$Cell;)V" } : Jvm.MethodName) ({ cls := "RobotCell$Reader$2", name := "perform", desc := "(LRobotCell$Cell;)V" } : Jvm.MethodName)) ∈ lw_all := lw_g (lw_at lw_m13 199 rfl) rfl
theorem q3173 : (Jvm.Cond.instanceMethod ({ cls := "RobotCell$Reader$2", name := "perform", desc := "(LRobotCell$Cell;)V" } : Jvm.MethodName)) ∈ lw_all := lw_g (lw_at lw_m13 200 rfl) rfl
theorem q3174 : (Jvm.Cond.code ({ cls := "RobotCell$Reader$2", name := "perform", desc := "(LRobotCell$Cell;)V" } : Jvm.MethodName) prog_14_method_2_code (3 : Nat) (Option.none : Option Jvm.ClassFile.FieldType)) ∈ lw_all := lw_g (lw_at lw_m13 201 rfl) rfl
theorem q3175 : (Jvm.Cond.methodLinkNest "RobotCell$Reader$2" (17 : Nat) ({ cls := "RobotCell", name := "tickIn", desc := "(LRobotCell$Cell;I)I" } : Jvm.MethodName) "RobotCell") ∈ lw_tbl := lw_at lw_m13 202 rfl
theorem q3759 : (Jvm.Cond.castable "RobotCell$Reader$2" "RobotCell$Command") ∈ lw_tbl := lw_at lw_m16 66 rfl
theorem q3802 : (Jvm.Cond.castable "RobotCell$Reader$2" "java/lang/Object") ∈ lw_tbl := lw_at lw_m16 109 rfl
theorem in_X16 : ∀ w ∈ wsX160, w ∈ lw_all := lw_in wsX160 [3137, 3139] (by decide +kernel) (by decide +kernel)
/-! RobotCell$Reader$3 -/
set_option maxRecDepth 100000
def RX17 : String := "RobotCell$Reader$3"
def TX17 : u_T := fun k => match k with
  | 0 => ("RobotCell$Reader$3", "val$one", "I", true)
  | 1 => ("RobotCell$Reader$3", "val$other", "I", true)
  | _ => ("RobotCell$Reader$3", "this$1", "LRobotCell$Reader;", true)
def tyX17 : Nat → FieldType := fun k => match k with
  | 0 => .int
  | 1 => .int
  | _ => .object "RobotCell$Reader"
abbrev wsX170 : List Cond := u_ws RX17 TX17 3
theorem nmX17 : ∀ a, a < 3 → ∀ b, b < 3 → a ≠ b → (TX17 a).2.1 ≠ (TX17 b).2.1 := by decide +kernel
theorem tyX17_ok : ∀ k, k < 3 → parseFieldDescriptor (TX17 k).2.2.1 = some (tyX17 k) := by decide +kernel
abbrev cX17_init : ByteArray := prog_15_method_1_code
def yX17_init : MethodName := ⟨RX17, "<init>", "(LRobotCell$Reader;II)V"⟩
def dkwX17_init_0 : List UInt8 := [42, 43, 181, 0, 1, 42, 28, 181, 0, 7, 42, 29, 181, 0, 11, 42, 183, 0, 14, 177]
abbrev dktX17_init_0 : List UInt8 := dkwX17_init_0 ++ []
theorem dksX17_init_0 : cX17_init.data.toList.drop 0 = dktX17_init_0 := by decide +kernel
theorem dX17_init_0 : decode cX17_init 0 = .ok (.aload_n 0, 1) := dk_42 (dk_at dksX17_init_0 0 rfl rfl)
theorem dX17_init_1 : decode cX17_init 1 = .ok (.aload_n 1, 1) := dk_43 (dk_at dksX17_init_0 1 rfl rfl)
theorem dX17_init_2 : decode cX17_init 2 = .ok (.putfield 1, 3) := dk_181 0 1 (dk_at dksX17_init_0 2 rfl rfl)
theorem dX17_init_5 : decode cX17_init 5 = .ok (.aload_n 0, 1) := dk_42 (dk_at dksX17_init_0 5 rfl rfl)
theorem dX17_init_6 : decode cX17_init 6 = .ok (.iload_n 2, 1) := dk_28 (dk_at dksX17_init_0 6 rfl rfl)
theorem dX17_init_7 : decode cX17_init 7 = .ok (.putfield 7, 3) := dk_181 0 7 (dk_at dksX17_init_0 7 rfl rfl)
theorem dX17_init_10 : decode cX17_init 10 = .ok (.aload_n 0, 1) := dk_42 (dk_at dksX17_init_0 10 rfl rfl)
theorem dX17_init_11 : decode cX17_init 11 = .ok (.iload_n 3, 1) := dk_29 (dk_at dksX17_init_0 11 rfl rfl)
theorem dX17_init_12 : decode cX17_init 12 = .ok (.putfield 11, 3) := dk_181 0 11 (dk_at dksX17_init_0 12 rfl rfl)
theorem dX17_init_15 : decode cX17_init 15 = .ok (.aload_n 0, 1) := dk_42 (dk_at dksX17_init_0 15 rfl rfl)
theorem dX17_init_16 : decode cX17_init 16 = .ok (.invokespecial 14, 3) := dk_183 0 14 (dk_at dksX17_init_0 16 rfl rfl)
theorem dX17_init_19 : decode cX17_init 19 = .ok (.return_, 1) := dk_177 (dk_at dksX17_init_0 19 rfl rfl)
abbrev cX17_perform : ByteArray := prog_15_method_2_code
def yX17_perform : MethodName := ⟨RX17, "perform", "(LRobotCell$Cell;)V"⟩
def dkwX17_perform_1 : List UInt8 := [42, 180, 0, 7, 42, 180, 0, 11, 28, 154, 0, 7, 4, 167, 0, 4, 3, 184, 0, 37, 61, 177]
abbrev dktX17_perform_1 : List UInt8 := dkwX17_perform_1 ++ []
def dkwX17_perform_0 : List UInt8 := [43, 180, 0, 20, 187, 0, 26, 89, 42, 180, 0, 7, 42, 180, 0, 11, 183, 0, 28, 182, 0, 31, 61, 43]
abbrev dktX17_perform_0 : List UInt8 := dkwX17_perform_0 ++ dktX17_perform_1
theorem dksX17_perform_0 : cX17_perform.data.toList.drop 0 = dktX17_perform_0 := by decide +kernel
theorem dksX17_perform_1 : cX17_perform.data.toList.drop 24 = dktX17_perform_1 := dk_seg dksX17_perform_0 24 rfl rfl
theorem dX17_perform_0 : decode cX17_perform 0 = .ok (.aload_n 1, 1) := dk_43 (dk_at dksX17_perform_0 0 rfl rfl)
theorem dX17_perform_1 : decode cX17_perform 1 = .ok (.getfield 20, 3) := dk_180 0 20 (dk_at dksX17_perform_0 1 rfl rfl)
theorem dX17_perform_4 : decode cX17_perform 4 = .ok (.new 26, 3) := dk_187 0 26 (dk_at dksX17_perform_0 4 rfl rfl)
theorem dX17_perform_7 : decode cX17_perform 7 = .ok (.dup, 1) := dk_89 (dk_at dksX17_perform_0 7 rfl rfl)
theorem dX17_perform_8 : decode cX17_perform 8 = .ok (.aload_n 0, 1) := dk_42 (dk_at dksX17_perform_0 8 rfl rfl)
theorem dX17_perform_9 : decode cX17_perform 9 = .ok (.getfield 7, 3) := dk_180 0 7 (dk_at dksX17_perform_0 9 rfl rfl)
theorem dX17_perform_12 : decode cX17_perform 12 = .ok (.aload_n 0, 1) := dk_42 (dk_at dksX17_perform_0 12 rfl rfl)
theorem dX17_perform_13 : decode cX17_perform 13 = .ok (.getfield 11, 3) := dk_180 0 11 (dk_at dksX17_perform_0 13 rfl rfl)
theorem dX17_perform_16 : decode cX17_perform 16 = .ok (.invokespecial 28, 3) := dk_183 0 28 (dk_at dksX17_perform_0 16 rfl rfl)
theorem dX17_perform_19 : decode cX17_perform 19 = .ok (.invokevirtual 31, 3) := dk_182 0 31 (dk_at dksX17_perform_0 19 rfl rfl)
theorem dX17_perform_22 : decode cX17_perform 22 = .ok (.istore_n 2, 1) := dk_61 (dk_at dksX17_perform_0 22 rfl rfl)
theorem dX17_perform_23 : decode cX17_perform 23 = .ok (.aload_n 1, 1) := dk_43 (dk_at dksX17_perform_0 23 rfl rfl)
theorem dX17_perform_24 : decode cX17_perform 24 = .ok (.aload_n 0, 1) := dk_42 (dk_at dksX17_perform_1 0 rfl rfl)
theorem dX17_perform_25 : decode cX17_perform 25 = .ok (.getfield 7, 3) := dk_180 0 7 (dk_at dksX17_perform_1 1 rfl rfl)
theorem dX17_perform_28 : decode cX17_perform 28 = .ok (.aload_n 0, 1) := dk_42 (dk_at dksX17_perform_1 4 rfl rfl)
theorem dX17_perform_29 : decode cX17_perform 29 = .ok (.getfield 11, 3) := dk_180 0 11 (dk_at dksX17_perform_1 5 rfl rfl)
theorem dX17_perform_32 : decode cX17_perform 32 = .ok (.iload_n 2, 1) := dk_28 (dk_at dksX17_perform_1 8 rfl rfl)
theorem dX17_perform_33 : decode cX17_perform 33 = .ok (.ifCond .ne 7, 3) := dk_154 0 7 (dk_at dksX17_perform_1 9 rfl rfl)
theorem dX17_perform_36 : decode cX17_perform 36 = .ok (.iconst 1, 1) := dk_4 (dk_at dksX17_perform_1 12 rfl rfl)
theorem dX17_perform_37 : decode cX17_perform 37 = .ok (.goto 4, 3) := dk_167 0 4 (dk_at dksX17_perform_1 13 rfl rfl)
theorem dX17_perform_40 : decode cX17_perform 40 = .ok (.iconst 0, 1) := dk_3 (dk_at dksX17_perform_1 16 rfl rfl)
theorem dX17_perform_41 : decode cX17_perform 41 = .ok (.invokestatic 37, 3) := dk_184 0 37 (dk_at dksX17_perform_1 17 rfl rfl)
theorem dX17_perform_44 : decode cX17_perform 44 = .ok (.istore_n 2, 1) := dk_61 (dk_at dksX17_perform_1 20 rfl rfl)
theorem dX17_perform_45 : decode cX17_perform 45 = .ok (.return_, 1) := dk_177 (dk_at dksX17_perform_1 21 rfl rfl)
theorem q163 : (Jvm.Cond.initialized "RobotCell$Reader$3") ∈ lw_all := lw_g (lw_at lw_m1 70 rfl) rfl
theorem q871 : (Jvm.Cond.selects "RobotCell$Reader$3" ({ cls := "java/lang/Object", name := "toString", desc := "()Ljava/lang/String;" } : Jvm.MethodName) ({ cls := "java/lang/Object", name := "toString", desc := "()Ljava/lang/String;" } : Jvm.MethodName)) ∈ lw_all := lw_g (lw_at lw_m4 58 rfl) rfl
theorem q891 : (Jvm.Cond.selects "RobotCell$Reader$3" ({ cls := "java/lang/Object", name := "getClass", desc := "()Ljava/lang/Class;" } : Jvm.MethodName) ({ cls := "java/lang/Object", name := "getClass", desc := "()Ljava/lang/Class;" } : Jvm.MethodName)) ∈ lw_all := lw_g (lw_at lw_m4 78 rfl) rfl
theorem q1235 : (Jvm.Cond.fieldLinkNest "RobotCell$Reader$3" (20 : Nat) "RobotCell$Cell" "interlocks" "Ljava/util/LinkedHashSet;" "RobotCell") ∈ lw_tbl := lw_at lw_m5 182 rfl
theorem q1665 : (Jvm.Cond.selects "RobotCell$Reader$3" ({ cls := "java/lang/Object", name := "hashCode", desc := "()I" } : Jvm.MethodName) ({ cls := "java/lang/Object", name := "hashCode", desc := "()I" } : Jvm.MethodName)) ∈ lw_all := lw_g (lw_at lw_m7 132 rfl) rfl
theorem q2077 : (Jvm.Cond.selects "RobotCell$Reader$3" ({ cls := "java/lang/Object", name := "equals", desc := "(Ljava/lang/Object;)Z" } : Jvm.MethodName) ({ cls := "java/lang/Object", name := "equals", desc := "(Ljava/lang/Object;)Z" } : Jvm.MethodName)) ∈ lw_all := lw_g (lw_at lw_m9 64 rfl) rfl
theorem q3147 : (Jvm.Cond.instantiable "RobotCell$Reader$3" (3 : Nat)) ∈ lw_all := lw_g (lw_at lw_m13 174 rfl) rfl
theorem q3149 : (Jvm.Cond.instanceMethod ({ cls := "RobotCell$Reader$3", name := "<init>", desc := "(LRobotCell$Reader;II)V" } : Jvm.MethodName)) ∈ lw_all := lw_g (lw_at lw_m13 176 rfl) rfl
theorem q3150 : (Jvm.Cond.code ({ cls := "RobotCell$Reader$3", name := "<init>", desc := "(LRobotCell$Reader;II)V" } : Jvm.MethodName) prog_15_method_1_code (4 : Nat) (Option.none : Option Jvm.ClassFile.FieldType)) ∈ lw_all := lw_g (lw_at lw_m13 177 rfl) rfl
theorem q3151 : (Jvm.Cond.methodLinkNest "RobotCell$Reader$3" (14 : Nat) ({ cls := "RobotCell$Command", name := "<init>", desc := "()V" } : Jvm.MethodName) "RobotCell") ∈ lw_tbl := lw_at lw_m13 178 rfl
theorem q3152 : (Jvm.Cond.fieldLink "RobotCell$Reader$3" (7 : Nat) "RobotCell$Reader$3" "val$one" "I") ∈ lw_all := lw_g (lw_at lw_m13 179 rfl) rfl
theorem q3153 : (Jvm.Cond.fieldLink "RobotCell$Reader$3" (11 : Nat) "RobotCell$Reader$3" "val$other" "I") ∈ lw_all := lw_g (lw_at lw_m13 180 rfl) rfl
theorem q3154 : (Jvm.Cond.fieldLink "RobotCell$Reader$3" (1 : Nat) "RobotCell$Reader$3" "this$1" "LRobotCell$Reader;") ∈ lw_all := lw_g (lw_at lw_m13 181 rfl) rfl
theorem q3155 : (Jvm.Cond.laysFinal "RobotCell$Reader$3" "RobotCell$Reader$3" "val$one" "I") ∈ lw_all := lw_g (lw_at lw_m13 182 rfl) rfl
theorem q3156 : (Jvm.Cond.soleField "RobotCell$Reader$3" "val$one") ∈ lw_all := lw_g (lw_at lw_m13 183 rfl) rfl
theorem q3157 : (Jvm.Cond.laysFinal "RobotCell$Reader$3" "RobotCell$Reader$3" "val$other" "I") ∈ lw_all := lw_g (lw_at lw_m13 184 rfl) rfl
theorem q3158 : (Jvm.Cond.soleField "RobotCell$Reader$3" "val$other") ∈ lw_all := lw_g (lw_at lw_m13 185 rfl) rfl
theorem q3159 : (Jvm.Cond.laysFinal "RobotCell$Reader$3" "RobotCell$Reader$3" "this$1" "LRobotCell$Reader;") ∈ lw_all := lw_g (lw_at lw_m13 186 rfl) rfl
theorem q3160 : (Jvm.Cond.soleField "RobotCell$Reader$3" "this$1") ∈ lw_all := lw_g (lw_at lw_m13 187 rfl) rfl
theorem q3161 : (Jvm.Cond.superclass "RobotCell$Reader$3" "RobotCell$Command") ∈ lw_all := lw_g (lw_at lw_m13 188 rfl) rfl
theorem q3176 : (Jvm.Cond.selects "RobotCell$Reader$3" ({ cls := "RobotCell$Command", name := "perform", desc := "(LRobotCell$Cell;)V" } : Jvm.MethodName) ({ cls := "RobotCell$Reader$3", name := "perform", desc := "(LRobotCell$Cell;)V" } : Jvm.MethodName)) ∈ lw_all := lw_g (lw_at lw_m13 203 rfl) rfl
theorem q3177 : (Jvm.Cond.instanceMethod ({ cls := "RobotCell$Reader$3", name := "perform", desc := "(LRobotCell$Cell;)V" } : Jvm.MethodName)) ∈ lw_all := lw_g (lw_at lw_m13 204 rfl) rfl
theorem q3178 : (Jvm.Cond.code ({ cls := "RobotCell$Reader$3", name := "perform", desc := "(LRobotCell$Cell;)V" } : Jvm.MethodName) prog_15_method_2_code (3 : Nat) (Option.none : Option Jvm.ClassFile.FieldType)) ∈ lw_all := lw_g (lw_at lw_m13 205 rfl) rfl
theorem q3179 : (Jvm.Cond.classLink "RobotCell$Reader$3" (26 : Nat) "RobotCell$Interlock") ∈ lw_all := lw_g (lw_at lw_m13 206 rfl) rfl
theorem q3180 : (Jvm.Cond.methodLink "RobotCell$Reader$3" (28 : Nat) ({ cls := "RobotCell$Interlock", name := "<init>", desc := "(II)V" } : Jvm.MethodName)) ∈ lw_all := lw_g (lw_at lw_m13 207 rfl) rfl
theorem q3181 : (Jvm.Cond.methodLink "RobotCell$Reader$3" (31 : Nat) ({ cls := "java/util/LinkedHashSet", name := "contains", desc := "(Ljava/lang/Object;)Z" } : Jvm.MethodName)) ∈ lw_all := lw_g (lw_at lw_m13 208 rfl) rfl
theorem q3182 : (Jvm.Cond.methodLinkNest "RobotCell$Reader$3" (37 : Nat) ({ cls := "RobotCell", name := "setInterlockIn", desc := "(LRobotCell$Cell;IIZ)Z" } : Jvm.MethodName) "RobotCell") ∈ lw_tbl := lw_at lw_m13 209 rfl
theorem q3760 : (Jvm.Cond.castable "RobotCell$Reader$3" "RobotCell$Command") ∈ lw_tbl := lw_at lw_m16 67 rfl
theorem q3803 : (Jvm.Cond.castable "RobotCell$Reader$3" "java/lang/Object") ∈ lw_tbl := lw_at lw_m16 110 rfl
theorem in_X17 : ∀ w ∈ wsX170, w ∈ lw_all := lw_in wsX170 [3155, 3157, 3159] (by decide +kernel) (by decide +kernel)
