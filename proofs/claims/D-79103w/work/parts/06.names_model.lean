/-! RobotCellModel -/
set_option maxRecDepth 100000
def RX5 : String := "RobotCellModel"
def TX5 : u_T := fun k => match k with
  | 0 => ("RobotCellModel", "thrown", "I", false)
  | 1 => ("RobotCellModel", "interlock", "[I", true)
  | 2 => ("RobotCellModel", "heldTicks", "[I", true)
  | 3 => ("RobotCellModel", "capacity", "[I", true)
  | 4 => ("RobotCellModel", "partMany", "[I", true)
  | 5 => ("RobotCellModel", "parts", "[I", true)
  | 6 => ("RobotCellModel", "promisedPlaces", "[I", true)
  | 7 => ("RobotCellModel", "promisedParts", "[I", true)
  | 8 => ("RobotCellModel", "came", "[I", true)
  | 9 => ("RobotCellModel", "gone", "[I", true)
  | 10 => ("RobotCellModel", "reach", "[I", true)
  | 11 => ("RobotCellModel", "rowMany", "[I", true)
  | 12 => ("RobotCellModel", "row", "[I", true)
  | 13 => ("RobotCellModel", "active", "[I", true)
  | 14 => ("RobotCellModel", "state", "[I", true)
  | 15 => ("RobotCellModel", "pos", "[I", true)
  | 16 => ("RobotCellModel", "toGo", "[I", true)
  | 17 => ("RobotCellModel", "patience", "[I", true)
  | 18 => ("RobotCellModel", "why", "[I", true)
  | 19 => ("RobotCellModel", "detail", "[I", true)
  | 20 => ("RobotCellModel", "refusals", "[I", true)
  | 21 => ("RobotCellModel", "busy", "[I", true)
  | 22 => ("RobotCellModel", "jobArm", "[I", true)
  | 23 => ("RobotCellModel", "jobPath", "[I", true)
  | 24 => ("RobotCellModel", "jobSize", "[I", true)
  | 25 => ("RobotCellModel", "jobWork", "[I", true)
  | 26 => ("RobotCellModel", "jobWeight", "[I", true)
  | 27 => ("RobotCellModel", "jobSource", "[I", true)
  | 28 => ("RobotCellModel", "jobTarget", "[I", true)
  | 29 => ("RobotCellModel", "jobState", "[I", true)
  | 30 => ("RobotCellModel", "startedAt", "[I", true)
  | 31 => ("RobotCellModel", "endedAt", "[I", true)
  | 32 => ("RobotCellModel", "log", "[I", true)
  | 33 => ("RobotCellModel", "time", "I", false)
  | 34 => ("RobotCellModel", "jobs", "I", false)
  | 35 => ("RobotCellModel", "newParts", "I", false)
  | 36 => ("RobotCellModel", "lostParts", "I", false)
  | 37 => ("RobotCellModel", "ended", "I", false)
  | 38 => ("RobotCellModel", "withdrawn", "I", false)
  | 39 => ("RobotCellModel", "durations", "I", false)
  | 40 => ("RobotCellModel", "logMany", "I", false)
  | 41 => ("RobotCellModel", "heldBy", "[I", true)
  | 42 => ("RobotCellModel", "jobOf", "[I", true)
  | 43 => ("RobotCellModel", "firstOf", "[I", true)
  | 44 => ("RobotCellModel", "reasonNow", "I", false)
  | 45 => ("RobotCellModel", "detailNow", "I", false)
  | 46 => ("RobotCellModel", "isRefusedNow", "Z", false)
  | 47 => ("RobotCellModel", "turn", "[I", true)
  | 48 => ("RobotCellModel", "text", "[I", true)
  | 49 => ("RobotCellModel", "kind", "[I", true)
  | 50 => ("RobotCellModel", "number", "[I", true)
  | 51 => ("RobotCellModel", "length", "I", false)
  | 52 => ("RobotCellModel", "at", "I", false)
  | 53 => ("RobotCellModel", "commands", "I", false)
  | 54 => ("RobotCellModel", "digit", "I", false)
  | 55 => ("RobotCellModel", "earlier", "[I", true)
  | 56 => ("RobotCellModel", "saved", "[I", true)
  | 57 => ("RobotCellModel", "scratch", "[I", true)
  | 58 => ("RobotCellModel", "undone", "[I", true)
  | 59 => ("RobotCellModel", "changes", "I", false)
  | 60 => ("RobotCellModel", "cursor", "I", false)
  | 61 => ("RobotCellModel", "isSaved", "Z", false)
  | _ => ("RobotCellModel", "isKeeping", "Z", false)
def tyX5 : Nat → FieldType := fun k => match k with
  | 0 => .int
  | 1 => .array .int
  | 2 => .array .int
  | 3 => .array .int
  | 4 => .array .int
  | 5 => .array .int
  | 6 => .array .int
  | 7 => .array .int
  | 8 => .array .int
  | 9 => .array .int
  | 10 => .array .int
  | 11 => .array .int
  | 12 => .array .int
  | 13 => .array .int
  | 14 => .array .int
  | 15 => .array .int
  | 16 => .array .int
  | 17 => .array .int
  | 18 => .array .int
  | 19 => .array .int
  | 20 => .array .int
  | 21 => .array .int
  | 22 => .array .int
  | 23 => .array .int
  | 24 => .array .int
  | 25 => .array .int
  | 26 => .array .int
  | 27 => .array .int
  | 28 => .array .int
  | 29 => .array .int
  | 30 => .array .int
  | 31 => .array .int
  | 32 => .array .int
  | 33 => .int
  | 34 => .int
  | 35 => .int
  | 36 => .int
  | 37 => .int
  | 38 => .int
  | 39 => .int
  | 40 => .int
  | 41 => .array .int
  | 42 => .array .int
  | 43 => .array .int
  | 44 => .int
  | 45 => .int
  | 46 => .boolean
  | 47 => .array .int
  | 48 => .array .int
  | 49 => .array .int
  | 50 => .array .int
  | 51 => .int
  | 52 => .int
  | 53 => .int
  | 54 => .int
  | 55 => .array .int
  | 56 => .array .int
  | 57 => .array .int
  | 58 => .array .int
  | 59 => .int
  | 60 => .int
  | 61 => .boolean
  | _ => .boolean
abbrev wsX50 : List Cond := u_ws RX5 TX5 63
set_option maxRecDepth 100000 in
theorem nmX5 : ∀ a, a < 63 → ∀ b, b < 63 → a ≠ b → (TX5 a).2.1 ≠ (TX5 b).2.1 := by decide +kernel
set_option maxRecDepth 100000 in
theorem tyX5_ok : ∀ k, k < 63 → parseFieldDescriptor (TX5 k).2.2.1 = some (tyX5 k) := by decide +kernel
abbrev cX5_init : ByteArray := prog_18_method_1_code
def yX5_init : MethodName := ⟨RX5, "<init>", "()V"⟩
def dkwX5_init_16 : List UInt8 := [132, 1, 1, 167, 255, 241, 177]
abbrev dktX5_init_16 : List UInt8 := dkwX5_init_16 ++ []
def dkwX5_init_15 : List UInt8 := [2, 79, 132, 1, 1, 167, 255, 232, 3, 60, 27, 6, 162, 0, 16, 42, 180, 0, 16, 27, 5, 79]
abbrev dktX5_init_15 : List UInt8 := dkwX5_init_15 ++ dktX5_init_16
def dkwX5_init_14 : List UInt8 := [181, 0, 136, 3, 60, 27, 6, 162, 0, 25, 42, 180, 0, 37, 27, 17, 0, 255, 79, 42, 180, 0, 46, 27]
abbrev dktX5_init_14 : List UInt8 := dkwX5_init_14 ++ dktX5_init_15
def dkwX5_init_13 : List UInt8 := [17, 2, 61, 188, 10, 181, 0, 130, 42, 17, 2, 61, 188, 10, 181, 0, 133, 42, 17, 2, 61, 188, 10]
abbrev dktX5_init_13 : List UInt8 := dkwX5_init_13 ++ dktX5_init_14
def dkwX5_init_12 : List UInt8 := [188, 10, 181, 0, 121, 42, 17, 0, 240, 188, 10, 181, 0, 124, 42, 17, 13, 110, 188, 10, 181, 0, 127, 42]
abbrev dktX5_init_12 : List UInt8 := dkwX5_init_12 ++ dktX5_init_13
def dkwX5_init_11 : List UInt8 := [188, 10, 181, 0, 112, 42, 6, 188, 10, 181, 0, 115, 42, 16, 80, 188, 10, 181, 0, 118, 42, 16, 40]
abbrev dktX5_init_11 : List UInt8 := dkwX5_init_11 ++ dktX5_init_12
def dkwX5_init_10 : List UInt8 := [16, 96, 188, 10, 181, 0, 103, 42, 6, 188, 10, 181, 0, 106, 42, 6, 188, 10, 181, 0, 109, 42, 6]
abbrev dktX5_init_10 : List UInt8 := dkwX5_init_10 ++ dktX5_init_11
def dkwX5_init_9 : List UInt8 := [16, 30, 188, 10, 181, 0, 94, 42, 16, 30, 188, 10, 181, 0, 97, 42, 16, 30, 188, 10, 181, 0, 100, 42]
abbrev dktX5_init_9 : List UInt8 := dkwX5_init_9 ++ dktX5_init_10
def dkwX5_init_8 : List UInt8 := [16, 30, 188, 10, 181, 0, 85, 42, 16, 30, 188, 10, 181, 0, 88, 42, 16, 30, 188, 10, 181, 0, 91, 42]
abbrev dktX5_init_8 : List UInt8 := dkwX5_init_8 ++ dktX5_init_9
def dkwX5_init_7 : List UInt8 := [16, 30, 188, 10, 181, 0, 76, 42, 16, 30, 188, 10, 181, 0, 79, 42, 16, 30, 188, 10, 181, 0, 82, 42]
abbrev dktX5_init_7 : List UInt8 := dkwX5_init_7 ++ dktX5_init_8
def dkwX5_init_6 : List UInt8 := [42, 6, 188, 10, 181, 0, 67, 42, 6, 188, 10, 181, 0, 70, 42, 16, 30, 188, 10, 181, 0, 73, 42]
abbrev dktX5_init_6 : List UInt8 := dkwX5_init_6 ++ dktX5_init_7
def dkwX5_init_5 : List UInt8 := [181, 0, 55, 42, 6, 188, 10, 181, 0, 58, 42, 6, 188, 10, 181, 0, 61, 42, 6, 188, 10, 181, 0, 64]
abbrev dktX5_init_5 : List UInt8 := dkwX5_init_5 ++ dktX5_init_6
def dkwX5_init_4 : List UInt8 := [188, 10, 181, 0, 46, 42, 6, 188, 10, 181, 0, 49, 42, 6, 188, 10, 181, 0, 52, 42, 6, 188, 10]
abbrev dktX5_init_4 : List UInt8 := dkwX5_init_4 ++ dktX5_init_5
def dkwX5_init_3 : List UInt8 := [42, 6, 188, 10, 181, 0, 37, 42, 6, 188, 10, 181, 0, 40, 42, 16, 90, 188, 10, 181, 0, 43, 42, 6]
abbrev dktX5_init_3 : List UInt8 := dkwX5_init_3 ++ dktX5_init_4
def dkwX5_init_2 : List UInt8 := [181, 0, 25, 42, 6, 188, 10, 181, 0, 28, 42, 6, 188, 10, 181, 0, 31, 42, 6, 188, 10, 181, 0, 34]
abbrev dktX5_init_2 : List UInt8 := dkwX5_init_2 ++ dktX5_init_3
def dkwX5_init_1 : List UInt8 := [181, 0, 16, 42, 6, 188, 10, 181, 0, 19, 42, 16, 12, 188, 10, 181, 0, 22, 42, 6, 188, 10]
abbrev dktX5_init_1 : List UInt8 := dkwX5_init_1 ++ dktX5_init_2
def dkwX5_init_0 : List UInt8 := [42, 183, 0, 1, 42, 16, 8, 188, 10, 181, 0, 7, 42, 16, 8, 188, 10, 181, 0, 13, 42, 6, 188, 10]
abbrev dktX5_init_0 : List UInt8 := dkwX5_init_0 ++ dktX5_init_1
theorem dksX5_init_0 : cX5_init.data.toList.drop 0 = dktX5_init_0 := by decide +kernel
theorem dksX5_init_1 : cX5_init.data.toList.drop 24 = dktX5_init_1 := dk_seg dksX5_init_0 24 rfl rfl
theorem dksX5_init_2 : cX5_init.data.toList.drop 46 = dktX5_init_2 := dk_seg dksX5_init_1 22 rfl rfl
theorem dksX5_init_3 : cX5_init.data.toList.drop 70 = dktX5_init_3 := dk_seg dksX5_init_2 24 rfl rfl
theorem dksX5_init_4 : cX5_init.data.toList.drop 94 = dktX5_init_4 := dk_seg dksX5_init_3 24 rfl rfl
theorem dksX5_init_5 : cX5_init.data.toList.drop 117 = dktX5_init_5 := dk_seg dksX5_init_4 23 rfl rfl
theorem dksX5_init_6 : cX5_init.data.toList.drop 141 = dktX5_init_6 := dk_seg dksX5_init_5 24 rfl rfl
theorem dksX5_init_7 : cX5_init.data.toList.drop 164 = dktX5_init_7 := dk_seg dksX5_init_6 23 rfl rfl
theorem dksX5_init_8 : cX5_init.data.toList.drop 188 = dktX5_init_8 := dk_seg dksX5_init_7 24 rfl rfl
theorem dksX5_init_9 : cX5_init.data.toList.drop 212 = dktX5_init_9 := dk_seg dksX5_init_8 24 rfl rfl
theorem dksX5_init_10 : cX5_init.data.toList.drop 236 = dktX5_init_10 := dk_seg dksX5_init_9 24 rfl rfl
theorem dksX5_init_11 : cX5_init.data.toList.drop 259 = dktX5_init_11 := dk_seg dksX5_init_10 23 rfl rfl
theorem dksX5_init_12 : cX5_init.data.toList.drop 282 = dktX5_init_12 := dk_seg dksX5_init_11 23 rfl rfl
theorem dksX5_init_13 : cX5_init.data.toList.drop 306 = dktX5_init_13 := dk_seg dksX5_init_12 24 rfl rfl
theorem dksX5_init_14 : cX5_init.data.toList.drop 329 = dktX5_init_14 := dk_seg dksX5_init_13 23 rfl rfl
theorem dksX5_init_15 : cX5_init.data.toList.drop 353 = dktX5_init_15 := dk_seg dksX5_init_14 24 rfl rfl
theorem dksX5_init_16 : cX5_init.data.toList.drop 375 = dktX5_init_16 := dk_seg dksX5_init_15 22 rfl rfl
theorem dX5_init_0 : decode cX5_init 0 = .ok (.aload_n 0, 1) := dk_42 (dk_at dksX5_init_0 0 rfl rfl)
theorem dX5_init_1 : decode cX5_init 1 = .ok (.invokespecial 1, 3) := dk_183 0 1 (dk_at dksX5_init_0 1 rfl rfl)
theorem dX5_init_4 : decode cX5_init 4 = .ok (.aload_n 0, 1) := dk_42 (dk_at dksX5_init_0 4 rfl rfl)
theorem dX5_init_5 : decode cX5_init 5 = .ok (.bipush 8, 2) := dk_16 8 (dk_at dksX5_init_0 5 rfl rfl)
theorem dX5_init_7 : decode cX5_init 7 = .ok (.newarray .int, 2) := dk_188_10 (dk_at dksX5_init_0 7 rfl rfl)
theorem dX5_init_9 : decode cX5_init 9 = .ok (.putfield 7, 3) := dk_181 0 7 (dk_at dksX5_init_0 9 rfl rfl)
theorem dX5_init_12 : decode cX5_init 12 = .ok (.aload_n 0, 1) := dk_42 (dk_at dksX5_init_0 12 rfl rfl)
theorem dX5_init_13 : decode cX5_init 13 = .ok (.bipush 8, 2) := dk_16 8 (dk_at dksX5_init_0 13 rfl rfl)
theorem dX5_init_15 : decode cX5_init 15 = .ok (.newarray .int, 2) := dk_188_10 (dk_at dksX5_init_0 15 rfl rfl)
theorem dX5_init_17 : decode cX5_init 17 = .ok (.putfield 13, 3) := dk_181 0 13 (dk_at dksX5_init_0 17 rfl rfl)
theorem dX5_init_20 : decode cX5_init 20 = .ok (.aload_n 0, 1) := dk_42 (dk_at dksX5_init_0 20 rfl rfl)
theorem dX5_init_21 : decode cX5_init 21 = .ok (.iconst 3, 1) := dk_6 (dk_at dksX5_init_0 21 rfl rfl)
theorem dX5_init_22 : decode cX5_init 22 = .ok (.newarray .int, 2) := dk_188_10 (dk_at dksX5_init_0 22 rfl rfl)
theorem dX5_init_24 : decode cX5_init 24 = .ok (.putfield 16, 3) := dk_181 0 16 (dk_at dksX5_init_1 0 rfl rfl)
theorem dX5_init_27 : decode cX5_init 27 = .ok (.aload_n 0, 1) := dk_42 (dk_at dksX5_init_1 3 rfl rfl)
theorem dX5_init_28 : decode cX5_init 28 = .ok (.iconst 3, 1) := dk_6 (dk_at dksX5_init_1 4 rfl rfl)
theorem dX5_init_29 : decode cX5_init 29 = .ok (.newarray .int, 2) := dk_188_10 (dk_at dksX5_init_1 5 rfl rfl)
theorem dX5_init_31 : decode cX5_init 31 = .ok (.putfield 19, 3) := dk_181 0 19 (dk_at dksX5_init_1 7 rfl rfl)
theorem dX5_init_34 : decode cX5_init 34 = .ok (.aload_n 0, 1) := dk_42 (dk_at dksX5_init_1 10 rfl rfl)
theorem dX5_init_35 : decode cX5_init 35 = .ok (.bipush 12, 2) := dk_16 12 (dk_at dksX5_init_1 11 rfl rfl)
theorem dX5_init_37 : decode cX5_init 37 = .ok (.newarray .int, 2) := dk_188_10 (dk_at dksX5_init_1 13 rfl rfl)
theorem dX5_init_39 : decode cX5_init 39 = .ok (.putfield 22, 3) := dk_181 0 22 (dk_at dksX5_init_1 15 rfl rfl)
theorem dX5_init_42 : decode cX5_init 42 = .ok (.aload_n 0, 1) := dk_42 (dk_at dksX5_init_1 18 rfl rfl)
theorem dX5_init_43 : decode cX5_init 43 = .ok (.iconst 3, 1) := dk_6 (dk_at dksX5_init_1 19 rfl rfl)
theorem dX5_init_44 : decode cX5_init 44 = .ok (.newarray .int, 2) := dk_188_10 (dk_at dksX5_init_1 20 rfl rfl)
theorem dX5_init_46 : decode cX5_init 46 = .ok (.putfield 25, 3) := dk_181 0 25 (dk_at dksX5_init_2 0 rfl rfl)
theorem dX5_init_49 : decode cX5_init 49 = .ok (.aload_n 0, 1) := dk_42 (dk_at dksX5_init_2 3 rfl rfl)
theorem dX5_init_50 : decode cX5_init 50 = .ok (.iconst 3, 1) := dk_6 (dk_at dksX5_init_2 4 rfl rfl)
theorem dX5_init_51 : decode cX5_init 51 = .ok (.newarray .int, 2) := dk_188_10 (dk_at dksX5_init_2 5 rfl rfl)
theorem dX5_init_53 : decode cX5_init 53 = .ok (.putfield 28, 3) := dk_181 0 28 (dk_at dksX5_init_2 7 rfl rfl)
theorem dX5_init_56 : decode cX5_init 56 = .ok (.aload_n 0, 1) := dk_42 (dk_at dksX5_init_2 10 rfl rfl)
theorem dX5_init_57 : decode cX5_init 57 = .ok (.iconst 3, 1) := dk_6 (dk_at dksX5_init_2 11 rfl rfl)
theorem dX5_init_58 : decode cX5_init 58 = .ok (.newarray .int, 2) := dk_188_10 (dk_at dksX5_init_2 12 rfl rfl)
theorem dX5_init_60 : decode cX5_init 60 = .ok (.putfield 31, 3) := dk_181 0 31 (dk_at dksX5_init_2 14 rfl rfl)
theorem dX5_init_63 : decode cX5_init 63 = .ok (.aload_n 0, 1) := dk_42 (dk_at dksX5_init_2 17 rfl rfl)
theorem dX5_init_64 : decode cX5_init 64 = .ok (.iconst 3, 1) := dk_6 (dk_at dksX5_init_2 18 rfl rfl)
theorem dX5_init_65 : decode cX5_init 65 = .ok (.newarray .int, 2) := dk_188_10 (dk_at dksX5_init_2 19 rfl rfl)
theorem dX5_init_67 : decode cX5_init 67 = .ok (.putfield 34, 3) := dk_181 0 34 (dk_at dksX5_init_2 21 rfl rfl)
theorem dX5_init_70 : decode cX5_init 70 = .ok (.aload_n 0, 1) := dk_42 (dk_at dksX5_init_3 0 rfl rfl)
theorem dX5_init_71 : decode cX5_init 71 = .ok (.iconst 3, 1) := dk_6 (dk_at dksX5_init_3 1 rfl rfl)
theorem dX5_init_72 : decode cX5_init 72 = .ok (.newarray .int, 2) := dk_188_10 (dk_at dksX5_init_3 2 rfl rfl)
theorem dX5_init_74 : decode cX5_init 74 = .ok (.putfield 37, 3) := dk_181 0 37 (dk_at dksX5_init_3 4 rfl rfl)
theorem dX5_init_77 : decode cX5_init 77 = .ok (.aload_n 0, 1) := dk_42 (dk_at dksX5_init_3 7 rfl rfl)
theorem dX5_init_78 : decode cX5_init 78 = .ok (.iconst 3, 1) := dk_6 (dk_at dksX5_init_3 8 rfl rfl)
theorem dX5_init_79 : decode cX5_init 79 = .ok (.newarray .int, 2) := dk_188_10 (dk_at dksX5_init_3 9 rfl rfl)
theorem dX5_init_81 : decode cX5_init 81 = .ok (.putfield 40, 3) := dk_181 0 40 (dk_at dksX5_init_3 11 rfl rfl)
theorem dX5_init_84 : decode cX5_init 84 = .ok (.aload_n 0, 1) := dk_42 (dk_at dksX5_init_3 14 rfl rfl)
theorem dX5_init_85 : decode cX5_init 85 = .ok (.bipush 90, 2) := dk_16 90 (dk_at dksX5_init_3 15 rfl rfl)
theorem dX5_init_87 : decode cX5_init 87 = .ok (.newarray .int, 2) := dk_188_10 (dk_at dksX5_init_3 17 rfl rfl)
theorem dX5_init_89 : decode cX5_init 89 = .ok (.putfield 43, 3) := dk_181 0 43 (dk_at dksX5_init_3 19 rfl rfl)
theorem dX5_init_92 : decode cX5_init 92 = .ok (.aload_n 0, 1) := dk_42 (dk_at dksX5_init_3 22 rfl rfl)
theorem dX5_init_93 : decode cX5_init 93 = .ok (.iconst 3, 1) := dk_6 (dk_at dksX5_init_3 23 rfl rfl)
theorem dX5_init_94 : decode cX5_init 94 = .ok (.newarray .int, 2) := dk_188_10 (dk_at dksX5_init_4 0 rfl rfl)
theorem dX5_init_96 : decode cX5_init 96 = .ok (.putfield 46, 3) := dk_181 0 46 (dk_at dksX5_init_4 2 rfl rfl)
theorem dX5_init_99 : decode cX5_init 99 = .ok (.aload_n 0, 1) := dk_42 (dk_at dksX5_init_4 5 rfl rfl)
theorem dX5_init_100 : decode cX5_init 100 = .ok (.iconst 3, 1) := dk_6 (dk_at dksX5_init_4 6 rfl rfl)
theorem dX5_init_101 : decode cX5_init 101 = .ok (.newarray .int, 2) := dk_188_10 (dk_at dksX5_init_4 7 rfl rfl)
theorem dX5_init_103 : decode cX5_init 103 = .ok (.putfield 49, 3) := dk_181 0 49 (dk_at dksX5_init_4 9 rfl rfl)
theorem dX5_init_106 : decode cX5_init 106 = .ok (.aload_n 0, 1) := dk_42 (dk_at dksX5_init_4 12 rfl rfl)
theorem dX5_init_107 : decode cX5_init 107 = .ok (.iconst 3, 1) := dk_6 (dk_at dksX5_init_4 13 rfl rfl)
theorem dX5_init_108 : decode cX5_init 108 = .ok (.newarray .int, 2) := dk_188_10 (dk_at dksX5_init_4 14 rfl rfl)
theorem dX5_init_110 : decode cX5_init 110 = .ok (.putfield 52, 3) := dk_181 0 52 (dk_at dksX5_init_4 16 rfl rfl)
theorem dX5_init_113 : decode cX5_init 113 = .ok (.aload_n 0, 1) := dk_42 (dk_at dksX5_init_4 19 rfl rfl)
theorem dX5_init_114 : decode cX5_init 114 = .ok (.iconst 3, 1) := dk_6 (dk_at dksX5_init_4 20 rfl rfl)
theorem dX5_init_115 : decode cX5_init 115 = .ok (.newarray .int, 2) := dk_188_10 (dk_at dksX5_init_4 21 rfl rfl)
theorem dX5_init_117 : decode cX5_init 117 = .ok (.putfield 55, 3) := dk_181 0 55 (dk_at dksX5_init_5 0 rfl rfl)
theorem dX5_init_120 : decode cX5_init 120 = .ok (.aload_n 0, 1) := dk_42 (dk_at dksX5_init_5 3 rfl rfl)
theorem dX5_init_121 : decode cX5_init 121 = .ok (.iconst 3, 1) := dk_6 (dk_at dksX5_init_5 4 rfl rfl)
theorem dX5_init_122 : decode cX5_init 122 = .ok (.newarray .int, 2) := dk_188_10 (dk_at dksX5_init_5 5 rfl rfl)
theorem dX5_init_124 : decode cX5_init 124 = .ok (.putfield 58, 3) := dk_181 0 58 (dk_at dksX5_init_5 7 rfl rfl)
theorem dX5_init_127 : decode cX5_init 127 = .ok (.aload_n 0, 1) := dk_42 (dk_at dksX5_init_5 10 rfl rfl)
theorem dX5_init_128 : decode cX5_init 128 = .ok (.iconst 3, 1) := dk_6 (dk_at dksX5_init_5 11 rfl rfl)
theorem dX5_init_129 : decode cX5_init 129 = .ok (.newarray .int, 2) := dk_188_10 (dk_at dksX5_init_5 12 rfl rfl)
theorem dX5_init_131 : decode cX5_init 131 = .ok (.putfield 61, 3) := dk_181 0 61 (dk_at dksX5_init_5 14 rfl rfl)
theorem dX5_init_134 : decode cX5_init 134 = .ok (.aload_n 0, 1) := dk_42 (dk_at dksX5_init_5 17 rfl rfl)
theorem dX5_init_135 : decode cX5_init 135 = .ok (.iconst 3, 1) := dk_6 (dk_at dksX5_init_5 18 rfl rfl)
theorem dX5_init_136 : decode cX5_init 136 = .ok (.newarray .int, 2) := dk_188_10 (dk_at dksX5_init_5 19 rfl rfl)
theorem dX5_init_138 : decode cX5_init 138 = .ok (.putfield 64, 3) := dk_181 0 64 (dk_at dksX5_init_5 21 rfl rfl)
theorem dX5_init_141 : decode cX5_init 141 = .ok (.aload_n 0, 1) := dk_42 (dk_at dksX5_init_6 0 rfl rfl)
theorem dX5_init_142 : decode cX5_init 142 = .ok (.iconst 3, 1) := dk_6 (dk_at dksX5_init_6 1 rfl rfl)
theorem dX5_init_143 : decode cX5_init 143 = .ok (.newarray .int, 2) := dk_188_10 (dk_at dksX5_init_6 2 rfl rfl)
theorem dX5_init_145 : decode cX5_init 145 = .ok (.putfield 67, 3) := dk_181 0 67 (dk_at dksX5_init_6 4 rfl rfl)
theorem dX5_init_148 : decode cX5_init 148 = .ok (.aload_n 0, 1) := dk_42 (dk_at dksX5_init_6 7 rfl rfl)
theorem dX5_init_149 : decode cX5_init 149 = .ok (.iconst 3, 1) := dk_6 (dk_at dksX5_init_6 8 rfl rfl)
theorem dX5_init_150 : decode cX5_init 150 = .ok (.newarray .int, 2) := dk_188_10 (dk_at dksX5_init_6 9 rfl rfl)
theorem dX5_init_152 : decode cX5_init 152 = .ok (.putfield 70, 3) := dk_181 0 70 (dk_at dksX5_init_6 11 rfl rfl)
theorem dX5_init_155 : decode cX5_init 155 = .ok (.aload_n 0, 1) := dk_42 (dk_at dksX5_init_6 14 rfl rfl)
theorem dX5_init_156 : decode cX5_init 156 = .ok (.bipush 30, 2) := dk_16 30 (dk_at dksX5_init_6 15 rfl rfl)
theorem dX5_init_158 : decode cX5_init 158 = .ok (.newarray .int, 2) := dk_188_10 (dk_at dksX5_init_6 17 rfl rfl)
theorem dX5_init_160 : decode cX5_init 160 = .ok (.putfield 73, 3) := dk_181 0 73 (dk_at dksX5_init_6 19 rfl rfl)
theorem dX5_init_163 : decode cX5_init 163 = .ok (.aload_n 0, 1) := dk_42 (dk_at dksX5_init_6 22 rfl rfl)
theorem dX5_init_164 : decode cX5_init 164 = .ok (.bipush 30, 2) := dk_16 30 (dk_at dksX5_init_7 0 rfl rfl)
theorem dX5_init_166 : decode cX5_init 166 = .ok (.newarray .int, 2) := dk_188_10 (dk_at dksX5_init_7 2 rfl rfl)
theorem dX5_init_168 : decode cX5_init 168 = .ok (.putfield 76, 3) := dk_181 0 76 (dk_at dksX5_init_7 4 rfl rfl)
theorem dX5_init_171 : decode cX5_init 171 = .ok (.aload_n 0, 1) := dk_42 (dk_at dksX5_init_7 7 rfl rfl)
theorem dX5_init_172 : decode cX5_init 172 = .ok (.bipush 30, 2) := dk_16 30 (dk_at dksX5_init_7 8 rfl rfl)
theorem dX5_init_174 : decode cX5_init 174 = .ok (.newarray .int, 2) := dk_188_10 (dk_at dksX5_init_7 10 rfl rfl)
theorem dX5_init_176 : decode cX5_init 176 = .ok (.putfield 79, 3) := dk_181 0 79 (dk_at dksX5_init_7 12 rfl rfl)
theorem dX5_init_179 : decode cX5_init 179 = .ok (.aload_n 0, 1) := dk_42 (dk_at dksX5_init_7 15 rfl rfl)
theorem dX5_init_180 : decode cX5_init 180 = .ok (.bipush 30, 2) := dk_16 30 (dk_at dksX5_init_7 16 rfl rfl)
theorem dX5_init_182 : decode cX5_init 182 = .ok (.newarray .int, 2) := dk_188_10 (dk_at dksX5_init_7 18 rfl rfl)
theorem dX5_init_184 : decode cX5_init 184 = .ok (.putfield 82, 3) := dk_181 0 82 (dk_at dksX5_init_7 20 rfl rfl)
theorem dX5_init_187 : decode cX5_init 187 = .ok (.aload_n 0, 1) := dk_42 (dk_at dksX5_init_7 23 rfl rfl)
theorem dX5_init_188 : decode cX5_init 188 = .ok (.bipush 30, 2) := dk_16 30 (dk_at dksX5_init_8 0 rfl rfl)
theorem dX5_init_190 : decode cX5_init 190 = .ok (.newarray .int, 2) := dk_188_10 (dk_at dksX5_init_8 2 rfl rfl)
theorem dX5_init_192 : decode cX5_init 192 = .ok (.putfield 85, 3) := dk_181 0 85 (dk_at dksX5_init_8 4 rfl rfl)
theorem dX5_init_195 : decode cX5_init 195 = .ok (.aload_n 0, 1) := dk_42 (dk_at dksX5_init_8 7 rfl rfl)
theorem dX5_init_196 : decode cX5_init 196 = .ok (.bipush 30, 2) := dk_16 30 (dk_at dksX5_init_8 8 rfl rfl)
theorem dX5_init_198 : decode cX5_init 198 = .ok (.newarray .int, 2) := dk_188_10 (dk_at dksX5_init_8 10 rfl rfl)
theorem dX5_init_200 : decode cX5_init 200 = .ok (.putfield 88, 3) := dk_181 0 88 (dk_at dksX5_init_8 12 rfl rfl)
theorem dX5_init_203 : decode cX5_init 203 = .ok (.aload_n 0, 1) := dk_42 (dk_at dksX5_init_8 15 rfl rfl)
theorem dX5_init_204 : decode cX5_init 204 = .ok (.bipush 30, 2) := dk_16 30 (dk_at dksX5_init_8 16 rfl rfl)
theorem dX5_init_206 : decode cX5_init 206 = .ok (.newarray .int, 2) := dk_188_10 (dk_at dksX5_init_8 18 rfl rfl)
theorem dX5_init_208 : decode cX5_init 208 = .ok (.putfield 91, 3) := dk_181 0 91 (dk_at dksX5_init_8 20 rfl rfl)
theorem dX5_init_211 : decode cX5_init 211 = .ok (.aload_n 0, 1) := dk_42 (dk_at dksX5_init_8 23 rfl rfl)
theorem dX5_init_212 : decode cX5_init 212 = .ok (.bipush 30, 2) := dk_16 30 (dk_at dksX5_init_9 0 rfl rfl)
theorem dX5_init_214 : decode cX5_init 214 = .ok (.newarray .int, 2) := dk_188_10 (dk_at dksX5_init_9 2 rfl rfl)
theorem dX5_init_216 : decode cX5_init 216 = .ok (.putfield 94, 3) := dk_181 0 94 (dk_at dksX5_init_9 4 rfl rfl)
theorem dX5_init_219 : decode cX5_init 219 = .ok (.aload_n 0, 1) := dk_42 (dk_at dksX5_init_9 7 rfl rfl)
theorem dX5_init_220 : decode cX5_init 220 = .ok (.bipush 30, 2) := dk_16 30 (dk_at dksX5_init_9 8 rfl rfl)
theorem dX5_init_222 : decode cX5_init 222 = .ok (.newarray .int, 2) := dk_188_10 (dk_at dksX5_init_9 10 rfl rfl)
theorem dX5_init_224 : decode cX5_init 224 = .ok (.putfield 97, 3) := dk_181 0 97 (dk_at dksX5_init_9 12 rfl rfl)
theorem dX5_init_227 : decode cX5_init 227 = .ok (.aload_n 0, 1) := dk_42 (dk_at dksX5_init_9 15 rfl rfl)
theorem dX5_init_228 : decode cX5_init 228 = .ok (.bipush 30, 2) := dk_16 30 (dk_at dksX5_init_9 16 rfl rfl)
theorem dX5_init_230 : decode cX5_init 230 = .ok (.newarray .int, 2) := dk_188_10 (dk_at dksX5_init_9 18 rfl rfl)
theorem dX5_init_232 : decode cX5_init 232 = .ok (.putfield 100, 3) := dk_181 0 100 (dk_at dksX5_init_9 20 rfl rfl)
theorem dX5_init_235 : decode cX5_init 235 = .ok (.aload_n 0, 1) := dk_42 (dk_at dksX5_init_9 23 rfl rfl)
theorem dX5_init_236 : decode cX5_init 236 = .ok (.bipush 96, 2) := dk_16 96 (dk_at dksX5_init_10 0 rfl rfl)
theorem dX5_init_238 : decode cX5_init 238 = .ok (.newarray .int, 2) := dk_188_10 (dk_at dksX5_init_10 2 rfl rfl)
theorem dX5_init_240 : decode cX5_init 240 = .ok (.putfield 103, 3) := dk_181 0 103 (dk_at dksX5_init_10 4 rfl rfl)
theorem dX5_init_243 : decode cX5_init 243 = .ok (.aload_n 0, 1) := dk_42 (dk_at dksX5_init_10 7 rfl rfl)
theorem dX5_init_244 : decode cX5_init 244 = .ok (.iconst 3, 1) := dk_6 (dk_at dksX5_init_10 8 rfl rfl)
theorem dX5_init_245 : decode cX5_init 245 = .ok (.newarray .int, 2) := dk_188_10 (dk_at dksX5_init_10 9 rfl rfl)
theorem dX5_init_247 : decode cX5_init 247 = .ok (.putfield 106, 3) := dk_181 0 106 (dk_at dksX5_init_10 11 rfl rfl)
theorem dX5_init_250 : decode cX5_init 250 = .ok (.aload_n 0, 1) := dk_42 (dk_at dksX5_init_10 14 rfl rfl)
theorem dX5_init_251 : decode cX5_init 251 = .ok (.iconst 3, 1) := dk_6 (dk_at dksX5_init_10 15 rfl rfl)
theorem dX5_init_252 : decode cX5_init 252 = .ok (.newarray .int, 2) := dk_188_10 (dk_at dksX5_init_10 16 rfl rfl)
theorem dX5_init_254 : decode cX5_init 254 = .ok (.putfield 109, 3) := dk_181 0 109 (dk_at dksX5_init_10 18 rfl rfl)
theorem dX5_init_257 : decode cX5_init 257 = .ok (.aload_n 0, 1) := dk_42 (dk_at dksX5_init_10 21 rfl rfl)
theorem dX5_init_258 : decode cX5_init 258 = .ok (.iconst 3, 1) := dk_6 (dk_at dksX5_init_10 22 rfl rfl)
theorem dX5_init_259 : decode cX5_init 259 = .ok (.newarray .int, 2) := dk_188_10 (dk_at dksX5_init_11 0 rfl rfl)
theorem dX5_init_261 : decode cX5_init 261 = .ok (.putfield 112, 3) := dk_181 0 112 (dk_at dksX5_init_11 2 rfl rfl)
theorem dX5_init_264 : decode cX5_init 264 = .ok (.aload_n 0, 1) := dk_42 (dk_at dksX5_init_11 5 rfl rfl)
theorem dX5_init_265 : decode cX5_init 265 = .ok (.iconst 3, 1) := dk_6 (dk_at dksX5_init_11 6 rfl rfl)
theorem dX5_init_266 : decode cX5_init 266 = .ok (.newarray .int, 2) := dk_188_10 (dk_at dksX5_init_11 7 rfl rfl)
theorem dX5_init_268 : decode cX5_init 268 = .ok (.putfield 115, 3) := dk_181 0 115 (dk_at dksX5_init_11 9 rfl rfl)
theorem dX5_init_271 : decode cX5_init 271 = .ok (.aload_n 0, 1) := dk_42 (dk_at dksX5_init_11 12 rfl rfl)
theorem dX5_init_272 : decode cX5_init 272 = .ok (.bipush 80, 2) := dk_16 80 (dk_at dksX5_init_11 13 rfl rfl)
theorem dX5_init_274 : decode cX5_init 274 = .ok (.newarray .int, 2) := dk_188_10 (dk_at dksX5_init_11 15 rfl rfl)
theorem dX5_init_276 : decode cX5_init 276 = .ok (.putfield 118, 3) := dk_181 0 118 (dk_at dksX5_init_11 17 rfl rfl)
theorem dX5_init_279 : decode cX5_init 279 = .ok (.aload_n 0, 1) := dk_42 (dk_at dksX5_init_11 20 rfl rfl)
theorem dX5_init_280 : decode cX5_init 280 = .ok (.bipush 40, 2) := dk_16 40 (dk_at dksX5_init_11 21 rfl rfl)
theorem dX5_init_282 : decode cX5_init 282 = .ok (.newarray .int, 2) := dk_188_10 (dk_at dksX5_init_12 0 rfl rfl)
theorem dX5_init_284 : decode cX5_init 284 = .ok (.putfield 121, 3) := dk_181 0 121 (dk_at dksX5_init_12 2 rfl rfl)
theorem dX5_init_287 : decode cX5_init 287 = .ok (.aload_n 0, 1) := dk_42 (dk_at dksX5_init_12 5 rfl rfl)
theorem dX5_init_288 : decode cX5_init 288 = .ok (.sipush 240, 3) := dk_17 0 240 (dk_at dksX5_init_12 6 rfl rfl)
theorem dX5_init_291 : decode cX5_init 291 = .ok (.newarray .int, 2) := dk_188_10 (dk_at dksX5_init_12 9 rfl rfl)
theorem dX5_init_293 : decode cX5_init 293 = .ok (.putfield 124, 3) := dk_181 0 124 (dk_at dksX5_init_12 11 rfl rfl)
theorem dX5_init_296 : decode cX5_init 296 = .ok (.aload_n 0, 1) := dk_42 (dk_at dksX5_init_12 14 rfl rfl)
theorem dX5_init_297 : decode cX5_init 297 = .ok (.sipush 3438, 3) := dk_17 13 110 (dk_at dksX5_init_12 15 rfl rfl)
theorem dX5_init_300 : decode cX5_init 300 = .ok (.newarray .int, 2) := dk_188_10 (dk_at dksX5_init_12 18 rfl rfl)
theorem dX5_init_302 : decode cX5_init 302 = .ok (.putfield 127, 3) := dk_181 0 127 (dk_at dksX5_init_12 20 rfl rfl)
theorem dX5_init_305 : decode cX5_init 305 = .ok (.aload_n 0, 1) := dk_42 (dk_at dksX5_init_12 23 rfl rfl)
theorem dX5_init_306 : decode cX5_init 306 = .ok (.sipush 573, 3) := dk_17 2 61 (dk_at dksX5_init_13 0 rfl rfl)
theorem dX5_init_309 : decode cX5_init 309 = .ok (.newarray .int, 2) := dk_188_10 (dk_at dksX5_init_13 3 rfl rfl)
theorem dX5_init_311 : decode cX5_init 311 = .ok (.putfield 130, 3) := dk_181 0 130 (dk_at dksX5_init_13 5 rfl rfl)
theorem dX5_init_314 : decode cX5_init 314 = .ok (.aload_n 0, 1) := dk_42 (dk_at dksX5_init_13 8 rfl rfl)
theorem dX5_init_315 : decode cX5_init 315 = .ok (.sipush 573, 3) := dk_17 2 61 (dk_at dksX5_init_13 9 rfl rfl)
theorem dX5_init_318 : decode cX5_init 318 = .ok (.newarray .int, 2) := dk_188_10 (dk_at dksX5_init_13 12 rfl rfl)
theorem dX5_init_320 : decode cX5_init 320 = .ok (.putfield 133, 3) := dk_181 0 133 (dk_at dksX5_init_13 14 rfl rfl)
theorem dX5_init_323 : decode cX5_init 323 = .ok (.aload_n 0, 1) := dk_42 (dk_at dksX5_init_13 17 rfl rfl)
theorem dX5_init_324 : decode cX5_init 324 = .ok (.sipush 573, 3) := dk_17 2 61 (dk_at dksX5_init_13 18 rfl rfl)
theorem dX5_init_327 : decode cX5_init 327 = .ok (.newarray .int, 2) := dk_188_10 (dk_at dksX5_init_13 21 rfl rfl)
theorem dX5_init_329 : decode cX5_init 329 = .ok (.putfield 136, 3) := dk_181 0 136 (dk_at dksX5_init_14 0 rfl rfl)
theorem dX5_init_332 : decode cX5_init 332 = .ok (.iconst 0, 1) := dk_3 (dk_at dksX5_init_14 3 rfl rfl)
theorem dX5_init_333 : decode cX5_init 333 = .ok (.istore_n 1, 1) := dk_60 (dk_at dksX5_init_14 4 rfl rfl)
theorem dX5_init_334 : decode cX5_init 334 = .ok (.iload_n 1, 1) := dk_27 (dk_at dksX5_init_14 5 rfl rfl)
theorem dX5_init_335 : decode cX5_init 335 = .ok (.iconst 3, 1) := dk_6 (dk_at dksX5_init_14 6 rfl rfl)
theorem dX5_init_336 : decode cX5_init 336 = .ok (.if_icmp .ge 25, 3) := dk_162 0 25 (dk_at dksX5_init_14 7 rfl rfl)
theorem dX5_init_339 : decode cX5_init 339 = .ok (.aload_n 0, 1) := dk_42 (dk_at dksX5_init_14 10 rfl rfl)
theorem dX5_init_340 : decode cX5_init 340 = .ok (.getfield 37, 3) := dk_180 0 37 (dk_at dksX5_init_14 11 rfl rfl)
theorem dX5_init_343 : decode cX5_init 343 = .ok (.iload_n 1, 1) := dk_27 (dk_at dksX5_init_14 14 rfl rfl)
theorem dX5_init_344 : decode cX5_init 344 = .ok (.sipush 255, 3) := dk_17 0 255 (dk_at dksX5_init_14 15 rfl rfl)
theorem dX5_init_347 : decode cX5_init 347 = .ok (.iastore, 1) := dk_79 (dk_at dksX5_init_14 18 rfl rfl)
theorem dX5_init_348 : decode cX5_init 348 = .ok (.aload_n 0, 1) := dk_42 (dk_at dksX5_init_14 19 rfl rfl)
theorem dX5_init_349 : decode cX5_init 349 = .ok (.getfield 46, 3) := dk_180 0 46 (dk_at dksX5_init_14 20 rfl rfl)
theorem dX5_init_352 : decode cX5_init 352 = .ok (.iload_n 1, 1) := dk_27 (dk_at dksX5_init_14 23 rfl rfl)
theorem dX5_init_353 : decode cX5_init 353 = .ok (.iconst (-1), 1) := dk_2 (dk_at dksX5_init_15 0 rfl rfl)
theorem dX5_init_354 : decode cX5_init 354 = .ok (.iastore, 1) := dk_79 (dk_at dksX5_init_15 1 rfl rfl)
theorem dX5_init_355 : decode cX5_init 355 = .ok (.iinc 1 1, 3) := dk_132 1 1 (dk_at dksX5_init_15 2 rfl rfl)
theorem dX5_init_358 : decode cX5_init 358 = .ok (.goto (-24), 3) := dk_167 255 232 (dk_at dksX5_init_15 5 rfl rfl)
theorem dX5_init_361 : decode cX5_init 361 = .ok (.iconst 0, 1) := dk_3 (dk_at dksX5_init_15 8 rfl rfl)
theorem dX5_init_362 : decode cX5_init 362 = .ok (.istore_n 1, 1) := dk_60 (dk_at dksX5_init_15 9 rfl rfl)
theorem dX5_init_363 : decode cX5_init 363 = .ok (.iload_n 1, 1) := dk_27 (dk_at dksX5_init_15 10 rfl rfl)
theorem dX5_init_364 : decode cX5_init 364 = .ok (.iconst 3, 1) := dk_6 (dk_at dksX5_init_15 11 rfl rfl)
theorem dX5_init_365 : decode cX5_init 365 = .ok (.if_icmp .ge 16, 3) := dk_162 0 16 (dk_at dksX5_init_15 12 rfl rfl)
theorem dX5_init_368 : decode cX5_init 368 = .ok (.aload_n 0, 1) := dk_42 (dk_at dksX5_init_15 15 rfl rfl)
theorem dX5_init_369 : decode cX5_init 369 = .ok (.getfield 16, 3) := dk_180 0 16 (dk_at dksX5_init_15 16 rfl rfl)
theorem dX5_init_372 : decode cX5_init 372 = .ok (.iload_n 1, 1) := dk_27 (dk_at dksX5_init_15 19 rfl rfl)
theorem dX5_init_373 : decode cX5_init 373 = .ok (.iconst 2, 1) := dk_5 (dk_at dksX5_init_15 20 rfl rfl)
theorem dX5_init_374 : decode cX5_init 374 = .ok (.iastore, 1) := dk_79 (dk_at dksX5_init_15 21 rfl rfl)
theorem dX5_init_375 : decode cX5_init 375 = .ok (.iinc 1 1, 3) := dk_132 1 1 (dk_at dksX5_init_16 0 rfl rfl)
theorem dX5_init_378 : decode cX5_init 378 = .ok (.goto (-15), 3) := dk_167 255 241 (dk_at dksX5_init_16 3 rfl rfl)
theorem dX5_init_381 : decode cX5_init 381 = .ok (.return_, 1) := dk_177 (dk_at dksX5_init_16 6 rfl rfl)
abbrev cX5_thrown : ByteArray := prog_18_method_2_code
def yX5_thrown : MethodName := ⟨RX5, "thrown", "()I"⟩
theorem dX5_thrown_0 : decode cX5_thrown 0 = .ok (.aload_n 0, 1) := by decide +kernel
theorem dX5_thrown_1 : decode cX5_thrown 1 = .ok (.getfield 139, 3) := by decide +kernel
theorem dX5_thrown_4 : decode cX5_thrown 4 = .ok (.ireturn, 1) := by decide +kernel
abbrev cX5_setInterlock : ByteArray := prog_18_method_34_code
def yX5_setInterlock : MethodName := ⟨RX5, "setInterlock", "(IIZ)Z"⟩
def dkwX5_setInterlock_1 : List UInt8 := [27, 46, 28, 184, 0, 245, 54, 4, 42, 182, 1, 2, 42, 27, 28, 29, 182, 1, 5, 21, 4, 172]
abbrev dktX5_setInterlock_1 : List UInt8 := dkwX5_setInterlock_1 ++ []
def dkwX5_setInterlock_0 : List UInt8 := [42, 42, 27, 28, 29, 182, 0, 254, 181, 0, 139, 42, 180, 0, 139, 158, 0, 5, 3, 172, 42, 180, 0, 7]
abbrev dktX5_setInterlock_0 : List UInt8 := dkwX5_setInterlock_0 ++ dktX5_setInterlock_1
theorem dksX5_setInterlock_0 : cX5_setInterlock.data.toList.drop 0 = dktX5_setInterlock_0 := by decide +kernel
theorem dksX5_setInterlock_1 : cX5_setInterlock.data.toList.drop 24 = dktX5_setInterlock_1 := dk_seg dksX5_setInterlock_0 24 rfl rfl
theorem dX5_setInterlock_0 : decode cX5_setInterlock 0 = .ok (.aload_n 0, 1) := dk_42 (dk_at dksX5_setInterlock_0 0 rfl rfl)
theorem dX5_setInterlock_1 : decode cX5_setInterlock 1 = .ok (.aload_n 0, 1) := dk_42 (dk_at dksX5_setInterlock_0 1 rfl rfl)
theorem dX5_setInterlock_2 : decode cX5_setInterlock 2 = .ok (.iload_n 1, 1) := dk_27 (dk_at dksX5_setInterlock_0 2 rfl rfl)
theorem dX5_setInterlock_3 : decode cX5_setInterlock 3 = .ok (.iload_n 2, 1) := dk_28 (dk_at dksX5_setInterlock_0 3 rfl rfl)
theorem dX5_setInterlock_4 : decode cX5_setInterlock 4 = .ok (.iload_n 3, 1) := dk_29 (dk_at dksX5_setInterlock_0 4 rfl rfl)
theorem dX5_setInterlock_5 : decode cX5_setInterlock 5 = .ok (.invokevirtual 254, 3) := dk_182 0 254 (dk_at dksX5_setInterlock_0 5 rfl rfl)
theorem dX5_setInterlock_8 : decode cX5_setInterlock 8 = .ok (.putfield 139, 3) := dk_181 0 139 (dk_at dksX5_setInterlock_0 8 rfl rfl)
theorem dX5_setInterlock_11 : decode cX5_setInterlock 11 = .ok (.aload_n 0, 1) := dk_42 (dk_at dksX5_setInterlock_0 11 rfl rfl)
theorem dX5_setInterlock_12 : decode cX5_setInterlock 12 = .ok (.getfield 139, 3) := dk_180 0 139 (dk_at dksX5_setInterlock_0 12 rfl rfl)
theorem dX5_setInterlock_15 : decode cX5_setInterlock 15 = .ok (.ifCond .le 5, 3) := dk_158 0 5 (dk_at dksX5_setInterlock_0 15 rfl rfl)
theorem dX5_setInterlock_18 : decode cX5_setInterlock 18 = .ok (.iconst 0, 1) := dk_3 (dk_at dksX5_setInterlock_0 18 rfl rfl)
theorem dX5_setInterlock_19 : decode cX5_setInterlock 19 = .ok (.ireturn, 1) := dk_172 (dk_at dksX5_setInterlock_0 19 rfl rfl)
theorem dX5_setInterlock_20 : decode cX5_setInterlock 20 = .ok (.aload_n 0, 1) := dk_42 (dk_at dksX5_setInterlock_0 20 rfl rfl)
theorem dX5_setInterlock_21 : decode cX5_setInterlock 21 = .ok (.getfield 7, 3) := dk_180 0 7 (dk_at dksX5_setInterlock_0 21 rfl rfl)
theorem dX5_setInterlock_24 : decode cX5_setInterlock 24 = .ok (.iload_n 1, 1) := dk_27 (dk_at dksX5_setInterlock_1 0 rfl rfl)
theorem dX5_setInterlock_25 : decode cX5_setInterlock 25 = .ok (.iaload, 1) := dk_46 (dk_at dksX5_setInterlock_1 1 rfl rfl)
theorem dX5_setInterlock_26 : decode cX5_setInterlock 26 = .ok (.iload_n 2, 1) := dk_28 (dk_at dksX5_setInterlock_1 2 rfl rfl)
theorem dX5_setInterlock_27 : decode cX5_setInterlock 27 = .ok (.invokestatic 245, 3) := dk_184 0 245 (dk_at dksX5_setInterlock_1 3 rfl rfl)
theorem dX5_setInterlock_30 : decode cX5_setInterlock 30 = .ok (.istore 4, 2) := dk_54 4 (dk_at dksX5_setInterlock_1 6 rfl rfl)
theorem dX5_setInterlock_32 : decode cX5_setInterlock 32 = .ok (.aload_n 0, 1) := dk_42 (dk_at dksX5_setInterlock_1 8 rfl rfl)
theorem dX5_setInterlock_33 : decode cX5_setInterlock 33 = .ok (.invokevirtual 258, 3) := dk_182 1 2 (dk_at dksX5_setInterlock_1 9 rfl rfl)
theorem dX5_setInterlock_36 : decode cX5_setInterlock 36 = .ok (.aload_n 0, 1) := dk_42 (dk_at dksX5_setInterlock_1 12 rfl rfl)
theorem dX5_setInterlock_37 : decode cX5_setInterlock 37 = .ok (.iload_n 1, 1) := dk_27 (dk_at dksX5_setInterlock_1 13 rfl rfl)
theorem dX5_setInterlock_38 : decode cX5_setInterlock 38 = .ok (.iload_n 2, 1) := dk_28 (dk_at dksX5_setInterlock_1 14 rfl rfl)
theorem dX5_setInterlock_39 : decode cX5_setInterlock 39 = .ok (.iload_n 3, 1) := dk_29 (dk_at dksX5_setInterlock_1 15 rfl rfl)
theorem dX5_setInterlock_40 : decode cX5_setInterlock 40 = .ok (.invokevirtual 261, 3) := dk_182 1 5 (dk_at dksX5_setInterlock_1 16 rfl rfl)
theorem dX5_setInterlock_43 : decode cX5_setInterlock 43 = .ok (.iload 4, 2) := dk_21 4 (dk_at dksX5_setInterlock_1 19 rfl rfl)
theorem dX5_setInterlock_45 : decode cX5_setInterlock 45 = .ok (.ireturn, 1) := dk_172 (dk_at dksX5_setInterlock_1 21 rfl rfl)
abbrev cX5_notLocked : ByteArray := prog_18_method_33_code
def yX5_notLocked : MethodName := ⟨RX5, "notLocked", "(IIZ)I"⟩
def dkwX5_notLocked_3 : List UInt8 := [167, 0, 4, 3, 172]
abbrev dktX5_notLocked_3 : List UInt8 := dkwX5_notLocked_3 ++ []
def dkwX5_notLocked_2 : List UInt8 := [184, 0, 245, 154, 0, 24, 21, 4, 155, 0, 19, 21, 5, 155, 0, 14, 21, 4, 21, 5, 159, 0, 7, 6]
abbrev dktX5_notLocked_2 : List UInt8 := dkwX5_notLocked_2 ++ dktX5_notLocked_3
def dkwX5_notLocked_1 : List UInt8 := [27, 182, 0, 251, 54, 4, 42, 28, 182, 0, 251, 54, 5, 29, 153, 0, 37, 42, 180, 0, 7, 27, 46, 28]
abbrev dktX5_notLocked_1 : List UInt8 := dkwX5_notLocked_1 ++ dktX5_notLocked_2
def dkwX5_notLocked_0 : List UInt8 := [27, 184, 0, 248, 153, 0, 10, 28, 184, 0, 248, 154, 0, 5, 4, 172, 27, 28, 160, 0, 5, 5, 172, 42]
abbrev dktX5_notLocked_0 : List UInt8 := dkwX5_notLocked_0 ++ dktX5_notLocked_1
theorem dksX5_notLocked_0 : cX5_notLocked.data.toList.drop 0 = dktX5_notLocked_0 := by decide +kernel
theorem dksX5_notLocked_1 : cX5_notLocked.data.toList.drop 24 = dktX5_notLocked_1 := dk_seg dksX5_notLocked_0 24 rfl rfl
theorem dksX5_notLocked_2 : cX5_notLocked.data.toList.drop 48 = dktX5_notLocked_2 := dk_seg dksX5_notLocked_1 24 rfl rfl
theorem dksX5_notLocked_3 : cX5_notLocked.data.toList.drop 72 = dktX5_notLocked_3 := dk_seg dksX5_notLocked_2 24 rfl rfl
theorem dX5_notLocked_0 : decode cX5_notLocked 0 = .ok (.iload_n 1, 1) := dk_27 (dk_at dksX5_notLocked_0 0 rfl rfl)
theorem dX5_notLocked_1 : decode cX5_notLocked 1 = .ok (.invokestatic 248, 3) := dk_184 0 248 (dk_at dksX5_notLocked_0 1 rfl rfl)
theorem dX5_notLocked_4 : decode cX5_notLocked 4 = .ok (.ifCond .eq 10, 3) := dk_153 0 10 (dk_at dksX5_notLocked_0 4 rfl rfl)
theorem dX5_notLocked_7 : decode cX5_notLocked 7 = .ok (.iload_n 2, 1) := dk_28 (dk_at dksX5_notLocked_0 7 rfl rfl)
theorem dX5_notLocked_8 : decode cX5_notLocked 8 = .ok (.invokestatic 248, 3) := dk_184 0 248 (dk_at dksX5_notLocked_0 8 rfl rfl)
theorem dX5_notLocked_11 : decode cX5_notLocked 11 = .ok (.ifCond .ne 5, 3) := dk_154 0 5 (dk_at dksX5_notLocked_0 11 rfl rfl)
theorem dX5_notLocked_14 : decode cX5_notLocked 14 = .ok (.iconst 1, 1) := dk_4 (dk_at dksX5_notLocked_0 14 rfl rfl)
theorem dX5_notLocked_15 : decode cX5_notLocked 15 = .ok (.ireturn, 1) := dk_172 (dk_at dksX5_notLocked_0 15 rfl rfl)
theorem dX5_notLocked_16 : decode cX5_notLocked 16 = .ok (.iload_n 1, 1) := dk_27 (dk_at dksX5_notLocked_0 16 rfl rfl)
theorem dX5_notLocked_17 : decode cX5_notLocked 17 = .ok (.iload_n 2, 1) := dk_28 (dk_at dksX5_notLocked_0 17 rfl rfl)
theorem dX5_notLocked_18 : decode cX5_notLocked 18 = .ok (.if_icmp .ne 5, 3) := dk_160 0 5 (dk_at dksX5_notLocked_0 18 rfl rfl)
theorem dX5_notLocked_21 : decode cX5_notLocked 21 = .ok (.iconst 2, 1) := dk_5 (dk_at dksX5_notLocked_0 21 rfl rfl)
theorem dX5_notLocked_22 : decode cX5_notLocked 22 = .ok (.ireturn, 1) := dk_172 (dk_at dksX5_notLocked_0 22 rfl rfl)
theorem dX5_notLocked_23 : decode cX5_notLocked 23 = .ok (.aload_n 0, 1) := dk_42 (dk_at dksX5_notLocked_0 23 rfl rfl)
theorem dX5_notLocked_24 : decode cX5_notLocked 24 = .ok (.iload_n 1, 1) := dk_27 (dk_at dksX5_notLocked_1 0 rfl rfl)
theorem dX5_notLocked_25 : decode cX5_notLocked 25 = .ok (.invokevirtual 251, 3) := dk_182 0 251 (dk_at dksX5_notLocked_1 1 rfl rfl)
theorem dX5_notLocked_28 : decode cX5_notLocked 28 = .ok (.istore 4, 2) := dk_54 4 (dk_at dksX5_notLocked_1 4 rfl rfl)
theorem dX5_notLocked_30 : decode cX5_notLocked 30 = .ok (.aload_n 0, 1) := dk_42 (dk_at dksX5_notLocked_1 6 rfl rfl)
theorem dX5_notLocked_31 : decode cX5_notLocked 31 = .ok (.iload_n 2, 1) := dk_28 (dk_at dksX5_notLocked_1 7 rfl rfl)
theorem dX5_notLocked_32 : decode cX5_notLocked 32 = .ok (.invokevirtual 251, 3) := dk_182 0 251 (dk_at dksX5_notLocked_1 8 rfl rfl)
theorem dX5_notLocked_35 : decode cX5_notLocked 35 = .ok (.istore 5, 2) := dk_54 5 (dk_at dksX5_notLocked_1 11 rfl rfl)
theorem dX5_notLocked_37 : decode cX5_notLocked 37 = .ok (.iload_n 3, 1) := dk_29 (dk_at dksX5_notLocked_1 13 rfl rfl)
theorem dX5_notLocked_38 : decode cX5_notLocked 38 = .ok (.ifCond .eq 37, 3) := dk_153 0 37 (dk_at dksX5_notLocked_1 14 rfl rfl)
theorem dX5_notLocked_41 : decode cX5_notLocked 41 = .ok (.aload_n 0, 1) := dk_42 (dk_at dksX5_notLocked_1 17 rfl rfl)
theorem dX5_notLocked_42 : decode cX5_notLocked 42 = .ok (.getfield 7, 3) := dk_180 0 7 (dk_at dksX5_notLocked_1 18 rfl rfl)
theorem dX5_notLocked_45 : decode cX5_notLocked 45 = .ok (.iload_n 1, 1) := dk_27 (dk_at dksX5_notLocked_1 21 rfl rfl)
theorem dX5_notLocked_46 : decode cX5_notLocked 46 = .ok (.iaload, 1) := dk_46 (dk_at dksX5_notLocked_1 22 rfl rfl)
theorem dX5_notLocked_47 : decode cX5_notLocked 47 = .ok (.iload_n 2, 1) := dk_28 (dk_at dksX5_notLocked_1 23 rfl rfl)
theorem dX5_notLocked_48 : decode cX5_notLocked 48 = .ok (.invokestatic 245, 3) := dk_184 0 245 (dk_at dksX5_notLocked_2 0 rfl rfl)
theorem dX5_notLocked_51 : decode cX5_notLocked 51 = .ok (.ifCond .ne 24, 3) := dk_154 0 24 (dk_at dksX5_notLocked_2 3 rfl rfl)
theorem dX5_notLocked_54 : decode cX5_notLocked 54 = .ok (.iload 4, 2) := dk_21 4 (dk_at dksX5_notLocked_2 6 rfl rfl)
theorem dX5_notLocked_56 : decode cX5_notLocked 56 = .ok (.ifCond .lt 19, 3) := dk_155 0 19 (dk_at dksX5_notLocked_2 8 rfl rfl)
theorem dX5_notLocked_59 : decode cX5_notLocked 59 = .ok (.iload 5, 2) := dk_21 5 (dk_at dksX5_notLocked_2 11 rfl rfl)
theorem dX5_notLocked_61 : decode cX5_notLocked 61 = .ok (.ifCond .lt 14, 3) := dk_155 0 14 (dk_at dksX5_notLocked_2 13 rfl rfl)
theorem dX5_notLocked_64 : decode cX5_notLocked 64 = .ok (.iload 4, 2) := dk_21 4 (dk_at dksX5_notLocked_2 16 rfl rfl)
theorem dX5_notLocked_66 : decode cX5_notLocked 66 = .ok (.iload 5, 2) := dk_21 5 (dk_at dksX5_notLocked_2 18 rfl rfl)
theorem dX5_notLocked_68 : decode cX5_notLocked 68 = .ok (.if_icmp .eq 7, 3) := dk_159 0 7 (dk_at dksX5_notLocked_2 20 rfl rfl)
theorem dX5_notLocked_71 : decode cX5_notLocked 71 = .ok (.iconst 3, 1) := dk_6 (dk_at dksX5_notLocked_2 23 rfl rfl)
theorem dX5_notLocked_72 : decode cX5_notLocked 72 = .ok (.goto 4, 3) := dk_167 0 4 (dk_at dksX5_notLocked_3 0 rfl rfl)
theorem dX5_notLocked_75 : decode cX5_notLocked 75 = .ok (.iconst 0, 1) := dk_3 (dk_at dksX5_notLocked_3 3 rfl rfl)
theorem dX5_notLocked_76 : decode cX5_notLocked 76 = .ok (.ireturn, 1) := dk_172 (dk_at dksX5_notLocked_3 4 rfl rfl)
abbrev cX5_isZone : ByteArray := prog_18_method_6_code
def yX5_isZone : MethodName := ⟨RX5, "isZone", "(I)Z"⟩
def dkwX5_isZone_0 : List UInt8 := [26, 3, 16, 7, 184, 0, 143, 172]
abbrev dktX5_isZone_0 : List UInt8 := dkwX5_isZone_0 ++ []
theorem dksX5_isZone_0 : cX5_isZone.data.toList.drop 0 = dktX5_isZone_0 := by decide +kernel
theorem dX5_isZone_0 : decode cX5_isZone 0 = .ok (.iload_n 0, 1) := dk_26 (dk_at dksX5_isZone_0 0 rfl rfl)
theorem dX5_isZone_1 : decode cX5_isZone 1 = .ok (.iconst 0, 1) := dk_3 (dk_at dksX5_isZone_0 1 rfl rfl)
theorem dX5_isZone_2 : decode cX5_isZone 2 = .ok (.bipush 7, 2) := dk_16 7 (dk_at dksX5_isZone_0 2 rfl rfl)
theorem dX5_isZone_4 : decode cX5_isZone 4 = .ok (.invokestatic 143, 3) := dk_184 0 143 (dk_at dksX5_isZone_0 4 rfl rfl)
theorem dX5_isZone_7 : decode cX5_isZone 7 = .ok (.ireturn, 1) := dk_172 (dk_at dksX5_isZone_0 7 rfl rfl)
abbrev cX5_isBetween : ByteArray := prog_18_method_5_code
def yX5_isBetween : MethodName := ⟨RX5, "isBetween", "(III)Z"⟩
def dkwX5_isBetween_0 : List UInt8 := [26, 27, 161, 0, 12, 26, 28, 163, 0, 7, 4, 167, 0, 4, 3, 172]
abbrev dktX5_isBetween_0 : List UInt8 := dkwX5_isBetween_0 ++ []
theorem dksX5_isBetween_0 : cX5_isBetween.data.toList.drop 0 = dktX5_isBetween_0 := by decide +kernel
theorem dX5_isBetween_0 : decode cX5_isBetween 0 = .ok (.iload_n 0, 1) := dk_26 (dk_at dksX5_isBetween_0 0 rfl rfl)
theorem dX5_isBetween_1 : decode cX5_isBetween 1 = .ok (.iload_n 1, 1) := dk_27 (dk_at dksX5_isBetween_0 1 rfl rfl)
theorem dX5_isBetween_2 : decode cX5_isBetween 2 = .ok (.if_icmp .lt 12, 3) := dk_161 0 12 (dk_at dksX5_isBetween_0 2 rfl rfl)
theorem dX5_isBetween_5 : decode cX5_isBetween 5 = .ok (.iload_n 0, 1) := dk_26 (dk_at dksX5_isBetween_0 5 rfl rfl)
theorem dX5_isBetween_6 : decode cX5_isBetween 6 = .ok (.iload_n 2, 1) := dk_28 (dk_at dksX5_isBetween_0 6 rfl rfl)
theorem dX5_isBetween_7 : decode cX5_isBetween 7 = .ok (.if_icmp .gt 7, 3) := dk_163 0 7 (dk_at dksX5_isBetween_0 7 rfl rfl)
theorem dX5_isBetween_10 : decode cX5_isBetween 10 = .ok (.iconst 1, 1) := dk_4 (dk_at dksX5_isBetween_0 10 rfl rfl)
theorem dX5_isBetween_11 : decode cX5_isBetween 11 = .ok (.goto 4, 3) := dk_167 0 4 (dk_at dksX5_isBetween_0 11 rfl rfl)
theorem dX5_isBetween_14 : decode cX5_isBetween 14 = .ok (.iconst 0, 1) := dk_3 (dk_at dksX5_isBetween_0 14 rfl rfl)
theorem dX5_isBetween_15 : decode cX5_isBetween 15 = .ok (.ireturn, 1) := dk_172 (dk_at dksX5_isBetween_0 15 rfl rfl)
abbrev cX5_holderOf : ByteArray := prog_18_method_31_code
def yX5_holderOf : MethodName := ⟨RX5, "holderOf", "(I)I"⟩
def dkwX5_holderOf_1 : List UInt8 := [167, 255, 234, 2, 172]
abbrev dktX5_holderOf_1 : List UInt8 := dkwX5_holderOf_1 ++ []
def dkwX5_holderOf_0 : List UInt8 := [3, 61, 28, 6, 162, 0, 23, 42, 28, 182, 0, 161, 27, 184, 0, 245, 153, 0, 5, 28, 172, 132, 2, 1]
abbrev dktX5_holderOf_0 : List UInt8 := dkwX5_holderOf_0 ++ dktX5_holderOf_1
theorem dksX5_holderOf_0 : cX5_holderOf.data.toList.drop 0 = dktX5_holderOf_0 := by decide +kernel
theorem dksX5_holderOf_1 : cX5_holderOf.data.toList.drop 24 = dktX5_holderOf_1 := dk_seg dksX5_holderOf_0 24 rfl rfl
theorem dX5_holderOf_0 : decode cX5_holderOf 0 = .ok (.iconst 0, 1) := dk_3 (dk_at dksX5_holderOf_0 0 rfl rfl)
theorem dX5_holderOf_1 : decode cX5_holderOf 1 = .ok (.istore_n 2, 1) := dk_61 (dk_at dksX5_holderOf_0 1 rfl rfl)
theorem dX5_holderOf_2 : decode cX5_holderOf 2 = .ok (.iload_n 2, 1) := dk_28 (dk_at dksX5_holderOf_0 2 rfl rfl)
theorem dX5_holderOf_3 : decode cX5_holderOf 3 = .ok (.iconst 3, 1) := dk_6 (dk_at dksX5_holderOf_0 3 rfl rfl)
theorem dX5_holderOf_4 : decode cX5_holderOf 4 = .ok (.if_icmp .ge 23, 3) := dk_162 0 23 (dk_at dksX5_holderOf_0 4 rfl rfl)
theorem dX5_holderOf_7 : decode cX5_holderOf 7 = .ok (.aload_n 0, 1) := dk_42 (dk_at dksX5_holderOf_0 7 rfl rfl)
theorem dX5_holderOf_8 : decode cX5_holderOf 8 = .ok (.iload_n 2, 1) := dk_28 (dk_at dksX5_holderOf_0 8 rfl rfl)
theorem dX5_holderOf_9 : decode cX5_holderOf 9 = .ok (.invokevirtual 161, 3) := dk_182 0 161 (dk_at dksX5_holderOf_0 9 rfl rfl)
theorem dX5_holderOf_12 : decode cX5_holderOf 12 = .ok (.iload_n 1, 1) := dk_27 (dk_at dksX5_holderOf_0 12 rfl rfl)
theorem dX5_holderOf_13 : decode cX5_holderOf 13 = .ok (.invokestatic 245, 3) := dk_184 0 245 (dk_at dksX5_holderOf_0 13 rfl rfl)
theorem dX5_holderOf_16 : decode cX5_holderOf 16 = .ok (.ifCond .eq 5, 3) := dk_153 0 5 (dk_at dksX5_holderOf_0 16 rfl rfl)
theorem dX5_holderOf_19 : decode cX5_holderOf 19 = .ok (.iload_n 2, 1) := dk_28 (dk_at dksX5_holderOf_0 19 rfl rfl)
theorem dX5_holderOf_20 : decode cX5_holderOf 20 = .ok (.ireturn, 1) := dk_172 (dk_at dksX5_holderOf_0 20 rfl rfl)
theorem dX5_holderOf_21 : decode cX5_holderOf 21 = .ok (.iinc 2 1, 3) := dk_132 2 1 (dk_at dksX5_holderOf_0 21 rfl rfl)
theorem dX5_holderOf_24 : decode cX5_holderOf 24 = .ok (.goto (-22), 3) := dk_167 255 234 (dk_at dksX5_holderOf_1 0 rfl rfl)
theorem dX5_holderOf_27 : decode cX5_holderOf 27 = .ok (.iconst (-1), 1) := dk_2 (dk_at dksX5_holderOf_1 3 rfl rfl)
theorem dX5_holderOf_28 : decode cX5_holderOf 28 = .ok (.ireturn, 1) := dk_172 (dk_at dksX5_holderOf_1 4 rfl rfl)
abbrev cX5_holds : ByteArray := prog_18_method_12_code
def yX5_holds : MethodName := ⟨RX5, "holds", "(I)I"⟩
def dkwX5_holds_2 : List UInt8 := [182, 0, 147, 120, 128, 167, 0, 4, 28, 172]
abbrev dktX5_holds_2 : List UInt8 := dkwX5_holds_2 ++ []
def dkwX5_holds_1 : List UInt8 := [46, 5, 160, 0, 28, 28, 4, 42, 42, 180, 0, 46, 27, 46, 42, 180, 0, 52, 27, 46, 4, 96]
abbrev dktX5_holds_1 : List UInt8 := dkwX5_holds_1 ++ dktX5_holds_2
def dkwX5_holds_0 : List UInt8 := [42, 180, 0, 49, 27, 46, 154, 0, 5, 3, 172, 4, 42, 27, 182, 0, 151, 120, 61, 42, 180, 0, 49, 27]
abbrev dktX5_holds_0 : List UInt8 := dkwX5_holds_0 ++ dktX5_holds_1
theorem dksX5_holds_0 : cX5_holds.data.toList.drop 0 = dktX5_holds_0 := by decide +kernel
theorem dksX5_holds_1 : cX5_holds.data.toList.drop 24 = dktX5_holds_1 := dk_seg dksX5_holds_0 24 rfl rfl
theorem dksX5_holds_2 : cX5_holds.data.toList.drop 46 = dktX5_holds_2 := dk_seg dksX5_holds_1 22 rfl rfl
theorem dX5_holds_0 : decode cX5_holds 0 = .ok (.aload_n 0, 1) := dk_42 (dk_at dksX5_holds_0 0 rfl rfl)
theorem dX5_holds_1 : decode cX5_holds 1 = .ok (.getfield 49, 3) := dk_180 0 49 (dk_at dksX5_holds_0 1 rfl rfl)
theorem dX5_holds_4 : decode cX5_holds 4 = .ok (.iload_n 1, 1) := dk_27 (dk_at dksX5_holds_0 4 rfl rfl)
theorem dX5_holds_5 : decode cX5_holds 5 = .ok (.iaload, 1) := dk_46 (dk_at dksX5_holds_0 5 rfl rfl)
theorem dX5_holds_6 : decode cX5_holds 6 = .ok (.ifCond .ne 5, 3) := dk_154 0 5 (dk_at dksX5_holds_0 6 rfl rfl)
theorem dX5_holds_9 : decode cX5_holds 9 = .ok (.iconst 0, 1) := dk_3 (dk_at dksX5_holds_0 9 rfl rfl)
theorem dX5_holds_10 : decode cX5_holds 10 = .ok (.ireturn, 1) := dk_172 (dk_at dksX5_holds_0 10 rfl rfl)
theorem dX5_holds_11 : decode cX5_holds 11 = .ok (.iconst 1, 1) := dk_4 (dk_at dksX5_holds_0 11 rfl rfl)
theorem dX5_holds_12 : decode cX5_holds 12 = .ok (.aload_n 0, 1) := dk_42 (dk_at dksX5_holds_0 12 rfl rfl)
theorem dX5_holds_13 : decode cX5_holds 13 = .ok (.iload_n 1, 1) := dk_27 (dk_at dksX5_holds_0 13 rfl rfl)
theorem dX5_holds_14 : decode cX5_holds 14 = .ok (.invokevirtual 151, 3) := dk_182 0 151 (dk_at dksX5_holds_0 14 rfl rfl)
theorem dX5_holds_17 : decode cX5_holds 17 = .ok (.ishl, 1) := dk_120 (dk_at dksX5_holds_0 17 rfl rfl)
theorem dX5_holds_18 : decode cX5_holds 18 = .ok (.istore_n 2, 1) := dk_61 (dk_at dksX5_holds_0 18 rfl rfl)
theorem dX5_holds_19 : decode cX5_holds 19 = .ok (.aload_n 0, 1) := dk_42 (dk_at dksX5_holds_0 19 rfl rfl)
theorem dX5_holds_20 : decode cX5_holds 20 = .ok (.getfield 49, 3) := dk_180 0 49 (dk_at dksX5_holds_0 20 rfl rfl)
theorem dX5_holds_23 : decode cX5_holds 23 = .ok (.iload_n 1, 1) := dk_27 (dk_at dksX5_holds_0 23 rfl rfl)
theorem dX5_holds_24 : decode cX5_holds 24 = .ok (.iaload, 1) := dk_46 (dk_at dksX5_holds_1 0 rfl rfl)
theorem dX5_holds_25 : decode cX5_holds 25 = .ok (.iconst 2, 1) := dk_5 (dk_at dksX5_holds_1 1 rfl rfl)
theorem dX5_holds_26 : decode cX5_holds 26 = .ok (.if_icmp .ne 28, 3) := dk_160 0 28 (dk_at dksX5_holds_1 2 rfl rfl)
theorem dX5_holds_29 : decode cX5_holds 29 = .ok (.iload_n 2, 1) := dk_28 (dk_at dksX5_holds_1 5 rfl rfl)
theorem dX5_holds_30 : decode cX5_holds 30 = .ok (.iconst 1, 1) := dk_4 (dk_at dksX5_holds_1 6 rfl rfl)
theorem dX5_holds_31 : decode cX5_holds 31 = .ok (.aload_n 0, 1) := dk_42 (dk_at dksX5_holds_1 7 rfl rfl)
theorem dX5_holds_32 : decode cX5_holds 32 = .ok (.aload_n 0, 1) := dk_42 (dk_at dksX5_holds_1 8 rfl rfl)
theorem dX5_holds_33 : decode cX5_holds 33 = .ok (.getfield 46, 3) := dk_180 0 46 (dk_at dksX5_holds_1 9 rfl rfl)
theorem dX5_holds_36 : decode cX5_holds 36 = .ok (.iload_n 1, 1) := dk_27 (dk_at dksX5_holds_1 12 rfl rfl)
theorem dX5_holds_37 : decode cX5_holds 37 = .ok (.iaload, 1) := dk_46 (dk_at dksX5_holds_1 13 rfl rfl)
theorem dX5_holds_38 : decode cX5_holds 38 = .ok (.aload_n 0, 1) := dk_42 (dk_at dksX5_holds_1 14 rfl rfl)
theorem dX5_holds_39 : decode cX5_holds 39 = .ok (.getfield 52, 3) := dk_180 0 52 (dk_at dksX5_holds_1 15 rfl rfl)
theorem dX5_holds_42 : decode cX5_holds 42 = .ok (.iload_n 1, 1) := dk_27 (dk_at dksX5_holds_1 18 rfl rfl)
theorem dX5_holds_43 : decode cX5_holds 43 = .ok (.iaload, 1) := dk_46 (dk_at dksX5_holds_1 19 rfl rfl)
theorem dX5_holds_44 : decode cX5_holds 44 = .ok (.iconst 1, 1) := dk_4 (dk_at dksX5_holds_1 20 rfl rfl)
theorem dX5_holds_45 : decode cX5_holds 45 = .ok (.iadd, 1) := dk_96 (dk_at dksX5_holds_1 21 rfl rfl)
theorem dX5_holds_46 : decode cX5_holds 46 = .ok (.invokevirtual 147, 3) := dk_182 0 147 (dk_at dksX5_holds_2 0 rfl rfl)
theorem dX5_holds_49 : decode cX5_holds 49 = .ok (.ishl, 1) := dk_120 (dk_at dksX5_holds_2 3 rfl rfl)
theorem dX5_holds_50 : decode cX5_holds 50 = .ok (.ior, 1) := dk_128 (dk_at dksX5_holds_2 4 rfl rfl)
theorem dX5_holds_51 : decode cX5_holds 51 = .ok (.goto 4, 3) := dk_167 0 4 (dk_at dksX5_holds_2 5 rfl rfl)
theorem dX5_holds_54 : decode cX5_holds 54 = .ok (.iload_n 2, 1) := dk_28 (dk_at dksX5_holds_2 8 rfl rfl)
theorem dX5_holds_55 : decode cX5_holds 55 = .ok (.ireturn, 1) := dk_172 (dk_at dksX5_holds_2 9 rfl rfl)
abbrev cX5_zoneOf : ByteArray := prog_18_method_11_code
def yX5_zoneOf : MethodName := ⟨RX5, "zoneOf", "(I)I"⟩
def dkwX5_zoneOf_0 : List UInt8 := [42, 42, 180, 0, 46, 27, 46, 42, 180, 0, 52, 27, 46, 182, 0, 147, 172]
abbrev dktX5_zoneOf_0 : List UInt8 := dkwX5_zoneOf_0 ++ []
theorem dksX5_zoneOf_0 : cX5_zoneOf.data.toList.drop 0 = dktX5_zoneOf_0 := by decide +kernel
theorem dX5_zoneOf_0 : decode cX5_zoneOf 0 = .ok (.aload_n 0, 1) := dk_42 (dk_at dksX5_zoneOf_0 0 rfl rfl)
theorem dX5_zoneOf_1 : decode cX5_zoneOf 1 = .ok (.aload_n 0, 1) := dk_42 (dk_at dksX5_zoneOf_0 1 rfl rfl)
theorem dX5_zoneOf_2 : decode cX5_zoneOf 2 = .ok (.getfield 46, 3) := dk_180 0 46 (dk_at dksX5_zoneOf_0 2 rfl rfl)
theorem dX5_zoneOf_5 : decode cX5_zoneOf 5 = .ok (.iload_n 1, 1) := dk_27 (dk_at dksX5_zoneOf_0 5 rfl rfl)
theorem dX5_zoneOf_6 : decode cX5_zoneOf 6 = .ok (.iaload, 1) := dk_46 (dk_at dksX5_zoneOf_0 6 rfl rfl)
theorem dX5_zoneOf_7 : decode cX5_zoneOf 7 = .ok (.aload_n 0, 1) := dk_42 (dk_at dksX5_zoneOf_0 7 rfl rfl)
theorem dX5_zoneOf_8 : decode cX5_zoneOf 8 = .ok (.getfield 52, 3) := dk_180 0 52 (dk_at dksX5_zoneOf_0 8 rfl rfl)
theorem dX5_zoneOf_11 : decode cX5_zoneOf 11 = .ok (.iload_n 1, 1) := dk_27 (dk_at dksX5_zoneOf_0 11 rfl rfl)
theorem dX5_zoneOf_12 : decode cX5_zoneOf 12 = .ok (.iaload, 1) := dk_46 (dk_at dksX5_zoneOf_0 12 rfl rfl)
theorem dX5_zoneOf_13 : decode cX5_zoneOf 13 = .ok (.invokevirtual 147, 3) := dk_182 0 147 (dk_at dksX5_zoneOf_0 13 rfl rfl)
theorem dX5_zoneOf_16 : decode cX5_zoneOf 16 = .ok (.ireturn, 1) := dk_172 (dk_at dksX5_zoneOf_0 16 rfl rfl)
abbrev cX5_zoneAt : ByteArray := prog_18_method_10_code
def yX5_zoneAt : MethodName := ⟨RX5, "zoneAt", "(II)I"⟩
def dkwX5_zoneAt_1 : List UInt8 := [16, 10, 108, 62, 132, 4, 255, 167, 255, 242, 29, 16, 10, 112, 4, 100, 172]
abbrev dktX5_zoneAt_1 : List UInt8 := dkwX5_zoneAt_1 ++ []
def dkwX5_zoneAt_0 : List UInt8 := [42, 180, 0, 76, 27, 46, 62, 42, 180, 0, 79, 27, 46, 4, 100, 54, 4, 21, 4, 28, 164, 0, 14, 29]
abbrev dktX5_zoneAt_0 : List UInt8 := dkwX5_zoneAt_0 ++ dktX5_zoneAt_1
theorem dksX5_zoneAt_0 : cX5_zoneAt.data.toList.drop 0 = dktX5_zoneAt_0 := by decide +kernel
theorem dksX5_zoneAt_1 : cX5_zoneAt.data.toList.drop 24 = dktX5_zoneAt_1 := dk_seg dksX5_zoneAt_0 24 rfl rfl
theorem dX5_zoneAt_0 : decode cX5_zoneAt 0 = .ok (.aload_n 0, 1) := dk_42 (dk_at dksX5_zoneAt_0 0 rfl rfl)
theorem dX5_zoneAt_1 : decode cX5_zoneAt 1 = .ok (.getfield 76, 3) := dk_180 0 76 (dk_at dksX5_zoneAt_0 1 rfl rfl)
theorem dX5_zoneAt_4 : decode cX5_zoneAt 4 = .ok (.iload_n 1, 1) := dk_27 (dk_at dksX5_zoneAt_0 4 rfl rfl)
theorem dX5_zoneAt_5 : decode cX5_zoneAt 5 = .ok (.iaload, 1) := dk_46 (dk_at dksX5_zoneAt_0 5 rfl rfl)
theorem dX5_zoneAt_6 : decode cX5_zoneAt 6 = .ok (.istore_n 3, 1) := dk_62 (dk_at dksX5_zoneAt_0 6 rfl rfl)
theorem dX5_zoneAt_7 : decode cX5_zoneAt 7 = .ok (.aload_n 0, 1) := dk_42 (dk_at dksX5_zoneAt_0 7 rfl rfl)
theorem dX5_zoneAt_8 : decode cX5_zoneAt 8 = .ok (.getfield 79, 3) := dk_180 0 79 (dk_at dksX5_zoneAt_0 8 rfl rfl)
theorem dX5_zoneAt_11 : decode cX5_zoneAt 11 = .ok (.iload_n 1, 1) := dk_27 (dk_at dksX5_zoneAt_0 11 rfl rfl)
theorem dX5_zoneAt_12 : decode cX5_zoneAt 12 = .ok (.iaload, 1) := dk_46 (dk_at dksX5_zoneAt_0 12 rfl rfl)
theorem dX5_zoneAt_13 : decode cX5_zoneAt 13 = .ok (.iconst 1, 1) := dk_4 (dk_at dksX5_zoneAt_0 13 rfl rfl)
theorem dX5_zoneAt_14 : decode cX5_zoneAt 14 = .ok (.isub, 1) := dk_100 (dk_at dksX5_zoneAt_0 14 rfl rfl)
theorem dX5_zoneAt_15 : decode cX5_zoneAt 15 = .ok (.istore 4, 2) := dk_54 4 (dk_at dksX5_zoneAt_0 15 rfl rfl)
theorem dX5_zoneAt_17 : decode cX5_zoneAt 17 = .ok (.iload 4, 2) := dk_21 4 (dk_at dksX5_zoneAt_0 17 rfl rfl)
theorem dX5_zoneAt_19 : decode cX5_zoneAt 19 = .ok (.iload_n 2, 1) := dk_28 (dk_at dksX5_zoneAt_0 19 rfl rfl)
theorem dX5_zoneAt_20 : decode cX5_zoneAt 20 = .ok (.if_icmp .le 14, 3) := dk_164 0 14 (dk_at dksX5_zoneAt_0 20 rfl rfl)
theorem dX5_zoneAt_23 : decode cX5_zoneAt 23 = .ok (.iload_n 3, 1) := dk_29 (dk_at dksX5_zoneAt_0 23 rfl rfl)
theorem dX5_zoneAt_24 : decode cX5_zoneAt 24 = .ok (.bipush 10, 2) := dk_16 10 (dk_at dksX5_zoneAt_1 0 rfl rfl)
theorem dX5_zoneAt_26 : decode cX5_zoneAt 26 = .ok (.idiv, 1) := dk_108 (dk_at dksX5_zoneAt_1 2 rfl rfl)
theorem dX5_zoneAt_27 : decode cX5_zoneAt 27 = .ok (.istore_n 3, 1) := dk_62 (dk_at dksX5_zoneAt_1 3 rfl rfl)
theorem dX5_zoneAt_28 : decode cX5_zoneAt 28 = .ok (.iinc 4 (-1), 3) := dk_132 4 255 (dk_at dksX5_zoneAt_1 4 rfl rfl)
theorem dX5_zoneAt_31 : decode cX5_zoneAt 31 = .ok (.goto (-14), 3) := dk_167 255 242 (dk_at dksX5_zoneAt_1 7 rfl rfl)
theorem dX5_zoneAt_34 : decode cX5_zoneAt 34 = .ok (.iload_n 3, 1) := dk_29 (dk_at dksX5_zoneAt_1 10 rfl rfl)
theorem dX5_zoneAt_35 : decode cX5_zoneAt 35 = .ok (.bipush 10, 2) := dk_16 10 (dk_at dksX5_zoneAt_1 11 rfl rfl)
theorem dX5_zoneAt_37 : decode cX5_zoneAt 37 = .ok (.irem, 1) := dk_112 (dk_at dksX5_zoneAt_1 13 rfl rfl)
theorem dX5_zoneAt_38 : decode cX5_zoneAt 38 = .ok (.iconst 1, 1) := dk_4 (dk_at dksX5_zoneAt_1 14 rfl rfl)
theorem dX5_zoneAt_39 : decode cX5_zoneAt 39 = .ok (.isub, 1) := dk_100 (dk_at dksX5_zoneAt_1 15 rfl rfl)
theorem dX5_zoneAt_40 : decode cX5_zoneAt 40 = .ok (.ireturn, 1) := dk_172 (dk_at dksX5_zoneAt_1 16 rfl rfl)
abbrev cX5_has : ByteArray := prog_18_method_9_code
def yX5_has : MethodName := ⟨RX5, "has", "(II)Z"⟩
def dkwX5_has_0 : List UInt8 := [26, 27, 122, 4, 126, 4, 160, 0, 7, 4, 167, 0, 4, 3, 172]
abbrev dktX5_has_0 : List UInt8 := dkwX5_has_0 ++ []
theorem dksX5_has_0 : cX5_has.data.toList.drop 0 = dktX5_has_0 := by decide +kernel
theorem dX5_has_0 : decode cX5_has 0 = .ok (.iload_n 0, 1) := dk_26 (dk_at dksX5_has_0 0 rfl rfl)
theorem dX5_has_1 : decode cX5_has 1 = .ok (.iload_n 1, 1) := dk_27 (dk_at dksX5_has_0 1 rfl rfl)
theorem dX5_has_2 : decode cX5_has 2 = .ok (.ishr, 1) := dk_122 (dk_at dksX5_has_0 2 rfl rfl)
theorem dX5_has_3 : decode cX5_has 3 = .ok (.iconst 1, 1) := dk_4 (dk_at dksX5_has_0 3 rfl rfl)
theorem dX5_has_4 : decode cX5_has 4 = .ok (.iand, 1) := dk_126 (dk_at dksX5_has_0 4 rfl rfl)
theorem dX5_has_5 : decode cX5_has 5 = .ok (.iconst 1, 1) := dk_4 (dk_at dksX5_has_0 5 rfl rfl)
theorem dX5_has_6 : decode cX5_has 6 = .ok (.if_icmp .ne 7, 3) := dk_160 0 7 (dk_at dksX5_has_0 6 rfl rfl)
theorem dX5_has_9 : decode cX5_has 9 = .ok (.iconst 1, 1) := dk_4 (dk_at dksX5_has_0 9 rfl rfl)
theorem dX5_has_10 : decode cX5_has 10 = .ok (.goto 4, 3) := dk_167 0 4 (dk_at dksX5_has_0 10 rfl rfl)
theorem dX5_has_13 : decode cX5_has 13 = .ok (.iconst 0, 1) := dk_3 (dk_at dksX5_has_0 13 rfl rfl)
theorem dX5_has_14 : decode cX5_has 14 = .ok (.ireturn, 1) := dk_172 (dk_at dksX5_has_0 14 rfl rfl)
abbrev cX5_remembers : ByteArray := prog_18_method_81_code
def yX5_remembers : MethodName := ⟨RX5, "remembers", "()V"⟩
def dkwX5_remembers_3 : List UInt8 := [180, 1, 122, 4, 96, 181, 1, 122, 177]
abbrev dktX5_remembers_3 : List UInt8 := dkwX5_remembers_3 ++ []
def dkwX5_remembers_2 : List UInt8 := [181, 1, 122, 42, 42, 180, 0, 127, 17, 2, 61, 42, 180, 1, 122, 104, 4, 182, 1, 44, 42, 89]
abbrev dktX5_remembers_2 : List UInt8 := dkwX5_remembers_2 ++ dktX5_remembers_3
def dkwX5_remembers_1 : List UInt8 := [180, 0, 127, 27, 17, 2, 61, 96, 46, 79, 132, 1, 1, 167, 255, 230, 42, 89, 180, 1, 122, 4, 100]
abbrev dktX5_remembers_1 : List UInt8 := dkwX5_remembers_1 ++ dktX5_remembers_2
def dkwX5_remembers_0 : List UInt8 := [42, 180, 1, 122, 16, 6, 160, 0, 44, 3, 60, 27, 17, 11, 49, 162, 0, 25, 42, 180, 0, 127, 27, 42]
abbrev dktX5_remembers_0 : List UInt8 := dkwX5_remembers_0 ++ dktX5_remembers_1
theorem dksX5_remembers_0 : cX5_remembers.data.toList.drop 0 = dktX5_remembers_0 := by decide +kernel
theorem dksX5_remembers_1 : cX5_remembers.data.toList.drop 24 = dktX5_remembers_1 := dk_seg dksX5_remembers_0 24 rfl rfl
theorem dksX5_remembers_2 : cX5_remembers.data.toList.drop 47 = dktX5_remembers_2 := dk_seg dksX5_remembers_1 23 rfl rfl
theorem dksX5_remembers_3 : cX5_remembers.data.toList.drop 69 = dktX5_remembers_3 := dk_seg dksX5_remembers_2 22 rfl rfl
theorem dX5_remembers_0 : decode cX5_remembers 0 = .ok (.aload_n 0, 1) := dk_42 (dk_at dksX5_remembers_0 0 rfl rfl)
theorem dX5_remembers_1 : decode cX5_remembers 1 = .ok (.getfield 378, 3) := dk_180 1 122 (dk_at dksX5_remembers_0 1 rfl rfl)
theorem dX5_remembers_4 : decode cX5_remembers 4 = .ok (.bipush 6, 2) := dk_16 6 (dk_at dksX5_remembers_0 4 rfl rfl)
theorem dX5_remembers_6 : decode cX5_remembers 6 = .ok (.if_icmp .ne 44, 3) := dk_160 0 44 (dk_at dksX5_remembers_0 6 rfl rfl)
theorem dX5_remembers_9 : decode cX5_remembers 9 = .ok (.iconst 0, 1) := dk_3 (dk_at dksX5_remembers_0 9 rfl rfl)
theorem dX5_remembers_10 : decode cX5_remembers 10 = .ok (.istore_n 1, 1) := dk_60 (dk_at dksX5_remembers_0 10 rfl rfl)
theorem dX5_remembers_11 : decode cX5_remembers 11 = .ok (.iload_n 1, 1) := dk_27 (dk_at dksX5_remembers_0 11 rfl rfl)
theorem dX5_remembers_12 : decode cX5_remembers 12 = .ok (.sipush 2865, 3) := dk_17 11 49 (dk_at dksX5_remembers_0 12 rfl rfl)
theorem dX5_remembers_15 : decode cX5_remembers 15 = .ok (.if_icmp .ge 25, 3) := dk_162 0 25 (dk_at dksX5_remembers_0 15 rfl rfl)
theorem dX5_remembers_18 : decode cX5_remembers 18 = .ok (.aload_n 0, 1) := dk_42 (dk_at dksX5_remembers_0 18 rfl rfl)
theorem dX5_remembers_19 : decode cX5_remembers 19 = .ok (.getfield 127, 3) := dk_180 0 127 (dk_at dksX5_remembers_0 19 rfl rfl)
theorem dX5_remembers_22 : decode cX5_remembers 22 = .ok (.iload_n 1, 1) := dk_27 (dk_at dksX5_remembers_0 22 rfl rfl)
theorem dX5_remembers_23 : decode cX5_remembers 23 = .ok (.aload_n 0, 1) := dk_42 (dk_at dksX5_remembers_0 23 rfl rfl)
theorem dX5_remembers_24 : decode cX5_remembers 24 = .ok (.getfield 127, 3) := dk_180 0 127 (dk_at dksX5_remembers_1 0 rfl rfl)
theorem dX5_remembers_27 : decode cX5_remembers 27 = .ok (.iload_n 1, 1) := dk_27 (dk_at dksX5_remembers_1 3 rfl rfl)
theorem dX5_remembers_28 : decode cX5_remembers 28 = .ok (.sipush 573, 3) := dk_17 2 61 (dk_at dksX5_remembers_1 4 rfl rfl)
theorem dX5_remembers_31 : decode cX5_remembers 31 = .ok (.iadd, 1) := dk_96 (dk_at dksX5_remembers_1 7 rfl rfl)
theorem dX5_remembers_32 : decode cX5_remembers 32 = .ok (.iaload, 1) := dk_46 (dk_at dksX5_remembers_1 8 rfl rfl)
theorem dX5_remembers_33 : decode cX5_remembers 33 = .ok (.iastore, 1) := dk_79 (dk_at dksX5_remembers_1 9 rfl rfl)
theorem dX5_remembers_34 : decode cX5_remembers 34 = .ok (.iinc 1 1, 3) := dk_132 1 1 (dk_at dksX5_remembers_1 10 rfl rfl)
theorem dX5_remembers_37 : decode cX5_remembers 37 = .ok (.goto (-26), 3) := dk_167 255 230 (dk_at dksX5_remembers_1 13 rfl rfl)
theorem dX5_remembers_40 : decode cX5_remembers 40 = .ok (.aload_n 0, 1) := dk_42 (dk_at dksX5_remembers_1 16 rfl rfl)
theorem dX5_remembers_41 : decode cX5_remembers 41 = .ok (.dup, 1) := dk_89 (dk_at dksX5_remembers_1 17 rfl rfl)
theorem dX5_remembers_42 : decode cX5_remembers 42 = .ok (.getfield 378, 3) := dk_180 1 122 (dk_at dksX5_remembers_1 18 rfl rfl)
theorem dX5_remembers_45 : decode cX5_remembers 45 = .ok (.iconst 1, 1) := dk_4 (dk_at dksX5_remembers_1 21 rfl rfl)
theorem dX5_remembers_46 : decode cX5_remembers 46 = .ok (.isub, 1) := dk_100 (dk_at dksX5_remembers_1 22 rfl rfl)
theorem dX5_remembers_47 : decode cX5_remembers 47 = .ok (.putfield 378, 3) := dk_181 1 122 (dk_at dksX5_remembers_2 0 rfl rfl)
theorem dX5_remembers_50 : decode cX5_remembers 50 = .ok (.aload_n 0, 1) := dk_42 (dk_at dksX5_remembers_2 3 rfl rfl)
theorem dX5_remembers_51 : decode cX5_remembers 51 = .ok (.aload_n 0, 1) := dk_42 (dk_at dksX5_remembers_2 4 rfl rfl)
theorem dX5_remembers_52 : decode cX5_remembers 52 = .ok (.getfield 127, 3) := dk_180 0 127 (dk_at dksX5_remembers_2 5 rfl rfl)
theorem dX5_remembers_55 : decode cX5_remembers 55 = .ok (.sipush 573, 3) := dk_17 2 61 (dk_at dksX5_remembers_2 8 rfl rfl)
theorem dX5_remembers_58 : decode cX5_remembers 58 = .ok (.aload_n 0, 1) := dk_42 (dk_at dksX5_remembers_2 11 rfl rfl)
theorem dX5_remembers_59 : decode cX5_remembers 59 = .ok (.getfield 378, 3) := dk_180 1 122 (dk_at dksX5_remembers_2 12 rfl rfl)
theorem dX5_remembers_62 : decode cX5_remembers 62 = .ok (.imul, 1) := dk_104 (dk_at dksX5_remembers_2 15 rfl rfl)
theorem dX5_remembers_63 : decode cX5_remembers 63 = .ok (.iconst 1, 1) := dk_4 (dk_at dksX5_remembers_2 16 rfl rfl)
theorem dX5_remembers_64 : decode cX5_remembers 64 = .ok (.invokevirtual 300, 3) := dk_182 1 44 (dk_at dksX5_remembers_2 17 rfl rfl)
theorem dX5_remembers_67 : decode cX5_remembers 67 = .ok (.aload_n 0, 1) := dk_42 (dk_at dksX5_remembers_2 20 rfl rfl)
theorem dX5_remembers_68 : decode cX5_remembers 68 = .ok (.dup, 1) := dk_89 (dk_at dksX5_remembers_2 21 rfl rfl)
theorem dX5_remembers_69 : decode cX5_remembers 69 = .ok (.getfield 378, 3) := dk_180 1 122 (dk_at dksX5_remembers_3 0 rfl rfl)
theorem dX5_remembers_72 : decode cX5_remembers 72 = .ok (.iconst 1, 1) := dk_4 (dk_at dksX5_remembers_3 3 rfl rfl)
theorem dX5_remembers_73 : decode cX5_remembers 73 = .ok (.iadd, 1) := dk_96 (dk_at dksX5_remembers_3 4 rfl rfl)
theorem dX5_remembers_74 : decode cX5_remembers 74 = .ok (.putfield 378, 3) := dk_181 1 122 (dk_at dksX5_remembers_3 5 rfl rfl)
theorem dX5_remembers_77 : decode cX5_remembers 77 = .ok (.return_, 1) := dk_177 (dk_at dksX5_remembers_3 8 rfl rfl)
abbrev cX5_passAll : ByteArray := prog_18_method_80_code
def yX5_passAll : MethodName := ⟨RX5, "passAll", "([IIZ)V"⟩
def dkwX5_passAll_9 : List UInt8 := [182, 1, 118, 181, 0, 155, 177]
abbrev dktX5_passAll_9 : List UInt8 := dkwX5_passAll_9 ++ []
def dkwX5_passAll_8 : List UInt8 := [181, 1, 35, 42, 42, 42, 180, 0, 214, 43, 182, 1, 118, 181, 0, 214, 42, 42, 42, 180, 0, 155, 43]
abbrev dktX5_passAll_8 : List UInt8 := dkwX5_passAll_8 ++ dktX5_passAll_9
def dkwX5_passAll_7 : List UInt8 := [42, 42, 180, 0, 211, 43, 182, 1, 118, 181, 0, 211, 42, 42, 42, 180, 1, 35, 43, 182, 1, 118]
abbrev dktX5_passAll_7 : List UInt8 := dkwX5_passAll_7 ++ dktX5_passAll_8
def dkwX5_passAll_6 : List UInt8 := [180, 0, 223, 43, 182, 1, 118, 181, 0, 223, 42, 42, 42, 180, 0, 220, 43, 182, 1, 118, 181, 0, 220, 42]
abbrev dktX5_passAll_6 : List UInt8 := dkwX5_passAll_6 ++ dktX5_passAll_7
def dkwX5_passAll_5 : List UInt8 := [182, 1, 118, 181, 0, 158, 42, 42, 42, 180, 1, 24, 43, 182, 1, 118, 181, 1, 24, 42, 42, 42]
abbrev dktX5_passAll_5 : List UInt8 := dkwX5_passAll_5 ++ dktX5_passAll_6
def dkwX5_passAll_4 : List UInt8 := [182, 1, 111, 42, 43, 182, 1, 115, 42, 42, 180, 0, 103, 43, 182, 1, 107, 42, 42, 42, 180, 0, 158, 43]
abbrev dktX5_passAll_4 : List UInt8 := dkwX5_passAll_4 ++ dktX5_passAll_5
def dkwX5_passAll_3 : List UInt8 := [182, 1, 107, 42, 42, 180, 0, 31, 43, 182, 1, 107, 42, 42, 180, 0, 34, 43, 182, 1, 107, 42, 43]
abbrev dktX5_passAll_3 : List UInt8 := dkwX5_passAll_3 ++ dktX5_passAll_4
def dkwX5_passAll_2 : List UInt8 := [180, 0, 22, 43, 182, 1, 107, 42, 42, 180, 0, 25, 43, 182, 1, 107, 42, 42, 180, 0, 28, 43]
abbrev dktX5_passAll_2 : List UInt8 := dkwX5_passAll_2 ++ dktX5_passAll_3
def dkwX5_passAll_1 : List UInt8 := [43, 182, 1, 107, 42, 42, 180, 0, 16, 43, 182, 1, 107, 42, 42, 180, 0, 19, 43, 182, 1, 107, 42, 42]
abbrev dktX5_passAll_1 : List UInt8 := dkwX5_passAll_1 ++ dktX5_passAll_2
def dkwX5_passAll_0 : List UInt8 := [42, 29, 181, 1, 101, 42, 28, 181, 1, 104, 42, 42, 180, 0, 7, 43, 182, 1, 107, 42, 42, 180, 0, 13]
abbrev dktX5_passAll_0 : List UInt8 := dkwX5_passAll_0 ++ dktX5_passAll_1
theorem dksX5_passAll_0 : cX5_passAll.data.toList.drop 0 = dktX5_passAll_0 := by decide +kernel
theorem dksX5_passAll_1 : cX5_passAll.data.toList.drop 24 = dktX5_passAll_1 := dk_seg dksX5_passAll_0 24 rfl rfl
theorem dksX5_passAll_2 : cX5_passAll.data.toList.drop 48 = dktX5_passAll_2 := dk_seg dksX5_passAll_1 24 rfl rfl
theorem dksX5_passAll_3 : cX5_passAll.data.toList.drop 70 = dktX5_passAll_3 := dk_seg dksX5_passAll_2 22 rfl rfl
theorem dksX5_passAll_4 : cX5_passAll.data.toList.drop 93 = dktX5_passAll_4 := dk_seg dksX5_passAll_3 23 rfl rfl
theorem dksX5_passAll_5 : cX5_passAll.data.toList.drop 117 = dktX5_passAll_5 := dk_seg dksX5_passAll_4 24 rfl rfl
theorem dksX5_passAll_6 : cX5_passAll.data.toList.drop 139 = dktX5_passAll_6 := dk_seg dksX5_passAll_5 22 rfl rfl
theorem dksX5_passAll_7 : cX5_passAll.data.toList.drop 163 = dktX5_passAll_7 := dk_seg dksX5_passAll_6 24 rfl rfl
theorem dksX5_passAll_8 : cX5_passAll.data.toList.drop 185 = dktX5_passAll_8 := dk_seg dksX5_passAll_7 22 rfl rfl
theorem dksX5_passAll_9 : cX5_passAll.data.toList.drop 208 = dktX5_passAll_9 := dk_seg dksX5_passAll_8 23 rfl rfl
theorem dX5_passAll_0 : decode cX5_passAll 0 = .ok (.aload_n 0, 1) := dk_42 (dk_at dksX5_passAll_0 0 rfl rfl)
theorem dX5_passAll_1 : decode cX5_passAll 1 = .ok (.iload_n 3, 1) := dk_29 (dk_at dksX5_passAll_0 1 rfl rfl)
theorem dX5_passAll_2 : decode cX5_passAll 2 = .ok (.putfield 357, 3) := dk_181 1 101 (dk_at dksX5_passAll_0 2 rfl rfl)
theorem dX5_passAll_5 : decode cX5_passAll 5 = .ok (.aload_n 0, 1) := dk_42 (dk_at dksX5_passAll_0 5 rfl rfl)
theorem dX5_passAll_6 : decode cX5_passAll 6 = .ok (.iload_n 2, 1) := dk_28 (dk_at dksX5_passAll_0 6 rfl rfl)
theorem dX5_passAll_7 : decode cX5_passAll 7 = .ok (.putfield 360, 3) := dk_181 1 104 (dk_at dksX5_passAll_0 7 rfl rfl)
theorem dX5_passAll_10 : decode cX5_passAll 10 = .ok (.aload_n 0, 1) := dk_42 (dk_at dksX5_passAll_0 10 rfl rfl)
theorem dX5_passAll_11 : decode cX5_passAll 11 = .ok (.aload_n 0, 1) := dk_42 (dk_at dksX5_passAll_0 11 rfl rfl)
theorem dX5_passAll_12 : decode cX5_passAll 12 = .ok (.getfield 7, 3) := dk_180 0 7 (dk_at dksX5_passAll_0 12 rfl rfl)
theorem dX5_passAll_15 : decode cX5_passAll 15 = .ok (.aload_n 1, 1) := dk_43 (dk_at dksX5_passAll_0 15 rfl rfl)
theorem dX5_passAll_16 : decode cX5_passAll 16 = .ok (.invokevirtual 363, 3) := dk_182 1 107 (dk_at dksX5_passAll_0 16 rfl rfl)
theorem dX5_passAll_19 : decode cX5_passAll 19 = .ok (.aload_n 0, 1) := dk_42 (dk_at dksX5_passAll_0 19 rfl rfl)
theorem dX5_passAll_20 : decode cX5_passAll 20 = .ok (.aload_n 0, 1) := dk_42 (dk_at dksX5_passAll_0 20 rfl rfl)
theorem dX5_passAll_21 : decode cX5_passAll 21 = .ok (.getfield 13, 3) := dk_180 0 13 (dk_at dksX5_passAll_0 21 rfl rfl)
theorem dX5_passAll_24 : decode cX5_passAll 24 = .ok (.aload_n 1, 1) := dk_43 (dk_at dksX5_passAll_1 0 rfl rfl)
theorem dX5_passAll_25 : decode cX5_passAll 25 = .ok (.invokevirtual 363, 3) := dk_182 1 107 (dk_at dksX5_passAll_1 1 rfl rfl)
theorem dX5_passAll_28 : decode cX5_passAll 28 = .ok (.aload_n 0, 1) := dk_42 (dk_at dksX5_passAll_1 4 rfl rfl)
theorem dX5_passAll_29 : decode cX5_passAll 29 = .ok (.aload_n 0, 1) := dk_42 (dk_at dksX5_passAll_1 5 rfl rfl)
theorem dX5_passAll_30 : decode cX5_passAll 30 = .ok (.getfield 16, 3) := dk_180 0 16 (dk_at dksX5_passAll_1 6 rfl rfl)
theorem dX5_passAll_33 : decode cX5_passAll 33 = .ok (.aload_n 1, 1) := dk_43 (dk_at dksX5_passAll_1 9 rfl rfl)
theorem dX5_passAll_34 : decode cX5_passAll 34 = .ok (.invokevirtual 363, 3) := dk_182 1 107 (dk_at dksX5_passAll_1 10 rfl rfl)
theorem dX5_passAll_37 : decode cX5_passAll 37 = .ok (.aload_n 0, 1) := dk_42 (dk_at dksX5_passAll_1 13 rfl rfl)
theorem dX5_passAll_38 : decode cX5_passAll 38 = .ok (.aload_n 0, 1) := dk_42 (dk_at dksX5_passAll_1 14 rfl rfl)
theorem dX5_passAll_39 : decode cX5_passAll 39 = .ok (.getfield 19, 3) := dk_180 0 19 (dk_at dksX5_passAll_1 15 rfl rfl)
theorem dX5_passAll_42 : decode cX5_passAll 42 = .ok (.aload_n 1, 1) := dk_43 (dk_at dksX5_passAll_1 18 rfl rfl)
theorem dX5_passAll_43 : decode cX5_passAll 43 = .ok (.invokevirtual 363, 3) := dk_182 1 107 (dk_at dksX5_passAll_1 19 rfl rfl)
theorem dX5_passAll_46 : decode cX5_passAll 46 = .ok (.aload_n 0, 1) := dk_42 (dk_at dksX5_passAll_1 22 rfl rfl)
theorem dX5_passAll_47 : decode cX5_passAll 47 = .ok (.aload_n 0, 1) := dk_42 (dk_at dksX5_passAll_1 23 rfl rfl)
theorem dX5_passAll_48 : decode cX5_passAll 48 = .ok (.getfield 22, 3) := dk_180 0 22 (dk_at dksX5_passAll_2 0 rfl rfl)
theorem dX5_passAll_51 : decode cX5_passAll 51 = .ok (.aload_n 1, 1) := dk_43 (dk_at dksX5_passAll_2 3 rfl rfl)
theorem dX5_passAll_52 : decode cX5_passAll 52 = .ok (.invokevirtual 363, 3) := dk_182 1 107 (dk_at dksX5_passAll_2 4 rfl rfl)
theorem dX5_passAll_55 : decode cX5_passAll 55 = .ok (.aload_n 0, 1) := dk_42 (dk_at dksX5_passAll_2 7 rfl rfl)
theorem dX5_passAll_56 : decode cX5_passAll 56 = .ok (.aload_n 0, 1) := dk_42 (dk_at dksX5_passAll_2 8 rfl rfl)
theorem dX5_passAll_57 : decode cX5_passAll 57 = .ok (.getfield 25, 3) := dk_180 0 25 (dk_at dksX5_passAll_2 9 rfl rfl)
theorem dX5_passAll_60 : decode cX5_passAll 60 = .ok (.aload_n 1, 1) := dk_43 (dk_at dksX5_passAll_2 12 rfl rfl)
theorem dX5_passAll_61 : decode cX5_passAll 61 = .ok (.invokevirtual 363, 3) := dk_182 1 107 (dk_at dksX5_passAll_2 13 rfl rfl)
theorem dX5_passAll_64 : decode cX5_passAll 64 = .ok (.aload_n 0, 1) := dk_42 (dk_at dksX5_passAll_2 16 rfl rfl)
theorem dX5_passAll_65 : decode cX5_passAll 65 = .ok (.aload_n 0, 1) := dk_42 (dk_at dksX5_passAll_2 17 rfl rfl)
theorem dX5_passAll_66 : decode cX5_passAll 66 = .ok (.getfield 28, 3) := dk_180 0 28 (dk_at dksX5_passAll_2 18 rfl rfl)
theorem dX5_passAll_69 : decode cX5_passAll 69 = .ok (.aload_n 1, 1) := dk_43 (dk_at dksX5_passAll_2 21 rfl rfl)
theorem dX5_passAll_70 : decode cX5_passAll 70 = .ok (.invokevirtual 363, 3) := dk_182 1 107 (dk_at dksX5_passAll_3 0 rfl rfl)
theorem dX5_passAll_73 : decode cX5_passAll 73 = .ok (.aload_n 0, 1) := dk_42 (dk_at dksX5_passAll_3 3 rfl rfl)
theorem dX5_passAll_74 : decode cX5_passAll 74 = .ok (.aload_n 0, 1) := dk_42 (dk_at dksX5_passAll_3 4 rfl rfl)
theorem dX5_passAll_75 : decode cX5_passAll 75 = .ok (.getfield 31, 3) := dk_180 0 31 (dk_at dksX5_passAll_3 5 rfl rfl)
theorem dX5_passAll_78 : decode cX5_passAll 78 = .ok (.aload_n 1, 1) := dk_43 (dk_at dksX5_passAll_3 8 rfl rfl)
theorem dX5_passAll_79 : decode cX5_passAll 79 = .ok (.invokevirtual 363, 3) := dk_182 1 107 (dk_at dksX5_passAll_3 9 rfl rfl)
theorem dX5_passAll_82 : decode cX5_passAll 82 = .ok (.aload_n 0, 1) := dk_42 (dk_at dksX5_passAll_3 12 rfl rfl)
theorem dX5_passAll_83 : decode cX5_passAll 83 = .ok (.aload_n 0, 1) := dk_42 (dk_at dksX5_passAll_3 13 rfl rfl)
theorem dX5_passAll_84 : decode cX5_passAll 84 = .ok (.getfield 34, 3) := dk_180 0 34 (dk_at dksX5_passAll_3 14 rfl rfl)
theorem dX5_passAll_87 : decode cX5_passAll 87 = .ok (.aload_n 1, 1) := dk_43 (dk_at dksX5_passAll_3 17 rfl rfl)
theorem dX5_passAll_88 : decode cX5_passAll 88 = .ok (.invokevirtual 363, 3) := dk_182 1 107 (dk_at dksX5_passAll_3 18 rfl rfl)
theorem dX5_passAll_91 : decode cX5_passAll 91 = .ok (.aload_n 0, 1) := dk_42 (dk_at dksX5_passAll_3 21 rfl rfl)
theorem dX5_passAll_92 : decode cX5_passAll 92 = .ok (.aload_n 1, 1) := dk_43 (dk_at dksX5_passAll_3 22 rfl rfl)
theorem dX5_passAll_93 : decode cX5_passAll 93 = .ok (.invokevirtual 367, 3) := dk_182 1 111 (dk_at dksX5_passAll_4 0 rfl rfl)
theorem dX5_passAll_96 : decode cX5_passAll 96 = .ok (.aload_n 0, 1) := dk_42 (dk_at dksX5_passAll_4 3 rfl rfl)
theorem dX5_passAll_97 : decode cX5_passAll 97 = .ok (.aload_n 1, 1) := dk_43 (dk_at dksX5_passAll_4 4 rfl rfl)
theorem dX5_passAll_98 : decode cX5_passAll 98 = .ok (.invokevirtual 371, 3) := dk_182 1 115 (dk_at dksX5_passAll_4 5 rfl rfl)
theorem dX5_passAll_101 : decode cX5_passAll 101 = .ok (.aload_n 0, 1) := dk_42 (dk_at dksX5_passAll_4 8 rfl rfl)
theorem dX5_passAll_102 : decode cX5_passAll 102 = .ok (.aload_n 0, 1) := dk_42 (dk_at dksX5_passAll_4 9 rfl rfl)
theorem dX5_passAll_103 : decode cX5_passAll 103 = .ok (.getfield 103, 3) := dk_180 0 103 (dk_at dksX5_passAll_4 10 rfl rfl)
theorem dX5_passAll_106 : decode cX5_passAll 106 = .ok (.aload_n 1, 1) := dk_43 (dk_at dksX5_passAll_4 13 rfl rfl)
theorem dX5_passAll_107 : decode cX5_passAll 107 = .ok (.invokevirtual 363, 3) := dk_182 1 107 (dk_at dksX5_passAll_4 14 rfl rfl)
theorem dX5_passAll_110 : decode cX5_passAll 110 = .ok (.aload_n 0, 1) := dk_42 (dk_at dksX5_passAll_4 17 rfl rfl)
theorem dX5_passAll_111 : decode cX5_passAll 111 = .ok (.aload_n 0, 1) := dk_42 (dk_at dksX5_passAll_4 18 rfl rfl)
theorem dX5_passAll_112 : decode cX5_passAll 112 = .ok (.aload_n 0, 1) := dk_42 (dk_at dksX5_passAll_4 19 rfl rfl)
theorem dX5_passAll_113 : decode cX5_passAll 113 = .ok (.getfield 158, 3) := dk_180 0 158 (dk_at dksX5_passAll_4 20 rfl rfl)
theorem dX5_passAll_116 : decode cX5_passAll 116 = .ok (.aload_n 1, 1) := dk_43 (dk_at dksX5_passAll_4 23 rfl rfl)
theorem dX5_passAll_117 : decode cX5_passAll 117 = .ok (.invokevirtual 374, 3) := dk_182 1 118 (dk_at dksX5_passAll_5 0 rfl rfl)
theorem dX5_passAll_120 : decode cX5_passAll 120 = .ok (.putfield 158, 3) := dk_181 0 158 (dk_at dksX5_passAll_5 3 rfl rfl)
theorem dX5_passAll_123 : decode cX5_passAll 123 = .ok (.aload_n 0, 1) := dk_42 (dk_at dksX5_passAll_5 6 rfl rfl)
theorem dX5_passAll_124 : decode cX5_passAll 124 = .ok (.aload_n 0, 1) := dk_42 (dk_at dksX5_passAll_5 7 rfl rfl)
theorem dX5_passAll_125 : decode cX5_passAll 125 = .ok (.aload_n 0, 1) := dk_42 (dk_at dksX5_passAll_5 8 rfl rfl)
theorem dX5_passAll_126 : decode cX5_passAll 126 = .ok (.getfield 280, 3) := dk_180 1 24 (dk_at dksX5_passAll_5 9 rfl rfl)
theorem dX5_passAll_129 : decode cX5_passAll 129 = .ok (.aload_n 1, 1) := dk_43 (dk_at dksX5_passAll_5 12 rfl rfl)
theorem dX5_passAll_130 : decode cX5_passAll 130 = .ok (.invokevirtual 374, 3) := dk_182 1 118 (dk_at dksX5_passAll_5 13 rfl rfl)
theorem dX5_passAll_133 : decode cX5_passAll 133 = .ok (.putfield 280, 3) := dk_181 1 24 (dk_at dksX5_passAll_5 16 rfl rfl)
theorem dX5_passAll_136 : decode cX5_passAll 136 = .ok (.aload_n 0, 1) := dk_42 (dk_at dksX5_passAll_5 19 rfl rfl)
theorem dX5_passAll_137 : decode cX5_passAll 137 = .ok (.aload_n 0, 1) := dk_42 (dk_at dksX5_passAll_5 20 rfl rfl)
theorem dX5_passAll_138 : decode cX5_passAll 138 = .ok (.aload_n 0, 1) := dk_42 (dk_at dksX5_passAll_5 21 rfl rfl)
theorem dX5_passAll_139 : decode cX5_passAll 139 = .ok (.getfield 223, 3) := dk_180 0 223 (dk_at dksX5_passAll_6 0 rfl rfl)
theorem dX5_passAll_142 : decode cX5_passAll 142 = .ok (.aload_n 1, 1) := dk_43 (dk_at dksX5_passAll_6 3 rfl rfl)
theorem dX5_passAll_143 : decode cX5_passAll 143 = .ok (.invokevirtual 374, 3) := dk_182 1 118 (dk_at dksX5_passAll_6 4 rfl rfl)
theorem dX5_passAll_146 : decode cX5_passAll 146 = .ok (.putfield 223, 3) := dk_181 0 223 (dk_at dksX5_passAll_6 7 rfl rfl)
theorem dX5_passAll_149 : decode cX5_passAll 149 = .ok (.aload_n 0, 1) := dk_42 (dk_at dksX5_passAll_6 10 rfl rfl)
theorem dX5_passAll_150 : decode cX5_passAll 150 = .ok (.aload_n 0, 1) := dk_42 (dk_at dksX5_passAll_6 11 rfl rfl)
theorem dX5_passAll_151 : decode cX5_passAll 151 = .ok (.aload_n 0, 1) := dk_42 (dk_at dksX5_passAll_6 12 rfl rfl)
theorem dX5_passAll_152 : decode cX5_passAll 152 = .ok (.getfield 220, 3) := dk_180 0 220 (dk_at dksX5_passAll_6 13 rfl rfl)
theorem dX5_passAll_155 : decode cX5_passAll 155 = .ok (.aload_n 1, 1) := dk_43 (dk_at dksX5_passAll_6 16 rfl rfl)
theorem dX5_passAll_156 : decode cX5_passAll 156 = .ok (.invokevirtual 374, 3) := dk_182 1 118 (dk_at dksX5_passAll_6 17 rfl rfl)
theorem dX5_passAll_159 : decode cX5_passAll 159 = .ok (.putfield 220, 3) := dk_181 0 220 (dk_at dksX5_passAll_6 20 rfl rfl)
theorem dX5_passAll_162 : decode cX5_passAll 162 = .ok (.aload_n 0, 1) := dk_42 (dk_at dksX5_passAll_6 23 rfl rfl)
theorem dX5_passAll_163 : decode cX5_passAll 163 = .ok (.aload_n 0, 1) := dk_42 (dk_at dksX5_passAll_7 0 rfl rfl)
theorem dX5_passAll_164 : decode cX5_passAll 164 = .ok (.aload_n 0, 1) := dk_42 (dk_at dksX5_passAll_7 1 rfl rfl)
theorem dX5_passAll_165 : decode cX5_passAll 165 = .ok (.getfield 211, 3) := dk_180 0 211 (dk_at dksX5_passAll_7 2 rfl rfl)
theorem dX5_passAll_168 : decode cX5_passAll 168 = .ok (.aload_n 1, 1) := dk_43 (dk_at dksX5_passAll_7 5 rfl rfl)
theorem dX5_passAll_169 : decode cX5_passAll 169 = .ok (.invokevirtual 374, 3) := dk_182 1 118 (dk_at dksX5_passAll_7 6 rfl rfl)
theorem dX5_passAll_172 : decode cX5_passAll 172 = .ok (.putfield 211, 3) := dk_181 0 211 (dk_at dksX5_passAll_7 9 rfl rfl)
theorem dX5_passAll_175 : decode cX5_passAll 175 = .ok (.aload_n 0, 1) := dk_42 (dk_at dksX5_passAll_7 12 rfl rfl)
theorem dX5_passAll_176 : decode cX5_passAll 176 = .ok (.aload_n 0, 1) := dk_42 (dk_at dksX5_passAll_7 13 rfl rfl)
theorem dX5_passAll_177 : decode cX5_passAll 177 = .ok (.aload_n 0, 1) := dk_42 (dk_at dksX5_passAll_7 14 rfl rfl)
theorem dX5_passAll_178 : decode cX5_passAll 178 = .ok (.getfield 291, 3) := dk_180 1 35 (dk_at dksX5_passAll_7 15 rfl rfl)
theorem dX5_passAll_181 : decode cX5_passAll 181 = .ok (.aload_n 1, 1) := dk_43 (dk_at dksX5_passAll_7 18 rfl rfl)
theorem dX5_passAll_182 : decode cX5_passAll 182 = .ok (.invokevirtual 374, 3) := dk_182 1 118 (dk_at dksX5_passAll_7 19 rfl rfl)
theorem dX5_passAll_185 : decode cX5_passAll 185 = .ok (.putfield 291, 3) := dk_181 1 35 (dk_at dksX5_passAll_8 0 rfl rfl)
theorem dX5_passAll_188 : decode cX5_passAll 188 = .ok (.aload_n 0, 1) := dk_42 (dk_at dksX5_passAll_8 3 rfl rfl)
theorem dX5_passAll_189 : decode cX5_passAll 189 = .ok (.aload_n 0, 1) := dk_42 (dk_at dksX5_passAll_8 4 rfl rfl)
theorem dX5_passAll_190 : decode cX5_passAll 190 = .ok (.aload_n 0, 1) := dk_42 (dk_at dksX5_passAll_8 5 rfl rfl)
theorem dX5_passAll_191 : decode cX5_passAll 191 = .ok (.getfield 214, 3) := dk_180 0 214 (dk_at dksX5_passAll_8 6 rfl rfl)
theorem dX5_passAll_194 : decode cX5_passAll 194 = .ok (.aload_n 1, 1) := dk_43 (dk_at dksX5_passAll_8 9 rfl rfl)
theorem dX5_passAll_195 : decode cX5_passAll 195 = .ok (.invokevirtual 374, 3) := dk_182 1 118 (dk_at dksX5_passAll_8 10 rfl rfl)
theorem dX5_passAll_198 : decode cX5_passAll 198 = .ok (.putfield 214, 3) := dk_181 0 214 (dk_at dksX5_passAll_8 13 rfl rfl)
theorem dX5_passAll_201 : decode cX5_passAll 201 = .ok (.aload_n 0, 1) := dk_42 (dk_at dksX5_passAll_8 16 rfl rfl)
theorem dX5_passAll_202 : decode cX5_passAll 202 = .ok (.aload_n 0, 1) := dk_42 (dk_at dksX5_passAll_8 17 rfl rfl)
theorem dX5_passAll_203 : decode cX5_passAll 203 = .ok (.aload_n 0, 1) := dk_42 (dk_at dksX5_passAll_8 18 rfl rfl)
theorem dX5_passAll_204 : decode cX5_passAll 204 = .ok (.getfield 155, 3) := dk_180 0 155 (dk_at dksX5_passAll_8 19 rfl rfl)
theorem dX5_passAll_207 : decode cX5_passAll 207 = .ok (.aload_n 1, 1) := dk_43 (dk_at dksX5_passAll_8 22 rfl rfl)
theorem dX5_passAll_208 : decode cX5_passAll 208 = .ok (.invokevirtual 374, 3) := dk_182 1 118 (dk_at dksX5_passAll_9 0 rfl rfl)
theorem dX5_passAll_211 : decode cX5_passAll 211 = .ok (.putfield 155, 3) := dk_181 0 155 (dk_at dksX5_passAll_9 3 rfl rfl)
theorem dX5_passAll_214 : decode cX5_passAll 214 = .ok (.return_, 1) := dk_177 (dk_at dksX5_passAll_9 6 rfl rfl)
abbrev cX5_passes : ByteArray := prog_18_method_76_code
def yX5_passes : MethodName := ⟨RX5, "passes", "([I[I)V"⟩
def dkwX5_passes_2 : List UInt8 := [132, 3, 1, 167, 255, 209, 177]
abbrev dktX5_passes_2 : List UInt8 := dkwX5_passes_2 ++ []
def dkwX5_passes_1 : List UInt8 := [167, 0, 12, 43, 29, 44, 42, 180, 1, 104, 46, 79, 42, 89, 180, 1, 104, 4, 96, 181, 1, 104]
abbrev dktX5_passes_1 : List UInt8 := dkwX5_passes_1 ++ dktX5_passes_2
def dkwX5_passes_0 : List UInt8 := [3, 62, 29, 43, 190, 162, 0, 47, 42, 180, 1, 101, 153, 0, 15, 44, 42, 180, 1, 104, 43, 29, 46, 79]
abbrev dktX5_passes_0 : List UInt8 := dkwX5_passes_0 ++ dktX5_passes_1
theorem dksX5_passes_0 : cX5_passes.data.toList.drop 0 = dktX5_passes_0 := by decide +kernel
theorem dksX5_passes_1 : cX5_passes.data.toList.drop 24 = dktX5_passes_1 := dk_seg dksX5_passes_0 24 rfl rfl
theorem dksX5_passes_2 : cX5_passes.data.toList.drop 46 = dktX5_passes_2 := dk_seg dksX5_passes_1 22 rfl rfl
theorem dX5_passes_0 : decode cX5_passes 0 = .ok (.iconst 0, 1) := dk_3 (dk_at dksX5_passes_0 0 rfl rfl)
theorem dX5_passes_1 : decode cX5_passes 1 = .ok (.istore_n 3, 1) := dk_62 (dk_at dksX5_passes_0 1 rfl rfl)
theorem dX5_passes_2 : decode cX5_passes 2 = .ok (.iload_n 3, 1) := dk_29 (dk_at dksX5_passes_0 2 rfl rfl)
theorem dX5_passes_3 : decode cX5_passes 3 = .ok (.aload_n 1, 1) := dk_43 (dk_at dksX5_passes_0 3 rfl rfl)
theorem dX5_passes_4 : decode cX5_passes 4 = .ok (.arraylength, 1) := dk_190 (dk_at dksX5_passes_0 4 rfl rfl)
theorem dX5_passes_5 : decode cX5_passes 5 = .ok (.if_icmp .ge 47, 3) := dk_162 0 47 (dk_at dksX5_passes_0 5 rfl rfl)
theorem dX5_passes_8 : decode cX5_passes 8 = .ok (.aload_n 0, 1) := dk_42 (dk_at dksX5_passes_0 8 rfl rfl)
theorem dX5_passes_9 : decode cX5_passes 9 = .ok (.getfield 357, 3) := dk_180 1 101 (dk_at dksX5_passes_0 9 rfl rfl)
theorem dX5_passes_12 : decode cX5_passes 12 = .ok (.ifCond .eq 15, 3) := dk_153 0 15 (dk_at dksX5_passes_0 12 rfl rfl)
theorem dX5_passes_15 : decode cX5_passes 15 = .ok (.aload_n 2, 1) := dk_44 (dk_at dksX5_passes_0 15 rfl rfl)
theorem dX5_passes_16 : decode cX5_passes 16 = .ok (.aload_n 0, 1) := dk_42 (dk_at dksX5_passes_0 16 rfl rfl)
theorem dX5_passes_17 : decode cX5_passes 17 = .ok (.getfield 360, 3) := dk_180 1 104 (dk_at dksX5_passes_0 17 rfl rfl)
theorem dX5_passes_20 : decode cX5_passes 20 = .ok (.aload_n 1, 1) := dk_43 (dk_at dksX5_passes_0 20 rfl rfl)
theorem dX5_passes_21 : decode cX5_passes 21 = .ok (.iload_n 3, 1) := dk_29 (dk_at dksX5_passes_0 21 rfl rfl)
theorem dX5_passes_22 : decode cX5_passes 22 = .ok (.iaload, 1) := dk_46 (dk_at dksX5_passes_0 22 rfl rfl)
theorem dX5_passes_23 : decode cX5_passes 23 = .ok (.iastore, 1) := dk_79 (dk_at dksX5_passes_0 23 rfl rfl)
theorem dX5_passes_24 : decode cX5_passes 24 = .ok (.goto 12, 3) := dk_167 0 12 (dk_at dksX5_passes_1 0 rfl rfl)
theorem dX5_passes_27 : decode cX5_passes 27 = .ok (.aload_n 1, 1) := dk_43 (dk_at dksX5_passes_1 3 rfl rfl)
theorem dX5_passes_28 : decode cX5_passes 28 = .ok (.iload_n 3, 1) := dk_29 (dk_at dksX5_passes_1 4 rfl rfl)
theorem dX5_passes_29 : decode cX5_passes 29 = .ok (.aload_n 2, 1) := dk_44 (dk_at dksX5_passes_1 5 rfl rfl)
theorem dX5_passes_30 : decode cX5_passes 30 = .ok (.aload_n 0, 1) := dk_42 (dk_at dksX5_passes_1 6 rfl rfl)
theorem dX5_passes_31 : decode cX5_passes 31 = .ok (.getfield 360, 3) := dk_180 1 104 (dk_at dksX5_passes_1 7 rfl rfl)
theorem dX5_passes_34 : decode cX5_passes 34 = .ok (.iaload, 1) := dk_46 (dk_at dksX5_passes_1 10 rfl rfl)
theorem dX5_passes_35 : decode cX5_passes 35 = .ok (.iastore, 1) := dk_79 (dk_at dksX5_passes_1 11 rfl rfl)
theorem dX5_passes_36 : decode cX5_passes 36 = .ok (.aload_n 0, 1) := dk_42 (dk_at dksX5_passes_1 12 rfl rfl)
theorem dX5_passes_37 : decode cX5_passes 37 = .ok (.dup, 1) := dk_89 (dk_at dksX5_passes_1 13 rfl rfl)
theorem dX5_passes_38 : decode cX5_passes 38 = .ok (.getfield 360, 3) := dk_180 1 104 (dk_at dksX5_passes_1 14 rfl rfl)
theorem dX5_passes_41 : decode cX5_passes 41 = .ok (.iconst 1, 1) := dk_4 (dk_at dksX5_passes_1 17 rfl rfl)
theorem dX5_passes_42 : decode cX5_passes 42 = .ok (.iadd, 1) := dk_96 (dk_at dksX5_passes_1 18 rfl rfl)
theorem dX5_passes_43 : decode cX5_passes 43 = .ok (.putfield 360, 3) := dk_181 1 104 (dk_at dksX5_passes_1 19 rfl rfl)
theorem dX5_passes_46 : decode cX5_passes 46 = .ok (.iinc 3 1, 3) := dk_132 3 1 (dk_at dksX5_passes_2 0 rfl rfl)
theorem dX5_passes_49 : decode cX5_passes 49 = .ok (.goto (-47), 3) := dk_167 255 209 (dk_at dksX5_passes_2 3 rfl rfl)
theorem dX5_passes_52 : decode cX5_passes 52 = .ok (.return_, 1) := dk_177 (dk_at dksX5_passes_2 6 rfl rfl)
abbrev cX5_passArms : ByteArray := prog_18_method_78_code
def yX5_passArms : MethodName := ⟨RX5, "passArms", "([I)V"⟩
def dkwX5_passArms_4 : List UInt8 := [180, 0, 67, 43, 182, 1, 107, 42, 42, 180, 0, 70, 43, 182, 1, 107, 177]
abbrev dktX5_passArms_4 : List UInt8 := dkwX5_passArms_4 ++ []
def dkwX5_passArms_3 : List UInt8 := [182, 1, 107, 42, 42, 180, 0, 61, 43, 182, 1, 107, 42, 42, 180, 0, 64, 43, 182, 1, 107, 42, 42]
abbrev dktX5_passArms_3 : List UInt8 := dkwX5_passArms_3 ++ dktX5_passArms_4
def dkwX5_passArms_2 : List UInt8 := [180, 0, 52, 43, 182, 1, 107, 42, 42, 180, 0, 55, 43, 182, 1, 107, 42, 42, 180, 0, 58, 43]
abbrev dktX5_passArms_2 : List UInt8 := dkwX5_passArms_2 ++ dktX5_passArms_3
def dkwX5_passArms_1 : List UInt8 := [182, 1, 107, 42, 42, 180, 0, 46, 43, 182, 1, 107, 42, 42, 180, 0, 49, 43, 182, 1, 107, 42, 42]
abbrev dktX5_passArms_1 : List UInt8 := dkwX5_passArms_1 ++ dktX5_passArms_2
def dkwX5_passArms_0 : List UInt8 := [42, 42, 180, 0, 37, 43, 182, 1, 107, 42, 42, 180, 0, 40, 43, 182, 1, 107, 42, 42, 180, 0, 43, 43]
abbrev dktX5_passArms_0 : List UInt8 := dkwX5_passArms_0 ++ dktX5_passArms_1
theorem dksX5_passArms_0 : cX5_passArms.data.toList.drop 0 = dktX5_passArms_0 := by decide +kernel
theorem dksX5_passArms_1 : cX5_passArms.data.toList.drop 24 = dktX5_passArms_1 := dk_seg dksX5_passArms_0 24 rfl rfl
theorem dksX5_passArms_2 : cX5_passArms.data.toList.drop 47 = dktX5_passArms_2 := dk_seg dksX5_passArms_1 23 rfl rfl
theorem dksX5_passArms_3 : cX5_passArms.data.toList.drop 69 = dktX5_passArms_3 := dk_seg dksX5_passArms_2 22 rfl rfl
theorem dksX5_passArms_4 : cX5_passArms.data.toList.drop 92 = dktX5_passArms_4 := dk_seg dksX5_passArms_3 23 rfl rfl
theorem dX5_passArms_0 : decode cX5_passArms 0 = .ok (.aload_n 0, 1) := dk_42 (dk_at dksX5_passArms_0 0 rfl rfl)
theorem dX5_passArms_1 : decode cX5_passArms 1 = .ok (.aload_n 0, 1) := dk_42 (dk_at dksX5_passArms_0 1 rfl rfl)
theorem dX5_passArms_2 : decode cX5_passArms 2 = .ok (.getfield 37, 3) := dk_180 0 37 (dk_at dksX5_passArms_0 2 rfl rfl)
theorem dX5_passArms_5 : decode cX5_passArms 5 = .ok (.aload_n 1, 1) := dk_43 (dk_at dksX5_passArms_0 5 rfl rfl)
theorem dX5_passArms_6 : decode cX5_passArms 6 = .ok (.invokevirtual 363, 3) := dk_182 1 107 (dk_at dksX5_passArms_0 6 rfl rfl)
theorem dX5_passArms_9 : decode cX5_passArms 9 = .ok (.aload_n 0, 1) := dk_42 (dk_at dksX5_passArms_0 9 rfl rfl)
theorem dX5_passArms_10 : decode cX5_passArms 10 = .ok (.aload_n 0, 1) := dk_42 (dk_at dksX5_passArms_0 10 rfl rfl)
theorem dX5_passArms_11 : decode cX5_passArms 11 = .ok (.getfield 40, 3) := dk_180 0 40 (dk_at dksX5_passArms_0 11 rfl rfl)
theorem dX5_passArms_14 : decode cX5_passArms 14 = .ok (.aload_n 1, 1) := dk_43 (dk_at dksX5_passArms_0 14 rfl rfl)
theorem dX5_passArms_15 : decode cX5_passArms 15 = .ok (.invokevirtual 363, 3) := dk_182 1 107 (dk_at dksX5_passArms_0 15 rfl rfl)
theorem dX5_passArms_18 : decode cX5_passArms 18 = .ok (.aload_n 0, 1) := dk_42 (dk_at dksX5_passArms_0 18 rfl rfl)
theorem dX5_passArms_19 : decode cX5_passArms 19 = .ok (.aload_n 0, 1) := dk_42 (dk_at dksX5_passArms_0 19 rfl rfl)
theorem dX5_passArms_20 : decode cX5_passArms 20 = .ok (.getfield 43, 3) := dk_180 0 43 (dk_at dksX5_passArms_0 20 rfl rfl)
theorem dX5_passArms_23 : decode cX5_passArms 23 = .ok (.aload_n 1, 1) := dk_43 (dk_at dksX5_passArms_0 23 rfl rfl)
theorem dX5_passArms_24 : decode cX5_passArms 24 = .ok (.invokevirtual 363, 3) := dk_182 1 107 (dk_at dksX5_passArms_1 0 rfl rfl)
theorem dX5_passArms_27 : decode cX5_passArms 27 = .ok (.aload_n 0, 1) := dk_42 (dk_at dksX5_passArms_1 3 rfl rfl)
theorem dX5_passArms_28 : decode cX5_passArms 28 = .ok (.aload_n 0, 1) := dk_42 (dk_at dksX5_passArms_1 4 rfl rfl)
theorem dX5_passArms_29 : decode cX5_passArms 29 = .ok (.getfield 46, 3) := dk_180 0 46 (dk_at dksX5_passArms_1 5 rfl rfl)
theorem dX5_passArms_32 : decode cX5_passArms 32 = .ok (.aload_n 1, 1) := dk_43 (dk_at dksX5_passArms_1 8 rfl rfl)
theorem dX5_passArms_33 : decode cX5_passArms 33 = .ok (.invokevirtual 363, 3) := dk_182 1 107 (dk_at dksX5_passArms_1 9 rfl rfl)
theorem dX5_passArms_36 : decode cX5_passArms 36 = .ok (.aload_n 0, 1) := dk_42 (dk_at dksX5_passArms_1 12 rfl rfl)
theorem dX5_passArms_37 : decode cX5_passArms 37 = .ok (.aload_n 0, 1) := dk_42 (dk_at dksX5_passArms_1 13 rfl rfl)
theorem dX5_passArms_38 : decode cX5_passArms 38 = .ok (.getfield 49, 3) := dk_180 0 49 (dk_at dksX5_passArms_1 14 rfl rfl)
theorem dX5_passArms_41 : decode cX5_passArms 41 = .ok (.aload_n 1, 1) := dk_43 (dk_at dksX5_passArms_1 17 rfl rfl)
theorem dX5_passArms_42 : decode cX5_passArms 42 = .ok (.invokevirtual 363, 3) := dk_182 1 107 (dk_at dksX5_passArms_1 18 rfl rfl)
theorem dX5_passArms_45 : decode cX5_passArms 45 = .ok (.aload_n 0, 1) := dk_42 (dk_at dksX5_passArms_1 21 rfl rfl)
theorem dX5_passArms_46 : decode cX5_passArms 46 = .ok (.aload_n 0, 1) := dk_42 (dk_at dksX5_passArms_1 22 rfl rfl)
theorem dX5_passArms_47 : decode cX5_passArms 47 = .ok (.getfield 52, 3) := dk_180 0 52 (dk_at dksX5_passArms_2 0 rfl rfl)
theorem dX5_passArms_50 : decode cX5_passArms 50 = .ok (.aload_n 1, 1) := dk_43 (dk_at dksX5_passArms_2 3 rfl rfl)
theorem dX5_passArms_51 : decode cX5_passArms 51 = .ok (.invokevirtual 363, 3) := dk_182 1 107 (dk_at dksX5_passArms_2 4 rfl rfl)
theorem dX5_passArms_54 : decode cX5_passArms 54 = .ok (.aload_n 0, 1) := dk_42 (dk_at dksX5_passArms_2 7 rfl rfl)
theorem dX5_passArms_55 : decode cX5_passArms 55 = .ok (.aload_n 0, 1) := dk_42 (dk_at dksX5_passArms_2 8 rfl rfl)
theorem dX5_passArms_56 : decode cX5_passArms 56 = .ok (.getfield 55, 3) := dk_180 0 55 (dk_at dksX5_passArms_2 9 rfl rfl)
theorem dX5_passArms_59 : decode cX5_passArms 59 = .ok (.aload_n 1, 1) := dk_43 (dk_at dksX5_passArms_2 12 rfl rfl)
theorem dX5_passArms_60 : decode cX5_passArms 60 = .ok (.invokevirtual 363, 3) := dk_182 1 107 (dk_at dksX5_passArms_2 13 rfl rfl)
theorem dX5_passArms_63 : decode cX5_passArms 63 = .ok (.aload_n 0, 1) := dk_42 (dk_at dksX5_passArms_2 16 rfl rfl)
theorem dX5_passArms_64 : decode cX5_passArms 64 = .ok (.aload_n 0, 1) := dk_42 (dk_at dksX5_passArms_2 17 rfl rfl)
theorem dX5_passArms_65 : decode cX5_passArms 65 = .ok (.getfield 58, 3) := dk_180 0 58 (dk_at dksX5_passArms_2 18 rfl rfl)
theorem dX5_passArms_68 : decode cX5_passArms 68 = .ok (.aload_n 1, 1) := dk_43 (dk_at dksX5_passArms_2 21 rfl rfl)
theorem dX5_passArms_69 : decode cX5_passArms 69 = .ok (.invokevirtual 363, 3) := dk_182 1 107 (dk_at dksX5_passArms_3 0 rfl rfl)
theorem dX5_passArms_72 : decode cX5_passArms 72 = .ok (.aload_n 0, 1) := dk_42 (dk_at dksX5_passArms_3 3 rfl rfl)
theorem dX5_passArms_73 : decode cX5_passArms 73 = .ok (.aload_n 0, 1) := dk_42 (dk_at dksX5_passArms_3 4 rfl rfl)
theorem dX5_passArms_74 : decode cX5_passArms 74 = .ok (.getfield 61, 3) := dk_180 0 61 (dk_at dksX5_passArms_3 5 rfl rfl)
theorem dX5_passArms_77 : decode cX5_passArms 77 = .ok (.aload_n 1, 1) := dk_43 (dk_at dksX5_passArms_3 8 rfl rfl)
theorem dX5_passArms_78 : decode cX5_passArms 78 = .ok (.invokevirtual 363, 3) := dk_182 1 107 (dk_at dksX5_passArms_3 9 rfl rfl)
theorem dX5_passArms_81 : decode cX5_passArms 81 = .ok (.aload_n 0, 1) := dk_42 (dk_at dksX5_passArms_3 12 rfl rfl)
theorem dX5_passArms_82 : decode cX5_passArms 82 = .ok (.aload_n 0, 1) := dk_42 (dk_at dksX5_passArms_3 13 rfl rfl)
theorem dX5_passArms_83 : decode cX5_passArms 83 = .ok (.getfield 64, 3) := dk_180 0 64 (dk_at dksX5_passArms_3 14 rfl rfl)
theorem dX5_passArms_86 : decode cX5_passArms 86 = .ok (.aload_n 1, 1) := dk_43 (dk_at dksX5_passArms_3 17 rfl rfl)
theorem dX5_passArms_87 : decode cX5_passArms 87 = .ok (.invokevirtual 363, 3) := dk_182 1 107 (dk_at dksX5_passArms_3 18 rfl rfl)
theorem dX5_passArms_90 : decode cX5_passArms 90 = .ok (.aload_n 0, 1) := dk_42 (dk_at dksX5_passArms_3 21 rfl rfl)
theorem dX5_passArms_91 : decode cX5_passArms 91 = .ok (.aload_n 0, 1) := dk_42 (dk_at dksX5_passArms_3 22 rfl rfl)
theorem dX5_passArms_92 : decode cX5_passArms 92 = .ok (.getfield 67, 3) := dk_180 0 67 (dk_at dksX5_passArms_4 0 rfl rfl)
theorem dX5_passArms_95 : decode cX5_passArms 95 = .ok (.aload_n 1, 1) := dk_43 (dk_at dksX5_passArms_4 3 rfl rfl)
theorem dX5_passArms_96 : decode cX5_passArms 96 = .ok (.invokevirtual 363, 3) := dk_182 1 107 (dk_at dksX5_passArms_4 4 rfl rfl)
theorem dX5_passArms_99 : decode cX5_passArms 99 = .ok (.aload_n 0, 1) := dk_42 (dk_at dksX5_passArms_4 7 rfl rfl)
theorem dX5_passArms_100 : decode cX5_passArms 100 = .ok (.aload_n 0, 1) := dk_42 (dk_at dksX5_passArms_4 8 rfl rfl)
theorem dX5_passArms_101 : decode cX5_passArms 101 = .ok (.getfield 70, 3) := dk_180 0 70 (dk_at dksX5_passArms_4 9 rfl rfl)
theorem dX5_passArms_104 : decode cX5_passArms 104 = .ok (.aload_n 1, 1) := dk_43 (dk_at dksX5_passArms_4 12 rfl rfl)
theorem dX5_passArms_105 : decode cX5_passArms 105 = .ok (.invokevirtual 363, 3) := dk_182 1 107 (dk_at dksX5_passArms_4 13 rfl rfl)
theorem dX5_passArms_108 : decode cX5_passArms 108 = .ok (.return_, 1) := dk_177 (dk_at dksX5_passArms_4 16 rfl rfl)
abbrev cX5_passJobs : ByteArray := prog_18_method_79_code
def yX5_passJobs : MethodName := ⟨RX5, "passJobs", "([I)V"⟩
def dkwX5_passJobs_3 : List UInt8 := [182, 1, 107, 42, 42, 180, 0, 97, 43, 182, 1, 107, 42, 42, 180, 0, 100, 43, 182, 1, 107, 177]
abbrev dktX5_passJobs_3 : List UInt8 := dkwX5_passJobs_3 ++ []
def dkwX5_passJobs_2 : List UInt8 := [180, 0, 88, 43, 182, 1, 107, 42, 42, 180, 0, 91, 43, 182, 1, 107, 42, 42, 180, 0, 94, 43]
abbrev dktX5_passJobs_2 : List UInt8 := dkwX5_passJobs_2 ++ dktX5_passJobs_3
def dkwX5_passJobs_1 : List UInt8 := [182, 1, 107, 42, 42, 180, 0, 82, 43, 182, 1, 107, 42, 42, 180, 0, 85, 43, 182, 1, 107, 42, 42]
abbrev dktX5_passJobs_1 : List UInt8 := dkwX5_passJobs_1 ++ dktX5_passJobs_2
def dkwX5_passJobs_0 : List UInt8 := [42, 42, 180, 0, 73, 43, 182, 1, 107, 42, 42, 180, 0, 76, 43, 182, 1, 107, 42, 42, 180, 0, 79, 43]
abbrev dktX5_passJobs_0 : List UInt8 := dkwX5_passJobs_0 ++ dktX5_passJobs_1
theorem dksX5_passJobs_0 : cX5_passJobs.data.toList.drop 0 = dktX5_passJobs_0 := by decide +kernel
theorem dksX5_passJobs_1 : cX5_passJobs.data.toList.drop 24 = dktX5_passJobs_1 := dk_seg dksX5_passJobs_0 24 rfl rfl
theorem dksX5_passJobs_2 : cX5_passJobs.data.toList.drop 47 = dktX5_passJobs_2 := dk_seg dksX5_passJobs_1 23 rfl rfl
theorem dksX5_passJobs_3 : cX5_passJobs.data.toList.drop 69 = dktX5_passJobs_3 := dk_seg dksX5_passJobs_2 22 rfl rfl
theorem dX5_passJobs_0 : decode cX5_passJobs 0 = .ok (.aload_n 0, 1) := dk_42 (dk_at dksX5_passJobs_0 0 rfl rfl)
theorem dX5_passJobs_1 : decode cX5_passJobs 1 = .ok (.aload_n 0, 1) := dk_42 (dk_at dksX5_passJobs_0 1 rfl rfl)
theorem dX5_passJobs_2 : decode cX5_passJobs 2 = .ok (.getfield 73, 3) := dk_180 0 73 (dk_at dksX5_passJobs_0 2 rfl rfl)
theorem dX5_passJobs_5 : decode cX5_passJobs 5 = .ok (.aload_n 1, 1) := dk_43 (dk_at dksX5_passJobs_0 5 rfl rfl)
theorem dX5_passJobs_6 : decode cX5_passJobs 6 = .ok (.invokevirtual 363, 3) := dk_182 1 107 (dk_at dksX5_passJobs_0 6 rfl rfl)
theorem dX5_passJobs_9 : decode cX5_passJobs 9 = .ok (.aload_n 0, 1) := dk_42 (dk_at dksX5_passJobs_0 9 rfl rfl)
theorem dX5_passJobs_10 : decode cX5_passJobs 10 = .ok (.aload_n 0, 1) := dk_42 (dk_at dksX5_passJobs_0 10 rfl rfl)
theorem dX5_passJobs_11 : decode cX5_passJobs 11 = .ok (.getfield 76, 3) := dk_180 0 76 (dk_at dksX5_passJobs_0 11 rfl rfl)
theorem dX5_passJobs_14 : decode cX5_passJobs 14 = .ok (.aload_n 1, 1) := dk_43 (dk_at dksX5_passJobs_0 14 rfl rfl)
theorem dX5_passJobs_15 : decode cX5_passJobs 15 = .ok (.invokevirtual 363, 3) := dk_182 1 107 (dk_at dksX5_passJobs_0 15 rfl rfl)
theorem dX5_passJobs_18 : decode cX5_passJobs 18 = .ok (.aload_n 0, 1) := dk_42 (dk_at dksX5_passJobs_0 18 rfl rfl)
theorem dX5_passJobs_19 : decode cX5_passJobs 19 = .ok (.aload_n 0, 1) := dk_42 (dk_at dksX5_passJobs_0 19 rfl rfl)
theorem dX5_passJobs_20 : decode cX5_passJobs 20 = .ok (.getfield 79, 3) := dk_180 0 79 (dk_at dksX5_passJobs_0 20 rfl rfl)
theorem dX5_passJobs_23 : decode cX5_passJobs 23 = .ok (.aload_n 1, 1) := dk_43 (dk_at dksX5_passJobs_0 23 rfl rfl)
theorem dX5_passJobs_24 : decode cX5_passJobs 24 = .ok (.invokevirtual 363, 3) := dk_182 1 107 (dk_at dksX5_passJobs_1 0 rfl rfl)
theorem dX5_passJobs_27 : decode cX5_passJobs 27 = .ok (.aload_n 0, 1) := dk_42 (dk_at dksX5_passJobs_1 3 rfl rfl)
theorem dX5_passJobs_28 : decode cX5_passJobs 28 = .ok (.aload_n 0, 1) := dk_42 (dk_at dksX5_passJobs_1 4 rfl rfl)
theorem dX5_passJobs_29 : decode cX5_passJobs 29 = .ok (.getfield 82, 3) := dk_180 0 82 (dk_at dksX5_passJobs_1 5 rfl rfl)
theorem dX5_passJobs_32 : decode cX5_passJobs 32 = .ok (.aload_n 1, 1) := dk_43 (dk_at dksX5_passJobs_1 8 rfl rfl)
theorem dX5_passJobs_33 : decode cX5_passJobs 33 = .ok (.invokevirtual 363, 3) := dk_182 1 107 (dk_at dksX5_passJobs_1 9 rfl rfl)
theorem dX5_passJobs_36 : decode cX5_passJobs 36 = .ok (.aload_n 0, 1) := dk_42 (dk_at dksX5_passJobs_1 12 rfl rfl)
theorem dX5_passJobs_37 : decode cX5_passJobs 37 = .ok (.aload_n 0, 1) := dk_42 (dk_at dksX5_passJobs_1 13 rfl rfl)
theorem dX5_passJobs_38 : decode cX5_passJobs 38 = .ok (.getfield 85, 3) := dk_180 0 85 (dk_at dksX5_passJobs_1 14 rfl rfl)
theorem dX5_passJobs_41 : decode cX5_passJobs 41 = .ok (.aload_n 1, 1) := dk_43 (dk_at dksX5_passJobs_1 17 rfl rfl)
theorem dX5_passJobs_42 : decode cX5_passJobs 42 = .ok (.invokevirtual 363, 3) := dk_182 1 107 (dk_at dksX5_passJobs_1 18 rfl rfl)
theorem dX5_passJobs_45 : decode cX5_passJobs 45 = .ok (.aload_n 0, 1) := dk_42 (dk_at dksX5_passJobs_1 21 rfl rfl)
theorem dX5_passJobs_46 : decode cX5_passJobs 46 = .ok (.aload_n 0, 1) := dk_42 (dk_at dksX5_passJobs_1 22 rfl rfl)
theorem dX5_passJobs_47 : decode cX5_passJobs 47 = .ok (.getfield 88, 3) := dk_180 0 88 (dk_at dksX5_passJobs_2 0 rfl rfl)
theorem dX5_passJobs_50 : decode cX5_passJobs 50 = .ok (.aload_n 1, 1) := dk_43 (dk_at dksX5_passJobs_2 3 rfl rfl)
theorem dX5_passJobs_51 : decode cX5_passJobs 51 = .ok (.invokevirtual 363, 3) := dk_182 1 107 (dk_at dksX5_passJobs_2 4 rfl rfl)
theorem dX5_passJobs_54 : decode cX5_passJobs 54 = .ok (.aload_n 0, 1) := dk_42 (dk_at dksX5_passJobs_2 7 rfl rfl)
theorem dX5_passJobs_55 : decode cX5_passJobs 55 = .ok (.aload_n 0, 1) := dk_42 (dk_at dksX5_passJobs_2 8 rfl rfl)
theorem dX5_passJobs_56 : decode cX5_passJobs 56 = .ok (.getfield 91, 3) := dk_180 0 91 (dk_at dksX5_passJobs_2 9 rfl rfl)
theorem dX5_passJobs_59 : decode cX5_passJobs 59 = .ok (.aload_n 1, 1) := dk_43 (dk_at dksX5_passJobs_2 12 rfl rfl)
theorem dX5_passJobs_60 : decode cX5_passJobs 60 = .ok (.invokevirtual 363, 3) := dk_182 1 107 (dk_at dksX5_passJobs_2 13 rfl rfl)
theorem dX5_passJobs_63 : decode cX5_passJobs 63 = .ok (.aload_n 0, 1) := dk_42 (dk_at dksX5_passJobs_2 16 rfl rfl)
theorem dX5_passJobs_64 : decode cX5_passJobs 64 = .ok (.aload_n 0, 1) := dk_42 (dk_at dksX5_passJobs_2 17 rfl rfl)
theorem dX5_passJobs_65 : decode cX5_passJobs 65 = .ok (.getfield 94, 3) := dk_180 0 94 (dk_at dksX5_passJobs_2 18 rfl rfl)
theorem dX5_passJobs_68 : decode cX5_passJobs 68 = .ok (.aload_n 1, 1) := dk_43 (dk_at dksX5_passJobs_2 21 rfl rfl)
theorem dX5_passJobs_69 : decode cX5_passJobs 69 = .ok (.invokevirtual 363, 3) := dk_182 1 107 (dk_at dksX5_passJobs_3 0 rfl rfl)
theorem dX5_passJobs_72 : decode cX5_passJobs 72 = .ok (.aload_n 0, 1) := dk_42 (dk_at dksX5_passJobs_3 3 rfl rfl)
theorem dX5_passJobs_73 : decode cX5_passJobs 73 = .ok (.aload_n 0, 1) := dk_42 (dk_at dksX5_passJobs_3 4 rfl rfl)
theorem dX5_passJobs_74 : decode cX5_passJobs 74 = .ok (.getfield 97, 3) := dk_180 0 97 (dk_at dksX5_passJobs_3 5 rfl rfl)
theorem dX5_passJobs_77 : decode cX5_passJobs 77 = .ok (.aload_n 1, 1) := dk_43 (dk_at dksX5_passJobs_3 8 rfl rfl)
theorem dX5_passJobs_78 : decode cX5_passJobs 78 = .ok (.invokevirtual 363, 3) := dk_182 1 107 (dk_at dksX5_passJobs_3 9 rfl rfl)
theorem dX5_passJobs_81 : decode cX5_passJobs 81 = .ok (.aload_n 0, 1) := dk_42 (dk_at dksX5_passJobs_3 12 rfl rfl)
theorem dX5_passJobs_82 : decode cX5_passJobs 82 = .ok (.aload_n 0, 1) := dk_42 (dk_at dksX5_passJobs_3 13 rfl rfl)
theorem dX5_passJobs_83 : decode cX5_passJobs 83 = .ok (.getfield 100, 3) := dk_180 0 100 (dk_at dksX5_passJobs_3 14 rfl rfl)
theorem dX5_passJobs_86 : decode cX5_passJobs 86 = .ok (.aload_n 1, 1) := dk_43 (dk_at dksX5_passJobs_3 17 rfl rfl)
theorem dX5_passJobs_87 : decode cX5_passJobs 87 = .ok (.invokevirtual 363, 3) := dk_182 1 107 (dk_at dksX5_passJobs_3 18 rfl rfl)
theorem dX5_passJobs_90 : decode cX5_passJobs 90 = .ok (.return_, 1) := dk_177 (dk_at dksX5_passJobs_3 21 rfl rfl)
abbrev cX5_pass : ByteArray := prog_18_method_77_code
def yX5_pass : MethodName := ⟨RX5, "pass", "(I[I)I"⟩
def dkwX5_pass_1 : List UInt8 := [79, 42, 89, 180, 1, 104, 4, 96, 181, 1, 104, 29, 172]
abbrev dktX5_pass_1 : List UInt8 := dkwX5_pass_1 ++ []
def dkwX5_pass_0 : List UInt8 := [42, 180, 1, 101, 153, 0, 7, 27, 167, 0, 9, 44, 42, 180, 1, 104, 46, 62, 44, 42, 180, 1, 104, 29]
abbrev dktX5_pass_0 : List UInt8 := dkwX5_pass_0 ++ dktX5_pass_1
theorem dksX5_pass_0 : cX5_pass.data.toList.drop 0 = dktX5_pass_0 := by decide +kernel
theorem dksX5_pass_1 : cX5_pass.data.toList.drop 24 = dktX5_pass_1 := dk_seg dksX5_pass_0 24 rfl rfl
theorem dX5_pass_0 : decode cX5_pass 0 = .ok (.aload_n 0, 1) := dk_42 (dk_at dksX5_pass_0 0 rfl rfl)
theorem dX5_pass_1 : decode cX5_pass 1 = .ok (.getfield 357, 3) := dk_180 1 101 (dk_at dksX5_pass_0 1 rfl rfl)
theorem dX5_pass_4 : decode cX5_pass 4 = .ok (.ifCond .eq 7, 3) := dk_153 0 7 (dk_at dksX5_pass_0 4 rfl rfl)
theorem dX5_pass_7 : decode cX5_pass 7 = .ok (.iload_n 1, 1) := dk_27 (dk_at dksX5_pass_0 7 rfl rfl)
theorem dX5_pass_8 : decode cX5_pass 8 = .ok (.goto 9, 3) := dk_167 0 9 (dk_at dksX5_pass_0 8 rfl rfl)
theorem dX5_pass_11 : decode cX5_pass 11 = .ok (.aload_n 2, 1) := dk_44 (dk_at dksX5_pass_0 11 rfl rfl)
theorem dX5_pass_12 : decode cX5_pass 12 = .ok (.aload_n 0, 1) := dk_42 (dk_at dksX5_pass_0 12 rfl rfl)
theorem dX5_pass_13 : decode cX5_pass 13 = .ok (.getfield 360, 3) := dk_180 1 104 (dk_at dksX5_pass_0 13 rfl rfl)
theorem dX5_pass_16 : decode cX5_pass 16 = .ok (.iaload, 1) := dk_46 (dk_at dksX5_pass_0 16 rfl rfl)
theorem dX5_pass_17 : decode cX5_pass 17 = .ok (.istore_n 3, 1) := dk_62 (dk_at dksX5_pass_0 17 rfl rfl)
theorem dX5_pass_18 : decode cX5_pass 18 = .ok (.aload_n 2, 1) := dk_44 (dk_at dksX5_pass_0 18 rfl rfl)
theorem dX5_pass_19 : decode cX5_pass 19 = .ok (.aload_n 0, 1) := dk_42 (dk_at dksX5_pass_0 19 rfl rfl)
theorem dX5_pass_20 : decode cX5_pass 20 = .ok (.getfield 360, 3) := dk_180 1 104 (dk_at dksX5_pass_0 20 rfl rfl)
theorem dX5_pass_23 : decode cX5_pass 23 = .ok (.iload_n 3, 1) := dk_29 (dk_at dksX5_pass_0 23 rfl rfl)
theorem dX5_pass_24 : decode cX5_pass 24 = .ok (.iastore, 1) := dk_79 (dk_at dksX5_pass_1 0 rfl rfl)
theorem dX5_pass_25 : decode cX5_pass 25 = .ok (.aload_n 0, 1) := dk_42 (dk_at dksX5_pass_1 1 rfl rfl)
theorem dX5_pass_26 : decode cX5_pass 26 = .ok (.dup, 1) := dk_89 (dk_at dksX5_pass_1 2 rfl rfl)
theorem dX5_pass_27 : decode cX5_pass 27 = .ok (.getfield 360, 3) := dk_180 1 104 (dk_at dksX5_pass_1 3 rfl rfl)
theorem dX5_pass_30 : decode cX5_pass 30 = .ok (.iconst 1, 1) := dk_4 (dk_at dksX5_pass_1 6 rfl rfl)
theorem dX5_pass_31 : decode cX5_pass 31 = .ok (.iadd, 1) := dk_96 (dk_at dksX5_pass_1 7 rfl rfl)
theorem dX5_pass_32 : decode cX5_pass 32 = .ok (.putfield 360, 3) := dk_181 1 104 (dk_at dksX5_pass_1 8 rfl rfl)
theorem dX5_pass_35 : decode cX5_pass 35 = .ok (.iload_n 3, 1) := dk_29 (dk_at dksX5_pass_1 11 rfl rfl)
theorem dX5_pass_36 : decode cX5_pass 36 = .ok (.ireturn, 1) := dk_172 (dk_at dksX5_pass_1 12 rfl rfl)
abbrev cX5_locks : ByteArray := prog_18_method_32_code
def yX5_locks : MethodName := ⟨RX5, "locks", "(IIZ)V"⟩
def dkwX5_locks_3 : List UInt8 := [79, 177]
abbrev dktX5_locks_3 : List UInt8 := dkwX5_locks_3 ++ []
def dkwX5_locks_2 : List UInt8 := [180, 0, 7, 28, 46, 4, 27, 120, 128, 167, 0, 15, 42, 180, 0, 7, 28, 46, 4, 27, 120, 2, 130, 126]
abbrev dktX5_locks_2 : List UInt8 := dkwX5_locks_2 ++ dktX5_locks_3
def dkwX5_locks_1 : List UInt8 := [180, 0, 7, 27, 46, 4, 28, 120, 2, 130, 126, 79, 42, 180, 0, 7, 28, 29, 153, 0, 16, 42]
abbrev dktX5_locks_1 : List UInt8 := dkwX5_locks_1 ++ dktX5_locks_2
def dkwX5_locks_0 : List UInt8 := [42, 180, 0, 7, 27, 29, 153, 0, 16, 42, 180, 0, 7, 27, 46, 4, 28, 120, 128, 167, 0, 15, 42]
abbrev dktX5_locks_0 : List UInt8 := dkwX5_locks_0 ++ dktX5_locks_1
theorem dksX5_locks_0 : cX5_locks.data.toList.drop 0 = dktX5_locks_0 := by decide +kernel
theorem dksX5_locks_1 : cX5_locks.data.toList.drop 23 = dktX5_locks_1 := dk_seg dksX5_locks_0 23 rfl rfl
theorem dksX5_locks_2 : cX5_locks.data.toList.drop 45 = dktX5_locks_2 := dk_seg dksX5_locks_1 22 rfl rfl
theorem dksX5_locks_3 : cX5_locks.data.toList.drop 69 = dktX5_locks_3 := dk_seg dksX5_locks_2 24 rfl rfl
theorem dX5_locks_0 : decode cX5_locks 0 = .ok (.aload_n 0, 1) := dk_42 (dk_at dksX5_locks_0 0 rfl rfl)
theorem dX5_locks_1 : decode cX5_locks 1 = .ok (.getfield 7, 3) := dk_180 0 7 (dk_at dksX5_locks_0 1 rfl rfl)
theorem dX5_locks_4 : decode cX5_locks 4 = .ok (.iload_n 1, 1) := dk_27 (dk_at dksX5_locks_0 4 rfl rfl)
theorem dX5_locks_5 : decode cX5_locks 5 = .ok (.iload_n 3, 1) := dk_29 (dk_at dksX5_locks_0 5 rfl rfl)
theorem dX5_locks_6 : decode cX5_locks 6 = .ok (.ifCond .eq 16, 3) := dk_153 0 16 (dk_at dksX5_locks_0 6 rfl rfl)
theorem dX5_locks_9 : decode cX5_locks 9 = .ok (.aload_n 0, 1) := dk_42 (dk_at dksX5_locks_0 9 rfl rfl)
theorem dX5_locks_10 : decode cX5_locks 10 = .ok (.getfield 7, 3) := dk_180 0 7 (dk_at dksX5_locks_0 10 rfl rfl)
theorem dX5_locks_13 : decode cX5_locks 13 = .ok (.iload_n 1, 1) := dk_27 (dk_at dksX5_locks_0 13 rfl rfl)
theorem dX5_locks_14 : decode cX5_locks 14 = .ok (.iaload, 1) := dk_46 (dk_at dksX5_locks_0 14 rfl rfl)
theorem dX5_locks_15 : decode cX5_locks 15 = .ok (.iconst 1, 1) := dk_4 (dk_at dksX5_locks_0 15 rfl rfl)
theorem dX5_locks_16 : decode cX5_locks 16 = .ok (.iload_n 2, 1) := dk_28 (dk_at dksX5_locks_0 16 rfl rfl)
theorem dX5_locks_17 : decode cX5_locks 17 = .ok (.ishl, 1) := dk_120 (dk_at dksX5_locks_0 17 rfl rfl)
theorem dX5_locks_18 : decode cX5_locks 18 = .ok (.ior, 1) := dk_128 (dk_at dksX5_locks_0 18 rfl rfl)
theorem dX5_locks_19 : decode cX5_locks 19 = .ok (.goto 15, 3) := dk_167 0 15 (dk_at dksX5_locks_0 19 rfl rfl)
theorem dX5_locks_22 : decode cX5_locks 22 = .ok (.aload_n 0, 1) := dk_42 (dk_at dksX5_locks_0 22 rfl rfl)
theorem dX5_locks_23 : decode cX5_locks 23 = .ok (.getfield 7, 3) := dk_180 0 7 (dk_at dksX5_locks_1 0 rfl rfl)
theorem dX5_locks_26 : decode cX5_locks 26 = .ok (.iload_n 1, 1) := dk_27 (dk_at dksX5_locks_1 3 rfl rfl)
theorem dX5_locks_27 : decode cX5_locks 27 = .ok (.iaload, 1) := dk_46 (dk_at dksX5_locks_1 4 rfl rfl)
theorem dX5_locks_28 : decode cX5_locks 28 = .ok (.iconst 1, 1) := dk_4 (dk_at dksX5_locks_1 5 rfl rfl)
theorem dX5_locks_29 : decode cX5_locks 29 = .ok (.iload_n 2, 1) := dk_28 (dk_at dksX5_locks_1 6 rfl rfl)
theorem dX5_locks_30 : decode cX5_locks 30 = .ok (.ishl, 1) := dk_120 (dk_at dksX5_locks_1 7 rfl rfl)
theorem dX5_locks_31 : decode cX5_locks 31 = .ok (.iconst (-1), 1) := dk_2 (dk_at dksX5_locks_1 8 rfl rfl)
theorem dX5_locks_32 : decode cX5_locks 32 = .ok (.ixor, 1) := dk_130 (dk_at dksX5_locks_1 9 rfl rfl)
theorem dX5_locks_33 : decode cX5_locks 33 = .ok (.iand, 1) := dk_126 (dk_at dksX5_locks_1 10 rfl rfl)
theorem dX5_locks_34 : decode cX5_locks 34 = .ok (.iastore, 1) := dk_79 (dk_at dksX5_locks_1 11 rfl rfl)
theorem dX5_locks_35 : decode cX5_locks 35 = .ok (.aload_n 0, 1) := dk_42 (dk_at dksX5_locks_1 12 rfl rfl)
theorem dX5_locks_36 : decode cX5_locks 36 = .ok (.getfield 7, 3) := dk_180 0 7 (dk_at dksX5_locks_1 13 rfl rfl)
theorem dX5_locks_39 : decode cX5_locks 39 = .ok (.iload_n 2, 1) := dk_28 (dk_at dksX5_locks_1 16 rfl rfl)
theorem dX5_locks_40 : decode cX5_locks 40 = .ok (.iload_n 3, 1) := dk_29 (dk_at dksX5_locks_1 17 rfl rfl)
theorem dX5_locks_41 : decode cX5_locks 41 = .ok (.ifCond .eq 16, 3) := dk_153 0 16 (dk_at dksX5_locks_1 18 rfl rfl)
theorem dX5_locks_44 : decode cX5_locks 44 = .ok (.aload_n 0, 1) := dk_42 (dk_at dksX5_locks_1 21 rfl rfl)
theorem dX5_locks_45 : decode cX5_locks 45 = .ok (.getfield 7, 3) := dk_180 0 7 (dk_at dksX5_locks_2 0 rfl rfl)
theorem dX5_locks_48 : decode cX5_locks 48 = .ok (.iload_n 2, 1) := dk_28 (dk_at dksX5_locks_2 3 rfl rfl)
theorem dX5_locks_49 : decode cX5_locks 49 = .ok (.iaload, 1) := dk_46 (dk_at dksX5_locks_2 4 rfl rfl)
theorem dX5_locks_50 : decode cX5_locks 50 = .ok (.iconst 1, 1) := dk_4 (dk_at dksX5_locks_2 5 rfl rfl)
theorem dX5_locks_51 : decode cX5_locks 51 = .ok (.iload_n 1, 1) := dk_27 (dk_at dksX5_locks_2 6 rfl rfl)
theorem dX5_locks_52 : decode cX5_locks 52 = .ok (.ishl, 1) := dk_120 (dk_at dksX5_locks_2 7 rfl rfl)
theorem dX5_locks_53 : decode cX5_locks 53 = .ok (.ior, 1) := dk_128 (dk_at dksX5_locks_2 8 rfl rfl)
theorem dX5_locks_54 : decode cX5_locks 54 = .ok (.goto 15, 3) := dk_167 0 15 (dk_at dksX5_locks_2 9 rfl rfl)
theorem dX5_locks_57 : decode cX5_locks 57 = .ok (.aload_n 0, 1) := dk_42 (dk_at dksX5_locks_2 12 rfl rfl)
theorem dX5_locks_58 : decode cX5_locks 58 = .ok (.getfield 7, 3) := dk_180 0 7 (dk_at dksX5_locks_2 13 rfl rfl)
theorem dX5_locks_61 : decode cX5_locks 61 = .ok (.iload_n 2, 1) := dk_28 (dk_at dksX5_locks_2 16 rfl rfl)
theorem dX5_locks_62 : decode cX5_locks 62 = .ok (.iaload, 1) := dk_46 (dk_at dksX5_locks_2 17 rfl rfl)
theorem dX5_locks_63 : decode cX5_locks 63 = .ok (.iconst 1, 1) := dk_4 (dk_at dksX5_locks_2 18 rfl rfl)
theorem dX5_locks_64 : decode cX5_locks 64 = .ok (.iload_n 1, 1) := dk_27 (dk_at dksX5_locks_2 19 rfl rfl)
theorem dX5_locks_65 : decode cX5_locks 65 = .ok (.ishl, 1) := dk_120 (dk_at dksX5_locks_2 20 rfl rfl)
theorem dX5_locks_66 : decode cX5_locks 66 = .ok (.iconst (-1), 1) := dk_2 (dk_at dksX5_locks_2 21 rfl rfl)
theorem dX5_locks_67 : decode cX5_locks 67 = .ok (.ixor, 1) := dk_130 (dk_at dksX5_locks_2 22 rfl rfl)
theorem dX5_locks_68 : decode cX5_locks 68 = .ok (.iand, 1) := dk_126 (dk_at dksX5_locks_2 23 rfl rfl)
theorem dX5_locks_69 : decode cX5_locks 69 = .ok (.iastore, 1) := dk_79 (dk_at dksX5_locks_3 0 rfl rfl)
theorem dX5_locks_70 : decode cX5_locks 70 = .ok (.return_, 1) := dk_177 (dk_at dksX5_locks_3 1 rfl rfl)
abbrev cX5_setReach : ByteArray := prog_18_method_35_code
def yX5_setReach : MethodName := ⟨RX5, "setReach", "(II)I"⟩
def dkwX5_setReach_2 : List UInt8 := [180, 0, 37, 27, 28, 79, 29, 172]
abbrev dktX5_setReach_2 : List UInt8 := dkwX5_setReach_2 ++ []
def dkwX5_setReach_1 : List UInt8 := [42, 5, 182, 1, 12, 172, 42, 3, 181, 0, 139, 42, 182, 1, 2, 42, 180, 0, 37, 27, 46, 62, 42]
abbrev dktX5_setReach_1 : List UInt8 := dkwX5_setReach_1 ++ dktX5_setReach_2
def dkwX5_setReach_0 : List UInt8 := [27, 184, 1, 9, 154, 0, 9, 42, 4, 182, 1, 12, 172, 28, 3, 17, 0, 255, 184, 0, 143, 154, 0, 9]
abbrev dktX5_setReach_0 : List UInt8 := dkwX5_setReach_0 ++ dktX5_setReach_1
theorem dksX5_setReach_0 : cX5_setReach.data.toList.drop 0 = dktX5_setReach_0 := by decide +kernel
theorem dksX5_setReach_1 : cX5_setReach.data.toList.drop 24 = dktX5_setReach_1 := dk_seg dksX5_setReach_0 24 rfl rfl
theorem dksX5_setReach_2 : cX5_setReach.data.toList.drop 47 = dktX5_setReach_2 := dk_seg dksX5_setReach_1 23 rfl rfl
theorem dX5_setReach_0 : decode cX5_setReach 0 = .ok (.iload_n 1, 1) := dk_27 (dk_at dksX5_setReach_0 0 rfl rfl)
theorem dX5_setReach_1 : decode cX5_setReach 1 = .ok (.invokestatic 265, 3) := dk_184 1 9 (dk_at dksX5_setReach_0 1 rfl rfl)
theorem dX5_setReach_4 : decode cX5_setReach 4 = .ok (.ifCond .ne 9, 3) := dk_154 0 9 (dk_at dksX5_setReach_0 4 rfl rfl)
theorem dX5_setReach_7 : decode cX5_setReach 7 = .ok (.aload_n 0, 1) := dk_42 (dk_at dksX5_setReach_0 7 rfl rfl)
theorem dX5_setReach_8 : decode cX5_setReach 8 = .ok (.iconst 1, 1) := dk_4 (dk_at dksX5_setReach_0 8 rfl rfl)
theorem dX5_setReach_9 : decode cX5_setReach 9 = .ok (.invokevirtual 268, 3) := dk_182 1 12 (dk_at dksX5_setReach_0 9 rfl rfl)
theorem dX5_setReach_12 : decode cX5_setReach 12 = .ok (.ireturn, 1) := dk_172 (dk_at dksX5_setReach_0 12 rfl rfl)
theorem dX5_setReach_13 : decode cX5_setReach 13 = .ok (.iload_n 2, 1) := dk_28 (dk_at dksX5_setReach_0 13 rfl rfl)
theorem dX5_setReach_14 : decode cX5_setReach 14 = .ok (.iconst 0, 1) := dk_3 (dk_at dksX5_setReach_0 14 rfl rfl)
theorem dX5_setReach_15 : decode cX5_setReach 15 = .ok (.sipush 255, 3) := dk_17 0 255 (dk_at dksX5_setReach_0 15 rfl rfl)
theorem dX5_setReach_18 : decode cX5_setReach 18 = .ok (.invokestatic 143, 3) := dk_184 0 143 (dk_at dksX5_setReach_0 18 rfl rfl)
theorem dX5_setReach_21 : decode cX5_setReach 21 = .ok (.ifCond .ne 9, 3) := dk_154 0 9 (dk_at dksX5_setReach_0 21 rfl rfl)
theorem dX5_setReach_24 : decode cX5_setReach 24 = .ok (.aload_n 0, 1) := dk_42 (dk_at dksX5_setReach_1 0 rfl rfl)
theorem dX5_setReach_25 : decode cX5_setReach 25 = .ok (.iconst 2, 1) := dk_5 (dk_at dksX5_setReach_1 1 rfl rfl)
theorem dX5_setReach_26 : decode cX5_setReach 26 = .ok (.invokevirtual 268, 3) := dk_182 1 12 (dk_at dksX5_setReach_1 2 rfl rfl)
theorem dX5_setReach_29 : decode cX5_setReach 29 = .ok (.ireturn, 1) := dk_172 (dk_at dksX5_setReach_1 5 rfl rfl)
theorem dX5_setReach_30 : decode cX5_setReach 30 = .ok (.aload_n 0, 1) := dk_42 (dk_at dksX5_setReach_1 6 rfl rfl)
theorem dX5_setReach_31 : decode cX5_setReach 31 = .ok (.iconst 0, 1) := dk_3 (dk_at dksX5_setReach_1 7 rfl rfl)
theorem dX5_setReach_32 : decode cX5_setReach 32 = .ok (.putfield 139, 3) := dk_181 0 139 (dk_at dksX5_setReach_1 8 rfl rfl)
theorem dX5_setReach_35 : decode cX5_setReach 35 = .ok (.aload_n 0, 1) := dk_42 (dk_at dksX5_setReach_1 11 rfl rfl)
theorem dX5_setReach_36 : decode cX5_setReach 36 = .ok (.invokevirtual 258, 3) := dk_182 1 2 (dk_at dksX5_setReach_1 12 rfl rfl)
theorem dX5_setReach_39 : decode cX5_setReach 39 = .ok (.aload_n 0, 1) := dk_42 (dk_at dksX5_setReach_1 15 rfl rfl)
theorem dX5_setReach_40 : decode cX5_setReach 40 = .ok (.getfield 37, 3) := dk_180 0 37 (dk_at dksX5_setReach_1 16 rfl rfl)
theorem dX5_setReach_43 : decode cX5_setReach 43 = .ok (.iload_n 1, 1) := dk_27 (dk_at dksX5_setReach_1 19 rfl rfl)
theorem dX5_setReach_44 : decode cX5_setReach 44 = .ok (.iaload, 1) := dk_46 (dk_at dksX5_setReach_1 20 rfl rfl)
theorem dX5_setReach_45 : decode cX5_setReach 45 = .ok (.istore_n 3, 1) := dk_62 (dk_at dksX5_setReach_1 21 rfl rfl)
theorem dX5_setReach_46 : decode cX5_setReach 46 = .ok (.aload_n 0, 1) := dk_42 (dk_at dksX5_setReach_1 22 rfl rfl)
theorem dX5_setReach_47 : decode cX5_setReach 47 = .ok (.getfield 37, 3) := dk_180 0 37 (dk_at dksX5_setReach_2 0 rfl rfl)
theorem dX5_setReach_50 : decode cX5_setReach 50 = .ok (.iload_n 1, 1) := dk_27 (dk_at dksX5_setReach_2 3 rfl rfl)
theorem dX5_setReach_51 : decode cX5_setReach 51 = .ok (.iload_n 2, 1) := dk_28 (dk_at dksX5_setReach_2 4 rfl rfl)
theorem dX5_setReach_52 : decode cX5_setReach 52 = .ok (.iastore, 1) := dk_79 (dk_at dksX5_setReach_2 5 rfl rfl)
theorem dX5_setReach_53 : decode cX5_setReach 53 = .ok (.iload_n 3, 1) := dk_29 (dk_at dksX5_setReach_2 6 rfl rfl)
theorem dX5_setReach_54 : decode cX5_setReach 54 = .ok (.ireturn, 1) := dk_172 (dk_at dksX5_setReach_2 7 rfl rfl)
abbrev cX5_isArm : ByteArray := prog_18_method_7_code
def yX5_isArm : MethodName := ⟨RX5, "isArm", "(I)Z"⟩
def dkwX5_isArm_0 : List UInt8 := [26, 3, 5, 184, 0, 143, 172]
abbrev dktX5_isArm_0 : List UInt8 := dkwX5_isArm_0 ++ []
theorem dksX5_isArm_0 : cX5_isArm.data.toList.drop 0 = dktX5_isArm_0 := by decide +kernel
theorem dX5_isArm_0 : decode cX5_isArm 0 = .ok (.iload_n 0, 1) := dk_26 (dk_at dksX5_isArm_0 0 rfl rfl)
theorem dX5_isArm_1 : decode cX5_isArm 1 = .ok (.iconst 0, 1) := dk_3 (dk_at dksX5_isArm_0 1 rfl rfl)
theorem dX5_isArm_2 : decode cX5_isArm 2 = .ok (.iconst 2, 1) := dk_5 (dk_at dksX5_isArm_0 2 rfl rfl)
theorem dX5_isArm_3 : decode cX5_isArm 3 = .ok (.invokestatic 143, 3) := dk_184 0 143 (dk_at dksX5_isArm_0 3 rfl rfl)
theorem dX5_isArm_6 : decode cX5_isArm 6 = .ok (.ireturn, 1) := dk_172 (dk_at dksX5_isArm_0 6 rfl rfl)
abbrev cX5_fails : ByteArray := prog_18_method_3_code
def yX5_fails : MethodName := ⟨RX5, "fails", "(I)I"⟩
def dkwX5_fails_0 : List UInt8 := [42, 27, 181, 0, 139, 3, 172]
abbrev dktX5_fails_0 : List UInt8 := dkwX5_fails_0 ++ []
theorem dksX5_fails_0 : cX5_fails.data.toList.drop 0 = dktX5_fails_0 := by decide +kernel
theorem dX5_fails_0 : decode cX5_fails 0 = .ok (.aload_n 0, 1) := dk_42 (dk_at dksX5_fails_0 0 rfl rfl)
theorem dX5_fails_1 : decode cX5_fails 1 = .ok (.iload_n 1, 1) := dk_27 (dk_at dksX5_fails_0 1 rfl rfl)
theorem dX5_fails_2 : decode cX5_fails 2 = .ok (.putfield 139, 3) := dk_181 0 139 (dk_at dksX5_fails_0 2 rfl rfl)
theorem dX5_fails_5 : decode cX5_fails 5 = .ok (.iconst 0, 1) := dk_3 (dk_at dksX5_fails_0 5 rfl rfl)
theorem dX5_fails_6 : decode cX5_fails 6 = .ok (.ireturn, 1) := dk_172 (dk_at dksX5_fails_0 6 rfl rfl)
abbrev cX5_setCapacity : ByteArray := prog_18_method_36_code
def yX5_setCapacity : MethodName := ⟨RX5, "setCapacity", "(II)I"⟩
def dkwX5_setCapacity_3 : List UInt8 := [27, 28, 79, 29, 172]
abbrev dktX5_setCapacity_3 : List UInt8 := dkwX5_setCapacity_3 ++ []
def dkwX5_setCapacity_2 : List UInt8 := [182, 1, 12, 172, 42, 3, 181, 0, 139, 42, 182, 1, 2, 42, 180, 0, 16, 27, 46, 62, 42, 180, 0, 16]
abbrev dktX5_setCapacity_2 : List UInt8 := dkwX5_setCapacity_2 ++ dktX5_setCapacity_3
def dkwX5_setCapacity_1 : List UInt8 := [182, 1, 12, 172, 42, 180, 0, 19, 27, 46, 42, 180, 0, 25, 27, 46, 96, 28, 164, 0, 9, 42, 6]
abbrev dktX5_setCapacity_1 : List UInt8 := dkwX5_setCapacity_1 ++ dktX5_setCapacity_2
def dkwX5_setCapacity_0 : List UInt8 := [27, 184, 1, 15, 154, 0, 9, 42, 4, 182, 1, 12, 172, 28, 4, 7, 184, 0, 143, 154, 0, 9, 42, 5]
abbrev dktX5_setCapacity_0 : List UInt8 := dkwX5_setCapacity_0 ++ dktX5_setCapacity_1
theorem dksX5_setCapacity_0 : cX5_setCapacity.data.toList.drop 0 = dktX5_setCapacity_0 := by decide +kernel
theorem dksX5_setCapacity_1 : cX5_setCapacity.data.toList.drop 24 = dktX5_setCapacity_1 := dk_seg dksX5_setCapacity_0 24 rfl rfl
theorem dksX5_setCapacity_2 : cX5_setCapacity.data.toList.drop 47 = dktX5_setCapacity_2 := dk_seg dksX5_setCapacity_1 23 rfl rfl
theorem dksX5_setCapacity_3 : cX5_setCapacity.data.toList.drop 71 = dktX5_setCapacity_3 := dk_seg dksX5_setCapacity_2 24 rfl rfl
theorem dX5_setCapacity_0 : decode cX5_setCapacity 0 = .ok (.iload_n 1, 1) := dk_27 (dk_at dksX5_setCapacity_0 0 rfl rfl)
theorem dX5_setCapacity_1 : decode cX5_setCapacity 1 = .ok (.invokestatic 271, 3) := dk_184 1 15 (dk_at dksX5_setCapacity_0 1 rfl rfl)
theorem dX5_setCapacity_4 : decode cX5_setCapacity 4 = .ok (.ifCond .ne 9, 3) := dk_154 0 9 (dk_at dksX5_setCapacity_0 4 rfl rfl)
theorem dX5_setCapacity_7 : decode cX5_setCapacity 7 = .ok (.aload_n 0, 1) := dk_42 (dk_at dksX5_setCapacity_0 7 rfl rfl)
theorem dX5_setCapacity_8 : decode cX5_setCapacity 8 = .ok (.iconst 1, 1) := dk_4 (dk_at dksX5_setCapacity_0 8 rfl rfl)
theorem dX5_setCapacity_9 : decode cX5_setCapacity 9 = .ok (.invokevirtual 268, 3) := dk_182 1 12 (dk_at dksX5_setCapacity_0 9 rfl rfl)
theorem dX5_setCapacity_12 : decode cX5_setCapacity 12 = .ok (.ireturn, 1) := dk_172 (dk_at dksX5_setCapacity_0 12 rfl rfl)
theorem dX5_setCapacity_13 : decode cX5_setCapacity 13 = .ok (.iload_n 2, 1) := dk_28 (dk_at dksX5_setCapacity_0 13 rfl rfl)
theorem dX5_setCapacity_14 : decode cX5_setCapacity 14 = .ok (.iconst 1, 1) := dk_4 (dk_at dksX5_setCapacity_0 14 rfl rfl)
theorem dX5_setCapacity_15 : decode cX5_setCapacity 15 = .ok (.iconst 4, 1) := dk_7 (dk_at dksX5_setCapacity_0 15 rfl rfl)
theorem dX5_setCapacity_16 : decode cX5_setCapacity 16 = .ok (.invokestatic 143, 3) := dk_184 0 143 (dk_at dksX5_setCapacity_0 16 rfl rfl)
theorem dX5_setCapacity_19 : decode cX5_setCapacity 19 = .ok (.ifCond .ne 9, 3) := dk_154 0 9 (dk_at dksX5_setCapacity_0 19 rfl rfl)
theorem dX5_setCapacity_22 : decode cX5_setCapacity 22 = .ok (.aload_n 0, 1) := dk_42 (dk_at dksX5_setCapacity_0 22 rfl rfl)
theorem dX5_setCapacity_23 : decode cX5_setCapacity 23 = .ok (.iconst 2, 1) := dk_5 (dk_at dksX5_setCapacity_0 23 rfl rfl)
theorem dX5_setCapacity_24 : decode cX5_setCapacity 24 = .ok (.invokevirtual 268, 3) := dk_182 1 12 (dk_at dksX5_setCapacity_1 0 rfl rfl)
theorem dX5_setCapacity_27 : decode cX5_setCapacity 27 = .ok (.ireturn, 1) := dk_172 (dk_at dksX5_setCapacity_1 3 rfl rfl)
theorem dX5_setCapacity_28 : decode cX5_setCapacity 28 = .ok (.aload_n 0, 1) := dk_42 (dk_at dksX5_setCapacity_1 4 rfl rfl)
theorem dX5_setCapacity_29 : decode cX5_setCapacity 29 = .ok (.getfield 19, 3) := dk_180 0 19 (dk_at dksX5_setCapacity_1 5 rfl rfl)
theorem dX5_setCapacity_32 : decode cX5_setCapacity 32 = .ok (.iload_n 1, 1) := dk_27 (dk_at dksX5_setCapacity_1 8 rfl rfl)
theorem dX5_setCapacity_33 : decode cX5_setCapacity 33 = .ok (.iaload, 1) := dk_46 (dk_at dksX5_setCapacity_1 9 rfl rfl)
theorem dX5_setCapacity_34 : decode cX5_setCapacity 34 = .ok (.aload_n 0, 1) := dk_42 (dk_at dksX5_setCapacity_1 10 rfl rfl)
theorem dX5_setCapacity_35 : decode cX5_setCapacity 35 = .ok (.getfield 25, 3) := dk_180 0 25 (dk_at dksX5_setCapacity_1 11 rfl rfl)
theorem dX5_setCapacity_38 : decode cX5_setCapacity 38 = .ok (.iload_n 1, 1) := dk_27 (dk_at dksX5_setCapacity_1 14 rfl rfl)
theorem dX5_setCapacity_39 : decode cX5_setCapacity 39 = .ok (.iaload, 1) := dk_46 (dk_at dksX5_setCapacity_1 15 rfl rfl)
theorem dX5_setCapacity_40 : decode cX5_setCapacity 40 = .ok (.iadd, 1) := dk_96 (dk_at dksX5_setCapacity_1 16 rfl rfl)
theorem dX5_setCapacity_41 : decode cX5_setCapacity 41 = .ok (.iload_n 2, 1) := dk_28 (dk_at dksX5_setCapacity_1 17 rfl rfl)
theorem dX5_setCapacity_42 : decode cX5_setCapacity 42 = .ok (.if_icmp .le 9, 3) := dk_164 0 9 (dk_at dksX5_setCapacity_1 18 rfl rfl)
theorem dX5_setCapacity_45 : decode cX5_setCapacity 45 = .ok (.aload_n 0, 1) := dk_42 (dk_at dksX5_setCapacity_1 21 rfl rfl)
theorem dX5_setCapacity_46 : decode cX5_setCapacity 46 = .ok (.iconst 3, 1) := dk_6 (dk_at dksX5_setCapacity_1 22 rfl rfl)
theorem dX5_setCapacity_47 : decode cX5_setCapacity 47 = .ok (.invokevirtual 268, 3) := dk_182 1 12 (dk_at dksX5_setCapacity_2 0 rfl rfl)
theorem dX5_setCapacity_50 : decode cX5_setCapacity 50 = .ok (.ireturn, 1) := dk_172 (dk_at dksX5_setCapacity_2 3 rfl rfl)
theorem dX5_setCapacity_51 : decode cX5_setCapacity 51 = .ok (.aload_n 0, 1) := dk_42 (dk_at dksX5_setCapacity_2 4 rfl rfl)
theorem dX5_setCapacity_52 : decode cX5_setCapacity 52 = .ok (.iconst 0, 1) := dk_3 (dk_at dksX5_setCapacity_2 5 rfl rfl)
theorem dX5_setCapacity_53 : decode cX5_setCapacity 53 = .ok (.putfield 139, 3) := dk_181 0 139 (dk_at dksX5_setCapacity_2 6 rfl rfl)
theorem dX5_setCapacity_56 : decode cX5_setCapacity 56 = .ok (.aload_n 0, 1) := dk_42 (dk_at dksX5_setCapacity_2 9 rfl rfl)
theorem dX5_setCapacity_57 : decode cX5_setCapacity 57 = .ok (.invokevirtual 258, 3) := dk_182 1 2 (dk_at dksX5_setCapacity_2 10 rfl rfl)
theorem dX5_setCapacity_60 : decode cX5_setCapacity 60 = .ok (.aload_n 0, 1) := dk_42 (dk_at dksX5_setCapacity_2 13 rfl rfl)
theorem dX5_setCapacity_61 : decode cX5_setCapacity 61 = .ok (.getfield 16, 3) := dk_180 0 16 (dk_at dksX5_setCapacity_2 14 rfl rfl)
theorem dX5_setCapacity_64 : decode cX5_setCapacity 64 = .ok (.iload_n 1, 1) := dk_27 (dk_at dksX5_setCapacity_2 17 rfl rfl)
theorem dX5_setCapacity_65 : decode cX5_setCapacity 65 = .ok (.iaload, 1) := dk_46 (dk_at dksX5_setCapacity_2 18 rfl rfl)
theorem dX5_setCapacity_66 : decode cX5_setCapacity 66 = .ok (.istore_n 3, 1) := dk_62 (dk_at dksX5_setCapacity_2 19 rfl rfl)
theorem dX5_setCapacity_67 : decode cX5_setCapacity 67 = .ok (.aload_n 0, 1) := dk_42 (dk_at dksX5_setCapacity_2 20 rfl rfl)
theorem dX5_setCapacity_68 : decode cX5_setCapacity 68 = .ok (.getfield 16, 3) := dk_180 0 16 (dk_at dksX5_setCapacity_2 21 rfl rfl)
theorem dX5_setCapacity_71 : decode cX5_setCapacity 71 = .ok (.iload_n 1, 1) := dk_27 (dk_at dksX5_setCapacity_3 0 rfl rfl)
theorem dX5_setCapacity_72 : decode cX5_setCapacity 72 = .ok (.iload_n 2, 1) := dk_28 (dk_at dksX5_setCapacity_3 1 rfl rfl)
theorem dX5_setCapacity_73 : decode cX5_setCapacity 73 = .ok (.iastore, 1) := dk_79 (dk_at dksX5_setCapacity_3 2 rfl rfl)
theorem dX5_setCapacity_74 : decode cX5_setCapacity 74 = .ok (.iload_n 3, 1) := dk_29 (dk_at dksX5_setCapacity_3 3 rfl rfl)
theorem dX5_setCapacity_75 : decode cX5_setCapacity 75 = .ok (.ireturn, 1) := dk_172 (dk_at dksX5_setCapacity_3 4 rfl rfl)
abbrev cX5_isBuffer : ByteArray := prog_18_method_8_code
def yX5_isBuffer : MethodName := ⟨RX5, "isBuffer", "(I)Z"⟩
def dkwX5_isBuffer_0 : List UInt8 := [26, 3, 5, 184, 0, 143, 172]
abbrev dktX5_isBuffer_0 : List UInt8 := dkwX5_isBuffer_0 ++ []
theorem dksX5_isBuffer_0 : cX5_isBuffer.data.toList.drop 0 = dktX5_isBuffer_0 := by decide +kernel
theorem dX5_isBuffer_0 : decode cX5_isBuffer 0 = .ok (.iload_n 0, 1) := dk_26 (dk_at dksX5_isBuffer_0 0 rfl rfl)
theorem dX5_isBuffer_1 : decode cX5_isBuffer 1 = .ok (.iconst 0, 1) := dk_3 (dk_at dksX5_isBuffer_0 1 rfl rfl)
theorem dX5_isBuffer_2 : decode cX5_isBuffer 2 = .ok (.iconst 2, 1) := dk_5 (dk_at dksX5_isBuffer_0 2 rfl rfl)
theorem dX5_isBuffer_3 : decode cX5_isBuffer 3 = .ok (.invokestatic 143, 3) := dk_184 0 143 (dk_at dksX5_isBuffer_0 3 rfl rfl)
theorem dX5_isBuffer_6 : decode cX5_isBuffer 6 = .ok (.ireturn, 1) := dk_172 (dk_at dksX5_isBuffer_0 6 rfl rfl)
abbrev cX5_supply : ByteArray := prog_18_method_37_code
def yX5_supply : MethodName := ⟨RX5, "supply", "(I)I"⟩
def dkwX5_supply_3 : List UInt8 := [180, 0, 223, 4, 100, 172]
abbrev dktX5_supply_3 : List UInt8 := dkwX5_supply_3 ++ []
def dkwX5_supply_2 : List UInt8 := [182, 1, 2, 42, 27, 42, 180, 0, 223, 182, 0, 226, 42, 89, 180, 0, 223, 4, 96, 181, 0, 223, 42]
abbrev dktX5_supply_2 : List UInt8 := dkwX5_supply_2 ++ dktX5_supply_3
def dkwX5_supply_1 : List UInt8 := [46, 96, 42, 180, 0, 16, 27, 46, 161, 0, 9, 42, 5, 182, 1, 12, 172, 42, 3, 181, 0, 139, 42]
abbrev dktX5_supply_1 : List UInt8 := dkwX5_supply_1 ++ dktX5_supply_2
def dkwX5_supply_0 : List UInt8 := [27, 184, 1, 15, 154, 0, 9, 42, 4, 182, 1, 12, 172, 42, 180, 0, 19, 27, 46, 42, 180, 0, 25, 27]
abbrev dktX5_supply_0 : List UInt8 := dkwX5_supply_0 ++ dktX5_supply_1
theorem dksX5_supply_0 : cX5_supply.data.toList.drop 0 = dktX5_supply_0 := by decide +kernel
theorem dksX5_supply_1 : cX5_supply.data.toList.drop 24 = dktX5_supply_1 := dk_seg dksX5_supply_0 24 rfl rfl
theorem dksX5_supply_2 : cX5_supply.data.toList.drop 47 = dktX5_supply_2 := dk_seg dksX5_supply_1 23 rfl rfl
theorem dksX5_supply_3 : cX5_supply.data.toList.drop 70 = dktX5_supply_3 := dk_seg dksX5_supply_2 23 rfl rfl
theorem dX5_supply_0 : decode cX5_supply 0 = .ok (.iload_n 1, 1) := dk_27 (dk_at dksX5_supply_0 0 rfl rfl)
theorem dX5_supply_1 : decode cX5_supply 1 = .ok (.invokestatic 271, 3) := dk_184 1 15 (dk_at dksX5_supply_0 1 rfl rfl)
theorem dX5_supply_4 : decode cX5_supply 4 = .ok (.ifCond .ne 9, 3) := dk_154 0 9 (dk_at dksX5_supply_0 4 rfl rfl)
theorem dX5_supply_7 : decode cX5_supply 7 = .ok (.aload_n 0, 1) := dk_42 (dk_at dksX5_supply_0 7 rfl rfl)
theorem dX5_supply_8 : decode cX5_supply 8 = .ok (.iconst 1, 1) := dk_4 (dk_at dksX5_supply_0 8 rfl rfl)
theorem dX5_supply_9 : decode cX5_supply 9 = .ok (.invokevirtual 268, 3) := dk_182 1 12 (dk_at dksX5_supply_0 9 rfl rfl)
theorem dX5_supply_12 : decode cX5_supply 12 = .ok (.ireturn, 1) := dk_172 (dk_at dksX5_supply_0 12 rfl rfl)
theorem dX5_supply_13 : decode cX5_supply 13 = .ok (.aload_n 0, 1) := dk_42 (dk_at dksX5_supply_0 13 rfl rfl)
theorem dX5_supply_14 : decode cX5_supply 14 = .ok (.getfield 19, 3) := dk_180 0 19 (dk_at dksX5_supply_0 14 rfl rfl)
theorem dX5_supply_17 : decode cX5_supply 17 = .ok (.iload_n 1, 1) := dk_27 (dk_at dksX5_supply_0 17 rfl rfl)
theorem dX5_supply_18 : decode cX5_supply 18 = .ok (.iaload, 1) := dk_46 (dk_at dksX5_supply_0 18 rfl rfl)
theorem dX5_supply_19 : decode cX5_supply 19 = .ok (.aload_n 0, 1) := dk_42 (dk_at dksX5_supply_0 19 rfl rfl)
theorem dX5_supply_20 : decode cX5_supply 20 = .ok (.getfield 25, 3) := dk_180 0 25 (dk_at dksX5_supply_0 20 rfl rfl)
theorem dX5_supply_23 : decode cX5_supply 23 = .ok (.iload_n 1, 1) := dk_27 (dk_at dksX5_supply_0 23 rfl rfl)
theorem dX5_supply_24 : decode cX5_supply 24 = .ok (.iaload, 1) := dk_46 (dk_at dksX5_supply_1 0 rfl rfl)
theorem dX5_supply_25 : decode cX5_supply 25 = .ok (.iadd, 1) := dk_96 (dk_at dksX5_supply_1 1 rfl rfl)
theorem dX5_supply_26 : decode cX5_supply 26 = .ok (.aload_n 0, 1) := dk_42 (dk_at dksX5_supply_1 2 rfl rfl)
theorem dX5_supply_27 : decode cX5_supply 27 = .ok (.getfield 16, 3) := dk_180 0 16 (dk_at dksX5_supply_1 3 rfl rfl)
theorem dX5_supply_30 : decode cX5_supply 30 = .ok (.iload_n 1, 1) := dk_27 (dk_at dksX5_supply_1 6 rfl rfl)
theorem dX5_supply_31 : decode cX5_supply 31 = .ok (.iaload, 1) := dk_46 (dk_at dksX5_supply_1 7 rfl rfl)
theorem dX5_supply_32 : decode cX5_supply 32 = .ok (.if_icmp .lt 9, 3) := dk_161 0 9 (dk_at dksX5_supply_1 8 rfl rfl)
theorem dX5_supply_35 : decode cX5_supply 35 = .ok (.aload_n 0, 1) := dk_42 (dk_at dksX5_supply_1 11 rfl rfl)
theorem dX5_supply_36 : decode cX5_supply 36 = .ok (.iconst 2, 1) := dk_5 (dk_at dksX5_supply_1 12 rfl rfl)
theorem dX5_supply_37 : decode cX5_supply 37 = .ok (.invokevirtual 268, 3) := dk_182 1 12 (dk_at dksX5_supply_1 13 rfl rfl)
theorem dX5_supply_40 : decode cX5_supply 40 = .ok (.ireturn, 1) := dk_172 (dk_at dksX5_supply_1 16 rfl rfl)
theorem dX5_supply_41 : decode cX5_supply 41 = .ok (.aload_n 0, 1) := dk_42 (dk_at dksX5_supply_1 17 rfl rfl)
theorem dX5_supply_42 : decode cX5_supply 42 = .ok (.iconst 0, 1) := dk_3 (dk_at dksX5_supply_1 18 rfl rfl)
theorem dX5_supply_43 : decode cX5_supply 43 = .ok (.putfield 139, 3) := dk_181 0 139 (dk_at dksX5_supply_1 19 rfl rfl)
theorem dX5_supply_46 : decode cX5_supply 46 = .ok (.aload_n 0, 1) := dk_42 (dk_at dksX5_supply_1 22 rfl rfl)
theorem dX5_supply_47 : decode cX5_supply 47 = .ok (.invokevirtual 258, 3) := dk_182 1 2 (dk_at dksX5_supply_2 0 rfl rfl)
theorem dX5_supply_50 : decode cX5_supply 50 = .ok (.aload_n 0, 1) := dk_42 (dk_at dksX5_supply_2 3 rfl rfl)
theorem dX5_supply_51 : decode cX5_supply 51 = .ok (.iload_n 1, 1) := dk_27 (dk_at dksX5_supply_2 4 rfl rfl)
theorem dX5_supply_52 : decode cX5_supply 52 = .ok (.aload_n 0, 1) := dk_42 (dk_at dksX5_supply_2 5 rfl rfl)
theorem dX5_supply_53 : decode cX5_supply 53 = .ok (.getfield 223, 3) := dk_180 0 223 (dk_at dksX5_supply_2 6 rfl rfl)
theorem dX5_supply_56 : decode cX5_supply 56 = .ok (.invokevirtual 226, 3) := dk_182 0 226 (dk_at dksX5_supply_2 9 rfl rfl)
theorem dX5_supply_59 : decode cX5_supply 59 = .ok (.aload_n 0, 1) := dk_42 (dk_at dksX5_supply_2 12 rfl rfl)
theorem dX5_supply_60 : decode cX5_supply 60 = .ok (.dup, 1) := dk_89 (dk_at dksX5_supply_2 13 rfl rfl)
theorem dX5_supply_61 : decode cX5_supply 61 = .ok (.getfield 223, 3) := dk_180 0 223 (dk_at dksX5_supply_2 14 rfl rfl)
theorem dX5_supply_64 : decode cX5_supply 64 = .ok (.iconst 1, 1) := dk_4 (dk_at dksX5_supply_2 17 rfl rfl)
theorem dX5_supply_65 : decode cX5_supply 65 = .ok (.iadd, 1) := dk_96 (dk_at dksX5_supply_2 18 rfl rfl)
theorem dX5_supply_66 : decode cX5_supply 66 = .ok (.putfield 223, 3) := dk_181 0 223 (dk_at dksX5_supply_2 19 rfl rfl)
theorem dX5_supply_69 : decode cX5_supply 69 = .ok (.aload_n 0, 1) := dk_42 (dk_at dksX5_supply_2 22 rfl rfl)
theorem dX5_supply_70 : decode cX5_supply 70 = .ok (.getfield 223, 3) := dk_180 0 223 (dk_at dksX5_supply_3 0 rfl rfl)
theorem dX5_supply_73 : decode cX5_supply 73 = .ok (.iconst 1, 1) := dk_4 (dk_at dksX5_supply_3 3 rfl rfl)
theorem dX5_supply_74 : decode cX5_supply 74 = .ok (.isub, 1) := dk_100 (dk_at dksX5_supply_3 4 rfl rfl)
theorem dX5_supply_75 : decode cX5_supply 75 = .ok (.ireturn, 1) := dk_172 (dk_at dksX5_supply_3 5 rfl rfl)
abbrev cX5_comesPart : ByteArray := prog_18_method_26_code
def yX5_comesPart : MethodName := ⟨RX5, "comesPart", "(II)V"⟩
def dkwX5_comesPart_1 : List UInt8 := [96, 79, 42, 180, 0, 31, 27, 92, 46, 4, 96, 79, 177]
abbrev dktX5_comesPart_1 : List UInt8 := dkwX5_comesPart_1 ++ []
def dkwX5_comesPart_0 : List UInt8 := [42, 180, 0, 22, 7, 27, 104, 42, 180, 0, 19, 27, 46, 96, 28, 79, 42, 180, 0, 19, 27, 92, 46, 4]
abbrev dktX5_comesPart_0 : List UInt8 := dkwX5_comesPart_0 ++ dktX5_comesPart_1
theorem dksX5_comesPart_0 : cX5_comesPart.data.toList.drop 0 = dktX5_comesPart_0 := by decide +kernel
theorem dksX5_comesPart_1 : cX5_comesPart.data.toList.drop 24 = dktX5_comesPart_1 := dk_seg dksX5_comesPart_0 24 rfl rfl
theorem dX5_comesPart_0 : decode cX5_comesPart 0 = .ok (.aload_n 0, 1) := dk_42 (dk_at dksX5_comesPart_0 0 rfl rfl)
theorem dX5_comesPart_1 : decode cX5_comesPart 1 = .ok (.getfield 22, 3) := dk_180 0 22 (dk_at dksX5_comesPart_0 1 rfl rfl)
theorem dX5_comesPart_4 : decode cX5_comesPart 4 = .ok (.iconst 4, 1) := dk_7 (dk_at dksX5_comesPart_0 4 rfl rfl)
theorem dX5_comesPart_5 : decode cX5_comesPart 5 = .ok (.iload_n 1, 1) := dk_27 (dk_at dksX5_comesPart_0 5 rfl rfl)
theorem dX5_comesPart_6 : decode cX5_comesPart 6 = .ok (.imul, 1) := dk_104 (dk_at dksX5_comesPart_0 6 rfl rfl)
theorem dX5_comesPart_7 : decode cX5_comesPart 7 = .ok (.aload_n 0, 1) := dk_42 (dk_at dksX5_comesPart_0 7 rfl rfl)
theorem dX5_comesPart_8 : decode cX5_comesPart 8 = .ok (.getfield 19, 3) := dk_180 0 19 (dk_at dksX5_comesPart_0 8 rfl rfl)
theorem dX5_comesPart_11 : decode cX5_comesPart 11 = .ok (.iload_n 1, 1) := dk_27 (dk_at dksX5_comesPart_0 11 rfl rfl)
theorem dX5_comesPart_12 : decode cX5_comesPart 12 = .ok (.iaload, 1) := dk_46 (dk_at dksX5_comesPart_0 12 rfl rfl)
theorem dX5_comesPart_13 : decode cX5_comesPart 13 = .ok (.iadd, 1) := dk_96 (dk_at dksX5_comesPart_0 13 rfl rfl)
theorem dX5_comesPart_14 : decode cX5_comesPart 14 = .ok (.iload_n 2, 1) := dk_28 (dk_at dksX5_comesPart_0 14 rfl rfl)
theorem dX5_comesPart_15 : decode cX5_comesPart 15 = .ok (.iastore, 1) := dk_79 (dk_at dksX5_comesPart_0 15 rfl rfl)
theorem dX5_comesPart_16 : decode cX5_comesPart 16 = .ok (.aload_n 0, 1) := dk_42 (dk_at dksX5_comesPart_0 16 rfl rfl)
theorem dX5_comesPart_17 : decode cX5_comesPart 17 = .ok (.getfield 19, 3) := dk_180 0 19 (dk_at dksX5_comesPart_0 17 rfl rfl)
theorem dX5_comesPart_20 : decode cX5_comesPart 20 = .ok (.iload_n 1, 1) := dk_27 (dk_at dksX5_comesPart_0 20 rfl rfl)
theorem dX5_comesPart_21 : decode cX5_comesPart 21 = .ok (.dup2, 1) := dk_92 (dk_at dksX5_comesPart_0 21 rfl rfl)
theorem dX5_comesPart_22 : decode cX5_comesPart 22 = .ok (.iaload, 1) := dk_46 (dk_at dksX5_comesPart_0 22 rfl rfl)
theorem dX5_comesPart_23 : decode cX5_comesPart 23 = .ok (.iconst 1, 1) := dk_4 (dk_at dksX5_comesPart_0 23 rfl rfl)
theorem dX5_comesPart_24 : decode cX5_comesPart 24 = .ok (.iadd, 1) := dk_96 (dk_at dksX5_comesPart_1 0 rfl rfl)
theorem dX5_comesPart_25 : decode cX5_comesPart 25 = .ok (.iastore, 1) := dk_79 (dk_at dksX5_comesPart_1 1 rfl rfl)
theorem dX5_comesPart_26 : decode cX5_comesPart 26 = .ok (.aload_n 0, 1) := dk_42 (dk_at dksX5_comesPart_1 2 rfl rfl)
theorem dX5_comesPart_27 : decode cX5_comesPart 27 = .ok (.getfield 31, 3) := dk_180 0 31 (dk_at dksX5_comesPart_1 3 rfl rfl)
theorem dX5_comesPart_30 : decode cX5_comesPart 30 = .ok (.iload_n 1, 1) := dk_27 (dk_at dksX5_comesPart_1 6 rfl rfl)
theorem dX5_comesPart_31 : decode cX5_comesPart 31 = .ok (.dup2, 1) := dk_92 (dk_at dksX5_comesPart_1 7 rfl rfl)
theorem dX5_comesPart_32 : decode cX5_comesPart 32 = .ok (.iaload, 1) := dk_46 (dk_at dksX5_comesPart_1 8 rfl rfl)
theorem dX5_comesPart_33 : decode cX5_comesPart 33 = .ok (.iconst 1, 1) := dk_4 (dk_at dksX5_comesPart_1 9 rfl rfl)
theorem dX5_comesPart_34 : decode cX5_comesPart 34 = .ok (.iadd, 1) := dk_96 (dk_at dksX5_comesPart_1 10 rfl rfl)
theorem dX5_comesPart_35 : decode cX5_comesPart 35 = .ok (.iastore, 1) := dk_79 (dk_at dksX5_comesPart_1 11 rfl rfl)
theorem dX5_comesPart_36 : decode cX5_comesPart 36 = .ok (.return_, 1) := dk_177 (dk_at dksX5_comesPart_1 12 rfl rfl)
abbrev cX5_zone : ByteArray := prog_18_method_38_code
def yX5_zone : MethodName := ⟨RX5, "zone", "(II)I"⟩
def dkwX5_zone_7 : List UInt8 := [167, 255, 221, 29, 172, 42, 180, 0, 13, 27, 46, 172]
abbrev dktX5_zone_7 : List UInt8 := dkwX5_zone_7 ++ []
def dkwX5_zone_6 : List UInt8 := [42, 27, 182, 0, 164, 126, 153, 0, 10, 4, 21, 4, 120, 167, 0, 4, 3, 128, 62, 132, 4, 1]
abbrev dktX5_zone_6 : List UInt8 := dkwX5_zone_6 ++ dktX5_zone_7
def dkwX5_zone_5 : List UInt8 := [132, 4, 1, 167, 255, 222, 29, 172, 3, 54, 4, 21, 4, 6, 162, 0, 35, 29, 42, 21, 4, 182, 0, 161]
abbrev dktX5_zone_5 : List UInt8 := dkwX5_zone_5 ++ dktX5_zone_6
def dkwX5_zone_4 : List UInt8 := [180, 0, 37, 21, 4, 46, 27, 184, 0, 245, 153, 0, 10, 4, 21, 4, 120, 167, 0, 4, 3, 128, 62]
abbrev dktX5_zone_4 : List UInt8 := dkwX5_zone_4 ++ dktX5_zone_5
def dkwX5_zone_3 : List UInt8 := [42, 27, 182, 0, 251, 172, 42, 27, 182, 0, 164, 172, 3, 54, 4, 21, 4, 6, 162, 0, 34, 29, 42]
abbrev dktX5_zone_3 : List UInt8 := dkwX5_zone_3 ++ dktX5_zone_4
def dkwX5_zone_2 : List UInt8 := [170, 0, 0, 0, 0, 0, 0, 129, 0, 0, 0, 0, 0, 0, 0, 3, 0, 0, 0, 32, 0, 0, 0, 38, 0, 0, 0, 44, 0, 0, 0, 86]
abbrev dktX5_zone_2 : List UInt8 := dkwX5_zone_2 ++ dktX5_zone_3
def dkwX5_zone_1 : List UInt8 := [182, 1, 12, 172, 42, 3, 181, 0, 139, 3, 62, 28]
abbrev dktX5_zone_1 : List UInt8 := dkwX5_zone_1 ++ dktX5_zone_2
def dkwX5_zone_0 : List UInt8 := [27, 184, 0, 248, 154, 0, 9, 42, 4, 182, 1, 12, 172, 28, 3, 7, 184, 0, 143, 154, 0, 9, 42, 5]
abbrev dktX5_zone_0 : List UInt8 := dkwX5_zone_0 ++ dktX5_zone_1
theorem dksX5_zone_0 : cX5_zone.data.toList.drop 0 = dktX5_zone_0 := by decide +kernel
theorem dksX5_zone_1 : cX5_zone.data.toList.drop 24 = dktX5_zone_1 := dk_seg dksX5_zone_0 24 rfl rfl
theorem dksX5_zone_2 : cX5_zone.data.toList.drop 36 = dktX5_zone_2 := dk_seg dksX5_zone_1 12 rfl rfl
theorem dksX5_zone_3 : cX5_zone.data.toList.drop 68 = dktX5_zone_3 := dk_seg dksX5_zone_2 32 rfl rfl
theorem dksX5_zone_4 : cX5_zone.data.toList.drop 91 = dktX5_zone_4 := dk_seg dksX5_zone_3 23 rfl rfl
theorem dksX5_zone_5 : cX5_zone.data.toList.drop 114 = dktX5_zone_5 := dk_seg dksX5_zone_4 23 rfl rfl
theorem dksX5_zone_6 : cX5_zone.data.toList.drop 138 = dktX5_zone_6 := dk_seg dksX5_zone_5 24 rfl rfl
theorem dksX5_zone_7 : cX5_zone.data.toList.drop 160 = dktX5_zone_7 := dk_seg dksX5_zone_6 22 rfl rfl
theorem dX5_zone_0 : decode cX5_zone 0 = .ok (.iload_n 1, 1) := dk_27 (dk_at dksX5_zone_0 0 rfl rfl)
theorem dX5_zone_1 : decode cX5_zone 1 = .ok (.invokestatic 248, 3) := dk_184 0 248 (dk_at dksX5_zone_0 1 rfl rfl)
theorem dX5_zone_4 : decode cX5_zone 4 = .ok (.ifCond .ne 9, 3) := dk_154 0 9 (dk_at dksX5_zone_0 4 rfl rfl)
theorem dX5_zone_7 : decode cX5_zone 7 = .ok (.aload_n 0, 1) := dk_42 (dk_at dksX5_zone_0 7 rfl rfl)
theorem dX5_zone_8 : decode cX5_zone 8 = .ok (.iconst 1, 1) := dk_4 (dk_at dksX5_zone_0 8 rfl rfl)
theorem dX5_zone_9 : decode cX5_zone 9 = .ok (.invokevirtual 268, 3) := dk_182 1 12 (dk_at dksX5_zone_0 9 rfl rfl)
theorem dX5_zone_12 : decode cX5_zone 12 = .ok (.ireturn, 1) := dk_172 (dk_at dksX5_zone_0 12 rfl rfl)
theorem dX5_zone_13 : decode cX5_zone 13 = .ok (.iload_n 2, 1) := dk_28 (dk_at dksX5_zone_0 13 rfl rfl)
theorem dX5_zone_14 : decode cX5_zone 14 = .ok (.iconst 0, 1) := dk_3 (dk_at dksX5_zone_0 14 rfl rfl)
theorem dX5_zone_15 : decode cX5_zone 15 = .ok (.iconst 4, 1) := dk_7 (dk_at dksX5_zone_0 15 rfl rfl)
theorem dX5_zone_16 : decode cX5_zone 16 = .ok (.invokestatic 143, 3) := dk_184 0 143 (dk_at dksX5_zone_0 16 rfl rfl)
theorem dX5_zone_19 : decode cX5_zone 19 = .ok (.ifCond .ne 9, 3) := dk_154 0 9 (dk_at dksX5_zone_0 19 rfl rfl)
theorem dX5_zone_22 : decode cX5_zone 22 = .ok (.aload_n 0, 1) := dk_42 (dk_at dksX5_zone_0 22 rfl rfl)
theorem dX5_zone_23 : decode cX5_zone 23 = .ok (.iconst 2, 1) := dk_5 (dk_at dksX5_zone_0 23 rfl rfl)
theorem dX5_zone_24 : decode cX5_zone 24 = .ok (.invokevirtual 268, 3) := dk_182 1 12 (dk_at dksX5_zone_1 0 rfl rfl)
theorem dX5_zone_27 : decode cX5_zone 27 = .ok (.ireturn, 1) := dk_172 (dk_at dksX5_zone_1 3 rfl rfl)
theorem dX5_zone_28 : decode cX5_zone 28 = .ok (.aload_n 0, 1) := dk_42 (dk_at dksX5_zone_1 4 rfl rfl)
theorem dX5_zone_29 : decode cX5_zone 29 = .ok (.iconst 0, 1) := dk_3 (dk_at dksX5_zone_1 5 rfl rfl)
theorem dX5_zone_30 : decode cX5_zone 30 = .ok (.putfield 139, 3) := dk_181 0 139 (dk_at dksX5_zone_1 6 rfl rfl)
theorem dX5_zone_33 : decode cX5_zone 33 = .ok (.iconst 0, 1) := dk_3 (dk_at dksX5_zone_1 9 rfl rfl)
theorem dX5_zone_34 : decode cX5_zone 34 = .ok (.istore_n 3, 1) := dk_62 (dk_at dksX5_zone_1 10 rfl rfl)
theorem dX5_zone_35 : decode cX5_zone 35 = .ok (.iload_n 2, 1) := dk_28 (dk_at dksX5_zone_1 11 rfl rfl)
theorem dX5_zone_36 : decode cX5_zone 36 = .ok (.tableswitch 129 0 3 #[32, 38, 44, 86], 32) := by decide +kernel
theorem dX5_zone_68 : decode cX5_zone 68 = .ok (.aload_n 0, 1) := dk_42 (dk_at dksX5_zone_3 0 rfl rfl)
theorem dX5_zone_69 : decode cX5_zone 69 = .ok (.iload_n 1, 1) := dk_27 (dk_at dksX5_zone_3 1 rfl rfl)
theorem dX5_zone_70 : decode cX5_zone 70 = .ok (.invokevirtual 251, 3) := dk_182 0 251 (dk_at dksX5_zone_3 2 rfl rfl)
theorem dX5_zone_73 : decode cX5_zone 73 = .ok (.ireturn, 1) := dk_172 (dk_at dksX5_zone_3 5 rfl rfl)
theorem dX5_zone_74 : decode cX5_zone 74 = .ok (.aload_n 0, 1) := dk_42 (dk_at dksX5_zone_3 6 rfl rfl)
theorem dX5_zone_75 : decode cX5_zone 75 = .ok (.iload_n 1, 1) := dk_27 (dk_at dksX5_zone_3 7 rfl rfl)
theorem dX5_zone_76 : decode cX5_zone 76 = .ok (.invokevirtual 164, 3) := dk_182 0 164 (dk_at dksX5_zone_3 8 rfl rfl)
theorem dX5_zone_79 : decode cX5_zone 79 = .ok (.ireturn, 1) := dk_172 (dk_at dksX5_zone_3 11 rfl rfl)
theorem dX5_zone_80 : decode cX5_zone 80 = .ok (.iconst 0, 1) := dk_3 (dk_at dksX5_zone_3 12 rfl rfl)
theorem dX5_zone_81 : decode cX5_zone 81 = .ok (.istore 4, 2) := dk_54 4 (dk_at dksX5_zone_3 13 rfl rfl)
theorem dX5_zone_83 : decode cX5_zone 83 = .ok (.iload 4, 2) := dk_21 4 (dk_at dksX5_zone_3 15 rfl rfl)
theorem dX5_zone_85 : decode cX5_zone 85 = .ok (.iconst 3, 1) := dk_6 (dk_at dksX5_zone_3 17 rfl rfl)
theorem dX5_zone_86 : decode cX5_zone 86 = .ok (.if_icmp .ge 34, 3) := dk_162 0 34 (dk_at dksX5_zone_3 18 rfl rfl)
theorem dX5_zone_89 : decode cX5_zone 89 = .ok (.iload_n 3, 1) := dk_29 (dk_at dksX5_zone_3 21 rfl rfl)
theorem dX5_zone_90 : decode cX5_zone 90 = .ok (.aload_n 0, 1) := dk_42 (dk_at dksX5_zone_3 22 rfl rfl)
theorem dX5_zone_91 : decode cX5_zone 91 = .ok (.getfield 37, 3) := dk_180 0 37 (dk_at dksX5_zone_4 0 rfl rfl)
theorem dX5_zone_94 : decode cX5_zone 94 = .ok (.iload 4, 2) := dk_21 4 (dk_at dksX5_zone_4 3 rfl rfl)
theorem dX5_zone_96 : decode cX5_zone 96 = .ok (.iaload, 1) := dk_46 (dk_at dksX5_zone_4 5 rfl rfl)
theorem dX5_zone_97 : decode cX5_zone 97 = .ok (.iload_n 1, 1) := dk_27 (dk_at dksX5_zone_4 6 rfl rfl)
theorem dX5_zone_98 : decode cX5_zone 98 = .ok (.invokestatic 245, 3) := dk_184 0 245 (dk_at dksX5_zone_4 7 rfl rfl)
theorem dX5_zone_101 : decode cX5_zone 101 = .ok (.ifCond .eq 10, 3) := dk_153 0 10 (dk_at dksX5_zone_4 10 rfl rfl)
theorem dX5_zone_104 : decode cX5_zone 104 = .ok (.iconst 1, 1) := dk_4 (dk_at dksX5_zone_4 13 rfl rfl)
theorem dX5_zone_105 : decode cX5_zone 105 = .ok (.iload 4, 2) := dk_21 4 (dk_at dksX5_zone_4 14 rfl rfl)
theorem dX5_zone_107 : decode cX5_zone 107 = .ok (.ishl, 1) := dk_120 (dk_at dksX5_zone_4 16 rfl rfl)
theorem dX5_zone_108 : decode cX5_zone 108 = .ok (.goto 4, 3) := dk_167 0 4 (dk_at dksX5_zone_4 17 rfl rfl)
theorem dX5_zone_111 : decode cX5_zone 111 = .ok (.iconst 0, 1) := dk_3 (dk_at dksX5_zone_4 20 rfl rfl)
theorem dX5_zone_112 : decode cX5_zone 112 = .ok (.ior, 1) := dk_128 (dk_at dksX5_zone_4 21 rfl rfl)
theorem dX5_zone_113 : decode cX5_zone 113 = .ok (.istore_n 3, 1) := dk_62 (dk_at dksX5_zone_4 22 rfl rfl)
theorem dX5_zone_114 : decode cX5_zone 114 = .ok (.iinc 4 1, 3) := dk_132 4 1 (dk_at dksX5_zone_5 0 rfl rfl)
theorem dX5_zone_117 : decode cX5_zone 117 = .ok (.goto (-34), 3) := dk_167 255 222 (dk_at dksX5_zone_5 3 rfl rfl)
theorem dX5_zone_120 : decode cX5_zone 120 = .ok (.iload_n 3, 1) := dk_29 (dk_at dksX5_zone_5 6 rfl rfl)
theorem dX5_zone_121 : decode cX5_zone 121 = .ok (.ireturn, 1) := dk_172 (dk_at dksX5_zone_5 7 rfl rfl)
theorem dX5_zone_122 : decode cX5_zone 122 = .ok (.iconst 0, 1) := dk_3 (dk_at dksX5_zone_5 8 rfl rfl)
theorem dX5_zone_123 : decode cX5_zone 123 = .ok (.istore 4, 2) := dk_54 4 (dk_at dksX5_zone_5 9 rfl rfl)
theorem dX5_zone_125 : decode cX5_zone 125 = .ok (.iload 4, 2) := dk_21 4 (dk_at dksX5_zone_5 11 rfl rfl)
theorem dX5_zone_127 : decode cX5_zone 127 = .ok (.iconst 3, 1) := dk_6 (dk_at dksX5_zone_5 13 rfl rfl)
theorem dX5_zone_128 : decode cX5_zone 128 = .ok (.if_icmp .ge 35, 3) := dk_162 0 35 (dk_at dksX5_zone_5 14 rfl rfl)
theorem dX5_zone_131 : decode cX5_zone 131 = .ok (.iload_n 3, 1) := dk_29 (dk_at dksX5_zone_5 17 rfl rfl)
theorem dX5_zone_132 : decode cX5_zone 132 = .ok (.aload_n 0, 1) := dk_42 (dk_at dksX5_zone_5 18 rfl rfl)
theorem dX5_zone_133 : decode cX5_zone 133 = .ok (.iload 4, 2) := dk_21 4 (dk_at dksX5_zone_5 19 rfl rfl)
theorem dX5_zone_135 : decode cX5_zone 135 = .ok (.invokevirtual 161, 3) := dk_182 0 161 (dk_at dksX5_zone_5 21 rfl rfl)
theorem dX5_zone_138 : decode cX5_zone 138 = .ok (.aload_n 0, 1) := dk_42 (dk_at dksX5_zone_6 0 rfl rfl)
theorem dX5_zone_139 : decode cX5_zone 139 = .ok (.iload_n 1, 1) := dk_27 (dk_at dksX5_zone_6 1 rfl rfl)
theorem dX5_zone_140 : decode cX5_zone 140 = .ok (.invokevirtual 164, 3) := dk_182 0 164 (dk_at dksX5_zone_6 2 rfl rfl)
theorem dX5_zone_143 : decode cX5_zone 143 = .ok (.iand, 1) := dk_126 (dk_at dksX5_zone_6 5 rfl rfl)
theorem dX5_zone_144 : decode cX5_zone 144 = .ok (.ifCond .eq 10, 3) := dk_153 0 10 (dk_at dksX5_zone_6 6 rfl rfl)
theorem dX5_zone_147 : decode cX5_zone 147 = .ok (.iconst 1, 1) := dk_4 (dk_at dksX5_zone_6 9 rfl rfl)
theorem dX5_zone_148 : decode cX5_zone 148 = .ok (.iload 4, 2) := dk_21 4 (dk_at dksX5_zone_6 10 rfl rfl)
theorem dX5_zone_150 : decode cX5_zone 150 = .ok (.ishl, 1) := dk_120 (dk_at dksX5_zone_6 12 rfl rfl)
theorem dX5_zone_151 : decode cX5_zone 151 = .ok (.goto 4, 3) := dk_167 0 4 (dk_at dksX5_zone_6 13 rfl rfl)
theorem dX5_zone_154 : decode cX5_zone 154 = .ok (.iconst 0, 1) := dk_3 (dk_at dksX5_zone_6 16 rfl rfl)
theorem dX5_zone_155 : decode cX5_zone 155 = .ok (.ior, 1) := dk_128 (dk_at dksX5_zone_6 17 rfl rfl)
theorem dX5_zone_156 : decode cX5_zone 156 = .ok (.istore_n 3, 1) := dk_62 (dk_at dksX5_zone_6 18 rfl rfl)
theorem dX5_zone_157 : decode cX5_zone 157 = .ok (.iinc 4 1, 3) := dk_132 4 1 (dk_at dksX5_zone_6 19 rfl rfl)
theorem dX5_zone_160 : decode cX5_zone 160 = .ok (.goto (-35), 3) := dk_167 255 221 (dk_at dksX5_zone_7 0 rfl rfl)
theorem dX5_zone_163 : decode cX5_zone 163 = .ok (.iload_n 3, 1) := dk_29 (dk_at dksX5_zone_7 3 rfl rfl)
theorem dX5_zone_164 : decode cX5_zone 164 = .ok (.ireturn, 1) := dk_172 (dk_at dksX5_zone_7 4 rfl rfl)
theorem dX5_zone_165 : decode cX5_zone 165 = .ok (.aload_n 0, 1) := dk_42 (dk_at dksX5_zone_7 5 rfl rfl)
theorem dX5_zone_166 : decode cX5_zone 166 = .ok (.getfield 13, 3) := dk_180 0 13 (dk_at dksX5_zone_7 6 rfl rfl)
theorem dX5_zone_169 : decode cX5_zone 169 = .ok (.iload_n 1, 1) := dk_27 (dk_at dksX5_zone_7 9 rfl rfl)
theorem dX5_zone_170 : decode cX5_zone 170 = .ok (.iaload, 1) := dk_46 (dk_at dksX5_zone_7 10 rfl rfl)
theorem dX5_zone_171 : decode cX5_zone 171 = .ok (.ireturn, 1) := dk_172 (dk_at dksX5_zone_7 11 rfl rfl)
abbrev cX5_conflicts : ByteArray := prog_18_method_13_code
def yX5_conflicts : MethodName := ⟨RX5, "conflicts", "(I)I"⟩
def dkwX5_conflicts_0 : List UInt8 := [42, 180, 0, 7, 27, 46, 4, 27, 120, 128, 172]
abbrev dktX5_conflicts_0 : List UInt8 := dkwX5_conflicts_0 ++ []
theorem dksX5_conflicts_0 : cX5_conflicts.data.toList.drop 0 = dktX5_conflicts_0 := by decide +kernel
theorem dX5_conflicts_0 : decode cX5_conflicts 0 = .ok (.aload_n 0, 1) := dk_42 (dk_at dksX5_conflicts_0 0 rfl rfl)
theorem dX5_conflicts_1 : decode cX5_conflicts 1 = .ok (.getfield 7, 3) := dk_180 0 7 (dk_at dksX5_conflicts_0 1 rfl rfl)
theorem dX5_conflicts_4 : decode cX5_conflicts 4 = .ok (.iload_n 1, 1) := dk_27 (dk_at dksX5_conflicts_0 4 rfl rfl)
theorem dX5_conflicts_5 : decode cX5_conflicts 5 = .ok (.iaload, 1) := dk_46 (dk_at dksX5_conflicts_0 5 rfl rfl)
theorem dX5_conflicts_6 : decode cX5_conflicts 6 = .ok (.iconst 1, 1) := dk_4 (dk_at dksX5_conflicts_0 6 rfl rfl)
theorem dX5_conflicts_7 : decode cX5_conflicts 7 = .ok (.iload_n 1, 1) := dk_27 (dk_at dksX5_conflicts_0 7 rfl rfl)
theorem dX5_conflicts_8 : decode cX5_conflicts 8 = .ok (.ishl, 1) := dk_120 (dk_at dksX5_conflicts_0 8 rfl rfl)
theorem dX5_conflicts_9 : decode cX5_conflicts 9 = .ok (.ior, 1) := dk_128 (dk_at dksX5_conflicts_0 9 rfl rfl)
theorem dX5_conflicts_10 : decode cX5_conflicts 10 = .ok (.ireturn, 1) := dk_172 (dk_at dksX5_conflicts_0 10 rfl rfl)
abbrev cX5_buffer : ByteArray := prog_18_method_39_code
def yX5_buffer : MethodName := ⟨RX5, "buffer", "(II)I"⟩
def dkwX5_buffer_4 : List UInt8 := [180, 0, 28, 27, 46, 172, 42, 180, 0, 31, 27, 46, 172, 42, 180, 0, 34, 27, 46, 172]
abbrev dktX5_buffer_4 : List UInt8 := dkwX5_buffer_4 ++ []
def dkwX5_buffer_3 : List UInt8 := [42, 180, 0, 16, 27, 46, 172, 42, 180, 0, 19, 27, 46, 172, 42, 180, 0, 25, 27, 46, 172, 42]
abbrev dktX5_buffer_3 : List UInt8 := dkwX5_buffer_3 ++ dktX5_buffer_4
def dkwX5_buffer_2 : List UInt8 := [170, 0, 0, 0, 0, 69, 0, 0, 0, 0, 0, 0, 0, 4, 0, 0, 0, 34, 0, 0, 0, 41, 0, 0, 0, 48, 0, 0, 0, 55, 0, 0, 0, 62]
abbrev dktX5_buffer_2 : List UInt8 := dkwX5_buffer_2 ++ dktX5_buffer_3
def dkwX5_buffer_1 : List UInt8 := [182, 1, 12, 172, 42, 3, 181, 0, 139, 28]
abbrev dktX5_buffer_1 : List UInt8 := dkwX5_buffer_1 ++ dktX5_buffer_2
def dkwX5_buffer_0 : List UInt8 := [27, 184, 1, 15, 154, 0, 9, 42, 4, 182, 1, 12, 172, 28, 3, 8, 184, 0, 143, 154, 0, 9, 42, 5]
abbrev dktX5_buffer_0 : List UInt8 := dkwX5_buffer_0 ++ dktX5_buffer_1
theorem dksX5_buffer_0 : cX5_buffer.data.toList.drop 0 = dktX5_buffer_0 := by decide +kernel
theorem dksX5_buffer_1 : cX5_buffer.data.toList.drop 24 = dktX5_buffer_1 := dk_seg dksX5_buffer_0 24 rfl rfl
theorem dksX5_buffer_2 : cX5_buffer.data.toList.drop 34 = dktX5_buffer_2 := dk_seg dksX5_buffer_1 10 rfl rfl
theorem dksX5_buffer_3 : cX5_buffer.data.toList.drop 68 = dktX5_buffer_3 := dk_seg dksX5_buffer_2 34 rfl rfl
theorem dksX5_buffer_4 : cX5_buffer.data.toList.drop 90 = dktX5_buffer_4 := dk_seg dksX5_buffer_3 22 rfl rfl
theorem dX5_buffer_0 : decode cX5_buffer 0 = .ok (.iload_n 1, 1) := dk_27 (dk_at dksX5_buffer_0 0 rfl rfl)
theorem dX5_buffer_1 : decode cX5_buffer 1 = .ok (.invokestatic 271, 3) := dk_184 1 15 (dk_at dksX5_buffer_0 1 rfl rfl)
theorem dX5_buffer_4 : decode cX5_buffer 4 = .ok (.ifCond .ne 9, 3) := dk_154 0 9 (dk_at dksX5_buffer_0 4 rfl rfl)
theorem dX5_buffer_7 : decode cX5_buffer 7 = .ok (.aload_n 0, 1) := dk_42 (dk_at dksX5_buffer_0 7 rfl rfl)
theorem dX5_buffer_8 : decode cX5_buffer 8 = .ok (.iconst 1, 1) := dk_4 (dk_at dksX5_buffer_0 8 rfl rfl)
theorem dX5_buffer_9 : decode cX5_buffer 9 = .ok (.invokevirtual 268, 3) := dk_182 1 12 (dk_at dksX5_buffer_0 9 rfl rfl)
theorem dX5_buffer_12 : decode cX5_buffer 12 = .ok (.ireturn, 1) := dk_172 (dk_at dksX5_buffer_0 12 rfl rfl)
theorem dX5_buffer_13 : decode cX5_buffer 13 = .ok (.iload_n 2, 1) := dk_28 (dk_at dksX5_buffer_0 13 rfl rfl)
theorem dX5_buffer_14 : decode cX5_buffer 14 = .ok (.iconst 0, 1) := dk_3 (dk_at dksX5_buffer_0 14 rfl rfl)
theorem dX5_buffer_15 : decode cX5_buffer 15 = .ok (.iconst 5, 1) := dk_8 (dk_at dksX5_buffer_0 15 rfl rfl)
theorem dX5_buffer_16 : decode cX5_buffer 16 = .ok (.invokestatic 143, 3) := dk_184 0 143 (dk_at dksX5_buffer_0 16 rfl rfl)
theorem dX5_buffer_19 : decode cX5_buffer 19 = .ok (.ifCond .ne 9, 3) := dk_154 0 9 (dk_at dksX5_buffer_0 19 rfl rfl)
theorem dX5_buffer_22 : decode cX5_buffer 22 = .ok (.aload_n 0, 1) := dk_42 (dk_at dksX5_buffer_0 22 rfl rfl)
theorem dX5_buffer_23 : decode cX5_buffer 23 = .ok (.iconst 2, 1) := dk_5 (dk_at dksX5_buffer_0 23 rfl rfl)
theorem dX5_buffer_24 : decode cX5_buffer 24 = .ok (.invokevirtual 268, 3) := dk_182 1 12 (dk_at dksX5_buffer_1 0 rfl rfl)
theorem dX5_buffer_27 : decode cX5_buffer 27 = .ok (.ireturn, 1) := dk_172 (dk_at dksX5_buffer_1 3 rfl rfl)
theorem dX5_buffer_28 : decode cX5_buffer 28 = .ok (.aload_n 0, 1) := dk_42 (dk_at dksX5_buffer_1 4 rfl rfl)
theorem dX5_buffer_29 : decode cX5_buffer 29 = .ok (.iconst 0, 1) := dk_3 (dk_at dksX5_buffer_1 5 rfl rfl)
theorem dX5_buffer_30 : decode cX5_buffer 30 = .ok (.putfield 139, 3) := dk_181 0 139 (dk_at dksX5_buffer_1 6 rfl rfl)
theorem dX5_buffer_33 : decode cX5_buffer 33 = .ok (.iload_n 2, 1) := dk_28 (dk_at dksX5_buffer_1 9 rfl rfl)
theorem dX5_buffer_34 : decode cX5_buffer 34 = .ok (.tableswitch 69 0 4 #[34, 41, 48, 55, 62], 34) := by decide +kernel
theorem dX5_buffer_68 : decode cX5_buffer 68 = .ok (.aload_n 0, 1) := dk_42 (dk_at dksX5_buffer_3 0 rfl rfl)
theorem dX5_buffer_69 : decode cX5_buffer 69 = .ok (.getfield 16, 3) := dk_180 0 16 (dk_at dksX5_buffer_3 1 rfl rfl)
theorem dX5_buffer_72 : decode cX5_buffer 72 = .ok (.iload_n 1, 1) := dk_27 (dk_at dksX5_buffer_3 4 rfl rfl)
theorem dX5_buffer_73 : decode cX5_buffer 73 = .ok (.iaload, 1) := dk_46 (dk_at dksX5_buffer_3 5 rfl rfl)
theorem dX5_buffer_74 : decode cX5_buffer 74 = .ok (.ireturn, 1) := dk_172 (dk_at dksX5_buffer_3 6 rfl rfl)
theorem dX5_buffer_75 : decode cX5_buffer 75 = .ok (.aload_n 0, 1) := dk_42 (dk_at dksX5_buffer_3 7 rfl rfl)
theorem dX5_buffer_76 : decode cX5_buffer 76 = .ok (.getfield 19, 3) := dk_180 0 19 (dk_at dksX5_buffer_3 8 rfl rfl)
theorem dX5_buffer_79 : decode cX5_buffer 79 = .ok (.iload_n 1, 1) := dk_27 (dk_at dksX5_buffer_3 11 rfl rfl)
theorem dX5_buffer_80 : decode cX5_buffer 80 = .ok (.iaload, 1) := dk_46 (dk_at dksX5_buffer_3 12 rfl rfl)
theorem dX5_buffer_81 : decode cX5_buffer 81 = .ok (.ireturn, 1) := dk_172 (dk_at dksX5_buffer_3 13 rfl rfl)
theorem dX5_buffer_82 : decode cX5_buffer 82 = .ok (.aload_n 0, 1) := dk_42 (dk_at dksX5_buffer_3 14 rfl rfl)
theorem dX5_buffer_83 : decode cX5_buffer 83 = .ok (.getfield 25, 3) := dk_180 0 25 (dk_at dksX5_buffer_3 15 rfl rfl)
theorem dX5_buffer_86 : decode cX5_buffer 86 = .ok (.iload_n 1, 1) := dk_27 (dk_at dksX5_buffer_3 18 rfl rfl)
theorem dX5_buffer_87 : decode cX5_buffer 87 = .ok (.iaload, 1) := dk_46 (dk_at dksX5_buffer_3 19 rfl rfl)
theorem dX5_buffer_88 : decode cX5_buffer 88 = .ok (.ireturn, 1) := dk_172 (dk_at dksX5_buffer_3 20 rfl rfl)
theorem dX5_buffer_89 : decode cX5_buffer 89 = .ok (.aload_n 0, 1) := dk_42 (dk_at dksX5_buffer_3 21 rfl rfl)
theorem dX5_buffer_90 : decode cX5_buffer 90 = .ok (.getfield 28, 3) := dk_180 0 28 (dk_at dksX5_buffer_4 0 rfl rfl)
theorem dX5_buffer_93 : decode cX5_buffer 93 = .ok (.iload_n 1, 1) := dk_27 (dk_at dksX5_buffer_4 3 rfl rfl)
theorem dX5_buffer_94 : decode cX5_buffer 94 = .ok (.iaload, 1) := dk_46 (dk_at dksX5_buffer_4 4 rfl rfl)
theorem dX5_buffer_95 : decode cX5_buffer 95 = .ok (.ireturn, 1) := dk_172 (dk_at dksX5_buffer_4 5 rfl rfl)
theorem dX5_buffer_96 : decode cX5_buffer 96 = .ok (.aload_n 0, 1) := dk_42 (dk_at dksX5_buffer_4 6 rfl rfl)
theorem dX5_buffer_97 : decode cX5_buffer 97 = .ok (.getfield 31, 3) := dk_180 0 31 (dk_at dksX5_buffer_4 7 rfl rfl)
theorem dX5_buffer_100 : decode cX5_buffer 100 = .ok (.iload_n 1, 1) := dk_27 (dk_at dksX5_buffer_4 10 rfl rfl)
theorem dX5_buffer_101 : decode cX5_buffer 101 = .ok (.iaload, 1) := dk_46 (dk_at dksX5_buffer_4 11 rfl rfl)
theorem dX5_buffer_102 : decode cX5_buffer 102 = .ok (.ireturn, 1) := dk_172 (dk_at dksX5_buffer_4 12 rfl rfl)
theorem dX5_buffer_103 : decode cX5_buffer 103 = .ok (.aload_n 0, 1) := dk_42 (dk_at dksX5_buffer_4 13 rfl rfl)
theorem dX5_buffer_104 : decode cX5_buffer 104 = .ok (.getfield 34, 3) := dk_180 0 34 (dk_at dksX5_buffer_4 14 rfl rfl)
theorem dX5_buffer_107 : decode cX5_buffer 107 = .ok (.iload_n 1, 1) := dk_27 (dk_at dksX5_buffer_4 17 rfl rfl)
theorem dX5_buffer_108 : decode cX5_buffer 108 = .ok (.iaload, 1) := dk_46 (dk_at dksX5_buffer_4 18 rfl rfl)
theorem dX5_buffer_109 : decode cX5_buffer 109 = .ok (.ireturn, 1) := dk_172 (dk_at dksX5_buffer_4 19 rfl rfl)
abbrev cX5_part : ByteArray := prog_18_method_40_code
def yX5_part : MethodName := ⟨RX5, "part", "(II)I"⟩
def dkwX5_part_2 : List UInt8 := [28, 96, 46, 172]
abbrev dktX5_part_2 : List UInt8 := dkwX5_part_2 ++ []
def dkwX5_part_1 : List UInt8 := [184, 0, 143, 154, 0, 9, 42, 5, 182, 1, 12, 172, 42, 3, 181, 0, 139, 42, 180, 0, 22, 7, 27, 104]
abbrev dktX5_part_1 : List UInt8 := dkwX5_part_1 ++ dktX5_part_2
def dkwX5_part_0 : List UInt8 := [27, 184, 1, 15, 154, 0, 9, 42, 4, 182, 1, 12, 172, 28, 3, 42, 180, 0, 19, 27, 46, 4, 100]
abbrev dktX5_part_0 : List UInt8 := dkwX5_part_0 ++ dktX5_part_1
theorem dksX5_part_0 : cX5_part.data.toList.drop 0 = dktX5_part_0 := by decide +kernel
theorem dksX5_part_1 : cX5_part.data.toList.drop 23 = dktX5_part_1 := dk_seg dksX5_part_0 23 rfl rfl
theorem dksX5_part_2 : cX5_part.data.toList.drop 47 = dktX5_part_2 := dk_seg dksX5_part_1 24 rfl rfl
theorem dX5_part_0 : decode cX5_part 0 = .ok (.iload_n 1, 1) := dk_27 (dk_at dksX5_part_0 0 rfl rfl)
theorem dX5_part_1 : decode cX5_part 1 = .ok (.invokestatic 271, 3) := dk_184 1 15 (dk_at dksX5_part_0 1 rfl rfl)
theorem dX5_part_4 : decode cX5_part 4 = .ok (.ifCond .ne 9, 3) := dk_154 0 9 (dk_at dksX5_part_0 4 rfl rfl)
theorem dX5_part_7 : decode cX5_part 7 = .ok (.aload_n 0, 1) := dk_42 (dk_at dksX5_part_0 7 rfl rfl)
theorem dX5_part_8 : decode cX5_part 8 = .ok (.iconst 1, 1) := dk_4 (dk_at dksX5_part_0 8 rfl rfl)
theorem dX5_part_9 : decode cX5_part 9 = .ok (.invokevirtual 268, 3) := dk_182 1 12 (dk_at dksX5_part_0 9 rfl rfl)
theorem dX5_part_12 : decode cX5_part 12 = .ok (.ireturn, 1) := dk_172 (dk_at dksX5_part_0 12 rfl rfl)
theorem dX5_part_13 : decode cX5_part 13 = .ok (.iload_n 2, 1) := dk_28 (dk_at dksX5_part_0 13 rfl rfl)
theorem dX5_part_14 : decode cX5_part 14 = .ok (.iconst 0, 1) := dk_3 (dk_at dksX5_part_0 14 rfl rfl)
theorem dX5_part_15 : decode cX5_part 15 = .ok (.aload_n 0, 1) := dk_42 (dk_at dksX5_part_0 15 rfl rfl)
theorem dX5_part_16 : decode cX5_part 16 = .ok (.getfield 19, 3) := dk_180 0 19 (dk_at dksX5_part_0 16 rfl rfl)
theorem dX5_part_19 : decode cX5_part 19 = .ok (.iload_n 1, 1) := dk_27 (dk_at dksX5_part_0 19 rfl rfl)
theorem dX5_part_20 : decode cX5_part 20 = .ok (.iaload, 1) := dk_46 (dk_at dksX5_part_0 20 rfl rfl)
theorem dX5_part_21 : decode cX5_part 21 = .ok (.iconst 1, 1) := dk_4 (dk_at dksX5_part_0 21 rfl rfl)
theorem dX5_part_22 : decode cX5_part 22 = .ok (.isub, 1) := dk_100 (dk_at dksX5_part_0 22 rfl rfl)
theorem dX5_part_23 : decode cX5_part 23 = .ok (.invokestatic 143, 3) := dk_184 0 143 (dk_at dksX5_part_1 0 rfl rfl)
theorem dX5_part_26 : decode cX5_part 26 = .ok (.ifCond .ne 9, 3) := dk_154 0 9 (dk_at dksX5_part_1 3 rfl rfl)
theorem dX5_part_29 : decode cX5_part 29 = .ok (.aload_n 0, 1) := dk_42 (dk_at dksX5_part_1 6 rfl rfl)
theorem dX5_part_30 : decode cX5_part 30 = .ok (.iconst 2, 1) := dk_5 (dk_at dksX5_part_1 7 rfl rfl)
theorem dX5_part_31 : decode cX5_part 31 = .ok (.invokevirtual 268, 3) := dk_182 1 12 (dk_at dksX5_part_1 8 rfl rfl)
theorem dX5_part_34 : decode cX5_part 34 = .ok (.ireturn, 1) := dk_172 (dk_at dksX5_part_1 11 rfl rfl)
theorem dX5_part_35 : decode cX5_part 35 = .ok (.aload_n 0, 1) := dk_42 (dk_at dksX5_part_1 12 rfl rfl)
theorem dX5_part_36 : decode cX5_part 36 = .ok (.iconst 0, 1) := dk_3 (dk_at dksX5_part_1 13 rfl rfl)
theorem dX5_part_37 : decode cX5_part 37 = .ok (.putfield 139, 3) := dk_181 0 139 (dk_at dksX5_part_1 14 rfl rfl)
theorem dX5_part_40 : decode cX5_part 40 = .ok (.aload_n 0, 1) := dk_42 (dk_at dksX5_part_1 17 rfl rfl)
theorem dX5_part_41 : decode cX5_part 41 = .ok (.getfield 22, 3) := dk_180 0 22 (dk_at dksX5_part_1 18 rfl rfl)
theorem dX5_part_44 : decode cX5_part 44 = .ok (.iconst 4, 1) := dk_7 (dk_at dksX5_part_1 21 rfl rfl)
theorem dX5_part_45 : decode cX5_part 45 = .ok (.iload_n 1, 1) := dk_27 (dk_at dksX5_part_1 22 rfl rfl)
theorem dX5_part_46 : decode cX5_part 46 = .ok (.imul, 1) := dk_104 (dk_at dksX5_part_1 23 rfl rfl)
theorem dX5_part_47 : decode cX5_part 47 = .ok (.iload_n 2, 1) := dk_28 (dk_at dksX5_part_2 0 rfl rfl)
theorem dX5_part_48 : decode cX5_part 48 = .ok (.iadd, 1) := dk_96 (dk_at dksX5_part_2 1 rfl rfl)
theorem dX5_part_49 : decode cX5_part 49 = .ok (.iaload, 1) := dk_46 (dk_at dksX5_part_2 2 rfl rfl)
theorem dX5_part_50 : decode cX5_part 50 = .ok (.ireturn, 1) := dk_172 (dk_at dksX5_part_2 3 rfl rfl)
abbrev cX5_give : ByteArray := prog_18_method_45_code
def yX5_give : MethodName := ⟨RX5, "give", "(IIIIII)I"⟩
def dkwX5_give_2 : List UInt8 := [100, 172]
abbrev dktX5_give_2 : List UInt8 := dkwX5_give_2 ++ []
def dkwX5_give_1 : List UInt8 := [3, 172, 42, 182, 1, 2, 42, 27, 28, 29, 21, 4, 21, 5, 21, 6, 182, 1, 31, 42, 180, 1, 24, 4]
abbrev dktX5_give_1 : List UInt8 := dkwX5_give_1 ++ dktX5_give_2
def dkwX5_give_0 : List UInt8 := [42, 42, 27, 28, 29, 21, 4, 21, 5, 21, 6, 182, 1, 27, 181, 0, 139, 42, 180, 0, 139, 158, 0, 5]
abbrev dktX5_give_0 : List UInt8 := dkwX5_give_0 ++ dktX5_give_1
theorem dksX5_give_0 : cX5_give.data.toList.drop 0 = dktX5_give_0 := by decide +kernel
theorem dksX5_give_1 : cX5_give.data.toList.drop 24 = dktX5_give_1 := dk_seg dksX5_give_0 24 rfl rfl
theorem dksX5_give_2 : cX5_give.data.toList.drop 48 = dktX5_give_2 := dk_seg dksX5_give_1 24 rfl rfl
theorem dX5_give_0 : decode cX5_give 0 = .ok (.aload_n 0, 1) := dk_42 (dk_at dksX5_give_0 0 rfl rfl)
theorem dX5_give_1 : decode cX5_give 1 = .ok (.aload_n 0, 1) := dk_42 (dk_at dksX5_give_0 1 rfl rfl)
theorem dX5_give_2 : decode cX5_give 2 = .ok (.iload_n 1, 1) := dk_27 (dk_at dksX5_give_0 2 rfl rfl)
theorem dX5_give_3 : decode cX5_give 3 = .ok (.iload_n 2, 1) := dk_28 (dk_at dksX5_give_0 3 rfl rfl)
theorem dX5_give_4 : decode cX5_give 4 = .ok (.iload_n 3, 1) := dk_29 (dk_at dksX5_give_0 4 rfl rfl)
theorem dX5_give_5 : decode cX5_give 5 = .ok (.iload 4, 2) := dk_21 4 (dk_at dksX5_give_0 5 rfl rfl)
theorem dX5_give_7 : decode cX5_give 7 = .ok (.iload 5, 2) := dk_21 5 (dk_at dksX5_give_0 7 rfl rfl)
theorem dX5_give_9 : decode cX5_give 9 = .ok (.iload 6, 2) := dk_21 6 (dk_at dksX5_give_0 9 rfl rfl)
theorem dX5_give_11 : decode cX5_give 11 = .ok (.invokevirtual 283, 3) := dk_182 1 27 (dk_at dksX5_give_0 11 rfl rfl)
theorem dX5_give_14 : decode cX5_give 14 = .ok (.putfield 139, 3) := dk_181 0 139 (dk_at dksX5_give_0 14 rfl rfl)
theorem dX5_give_17 : decode cX5_give 17 = .ok (.aload_n 0, 1) := dk_42 (dk_at dksX5_give_0 17 rfl rfl)
theorem dX5_give_18 : decode cX5_give 18 = .ok (.getfield 139, 3) := dk_180 0 139 (dk_at dksX5_give_0 18 rfl rfl)
theorem dX5_give_21 : decode cX5_give 21 = .ok (.ifCond .le 5, 3) := dk_158 0 5 (dk_at dksX5_give_0 21 rfl rfl)
theorem dX5_give_24 : decode cX5_give 24 = .ok (.iconst 0, 1) := dk_3 (dk_at dksX5_give_1 0 rfl rfl)
theorem dX5_give_25 : decode cX5_give 25 = .ok (.ireturn, 1) := dk_172 (dk_at dksX5_give_1 1 rfl rfl)
theorem dX5_give_26 : decode cX5_give 26 = .ok (.aload_n 0, 1) := dk_42 (dk_at dksX5_give_1 2 rfl rfl)
theorem dX5_give_27 : decode cX5_give 27 = .ok (.invokevirtual 258, 3) := dk_182 1 2 (dk_at dksX5_give_1 3 rfl rfl)
theorem dX5_give_30 : decode cX5_give 30 = .ok (.aload_n 0, 1) := dk_42 (dk_at dksX5_give_1 6 rfl rfl)
theorem dX5_give_31 : decode cX5_give 31 = .ok (.iload_n 1, 1) := dk_27 (dk_at dksX5_give_1 7 rfl rfl)
theorem dX5_give_32 : decode cX5_give 32 = .ok (.iload_n 2, 1) := dk_28 (dk_at dksX5_give_1 8 rfl rfl)
theorem dX5_give_33 : decode cX5_give 33 = .ok (.iload_n 3, 1) := dk_29 (dk_at dksX5_give_1 9 rfl rfl)
theorem dX5_give_34 : decode cX5_give 34 = .ok (.iload 4, 2) := dk_21 4 (dk_at dksX5_give_1 10 rfl rfl)
theorem dX5_give_36 : decode cX5_give 36 = .ok (.iload 5, 2) := dk_21 5 (dk_at dksX5_give_1 12 rfl rfl)
theorem dX5_give_38 : decode cX5_give 38 = .ok (.iload 6, 2) := dk_21 6 (dk_at dksX5_give_1 14 rfl rfl)
theorem dX5_give_40 : decode cX5_give 40 = .ok (.invokevirtual 287, 3) := dk_182 1 31 (dk_at dksX5_give_1 16 rfl rfl)
theorem dX5_give_43 : decode cX5_give 43 = .ok (.aload_n 0, 1) := dk_42 (dk_at dksX5_give_1 19 rfl rfl)
theorem dX5_give_44 : decode cX5_give 44 = .ok (.getfield 280, 3) := dk_180 1 24 (dk_at dksX5_give_1 20 rfl rfl)
theorem dX5_give_47 : decode cX5_give 47 = .ok (.iconst 1, 1) := dk_4 (dk_at dksX5_give_1 23 rfl rfl)
theorem dX5_give_48 : decode cX5_give 48 = .ok (.isub, 1) := dk_100 (dk_at dksX5_give_2 0 rfl rfl)
theorem dX5_give_49 : decode cX5_give 49 = .ok (.ireturn, 1) := dk_172 (dk_at dksX5_give_2 1 rfl rfl)
abbrev cX5_notGiven : ByteArray := prog_18_method_43_code
def yX5_notGiven : MethodName := ⟨RX5, "notGiven", "(IIIIII)I"⟩
def dkwX5_notGiven_4 : List UInt8 := [160, 0, 7, 7, 167, 0, 4, 3, 172]
abbrev dktX5_notGiven_4 : List UInt8 := dkwX5_notGiven_4 ++ []
def dkwX5_notGiven_3 : List UInt8 := [21, 7, 42, 180, 0, 37, 27, 46, 2, 130, 126, 153, 0, 5, 6, 172, 42, 180, 1, 24, 16, 30]
abbrev dktX5_notGiven_3 : List UInt8 := dkwX5_notGiven_3 ++ dktX5_notGiven_4
def dkwX5_notGiven_2 : List UInt8 := [29, 4, 16, 9, 184, 0, 143, 153, 0, 14, 21, 4, 3, 16, 9, 184, 0, 143, 154, 0, 5, 5, 172]
abbrev dktX5_notGiven_2 : List UInt8 := dkwX5_notGiven_2 ++ dktX5_notGiven_3
def dkwX5_notGiven_1 : List UInt8 := [159, 0, 13, 21, 6, 184, 1, 15, 154, 0, 5, 4, 172, 28, 184, 1, 21, 54, 7, 21, 7, 155, 0, 24]
abbrev dktX5_notGiven_1 : List UInt8 := dkwX5_notGiven_1 ++ dktX5_notGiven_2
def dkwX5_notGiven_0 : List UInt8 := [27, 184, 1, 9, 153, 0, 31, 21, 5, 2, 159, 0, 11, 21, 5, 184, 1, 15, 153, 0, 17, 21, 6, 2]
abbrev dktX5_notGiven_0 : List UInt8 := dkwX5_notGiven_0 ++ dktX5_notGiven_1
theorem dksX5_notGiven_0 : cX5_notGiven.data.toList.drop 0 = dktX5_notGiven_0 := by decide +kernel
theorem dksX5_notGiven_1 : cX5_notGiven.data.toList.drop 24 = dktX5_notGiven_1 := dk_seg dksX5_notGiven_0 24 rfl rfl
theorem dksX5_notGiven_2 : cX5_notGiven.data.toList.drop 48 = dktX5_notGiven_2 := dk_seg dksX5_notGiven_1 24 rfl rfl
theorem dksX5_notGiven_3 : cX5_notGiven.data.toList.drop 71 = dktX5_notGiven_3 := dk_seg dksX5_notGiven_2 23 rfl rfl
theorem dksX5_notGiven_4 : cX5_notGiven.data.toList.drop 93 = dktX5_notGiven_4 := dk_seg dksX5_notGiven_3 22 rfl rfl
theorem dX5_notGiven_0 : decode cX5_notGiven 0 = .ok (.iload_n 1, 1) := dk_27 (dk_at dksX5_notGiven_0 0 rfl rfl)
theorem dX5_notGiven_1 : decode cX5_notGiven 1 = .ok (.invokestatic 265, 3) := dk_184 1 9 (dk_at dksX5_notGiven_0 1 rfl rfl)
theorem dX5_notGiven_4 : decode cX5_notGiven 4 = .ok (.ifCond .eq 31, 3) := dk_153 0 31 (dk_at dksX5_notGiven_0 4 rfl rfl)
theorem dX5_notGiven_7 : decode cX5_notGiven 7 = .ok (.iload 5, 2) := dk_21 5 (dk_at dksX5_notGiven_0 7 rfl rfl)
theorem dX5_notGiven_9 : decode cX5_notGiven 9 = .ok (.iconst (-1), 1) := dk_2 (dk_at dksX5_notGiven_0 9 rfl rfl)
theorem dX5_notGiven_10 : decode cX5_notGiven 10 = .ok (.if_icmp .eq 11, 3) := dk_159 0 11 (dk_at dksX5_notGiven_0 10 rfl rfl)
theorem dX5_notGiven_13 : decode cX5_notGiven 13 = .ok (.iload 5, 2) := dk_21 5 (dk_at dksX5_notGiven_0 13 rfl rfl)
theorem dX5_notGiven_15 : decode cX5_notGiven 15 = .ok (.invokestatic 271, 3) := dk_184 1 15 (dk_at dksX5_notGiven_0 15 rfl rfl)
theorem dX5_notGiven_18 : decode cX5_notGiven 18 = .ok (.ifCond .eq 17, 3) := dk_153 0 17 (dk_at dksX5_notGiven_0 18 rfl rfl)
theorem dX5_notGiven_21 : decode cX5_notGiven 21 = .ok (.iload 6, 2) := dk_21 6 (dk_at dksX5_notGiven_0 21 rfl rfl)
theorem dX5_notGiven_23 : decode cX5_notGiven 23 = .ok (.iconst (-1), 1) := dk_2 (dk_at dksX5_notGiven_0 23 rfl rfl)
theorem dX5_notGiven_24 : decode cX5_notGiven 24 = .ok (.if_icmp .eq 13, 3) := dk_159 0 13 (dk_at dksX5_notGiven_1 0 rfl rfl)
theorem dX5_notGiven_27 : decode cX5_notGiven 27 = .ok (.iload 6, 2) := dk_21 6 (dk_at dksX5_notGiven_1 3 rfl rfl)
theorem dX5_notGiven_29 : decode cX5_notGiven 29 = .ok (.invokestatic 271, 3) := dk_184 1 15 (dk_at dksX5_notGiven_1 5 rfl rfl)
theorem dX5_notGiven_32 : decode cX5_notGiven 32 = .ok (.ifCond .ne 5, 3) := dk_154 0 5 (dk_at dksX5_notGiven_1 8 rfl rfl)
theorem dX5_notGiven_35 : decode cX5_notGiven 35 = .ok (.iconst 1, 1) := dk_4 (dk_at dksX5_notGiven_1 11 rfl rfl)
theorem dX5_notGiven_36 : decode cX5_notGiven 36 = .ok (.ireturn, 1) := dk_172 (dk_at dksX5_notGiven_1 12 rfl rfl)
theorem dX5_notGiven_37 : decode cX5_notGiven 37 = .ok (.iload_n 2, 1) := dk_28 (dk_at dksX5_notGiven_1 13 rfl rfl)
theorem dX5_notGiven_38 : decode cX5_notGiven 38 = .ok (.invokestatic 277, 3) := dk_184 1 21 (dk_at dksX5_notGiven_1 14 rfl rfl)
theorem dX5_notGiven_41 : decode cX5_notGiven 41 = .ok (.istore 7, 2) := dk_54 7 (dk_at dksX5_notGiven_1 17 rfl rfl)
theorem dX5_notGiven_43 : decode cX5_notGiven 43 = .ok (.iload 7, 2) := dk_21 7 (dk_at dksX5_notGiven_1 19 rfl rfl)
theorem dX5_notGiven_45 : decode cX5_notGiven 45 = .ok (.ifCond .lt 24, 3) := dk_155 0 24 (dk_at dksX5_notGiven_1 21 rfl rfl)
theorem dX5_notGiven_48 : decode cX5_notGiven 48 = .ok (.iload_n 3, 1) := dk_29 (dk_at dksX5_notGiven_2 0 rfl rfl)
theorem dX5_notGiven_49 : decode cX5_notGiven 49 = .ok (.iconst 1, 1) := dk_4 (dk_at dksX5_notGiven_2 1 rfl rfl)
theorem dX5_notGiven_50 : decode cX5_notGiven 50 = .ok (.bipush 9, 2) := dk_16 9 (dk_at dksX5_notGiven_2 2 rfl rfl)
theorem dX5_notGiven_52 : decode cX5_notGiven 52 = .ok (.invokestatic 143, 3) := dk_184 0 143 (dk_at dksX5_notGiven_2 4 rfl rfl)
theorem dX5_notGiven_55 : decode cX5_notGiven 55 = .ok (.ifCond .eq 14, 3) := dk_153 0 14 (dk_at dksX5_notGiven_2 7 rfl rfl)
theorem dX5_notGiven_58 : decode cX5_notGiven 58 = .ok (.iload 4, 2) := dk_21 4 (dk_at dksX5_notGiven_2 10 rfl rfl)
theorem dX5_notGiven_60 : decode cX5_notGiven 60 = .ok (.iconst 0, 1) := dk_3 (dk_at dksX5_notGiven_2 12 rfl rfl)
theorem dX5_notGiven_61 : decode cX5_notGiven 61 = .ok (.bipush 9, 2) := dk_16 9 (dk_at dksX5_notGiven_2 13 rfl rfl)
theorem dX5_notGiven_63 : decode cX5_notGiven 63 = .ok (.invokestatic 143, 3) := dk_184 0 143 (dk_at dksX5_notGiven_2 15 rfl rfl)
theorem dX5_notGiven_66 : decode cX5_notGiven 66 = .ok (.ifCond .ne 5, 3) := dk_154 0 5 (dk_at dksX5_notGiven_2 18 rfl rfl)
theorem dX5_notGiven_69 : decode cX5_notGiven 69 = .ok (.iconst 2, 1) := dk_5 (dk_at dksX5_notGiven_2 21 rfl rfl)
theorem dX5_notGiven_70 : decode cX5_notGiven 70 = .ok (.ireturn, 1) := dk_172 (dk_at dksX5_notGiven_2 22 rfl rfl)
theorem dX5_notGiven_71 : decode cX5_notGiven 71 = .ok (.iload 7, 2) := dk_21 7 (dk_at dksX5_notGiven_3 0 rfl rfl)
theorem dX5_notGiven_73 : decode cX5_notGiven 73 = .ok (.aload_n 0, 1) := dk_42 (dk_at dksX5_notGiven_3 2 rfl rfl)
theorem dX5_notGiven_74 : decode cX5_notGiven 74 = .ok (.getfield 37, 3) := dk_180 0 37 (dk_at dksX5_notGiven_3 3 rfl rfl)
theorem dX5_notGiven_77 : decode cX5_notGiven 77 = .ok (.iload_n 1, 1) := dk_27 (dk_at dksX5_notGiven_3 6 rfl rfl)
theorem dX5_notGiven_78 : decode cX5_notGiven 78 = .ok (.iaload, 1) := dk_46 (dk_at dksX5_notGiven_3 7 rfl rfl)
theorem dX5_notGiven_79 : decode cX5_notGiven 79 = .ok (.iconst (-1), 1) := dk_2 (dk_at dksX5_notGiven_3 8 rfl rfl)
theorem dX5_notGiven_80 : decode cX5_notGiven 80 = .ok (.ixor, 1) := dk_130 (dk_at dksX5_notGiven_3 9 rfl rfl)
theorem dX5_notGiven_81 : decode cX5_notGiven 81 = .ok (.iand, 1) := dk_126 (dk_at dksX5_notGiven_3 10 rfl rfl)
theorem dX5_notGiven_82 : decode cX5_notGiven 82 = .ok (.ifCond .eq 5, 3) := dk_153 0 5 (dk_at dksX5_notGiven_3 11 rfl rfl)
theorem dX5_notGiven_85 : decode cX5_notGiven 85 = .ok (.iconst 3, 1) := dk_6 (dk_at dksX5_notGiven_3 14 rfl rfl)
theorem dX5_notGiven_86 : decode cX5_notGiven 86 = .ok (.ireturn, 1) := dk_172 (dk_at dksX5_notGiven_3 15 rfl rfl)
theorem dX5_notGiven_87 : decode cX5_notGiven 87 = .ok (.aload_n 0, 1) := dk_42 (dk_at dksX5_notGiven_3 16 rfl rfl)
theorem dX5_notGiven_88 : decode cX5_notGiven 88 = .ok (.getfield 280, 3) := dk_180 1 24 (dk_at dksX5_notGiven_3 17 rfl rfl)
theorem dX5_notGiven_91 : decode cX5_notGiven 91 = .ok (.bipush 30, 2) := dk_16 30 (dk_at dksX5_notGiven_3 20 rfl rfl)
theorem dX5_notGiven_93 : decode cX5_notGiven 93 = .ok (.if_icmp .ne 7, 3) := dk_160 0 7 (dk_at dksX5_notGiven_4 0 rfl rfl)
theorem dX5_notGiven_96 : decode cX5_notGiven 96 = .ok (.iconst 4, 1) := dk_7 (dk_at dksX5_notGiven_4 3 rfl rfl)
theorem dX5_notGiven_97 : decode cX5_notGiven 97 = .ok (.goto 4, 3) := dk_167 0 4 (dk_at dksX5_notGiven_4 4 rfl rfl)
theorem dX5_notGiven_100 : decode cX5_notGiven 100 = .ok (.iconst 0, 1) := dk_3 (dk_at dksX5_notGiven_4 7 rfl rfl)
theorem dX5_notGiven_101 : decode cX5_notGiven 101 = .ok (.ireturn, 1) := dk_172 (dk_at dksX5_notGiven_4 8 rfl rfl)
abbrev cX5_setOf : ByteArray := prog_18_method_42_code
def yX5_setOf : MethodName := ⟨RX5, "setOf", "(I)I"⟩
def dkwX5_setOf_2 : List UInt8 := [172, 27, 4, 21, 4, 4, 100, 120, 128, 60, 21, 4, 61, 29, 16, 10, 108, 62, 167, 255, 210, 27, 172]
abbrev dktX5_setOf_2 : List UInt8 := dkwX5_setOf_2 ++ []
def dkwX5_setOf_1 : List UInt8 := [29, 16, 10, 112, 54, 4, 21, 4, 4, 16, 8, 184, 0, 143, 153, 0, 9, 21, 4, 28, 160, 0, 5, 2]
abbrev dktX5_setOf_1 : List UInt8 := dkwX5_setOf_1 ++ dktX5_setOf_2
def dkwX5_setOf_0 : List UInt8 := [26, 158, 0, 11, 26, 184, 1, 18, 8, 164, 0, 5, 2, 172, 3, 60, 2, 61, 26, 62, 29, 158, 0, 48]
abbrev dktX5_setOf_0 : List UInt8 := dkwX5_setOf_0 ++ dktX5_setOf_1
theorem dksX5_setOf_0 : cX5_setOf.data.toList.drop 0 = dktX5_setOf_0 := by decide +kernel
theorem dksX5_setOf_1 : cX5_setOf.data.toList.drop 24 = dktX5_setOf_1 := dk_seg dksX5_setOf_0 24 rfl rfl
theorem dksX5_setOf_2 : cX5_setOf.data.toList.drop 48 = dktX5_setOf_2 := dk_seg dksX5_setOf_1 24 rfl rfl
theorem dX5_setOf_0 : decode cX5_setOf 0 = .ok (.iload_n 0, 1) := dk_26 (dk_at dksX5_setOf_0 0 rfl rfl)
theorem dX5_setOf_1 : decode cX5_setOf 1 = .ok (.ifCond .le 11, 3) := dk_158 0 11 (dk_at dksX5_setOf_0 1 rfl rfl)
theorem dX5_setOf_4 : decode cX5_setOf 4 = .ok (.iload_n 0, 1) := dk_26 (dk_at dksX5_setOf_0 4 rfl rfl)
theorem dX5_setOf_5 : decode cX5_setOf 5 = .ok (.invokestatic 274, 3) := dk_184 1 18 (dk_at dksX5_setOf_0 5 rfl rfl)
theorem dX5_setOf_8 : decode cX5_setOf 8 = .ok (.iconst 5, 1) := dk_8 (dk_at dksX5_setOf_0 8 rfl rfl)
theorem dX5_setOf_9 : decode cX5_setOf 9 = .ok (.if_icmp .le 5, 3) := dk_164 0 5 (dk_at dksX5_setOf_0 9 rfl rfl)
theorem dX5_setOf_12 : decode cX5_setOf 12 = .ok (.iconst (-1), 1) := dk_2 (dk_at dksX5_setOf_0 12 rfl rfl)
theorem dX5_setOf_13 : decode cX5_setOf 13 = .ok (.ireturn, 1) := dk_172 (dk_at dksX5_setOf_0 13 rfl rfl)
theorem dX5_setOf_14 : decode cX5_setOf 14 = .ok (.iconst 0, 1) := dk_3 (dk_at dksX5_setOf_0 14 rfl rfl)
theorem dX5_setOf_15 : decode cX5_setOf 15 = .ok (.istore_n 1, 1) := dk_60 (dk_at dksX5_setOf_0 15 rfl rfl)
theorem dX5_setOf_16 : decode cX5_setOf 16 = .ok (.iconst (-1), 1) := dk_2 (dk_at dksX5_setOf_0 16 rfl rfl)
theorem dX5_setOf_17 : decode cX5_setOf 17 = .ok (.istore_n 2, 1) := dk_61 (dk_at dksX5_setOf_0 17 rfl rfl)
theorem dX5_setOf_18 : decode cX5_setOf 18 = .ok (.iload_n 0, 1) := dk_26 (dk_at dksX5_setOf_0 18 rfl rfl)
theorem dX5_setOf_19 : decode cX5_setOf 19 = .ok (.istore_n 3, 1) := dk_62 (dk_at dksX5_setOf_0 19 rfl rfl)
theorem dX5_setOf_20 : decode cX5_setOf 20 = .ok (.iload_n 3, 1) := dk_29 (dk_at dksX5_setOf_0 20 rfl rfl)
theorem dX5_setOf_21 : decode cX5_setOf 21 = .ok (.ifCond .le 48, 3) := dk_158 0 48 (dk_at dksX5_setOf_0 21 rfl rfl)
theorem dX5_setOf_24 : decode cX5_setOf 24 = .ok (.iload_n 3, 1) := dk_29 (dk_at dksX5_setOf_1 0 rfl rfl)
theorem dX5_setOf_25 : decode cX5_setOf 25 = .ok (.bipush 10, 2) := dk_16 10 (dk_at dksX5_setOf_1 1 rfl rfl)
theorem dX5_setOf_27 : decode cX5_setOf 27 = .ok (.irem, 1) := dk_112 (dk_at dksX5_setOf_1 3 rfl rfl)
theorem dX5_setOf_28 : decode cX5_setOf 28 = .ok (.istore 4, 2) := dk_54 4 (dk_at dksX5_setOf_1 4 rfl rfl)
theorem dX5_setOf_30 : decode cX5_setOf 30 = .ok (.iload 4, 2) := dk_21 4 (dk_at dksX5_setOf_1 6 rfl rfl)
theorem dX5_setOf_32 : decode cX5_setOf 32 = .ok (.iconst 1, 1) := dk_4 (dk_at dksX5_setOf_1 8 rfl rfl)
theorem dX5_setOf_33 : decode cX5_setOf 33 = .ok (.bipush 8, 2) := dk_16 8 (dk_at dksX5_setOf_1 9 rfl rfl)
theorem dX5_setOf_35 : decode cX5_setOf 35 = .ok (.invokestatic 143, 3) := dk_184 0 143 (dk_at dksX5_setOf_1 11 rfl rfl)
theorem dX5_setOf_38 : decode cX5_setOf 38 = .ok (.ifCond .eq 9, 3) := dk_153 0 9 (dk_at dksX5_setOf_1 14 rfl rfl)
theorem dX5_setOf_41 : decode cX5_setOf 41 = .ok (.iload 4, 2) := dk_21 4 (dk_at dksX5_setOf_1 17 rfl rfl)
theorem dX5_setOf_43 : decode cX5_setOf 43 = .ok (.iload_n 2, 1) := dk_28 (dk_at dksX5_setOf_1 19 rfl rfl)
theorem dX5_setOf_44 : decode cX5_setOf 44 = .ok (.if_icmp .ne 5, 3) := dk_160 0 5 (dk_at dksX5_setOf_1 20 rfl rfl)
theorem dX5_setOf_47 : decode cX5_setOf 47 = .ok (.iconst (-1), 1) := dk_2 (dk_at dksX5_setOf_1 23 rfl rfl)
theorem dX5_setOf_48 : decode cX5_setOf 48 = .ok (.ireturn, 1) := dk_172 (dk_at dksX5_setOf_2 0 rfl rfl)
theorem dX5_setOf_49 : decode cX5_setOf 49 = .ok (.iload_n 1, 1) := dk_27 (dk_at dksX5_setOf_2 1 rfl rfl)
theorem dX5_setOf_50 : decode cX5_setOf 50 = .ok (.iconst 1, 1) := dk_4 (dk_at dksX5_setOf_2 2 rfl rfl)
theorem dX5_setOf_51 : decode cX5_setOf 51 = .ok (.iload 4, 2) := dk_21 4 (dk_at dksX5_setOf_2 3 rfl rfl)
theorem dX5_setOf_53 : decode cX5_setOf 53 = .ok (.iconst 1, 1) := dk_4 (dk_at dksX5_setOf_2 5 rfl rfl)
theorem dX5_setOf_54 : decode cX5_setOf 54 = .ok (.isub, 1) := dk_100 (dk_at dksX5_setOf_2 6 rfl rfl)
theorem dX5_setOf_55 : decode cX5_setOf 55 = .ok (.ishl, 1) := dk_120 (dk_at dksX5_setOf_2 7 rfl rfl)
theorem dX5_setOf_56 : decode cX5_setOf 56 = .ok (.ior, 1) := dk_128 (dk_at dksX5_setOf_2 8 rfl rfl)
theorem dX5_setOf_57 : decode cX5_setOf 57 = .ok (.istore_n 1, 1) := dk_60 (dk_at dksX5_setOf_2 9 rfl rfl)
theorem dX5_setOf_58 : decode cX5_setOf 58 = .ok (.iload 4, 2) := dk_21 4 (dk_at dksX5_setOf_2 10 rfl rfl)
theorem dX5_setOf_60 : decode cX5_setOf 60 = .ok (.istore_n 2, 1) := dk_61 (dk_at dksX5_setOf_2 12 rfl rfl)
theorem dX5_setOf_61 : decode cX5_setOf 61 = .ok (.iload_n 3, 1) := dk_29 (dk_at dksX5_setOf_2 13 rfl rfl)
theorem dX5_setOf_62 : decode cX5_setOf 62 = .ok (.bipush 10, 2) := dk_16 10 (dk_at dksX5_setOf_2 14 rfl rfl)
theorem dX5_setOf_64 : decode cX5_setOf 64 = .ok (.idiv, 1) := dk_108 (dk_at dksX5_setOf_2 16 rfl rfl)
theorem dX5_setOf_65 : decode cX5_setOf 65 = .ok (.istore_n 3, 1) := dk_62 (dk_at dksX5_setOf_2 17 rfl rfl)
theorem dX5_setOf_66 : decode cX5_setOf 66 = .ok (.goto (-46), 3) := dk_167 255 210 (dk_at dksX5_setOf_2 18 rfl rfl)
theorem dX5_setOf_69 : decode cX5_setOf 69 = .ok (.iload_n 1, 1) := dk_27 (dk_at dksX5_setOf_2 21 rfl rfl)
theorem dX5_setOf_70 : decode cX5_setOf 70 = .ok (.ireturn, 1) := dk_172 (dk_at dksX5_setOf_2 22 rfl rfl)
abbrev cX5_digitsOf : ByteArray := prog_18_method_41_code
def yX5_digitsOf : MethodName := ⟨RX5, "digitsOf", "(I)I"⟩
def dkwX5_digitsOf_0 : List UInt8 := [3, 60, 26, 61, 28, 158, 0, 14, 132, 1, 1, 28, 16, 10, 108, 61, 167, 255, 244, 27, 172]
abbrev dktX5_digitsOf_0 : List UInt8 := dkwX5_digitsOf_0 ++ []
theorem dksX5_digitsOf_0 : cX5_digitsOf.data.toList.drop 0 = dktX5_digitsOf_0 := by decide +kernel
theorem dX5_digitsOf_0 : decode cX5_digitsOf 0 = .ok (.iconst 0, 1) := dk_3 (dk_at dksX5_digitsOf_0 0 rfl rfl)
theorem dX5_digitsOf_1 : decode cX5_digitsOf 1 = .ok (.istore_n 1, 1) := dk_60 (dk_at dksX5_digitsOf_0 1 rfl rfl)
theorem dX5_digitsOf_2 : decode cX5_digitsOf 2 = .ok (.iload_n 0, 1) := dk_26 (dk_at dksX5_digitsOf_0 2 rfl rfl)
theorem dX5_digitsOf_3 : decode cX5_digitsOf 3 = .ok (.istore_n 2, 1) := dk_61 (dk_at dksX5_digitsOf_0 3 rfl rfl)
theorem dX5_digitsOf_4 : decode cX5_digitsOf 4 = .ok (.iload_n 2, 1) := dk_28 (dk_at dksX5_digitsOf_0 4 rfl rfl)
theorem dX5_digitsOf_5 : decode cX5_digitsOf 5 = .ok (.ifCond .le 14, 3) := dk_158 0 14 (dk_at dksX5_digitsOf_0 5 rfl rfl)
theorem dX5_digitsOf_8 : decode cX5_digitsOf 8 = .ok (.iinc 1 1, 3) := dk_132 1 1 (dk_at dksX5_digitsOf_0 8 rfl rfl)
theorem dX5_digitsOf_11 : decode cX5_digitsOf 11 = .ok (.iload_n 2, 1) := dk_28 (dk_at dksX5_digitsOf_0 11 rfl rfl)
theorem dX5_digitsOf_12 : decode cX5_digitsOf 12 = .ok (.bipush 10, 2) := dk_16 10 (dk_at dksX5_digitsOf_0 12 rfl rfl)
theorem dX5_digitsOf_14 : decode cX5_digitsOf 14 = .ok (.idiv, 1) := dk_108 (dk_at dksX5_digitsOf_0 14 rfl rfl)
theorem dX5_digitsOf_15 : decode cX5_digitsOf 15 = .ok (.istore_n 2, 1) := dk_61 (dk_at dksX5_digitsOf_0 15 rfl rfl)
theorem dX5_digitsOf_16 : decode cX5_digitsOf 16 = .ok (.goto (-12), 3) := dk_167 255 244 (dk_at dksX5_digitsOf_0 16 rfl rfl)
theorem dX5_digitsOf_19 : decode cX5_digitsOf 19 = .ok (.iload_n 1, 1) := dk_27 (dk_at dksX5_digitsOf_0 19 rfl rfl)
theorem dX5_digitsOf_20 : decode cX5_digitsOf 20 = .ok (.ireturn, 1) := dk_172 (dk_at dksX5_digitsOf_0 20 rfl rfl)
abbrev cX5_gives : ByteArray := prog_18_method_44_code
def yX5_gives : MethodName := ⟨RX5, "gives", "(IIIIII)V"⟩
def dkwX5_gives_6 : List UInt8 := [96, 181, 1, 24, 177]
abbrev dktX5_gives_6 : List UInt8 := dkwX5_gives_6 ++ []
def dkwX5_gives_5 : List UInt8 := [27, 46, 96, 42, 180, 1, 24, 79, 42, 180, 0, 40, 27, 92, 46, 4, 96, 79, 42, 89, 180, 1, 24, 4]
abbrev dktX5_gives_5 : List UInt8 := dkwX5_gives_5 ++ dktX5_gives_6
def dkwX5_gives_4 : List UInt8 := [2, 79, 42, 180, 0, 100, 42, 180, 1, 24, 2, 79, 42, 180, 0, 43, 16, 30, 27, 104, 42, 180, 0, 40]
abbrev dktX5_gives_4 : List UInt8 := dkwX5_gives_4 ++ dktX5_gives_5
def dkwX5_gives_3 : List UInt8 := [180, 1, 24, 21, 6, 79, 42, 180, 0, 94, 42, 180, 1, 24, 3, 79, 42, 180, 0, 97, 42, 180, 1, 24]
abbrev dktX5_gives_3 : List UInt8 := dkwX5_gives_3 ++ dktX5_gives_4
def dkwX5_gives_2 : List UInt8 := [180, 1, 24, 21, 4, 79, 42, 180, 0, 88, 42, 180, 1, 24, 21, 5, 79, 42, 180, 0, 91, 42]
abbrev dktX5_gives_2 : List UInt8 := dkwX5_gives_2 ++ dktX5_gives_3
def dkwX5_gives_1 : List UInt8 := [42, 180, 1, 24, 28, 184, 1, 18, 79, 42, 180, 0, 82, 42, 180, 1, 24, 29, 79, 42, 180, 0, 85, 42]
abbrev dktX5_gives_1 : List UInt8 := dkwX5_gives_1 ++ dktX5_gives_2
def dkwX5_gives_0 : List UInt8 := [42, 180, 0, 73, 42, 180, 1, 24, 27, 79, 42, 180, 0, 76, 42, 180, 1, 24, 28, 79, 42, 180, 0, 79]
abbrev dktX5_gives_0 : List UInt8 := dkwX5_gives_0 ++ dktX5_gives_1
theorem dksX5_gives_0 : cX5_gives.data.toList.drop 0 = dktX5_gives_0 := by decide +kernel
theorem dksX5_gives_1 : cX5_gives.data.toList.drop 24 = dktX5_gives_1 := dk_seg dksX5_gives_0 24 rfl rfl
theorem dksX5_gives_2 : cX5_gives.data.toList.drop 48 = dktX5_gives_2 := dk_seg dksX5_gives_1 24 rfl rfl
theorem dksX5_gives_3 : cX5_gives.data.toList.drop 70 = dktX5_gives_3 := dk_seg dksX5_gives_2 22 rfl rfl
theorem dksX5_gives_4 : cX5_gives.data.toList.drop 94 = dktX5_gives_4 := dk_seg dksX5_gives_3 24 rfl rfl
theorem dksX5_gives_5 : cX5_gives.data.toList.drop 118 = dktX5_gives_5 := dk_seg dksX5_gives_4 24 rfl rfl
theorem dksX5_gives_6 : cX5_gives.data.toList.drop 142 = dktX5_gives_6 := dk_seg dksX5_gives_5 24 rfl rfl
theorem dX5_gives_0 : decode cX5_gives 0 = .ok (.aload_n 0, 1) := dk_42 (dk_at dksX5_gives_0 0 rfl rfl)
theorem dX5_gives_1 : decode cX5_gives 1 = .ok (.getfield 73, 3) := dk_180 0 73 (dk_at dksX5_gives_0 1 rfl rfl)
theorem dX5_gives_4 : decode cX5_gives 4 = .ok (.aload_n 0, 1) := dk_42 (dk_at dksX5_gives_0 4 rfl rfl)
theorem dX5_gives_5 : decode cX5_gives 5 = .ok (.getfield 280, 3) := dk_180 1 24 (dk_at dksX5_gives_0 5 rfl rfl)
theorem dX5_gives_8 : decode cX5_gives 8 = .ok (.iload_n 1, 1) := dk_27 (dk_at dksX5_gives_0 8 rfl rfl)
theorem dX5_gives_9 : decode cX5_gives 9 = .ok (.iastore, 1) := dk_79 (dk_at dksX5_gives_0 9 rfl rfl)
theorem dX5_gives_10 : decode cX5_gives 10 = .ok (.aload_n 0, 1) := dk_42 (dk_at dksX5_gives_0 10 rfl rfl)
theorem dX5_gives_11 : decode cX5_gives 11 = .ok (.getfield 76, 3) := dk_180 0 76 (dk_at dksX5_gives_0 11 rfl rfl)
theorem dX5_gives_14 : decode cX5_gives 14 = .ok (.aload_n 0, 1) := dk_42 (dk_at dksX5_gives_0 14 rfl rfl)
theorem dX5_gives_15 : decode cX5_gives 15 = .ok (.getfield 280, 3) := dk_180 1 24 (dk_at dksX5_gives_0 15 rfl rfl)
theorem dX5_gives_18 : decode cX5_gives 18 = .ok (.iload_n 2, 1) := dk_28 (dk_at dksX5_gives_0 18 rfl rfl)
theorem dX5_gives_19 : decode cX5_gives 19 = .ok (.iastore, 1) := dk_79 (dk_at dksX5_gives_0 19 rfl rfl)
theorem dX5_gives_20 : decode cX5_gives 20 = .ok (.aload_n 0, 1) := dk_42 (dk_at dksX5_gives_0 20 rfl rfl)
theorem dX5_gives_21 : decode cX5_gives 21 = .ok (.getfield 79, 3) := dk_180 0 79 (dk_at dksX5_gives_0 21 rfl rfl)
theorem dX5_gives_24 : decode cX5_gives 24 = .ok (.aload_n 0, 1) := dk_42 (dk_at dksX5_gives_1 0 rfl rfl)
theorem dX5_gives_25 : decode cX5_gives 25 = .ok (.getfield 280, 3) := dk_180 1 24 (dk_at dksX5_gives_1 1 rfl rfl)
theorem dX5_gives_28 : decode cX5_gives 28 = .ok (.iload_n 2, 1) := dk_28 (dk_at dksX5_gives_1 4 rfl rfl)
theorem dX5_gives_29 : decode cX5_gives 29 = .ok (.invokestatic 274, 3) := dk_184 1 18 (dk_at dksX5_gives_1 5 rfl rfl)
theorem dX5_gives_32 : decode cX5_gives 32 = .ok (.iastore, 1) := dk_79 (dk_at dksX5_gives_1 8 rfl rfl)
theorem dX5_gives_33 : decode cX5_gives 33 = .ok (.aload_n 0, 1) := dk_42 (dk_at dksX5_gives_1 9 rfl rfl)
theorem dX5_gives_34 : decode cX5_gives 34 = .ok (.getfield 82, 3) := dk_180 0 82 (dk_at dksX5_gives_1 10 rfl rfl)
theorem dX5_gives_37 : decode cX5_gives 37 = .ok (.aload_n 0, 1) := dk_42 (dk_at dksX5_gives_1 13 rfl rfl)
theorem dX5_gives_38 : decode cX5_gives 38 = .ok (.getfield 280, 3) := dk_180 1 24 (dk_at dksX5_gives_1 14 rfl rfl)
theorem dX5_gives_41 : decode cX5_gives 41 = .ok (.iload_n 3, 1) := dk_29 (dk_at dksX5_gives_1 17 rfl rfl)
theorem dX5_gives_42 : decode cX5_gives 42 = .ok (.iastore, 1) := dk_79 (dk_at dksX5_gives_1 18 rfl rfl)
theorem dX5_gives_43 : decode cX5_gives 43 = .ok (.aload_n 0, 1) := dk_42 (dk_at dksX5_gives_1 19 rfl rfl)
theorem dX5_gives_44 : decode cX5_gives 44 = .ok (.getfield 85, 3) := dk_180 0 85 (dk_at dksX5_gives_1 20 rfl rfl)
theorem dX5_gives_47 : decode cX5_gives 47 = .ok (.aload_n 0, 1) := dk_42 (dk_at dksX5_gives_1 23 rfl rfl)
theorem dX5_gives_48 : decode cX5_gives 48 = .ok (.getfield 280, 3) := dk_180 1 24 (dk_at dksX5_gives_2 0 rfl rfl)
theorem dX5_gives_51 : decode cX5_gives 51 = .ok (.iload 4, 2) := dk_21 4 (dk_at dksX5_gives_2 3 rfl rfl)
theorem dX5_gives_53 : decode cX5_gives 53 = .ok (.iastore, 1) := dk_79 (dk_at dksX5_gives_2 5 rfl rfl)
theorem dX5_gives_54 : decode cX5_gives 54 = .ok (.aload_n 0, 1) := dk_42 (dk_at dksX5_gives_2 6 rfl rfl)
theorem dX5_gives_55 : decode cX5_gives 55 = .ok (.getfield 88, 3) := dk_180 0 88 (dk_at dksX5_gives_2 7 rfl rfl)
theorem dX5_gives_58 : decode cX5_gives 58 = .ok (.aload_n 0, 1) := dk_42 (dk_at dksX5_gives_2 10 rfl rfl)
theorem dX5_gives_59 : decode cX5_gives 59 = .ok (.getfield 280, 3) := dk_180 1 24 (dk_at dksX5_gives_2 11 rfl rfl)
theorem dX5_gives_62 : decode cX5_gives 62 = .ok (.iload 5, 2) := dk_21 5 (dk_at dksX5_gives_2 14 rfl rfl)
theorem dX5_gives_64 : decode cX5_gives 64 = .ok (.iastore, 1) := dk_79 (dk_at dksX5_gives_2 16 rfl rfl)
theorem dX5_gives_65 : decode cX5_gives 65 = .ok (.aload_n 0, 1) := dk_42 (dk_at dksX5_gives_2 17 rfl rfl)
theorem dX5_gives_66 : decode cX5_gives 66 = .ok (.getfield 91, 3) := dk_180 0 91 (dk_at dksX5_gives_2 18 rfl rfl)
theorem dX5_gives_69 : decode cX5_gives 69 = .ok (.aload_n 0, 1) := dk_42 (dk_at dksX5_gives_2 21 rfl rfl)
theorem dX5_gives_70 : decode cX5_gives 70 = .ok (.getfield 280, 3) := dk_180 1 24 (dk_at dksX5_gives_3 0 rfl rfl)
theorem dX5_gives_73 : decode cX5_gives 73 = .ok (.iload 6, 2) := dk_21 6 (dk_at dksX5_gives_3 3 rfl rfl)
theorem dX5_gives_75 : decode cX5_gives 75 = .ok (.iastore, 1) := dk_79 (dk_at dksX5_gives_3 5 rfl rfl)
theorem dX5_gives_76 : decode cX5_gives 76 = .ok (.aload_n 0, 1) := dk_42 (dk_at dksX5_gives_3 6 rfl rfl)
theorem dX5_gives_77 : decode cX5_gives 77 = .ok (.getfield 94, 3) := dk_180 0 94 (dk_at dksX5_gives_3 7 rfl rfl)
theorem dX5_gives_80 : decode cX5_gives 80 = .ok (.aload_n 0, 1) := dk_42 (dk_at dksX5_gives_3 10 rfl rfl)
theorem dX5_gives_81 : decode cX5_gives 81 = .ok (.getfield 280, 3) := dk_180 1 24 (dk_at dksX5_gives_3 11 rfl rfl)
theorem dX5_gives_84 : decode cX5_gives 84 = .ok (.iconst 0, 1) := dk_3 (dk_at dksX5_gives_3 14 rfl rfl)
theorem dX5_gives_85 : decode cX5_gives 85 = .ok (.iastore, 1) := dk_79 (dk_at dksX5_gives_3 15 rfl rfl)
theorem dX5_gives_86 : decode cX5_gives 86 = .ok (.aload_n 0, 1) := dk_42 (dk_at dksX5_gives_3 16 rfl rfl)
theorem dX5_gives_87 : decode cX5_gives 87 = .ok (.getfield 97, 3) := dk_180 0 97 (dk_at dksX5_gives_3 17 rfl rfl)
theorem dX5_gives_90 : decode cX5_gives 90 = .ok (.aload_n 0, 1) := dk_42 (dk_at dksX5_gives_3 20 rfl rfl)
theorem dX5_gives_91 : decode cX5_gives 91 = .ok (.getfield 280, 3) := dk_180 1 24 (dk_at dksX5_gives_3 21 rfl rfl)
theorem dX5_gives_94 : decode cX5_gives 94 = .ok (.iconst (-1), 1) := dk_2 (dk_at dksX5_gives_4 0 rfl rfl)
theorem dX5_gives_95 : decode cX5_gives 95 = .ok (.iastore, 1) := dk_79 (dk_at dksX5_gives_4 1 rfl rfl)
theorem dX5_gives_96 : decode cX5_gives 96 = .ok (.aload_n 0, 1) := dk_42 (dk_at dksX5_gives_4 2 rfl rfl)
theorem dX5_gives_97 : decode cX5_gives 97 = .ok (.getfield 100, 3) := dk_180 0 100 (dk_at dksX5_gives_4 3 rfl rfl)
theorem dX5_gives_100 : decode cX5_gives 100 = .ok (.aload_n 0, 1) := dk_42 (dk_at dksX5_gives_4 6 rfl rfl)
theorem dX5_gives_101 : decode cX5_gives 101 = .ok (.getfield 280, 3) := dk_180 1 24 (dk_at dksX5_gives_4 7 rfl rfl)
theorem dX5_gives_104 : decode cX5_gives 104 = .ok (.iconst (-1), 1) := dk_2 (dk_at dksX5_gives_4 10 rfl rfl)
theorem dX5_gives_105 : decode cX5_gives 105 = .ok (.iastore, 1) := dk_79 (dk_at dksX5_gives_4 11 rfl rfl)
theorem dX5_gives_106 : decode cX5_gives 106 = .ok (.aload_n 0, 1) := dk_42 (dk_at dksX5_gives_4 12 rfl rfl)
theorem dX5_gives_107 : decode cX5_gives 107 = .ok (.getfield 43, 3) := dk_180 0 43 (dk_at dksX5_gives_4 13 rfl rfl)
theorem dX5_gives_110 : decode cX5_gives 110 = .ok (.bipush 30, 2) := dk_16 30 (dk_at dksX5_gives_4 16 rfl rfl)
theorem dX5_gives_112 : decode cX5_gives 112 = .ok (.iload_n 1, 1) := dk_27 (dk_at dksX5_gives_4 18 rfl rfl)
theorem dX5_gives_113 : decode cX5_gives 113 = .ok (.imul, 1) := dk_104 (dk_at dksX5_gives_4 19 rfl rfl)
theorem dX5_gives_114 : decode cX5_gives 114 = .ok (.aload_n 0, 1) := dk_42 (dk_at dksX5_gives_4 20 rfl rfl)
theorem dX5_gives_115 : decode cX5_gives 115 = .ok (.getfield 40, 3) := dk_180 0 40 (dk_at dksX5_gives_4 21 rfl rfl)
theorem dX5_gives_118 : decode cX5_gives 118 = .ok (.iload_n 1, 1) := dk_27 (dk_at dksX5_gives_5 0 rfl rfl)
theorem dX5_gives_119 : decode cX5_gives 119 = .ok (.iaload, 1) := dk_46 (dk_at dksX5_gives_5 1 rfl rfl)
theorem dX5_gives_120 : decode cX5_gives 120 = .ok (.iadd, 1) := dk_96 (dk_at dksX5_gives_5 2 rfl rfl)
theorem dX5_gives_121 : decode cX5_gives 121 = .ok (.aload_n 0, 1) := dk_42 (dk_at dksX5_gives_5 3 rfl rfl)
theorem dX5_gives_122 : decode cX5_gives 122 = .ok (.getfield 280, 3) := dk_180 1 24 (dk_at dksX5_gives_5 4 rfl rfl)
theorem dX5_gives_125 : decode cX5_gives 125 = .ok (.iastore, 1) := dk_79 (dk_at dksX5_gives_5 7 rfl rfl)
theorem dX5_gives_126 : decode cX5_gives 126 = .ok (.aload_n 0, 1) := dk_42 (dk_at dksX5_gives_5 8 rfl rfl)
theorem dX5_gives_127 : decode cX5_gives 127 = .ok (.getfield 40, 3) := dk_180 0 40 (dk_at dksX5_gives_5 9 rfl rfl)
theorem dX5_gives_130 : decode cX5_gives 130 = .ok (.iload_n 1, 1) := dk_27 (dk_at dksX5_gives_5 12 rfl rfl)
theorem dX5_gives_131 : decode cX5_gives 131 = .ok (.dup2, 1) := dk_92 (dk_at dksX5_gives_5 13 rfl rfl)
theorem dX5_gives_132 : decode cX5_gives 132 = .ok (.iaload, 1) := dk_46 (dk_at dksX5_gives_5 14 rfl rfl)
theorem dX5_gives_133 : decode cX5_gives 133 = .ok (.iconst 1, 1) := dk_4 (dk_at dksX5_gives_5 15 rfl rfl)
theorem dX5_gives_134 : decode cX5_gives 134 = .ok (.iadd, 1) := dk_96 (dk_at dksX5_gives_5 16 rfl rfl)
theorem dX5_gives_135 : decode cX5_gives 135 = .ok (.iastore, 1) := dk_79 (dk_at dksX5_gives_5 17 rfl rfl)
theorem dX5_gives_136 : decode cX5_gives 136 = .ok (.aload_n 0, 1) := dk_42 (dk_at dksX5_gives_5 18 rfl rfl)
theorem dX5_gives_137 : decode cX5_gives 137 = .ok (.dup, 1) := dk_89 (dk_at dksX5_gives_5 19 rfl rfl)
theorem dX5_gives_138 : decode cX5_gives 138 = .ok (.getfield 280, 3) := dk_180 1 24 (dk_at dksX5_gives_5 20 rfl rfl)
theorem dX5_gives_141 : decode cX5_gives 141 = .ok (.iconst 1, 1) := dk_4 (dk_at dksX5_gives_5 23 rfl rfl)
theorem dX5_gives_142 : decode cX5_gives 142 = .ok (.iadd, 1) := dk_96 (dk_at dksX5_gives_6 0 rfl rfl)
theorem dX5_gives_143 : decode cX5_gives 143 = .ok (.putfield 280, 3) := dk_181 1 24 (dk_at dksX5_gives_6 1 rfl rfl)
theorem dX5_gives_146 : decode cX5_gives 146 = .ok (.return_, 1) := dk_177 (dk_at dksX5_gives_6 4 rfl rfl)
abbrev cX5_withdraw : ByteArray := prog_18_method_46_code
def yX5_withdraw : MethodName := ⟨RX5, "withdraw", "(I)I"⟩
def dkwX5_withdraw_3 : List UInt8 := [89, 180, 1, 35, 4, 96, 181, 1, 35, 28, 172]
abbrev dktX5_withdraw_3 : List UInt8 := dkwX5_withdraw_3 ++ []
def dkwX5_withdraw_2 : List UInt8 := [180, 0, 43, 16, 30, 27, 104, 42, 180, 0, 40, 27, 46, 96, 46, 61, 42, 180, 0, 94, 28, 6, 79, 42]
abbrev dktX5_withdraw_2 : List UInt8 := dkwX5_withdraw_2 ++ dktX5_withdraw_3
def dkwX5_withdraw_1 : List UInt8 := [182, 1, 12, 172, 42, 3, 181, 0, 139, 42, 182, 1, 2, 42, 180, 0, 40, 27, 92, 46, 4, 100, 79, 42]
abbrev dktX5_withdraw_1 : List UInt8 := dkwX5_withdraw_1 ++ dktX5_withdraw_2
def dkwX5_withdraw_0 : List UInt8 := [27, 184, 1, 9, 154, 0, 9, 42, 4, 182, 1, 12, 172, 42, 180, 0, 40, 27, 46, 154, 0, 9, 42, 5]
abbrev dktX5_withdraw_0 : List UInt8 := dkwX5_withdraw_0 ++ dktX5_withdraw_1
theorem dksX5_withdraw_0 : cX5_withdraw.data.toList.drop 0 = dktX5_withdraw_0 := by decide +kernel
theorem dksX5_withdraw_1 : cX5_withdraw.data.toList.drop 24 = dktX5_withdraw_1 := dk_seg dksX5_withdraw_0 24 rfl rfl
theorem dksX5_withdraw_2 : cX5_withdraw.data.toList.drop 48 = dktX5_withdraw_2 := dk_seg dksX5_withdraw_1 24 rfl rfl
theorem dksX5_withdraw_3 : cX5_withdraw.data.toList.drop 72 = dktX5_withdraw_3 := dk_seg dksX5_withdraw_2 24 rfl rfl
theorem dX5_withdraw_0 : decode cX5_withdraw 0 = .ok (.iload_n 1, 1) := dk_27 (dk_at dksX5_withdraw_0 0 rfl rfl)
theorem dX5_withdraw_1 : decode cX5_withdraw 1 = .ok (.invokestatic 265, 3) := dk_184 1 9 (dk_at dksX5_withdraw_0 1 rfl rfl)
theorem dX5_withdraw_4 : decode cX5_withdraw 4 = .ok (.ifCond .ne 9, 3) := dk_154 0 9 (dk_at dksX5_withdraw_0 4 rfl rfl)
theorem dX5_withdraw_7 : decode cX5_withdraw 7 = .ok (.aload_n 0, 1) := dk_42 (dk_at dksX5_withdraw_0 7 rfl rfl)
theorem dX5_withdraw_8 : decode cX5_withdraw 8 = .ok (.iconst 1, 1) := dk_4 (dk_at dksX5_withdraw_0 8 rfl rfl)
theorem dX5_withdraw_9 : decode cX5_withdraw 9 = .ok (.invokevirtual 268, 3) := dk_182 1 12 (dk_at dksX5_withdraw_0 9 rfl rfl)
theorem dX5_withdraw_12 : decode cX5_withdraw 12 = .ok (.ireturn, 1) := dk_172 (dk_at dksX5_withdraw_0 12 rfl rfl)
theorem dX5_withdraw_13 : decode cX5_withdraw 13 = .ok (.aload_n 0, 1) := dk_42 (dk_at dksX5_withdraw_0 13 rfl rfl)
theorem dX5_withdraw_14 : decode cX5_withdraw 14 = .ok (.getfield 40, 3) := dk_180 0 40 (dk_at dksX5_withdraw_0 14 rfl rfl)
theorem dX5_withdraw_17 : decode cX5_withdraw 17 = .ok (.iload_n 1, 1) := dk_27 (dk_at dksX5_withdraw_0 17 rfl rfl)
theorem dX5_withdraw_18 : decode cX5_withdraw 18 = .ok (.iaload, 1) := dk_46 (dk_at dksX5_withdraw_0 18 rfl rfl)
theorem dX5_withdraw_19 : decode cX5_withdraw 19 = .ok (.ifCond .ne 9, 3) := dk_154 0 9 (dk_at dksX5_withdraw_0 19 rfl rfl)
theorem dX5_withdraw_22 : decode cX5_withdraw 22 = .ok (.aload_n 0, 1) := dk_42 (dk_at dksX5_withdraw_0 22 rfl rfl)
theorem dX5_withdraw_23 : decode cX5_withdraw 23 = .ok (.iconst 2, 1) := dk_5 (dk_at dksX5_withdraw_0 23 rfl rfl)
theorem dX5_withdraw_24 : decode cX5_withdraw 24 = .ok (.invokevirtual 268, 3) := dk_182 1 12 (dk_at dksX5_withdraw_1 0 rfl rfl)
theorem dX5_withdraw_27 : decode cX5_withdraw 27 = .ok (.ireturn, 1) := dk_172 (dk_at dksX5_withdraw_1 3 rfl rfl)
theorem dX5_withdraw_28 : decode cX5_withdraw 28 = .ok (.aload_n 0, 1) := dk_42 (dk_at dksX5_withdraw_1 4 rfl rfl)
theorem dX5_withdraw_29 : decode cX5_withdraw 29 = .ok (.iconst 0, 1) := dk_3 (dk_at dksX5_withdraw_1 5 rfl rfl)
theorem dX5_withdraw_30 : decode cX5_withdraw 30 = .ok (.putfield 139, 3) := dk_181 0 139 (dk_at dksX5_withdraw_1 6 rfl rfl)
theorem dX5_withdraw_33 : decode cX5_withdraw 33 = .ok (.aload_n 0, 1) := dk_42 (dk_at dksX5_withdraw_1 9 rfl rfl)
theorem dX5_withdraw_34 : decode cX5_withdraw 34 = .ok (.invokevirtual 258, 3) := dk_182 1 2 (dk_at dksX5_withdraw_1 10 rfl rfl)
theorem dX5_withdraw_37 : decode cX5_withdraw 37 = .ok (.aload_n 0, 1) := dk_42 (dk_at dksX5_withdraw_1 13 rfl rfl)
theorem dX5_withdraw_38 : decode cX5_withdraw 38 = .ok (.getfield 40, 3) := dk_180 0 40 (dk_at dksX5_withdraw_1 14 rfl rfl)
theorem dX5_withdraw_41 : decode cX5_withdraw 41 = .ok (.iload_n 1, 1) := dk_27 (dk_at dksX5_withdraw_1 17 rfl rfl)
theorem dX5_withdraw_42 : decode cX5_withdraw 42 = .ok (.dup2, 1) := dk_92 (dk_at dksX5_withdraw_1 18 rfl rfl)
theorem dX5_withdraw_43 : decode cX5_withdraw 43 = .ok (.iaload, 1) := dk_46 (dk_at dksX5_withdraw_1 19 rfl rfl)
theorem dX5_withdraw_44 : decode cX5_withdraw 44 = .ok (.iconst 1, 1) := dk_4 (dk_at dksX5_withdraw_1 20 rfl rfl)
theorem dX5_withdraw_45 : decode cX5_withdraw 45 = .ok (.isub, 1) := dk_100 (dk_at dksX5_withdraw_1 21 rfl rfl)
theorem dX5_withdraw_46 : decode cX5_withdraw 46 = .ok (.iastore, 1) := dk_79 (dk_at dksX5_withdraw_1 22 rfl rfl)
theorem dX5_withdraw_47 : decode cX5_withdraw 47 = .ok (.aload_n 0, 1) := dk_42 (dk_at dksX5_withdraw_1 23 rfl rfl)
theorem dX5_withdraw_48 : decode cX5_withdraw 48 = .ok (.getfield 43, 3) := dk_180 0 43 (dk_at dksX5_withdraw_2 0 rfl rfl)
theorem dX5_withdraw_51 : decode cX5_withdraw 51 = .ok (.bipush 30, 2) := dk_16 30 (dk_at dksX5_withdraw_2 3 rfl rfl)
theorem dX5_withdraw_53 : decode cX5_withdraw 53 = .ok (.iload_n 1, 1) := dk_27 (dk_at dksX5_withdraw_2 5 rfl rfl)
theorem dX5_withdraw_54 : decode cX5_withdraw 54 = .ok (.imul, 1) := dk_104 (dk_at dksX5_withdraw_2 6 rfl rfl)
theorem dX5_withdraw_55 : decode cX5_withdraw 55 = .ok (.aload_n 0, 1) := dk_42 (dk_at dksX5_withdraw_2 7 rfl rfl)
theorem dX5_withdraw_56 : decode cX5_withdraw 56 = .ok (.getfield 40, 3) := dk_180 0 40 (dk_at dksX5_withdraw_2 8 rfl rfl)
theorem dX5_withdraw_59 : decode cX5_withdraw 59 = .ok (.iload_n 1, 1) := dk_27 (dk_at dksX5_withdraw_2 11 rfl rfl)
theorem dX5_withdraw_60 : decode cX5_withdraw 60 = .ok (.iaload, 1) := dk_46 (dk_at dksX5_withdraw_2 12 rfl rfl)
theorem dX5_withdraw_61 : decode cX5_withdraw 61 = .ok (.iadd, 1) := dk_96 (dk_at dksX5_withdraw_2 13 rfl rfl)
theorem dX5_withdraw_62 : decode cX5_withdraw 62 = .ok (.iaload, 1) := dk_46 (dk_at dksX5_withdraw_2 14 rfl rfl)
theorem dX5_withdraw_63 : decode cX5_withdraw 63 = .ok (.istore_n 2, 1) := dk_61 (dk_at dksX5_withdraw_2 15 rfl rfl)
theorem dX5_withdraw_64 : decode cX5_withdraw 64 = .ok (.aload_n 0, 1) := dk_42 (dk_at dksX5_withdraw_2 16 rfl rfl)
theorem dX5_withdraw_65 : decode cX5_withdraw 65 = .ok (.getfield 94, 3) := dk_180 0 94 (dk_at dksX5_withdraw_2 17 rfl rfl)
theorem dX5_withdraw_68 : decode cX5_withdraw 68 = .ok (.iload_n 2, 1) := dk_28 (dk_at dksX5_withdraw_2 20 rfl rfl)
theorem dX5_withdraw_69 : decode cX5_withdraw 69 = .ok (.iconst 3, 1) := dk_6 (dk_at dksX5_withdraw_2 21 rfl rfl)
theorem dX5_withdraw_70 : decode cX5_withdraw 70 = .ok (.iastore, 1) := dk_79 (dk_at dksX5_withdraw_2 22 rfl rfl)
theorem dX5_withdraw_71 : decode cX5_withdraw 71 = .ok (.aload_n 0, 1) := dk_42 (dk_at dksX5_withdraw_2 23 rfl rfl)
theorem dX5_withdraw_72 : decode cX5_withdraw 72 = .ok (.dup, 1) := dk_89 (dk_at dksX5_withdraw_3 0 rfl rfl)
theorem dX5_withdraw_73 : decode cX5_withdraw 73 = .ok (.getfield 291, 3) := dk_180 1 35 (dk_at dksX5_withdraw_3 1 rfl rfl)
theorem dX5_withdraw_76 : decode cX5_withdraw 76 = .ok (.iconst 1, 1) := dk_4 (dk_at dksX5_withdraw_3 4 rfl rfl)
theorem dX5_withdraw_77 : decode cX5_withdraw 77 = .ok (.iadd, 1) := dk_96 (dk_at dksX5_withdraw_3 5 rfl rfl)
theorem dX5_withdraw_78 : decode cX5_withdraw 78 = .ok (.putfield 291, 3) := dk_181 1 35 (dk_at dksX5_withdraw_3 6 rfl rfl)
theorem dX5_withdraw_81 : decode cX5_withdraw 81 = .ok (.iload_n 2, 1) := dk_28 (dk_at dksX5_withdraw_3 9 rfl rfl)
theorem dX5_withdraw_82 : decode cX5_withdraw 82 = .ok (.ireturn, 1) := dk_172 (dk_at dksX5_withdraw_3 10 rfl rfl)
abbrev cX5_job : ByteArray := prog_18_method_48_code
def yX5_job : MethodName := ⟨RX5, "job", "(II)I"⟩
def dkwX5_job_5 : List UInt8 := [27, 46, 172, 42, 180, 0, 97, 27, 46, 172, 42, 180, 0, 100, 27, 46, 172]
abbrev dktX5_job_5 : List UInt8 := dkwX5_job_5 ++ []
def dkwX5_job_4 : List UInt8 := [180, 0, 85, 27, 46, 172, 42, 180, 0, 88, 27, 46, 172, 42, 180, 0, 91, 27, 46, 172, 42, 180, 0, 94]
abbrev dktX5_job_4 : List UInt8 := dkwX5_job_4 ++ dktX5_job_5
def dkwX5_job_3 : List UInt8 := [42, 180, 0, 73, 27, 46, 172, 42, 180, 0, 76, 27, 46, 172, 42, 180, 0, 82, 27, 46, 172, 42]
abbrev dktX5_job_3 : List UInt8 := dkwX5_job_3 ++ dktX5_job_4
def dkwX5_job_2 : List UInt8 := [170, 0, 0, 0, 0, 0, 0, 104, 0, 0, 0, 0, 0, 0, 0, 7, 0, 0, 0, 48, 0, 0, 0, 55, 0, 0, 0, 62, 0, 0, 0, 69, 0, 0, 0, 76, 0, 0, 0, 83, 0, 0, 0, 90, 0, 0, 0, 97]
abbrev dktX5_job_2 : List UInt8 := dkwX5_job_2 ++ dktX5_job_3
def dkwX5_job_1 : List UInt8 := [42, 5, 182, 1, 12, 172, 42, 3, 181, 0, 139, 28]
abbrev dktX5_job_1 : List UInt8 := dkwX5_job_1 ++ dktX5_job_2
def dkwX5_job_0 : List UInt8 := [42, 27, 182, 1, 38, 154, 0, 9, 42, 4, 182, 1, 12, 172, 28, 3, 16, 8, 184, 0, 143, 154, 0, 9]
abbrev dktX5_job_0 : List UInt8 := dkwX5_job_0 ++ dktX5_job_1
theorem dksX5_job_0 : cX5_job.data.toList.drop 0 = dktX5_job_0 := by decide +kernel
theorem dksX5_job_1 : cX5_job.data.toList.drop 24 = dktX5_job_1 := dk_seg dksX5_job_0 24 rfl rfl
theorem dksX5_job_2 : cX5_job.data.toList.drop 36 = dktX5_job_2 := dk_seg dksX5_job_1 12 rfl rfl
theorem dksX5_job_3 : cX5_job.data.toList.drop 84 = dktX5_job_3 := dk_seg dksX5_job_2 48 rfl rfl
theorem dksX5_job_4 : cX5_job.data.toList.drop 106 = dktX5_job_4 := dk_seg dksX5_job_3 22 rfl rfl
theorem dksX5_job_5 : cX5_job.data.toList.drop 130 = dktX5_job_5 := dk_seg dksX5_job_4 24 rfl rfl
theorem dX5_job_0 : decode cX5_job 0 = .ok (.aload_n 0, 1) := dk_42 (dk_at dksX5_job_0 0 rfl rfl)
theorem dX5_job_1 : decode cX5_job 1 = .ok (.iload_n 1, 1) := dk_27 (dk_at dksX5_job_0 1 rfl rfl)
theorem dX5_job_2 : decode cX5_job 2 = .ok (.invokevirtual 294, 3) := dk_182 1 38 (dk_at dksX5_job_0 2 rfl rfl)
theorem dX5_job_5 : decode cX5_job 5 = .ok (.ifCond .ne 9, 3) := dk_154 0 9 (dk_at dksX5_job_0 5 rfl rfl)
theorem dX5_job_8 : decode cX5_job 8 = .ok (.aload_n 0, 1) := dk_42 (dk_at dksX5_job_0 8 rfl rfl)
theorem dX5_job_9 : decode cX5_job 9 = .ok (.iconst 1, 1) := dk_4 (dk_at dksX5_job_0 9 rfl rfl)
theorem dX5_job_10 : decode cX5_job 10 = .ok (.invokevirtual 268, 3) := dk_182 1 12 (dk_at dksX5_job_0 10 rfl rfl)
theorem dX5_job_13 : decode cX5_job 13 = .ok (.ireturn, 1) := dk_172 (dk_at dksX5_job_0 13 rfl rfl)
theorem dX5_job_14 : decode cX5_job 14 = .ok (.iload_n 2, 1) := dk_28 (dk_at dksX5_job_0 14 rfl rfl)
theorem dX5_job_15 : decode cX5_job 15 = .ok (.iconst 0, 1) := dk_3 (dk_at dksX5_job_0 15 rfl rfl)
theorem dX5_job_16 : decode cX5_job 16 = .ok (.bipush 8, 2) := dk_16 8 (dk_at dksX5_job_0 16 rfl rfl)
theorem dX5_job_18 : decode cX5_job 18 = .ok (.invokestatic 143, 3) := dk_184 0 143 (dk_at dksX5_job_0 18 rfl rfl)
theorem dX5_job_21 : decode cX5_job 21 = .ok (.ifCond .ne 9, 3) := dk_154 0 9 (dk_at dksX5_job_0 21 rfl rfl)
theorem dX5_job_24 : decode cX5_job 24 = .ok (.aload_n 0, 1) := dk_42 (dk_at dksX5_job_1 0 rfl rfl)
theorem dX5_job_25 : decode cX5_job 25 = .ok (.iconst 2, 1) := dk_5 (dk_at dksX5_job_1 1 rfl rfl)
theorem dX5_job_26 : decode cX5_job 26 = .ok (.invokevirtual 268, 3) := dk_182 1 12 (dk_at dksX5_job_1 2 rfl rfl)
theorem dX5_job_29 : decode cX5_job 29 = .ok (.ireturn, 1) := dk_172 (dk_at dksX5_job_1 5 rfl rfl)
theorem dX5_job_30 : decode cX5_job 30 = .ok (.aload_n 0, 1) := dk_42 (dk_at dksX5_job_1 6 rfl rfl)
theorem dX5_job_31 : decode cX5_job 31 = .ok (.iconst 0, 1) := dk_3 (dk_at dksX5_job_1 7 rfl rfl)
theorem dX5_job_32 : decode cX5_job 32 = .ok (.putfield 139, 3) := dk_181 0 139 (dk_at dksX5_job_1 8 rfl rfl)
theorem dX5_job_35 : decode cX5_job 35 = .ok (.iload_n 2, 1) := dk_28 (dk_at dksX5_job_1 11 rfl rfl)
theorem dX5_job_36 : decode cX5_job 36 = .ok (.tableswitch 104 0 7 #[48, 55, 62, 69, 76, 83, 90, 97], 48) := by decide +kernel
theorem dX5_job_84 : decode cX5_job 84 = .ok (.aload_n 0, 1) := dk_42 (dk_at dksX5_job_3 0 rfl rfl)
theorem dX5_job_85 : decode cX5_job 85 = .ok (.getfield 73, 3) := dk_180 0 73 (dk_at dksX5_job_3 1 rfl rfl)
theorem dX5_job_88 : decode cX5_job 88 = .ok (.iload_n 1, 1) := dk_27 (dk_at dksX5_job_3 4 rfl rfl)
theorem dX5_job_89 : decode cX5_job 89 = .ok (.iaload, 1) := dk_46 (dk_at dksX5_job_3 5 rfl rfl)
theorem dX5_job_90 : decode cX5_job 90 = .ok (.ireturn, 1) := dk_172 (dk_at dksX5_job_3 6 rfl rfl)
theorem dX5_job_91 : decode cX5_job 91 = .ok (.aload_n 0, 1) := dk_42 (dk_at dksX5_job_3 7 rfl rfl)
theorem dX5_job_92 : decode cX5_job 92 = .ok (.getfield 76, 3) := dk_180 0 76 (dk_at dksX5_job_3 8 rfl rfl)
theorem dX5_job_95 : decode cX5_job 95 = .ok (.iload_n 1, 1) := dk_27 (dk_at dksX5_job_3 11 rfl rfl)
theorem dX5_job_96 : decode cX5_job 96 = .ok (.iaload, 1) := dk_46 (dk_at dksX5_job_3 12 rfl rfl)
theorem dX5_job_97 : decode cX5_job 97 = .ok (.ireturn, 1) := dk_172 (dk_at dksX5_job_3 13 rfl rfl)
theorem dX5_job_98 : decode cX5_job 98 = .ok (.aload_n 0, 1) := dk_42 (dk_at dksX5_job_3 14 rfl rfl)
theorem dX5_job_99 : decode cX5_job 99 = .ok (.getfield 82, 3) := dk_180 0 82 (dk_at dksX5_job_3 15 rfl rfl)
theorem dX5_job_102 : decode cX5_job 102 = .ok (.iload_n 1, 1) := dk_27 (dk_at dksX5_job_3 18 rfl rfl)
theorem dX5_job_103 : decode cX5_job 103 = .ok (.iaload, 1) := dk_46 (dk_at dksX5_job_3 19 rfl rfl)
theorem dX5_job_104 : decode cX5_job 104 = .ok (.ireturn, 1) := dk_172 (dk_at dksX5_job_3 20 rfl rfl)
theorem dX5_job_105 : decode cX5_job 105 = .ok (.aload_n 0, 1) := dk_42 (dk_at dksX5_job_3 21 rfl rfl)
theorem dX5_job_106 : decode cX5_job 106 = .ok (.getfield 85, 3) := dk_180 0 85 (dk_at dksX5_job_4 0 rfl rfl)
theorem dX5_job_109 : decode cX5_job 109 = .ok (.iload_n 1, 1) := dk_27 (dk_at dksX5_job_4 3 rfl rfl)
theorem dX5_job_110 : decode cX5_job 110 = .ok (.iaload, 1) := dk_46 (dk_at dksX5_job_4 4 rfl rfl)
theorem dX5_job_111 : decode cX5_job 111 = .ok (.ireturn, 1) := dk_172 (dk_at dksX5_job_4 5 rfl rfl)
theorem dX5_job_112 : decode cX5_job 112 = .ok (.aload_n 0, 1) := dk_42 (dk_at dksX5_job_4 6 rfl rfl)
theorem dX5_job_113 : decode cX5_job 113 = .ok (.getfield 88, 3) := dk_180 0 88 (dk_at dksX5_job_4 7 rfl rfl)
theorem dX5_job_116 : decode cX5_job 116 = .ok (.iload_n 1, 1) := dk_27 (dk_at dksX5_job_4 10 rfl rfl)
theorem dX5_job_117 : decode cX5_job 117 = .ok (.iaload, 1) := dk_46 (dk_at dksX5_job_4 11 rfl rfl)
theorem dX5_job_118 : decode cX5_job 118 = .ok (.ireturn, 1) := dk_172 (dk_at dksX5_job_4 12 rfl rfl)
theorem dX5_job_119 : decode cX5_job 119 = .ok (.aload_n 0, 1) := dk_42 (dk_at dksX5_job_4 13 rfl rfl)
theorem dX5_job_120 : decode cX5_job 120 = .ok (.getfield 91, 3) := dk_180 0 91 (dk_at dksX5_job_4 14 rfl rfl)
theorem dX5_job_123 : decode cX5_job 123 = .ok (.iload_n 1, 1) := dk_27 (dk_at dksX5_job_4 17 rfl rfl)
theorem dX5_job_124 : decode cX5_job 124 = .ok (.iaload, 1) := dk_46 (dk_at dksX5_job_4 18 rfl rfl)
theorem dX5_job_125 : decode cX5_job 125 = .ok (.ireturn, 1) := dk_172 (dk_at dksX5_job_4 19 rfl rfl)
theorem dX5_job_126 : decode cX5_job 126 = .ok (.aload_n 0, 1) := dk_42 (dk_at dksX5_job_4 20 rfl rfl)
theorem dX5_job_127 : decode cX5_job 127 = .ok (.getfield 94, 3) := dk_180 0 94 (dk_at dksX5_job_4 21 rfl rfl)
theorem dX5_job_130 : decode cX5_job 130 = .ok (.iload_n 1, 1) := dk_27 (dk_at dksX5_job_5 0 rfl rfl)
theorem dX5_job_131 : decode cX5_job 131 = .ok (.iaload, 1) := dk_46 (dk_at dksX5_job_5 1 rfl rfl)
theorem dX5_job_132 : decode cX5_job 132 = .ok (.ireturn, 1) := dk_172 (dk_at dksX5_job_5 2 rfl rfl)
theorem dX5_job_133 : decode cX5_job 133 = .ok (.aload_n 0, 1) := dk_42 (dk_at dksX5_job_5 3 rfl rfl)
theorem dX5_job_134 : decode cX5_job 134 = .ok (.getfield 97, 3) := dk_180 0 97 (dk_at dksX5_job_5 4 rfl rfl)
theorem dX5_job_137 : decode cX5_job 137 = .ok (.iload_n 1, 1) := dk_27 (dk_at dksX5_job_5 7 rfl rfl)
theorem dX5_job_138 : decode cX5_job 138 = .ok (.iaload, 1) := dk_46 (dk_at dksX5_job_5 8 rfl rfl)
theorem dX5_job_139 : decode cX5_job 139 = .ok (.ireturn, 1) := dk_172 (dk_at dksX5_job_5 9 rfl rfl)
theorem dX5_job_140 : decode cX5_job 140 = .ok (.aload_n 0, 1) := dk_42 (dk_at dksX5_job_5 10 rfl rfl)
theorem dX5_job_141 : decode cX5_job 141 = .ok (.getfield 100, 3) := dk_180 0 100 (dk_at dksX5_job_5 11 rfl rfl)
theorem dX5_job_144 : decode cX5_job 144 = .ok (.iload_n 1, 1) := dk_27 (dk_at dksX5_job_5 14 rfl rfl)
theorem dX5_job_145 : decode cX5_job 145 = .ok (.iaload, 1) := dk_46 (dk_at dksX5_job_5 15 rfl rfl)
theorem dX5_job_146 : decode cX5_job 146 = .ok (.ireturn, 1) := dk_172 (dk_at dksX5_job_5 16 rfl rfl)
abbrev cX5_isJob : ByteArray := prog_18_method_47_code
def yX5_isJob : MethodName := ⟨RX5, "isJob", "(I)Z"⟩
def dkwX5_isJob_0 : List UInt8 := [27, 155, 0, 15, 27, 42, 180, 1, 24, 162, 0, 7, 4, 167, 0, 4, 3, 172]
abbrev dktX5_isJob_0 : List UInt8 := dkwX5_isJob_0 ++ []
theorem dksX5_isJob_0 : cX5_isJob.data.toList.drop 0 = dktX5_isJob_0 := by decide +kernel
theorem dX5_isJob_0 : decode cX5_isJob 0 = .ok (.iload_n 1, 1) := dk_27 (dk_at dksX5_isJob_0 0 rfl rfl)
theorem dX5_isJob_1 : decode cX5_isJob 1 = .ok (.ifCond .lt 15, 3) := dk_155 0 15 (dk_at dksX5_isJob_0 1 rfl rfl)
theorem dX5_isJob_4 : decode cX5_isJob 4 = .ok (.iload_n 1, 1) := dk_27 (dk_at dksX5_isJob_0 4 rfl rfl)
theorem dX5_isJob_5 : decode cX5_isJob 5 = .ok (.aload_n 0, 1) := dk_42 (dk_at dksX5_isJob_0 5 rfl rfl)
theorem dX5_isJob_6 : decode cX5_isJob 6 = .ok (.getfield 280, 3) := dk_180 1 24 (dk_at dksX5_isJob_0 6 rfl rfl)
theorem dX5_isJob_9 : decode cX5_isJob 9 = .ok (.if_icmp .ge 7, 3) := dk_162 0 7 (dk_at dksX5_isJob_0 9 rfl rfl)
theorem dX5_isJob_12 : decode cX5_isJob 12 = .ok (.iconst 1, 1) := dk_4 (dk_at dksX5_isJob_0 12 rfl rfl)
theorem dX5_isJob_13 : decode cX5_isJob 13 = .ok (.goto 4, 3) := dk_167 0 4 (dk_at dksX5_isJob_0 13 rfl rfl)
theorem dX5_isJob_16 : decode cX5_isJob 16 = .ok (.iconst 0, 1) := dk_3 (dk_at dksX5_isJob_0 16 rfl rfl)
theorem dX5_isJob_17 : decode cX5_isJob 17 = .ok (.ireturn, 1) := dk_172 (dk_at dksX5_isJob_0 17 rfl rfl)
abbrev cX5_arm : ByteArray := prog_18_method_49_code
def yX5_arm : MethodName := ⟨RX5, "arm", "(II)I"⟩
def dkwX5_arm_6 : List UInt8 := [180, 0, 67, 27, 46, 172, 42, 180, 0, 70, 27, 46, 172]
abbrev dktX5_arm_6 : List UInt8 := dkwX5_arm_6 ++ []
def dkwX5_arm_5 : List UInt8 := [172, 42, 180, 0, 55, 27, 46, 172, 42, 180, 0, 58, 27, 46, 172, 42, 27, 182, 0, 161, 172, 42]
abbrev dktX5_arm_5 : List UInt8 := dkwX5_arm_5 ++ dktX5_arm_6
def dkwX5_arm_4 : List UInt8 := [180, 0, 40, 27, 46, 172, 42, 180, 0, 49, 27, 46, 154, 0, 7, 2, 167, 0, 8, 42, 27, 182, 0, 151]
abbrev dktX5_arm_4 : List UInt8 := dkwX5_arm_4 ++ dktX5_arm_5
def dkwX5_arm_3 : List UInt8 := [42, 180, 0, 37, 27, 46, 172, 42, 180, 0, 49, 27, 46, 172, 42, 180, 0, 46, 27, 46, 172, 42]
abbrev dktX5_arm_3 : List UInt8 := dkwX5_arm_3 ++ dktX5_arm_4
def dkwX5_arm_2 : List UInt8 := [170, 0, 0, 0, 123, 0, 0, 0, 0, 0, 0, 0, 8, 0, 0, 0, 49, 0, 0, 0, 56, 0, 0, 0, 63, 0, 0, 0, 70, 0, 0, 0, 77, 0, 0, 0, 96, 0, 0, 0, 103, 0, 0, 0, 110, 0, 0, 0, 116]
abbrev dktX5_arm_2 : List UInt8 := dkwX5_arm_2 ++ dktX5_arm_3
def dkwX5_arm_1 : List UInt8 := [5, 182, 1, 12, 172, 42, 3, 181, 0, 139, 28]
abbrev dktX5_arm_1 : List UInt8 := dkwX5_arm_1 ++ dktX5_arm_2
def dkwX5_arm_0 : List UInt8 := [27, 184, 1, 9, 154, 0, 9, 42, 4, 182, 1, 12, 172, 28, 3, 16, 9, 184, 0, 143, 154, 0, 9, 42]
abbrev dktX5_arm_0 : List UInt8 := dkwX5_arm_0 ++ dktX5_arm_1
theorem dksX5_arm_0 : cX5_arm.data.toList.drop 0 = dktX5_arm_0 := by decide +kernel
theorem dksX5_arm_1 : cX5_arm.data.toList.drop 24 = dktX5_arm_1 := dk_seg dksX5_arm_0 24 rfl rfl
theorem dksX5_arm_2 : cX5_arm.data.toList.drop 35 = dktX5_arm_2 := dk_seg dksX5_arm_1 11 rfl rfl
theorem dksX5_arm_3 : cX5_arm.data.toList.drop 84 = dktX5_arm_3 := dk_seg dksX5_arm_2 49 rfl rfl
theorem dksX5_arm_4 : cX5_arm.data.toList.drop 106 = dktX5_arm_4 := dk_seg dksX5_arm_3 22 rfl rfl
theorem dksX5_arm_5 : cX5_arm.data.toList.drop 130 = dktX5_arm_5 := dk_seg dksX5_arm_4 24 rfl rfl
theorem dksX5_arm_6 : cX5_arm.data.toList.drop 152 = dktX5_arm_6 := dk_seg dksX5_arm_5 22 rfl rfl
theorem dX5_arm_0 : decode cX5_arm 0 = .ok (.iload_n 1, 1) := dk_27 (dk_at dksX5_arm_0 0 rfl rfl)
theorem dX5_arm_1 : decode cX5_arm 1 = .ok (.invokestatic 265, 3) := dk_184 1 9 (dk_at dksX5_arm_0 1 rfl rfl)
theorem dX5_arm_4 : decode cX5_arm 4 = .ok (.ifCond .ne 9, 3) := dk_154 0 9 (dk_at dksX5_arm_0 4 rfl rfl)
theorem dX5_arm_7 : decode cX5_arm 7 = .ok (.aload_n 0, 1) := dk_42 (dk_at dksX5_arm_0 7 rfl rfl)
theorem dX5_arm_8 : decode cX5_arm 8 = .ok (.iconst 1, 1) := dk_4 (dk_at dksX5_arm_0 8 rfl rfl)
theorem dX5_arm_9 : decode cX5_arm 9 = .ok (.invokevirtual 268, 3) := dk_182 1 12 (dk_at dksX5_arm_0 9 rfl rfl)
theorem dX5_arm_12 : decode cX5_arm 12 = .ok (.ireturn, 1) := dk_172 (dk_at dksX5_arm_0 12 rfl rfl)
theorem dX5_arm_13 : decode cX5_arm 13 = .ok (.iload_n 2, 1) := dk_28 (dk_at dksX5_arm_0 13 rfl rfl)
theorem dX5_arm_14 : decode cX5_arm 14 = .ok (.iconst 0, 1) := dk_3 (dk_at dksX5_arm_0 14 rfl rfl)
theorem dX5_arm_15 : decode cX5_arm 15 = .ok (.bipush 9, 2) := dk_16 9 (dk_at dksX5_arm_0 15 rfl rfl)
theorem dX5_arm_17 : decode cX5_arm 17 = .ok (.invokestatic 143, 3) := dk_184 0 143 (dk_at dksX5_arm_0 17 rfl rfl)
theorem dX5_arm_20 : decode cX5_arm 20 = .ok (.ifCond .ne 9, 3) := dk_154 0 9 (dk_at dksX5_arm_0 20 rfl rfl)
theorem dX5_arm_23 : decode cX5_arm 23 = .ok (.aload_n 0, 1) := dk_42 (dk_at dksX5_arm_0 23 rfl rfl)
theorem dX5_arm_24 : decode cX5_arm 24 = .ok (.iconst 2, 1) := dk_5 (dk_at dksX5_arm_1 0 rfl rfl)
theorem dX5_arm_25 : decode cX5_arm 25 = .ok (.invokevirtual 268, 3) := dk_182 1 12 (dk_at dksX5_arm_1 1 rfl rfl)
theorem dX5_arm_28 : decode cX5_arm 28 = .ok (.ireturn, 1) := dk_172 (dk_at dksX5_arm_1 4 rfl rfl)
theorem dX5_arm_29 : decode cX5_arm 29 = .ok (.aload_n 0, 1) := dk_42 (dk_at dksX5_arm_1 5 rfl rfl)
theorem dX5_arm_30 : decode cX5_arm 30 = .ok (.iconst 0, 1) := dk_3 (dk_at dksX5_arm_1 6 rfl rfl)
theorem dX5_arm_31 : decode cX5_arm 31 = .ok (.putfield 139, 3) := dk_181 0 139 (dk_at dksX5_arm_1 7 rfl rfl)
theorem dX5_arm_34 : decode cX5_arm 34 = .ok (.iload_n 2, 1) := dk_28 (dk_at dksX5_arm_1 10 rfl rfl)
theorem dX5_arm_35 : decode cX5_arm 35 = .ok (.tableswitch 123 0 8 #[49, 56, 63, 70, 77, 96, 103, 110, 116], 49) := by decide +kernel
theorem dX5_arm_84 : decode cX5_arm 84 = .ok (.aload_n 0, 1) := dk_42 (dk_at dksX5_arm_3 0 rfl rfl)
theorem dX5_arm_85 : decode cX5_arm 85 = .ok (.getfield 37, 3) := dk_180 0 37 (dk_at dksX5_arm_3 1 rfl rfl)
theorem dX5_arm_88 : decode cX5_arm 88 = .ok (.iload_n 1, 1) := dk_27 (dk_at dksX5_arm_3 4 rfl rfl)
theorem dX5_arm_89 : decode cX5_arm 89 = .ok (.iaload, 1) := dk_46 (dk_at dksX5_arm_3 5 rfl rfl)
theorem dX5_arm_90 : decode cX5_arm 90 = .ok (.ireturn, 1) := dk_172 (dk_at dksX5_arm_3 6 rfl rfl)
theorem dX5_arm_91 : decode cX5_arm 91 = .ok (.aload_n 0, 1) := dk_42 (dk_at dksX5_arm_3 7 rfl rfl)
theorem dX5_arm_92 : decode cX5_arm 92 = .ok (.getfield 49, 3) := dk_180 0 49 (dk_at dksX5_arm_3 8 rfl rfl)
theorem dX5_arm_95 : decode cX5_arm 95 = .ok (.iload_n 1, 1) := dk_27 (dk_at dksX5_arm_3 11 rfl rfl)
theorem dX5_arm_96 : decode cX5_arm 96 = .ok (.iaload, 1) := dk_46 (dk_at dksX5_arm_3 12 rfl rfl)
theorem dX5_arm_97 : decode cX5_arm 97 = .ok (.ireturn, 1) := dk_172 (dk_at dksX5_arm_3 13 rfl rfl)
theorem dX5_arm_98 : decode cX5_arm 98 = .ok (.aload_n 0, 1) := dk_42 (dk_at dksX5_arm_3 14 rfl rfl)
theorem dX5_arm_99 : decode cX5_arm 99 = .ok (.getfield 46, 3) := dk_180 0 46 (dk_at dksX5_arm_3 15 rfl rfl)
theorem dX5_arm_102 : decode cX5_arm 102 = .ok (.iload_n 1, 1) := dk_27 (dk_at dksX5_arm_3 18 rfl rfl)
theorem dX5_arm_103 : decode cX5_arm 103 = .ok (.iaload, 1) := dk_46 (dk_at dksX5_arm_3 19 rfl rfl)
theorem dX5_arm_104 : decode cX5_arm 104 = .ok (.ireturn, 1) := dk_172 (dk_at dksX5_arm_3 20 rfl rfl)
theorem dX5_arm_105 : decode cX5_arm 105 = .ok (.aload_n 0, 1) := dk_42 (dk_at dksX5_arm_3 21 rfl rfl)
theorem dX5_arm_106 : decode cX5_arm 106 = .ok (.getfield 40, 3) := dk_180 0 40 (dk_at dksX5_arm_4 0 rfl rfl)
theorem dX5_arm_109 : decode cX5_arm 109 = .ok (.iload_n 1, 1) := dk_27 (dk_at dksX5_arm_4 3 rfl rfl)
theorem dX5_arm_110 : decode cX5_arm 110 = .ok (.iaload, 1) := dk_46 (dk_at dksX5_arm_4 4 rfl rfl)
theorem dX5_arm_111 : decode cX5_arm 111 = .ok (.ireturn, 1) := dk_172 (dk_at dksX5_arm_4 5 rfl rfl)
theorem dX5_arm_112 : decode cX5_arm 112 = .ok (.aload_n 0, 1) := dk_42 (dk_at dksX5_arm_4 6 rfl rfl)
theorem dX5_arm_113 : decode cX5_arm 113 = .ok (.getfield 49, 3) := dk_180 0 49 (dk_at dksX5_arm_4 7 rfl rfl)
theorem dX5_arm_116 : decode cX5_arm 116 = .ok (.iload_n 1, 1) := dk_27 (dk_at dksX5_arm_4 10 rfl rfl)
theorem dX5_arm_117 : decode cX5_arm 117 = .ok (.iaload, 1) := dk_46 (dk_at dksX5_arm_4 11 rfl rfl)
theorem dX5_arm_118 : decode cX5_arm 118 = .ok (.ifCond .ne 7, 3) := dk_154 0 7 (dk_at dksX5_arm_4 12 rfl rfl)
theorem dX5_arm_121 : decode cX5_arm 121 = .ok (.iconst (-1), 1) := dk_2 (dk_at dksX5_arm_4 15 rfl rfl)
theorem dX5_arm_122 : decode cX5_arm 122 = .ok (.goto 8, 3) := dk_167 0 8 (dk_at dksX5_arm_4 16 rfl rfl)
theorem dX5_arm_125 : decode cX5_arm 125 = .ok (.aload_n 0, 1) := dk_42 (dk_at dksX5_arm_4 19 rfl rfl)
theorem dX5_arm_126 : decode cX5_arm 126 = .ok (.iload_n 1, 1) := dk_27 (dk_at dksX5_arm_4 20 rfl rfl)
theorem dX5_arm_127 : decode cX5_arm 127 = .ok (.invokevirtual 151, 3) := dk_182 0 151 (dk_at dksX5_arm_4 21 rfl rfl)
theorem dX5_arm_130 : decode cX5_arm 130 = .ok (.ireturn, 1) := dk_172 (dk_at dksX5_arm_5 0 rfl rfl)
theorem dX5_arm_131 : decode cX5_arm 131 = .ok (.aload_n 0, 1) := dk_42 (dk_at dksX5_arm_5 1 rfl rfl)
theorem dX5_arm_132 : decode cX5_arm 132 = .ok (.getfield 55, 3) := dk_180 0 55 (dk_at dksX5_arm_5 2 rfl rfl)
theorem dX5_arm_135 : decode cX5_arm 135 = .ok (.iload_n 1, 1) := dk_27 (dk_at dksX5_arm_5 5 rfl rfl)
theorem dX5_arm_136 : decode cX5_arm 136 = .ok (.iaload, 1) := dk_46 (dk_at dksX5_arm_5 6 rfl rfl)
theorem dX5_arm_137 : decode cX5_arm 137 = .ok (.ireturn, 1) := dk_172 (dk_at dksX5_arm_5 7 rfl rfl)
theorem dX5_arm_138 : decode cX5_arm 138 = .ok (.aload_n 0, 1) := dk_42 (dk_at dksX5_arm_5 8 rfl rfl)
theorem dX5_arm_139 : decode cX5_arm 139 = .ok (.getfield 58, 3) := dk_180 0 58 (dk_at dksX5_arm_5 9 rfl rfl)
theorem dX5_arm_142 : decode cX5_arm 142 = .ok (.iload_n 1, 1) := dk_27 (dk_at dksX5_arm_5 12 rfl rfl)
theorem dX5_arm_143 : decode cX5_arm 143 = .ok (.iaload, 1) := dk_46 (dk_at dksX5_arm_5 13 rfl rfl)
theorem dX5_arm_144 : decode cX5_arm 144 = .ok (.ireturn, 1) := dk_172 (dk_at dksX5_arm_5 14 rfl rfl)
theorem dX5_arm_145 : decode cX5_arm 145 = .ok (.aload_n 0, 1) := dk_42 (dk_at dksX5_arm_5 15 rfl rfl)
theorem dX5_arm_146 : decode cX5_arm 146 = .ok (.iload_n 1, 1) := dk_27 (dk_at dksX5_arm_5 16 rfl rfl)
theorem dX5_arm_147 : decode cX5_arm 147 = .ok (.invokevirtual 161, 3) := dk_182 0 161 (dk_at dksX5_arm_5 17 rfl rfl)
theorem dX5_arm_150 : decode cX5_arm 150 = .ok (.ireturn, 1) := dk_172 (dk_at dksX5_arm_5 20 rfl rfl)
theorem dX5_arm_151 : decode cX5_arm 151 = .ok (.aload_n 0, 1) := dk_42 (dk_at dksX5_arm_5 21 rfl rfl)
theorem dX5_arm_152 : decode cX5_arm 152 = .ok (.getfield 67, 3) := dk_180 0 67 (dk_at dksX5_arm_6 0 rfl rfl)
theorem dX5_arm_155 : decode cX5_arm 155 = .ok (.iload_n 1, 1) := dk_27 (dk_at dksX5_arm_6 3 rfl rfl)
theorem dX5_arm_156 : decode cX5_arm 156 = .ok (.iaload, 1) := dk_46 (dk_at dksX5_arm_6 4 rfl rfl)
theorem dX5_arm_157 : decode cX5_arm 157 = .ok (.ireturn, 1) := dk_172 (dk_at dksX5_arm_6 5 rfl rfl)
theorem dX5_arm_158 : decode cX5_arm 158 = .ok (.aload_n 0, 1) := dk_42 (dk_at dksX5_arm_6 6 rfl rfl)
theorem dX5_arm_159 : decode cX5_arm 159 = .ok (.getfield 70, 3) := dk_180 0 70 (dk_at dksX5_arm_6 7 rfl rfl)
theorem dX5_arm_162 : decode cX5_arm 162 = .ok (.iload_n 1, 1) := dk_27 (dk_at dksX5_arm_6 10 rfl rfl)
theorem dX5_arm_163 : decode cX5_arm 163 = .ok (.iaload, 1) := dk_46 (dk_at dksX5_arm_6 11 rfl rfl)
theorem dX5_arm_164 : decode cX5_arm 164 = .ok (.ireturn, 1) := dk_172 (dk_at dksX5_arm_6 12 rfl rfl)
abbrev cX5_waiting : ByteArray := prog_18_method_50_code
def yX5_waiting : MethodName := ⟨RX5, "waiting", "(II)I"⟩
def dkwX5_waiting_1 : List UInt8 := [4, 182, 1, 12, 172, 42, 3, 181, 0, 139, 42, 180, 0, 43, 16, 30, 27, 104, 28, 96, 46, 172]
abbrev dktX5_waiting_1 : List UInt8 := dkwX5_waiting_1 ++ []
def dkwX5_waiting_0 : List UInt8 := [27, 184, 1, 9, 153, 0, 19, 28, 3, 42, 180, 0, 40, 27, 46, 4, 100, 184, 0, 143, 154, 0, 9, 42]
abbrev dktX5_waiting_0 : List UInt8 := dkwX5_waiting_0 ++ dktX5_waiting_1
theorem dksX5_waiting_0 : cX5_waiting.data.toList.drop 0 = dktX5_waiting_0 := by decide +kernel
theorem dksX5_waiting_1 : cX5_waiting.data.toList.drop 24 = dktX5_waiting_1 := dk_seg dksX5_waiting_0 24 rfl rfl
theorem dX5_waiting_0 : decode cX5_waiting 0 = .ok (.iload_n 1, 1) := dk_27 (dk_at dksX5_waiting_0 0 rfl rfl)
theorem dX5_waiting_1 : decode cX5_waiting 1 = .ok (.invokestatic 265, 3) := dk_184 1 9 (dk_at dksX5_waiting_0 1 rfl rfl)
theorem dX5_waiting_4 : decode cX5_waiting 4 = .ok (.ifCond .eq 19, 3) := dk_153 0 19 (dk_at dksX5_waiting_0 4 rfl rfl)
theorem dX5_waiting_7 : decode cX5_waiting 7 = .ok (.iload_n 2, 1) := dk_28 (dk_at dksX5_waiting_0 7 rfl rfl)
theorem dX5_waiting_8 : decode cX5_waiting 8 = .ok (.iconst 0, 1) := dk_3 (dk_at dksX5_waiting_0 8 rfl rfl)
theorem dX5_waiting_9 : decode cX5_waiting 9 = .ok (.aload_n 0, 1) := dk_42 (dk_at dksX5_waiting_0 9 rfl rfl)
theorem dX5_waiting_10 : decode cX5_waiting 10 = .ok (.getfield 40, 3) := dk_180 0 40 (dk_at dksX5_waiting_0 10 rfl rfl)
theorem dX5_waiting_13 : decode cX5_waiting 13 = .ok (.iload_n 1, 1) := dk_27 (dk_at dksX5_waiting_0 13 rfl rfl)
theorem dX5_waiting_14 : decode cX5_waiting 14 = .ok (.iaload, 1) := dk_46 (dk_at dksX5_waiting_0 14 rfl rfl)
theorem dX5_waiting_15 : decode cX5_waiting 15 = .ok (.iconst 1, 1) := dk_4 (dk_at dksX5_waiting_0 15 rfl rfl)
theorem dX5_waiting_16 : decode cX5_waiting 16 = .ok (.isub, 1) := dk_100 (dk_at dksX5_waiting_0 16 rfl rfl)
theorem dX5_waiting_17 : decode cX5_waiting 17 = .ok (.invokestatic 143, 3) := dk_184 0 143 (dk_at dksX5_waiting_0 17 rfl rfl)
theorem dX5_waiting_20 : decode cX5_waiting 20 = .ok (.ifCond .ne 9, 3) := dk_154 0 9 (dk_at dksX5_waiting_0 20 rfl rfl)
theorem dX5_waiting_23 : decode cX5_waiting 23 = .ok (.aload_n 0, 1) := dk_42 (dk_at dksX5_waiting_0 23 rfl rfl)
theorem dX5_waiting_24 : decode cX5_waiting 24 = .ok (.iconst 1, 1) := dk_4 (dk_at dksX5_waiting_1 0 rfl rfl)
theorem dX5_waiting_25 : decode cX5_waiting 25 = .ok (.invokevirtual 268, 3) := dk_182 1 12 (dk_at dksX5_waiting_1 1 rfl rfl)
theorem dX5_waiting_28 : decode cX5_waiting 28 = .ok (.ireturn, 1) := dk_172 (dk_at dksX5_waiting_1 4 rfl rfl)
theorem dX5_waiting_29 : decode cX5_waiting 29 = .ok (.aload_n 0, 1) := dk_42 (dk_at dksX5_waiting_1 5 rfl rfl)
theorem dX5_waiting_30 : decode cX5_waiting 30 = .ok (.iconst 0, 1) := dk_3 (dk_at dksX5_waiting_1 6 rfl rfl)
theorem dX5_waiting_31 : decode cX5_waiting 31 = .ok (.putfield 139, 3) := dk_181 0 139 (dk_at dksX5_waiting_1 7 rfl rfl)
theorem dX5_waiting_34 : decode cX5_waiting 34 = .ok (.aload_n 0, 1) := dk_42 (dk_at dksX5_waiting_1 10 rfl rfl)
theorem dX5_waiting_35 : decode cX5_waiting 35 = .ok (.getfield 43, 3) := dk_180 0 43 (dk_at dksX5_waiting_1 11 rfl rfl)
theorem dX5_waiting_38 : decode cX5_waiting 38 = .ok (.bipush 30, 2) := dk_16 30 (dk_at dksX5_waiting_1 14 rfl rfl)
theorem dX5_waiting_40 : decode cX5_waiting 40 = .ok (.iload_n 1, 1) := dk_27 (dk_at dksX5_waiting_1 16 rfl rfl)
theorem dX5_waiting_41 : decode cX5_waiting 41 = .ok (.imul, 1) := dk_104 (dk_at dksX5_waiting_1 17 rfl rfl)
theorem dX5_waiting_42 : decode cX5_waiting 42 = .ok (.iload_n 2, 1) := dk_28 (dk_at dksX5_waiting_1 18 rfl rfl)
theorem dX5_waiting_43 : decode cX5_waiting 43 = .ok (.iadd, 1) := dk_96 (dk_at dksX5_waiting_1 19 rfl rfl)
theorem dX5_waiting_44 : decode cX5_waiting 44 = .ok (.iaload, 1) := dk_46 (dk_at dksX5_waiting_1 20 rfl rfl)
theorem dX5_waiting_45 : decode cX5_waiting 45 = .ok (.ireturn, 1) := dk_172 (dk_at dksX5_waiting_1 21 rfl rfl)
abbrev cX5_tick : ByteArray := prog_18_method_51_code
def yX5_tick : MethodName := ⟨RX5, "tick", "(I)I"⟩
def dkwX5_tick_2 : List UInt8 := [167, 255, 244, 42, 180, 0, 211, 28, 100, 172]
abbrev dktX5_tick_2 : List UInt8 := dkwX5_tick_2 ++ []
def dkwX5_tick_1 : List UInt8 := [182, 1, 2, 42, 180, 0, 211, 61, 3, 62, 29, 27, 162, 0, 13, 42, 182, 1, 41, 132, 3, 1]
abbrev dktX5_tick_1 : List UInt8 := dkwX5_tick_1 ++ dktX5_tick_2
def dkwX5_tick_0 : List UInt8 := [27, 4, 16, 50, 184, 0, 143, 154, 0, 9, 42, 4, 182, 1, 12, 172, 42, 3, 181, 0, 139, 42]
abbrev dktX5_tick_0 : List UInt8 := dkwX5_tick_0 ++ dktX5_tick_1
theorem dksX5_tick_0 : cX5_tick.data.toList.drop 0 = dktX5_tick_0 := by decide +kernel
theorem dksX5_tick_1 : cX5_tick.data.toList.drop 22 = dktX5_tick_1 := dk_seg dksX5_tick_0 22 rfl rfl
theorem dksX5_tick_2 : cX5_tick.data.toList.drop 44 = dktX5_tick_2 := dk_seg dksX5_tick_1 22 rfl rfl
theorem dX5_tick_0 : decode cX5_tick 0 = .ok (.iload_n 1, 1) := dk_27 (dk_at dksX5_tick_0 0 rfl rfl)
theorem dX5_tick_1 : decode cX5_tick 1 = .ok (.iconst 1, 1) := dk_4 (dk_at dksX5_tick_0 1 rfl rfl)
theorem dX5_tick_2 : decode cX5_tick 2 = .ok (.bipush 50, 2) := dk_16 50 (dk_at dksX5_tick_0 2 rfl rfl)
theorem dX5_tick_4 : decode cX5_tick 4 = .ok (.invokestatic 143, 3) := dk_184 0 143 (dk_at dksX5_tick_0 4 rfl rfl)
theorem dX5_tick_7 : decode cX5_tick 7 = .ok (.ifCond .ne 9, 3) := dk_154 0 9 (dk_at dksX5_tick_0 7 rfl rfl)
theorem dX5_tick_10 : decode cX5_tick 10 = .ok (.aload_n 0, 1) := dk_42 (dk_at dksX5_tick_0 10 rfl rfl)
theorem dX5_tick_11 : decode cX5_tick 11 = .ok (.iconst 1, 1) := dk_4 (dk_at dksX5_tick_0 11 rfl rfl)
theorem dX5_tick_12 : decode cX5_tick 12 = .ok (.invokevirtual 268, 3) := dk_182 1 12 (dk_at dksX5_tick_0 12 rfl rfl)
theorem dX5_tick_15 : decode cX5_tick 15 = .ok (.ireturn, 1) := dk_172 (dk_at dksX5_tick_0 15 rfl rfl)
theorem dX5_tick_16 : decode cX5_tick 16 = .ok (.aload_n 0, 1) := dk_42 (dk_at dksX5_tick_0 16 rfl rfl)
theorem dX5_tick_17 : decode cX5_tick 17 = .ok (.iconst 0, 1) := dk_3 (dk_at dksX5_tick_0 17 rfl rfl)
theorem dX5_tick_18 : decode cX5_tick 18 = .ok (.putfield 139, 3) := dk_181 0 139 (dk_at dksX5_tick_0 18 rfl rfl)
theorem dX5_tick_21 : decode cX5_tick 21 = .ok (.aload_n 0, 1) := dk_42 (dk_at dksX5_tick_0 21 rfl rfl)
theorem dX5_tick_22 : decode cX5_tick 22 = .ok (.invokevirtual 258, 3) := dk_182 1 2 (dk_at dksX5_tick_1 0 rfl rfl)
theorem dX5_tick_25 : decode cX5_tick 25 = .ok (.aload_n 0, 1) := dk_42 (dk_at dksX5_tick_1 3 rfl rfl)
theorem dX5_tick_26 : decode cX5_tick 26 = .ok (.getfield 211, 3) := dk_180 0 211 (dk_at dksX5_tick_1 4 rfl rfl)
theorem dX5_tick_29 : decode cX5_tick 29 = .ok (.istore_n 2, 1) := dk_61 (dk_at dksX5_tick_1 7 rfl rfl)
theorem dX5_tick_30 : decode cX5_tick 30 = .ok (.iconst 0, 1) := dk_3 (dk_at dksX5_tick_1 8 rfl rfl)
theorem dX5_tick_31 : decode cX5_tick 31 = .ok (.istore_n 3, 1) := dk_62 (dk_at dksX5_tick_1 9 rfl rfl)
theorem dX5_tick_32 : decode cX5_tick 32 = .ok (.iload_n 3, 1) := dk_29 (dk_at dksX5_tick_1 10 rfl rfl)
theorem dX5_tick_33 : decode cX5_tick 33 = .ok (.iload_n 1, 1) := dk_27 (dk_at dksX5_tick_1 11 rfl rfl)
theorem dX5_tick_34 : decode cX5_tick 34 = .ok (.if_icmp .ge 13, 3) := dk_162 0 13 (dk_at dksX5_tick_1 12 rfl rfl)
theorem dX5_tick_37 : decode cX5_tick 37 = .ok (.aload_n 0, 1) := dk_42 (dk_at dksX5_tick_1 15 rfl rfl)
theorem dX5_tick_38 : decode cX5_tick 38 = .ok (.invokevirtual 297, 3) := dk_182 1 41 (dk_at dksX5_tick_1 16 rfl rfl)
theorem dX5_tick_41 : decode cX5_tick 41 = .ok (.iinc 3 1, 3) := dk_132 3 1 (dk_at dksX5_tick_1 19 rfl rfl)
theorem dX5_tick_44 : decode cX5_tick 44 = .ok (.goto (-12), 3) := dk_167 255 244 (dk_at dksX5_tick_2 0 rfl rfl)
theorem dX5_tick_47 : decode cX5_tick 47 = .ok (.aload_n 0, 1) := dk_42 (dk_at dksX5_tick_2 3 rfl rfl)
theorem dX5_tick_48 : decode cX5_tick 48 = .ok (.getfield 211, 3) := dk_180 0 211 (dk_at dksX5_tick_2 4 rfl rfl)
theorem dX5_tick_51 : decode cX5_tick 51 = .ok (.iload_n 2, 1) := dk_28 (dk_at dksX5_tick_2 7 rfl rfl)
theorem dX5_tick_52 : decode cX5_tick 52 = .ok (.isub, 1) := dk_100 (dk_at dksX5_tick_2 8 rfl rfl)
theorem dX5_tick_53 : decode cX5_tick 53 = .ok (.ireturn, 1) := dk_172 (dk_at dksX5_tick_2 9 rfl rfl)
abbrev cX5_ticks : ByteArray := prog_18_method_30_code
def yX5_ticks : MethodName := ⟨RX5, "ticks", "()V"⟩
def dkwX5_ticks_6 : List UInt8 := [177]
abbrev dktX5_ticks_6 : List UInt8 := dkwX5_ticks_6 ++ []
def dkwX5_ticks_5 : List UInt8 := [46, 42, 27, 182, 0, 161, 28, 122, 4, 126, 96, 79, 132, 2, 1, 167, 255, 229, 132, 1, 1, 167, 255, 193]
abbrev dktX5_ticks_5 : List UInt8 := dkwX5_ticks_5 ++ dktX5_ticks_6
def dkwX5_ticks_4 : List UInt8 := [154, 0, 7, 3, 167, 0, 4, 4, 96, 79, 3, 61, 28, 16, 8, 162, 0, 27, 42, 180, 0, 13, 28, 92]
abbrev dktX5_ticks_4 : List UInt8 := dkwX5_ticks_4 ++ dktX5_ticks_5
def dkwX5_ticks_3 : List UInt8 := [167, 255, 206, 3, 60, 27, 6, 162, 0, 64, 42, 180, 0, 70, 27, 92, 46, 42, 180, 0, 49, 27, 46]
abbrev dktX5_ticks_3 : List UInt8 := dkwX5_ticks_3 ++ dktX5_ticks_4
def dkwX5_ticks_2 : List UInt8 := [180, 0, 191, 153, 0, 14, 42, 180, 0, 58, 28, 46, 4, 96, 167, 0, 4, 3, 79, 132, 1, 1]
abbrev dktX5_ticks_2 : List UInt8 := dkwX5_ticks_2 ++ dktX5_ticks_3
def dkwX5_ticks_1 : List UInt8 := [180, 0, 115, 27, 46, 61, 42, 3, 181, 0, 191, 42, 28, 182, 0, 242, 42, 180, 0, 58, 28, 42]
abbrev dktX5_ticks_1 : List UInt8 := dkwX5_ticks_1 ++ dktX5_ticks_2
def dkwX5_ticks_0 : List UInt8 := [42, 89, 180, 0, 158, 4, 96, 181, 0, 158, 42, 182, 0, 239, 3, 60, 27, 6, 162, 0, 51, 42]
abbrev dktX5_ticks_0 : List UInt8 := dkwX5_ticks_0 ++ dktX5_ticks_1
theorem dksX5_ticks_0 : cX5_ticks.data.toList.drop 0 = dktX5_ticks_0 := by decide +kernel
theorem dksX5_ticks_1 : cX5_ticks.data.toList.drop 22 = dktX5_ticks_1 := dk_seg dksX5_ticks_0 22 rfl rfl
theorem dksX5_ticks_2 : cX5_ticks.data.toList.drop 44 = dktX5_ticks_2 := dk_seg dksX5_ticks_1 22 rfl rfl
theorem dksX5_ticks_3 : cX5_ticks.data.toList.drop 66 = dktX5_ticks_3 := dk_seg dksX5_ticks_2 22 rfl rfl
theorem dksX5_ticks_4 : cX5_ticks.data.toList.drop 89 = dktX5_ticks_4 := dk_seg dksX5_ticks_3 23 rfl rfl
theorem dksX5_ticks_5 : cX5_ticks.data.toList.drop 113 = dktX5_ticks_5 := dk_seg dksX5_ticks_4 24 rfl rfl
theorem dksX5_ticks_6 : cX5_ticks.data.toList.drop 137 = dktX5_ticks_6 := dk_seg dksX5_ticks_5 24 rfl rfl
theorem dX5_ticks_0 : decode cX5_ticks 0 = .ok (.aload_n 0, 1) := dk_42 (dk_at dksX5_ticks_0 0 rfl rfl)
theorem dX5_ticks_1 : decode cX5_ticks 1 = .ok (.dup, 1) := dk_89 (dk_at dksX5_ticks_0 1 rfl rfl)
theorem dX5_ticks_2 : decode cX5_ticks 2 = .ok (.getfield 158, 3) := dk_180 0 158 (dk_at dksX5_ticks_0 2 rfl rfl)
theorem dX5_ticks_5 : decode cX5_ticks 5 = .ok (.iconst 1, 1) := dk_4 (dk_at dksX5_ticks_0 5 rfl rfl)
theorem dX5_ticks_6 : decode cX5_ticks 6 = .ok (.iadd, 1) := dk_96 (dk_at dksX5_ticks_0 6 rfl rfl)
theorem dX5_ticks_7 : decode cX5_ticks 7 = .ok (.putfield 158, 3) := dk_181 0 158 (dk_at dksX5_ticks_0 7 rfl rfl)
theorem dX5_ticks_10 : decode cX5_ticks 10 = .ok (.aload_n 0, 1) := dk_42 (dk_at dksX5_ticks_0 10 rfl rfl)
theorem dX5_ticks_11 : decode cX5_ticks 11 = .ok (.invokevirtual 239, 3) := dk_182 0 239 (dk_at dksX5_ticks_0 11 rfl rfl)
theorem dX5_ticks_14 : decode cX5_ticks 14 = .ok (.iconst 0, 1) := dk_3 (dk_at dksX5_ticks_0 14 rfl rfl)
theorem dX5_ticks_15 : decode cX5_ticks 15 = .ok (.istore_n 1, 1) := dk_60 (dk_at dksX5_ticks_0 15 rfl rfl)
theorem dX5_ticks_16 : decode cX5_ticks 16 = .ok (.iload_n 1, 1) := dk_27 (dk_at dksX5_ticks_0 16 rfl rfl)
theorem dX5_ticks_17 : decode cX5_ticks 17 = .ok (.iconst 3, 1) := dk_6 (dk_at dksX5_ticks_0 17 rfl rfl)
theorem dX5_ticks_18 : decode cX5_ticks 18 = .ok (.if_icmp .ge 51, 3) := dk_162 0 51 (dk_at dksX5_ticks_0 18 rfl rfl)
theorem dX5_ticks_21 : decode cX5_ticks 21 = .ok (.aload_n 0, 1) := dk_42 (dk_at dksX5_ticks_0 21 rfl rfl)
theorem dX5_ticks_22 : decode cX5_ticks 22 = .ok (.getfield 115, 3) := dk_180 0 115 (dk_at dksX5_ticks_1 0 rfl rfl)
theorem dX5_ticks_25 : decode cX5_ticks 25 = .ok (.iload_n 1, 1) := dk_27 (dk_at dksX5_ticks_1 3 rfl rfl)
theorem dX5_ticks_26 : decode cX5_ticks 26 = .ok (.iaload, 1) := dk_46 (dk_at dksX5_ticks_1 4 rfl rfl)
theorem dX5_ticks_27 : decode cX5_ticks 27 = .ok (.istore_n 2, 1) := dk_61 (dk_at dksX5_ticks_1 5 rfl rfl)
theorem dX5_ticks_28 : decode cX5_ticks 28 = .ok (.aload_n 0, 1) := dk_42 (dk_at dksX5_ticks_1 6 rfl rfl)
theorem dX5_ticks_29 : decode cX5_ticks 29 = .ok (.iconst 0, 1) := dk_3 (dk_at dksX5_ticks_1 7 rfl rfl)
theorem dX5_ticks_30 : decode cX5_ticks 30 = .ok (.putfield 191, 3) := dk_181 0 191 (dk_at dksX5_ticks_1 8 rfl rfl)
theorem dX5_ticks_33 : decode cX5_ticks 33 = .ok (.aload_n 0, 1) := dk_42 (dk_at dksX5_ticks_1 11 rfl rfl)
theorem dX5_ticks_34 : decode cX5_ticks 34 = .ok (.iload_n 2, 1) := dk_28 (dk_at dksX5_ticks_1 12 rfl rfl)
theorem dX5_ticks_35 : decode cX5_ticks 35 = .ok (.invokevirtual 242, 3) := dk_182 0 242 (dk_at dksX5_ticks_1 13 rfl rfl)
theorem dX5_ticks_38 : decode cX5_ticks 38 = .ok (.aload_n 0, 1) := dk_42 (dk_at dksX5_ticks_1 16 rfl rfl)
theorem dX5_ticks_39 : decode cX5_ticks 39 = .ok (.getfield 58, 3) := dk_180 0 58 (dk_at dksX5_ticks_1 17 rfl rfl)
theorem dX5_ticks_42 : decode cX5_ticks 42 = .ok (.iload_n 2, 1) := dk_28 (dk_at dksX5_ticks_1 20 rfl rfl)
theorem dX5_ticks_43 : decode cX5_ticks 43 = .ok (.aload_n 0, 1) := dk_42 (dk_at dksX5_ticks_1 21 rfl rfl)
theorem dX5_ticks_44 : decode cX5_ticks 44 = .ok (.getfield 191, 3) := dk_180 0 191 (dk_at dksX5_ticks_2 0 rfl rfl)
theorem dX5_ticks_47 : decode cX5_ticks 47 = .ok (.ifCond .eq 14, 3) := dk_153 0 14 (dk_at dksX5_ticks_2 3 rfl rfl)
theorem dX5_ticks_50 : decode cX5_ticks 50 = .ok (.aload_n 0, 1) := dk_42 (dk_at dksX5_ticks_2 6 rfl rfl)
theorem dX5_ticks_51 : decode cX5_ticks 51 = .ok (.getfield 58, 3) := dk_180 0 58 (dk_at dksX5_ticks_2 7 rfl rfl)
theorem dX5_ticks_54 : decode cX5_ticks 54 = .ok (.iload_n 2, 1) := dk_28 (dk_at dksX5_ticks_2 10 rfl rfl)
theorem dX5_ticks_55 : decode cX5_ticks 55 = .ok (.iaload, 1) := dk_46 (dk_at dksX5_ticks_2 11 rfl rfl)
theorem dX5_ticks_56 : decode cX5_ticks 56 = .ok (.iconst 1, 1) := dk_4 (dk_at dksX5_ticks_2 12 rfl rfl)
theorem dX5_ticks_57 : decode cX5_ticks 57 = .ok (.iadd, 1) := dk_96 (dk_at dksX5_ticks_2 13 rfl rfl)
theorem dX5_ticks_58 : decode cX5_ticks 58 = .ok (.goto 4, 3) := dk_167 0 4 (dk_at dksX5_ticks_2 14 rfl rfl)
theorem dX5_ticks_61 : decode cX5_ticks 61 = .ok (.iconst 0, 1) := dk_3 (dk_at dksX5_ticks_2 17 rfl rfl)
theorem dX5_ticks_62 : decode cX5_ticks 62 = .ok (.iastore, 1) := dk_79 (dk_at dksX5_ticks_2 18 rfl rfl)
theorem dX5_ticks_63 : decode cX5_ticks 63 = .ok (.iinc 1 1, 3) := dk_132 1 1 (dk_at dksX5_ticks_2 19 rfl rfl)
theorem dX5_ticks_66 : decode cX5_ticks 66 = .ok (.goto (-50), 3) := dk_167 255 206 (dk_at dksX5_ticks_3 0 rfl rfl)
theorem dX5_ticks_69 : decode cX5_ticks 69 = .ok (.iconst 0, 1) := dk_3 (dk_at dksX5_ticks_3 3 rfl rfl)
theorem dX5_ticks_70 : decode cX5_ticks 70 = .ok (.istore_n 1, 1) := dk_60 (dk_at dksX5_ticks_3 4 rfl rfl)
theorem dX5_ticks_71 : decode cX5_ticks 71 = .ok (.iload_n 1, 1) := dk_27 (dk_at dksX5_ticks_3 5 rfl rfl)
theorem dX5_ticks_72 : decode cX5_ticks 72 = .ok (.iconst 3, 1) := dk_6 (dk_at dksX5_ticks_3 6 rfl rfl)
theorem dX5_ticks_73 : decode cX5_ticks 73 = .ok (.if_icmp .ge 64, 3) := dk_162 0 64 (dk_at dksX5_ticks_3 7 rfl rfl)
theorem dX5_ticks_76 : decode cX5_ticks 76 = .ok (.aload_n 0, 1) := dk_42 (dk_at dksX5_ticks_3 10 rfl rfl)
theorem dX5_ticks_77 : decode cX5_ticks 77 = .ok (.getfield 70, 3) := dk_180 0 70 (dk_at dksX5_ticks_3 11 rfl rfl)
theorem dX5_ticks_80 : decode cX5_ticks 80 = .ok (.iload_n 1, 1) := dk_27 (dk_at dksX5_ticks_3 14 rfl rfl)
theorem dX5_ticks_81 : decode cX5_ticks 81 = .ok (.dup2, 1) := dk_92 (dk_at dksX5_ticks_3 15 rfl rfl)
theorem dX5_ticks_82 : decode cX5_ticks 82 = .ok (.iaload, 1) := dk_46 (dk_at dksX5_ticks_3 16 rfl rfl)
theorem dX5_ticks_83 : decode cX5_ticks 83 = .ok (.aload_n 0, 1) := dk_42 (dk_at dksX5_ticks_3 17 rfl rfl)
theorem dX5_ticks_84 : decode cX5_ticks 84 = .ok (.getfield 49, 3) := dk_180 0 49 (dk_at dksX5_ticks_3 18 rfl rfl)
theorem dX5_ticks_87 : decode cX5_ticks 87 = .ok (.iload_n 1, 1) := dk_27 (dk_at dksX5_ticks_3 21 rfl rfl)
theorem dX5_ticks_88 : decode cX5_ticks 88 = .ok (.iaload, 1) := dk_46 (dk_at dksX5_ticks_3 22 rfl rfl)
theorem dX5_ticks_89 : decode cX5_ticks 89 = .ok (.ifCond .ne 7, 3) := dk_154 0 7 (dk_at dksX5_ticks_4 0 rfl rfl)
theorem dX5_ticks_92 : decode cX5_ticks 92 = .ok (.iconst 0, 1) := dk_3 (dk_at dksX5_ticks_4 3 rfl rfl)
theorem dX5_ticks_93 : decode cX5_ticks 93 = .ok (.goto 4, 3) := dk_167 0 4 (dk_at dksX5_ticks_4 4 rfl rfl)
theorem dX5_ticks_96 : decode cX5_ticks 96 = .ok (.iconst 1, 1) := dk_4 (dk_at dksX5_ticks_4 7 rfl rfl)
theorem dX5_ticks_97 : decode cX5_ticks 97 = .ok (.iadd, 1) := dk_96 (dk_at dksX5_ticks_4 8 rfl rfl)
theorem dX5_ticks_98 : decode cX5_ticks 98 = .ok (.iastore, 1) := dk_79 (dk_at dksX5_ticks_4 9 rfl rfl)
theorem dX5_ticks_99 : decode cX5_ticks 99 = .ok (.iconst 0, 1) := dk_3 (dk_at dksX5_ticks_4 10 rfl rfl)
theorem dX5_ticks_100 : decode cX5_ticks 100 = .ok (.istore_n 2, 1) := dk_61 (dk_at dksX5_ticks_4 11 rfl rfl)
theorem dX5_ticks_101 : decode cX5_ticks 101 = .ok (.iload_n 2, 1) := dk_28 (dk_at dksX5_ticks_4 12 rfl rfl)
theorem dX5_ticks_102 : decode cX5_ticks 102 = .ok (.bipush 8, 2) := dk_16 8 (dk_at dksX5_ticks_4 13 rfl rfl)
theorem dX5_ticks_104 : decode cX5_ticks 104 = .ok (.if_icmp .ge 27, 3) := dk_162 0 27 (dk_at dksX5_ticks_4 15 rfl rfl)
theorem dX5_ticks_107 : decode cX5_ticks 107 = .ok (.aload_n 0, 1) := dk_42 (dk_at dksX5_ticks_4 18 rfl rfl)
theorem dX5_ticks_108 : decode cX5_ticks 108 = .ok (.getfield 13, 3) := dk_180 0 13 (dk_at dksX5_ticks_4 19 rfl rfl)
theorem dX5_ticks_111 : decode cX5_ticks 111 = .ok (.iload_n 2, 1) := dk_28 (dk_at dksX5_ticks_4 22 rfl rfl)
theorem dX5_ticks_112 : decode cX5_ticks 112 = .ok (.dup2, 1) := dk_92 (dk_at dksX5_ticks_4 23 rfl rfl)
theorem dX5_ticks_113 : decode cX5_ticks 113 = .ok (.iaload, 1) := dk_46 (dk_at dksX5_ticks_5 0 rfl rfl)
theorem dX5_ticks_114 : decode cX5_ticks 114 = .ok (.aload_n 0, 1) := dk_42 (dk_at dksX5_ticks_5 1 rfl rfl)
theorem dX5_ticks_115 : decode cX5_ticks 115 = .ok (.iload_n 1, 1) := dk_27 (dk_at dksX5_ticks_5 2 rfl rfl)
theorem dX5_ticks_116 : decode cX5_ticks 116 = .ok (.invokevirtual 161, 3) := dk_182 0 161 (dk_at dksX5_ticks_5 3 rfl rfl)
theorem dX5_ticks_119 : decode cX5_ticks 119 = .ok (.iload_n 2, 1) := dk_28 (dk_at dksX5_ticks_5 6 rfl rfl)
theorem dX5_ticks_120 : decode cX5_ticks 120 = .ok (.ishr, 1) := dk_122 (dk_at dksX5_ticks_5 7 rfl rfl)
theorem dX5_ticks_121 : decode cX5_ticks 121 = .ok (.iconst 1, 1) := dk_4 (dk_at dksX5_ticks_5 8 rfl rfl)
theorem dX5_ticks_122 : decode cX5_ticks 122 = .ok (.iand, 1) := dk_126 (dk_at dksX5_ticks_5 9 rfl rfl)
theorem dX5_ticks_123 : decode cX5_ticks 123 = .ok (.iadd, 1) := dk_96 (dk_at dksX5_ticks_5 10 rfl rfl)
theorem dX5_ticks_124 : decode cX5_ticks 124 = .ok (.iastore, 1) := dk_79 (dk_at dksX5_ticks_5 11 rfl rfl)
theorem dX5_ticks_125 : decode cX5_ticks 125 = .ok (.iinc 2 1, 3) := dk_132 2 1 (dk_at dksX5_ticks_5 12 rfl rfl)
theorem dX5_ticks_128 : decode cX5_ticks 128 = .ok (.goto (-27), 3) := dk_167 255 229 (dk_at dksX5_ticks_5 15 rfl rfl)
theorem dX5_ticks_131 : decode cX5_ticks 131 = .ok (.iinc 1 1, 3) := dk_132 1 1 (dk_at dksX5_ticks_5 18 rfl rfl)
theorem dX5_ticks_134 : decode cX5_ticks 134 = .ok (.goto (-63), 3) := dk_167 255 193 (dk_at dksX5_ticks_5 21 rfl rfl)
theorem dX5_ticks_137 : decode cX5_ticks 137 = .ok (.return_, 1) := dk_177 (dk_at dksX5_ticks_6 0 rfl rfl)
abbrev cX5_findTurns : ByteArray := prog_18_method_29_code
def yX5_findTurns : MethodName := ⟨RX5, "findTurns", "()V"⟩
def dkwX5_findTurns_2 : List UInt8 := [79, 132, 2, 255, 167, 255, 213, 42, 180, 0, 115, 28, 27, 79, 132, 1, 1, 167, 255, 193, 177]
abbrev dktX5_findTurns_2 : List UInt8 := dkwX5_findTurns_2 ++ []
def dkwX5_findTurns_1 : List UInt8 := [46, 46, 42, 180, 0, 58, 27, 46, 162, 0, 23, 42, 180, 0, 115, 28, 42, 180, 0, 115, 28, 4, 100, 46]
abbrev dktX5_findTurns_1 : List UInt8 := dkwX5_findTurns_1 ++ dktX5_findTurns_2
def dkwX5_findTurns_0 : List UInt8 := [3, 60, 27, 6, 162, 0, 64, 27, 61, 28, 158, 0, 45, 42, 180, 0, 58, 42, 180, 0, 115, 28, 4, 100]
abbrev dktX5_findTurns_0 : List UInt8 := dkwX5_findTurns_0 ++ dktX5_findTurns_1
theorem dksX5_findTurns_0 : cX5_findTurns.data.toList.drop 0 = dktX5_findTurns_0 := by decide +kernel
theorem dksX5_findTurns_1 : cX5_findTurns.data.toList.drop 24 = dktX5_findTurns_1 := dk_seg dksX5_findTurns_0 24 rfl rfl
theorem dksX5_findTurns_2 : cX5_findTurns.data.toList.drop 48 = dktX5_findTurns_2 := dk_seg dksX5_findTurns_1 24 rfl rfl
theorem dX5_findTurns_0 : decode cX5_findTurns 0 = .ok (.iconst 0, 1) := dk_3 (dk_at dksX5_findTurns_0 0 rfl rfl)
theorem dX5_findTurns_1 : decode cX5_findTurns 1 = .ok (.istore_n 1, 1) := dk_60 (dk_at dksX5_findTurns_0 1 rfl rfl)
theorem dX5_findTurns_2 : decode cX5_findTurns 2 = .ok (.iload_n 1, 1) := dk_27 (dk_at dksX5_findTurns_0 2 rfl rfl)
theorem dX5_findTurns_3 : decode cX5_findTurns 3 = .ok (.iconst 3, 1) := dk_6 (dk_at dksX5_findTurns_0 3 rfl rfl)
theorem dX5_findTurns_4 : decode cX5_findTurns 4 = .ok (.if_icmp .ge 64, 3) := dk_162 0 64 (dk_at dksX5_findTurns_0 4 rfl rfl)
theorem dX5_findTurns_7 : decode cX5_findTurns 7 = .ok (.iload_n 1, 1) := dk_27 (dk_at dksX5_findTurns_0 7 rfl rfl)
theorem dX5_findTurns_8 : decode cX5_findTurns 8 = .ok (.istore_n 2, 1) := dk_61 (dk_at dksX5_findTurns_0 8 rfl rfl)
theorem dX5_findTurns_9 : decode cX5_findTurns 9 = .ok (.iload_n 2, 1) := dk_28 (dk_at dksX5_findTurns_0 9 rfl rfl)
theorem dX5_findTurns_10 : decode cX5_findTurns 10 = .ok (.ifCond .le 45, 3) := dk_158 0 45 (dk_at dksX5_findTurns_0 10 rfl rfl)
theorem dX5_findTurns_13 : decode cX5_findTurns 13 = .ok (.aload_n 0, 1) := dk_42 (dk_at dksX5_findTurns_0 13 rfl rfl)
theorem dX5_findTurns_14 : decode cX5_findTurns 14 = .ok (.getfield 58, 3) := dk_180 0 58 (dk_at dksX5_findTurns_0 14 rfl rfl)
theorem dX5_findTurns_17 : decode cX5_findTurns 17 = .ok (.aload_n 0, 1) := dk_42 (dk_at dksX5_findTurns_0 17 rfl rfl)
theorem dX5_findTurns_18 : decode cX5_findTurns 18 = .ok (.getfield 115, 3) := dk_180 0 115 (dk_at dksX5_findTurns_0 18 rfl rfl)
theorem dX5_findTurns_21 : decode cX5_findTurns 21 = .ok (.iload_n 2, 1) := dk_28 (dk_at dksX5_findTurns_0 21 rfl rfl)
theorem dX5_findTurns_22 : decode cX5_findTurns 22 = .ok (.iconst 1, 1) := dk_4 (dk_at dksX5_findTurns_0 22 rfl rfl)
theorem dX5_findTurns_23 : decode cX5_findTurns 23 = .ok (.isub, 1) := dk_100 (dk_at dksX5_findTurns_0 23 rfl rfl)
theorem dX5_findTurns_24 : decode cX5_findTurns 24 = .ok (.iaload, 1) := dk_46 (dk_at dksX5_findTurns_1 0 rfl rfl)
theorem dX5_findTurns_25 : decode cX5_findTurns 25 = .ok (.iaload, 1) := dk_46 (dk_at dksX5_findTurns_1 1 rfl rfl)
theorem dX5_findTurns_26 : decode cX5_findTurns 26 = .ok (.aload_n 0, 1) := dk_42 (dk_at dksX5_findTurns_1 2 rfl rfl)
theorem dX5_findTurns_27 : decode cX5_findTurns 27 = .ok (.getfield 58, 3) := dk_180 0 58 (dk_at dksX5_findTurns_1 3 rfl rfl)
theorem dX5_findTurns_30 : decode cX5_findTurns 30 = .ok (.iload_n 1, 1) := dk_27 (dk_at dksX5_findTurns_1 6 rfl rfl)
theorem dX5_findTurns_31 : decode cX5_findTurns 31 = .ok (.iaload, 1) := dk_46 (dk_at dksX5_findTurns_1 7 rfl rfl)
theorem dX5_findTurns_32 : decode cX5_findTurns 32 = .ok (.if_icmp .ge 23, 3) := dk_162 0 23 (dk_at dksX5_findTurns_1 8 rfl rfl)
theorem dX5_findTurns_35 : decode cX5_findTurns 35 = .ok (.aload_n 0, 1) := dk_42 (dk_at dksX5_findTurns_1 11 rfl rfl)
theorem dX5_findTurns_36 : decode cX5_findTurns 36 = .ok (.getfield 115, 3) := dk_180 0 115 (dk_at dksX5_findTurns_1 12 rfl rfl)
theorem dX5_findTurns_39 : decode cX5_findTurns 39 = .ok (.iload_n 2, 1) := dk_28 (dk_at dksX5_findTurns_1 15 rfl rfl)
theorem dX5_findTurns_40 : decode cX5_findTurns 40 = .ok (.aload_n 0, 1) := dk_42 (dk_at dksX5_findTurns_1 16 rfl rfl)
theorem dX5_findTurns_41 : decode cX5_findTurns 41 = .ok (.getfield 115, 3) := dk_180 0 115 (dk_at dksX5_findTurns_1 17 rfl rfl)
theorem dX5_findTurns_44 : decode cX5_findTurns 44 = .ok (.iload_n 2, 1) := dk_28 (dk_at dksX5_findTurns_1 20 rfl rfl)
theorem dX5_findTurns_45 : decode cX5_findTurns 45 = .ok (.iconst 1, 1) := dk_4 (dk_at dksX5_findTurns_1 21 rfl rfl)
theorem dX5_findTurns_46 : decode cX5_findTurns 46 = .ok (.isub, 1) := dk_100 (dk_at dksX5_findTurns_1 22 rfl rfl)
theorem dX5_findTurns_47 : decode cX5_findTurns 47 = .ok (.iaload, 1) := dk_46 (dk_at dksX5_findTurns_1 23 rfl rfl)
theorem dX5_findTurns_48 : decode cX5_findTurns 48 = .ok (.iastore, 1) := dk_79 (dk_at dksX5_findTurns_2 0 rfl rfl)
theorem dX5_findTurns_49 : decode cX5_findTurns 49 = .ok (.iinc 2 (-1), 3) := dk_132 2 255 (dk_at dksX5_findTurns_2 1 rfl rfl)
theorem dX5_findTurns_52 : decode cX5_findTurns 52 = .ok (.goto (-43), 3) := dk_167 255 213 (dk_at dksX5_findTurns_2 4 rfl rfl)
theorem dX5_findTurns_55 : decode cX5_findTurns 55 = .ok (.aload_n 0, 1) := dk_42 (dk_at dksX5_findTurns_2 7 rfl rfl)
theorem dX5_findTurns_56 : decode cX5_findTurns 56 = .ok (.getfield 115, 3) := dk_180 0 115 (dk_at dksX5_findTurns_2 8 rfl rfl)
theorem dX5_findTurns_59 : decode cX5_findTurns 59 = .ok (.iload_n 2, 1) := dk_28 (dk_at dksX5_findTurns_2 11 rfl rfl)
theorem dX5_findTurns_60 : decode cX5_findTurns 60 = .ok (.iload_n 1, 1) := dk_27 (dk_at dksX5_findTurns_2 12 rfl rfl)
theorem dX5_findTurns_61 : decode cX5_findTurns 61 = .ok (.iastore, 1) := dk_79 (dk_at dksX5_findTurns_2 13 rfl rfl)
theorem dX5_findTurns_62 : decode cX5_findTurns 62 = .ok (.iinc 1 1, 3) := dk_132 1 1 (dk_at dksX5_findTurns_2 14 rfl rfl)
theorem dX5_findTurns_65 : decode cX5_findTurns 65 = .ok (.goto (-63), 3) := dk_167 255 193 (dk_at dksX5_findTurns_2 17 rfl rfl)
theorem dX5_findTurns_68 : decode cX5_findTurns 68 = .ok (.return_, 1) := dk_177 (dk_at dksX5_findTurns_2 20 rfl rfl)
abbrev cX5_acts : ByteArray := prog_18_method_28_code
def yX5_acts : MethodName := ⟨RX5, "acts", "(I)V"⟩
def dkwX5_acts_7 : List UInt8 := [46, 4, 96, 182, 0, 199, 167, 0, 8, 42, 27, 182, 0, 233, 177]
abbrev dktX5_acts_7 : List UInt8 := dkwX5_acts_7 ++ []
def dkwX5_acts_6 : List UInt8 := [158, 0, 6, 167, 0, 35, 42, 27, 5, 42, 27, 182, 0, 151, 182, 0, 203, 42, 27, 42, 180, 0, 52, 27]
abbrev dktX5_acts_6 : List UInt8 := dkwX5_acts_6 ++ dktX5_acts_7
def dkwX5_acts_5 : List UInt8 := [182, 0, 236, 167, 0, 57, 42, 180, 0, 55, 27, 92, 46, 4, 100, 79, 42, 180, 0, 55, 27, 46]
abbrev dktX5_acts_5 : List UInt8 := dkwX5_acts_5 ++ dktX5_acts_6
def dkwX5_acts_4 : List UInt8 := [180, 0, 79, 42, 180, 0, 46, 27, 46, 46, 162, 0, 11, 42, 27, 182, 0, 233, 167, 0, 65, 42, 27]
abbrev dktX5_acts_4 : List UInt8 := dkwX5_acts_4 ++ dktX5_acts_5
def dkwX5_acts_3 : List UInt8 := [4, 100, 79, 42, 180, 0, 55, 27, 46, 158, 0, 6, 167, 0, 95, 42, 180, 0, 52, 27, 46, 4, 96, 42]
abbrev dktX5_acts_3 : List UInt8 := dkwX5_acts_3 ++ dktX5_acts_4
def dkwX5_acts_2 : List UInt8 := [42, 180, 0, 40, 27, 46, 158, 0, 125, 42, 27, 182, 0, 229, 167, 0, 117, 42, 180, 0, 55, 27, 92, 46]
abbrev dktX5_acts_2 : List UInt8 := dkwX5_acts_2 ++ dktX5_acts_3
def dkwX5_acts_1 : List UInt8 := [170, 0, 0, 0, 0, 152, 0, 0, 0, 0, 0, 0, 0, 2, 0, 0, 0, 26, 0, 0, 0, 43, 0, 0, 0, 103]
abbrev dktX5_acts_1 : List UInt8 := dkwX5_acts_1 ++ dktX5_acts_2
def dkwX5_acts_0 : List UInt8 := [42, 180, 0, 49, 27, 46]
abbrev dktX5_acts_0 : List UInt8 := dkwX5_acts_0 ++ dktX5_acts_1
theorem dksX5_acts_0 : cX5_acts.data.toList.drop 0 = dktX5_acts_0 := by decide +kernel
theorem dksX5_acts_1 : cX5_acts.data.toList.drop 6 = dktX5_acts_1 := dk_seg dksX5_acts_0 6 rfl rfl
theorem dksX5_acts_2 : cX5_acts.data.toList.drop 32 = dktX5_acts_2 := dk_seg dksX5_acts_1 26 rfl rfl
theorem dksX5_acts_3 : cX5_acts.data.toList.drop 56 = dktX5_acts_3 := dk_seg dksX5_acts_2 24 rfl rfl
theorem dksX5_acts_4 : cX5_acts.data.toList.drop 80 = dktX5_acts_4 := dk_seg dksX5_acts_3 24 rfl rfl
theorem dksX5_acts_5 : cX5_acts.data.toList.drop 103 = dktX5_acts_5 := dk_seg dksX5_acts_4 23 rfl rfl
theorem dksX5_acts_6 : cX5_acts.data.toList.drop 125 = dktX5_acts_6 := dk_seg dksX5_acts_5 22 rfl rfl
theorem dksX5_acts_7 : cX5_acts.data.toList.drop 149 = dktX5_acts_7 := dk_seg dksX5_acts_6 24 rfl rfl
theorem dX5_acts_0 : decode cX5_acts 0 = .ok (.aload_n 0, 1) := dk_42 (dk_at dksX5_acts_0 0 rfl rfl)
theorem dX5_acts_1 : decode cX5_acts 1 = .ok (.getfield 49, 3) := dk_180 0 49 (dk_at dksX5_acts_0 1 rfl rfl)
theorem dX5_acts_4 : decode cX5_acts 4 = .ok (.iload_n 1, 1) := dk_27 (dk_at dksX5_acts_0 4 rfl rfl)
theorem dX5_acts_5 : decode cX5_acts 5 = .ok (.iaload, 1) := dk_46 (dk_at dksX5_acts_0 5 rfl rfl)
theorem dX5_acts_6 : decode cX5_acts 6 = .ok (.tableswitch 152 0 2 #[26, 43, 103], 26) := by decide +kernel
theorem dX5_acts_32 : decode cX5_acts 32 = .ok (.aload_n 0, 1) := dk_42 (dk_at dksX5_acts_2 0 rfl rfl)
theorem dX5_acts_33 : decode cX5_acts 33 = .ok (.getfield 40, 3) := dk_180 0 40 (dk_at dksX5_acts_2 1 rfl rfl)
theorem dX5_acts_36 : decode cX5_acts 36 = .ok (.iload_n 1, 1) := dk_27 (dk_at dksX5_acts_2 4 rfl rfl)
theorem dX5_acts_37 : decode cX5_acts 37 = .ok (.iaload, 1) := dk_46 (dk_at dksX5_acts_2 5 rfl rfl)
theorem dX5_acts_38 : decode cX5_acts 38 = .ok (.ifCond .le 125, 3) := dk_158 0 125 (dk_at dksX5_acts_2 6 rfl rfl)
theorem dX5_acts_41 : decode cX5_acts 41 = .ok (.aload_n 0, 1) := dk_42 (dk_at dksX5_acts_2 9 rfl rfl)
theorem dX5_acts_42 : decode cX5_acts 42 = .ok (.iload_n 1, 1) := dk_27 (dk_at dksX5_acts_2 10 rfl rfl)
theorem dX5_acts_43 : decode cX5_acts 43 = .ok (.invokevirtual 229, 3) := dk_182 0 229 (dk_at dksX5_acts_2 11 rfl rfl)
theorem dX5_acts_46 : decode cX5_acts 46 = .ok (.goto 117, 3) := dk_167 0 117 (dk_at dksX5_acts_2 14 rfl rfl)
theorem dX5_acts_49 : decode cX5_acts 49 = .ok (.aload_n 0, 1) := dk_42 (dk_at dksX5_acts_2 17 rfl rfl)
theorem dX5_acts_50 : decode cX5_acts 50 = .ok (.getfield 55, 3) := dk_180 0 55 (dk_at dksX5_acts_2 18 rfl rfl)
theorem dX5_acts_53 : decode cX5_acts 53 = .ok (.iload_n 1, 1) := dk_27 (dk_at dksX5_acts_2 21 rfl rfl)
theorem dX5_acts_54 : decode cX5_acts 54 = .ok (.dup2, 1) := dk_92 (dk_at dksX5_acts_2 22 rfl rfl)
theorem dX5_acts_55 : decode cX5_acts 55 = .ok (.iaload, 1) := dk_46 (dk_at dksX5_acts_2 23 rfl rfl)
theorem dX5_acts_56 : decode cX5_acts 56 = .ok (.iconst 1, 1) := dk_4 (dk_at dksX5_acts_3 0 rfl rfl)
theorem dX5_acts_57 : decode cX5_acts 57 = .ok (.isub, 1) := dk_100 (dk_at dksX5_acts_3 1 rfl rfl)
theorem dX5_acts_58 : decode cX5_acts 58 = .ok (.iastore, 1) := dk_79 (dk_at dksX5_acts_3 2 rfl rfl)
theorem dX5_acts_59 : decode cX5_acts 59 = .ok (.aload_n 0, 1) := dk_42 (dk_at dksX5_acts_3 3 rfl rfl)
theorem dX5_acts_60 : decode cX5_acts 60 = .ok (.getfield 55, 3) := dk_180 0 55 (dk_at dksX5_acts_3 4 rfl rfl)
theorem dX5_acts_63 : decode cX5_acts 63 = .ok (.iload_n 1, 1) := dk_27 (dk_at dksX5_acts_3 7 rfl rfl)
theorem dX5_acts_64 : decode cX5_acts 64 = .ok (.iaload, 1) := dk_46 (dk_at dksX5_acts_3 8 rfl rfl)
theorem dX5_acts_65 : decode cX5_acts 65 = .ok (.ifCond .le 6, 3) := dk_158 0 6 (dk_at dksX5_acts_3 9 rfl rfl)
theorem dX5_acts_68 : decode cX5_acts 68 = .ok (.goto 95, 3) := dk_167 0 95 (dk_at dksX5_acts_3 12 rfl rfl)
theorem dX5_acts_71 : decode cX5_acts 71 = .ok (.aload_n 0, 1) := dk_42 (dk_at dksX5_acts_3 15 rfl rfl)
theorem dX5_acts_72 : decode cX5_acts 72 = .ok (.getfield 52, 3) := dk_180 0 52 (dk_at dksX5_acts_3 16 rfl rfl)
theorem dX5_acts_75 : decode cX5_acts 75 = .ok (.iload_n 1, 1) := dk_27 (dk_at dksX5_acts_3 19 rfl rfl)
theorem dX5_acts_76 : decode cX5_acts 76 = .ok (.iaload, 1) := dk_46 (dk_at dksX5_acts_3 20 rfl rfl)
theorem dX5_acts_77 : decode cX5_acts 77 = .ok (.iconst 1, 1) := dk_4 (dk_at dksX5_acts_3 21 rfl rfl)
theorem dX5_acts_78 : decode cX5_acts 78 = .ok (.iadd, 1) := dk_96 (dk_at dksX5_acts_3 22 rfl rfl)
theorem dX5_acts_79 : decode cX5_acts 79 = .ok (.aload_n 0, 1) := dk_42 (dk_at dksX5_acts_3 23 rfl rfl)
theorem dX5_acts_80 : decode cX5_acts 80 = .ok (.getfield 79, 3) := dk_180 0 79 (dk_at dksX5_acts_4 0 rfl rfl)
theorem dX5_acts_83 : decode cX5_acts 83 = .ok (.aload_n 0, 1) := dk_42 (dk_at dksX5_acts_4 3 rfl rfl)
theorem dX5_acts_84 : decode cX5_acts 84 = .ok (.getfield 46, 3) := dk_180 0 46 (dk_at dksX5_acts_4 4 rfl rfl)
theorem dX5_acts_87 : decode cX5_acts 87 = .ok (.iload_n 1, 1) := dk_27 (dk_at dksX5_acts_4 7 rfl rfl)
theorem dX5_acts_88 : decode cX5_acts 88 = .ok (.iaload, 1) := dk_46 (dk_at dksX5_acts_4 8 rfl rfl)
theorem dX5_acts_89 : decode cX5_acts 89 = .ok (.iaload, 1) := dk_46 (dk_at dksX5_acts_4 9 rfl rfl)
theorem dX5_acts_90 : decode cX5_acts 90 = .ok (.if_icmp .ge 11, 3) := dk_162 0 11 (dk_at dksX5_acts_4 10 rfl rfl)
theorem dX5_acts_93 : decode cX5_acts 93 = .ok (.aload_n 0, 1) := dk_42 (dk_at dksX5_acts_4 13 rfl rfl)
theorem dX5_acts_94 : decode cX5_acts 94 = .ok (.iload_n 1, 1) := dk_27 (dk_at dksX5_acts_4 14 rfl rfl)
theorem dX5_acts_95 : decode cX5_acts 95 = .ok (.invokevirtual 233, 3) := dk_182 0 233 (dk_at dksX5_acts_4 15 rfl rfl)
theorem dX5_acts_98 : decode cX5_acts 98 = .ok (.goto 65, 3) := dk_167 0 65 (dk_at dksX5_acts_4 18 rfl rfl)
theorem dX5_acts_101 : decode cX5_acts 101 = .ok (.aload_n 0, 1) := dk_42 (dk_at dksX5_acts_4 21 rfl rfl)
theorem dX5_acts_102 : decode cX5_acts 102 = .ok (.iload_n 1, 1) := dk_27 (dk_at dksX5_acts_4 22 rfl rfl)
theorem dX5_acts_103 : decode cX5_acts 103 = .ok (.invokevirtual 236, 3) := dk_182 0 236 (dk_at dksX5_acts_5 0 rfl rfl)
theorem dX5_acts_106 : decode cX5_acts 106 = .ok (.goto 57, 3) := dk_167 0 57 (dk_at dksX5_acts_5 3 rfl rfl)
theorem dX5_acts_109 : decode cX5_acts 109 = .ok (.aload_n 0, 1) := dk_42 (dk_at dksX5_acts_5 6 rfl rfl)
theorem dX5_acts_110 : decode cX5_acts 110 = .ok (.getfield 55, 3) := dk_180 0 55 (dk_at dksX5_acts_5 7 rfl rfl)
theorem dX5_acts_113 : decode cX5_acts 113 = .ok (.iload_n 1, 1) := dk_27 (dk_at dksX5_acts_5 10 rfl rfl)
theorem dX5_acts_114 : decode cX5_acts 114 = .ok (.dup2, 1) := dk_92 (dk_at dksX5_acts_5 11 rfl rfl)
theorem dX5_acts_115 : decode cX5_acts 115 = .ok (.iaload, 1) := dk_46 (dk_at dksX5_acts_5 12 rfl rfl)
theorem dX5_acts_116 : decode cX5_acts 116 = .ok (.iconst 1, 1) := dk_4 (dk_at dksX5_acts_5 13 rfl rfl)
theorem dX5_acts_117 : decode cX5_acts 117 = .ok (.isub, 1) := dk_100 (dk_at dksX5_acts_5 14 rfl rfl)
theorem dX5_acts_118 : decode cX5_acts 118 = .ok (.iastore, 1) := dk_79 (dk_at dksX5_acts_5 15 rfl rfl)
theorem dX5_acts_119 : decode cX5_acts 119 = .ok (.aload_n 0, 1) := dk_42 (dk_at dksX5_acts_5 16 rfl rfl)
theorem dX5_acts_120 : decode cX5_acts 120 = .ok (.getfield 55, 3) := dk_180 0 55 (dk_at dksX5_acts_5 17 rfl rfl)
theorem dX5_acts_123 : decode cX5_acts 123 = .ok (.iload_n 1, 1) := dk_27 (dk_at dksX5_acts_5 20 rfl rfl)
theorem dX5_acts_124 : decode cX5_acts 124 = .ok (.iaload, 1) := dk_46 (dk_at dksX5_acts_5 21 rfl rfl)
theorem dX5_acts_125 : decode cX5_acts 125 = .ok (.ifCond .le 6, 3) := dk_158 0 6 (dk_at dksX5_acts_6 0 rfl rfl)
theorem dX5_acts_128 : decode cX5_acts 128 = .ok (.goto 35, 3) := dk_167 0 35 (dk_at dksX5_acts_6 3 rfl rfl)
theorem dX5_acts_131 : decode cX5_acts 131 = .ok (.aload_n 0, 1) := dk_42 (dk_at dksX5_acts_6 6 rfl rfl)
theorem dX5_acts_132 : decode cX5_acts 132 = .ok (.iload_n 1, 1) := dk_27 (dk_at dksX5_acts_6 7 rfl rfl)
theorem dX5_acts_133 : decode cX5_acts 133 = .ok (.iconst 2, 1) := dk_5 (dk_at dksX5_acts_6 8 rfl rfl)
theorem dX5_acts_134 : decode cX5_acts 134 = .ok (.aload_n 0, 1) := dk_42 (dk_at dksX5_acts_6 9 rfl rfl)
theorem dX5_acts_135 : decode cX5_acts 135 = .ok (.iload_n 1, 1) := dk_27 (dk_at dksX5_acts_6 10 rfl rfl)
theorem dX5_acts_136 : decode cX5_acts 136 = .ok (.invokevirtual 151, 3) := dk_182 0 151 (dk_at dksX5_acts_6 11 rfl rfl)
theorem dX5_acts_139 : decode cX5_acts 139 = .ok (.invokevirtual 203, 3) := dk_182 0 203 (dk_at dksX5_acts_6 14 rfl rfl)
theorem dX5_acts_142 : decode cX5_acts 142 = .ok (.aload_n 0, 1) := dk_42 (dk_at dksX5_acts_6 17 rfl rfl)
theorem dX5_acts_143 : decode cX5_acts 143 = .ok (.iload_n 1, 1) := dk_27 (dk_at dksX5_acts_6 18 rfl rfl)
theorem dX5_acts_144 : decode cX5_acts 144 = .ok (.aload_n 0, 1) := dk_42 (dk_at dksX5_acts_6 19 rfl rfl)
theorem dX5_acts_145 : decode cX5_acts 145 = .ok (.getfield 52, 3) := dk_180 0 52 (dk_at dksX5_acts_6 20 rfl rfl)
theorem dX5_acts_148 : decode cX5_acts 148 = .ok (.iload_n 1, 1) := dk_27 (dk_at dksX5_acts_6 23 rfl rfl)
theorem dX5_acts_149 : decode cX5_acts 149 = .ok (.iaload, 1) := dk_46 (dk_at dksX5_acts_7 0 rfl rfl)
theorem dX5_acts_150 : decode cX5_acts 150 = .ok (.iconst 1, 1) := dk_4 (dk_at dksX5_acts_7 1 rfl rfl)
theorem dX5_acts_151 : decode cX5_acts 151 = .ok (.iadd, 1) := dk_96 (dk_at dksX5_acts_7 2 rfl rfl)
theorem dX5_acts_152 : decode cX5_acts 152 = .ok (.invokevirtual 199, 3) := dk_182 0 199 (dk_at dksX5_acts_7 3 rfl rfl)
theorem dX5_acts_155 : decode cX5_acts 155 = .ok (.goto 8, 3) := dk_167 0 8 (dk_at dksX5_acts_7 6 rfl rfl)
theorem dX5_acts_158 : decode cX5_acts 158 = .ok (.aload_n 0, 1) := dk_42 (dk_at dksX5_acts_7 9 rfl rfl)
theorem dX5_acts_159 : decode cX5_acts 159 = .ok (.iload_n 1, 1) := dk_27 (dk_at dksX5_acts_7 10 rfl rfl)
theorem dX5_acts_160 : decode cX5_acts 160 = .ok (.invokevirtual 233, 3) := dk_182 0 233 (dk_at dksX5_acts_7 11 rfl rfl)
theorem dX5_acts_163 : decode cX5_acts 163 = .ok (.return_, 1) := dk_177 (dk_at dksX5_acts_7 14 rfl rfl)
abbrev cX5_starts : ByteArray := prog_18_method_21_code
def yX5_starts : MethodName := ⟨RX5, "starts", "(I)V"⟩
def dkwX5_starts_7 : List UInt8 := [177]
abbrev dktX5_starts_7 : List UInt8 := dkwX5_starts_7 ++ []
def dkwX5_starts_6 : List UInt8 := [46, 92, 46, 4, 96, 79, 42, 27, 3, 182, 0, 199, 42, 27, 3, 42, 28, 3, 182, 0, 147, 182, 0, 203]
abbrev dktX5_starts_6 : List UInt8 := dkwX5_starts_6 ++ dktX5_starts_7
def dkwX5_starts_5 : List UInt8 := [46, 92, 46, 4, 96, 79, 42, 180, 0, 91, 28, 46, 155, 0, 18, 42, 180, 0, 25, 42, 180, 0, 91, 28]
abbrev dktX5_starts_5 : List UInt8 := dkwX5_starts_5 ++ dktX5_starts_6
def dkwX5_starts_4 : List UInt8 := [28, 42, 180, 0, 158, 79, 42, 180, 0, 88, 28, 46, 155, 0, 18, 42, 180, 0, 28, 42, 180, 0, 88, 28]
abbrev dktX5_starts_4 : List UInt8 := dkwX5_starts_4 ++ dktX5_starts_5
def dkwX5_starts_3 : List UInt8 := [132, 3, 1, 167, 255, 219, 42, 180, 0, 46, 27, 28, 79, 42, 180, 0, 94, 28, 4, 79, 42, 180, 0, 97]
abbrev dktX5_starts_3 : List UInt8 := dkwX5_starts_3 ++ dktX5_starts_4
def dkwX5_starts_2 : List UInt8 := [180, 0, 43, 16, 30, 27, 104, 29, 96, 42, 180, 0, 43, 16, 30, 27, 104, 29, 96, 4, 96, 46, 79]
abbrev dktX5_starts_2 : List UInt8 := dkwX5_starts_2 ++ dktX5_starts_3
def dkwX5_starts_1 : List UInt8 := [180, 0, 40, 27, 92, 46, 4, 100, 79, 3, 62, 29, 42, 180, 0, 40, 27, 46, 162, 0, 33, 42]
abbrev dktX5_starts_1 : List UInt8 := dkwX5_starts_1 ++ dktX5_starts_2
def dkwX5_starts_0 : List UInt8 := [42, 180, 0, 43, 16, 30, 27, 104, 46, 61, 42, 27, 28, 3, 4, 182, 0, 195, 154, 0, 4, 177, 42]
abbrev dktX5_starts_0 : List UInt8 := dkwX5_starts_0 ++ dktX5_starts_1
theorem dksX5_starts_0 : cX5_starts.data.toList.drop 0 = dktX5_starts_0 := by decide +kernel
theorem dksX5_starts_1 : cX5_starts.data.toList.drop 23 = dktX5_starts_1 := dk_seg dksX5_starts_0 23 rfl rfl
theorem dksX5_starts_2 : cX5_starts.data.toList.drop 45 = dktX5_starts_2 := dk_seg dksX5_starts_1 22 rfl rfl
theorem dksX5_starts_3 : cX5_starts.data.toList.drop 68 = dktX5_starts_3 := dk_seg dksX5_starts_2 23 rfl rfl
theorem dksX5_starts_4 : cX5_starts.data.toList.drop 92 = dktX5_starts_4 := dk_seg dksX5_starts_3 24 rfl rfl
theorem dksX5_starts_5 : cX5_starts.data.toList.drop 116 = dktX5_starts_5 := dk_seg dksX5_starts_4 24 rfl rfl
theorem dksX5_starts_6 : cX5_starts.data.toList.drop 140 = dktX5_starts_6 := dk_seg dksX5_starts_5 24 rfl rfl
theorem dksX5_starts_7 : cX5_starts.data.toList.drop 164 = dktX5_starts_7 := dk_seg dksX5_starts_6 24 rfl rfl
theorem dX5_starts_0 : decode cX5_starts 0 = .ok (.aload_n 0, 1) := dk_42 (dk_at dksX5_starts_0 0 rfl rfl)
theorem dX5_starts_1 : decode cX5_starts 1 = .ok (.getfield 43, 3) := dk_180 0 43 (dk_at dksX5_starts_0 1 rfl rfl)
theorem dX5_starts_4 : decode cX5_starts 4 = .ok (.bipush 30, 2) := dk_16 30 (dk_at dksX5_starts_0 4 rfl rfl)
theorem dX5_starts_6 : decode cX5_starts 6 = .ok (.iload_n 1, 1) := dk_27 (dk_at dksX5_starts_0 6 rfl rfl)
theorem dX5_starts_7 : decode cX5_starts 7 = .ok (.imul, 1) := dk_104 (dk_at dksX5_starts_0 7 rfl rfl)
theorem dX5_starts_8 : decode cX5_starts 8 = .ok (.iaload, 1) := dk_46 (dk_at dksX5_starts_0 8 rfl rfl)
theorem dX5_starts_9 : decode cX5_starts 9 = .ok (.istore_n 2, 1) := dk_61 (dk_at dksX5_starts_0 9 rfl rfl)
theorem dX5_starts_10 : decode cX5_starts 10 = .ok (.aload_n 0, 1) := dk_42 (dk_at dksX5_starts_0 10 rfl rfl)
theorem dX5_starts_11 : decode cX5_starts 11 = .ok (.iload_n 1, 1) := dk_27 (dk_at dksX5_starts_0 11 rfl rfl)
theorem dX5_starts_12 : decode cX5_starts 12 = .ok (.iload_n 2, 1) := dk_28 (dk_at dksX5_starts_0 12 rfl rfl)
theorem dX5_starts_13 : decode cX5_starts 13 = .ok (.iconst 0, 1) := dk_3 (dk_at dksX5_starts_0 13 rfl rfl)
theorem dX5_starts_14 : decode cX5_starts 14 = .ok (.iconst 1, 1) := dk_4 (dk_at dksX5_starts_0 14 rfl rfl)
theorem dX5_starts_15 : decode cX5_starts 15 = .ok (.invokevirtual 195, 3) := dk_182 0 195 (dk_at dksX5_starts_0 15 rfl rfl)
theorem dX5_starts_18 : decode cX5_starts 18 = .ok (.ifCond .ne 4, 3) := dk_154 0 4 (dk_at dksX5_starts_0 18 rfl rfl)
theorem dX5_starts_21 : decode cX5_starts 21 = .ok (.return_, 1) := dk_177 (dk_at dksX5_starts_0 21 rfl rfl)
theorem dX5_starts_22 : decode cX5_starts 22 = .ok (.aload_n 0, 1) := dk_42 (dk_at dksX5_starts_0 22 rfl rfl)
theorem dX5_starts_23 : decode cX5_starts 23 = .ok (.getfield 40, 3) := dk_180 0 40 (dk_at dksX5_starts_1 0 rfl rfl)
theorem dX5_starts_26 : decode cX5_starts 26 = .ok (.iload_n 1, 1) := dk_27 (dk_at dksX5_starts_1 3 rfl rfl)
theorem dX5_starts_27 : decode cX5_starts 27 = .ok (.dup2, 1) := dk_92 (dk_at dksX5_starts_1 4 rfl rfl)
theorem dX5_starts_28 : decode cX5_starts 28 = .ok (.iaload, 1) := dk_46 (dk_at dksX5_starts_1 5 rfl rfl)
theorem dX5_starts_29 : decode cX5_starts 29 = .ok (.iconst 1, 1) := dk_4 (dk_at dksX5_starts_1 6 rfl rfl)
theorem dX5_starts_30 : decode cX5_starts 30 = .ok (.isub, 1) := dk_100 (dk_at dksX5_starts_1 7 rfl rfl)
theorem dX5_starts_31 : decode cX5_starts 31 = .ok (.iastore, 1) := dk_79 (dk_at dksX5_starts_1 8 rfl rfl)
theorem dX5_starts_32 : decode cX5_starts 32 = .ok (.iconst 0, 1) := dk_3 (dk_at dksX5_starts_1 9 rfl rfl)
theorem dX5_starts_33 : decode cX5_starts 33 = .ok (.istore_n 3, 1) := dk_62 (dk_at dksX5_starts_1 10 rfl rfl)
theorem dX5_starts_34 : decode cX5_starts 34 = .ok (.iload_n 3, 1) := dk_29 (dk_at dksX5_starts_1 11 rfl rfl)
theorem dX5_starts_35 : decode cX5_starts 35 = .ok (.aload_n 0, 1) := dk_42 (dk_at dksX5_starts_1 12 rfl rfl)
theorem dX5_starts_36 : decode cX5_starts 36 = .ok (.getfield 40, 3) := dk_180 0 40 (dk_at dksX5_starts_1 13 rfl rfl)
theorem dX5_starts_39 : decode cX5_starts 39 = .ok (.iload_n 1, 1) := dk_27 (dk_at dksX5_starts_1 16 rfl rfl)
theorem dX5_starts_40 : decode cX5_starts 40 = .ok (.iaload, 1) := dk_46 (dk_at dksX5_starts_1 17 rfl rfl)
theorem dX5_starts_41 : decode cX5_starts 41 = .ok (.if_icmp .ge 33, 3) := dk_162 0 33 (dk_at dksX5_starts_1 18 rfl rfl)
theorem dX5_starts_44 : decode cX5_starts 44 = .ok (.aload_n 0, 1) := dk_42 (dk_at dksX5_starts_1 21 rfl rfl)
theorem dX5_starts_45 : decode cX5_starts 45 = .ok (.getfield 43, 3) := dk_180 0 43 (dk_at dksX5_starts_2 0 rfl rfl)
theorem dX5_starts_48 : decode cX5_starts 48 = .ok (.bipush 30, 2) := dk_16 30 (dk_at dksX5_starts_2 3 rfl rfl)
theorem dX5_starts_50 : decode cX5_starts 50 = .ok (.iload_n 1, 1) := dk_27 (dk_at dksX5_starts_2 5 rfl rfl)
theorem dX5_starts_51 : decode cX5_starts 51 = .ok (.imul, 1) := dk_104 (dk_at dksX5_starts_2 6 rfl rfl)
theorem dX5_starts_52 : decode cX5_starts 52 = .ok (.iload_n 3, 1) := dk_29 (dk_at dksX5_starts_2 7 rfl rfl)
theorem dX5_starts_53 : decode cX5_starts 53 = .ok (.iadd, 1) := dk_96 (dk_at dksX5_starts_2 8 rfl rfl)
theorem dX5_starts_54 : decode cX5_starts 54 = .ok (.aload_n 0, 1) := dk_42 (dk_at dksX5_starts_2 9 rfl rfl)
theorem dX5_starts_55 : decode cX5_starts 55 = .ok (.getfield 43, 3) := dk_180 0 43 (dk_at dksX5_starts_2 10 rfl rfl)
theorem dX5_starts_58 : decode cX5_starts 58 = .ok (.bipush 30, 2) := dk_16 30 (dk_at dksX5_starts_2 13 rfl rfl)
theorem dX5_starts_60 : decode cX5_starts 60 = .ok (.iload_n 1, 1) := dk_27 (dk_at dksX5_starts_2 15 rfl rfl)
theorem dX5_starts_61 : decode cX5_starts 61 = .ok (.imul, 1) := dk_104 (dk_at dksX5_starts_2 16 rfl rfl)
theorem dX5_starts_62 : decode cX5_starts 62 = .ok (.iload_n 3, 1) := dk_29 (dk_at dksX5_starts_2 17 rfl rfl)
theorem dX5_starts_63 : decode cX5_starts 63 = .ok (.iadd, 1) := dk_96 (dk_at dksX5_starts_2 18 rfl rfl)
theorem dX5_starts_64 : decode cX5_starts 64 = .ok (.iconst 1, 1) := dk_4 (dk_at dksX5_starts_2 19 rfl rfl)
theorem dX5_starts_65 : decode cX5_starts 65 = .ok (.iadd, 1) := dk_96 (dk_at dksX5_starts_2 20 rfl rfl)
theorem dX5_starts_66 : decode cX5_starts 66 = .ok (.iaload, 1) := dk_46 (dk_at dksX5_starts_2 21 rfl rfl)
theorem dX5_starts_67 : decode cX5_starts 67 = .ok (.iastore, 1) := dk_79 (dk_at dksX5_starts_2 22 rfl rfl)
theorem dX5_starts_68 : decode cX5_starts 68 = .ok (.iinc 3 1, 3) := dk_132 3 1 (dk_at dksX5_starts_3 0 rfl rfl)
theorem dX5_starts_71 : decode cX5_starts 71 = .ok (.goto (-37), 3) := dk_167 255 219 (dk_at dksX5_starts_3 3 rfl rfl)
theorem dX5_starts_74 : decode cX5_starts 74 = .ok (.aload_n 0, 1) := dk_42 (dk_at dksX5_starts_3 6 rfl rfl)
theorem dX5_starts_75 : decode cX5_starts 75 = .ok (.getfield 46, 3) := dk_180 0 46 (dk_at dksX5_starts_3 7 rfl rfl)
theorem dX5_starts_78 : decode cX5_starts 78 = .ok (.iload_n 1, 1) := dk_27 (dk_at dksX5_starts_3 10 rfl rfl)
theorem dX5_starts_79 : decode cX5_starts 79 = .ok (.iload_n 2, 1) := dk_28 (dk_at dksX5_starts_3 11 rfl rfl)
theorem dX5_starts_80 : decode cX5_starts 80 = .ok (.iastore, 1) := dk_79 (dk_at dksX5_starts_3 12 rfl rfl)
theorem dX5_starts_81 : decode cX5_starts 81 = .ok (.aload_n 0, 1) := dk_42 (dk_at dksX5_starts_3 13 rfl rfl)
theorem dX5_starts_82 : decode cX5_starts 82 = .ok (.getfield 94, 3) := dk_180 0 94 (dk_at dksX5_starts_3 14 rfl rfl)
theorem dX5_starts_85 : decode cX5_starts 85 = .ok (.iload_n 2, 1) := dk_28 (dk_at dksX5_starts_3 17 rfl rfl)
theorem dX5_starts_86 : decode cX5_starts 86 = .ok (.iconst 1, 1) := dk_4 (dk_at dksX5_starts_3 18 rfl rfl)
theorem dX5_starts_87 : decode cX5_starts 87 = .ok (.iastore, 1) := dk_79 (dk_at dksX5_starts_3 19 rfl rfl)
theorem dX5_starts_88 : decode cX5_starts 88 = .ok (.aload_n 0, 1) := dk_42 (dk_at dksX5_starts_3 20 rfl rfl)
theorem dX5_starts_89 : decode cX5_starts 89 = .ok (.getfield 97, 3) := dk_180 0 97 (dk_at dksX5_starts_3 21 rfl rfl)
theorem dX5_starts_92 : decode cX5_starts 92 = .ok (.iload_n 2, 1) := dk_28 (dk_at dksX5_starts_4 0 rfl rfl)
theorem dX5_starts_93 : decode cX5_starts 93 = .ok (.aload_n 0, 1) := dk_42 (dk_at dksX5_starts_4 1 rfl rfl)
theorem dX5_starts_94 : decode cX5_starts 94 = .ok (.getfield 158, 3) := dk_180 0 158 (dk_at dksX5_starts_4 2 rfl rfl)
theorem dX5_starts_97 : decode cX5_starts 97 = .ok (.iastore, 1) := dk_79 (dk_at dksX5_starts_4 5 rfl rfl)
theorem dX5_starts_98 : decode cX5_starts 98 = .ok (.aload_n 0, 1) := dk_42 (dk_at dksX5_starts_4 6 rfl rfl)
theorem dX5_starts_99 : decode cX5_starts 99 = .ok (.getfield 88, 3) := dk_180 0 88 (dk_at dksX5_starts_4 7 rfl rfl)
theorem dX5_starts_102 : decode cX5_starts 102 = .ok (.iload_n 2, 1) := dk_28 (dk_at dksX5_starts_4 10 rfl rfl)
theorem dX5_starts_103 : decode cX5_starts 103 = .ok (.iaload, 1) := dk_46 (dk_at dksX5_starts_4 11 rfl rfl)
theorem dX5_starts_104 : decode cX5_starts 104 = .ok (.ifCond .lt 18, 3) := dk_155 0 18 (dk_at dksX5_starts_4 12 rfl rfl)
theorem dX5_starts_107 : decode cX5_starts 107 = .ok (.aload_n 0, 1) := dk_42 (dk_at dksX5_starts_4 15 rfl rfl)
theorem dX5_starts_108 : decode cX5_starts 108 = .ok (.getfield 28, 3) := dk_180 0 28 (dk_at dksX5_starts_4 16 rfl rfl)
theorem dX5_starts_111 : decode cX5_starts 111 = .ok (.aload_n 0, 1) := dk_42 (dk_at dksX5_starts_4 19 rfl rfl)
theorem dX5_starts_112 : decode cX5_starts 112 = .ok (.getfield 88, 3) := dk_180 0 88 (dk_at dksX5_starts_4 20 rfl rfl)
theorem dX5_starts_115 : decode cX5_starts 115 = .ok (.iload_n 2, 1) := dk_28 (dk_at dksX5_starts_4 23 rfl rfl)
theorem dX5_starts_116 : decode cX5_starts 116 = .ok (.iaload, 1) := dk_46 (dk_at dksX5_starts_5 0 rfl rfl)
theorem dX5_starts_117 : decode cX5_starts 117 = .ok (.dup2, 1) := dk_92 (dk_at dksX5_starts_5 1 rfl rfl)
theorem dX5_starts_118 : decode cX5_starts 118 = .ok (.iaload, 1) := dk_46 (dk_at dksX5_starts_5 2 rfl rfl)
theorem dX5_starts_119 : decode cX5_starts 119 = .ok (.iconst 1, 1) := dk_4 (dk_at dksX5_starts_5 3 rfl rfl)
theorem dX5_starts_120 : decode cX5_starts 120 = .ok (.iadd, 1) := dk_96 (dk_at dksX5_starts_5 4 rfl rfl)
theorem dX5_starts_121 : decode cX5_starts 121 = .ok (.iastore, 1) := dk_79 (dk_at dksX5_starts_5 5 rfl rfl)
theorem dX5_starts_122 : decode cX5_starts 122 = .ok (.aload_n 0, 1) := dk_42 (dk_at dksX5_starts_5 6 rfl rfl)
theorem dX5_starts_123 : decode cX5_starts 123 = .ok (.getfield 91, 3) := dk_180 0 91 (dk_at dksX5_starts_5 7 rfl rfl)
theorem dX5_starts_126 : decode cX5_starts 126 = .ok (.iload_n 2, 1) := dk_28 (dk_at dksX5_starts_5 10 rfl rfl)
theorem dX5_starts_127 : decode cX5_starts 127 = .ok (.iaload, 1) := dk_46 (dk_at dksX5_starts_5 11 rfl rfl)
theorem dX5_starts_128 : decode cX5_starts 128 = .ok (.ifCond .lt 18, 3) := dk_155 0 18 (dk_at dksX5_starts_5 12 rfl rfl)
theorem dX5_starts_131 : decode cX5_starts 131 = .ok (.aload_n 0, 1) := dk_42 (dk_at dksX5_starts_5 15 rfl rfl)
theorem dX5_starts_132 : decode cX5_starts 132 = .ok (.getfield 25, 3) := dk_180 0 25 (dk_at dksX5_starts_5 16 rfl rfl)
theorem dX5_starts_135 : decode cX5_starts 135 = .ok (.aload_n 0, 1) := dk_42 (dk_at dksX5_starts_5 19 rfl rfl)
theorem dX5_starts_136 : decode cX5_starts 136 = .ok (.getfield 91, 3) := dk_180 0 91 (dk_at dksX5_starts_5 20 rfl rfl)
theorem dX5_starts_139 : decode cX5_starts 139 = .ok (.iload_n 2, 1) := dk_28 (dk_at dksX5_starts_5 23 rfl rfl)
theorem dX5_starts_140 : decode cX5_starts 140 = .ok (.iaload, 1) := dk_46 (dk_at dksX5_starts_6 0 rfl rfl)
theorem dX5_starts_141 : decode cX5_starts 141 = .ok (.dup2, 1) := dk_92 (dk_at dksX5_starts_6 1 rfl rfl)
theorem dX5_starts_142 : decode cX5_starts 142 = .ok (.iaload, 1) := dk_46 (dk_at dksX5_starts_6 2 rfl rfl)
theorem dX5_starts_143 : decode cX5_starts 143 = .ok (.iconst 1, 1) := dk_4 (dk_at dksX5_starts_6 3 rfl rfl)
theorem dX5_starts_144 : decode cX5_starts 144 = .ok (.iadd, 1) := dk_96 (dk_at dksX5_starts_6 4 rfl rfl)
theorem dX5_starts_145 : decode cX5_starts 145 = .ok (.iastore, 1) := dk_79 (dk_at dksX5_starts_6 5 rfl rfl)
theorem dX5_starts_146 : decode cX5_starts 146 = .ok (.aload_n 0, 1) := dk_42 (dk_at dksX5_starts_6 6 rfl rfl)
theorem dX5_starts_147 : decode cX5_starts 147 = .ok (.iload_n 1, 1) := dk_27 (dk_at dksX5_starts_6 7 rfl rfl)
theorem dX5_starts_148 : decode cX5_starts 148 = .ok (.iconst 0, 1) := dk_3 (dk_at dksX5_starts_6 8 rfl rfl)
theorem dX5_starts_149 : decode cX5_starts 149 = .ok (.invokevirtual 199, 3) := dk_182 0 199 (dk_at dksX5_starts_6 9 rfl rfl)
theorem dX5_starts_152 : decode cX5_starts 152 = .ok (.aload_n 0, 1) := dk_42 (dk_at dksX5_starts_6 12 rfl rfl)
theorem dX5_starts_153 : decode cX5_starts 153 = .ok (.iload_n 1, 1) := dk_27 (dk_at dksX5_starts_6 13 rfl rfl)
theorem dX5_starts_154 : decode cX5_starts 154 = .ok (.iconst 0, 1) := dk_3 (dk_at dksX5_starts_6 14 rfl rfl)
theorem dX5_starts_155 : decode cX5_starts 155 = .ok (.aload_n 0, 1) := dk_42 (dk_at dksX5_starts_6 15 rfl rfl)
theorem dX5_starts_156 : decode cX5_starts 156 = .ok (.iload_n 2, 1) := dk_28 (dk_at dksX5_starts_6 16 rfl rfl)
theorem dX5_starts_157 : decode cX5_starts 157 = .ok (.iconst 0, 1) := dk_3 (dk_at dksX5_starts_6 17 rfl rfl)
theorem dX5_starts_158 : decode cX5_starts 158 = .ok (.invokevirtual 147, 3) := dk_182 0 147 (dk_at dksX5_starts_6 18 rfl rfl)
theorem dX5_starts_161 : decode cX5_starts 161 = .ok (.invokevirtual 203, 3) := dk_182 0 203 (dk_at dksX5_starts_6 21 rfl rfl)
theorem dX5_starts_164 : decode cX5_starts 164 = .ok (.return_, 1) := dk_177 (dk_at dksX5_starts_7 0 rfl rfl)
abbrev cX5_isGranted : ByteArray := prog_18_method_20_code
def yX5_isGranted : MethodName := ⟨RX5, "isGranted", "(IIIZ)Z"⟩
def dkwX5_isGranted_2 : List UInt8 := [181, 0, 191, 3, 172]
abbrev dktX5_isGranted_2 : List UInt8 := dkwX5_isGranted_2 ++ []
def dkwX5_isGranted_1 : List UInt8 := [42, 180, 0, 64, 27, 42, 180, 0, 174, 79, 42, 180, 0, 67, 27, 92, 46, 4, 96, 79, 42, 4]
abbrev dktX5_isGranted_1 : List UInt8 := dkwX5_isGranted_1 ++ dktX5_isGranted_2
def dkwX5_isGranted_0 : List UInt8 := [42, 27, 28, 29, 21, 4, 182, 0, 187, 154, 0, 5, 4, 172, 42, 180, 0, 61, 27, 42, 180, 0, 171, 79]
abbrev dktX5_isGranted_0 : List UInt8 := dkwX5_isGranted_0 ++ dktX5_isGranted_1
theorem dksX5_isGranted_0 : cX5_isGranted.data.toList.drop 0 = dktX5_isGranted_0 := by decide +kernel
theorem dksX5_isGranted_1 : cX5_isGranted.data.toList.drop 24 = dktX5_isGranted_1 := dk_seg dksX5_isGranted_0 24 rfl rfl
theorem dksX5_isGranted_2 : cX5_isGranted.data.toList.drop 46 = dktX5_isGranted_2 := dk_seg dksX5_isGranted_1 22 rfl rfl
theorem dX5_isGranted_0 : decode cX5_isGranted 0 = .ok (.aload_n 0, 1) := dk_42 (dk_at dksX5_isGranted_0 0 rfl rfl)
theorem dX5_isGranted_1 : decode cX5_isGranted 1 = .ok (.iload_n 1, 1) := dk_27 (dk_at dksX5_isGranted_0 1 rfl rfl)
theorem dX5_isGranted_2 : decode cX5_isGranted 2 = .ok (.iload_n 2, 1) := dk_28 (dk_at dksX5_isGranted_0 2 rfl rfl)
theorem dX5_isGranted_3 : decode cX5_isGranted 3 = .ok (.iload_n 3, 1) := dk_29 (dk_at dksX5_isGranted_0 3 rfl rfl)
theorem dX5_isGranted_4 : decode cX5_isGranted 4 = .ok (.iload 4, 2) := dk_21 4 (dk_at dksX5_isGranted_0 4 rfl rfl)
theorem dX5_isGranted_6 : decode cX5_isGranted 6 = .ok (.invokevirtual 187, 3) := dk_182 0 187 (dk_at dksX5_isGranted_0 6 rfl rfl)
theorem dX5_isGranted_9 : decode cX5_isGranted 9 = .ok (.ifCond .ne 5, 3) := dk_154 0 5 (dk_at dksX5_isGranted_0 9 rfl rfl)
theorem dX5_isGranted_12 : decode cX5_isGranted 12 = .ok (.iconst 1, 1) := dk_4 (dk_at dksX5_isGranted_0 12 rfl rfl)
theorem dX5_isGranted_13 : decode cX5_isGranted 13 = .ok (.ireturn, 1) := dk_172 (dk_at dksX5_isGranted_0 13 rfl rfl)
theorem dX5_isGranted_14 : decode cX5_isGranted 14 = .ok (.aload_n 0, 1) := dk_42 (dk_at dksX5_isGranted_0 14 rfl rfl)
theorem dX5_isGranted_15 : decode cX5_isGranted 15 = .ok (.getfield 61, 3) := dk_180 0 61 (dk_at dksX5_isGranted_0 15 rfl rfl)
theorem dX5_isGranted_18 : decode cX5_isGranted 18 = .ok (.iload_n 1, 1) := dk_27 (dk_at dksX5_isGranted_0 18 rfl rfl)
theorem dX5_isGranted_19 : decode cX5_isGranted 19 = .ok (.aload_n 0, 1) := dk_42 (dk_at dksX5_isGranted_0 19 rfl rfl)
theorem dX5_isGranted_20 : decode cX5_isGranted 20 = .ok (.getfield 171, 3) := dk_180 0 171 (dk_at dksX5_isGranted_0 20 rfl rfl)
theorem dX5_isGranted_23 : decode cX5_isGranted 23 = .ok (.iastore, 1) := dk_79 (dk_at dksX5_isGranted_0 23 rfl rfl)
theorem dX5_isGranted_24 : decode cX5_isGranted 24 = .ok (.aload_n 0, 1) := dk_42 (dk_at dksX5_isGranted_1 0 rfl rfl)
theorem dX5_isGranted_25 : decode cX5_isGranted 25 = .ok (.getfield 64, 3) := dk_180 0 64 (dk_at dksX5_isGranted_1 1 rfl rfl)
theorem dX5_isGranted_28 : decode cX5_isGranted 28 = .ok (.iload_n 1, 1) := dk_27 (dk_at dksX5_isGranted_1 4 rfl rfl)
theorem dX5_isGranted_29 : decode cX5_isGranted 29 = .ok (.aload_n 0, 1) := dk_42 (dk_at dksX5_isGranted_1 5 rfl rfl)
theorem dX5_isGranted_30 : decode cX5_isGranted 30 = .ok (.getfield 174, 3) := dk_180 0 174 (dk_at dksX5_isGranted_1 6 rfl rfl)
theorem dX5_isGranted_33 : decode cX5_isGranted 33 = .ok (.iastore, 1) := dk_79 (dk_at dksX5_isGranted_1 9 rfl rfl)
theorem dX5_isGranted_34 : decode cX5_isGranted 34 = .ok (.aload_n 0, 1) := dk_42 (dk_at dksX5_isGranted_1 10 rfl rfl)
theorem dX5_isGranted_35 : decode cX5_isGranted 35 = .ok (.getfield 67, 3) := dk_180 0 67 (dk_at dksX5_isGranted_1 11 rfl rfl)
theorem dX5_isGranted_38 : decode cX5_isGranted 38 = .ok (.iload_n 1, 1) := dk_27 (dk_at dksX5_isGranted_1 14 rfl rfl)
theorem dX5_isGranted_39 : decode cX5_isGranted 39 = .ok (.dup2, 1) := dk_92 (dk_at dksX5_isGranted_1 15 rfl rfl)
theorem dX5_isGranted_40 : decode cX5_isGranted 40 = .ok (.iaload, 1) := dk_46 (dk_at dksX5_isGranted_1 16 rfl rfl)
theorem dX5_isGranted_41 : decode cX5_isGranted 41 = .ok (.iconst 1, 1) := dk_4 (dk_at dksX5_isGranted_1 17 rfl rfl)
theorem dX5_isGranted_42 : decode cX5_isGranted 42 = .ok (.iadd, 1) := dk_96 (dk_at dksX5_isGranted_1 18 rfl rfl)
theorem dX5_isGranted_43 : decode cX5_isGranted 43 = .ok (.iastore, 1) := dk_79 (dk_at dksX5_isGranted_1 19 rfl rfl)
theorem dX5_isGranted_44 : decode cX5_isGranted 44 = .ok (.aload_n 0, 1) := dk_42 (dk_at dksX5_isGranted_1 20 rfl rfl)
theorem dX5_isGranted_45 : decode cX5_isGranted 45 = .ok (.iconst 1, 1) := dk_4 (dk_at dksX5_isGranted_1 21 rfl rfl)
theorem dX5_isGranted_46 : decode cX5_isGranted 46 = .ok (.putfield 191, 3) := dk_181 0 191 (dk_at dksX5_isGranted_2 0 rfl rfl)
theorem dX5_isGranted_49 : decode cX5_isGranted 49 = .ok (.iconst 0, 1) := dk_3 (dk_at dksX5_isGranted_2 3 rfl rfl)
theorem dX5_isGranted_50 : decode cX5_isGranted 50 = .ok (.ireturn, 1) := dk_172 (dk_at dksX5_isGranted_2 4 rfl rfl)
abbrev cX5_answers : ByteArray := prog_18_method_19_code
def yX5_answers : MethodName := ⟨RX5, "answers", "(IIIZ)I"⟩
def dkwX5_answers_8 : List UInt8 := [156, 0, 12, 42, 3, 2, 182, 0, 177, 167, 0, 10, 42, 7, 21, 8, 182, 0, 177, 172]
abbrev dktX5_answers_8 : List UInt8 := dkwX5_answers_8 ++ []
def dkwX5_answers_7 : List UInt8 := [180, 0, 109, 27, 28, 79, 42, 180, 0, 112, 27, 29, 4, 96, 79, 42, 182, 0, 183, 54, 8, 21, 8]
abbrev dktX5_answers_7 : List UInt8 := dkwX5_answers_7 ++ dktX5_answers_8
def dkwX5_answers_6 : List UInt8 := [132, 8, 1, 167, 255, 217, 42, 182, 0, 180, 42, 180, 0, 106, 27, 92, 46, 4, 21, 7, 120, 128, 79, 42]
abbrev dktX5_answers_6 : List UInt8 := dkwX5_answers_6 ++ dktX5_answers_7
def dkwX5_answers_5 : List UInt8 := [42, 21, 8, 182, 0, 161, 42, 21, 7, 182, 0, 164, 126, 153, 0, 11, 42, 6, 21, 8, 182, 0, 177, 172]
abbrev dktX5_answers_5 : List UInt8 := dkwX5_answers_5 ++ dktX5_answers_6
def dkwX5_answers_4 : List UInt8 := [172, 42, 28, 29, 182, 0, 147, 54, 7, 3, 54, 8, 21, 8, 6, 162, 0, 39, 21, 8, 27, 159, 0, 27]
abbrev dktX5_answers_4 : List UInt8 := dkwX5_answers_4 ++ dktX5_answers_5
def dkwX5_answers_3 : List UInt8 := [180, 0, 25, 21, 6, 46, 96, 42, 180, 0, 16, 21, 6, 46, 161, 0, 11, 42, 5, 21, 6, 182, 0, 177]
abbrev dktX5_answers_3 : List UInt8 := dkwX5_answers_3 ++ dktX5_answers_4
def dkwX5_answers_2 : List UInt8 := [182, 0, 177, 172, 21, 4, 153, 0, 41, 21, 6, 155, 0, 36, 42, 180, 0, 19, 21, 6, 46, 42]
abbrev dktX5_answers_2 : List UInt8 := dkwX5_answers_2 ++ dktX5_answers_3
def dkwX5_answers_1 : List UInt8 := [155, 0, 28, 42, 180, 0, 19, 21, 5, 46, 42, 180, 0, 28, 21, 5, 46, 163, 0, 11, 42, 4, 21, 5]
abbrev dktX5_answers_1 : List UInt8 := dkwX5_answers_1 ++ dktX5_answers_2
def dkwX5_answers_0 : List UInt8 := [42, 180, 0, 88, 28, 46, 54, 5, 42, 180, 0, 91, 28, 46, 54, 6, 21, 4, 153, 0, 33, 21, 5]
abbrev dktX5_answers_0 : List UInt8 := dkwX5_answers_0 ++ dktX5_answers_1
theorem dksX5_answers_0 : cX5_answers.data.toList.drop 0 = dktX5_answers_0 := by decide +kernel
theorem dksX5_answers_1 : cX5_answers.data.toList.drop 23 = dktX5_answers_1 := dk_seg dksX5_answers_0 23 rfl rfl
theorem dksX5_answers_2 : cX5_answers.data.toList.drop 47 = dktX5_answers_2 := dk_seg dksX5_answers_1 24 rfl rfl
theorem dksX5_answers_3 : cX5_answers.data.toList.drop 69 = dktX5_answers_3 := dk_seg dksX5_answers_2 22 rfl rfl
theorem dksX5_answers_4 : cX5_answers.data.toList.drop 93 = dktX5_answers_4 := dk_seg dksX5_answers_3 24 rfl rfl
theorem dksX5_answers_5 : cX5_answers.data.toList.drop 117 = dktX5_answers_5 := dk_seg dksX5_answers_4 24 rfl rfl
theorem dksX5_answers_6 : cX5_answers.data.toList.drop 141 = dktX5_answers_6 := dk_seg dksX5_answers_5 24 rfl rfl
theorem dksX5_answers_7 : cX5_answers.data.toList.drop 165 = dktX5_answers_7 := dk_seg dksX5_answers_6 24 rfl rfl
theorem dksX5_answers_8 : cX5_answers.data.toList.drop 188 = dktX5_answers_8 := dk_seg dksX5_answers_7 23 rfl rfl
theorem dX5_answers_0 : decode cX5_answers 0 = .ok (.aload_n 0, 1) := dk_42 (dk_at dksX5_answers_0 0 rfl rfl)
theorem dX5_answers_1 : decode cX5_answers 1 = .ok (.getfield 88, 3) := dk_180 0 88 (dk_at dksX5_answers_0 1 rfl rfl)
theorem dX5_answers_4 : decode cX5_answers 4 = .ok (.iload_n 2, 1) := dk_28 (dk_at dksX5_answers_0 4 rfl rfl)
theorem dX5_answers_5 : decode cX5_answers 5 = .ok (.iaload, 1) := dk_46 (dk_at dksX5_answers_0 5 rfl rfl)
theorem dX5_answers_6 : decode cX5_answers 6 = .ok (.istore 5, 2) := dk_54 5 (dk_at dksX5_answers_0 6 rfl rfl)
theorem dX5_answers_8 : decode cX5_answers 8 = .ok (.aload_n 0, 1) := dk_42 (dk_at dksX5_answers_0 8 rfl rfl)
theorem dX5_answers_9 : decode cX5_answers 9 = .ok (.getfield 91, 3) := dk_180 0 91 (dk_at dksX5_answers_0 9 rfl rfl)
theorem dX5_answers_12 : decode cX5_answers 12 = .ok (.iload_n 2, 1) := dk_28 (dk_at dksX5_answers_0 12 rfl rfl)
theorem dX5_answers_13 : decode cX5_answers 13 = .ok (.iaload, 1) := dk_46 (dk_at dksX5_answers_0 13 rfl rfl)
theorem dX5_answers_14 : decode cX5_answers 14 = .ok (.istore 6, 2) := dk_54 6 (dk_at dksX5_answers_0 14 rfl rfl)
theorem dX5_answers_16 : decode cX5_answers 16 = .ok (.iload 4, 2) := dk_21 4 (dk_at dksX5_answers_0 16 rfl rfl)
theorem dX5_answers_18 : decode cX5_answers 18 = .ok (.ifCond .eq 33, 3) := dk_153 0 33 (dk_at dksX5_answers_0 18 rfl rfl)
theorem dX5_answers_21 : decode cX5_answers 21 = .ok (.iload 5, 2) := dk_21 5 (dk_at dksX5_answers_0 21 rfl rfl)
theorem dX5_answers_23 : decode cX5_answers 23 = .ok (.ifCond .lt 28, 3) := dk_155 0 28 (dk_at dksX5_answers_1 0 rfl rfl)
theorem dX5_answers_26 : decode cX5_answers 26 = .ok (.aload_n 0, 1) := dk_42 (dk_at dksX5_answers_1 3 rfl rfl)
theorem dX5_answers_27 : decode cX5_answers 27 = .ok (.getfield 19, 3) := dk_180 0 19 (dk_at dksX5_answers_1 4 rfl rfl)
theorem dX5_answers_30 : decode cX5_answers 30 = .ok (.iload 5, 2) := dk_21 5 (dk_at dksX5_answers_1 7 rfl rfl)
theorem dX5_answers_32 : decode cX5_answers 32 = .ok (.iaload, 1) := dk_46 (dk_at dksX5_answers_1 9 rfl rfl)
theorem dX5_answers_33 : decode cX5_answers 33 = .ok (.aload_n 0, 1) := dk_42 (dk_at dksX5_answers_1 10 rfl rfl)
theorem dX5_answers_34 : decode cX5_answers 34 = .ok (.getfield 28, 3) := dk_180 0 28 (dk_at dksX5_answers_1 11 rfl rfl)
theorem dX5_answers_37 : decode cX5_answers 37 = .ok (.iload 5, 2) := dk_21 5 (dk_at dksX5_answers_1 14 rfl rfl)
theorem dX5_answers_39 : decode cX5_answers 39 = .ok (.iaload, 1) := dk_46 (dk_at dksX5_answers_1 16 rfl rfl)
theorem dX5_answers_40 : decode cX5_answers 40 = .ok (.if_icmp .gt 11, 3) := dk_163 0 11 (dk_at dksX5_answers_1 17 rfl rfl)
theorem dX5_answers_43 : decode cX5_answers 43 = .ok (.aload_n 0, 1) := dk_42 (dk_at dksX5_answers_1 20 rfl rfl)
theorem dX5_answers_44 : decode cX5_answers 44 = .ok (.iconst 1, 1) := dk_4 (dk_at dksX5_answers_1 21 rfl rfl)
theorem dX5_answers_45 : decode cX5_answers 45 = .ok (.iload 5, 2) := dk_21 5 (dk_at dksX5_answers_1 22 rfl rfl)
theorem dX5_answers_47 : decode cX5_answers 47 = .ok (.invokevirtual 177, 3) := dk_182 0 177 (dk_at dksX5_answers_2 0 rfl rfl)
theorem dX5_answers_50 : decode cX5_answers 50 = .ok (.ireturn, 1) := dk_172 (dk_at dksX5_answers_2 3 rfl rfl)
theorem dX5_answers_51 : decode cX5_answers 51 = .ok (.iload 4, 2) := dk_21 4 (dk_at dksX5_answers_2 4 rfl rfl)
theorem dX5_answers_53 : decode cX5_answers 53 = .ok (.ifCond .eq 41, 3) := dk_153 0 41 (dk_at dksX5_answers_2 6 rfl rfl)
theorem dX5_answers_56 : decode cX5_answers 56 = .ok (.iload 6, 2) := dk_21 6 (dk_at dksX5_answers_2 9 rfl rfl)
theorem dX5_answers_58 : decode cX5_answers 58 = .ok (.ifCond .lt 36, 3) := dk_155 0 36 (dk_at dksX5_answers_2 11 rfl rfl)
theorem dX5_answers_61 : decode cX5_answers 61 = .ok (.aload_n 0, 1) := dk_42 (dk_at dksX5_answers_2 14 rfl rfl)
theorem dX5_answers_62 : decode cX5_answers 62 = .ok (.getfield 19, 3) := dk_180 0 19 (dk_at dksX5_answers_2 15 rfl rfl)
theorem dX5_answers_65 : decode cX5_answers 65 = .ok (.iload 6, 2) := dk_21 6 (dk_at dksX5_answers_2 18 rfl rfl)
theorem dX5_answers_67 : decode cX5_answers 67 = .ok (.iaload, 1) := dk_46 (dk_at dksX5_answers_2 20 rfl rfl)
theorem dX5_answers_68 : decode cX5_answers 68 = .ok (.aload_n 0, 1) := dk_42 (dk_at dksX5_answers_2 21 rfl rfl)
theorem dX5_answers_69 : decode cX5_answers 69 = .ok (.getfield 25, 3) := dk_180 0 25 (dk_at dksX5_answers_3 0 rfl rfl)
theorem dX5_answers_72 : decode cX5_answers 72 = .ok (.iload 6, 2) := dk_21 6 (dk_at dksX5_answers_3 3 rfl rfl)
theorem dX5_answers_74 : decode cX5_answers 74 = .ok (.iaload, 1) := dk_46 (dk_at dksX5_answers_3 5 rfl rfl)
theorem dX5_answers_75 : decode cX5_answers 75 = .ok (.iadd, 1) := dk_96 (dk_at dksX5_answers_3 6 rfl rfl)
theorem dX5_answers_76 : decode cX5_answers 76 = .ok (.aload_n 0, 1) := dk_42 (dk_at dksX5_answers_3 7 rfl rfl)
theorem dX5_answers_77 : decode cX5_answers 77 = .ok (.getfield 16, 3) := dk_180 0 16 (dk_at dksX5_answers_3 8 rfl rfl)
theorem dX5_answers_80 : decode cX5_answers 80 = .ok (.iload 6, 2) := dk_21 6 (dk_at dksX5_answers_3 11 rfl rfl)
theorem dX5_answers_82 : decode cX5_answers 82 = .ok (.iaload, 1) := dk_46 (dk_at dksX5_answers_3 13 rfl rfl)
theorem dX5_answers_83 : decode cX5_answers 83 = .ok (.if_icmp .lt 11, 3) := dk_161 0 11 (dk_at dksX5_answers_3 14 rfl rfl)
theorem dX5_answers_86 : decode cX5_answers 86 = .ok (.aload_n 0, 1) := dk_42 (dk_at dksX5_answers_3 17 rfl rfl)
theorem dX5_answers_87 : decode cX5_answers 87 = .ok (.iconst 2, 1) := dk_5 (dk_at dksX5_answers_3 18 rfl rfl)
theorem dX5_answers_88 : decode cX5_answers 88 = .ok (.iload 6, 2) := dk_21 6 (dk_at dksX5_answers_3 19 rfl rfl)
theorem dX5_answers_90 : decode cX5_answers 90 = .ok (.invokevirtual 177, 3) := dk_182 0 177 (dk_at dksX5_answers_3 21 rfl rfl)
theorem dX5_answers_93 : decode cX5_answers 93 = .ok (.ireturn, 1) := dk_172 (dk_at dksX5_answers_4 0 rfl rfl)
theorem dX5_answers_94 : decode cX5_answers 94 = .ok (.aload_n 0, 1) := dk_42 (dk_at dksX5_answers_4 1 rfl rfl)
theorem dX5_answers_95 : decode cX5_answers 95 = .ok (.iload_n 2, 1) := dk_28 (dk_at dksX5_answers_4 2 rfl rfl)
theorem dX5_answers_96 : decode cX5_answers 96 = .ok (.iload_n 3, 1) := dk_29 (dk_at dksX5_answers_4 3 rfl rfl)
theorem dX5_answers_97 : decode cX5_answers 97 = .ok (.invokevirtual 147, 3) := dk_182 0 147 (dk_at dksX5_answers_4 4 rfl rfl)
theorem dX5_answers_100 : decode cX5_answers 100 = .ok (.istore 7, 2) := dk_54 7 (dk_at dksX5_answers_4 7 rfl rfl)
theorem dX5_answers_102 : decode cX5_answers 102 = .ok (.iconst 0, 1) := dk_3 (dk_at dksX5_answers_4 9 rfl rfl)
theorem dX5_answers_103 : decode cX5_answers 103 = .ok (.istore 8, 2) := dk_54 8 (dk_at dksX5_answers_4 10 rfl rfl)
theorem dX5_answers_105 : decode cX5_answers 105 = .ok (.iload 8, 2) := dk_21 8 (dk_at dksX5_answers_4 12 rfl rfl)
theorem dX5_answers_107 : decode cX5_answers 107 = .ok (.iconst 3, 1) := dk_6 (dk_at dksX5_answers_4 14 rfl rfl)
theorem dX5_answers_108 : decode cX5_answers 108 = .ok (.if_icmp .ge 39, 3) := dk_162 0 39 (dk_at dksX5_answers_4 15 rfl rfl)
theorem dX5_answers_111 : decode cX5_answers 111 = .ok (.iload 8, 2) := dk_21 8 (dk_at dksX5_answers_4 18 rfl rfl)
theorem dX5_answers_113 : decode cX5_answers 113 = .ok (.iload_n 1, 1) := dk_27 (dk_at dksX5_answers_4 20 rfl rfl)
theorem dX5_answers_114 : decode cX5_answers 114 = .ok (.if_icmp .eq 27, 3) := dk_159 0 27 (dk_at dksX5_answers_4 21 rfl rfl)
theorem dX5_answers_117 : decode cX5_answers 117 = .ok (.aload_n 0, 1) := dk_42 (dk_at dksX5_answers_5 0 rfl rfl)
theorem dX5_answers_118 : decode cX5_answers 118 = .ok (.iload 8, 2) := dk_21 8 (dk_at dksX5_answers_5 1 rfl rfl)
theorem dX5_answers_120 : decode cX5_answers 120 = .ok (.invokevirtual 161, 3) := dk_182 0 161 (dk_at dksX5_answers_5 3 rfl rfl)
theorem dX5_answers_123 : decode cX5_answers 123 = .ok (.aload_n 0, 1) := dk_42 (dk_at dksX5_answers_5 6 rfl rfl)
theorem dX5_answers_124 : decode cX5_answers 124 = .ok (.iload 7, 2) := dk_21 7 (dk_at dksX5_answers_5 7 rfl rfl)
theorem dX5_answers_126 : decode cX5_answers 126 = .ok (.invokevirtual 164, 3) := dk_182 0 164 (dk_at dksX5_answers_5 9 rfl rfl)
theorem dX5_answers_129 : decode cX5_answers 129 = .ok (.iand, 1) := dk_126 (dk_at dksX5_answers_5 12 rfl rfl)
theorem dX5_answers_130 : decode cX5_answers 130 = .ok (.ifCond .eq 11, 3) := dk_153 0 11 (dk_at dksX5_answers_5 13 rfl rfl)
theorem dX5_answers_133 : decode cX5_answers 133 = .ok (.aload_n 0, 1) := dk_42 (dk_at dksX5_answers_5 16 rfl rfl)
theorem dX5_answers_134 : decode cX5_answers 134 = .ok (.iconst 3, 1) := dk_6 (dk_at dksX5_answers_5 17 rfl rfl)
theorem dX5_answers_135 : decode cX5_answers 135 = .ok (.iload 8, 2) := dk_21 8 (dk_at dksX5_answers_5 18 rfl rfl)
theorem dX5_answers_137 : decode cX5_answers 137 = .ok (.invokevirtual 177, 3) := dk_182 0 177 (dk_at dksX5_answers_5 20 rfl rfl)
theorem dX5_answers_140 : decode cX5_answers 140 = .ok (.ireturn, 1) := dk_172 (dk_at dksX5_answers_5 23 rfl rfl)
theorem dX5_answers_141 : decode cX5_answers 141 = .ok (.iinc 8 1, 3) := dk_132 8 1 (dk_at dksX5_answers_6 0 rfl rfl)
theorem dX5_answers_144 : decode cX5_answers 144 = .ok (.goto (-39), 3) := dk_167 255 217 (dk_at dksX5_answers_6 3 rfl rfl)
theorem dX5_answers_147 : decode cX5_answers 147 = .ok (.aload_n 0, 1) := dk_42 (dk_at dksX5_answers_6 6 rfl rfl)
theorem dX5_answers_148 : decode cX5_answers 148 = .ok (.invokevirtual 180, 3) := dk_182 0 180 (dk_at dksX5_answers_6 7 rfl rfl)
theorem dX5_answers_151 : decode cX5_answers 151 = .ok (.aload_n 0, 1) := dk_42 (dk_at dksX5_answers_6 10 rfl rfl)
theorem dX5_answers_152 : decode cX5_answers 152 = .ok (.getfield 106, 3) := dk_180 0 106 (dk_at dksX5_answers_6 11 rfl rfl)
theorem dX5_answers_155 : decode cX5_answers 155 = .ok (.iload_n 1, 1) := dk_27 (dk_at dksX5_answers_6 14 rfl rfl)
theorem dX5_answers_156 : decode cX5_answers 156 = .ok (.dup2, 1) := dk_92 (dk_at dksX5_answers_6 15 rfl rfl)
theorem dX5_answers_157 : decode cX5_answers 157 = .ok (.iaload, 1) := dk_46 (dk_at dksX5_answers_6 16 rfl rfl)
theorem dX5_answers_158 : decode cX5_answers 158 = .ok (.iconst 1, 1) := dk_4 (dk_at dksX5_answers_6 17 rfl rfl)
theorem dX5_answers_159 : decode cX5_answers 159 = .ok (.iload 7, 2) := dk_21 7 (dk_at dksX5_answers_6 18 rfl rfl)
theorem dX5_answers_161 : decode cX5_answers 161 = .ok (.ishl, 1) := dk_120 (dk_at dksX5_answers_6 20 rfl rfl)
theorem dX5_answers_162 : decode cX5_answers 162 = .ok (.ior, 1) := dk_128 (dk_at dksX5_answers_6 21 rfl rfl)
theorem dX5_answers_163 : decode cX5_answers 163 = .ok (.iastore, 1) := dk_79 (dk_at dksX5_answers_6 22 rfl rfl)
theorem dX5_answers_164 : decode cX5_answers 164 = .ok (.aload_n 0, 1) := dk_42 (dk_at dksX5_answers_6 23 rfl rfl)
theorem dX5_answers_165 : decode cX5_answers 165 = .ok (.getfield 109, 3) := dk_180 0 109 (dk_at dksX5_answers_7 0 rfl rfl)
theorem dX5_answers_168 : decode cX5_answers 168 = .ok (.iload_n 1, 1) := dk_27 (dk_at dksX5_answers_7 3 rfl rfl)
theorem dX5_answers_169 : decode cX5_answers 169 = .ok (.iload_n 2, 1) := dk_28 (dk_at dksX5_answers_7 4 rfl rfl)
theorem dX5_answers_170 : decode cX5_answers 170 = .ok (.iastore, 1) := dk_79 (dk_at dksX5_answers_7 5 rfl rfl)
theorem dX5_answers_171 : decode cX5_answers 171 = .ok (.aload_n 0, 1) := dk_42 (dk_at dksX5_answers_7 6 rfl rfl)
theorem dX5_answers_172 : decode cX5_answers 172 = .ok (.getfield 112, 3) := dk_180 0 112 (dk_at dksX5_answers_7 7 rfl rfl)
theorem dX5_answers_175 : decode cX5_answers 175 = .ok (.iload_n 1, 1) := dk_27 (dk_at dksX5_answers_7 10 rfl rfl)
theorem dX5_answers_176 : decode cX5_answers 176 = .ok (.iload_n 3, 1) := dk_29 (dk_at dksX5_answers_7 11 rfl rfl)
theorem dX5_answers_177 : decode cX5_answers 177 = .ok (.iconst 1, 1) := dk_4 (dk_at dksX5_answers_7 12 rfl rfl)
theorem dX5_answers_178 : decode cX5_answers 178 = .ok (.iadd, 1) := dk_96 (dk_at dksX5_answers_7 13 rfl rfl)
theorem dX5_answers_179 : decode cX5_answers 179 = .ok (.iastore, 1) := dk_79 (dk_at dksX5_answers_7 14 rfl rfl)
theorem dX5_answers_180 : decode cX5_answers 180 = .ok (.aload_n 0, 1) := dk_42 (dk_at dksX5_answers_7 15 rfl rfl)
theorem dX5_answers_181 : decode cX5_answers 181 = .ok (.invokevirtual 183, 3) := dk_182 0 183 (dk_at dksX5_answers_7 16 rfl rfl)
theorem dX5_answers_184 : decode cX5_answers 184 = .ok (.istore 8, 2) := dk_54 8 (dk_at dksX5_answers_7 19 rfl rfl)
theorem dX5_answers_186 : decode cX5_answers 186 = .ok (.iload 8, 2) := dk_21 8 (dk_at dksX5_answers_7 21 rfl rfl)
theorem dX5_answers_188 : decode cX5_answers 188 = .ok (.ifCond .ge 12, 3) := dk_156 0 12 (dk_at dksX5_answers_8 0 rfl rfl)
theorem dX5_answers_191 : decode cX5_answers 191 = .ok (.aload_n 0, 1) := dk_42 (dk_at dksX5_answers_8 3 rfl rfl)
theorem dX5_answers_192 : decode cX5_answers 192 = .ok (.iconst 0, 1) := dk_3 (dk_at dksX5_answers_8 4 rfl rfl)
theorem dX5_answers_193 : decode cX5_answers 193 = .ok (.iconst (-1), 1) := dk_2 (dk_at dksX5_answers_8 5 rfl rfl)
theorem dX5_answers_194 : decode cX5_answers 194 = .ok (.invokevirtual 177, 3) := dk_182 0 177 (dk_at dksX5_answers_8 6 rfl rfl)
theorem dX5_answers_197 : decode cX5_answers 197 = .ok (.goto 10, 3) := dk_167 0 10 (dk_at dksX5_answers_8 9 rfl rfl)
theorem dX5_answers_200 : decode cX5_answers 200 = .ok (.aload_n 0, 1) := dk_42 (dk_at dksX5_answers_8 12 rfl rfl)
theorem dX5_answers_201 : decode cX5_answers 201 = .ok (.iconst 4, 1) := dk_7 (dk_at dksX5_answers_8 13 rfl rfl)
theorem dX5_answers_202 : decode cX5_answers 202 = .ok (.iload 8, 2) := dk_21 8 (dk_at dksX5_answers_8 14 rfl rfl)
theorem dX5_answers_204 : decode cX5_answers 204 = .ok (.invokevirtual 177, 3) := dk_182 0 177 (dk_at dksX5_answers_8 16 rfl rfl)
theorem dX5_answers_207 : decode cX5_answers 207 = .ok (.ireturn, 1) := dk_172 (dk_at dksX5_answers_8 19 rfl rfl)
abbrev cX5_reasons : ByteArray := prog_18_method_18_code
def yX5_reasons : MethodName := ⟨RX5, "reasons", "(II)I"⟩
def dkwX5_reasons_0 : List UInt8 := [42, 27, 181, 0, 171, 42, 28, 181, 0, 174, 27, 172]
abbrev dktX5_reasons_0 : List UInt8 := dkwX5_reasons_0 ++ []
theorem dksX5_reasons_0 : cX5_reasons.data.toList.drop 0 = dktX5_reasons_0 := by decide +kernel
theorem dX5_reasons_0 : decode cX5_reasons 0 = .ok (.aload_n 0, 1) := dk_42 (dk_at dksX5_reasons_0 0 rfl rfl)
theorem dX5_reasons_1 : decode cX5_reasons 1 = .ok (.iload_n 1, 1) := dk_27 (dk_at dksX5_reasons_0 1 rfl rfl)
theorem dX5_reasons_2 : decode cX5_reasons 2 = .ok (.putfield 171, 3) := dk_181 0 171 (dk_at dksX5_reasons_0 2 rfl rfl)
theorem dX5_reasons_5 : decode cX5_reasons 5 = .ok (.aload_n 0, 1) := dk_42 (dk_at dksX5_reasons_0 5 rfl rfl)
theorem dX5_reasons_6 : decode cX5_reasons 6 = .ok (.iload_n 2, 1) := dk_28 (dk_at dksX5_reasons_0 6 rfl rfl)
theorem dX5_reasons_7 : decode cX5_reasons 7 = .ok (.putfield 174, 3) := dk_181 0 174 (dk_at dksX5_reasons_0 7 rfl rfl)
theorem dX5_reasons_10 : decode cX5_reasons 10 = .ok (.iload_n 1, 1) := dk_27 (dk_at dksX5_reasons_0 10 rfl rfl)
theorem dX5_reasons_11 : decode cX5_reasons 11 = .ok (.ireturn, 1) := dk_172 (dk_at dksX5_reasons_0 11 rfl rfl)
abbrev cX5_findNow : ByteArray := prog_18_method_15_code
def yX5_findNow : MethodName := ⟨RX5, "findNow", "()V"⟩
def dkwX5_findNow_2 : List UInt8 := [160, 0, 7, 5, 167, 0, 4, 4, 96, 79, 132, 1, 1, 167, 255, 197, 177]
abbrev dktX5_findNow_2 : List UInt8 := dkwX5_findNow_2 ++ []
def dkwX5_findNow_1 : List UInt8 := [180, 0, 46, 27, 46, 79, 42, 180, 0, 112, 27, 42, 180, 0, 52, 27, 46, 42, 180, 0, 49, 27, 46, 5]
abbrev dktX5_findNow_1 : List UInt8 := dkwX5_findNow_1 ++ dktX5_findNow_2
def dkwX5_findNow_0 : List UInt8 := [3, 60, 27, 6, 162, 0, 60, 42, 180, 0, 106, 27, 42, 27, 182, 0, 161, 79, 42, 180, 0, 109, 27, 42]
abbrev dktX5_findNow_0 : List UInt8 := dkwX5_findNow_0 ++ dktX5_findNow_1
theorem dksX5_findNow_0 : cX5_findNow.data.toList.drop 0 = dktX5_findNow_0 := by decide +kernel
theorem dksX5_findNow_1 : cX5_findNow.data.toList.drop 24 = dktX5_findNow_1 := dk_seg dksX5_findNow_0 24 rfl rfl
theorem dksX5_findNow_2 : cX5_findNow.data.toList.drop 48 = dktX5_findNow_2 := dk_seg dksX5_findNow_1 24 rfl rfl
theorem dX5_findNow_0 : decode cX5_findNow 0 = .ok (.iconst 0, 1) := dk_3 (dk_at dksX5_findNow_0 0 rfl rfl)
theorem dX5_findNow_1 : decode cX5_findNow 1 = .ok (.istore_n 1, 1) := dk_60 (dk_at dksX5_findNow_0 1 rfl rfl)
theorem dX5_findNow_2 : decode cX5_findNow 2 = .ok (.iload_n 1, 1) := dk_27 (dk_at dksX5_findNow_0 2 rfl rfl)
theorem dX5_findNow_3 : decode cX5_findNow 3 = .ok (.iconst 3, 1) := dk_6 (dk_at dksX5_findNow_0 3 rfl rfl)
theorem dX5_findNow_4 : decode cX5_findNow 4 = .ok (.if_icmp .ge 60, 3) := dk_162 0 60 (dk_at dksX5_findNow_0 4 rfl rfl)
theorem dX5_findNow_7 : decode cX5_findNow 7 = .ok (.aload_n 0, 1) := dk_42 (dk_at dksX5_findNow_0 7 rfl rfl)
theorem dX5_findNow_8 : decode cX5_findNow 8 = .ok (.getfield 106, 3) := dk_180 0 106 (dk_at dksX5_findNow_0 8 rfl rfl)
theorem dX5_findNow_11 : decode cX5_findNow 11 = .ok (.iload_n 1, 1) := dk_27 (dk_at dksX5_findNow_0 11 rfl rfl)
theorem dX5_findNow_12 : decode cX5_findNow 12 = .ok (.aload_n 0, 1) := dk_42 (dk_at dksX5_findNow_0 12 rfl rfl)
theorem dX5_findNow_13 : decode cX5_findNow 13 = .ok (.iload_n 1, 1) := dk_27 (dk_at dksX5_findNow_0 13 rfl rfl)
theorem dX5_findNow_14 : decode cX5_findNow 14 = .ok (.invokevirtual 161, 3) := dk_182 0 161 (dk_at dksX5_findNow_0 14 rfl rfl)
theorem dX5_findNow_17 : decode cX5_findNow 17 = .ok (.iastore, 1) := dk_79 (dk_at dksX5_findNow_0 17 rfl rfl)
theorem dX5_findNow_18 : decode cX5_findNow 18 = .ok (.aload_n 0, 1) := dk_42 (dk_at dksX5_findNow_0 18 rfl rfl)
theorem dX5_findNow_19 : decode cX5_findNow 19 = .ok (.getfield 109, 3) := dk_180 0 109 (dk_at dksX5_findNow_0 19 rfl rfl)
theorem dX5_findNow_22 : decode cX5_findNow 22 = .ok (.iload_n 1, 1) := dk_27 (dk_at dksX5_findNow_0 22 rfl rfl)
theorem dX5_findNow_23 : decode cX5_findNow 23 = .ok (.aload_n 0, 1) := dk_42 (dk_at dksX5_findNow_0 23 rfl rfl)
theorem dX5_findNow_24 : decode cX5_findNow 24 = .ok (.getfield 46, 3) := dk_180 0 46 (dk_at dksX5_findNow_1 0 rfl rfl)
theorem dX5_findNow_27 : decode cX5_findNow 27 = .ok (.iload_n 1, 1) := dk_27 (dk_at dksX5_findNow_1 3 rfl rfl)
theorem dX5_findNow_28 : decode cX5_findNow 28 = .ok (.iaload, 1) := dk_46 (dk_at dksX5_findNow_1 4 rfl rfl)
theorem dX5_findNow_29 : decode cX5_findNow 29 = .ok (.iastore, 1) := dk_79 (dk_at dksX5_findNow_1 5 rfl rfl)
theorem dX5_findNow_30 : decode cX5_findNow 30 = .ok (.aload_n 0, 1) := dk_42 (dk_at dksX5_findNow_1 6 rfl rfl)
theorem dX5_findNow_31 : decode cX5_findNow 31 = .ok (.getfield 112, 3) := dk_180 0 112 (dk_at dksX5_findNow_1 7 rfl rfl)
theorem dX5_findNow_34 : decode cX5_findNow 34 = .ok (.iload_n 1, 1) := dk_27 (dk_at dksX5_findNow_1 10 rfl rfl)
theorem dX5_findNow_35 : decode cX5_findNow 35 = .ok (.aload_n 0, 1) := dk_42 (dk_at dksX5_findNow_1 11 rfl rfl)
theorem dX5_findNow_36 : decode cX5_findNow 36 = .ok (.getfield 52, 3) := dk_180 0 52 (dk_at dksX5_findNow_1 12 rfl rfl)
theorem dX5_findNow_39 : decode cX5_findNow 39 = .ok (.iload_n 1, 1) := dk_27 (dk_at dksX5_findNow_1 15 rfl rfl)
theorem dX5_findNow_40 : decode cX5_findNow 40 = .ok (.iaload, 1) := dk_46 (dk_at dksX5_findNow_1 16 rfl rfl)
theorem dX5_findNow_41 : decode cX5_findNow 41 = .ok (.aload_n 0, 1) := dk_42 (dk_at dksX5_findNow_1 17 rfl rfl)
theorem dX5_findNow_42 : decode cX5_findNow 42 = .ok (.getfield 49, 3) := dk_180 0 49 (dk_at dksX5_findNow_1 18 rfl rfl)
theorem dX5_findNow_45 : decode cX5_findNow 45 = .ok (.iload_n 1, 1) := dk_27 (dk_at dksX5_findNow_1 21 rfl rfl)
theorem dX5_findNow_46 : decode cX5_findNow 46 = .ok (.iaload, 1) := dk_46 (dk_at dksX5_findNow_1 22 rfl rfl)
theorem dX5_findNow_47 : decode cX5_findNow 47 = .ok (.iconst 2, 1) := dk_5 (dk_at dksX5_findNow_1 23 rfl rfl)
theorem dX5_findNow_48 : decode cX5_findNow 48 = .ok (.if_icmp .ne 7, 3) := dk_160 0 7 (dk_at dksX5_findNow_2 0 rfl rfl)
theorem dX5_findNow_51 : decode cX5_findNow 51 = .ok (.iconst 2, 1) := dk_5 (dk_at dksX5_findNow_2 3 rfl rfl)
theorem dX5_findNow_52 : decode cX5_findNow 52 = .ok (.goto 4, 3) := dk_167 0 4 (dk_at dksX5_findNow_2 4 rfl rfl)
theorem dX5_findNow_55 : decode cX5_findNow 55 = .ok (.iconst 1, 1) := dk_4 (dk_at dksX5_findNow_2 7 rfl rfl)
theorem dX5_findNow_56 : decode cX5_findNow 56 = .ok (.iadd, 1) := dk_96 (dk_at dksX5_findNow_2 8 rfl rfl)
theorem dX5_findNow_57 : decode cX5_findNow 57 = .ok (.iastore, 1) := dk_79 (dk_at dksX5_findNow_2 9 rfl rfl)
theorem dX5_findNow_58 : decode cX5_findNow 58 = .ok (.iinc 1 1, 3) := dk_132 1 1 (dk_at dksX5_findNow_2 10 rfl rfl)
theorem dX5_findNow_61 : decode cX5_findNow 61 = .ok (.goto (-59), 3) := dk_167 255 197 (dk_at dksX5_findNow_2 13 rfl rfl)
theorem dX5_findNow_64 : decode cX5_findNow 64 = .ok (.return_, 1) := dk_177 (dk_at dksX5_findNow_2 16 rfl rfl)
abbrev cX5_findStuck : ByteArray := prog_18_method_17_code
def yX5_findStuck : MethodName := ⟨RX5, "findStuck", "()I"⟩
def dkwX5_findStuck_3 : List UInt8 := [132, 2, 1, 167, 255, 237, 2, 172]
abbrev dktX5_findStuck_3 : List UInt8 := dkwX5_findStuck_3 ++ []
def dkwX5_findStuck_2 : List UInt8 := [167, 255, 219, 167, 255, 208, 3, 61, 28, 6, 162, 0, 20, 42, 180, 0, 109, 28, 46, 155, 0, 5, 28, 172]
abbrev dktX5_findStuck_2 : List UInt8 := dkwX5_findStuck_2 ++ dktX5_findStuck_3
def dkwX5_findStuck_1 : List UInt8 := [42, 28, 182, 0, 167, 154, 0, 6, 167, 0, 12, 42, 180, 0, 109, 28, 2, 79, 4, 60, 132, 2, 1]
abbrev dktX5_findStuck_1 : List UInt8 := dkwX5_findStuck_1 ++ dktX5_findStuck_2
def dkwX5_findStuck_0 : List UInt8 := [4, 60, 27, 153, 0, 50, 3, 60, 3, 61, 28, 6, 162, 0, 38, 42, 180, 0, 109, 28, 46, 155, 0, 23]
abbrev dktX5_findStuck_0 : List UInt8 := dkwX5_findStuck_0 ++ dktX5_findStuck_1
theorem dksX5_findStuck_0 : cX5_findStuck.data.toList.drop 0 = dktX5_findStuck_0 := by decide +kernel
theorem dksX5_findStuck_1 : cX5_findStuck.data.toList.drop 24 = dktX5_findStuck_1 := dk_seg dksX5_findStuck_0 24 rfl rfl
theorem dksX5_findStuck_2 : cX5_findStuck.data.toList.drop 47 = dktX5_findStuck_2 := dk_seg dksX5_findStuck_1 23 rfl rfl
theorem dksX5_findStuck_3 : cX5_findStuck.data.toList.drop 71 = dktX5_findStuck_3 := dk_seg dksX5_findStuck_2 24 rfl rfl
theorem dX5_findStuck_0 : decode cX5_findStuck 0 = .ok (.iconst 1, 1) := dk_4 (dk_at dksX5_findStuck_0 0 rfl rfl)
theorem dX5_findStuck_1 : decode cX5_findStuck 1 = .ok (.istore_n 1, 1) := dk_60 (dk_at dksX5_findStuck_0 1 rfl rfl)
theorem dX5_findStuck_2 : decode cX5_findStuck 2 = .ok (.iload_n 1, 1) := dk_27 (dk_at dksX5_findStuck_0 2 rfl rfl)
theorem dX5_findStuck_3 : decode cX5_findStuck 3 = .ok (.ifCond .eq 50, 3) := dk_153 0 50 (dk_at dksX5_findStuck_0 3 rfl rfl)
theorem dX5_findStuck_6 : decode cX5_findStuck 6 = .ok (.iconst 0, 1) := dk_3 (dk_at dksX5_findStuck_0 6 rfl rfl)
theorem dX5_findStuck_7 : decode cX5_findStuck 7 = .ok (.istore_n 1, 1) := dk_60 (dk_at dksX5_findStuck_0 7 rfl rfl)
theorem dX5_findStuck_8 : decode cX5_findStuck 8 = .ok (.iconst 0, 1) := dk_3 (dk_at dksX5_findStuck_0 8 rfl rfl)
theorem dX5_findStuck_9 : decode cX5_findStuck 9 = .ok (.istore_n 2, 1) := dk_61 (dk_at dksX5_findStuck_0 9 rfl rfl)
theorem dX5_findStuck_10 : decode cX5_findStuck 10 = .ok (.iload_n 2, 1) := dk_28 (dk_at dksX5_findStuck_0 10 rfl rfl)
theorem dX5_findStuck_11 : decode cX5_findStuck 11 = .ok (.iconst 3, 1) := dk_6 (dk_at dksX5_findStuck_0 11 rfl rfl)
theorem dX5_findStuck_12 : decode cX5_findStuck 12 = .ok (.if_icmp .ge 38, 3) := dk_162 0 38 (dk_at dksX5_findStuck_0 12 rfl rfl)
theorem dX5_findStuck_15 : decode cX5_findStuck 15 = .ok (.aload_n 0, 1) := dk_42 (dk_at dksX5_findStuck_0 15 rfl rfl)
theorem dX5_findStuck_16 : decode cX5_findStuck 16 = .ok (.getfield 109, 3) := dk_180 0 109 (dk_at dksX5_findStuck_0 16 rfl rfl)
theorem dX5_findStuck_19 : decode cX5_findStuck 19 = .ok (.iload_n 2, 1) := dk_28 (dk_at dksX5_findStuck_0 19 rfl rfl)
theorem dX5_findStuck_20 : decode cX5_findStuck 20 = .ok (.iaload, 1) := dk_46 (dk_at dksX5_findStuck_0 20 rfl rfl)
theorem dX5_findStuck_21 : decode cX5_findStuck 21 = .ok (.ifCond .lt 23, 3) := dk_155 0 23 (dk_at dksX5_findStuck_0 21 rfl rfl)
theorem dX5_findStuck_24 : decode cX5_findStuck 24 = .ok (.aload_n 0, 1) := dk_42 (dk_at dksX5_findStuck_1 0 rfl rfl)
theorem dX5_findStuck_25 : decode cX5_findStuck 25 = .ok (.iload_n 2, 1) := dk_28 (dk_at dksX5_findStuck_1 1 rfl rfl)
theorem dX5_findStuck_26 : decode cX5_findStuck 26 = .ok (.invokevirtual 167, 3) := dk_182 0 167 (dk_at dksX5_findStuck_1 2 rfl rfl)
theorem dX5_findStuck_29 : decode cX5_findStuck 29 = .ok (.ifCond .ne 6, 3) := dk_154 0 6 (dk_at dksX5_findStuck_1 5 rfl rfl)
theorem dX5_findStuck_32 : decode cX5_findStuck 32 = .ok (.goto 12, 3) := dk_167 0 12 (dk_at dksX5_findStuck_1 8 rfl rfl)
theorem dX5_findStuck_35 : decode cX5_findStuck 35 = .ok (.aload_n 0, 1) := dk_42 (dk_at dksX5_findStuck_1 11 rfl rfl)
theorem dX5_findStuck_36 : decode cX5_findStuck 36 = .ok (.getfield 109, 3) := dk_180 0 109 (dk_at dksX5_findStuck_1 12 rfl rfl)
theorem dX5_findStuck_39 : decode cX5_findStuck 39 = .ok (.iload_n 2, 1) := dk_28 (dk_at dksX5_findStuck_1 15 rfl rfl)
theorem dX5_findStuck_40 : decode cX5_findStuck 40 = .ok (.iconst (-1), 1) := dk_2 (dk_at dksX5_findStuck_1 16 rfl rfl)
theorem dX5_findStuck_41 : decode cX5_findStuck 41 = .ok (.iastore, 1) := dk_79 (dk_at dksX5_findStuck_1 17 rfl rfl)
theorem dX5_findStuck_42 : decode cX5_findStuck 42 = .ok (.iconst 1, 1) := dk_4 (dk_at dksX5_findStuck_1 18 rfl rfl)
theorem dX5_findStuck_43 : decode cX5_findStuck 43 = .ok (.istore_n 1, 1) := dk_60 (dk_at dksX5_findStuck_1 19 rfl rfl)
theorem dX5_findStuck_44 : decode cX5_findStuck 44 = .ok (.iinc 2 1, 3) := dk_132 2 1 (dk_at dksX5_findStuck_1 20 rfl rfl)
theorem dX5_findStuck_47 : decode cX5_findStuck 47 = .ok (.goto (-37), 3) := dk_167 255 219 (dk_at dksX5_findStuck_2 0 rfl rfl)
theorem dX5_findStuck_50 : decode cX5_findStuck 50 = .ok (.goto (-48), 3) := dk_167 255 208 (dk_at dksX5_findStuck_2 3 rfl rfl)
theorem dX5_findStuck_53 : decode cX5_findStuck 53 = .ok (.iconst 0, 1) := dk_3 (dk_at dksX5_findStuck_2 6 rfl rfl)
theorem dX5_findStuck_54 : decode cX5_findStuck 54 = .ok (.istore_n 2, 1) := dk_61 (dk_at dksX5_findStuck_2 7 rfl rfl)
theorem dX5_findStuck_55 : decode cX5_findStuck 55 = .ok (.iload_n 2, 1) := dk_28 (dk_at dksX5_findStuck_2 8 rfl rfl)
theorem dX5_findStuck_56 : decode cX5_findStuck 56 = .ok (.iconst 3, 1) := dk_6 (dk_at dksX5_findStuck_2 9 rfl rfl)
theorem dX5_findStuck_57 : decode cX5_findStuck 57 = .ok (.if_icmp .ge 20, 3) := dk_162 0 20 (dk_at dksX5_findStuck_2 10 rfl rfl)
theorem dX5_findStuck_60 : decode cX5_findStuck 60 = .ok (.aload_n 0, 1) := dk_42 (dk_at dksX5_findStuck_2 13 rfl rfl)
theorem dX5_findStuck_61 : decode cX5_findStuck 61 = .ok (.getfield 109, 3) := dk_180 0 109 (dk_at dksX5_findStuck_2 14 rfl rfl)
theorem dX5_findStuck_64 : decode cX5_findStuck 64 = .ok (.iload_n 2, 1) := dk_28 (dk_at dksX5_findStuck_2 17 rfl rfl)
theorem dX5_findStuck_65 : decode cX5_findStuck 65 = .ok (.iaload, 1) := dk_46 (dk_at dksX5_findStuck_2 18 rfl rfl)
theorem dX5_findStuck_66 : decode cX5_findStuck 66 = .ok (.ifCond .lt 5, 3) := dk_155 0 5 (dk_at dksX5_findStuck_2 19 rfl rfl)
theorem dX5_findStuck_69 : decode cX5_findStuck 69 = .ok (.iload_n 2, 1) := dk_28 (dk_at dksX5_findStuck_2 22 rfl rfl)
theorem dX5_findStuck_70 : decode cX5_findStuck 70 = .ok (.ireturn, 1) := dk_172 (dk_at dksX5_findStuck_2 23 rfl rfl)
theorem dX5_findStuck_71 : decode cX5_findStuck 71 = .ok (.iinc 2 1, 3) := dk_132 2 1 (dk_at dksX5_findStuck_3 0 rfl rfl)
theorem dX5_findStuck_74 : decode cX5_findStuck 74 = .ok (.goto (-19), 3) := dk_167 255 237 (dk_at dksX5_findStuck_3 3 rfl rfl)
theorem dX5_findStuck_77 : decode cX5_findStuck 77 = .ok (.iconst (-1), 1) := dk_2 (dk_at dksX5_findStuck_3 6 rfl rfl)
theorem dX5_findStuck_78 : decode cX5_findStuck 78 = .ok (.ireturn, 1) := dk_172 (dk_at dksX5_findStuck_3 7 rfl rfl)
abbrev cX5_canFinish : ByteArray := prog_18_method_16_code
def yX5_canFinish : MethodName := ⟨RX5, "canFinish", "(I)Z"⟩
def dkwX5_canFinish_3 : List UInt8 := [29, 182, 0, 147, 182, 0, 164, 28, 126, 153, 0, 5, 3, 172, 132, 3, 1, 167, 255, 216, 4, 172]
abbrev dktX5_canFinish_3 : List UInt8 := dkwX5_canFinish_3 ++ []
def dkwX5_canFinish_2 : List UInt8 := [62, 29, 42, 180, 0, 79, 42, 180, 0, 109, 27, 46, 46, 162, 0, 31, 42, 42, 42, 180, 0, 109, 27, 46]
abbrev dktX5_canFinish_2 : List UInt8 := dkwX5_canFinish_2 ++ dktX5_canFinish_3
def dkwX5_canFinish_1 : List UInt8 := [42, 180, 0, 106, 29, 46, 167, 0, 4, 3, 128, 61, 132, 3, 1, 167, 255, 221, 42, 180, 0, 112, 27, 46]
abbrev dktX5_canFinish_1 : List UInt8 := dkwX5_canFinish_1 ++ dktX5_canFinish_2
def dkwX5_canFinish_0 : List UInt8 := [3, 61, 3, 62, 29, 6, 162, 0, 36, 28, 29, 27, 159, 0, 21, 42, 180, 0, 109, 29, 46, 155, 0, 12]
abbrev dktX5_canFinish_0 : List UInt8 := dkwX5_canFinish_0 ++ dktX5_canFinish_1
theorem dksX5_canFinish_0 : cX5_canFinish.data.toList.drop 0 = dktX5_canFinish_0 := by decide +kernel
theorem dksX5_canFinish_1 : cX5_canFinish.data.toList.drop 24 = dktX5_canFinish_1 := dk_seg dksX5_canFinish_0 24 rfl rfl
theorem dksX5_canFinish_2 : cX5_canFinish.data.toList.drop 48 = dktX5_canFinish_2 := dk_seg dksX5_canFinish_1 24 rfl rfl
theorem dksX5_canFinish_3 : cX5_canFinish.data.toList.drop 72 = dktX5_canFinish_3 := dk_seg dksX5_canFinish_2 24 rfl rfl
theorem dX5_canFinish_0 : decode cX5_canFinish 0 = .ok (.iconst 0, 1) := dk_3 (dk_at dksX5_canFinish_0 0 rfl rfl)
theorem dX5_canFinish_1 : decode cX5_canFinish 1 = .ok (.istore_n 2, 1) := dk_61 (dk_at dksX5_canFinish_0 1 rfl rfl)
theorem dX5_canFinish_2 : decode cX5_canFinish 2 = .ok (.iconst 0, 1) := dk_3 (dk_at dksX5_canFinish_0 2 rfl rfl)
theorem dX5_canFinish_3 : decode cX5_canFinish 3 = .ok (.istore_n 3, 1) := dk_62 (dk_at dksX5_canFinish_0 3 rfl rfl)
theorem dX5_canFinish_4 : decode cX5_canFinish 4 = .ok (.iload_n 3, 1) := dk_29 (dk_at dksX5_canFinish_0 4 rfl rfl)
theorem dX5_canFinish_5 : decode cX5_canFinish 5 = .ok (.iconst 3, 1) := dk_6 (dk_at dksX5_canFinish_0 5 rfl rfl)
theorem dX5_canFinish_6 : decode cX5_canFinish 6 = .ok (.if_icmp .ge 36, 3) := dk_162 0 36 (dk_at dksX5_canFinish_0 6 rfl rfl)
theorem dX5_canFinish_9 : decode cX5_canFinish 9 = .ok (.iload_n 2, 1) := dk_28 (dk_at dksX5_canFinish_0 9 rfl rfl)
theorem dX5_canFinish_10 : decode cX5_canFinish 10 = .ok (.iload_n 3, 1) := dk_29 (dk_at dksX5_canFinish_0 10 rfl rfl)
theorem dX5_canFinish_11 : decode cX5_canFinish 11 = .ok (.iload_n 1, 1) := dk_27 (dk_at dksX5_canFinish_0 11 rfl rfl)
theorem dX5_canFinish_12 : decode cX5_canFinish 12 = .ok (.if_icmp .eq 21, 3) := dk_159 0 21 (dk_at dksX5_canFinish_0 12 rfl rfl)
theorem dX5_canFinish_15 : decode cX5_canFinish 15 = .ok (.aload_n 0, 1) := dk_42 (dk_at dksX5_canFinish_0 15 rfl rfl)
theorem dX5_canFinish_16 : decode cX5_canFinish 16 = .ok (.getfield 109, 3) := dk_180 0 109 (dk_at dksX5_canFinish_0 16 rfl rfl)
theorem dX5_canFinish_19 : decode cX5_canFinish 19 = .ok (.iload_n 3, 1) := dk_29 (dk_at dksX5_canFinish_0 19 rfl rfl)
theorem dX5_canFinish_20 : decode cX5_canFinish 20 = .ok (.iaload, 1) := dk_46 (dk_at dksX5_canFinish_0 20 rfl rfl)
theorem dX5_canFinish_21 : decode cX5_canFinish 21 = .ok (.ifCond .lt 12, 3) := dk_155 0 12 (dk_at dksX5_canFinish_0 21 rfl rfl)
theorem dX5_canFinish_24 : decode cX5_canFinish 24 = .ok (.aload_n 0, 1) := dk_42 (dk_at dksX5_canFinish_1 0 rfl rfl)
theorem dX5_canFinish_25 : decode cX5_canFinish 25 = .ok (.getfield 106, 3) := dk_180 0 106 (dk_at dksX5_canFinish_1 1 rfl rfl)
theorem dX5_canFinish_28 : decode cX5_canFinish 28 = .ok (.iload_n 3, 1) := dk_29 (dk_at dksX5_canFinish_1 4 rfl rfl)
theorem dX5_canFinish_29 : decode cX5_canFinish 29 = .ok (.iaload, 1) := dk_46 (dk_at dksX5_canFinish_1 5 rfl rfl)
theorem dX5_canFinish_30 : decode cX5_canFinish 30 = .ok (.goto 4, 3) := dk_167 0 4 (dk_at dksX5_canFinish_1 6 rfl rfl)
theorem dX5_canFinish_33 : decode cX5_canFinish 33 = .ok (.iconst 0, 1) := dk_3 (dk_at dksX5_canFinish_1 9 rfl rfl)
theorem dX5_canFinish_34 : decode cX5_canFinish 34 = .ok (.ior, 1) := dk_128 (dk_at dksX5_canFinish_1 10 rfl rfl)
theorem dX5_canFinish_35 : decode cX5_canFinish 35 = .ok (.istore_n 2, 1) := dk_61 (dk_at dksX5_canFinish_1 11 rfl rfl)
theorem dX5_canFinish_36 : decode cX5_canFinish 36 = .ok (.iinc 3 1, 3) := dk_132 3 1 (dk_at dksX5_canFinish_1 12 rfl rfl)
theorem dX5_canFinish_39 : decode cX5_canFinish 39 = .ok (.goto (-35), 3) := dk_167 255 221 (dk_at dksX5_canFinish_1 15 rfl rfl)
theorem dX5_canFinish_42 : decode cX5_canFinish 42 = .ok (.aload_n 0, 1) := dk_42 (dk_at dksX5_canFinish_1 18 rfl rfl)
theorem dX5_canFinish_43 : decode cX5_canFinish 43 = .ok (.getfield 112, 3) := dk_180 0 112 (dk_at dksX5_canFinish_1 19 rfl rfl)
theorem dX5_canFinish_46 : decode cX5_canFinish 46 = .ok (.iload_n 1, 1) := dk_27 (dk_at dksX5_canFinish_1 22 rfl rfl)
theorem dX5_canFinish_47 : decode cX5_canFinish 47 = .ok (.iaload, 1) := dk_46 (dk_at dksX5_canFinish_1 23 rfl rfl)
theorem dX5_canFinish_48 : decode cX5_canFinish 48 = .ok (.istore_n 3, 1) := dk_62 (dk_at dksX5_canFinish_2 0 rfl rfl)
theorem dX5_canFinish_49 : decode cX5_canFinish 49 = .ok (.iload_n 3, 1) := dk_29 (dk_at dksX5_canFinish_2 1 rfl rfl)
theorem dX5_canFinish_50 : decode cX5_canFinish 50 = .ok (.aload_n 0, 1) := dk_42 (dk_at dksX5_canFinish_2 2 rfl rfl)
theorem dX5_canFinish_51 : decode cX5_canFinish 51 = .ok (.getfield 79, 3) := dk_180 0 79 (dk_at dksX5_canFinish_2 3 rfl rfl)
theorem dX5_canFinish_54 : decode cX5_canFinish 54 = .ok (.aload_n 0, 1) := dk_42 (dk_at dksX5_canFinish_2 6 rfl rfl)
theorem dX5_canFinish_55 : decode cX5_canFinish 55 = .ok (.getfield 109, 3) := dk_180 0 109 (dk_at dksX5_canFinish_2 7 rfl rfl)
theorem dX5_canFinish_58 : decode cX5_canFinish 58 = .ok (.iload_n 1, 1) := dk_27 (dk_at dksX5_canFinish_2 10 rfl rfl)
theorem dX5_canFinish_59 : decode cX5_canFinish 59 = .ok (.iaload, 1) := dk_46 (dk_at dksX5_canFinish_2 11 rfl rfl)
theorem dX5_canFinish_60 : decode cX5_canFinish 60 = .ok (.iaload, 1) := dk_46 (dk_at dksX5_canFinish_2 12 rfl rfl)
theorem dX5_canFinish_61 : decode cX5_canFinish 61 = .ok (.if_icmp .ge 31, 3) := dk_162 0 31 (dk_at dksX5_canFinish_2 13 rfl rfl)
theorem dX5_canFinish_64 : decode cX5_canFinish 64 = .ok (.aload_n 0, 1) := dk_42 (dk_at dksX5_canFinish_2 16 rfl rfl)
theorem dX5_canFinish_65 : decode cX5_canFinish 65 = .ok (.aload_n 0, 1) := dk_42 (dk_at dksX5_canFinish_2 17 rfl rfl)
theorem dX5_canFinish_66 : decode cX5_canFinish 66 = .ok (.aload_n 0, 1) := dk_42 (dk_at dksX5_canFinish_2 18 rfl rfl)
theorem dX5_canFinish_67 : decode cX5_canFinish 67 = .ok (.getfield 109, 3) := dk_180 0 109 (dk_at dksX5_canFinish_2 19 rfl rfl)
theorem dX5_canFinish_70 : decode cX5_canFinish 70 = .ok (.iload_n 1, 1) := dk_27 (dk_at dksX5_canFinish_2 22 rfl rfl)
theorem dX5_canFinish_71 : decode cX5_canFinish 71 = .ok (.iaload, 1) := dk_46 (dk_at dksX5_canFinish_2 23 rfl rfl)
theorem dX5_canFinish_72 : decode cX5_canFinish 72 = .ok (.iload_n 3, 1) := dk_29 (dk_at dksX5_canFinish_3 0 rfl rfl)
theorem dX5_canFinish_73 : decode cX5_canFinish 73 = .ok (.invokevirtual 147, 3) := dk_182 0 147 (dk_at dksX5_canFinish_3 1 rfl rfl)
theorem dX5_canFinish_76 : decode cX5_canFinish 76 = .ok (.invokevirtual 164, 3) := dk_182 0 164 (dk_at dksX5_canFinish_3 4 rfl rfl)
theorem dX5_canFinish_79 : decode cX5_canFinish 79 = .ok (.iload_n 2, 1) := dk_28 (dk_at dksX5_canFinish_3 7 rfl rfl)
theorem dX5_canFinish_80 : decode cX5_canFinish 80 = .ok (.iand, 1) := dk_126 (dk_at dksX5_canFinish_3 8 rfl rfl)
theorem dX5_canFinish_81 : decode cX5_canFinish 81 = .ok (.ifCond .eq 5, 3) := dk_153 0 5 (dk_at dksX5_canFinish_3 9 rfl rfl)
theorem dX5_canFinish_84 : decode cX5_canFinish 84 = .ok (.iconst 0, 1) := dk_3 (dk_at dksX5_canFinish_3 12 rfl rfl)
theorem dX5_canFinish_85 : decode cX5_canFinish 85 = .ok (.ireturn, 1) := dk_172 (dk_at dksX5_canFinish_3 13 rfl rfl)
theorem dX5_canFinish_86 : decode cX5_canFinish 86 = .ok (.iinc 3 1, 3) := dk_132 3 1 (dk_at dksX5_canFinish_3 14 rfl rfl)
theorem dX5_canFinish_89 : decode cX5_canFinish 89 = .ok (.goto (-40), 3) := dk_167 255 216 (dk_at dksX5_canFinish_3 17 rfl rfl)
theorem dX5_canFinish_92 : decode cX5_canFinish 92 = .ok (.iconst 1, 1) := dk_4 (dk_at dksX5_canFinish_3 20 rfl rfl)
theorem dX5_canFinish_93 : decode cX5_canFinish 93 = .ok (.ireturn, 1) := dk_172 (dk_at dksX5_canFinish_3 21 rfl rfl)
abbrev cX5_works : ByteArray := prog_18_method_22_code
def yX5_works : MethodName := ⟨RX5, "works", "(II)V"⟩
def dkwX5_works_1 : List UInt8 := [180, 0, 46, 27, 46, 46, 79, 177]
abbrev dktX5_works_1 : List UInt8 := dkwX5_works_1 ++ []
def dkwX5_works_0 : List UInt8 := [42, 180, 0, 49, 27, 4, 79, 42, 180, 0, 52, 27, 28, 79, 42, 180, 0, 55, 27, 42, 180, 0, 82, 42]
abbrev dktX5_works_0 : List UInt8 := dkwX5_works_0 ++ dktX5_works_1
theorem dksX5_works_0 : cX5_works.data.toList.drop 0 = dktX5_works_0 := by decide +kernel
theorem dksX5_works_1 : cX5_works.data.toList.drop 24 = dktX5_works_1 := dk_seg dksX5_works_0 24 rfl rfl
theorem dX5_works_0 : decode cX5_works 0 = .ok (.aload_n 0, 1) := dk_42 (dk_at dksX5_works_0 0 rfl rfl)
theorem dX5_works_1 : decode cX5_works 1 = .ok (.getfield 49, 3) := dk_180 0 49 (dk_at dksX5_works_0 1 rfl rfl)
theorem dX5_works_4 : decode cX5_works 4 = .ok (.iload_n 1, 1) := dk_27 (dk_at dksX5_works_0 4 rfl rfl)
theorem dX5_works_5 : decode cX5_works 5 = .ok (.iconst 1, 1) := dk_4 (dk_at dksX5_works_0 5 rfl rfl)
theorem dX5_works_6 : decode cX5_works 6 = .ok (.iastore, 1) := dk_79 (dk_at dksX5_works_0 6 rfl rfl)
theorem dX5_works_7 : decode cX5_works 7 = .ok (.aload_n 0, 1) := dk_42 (dk_at dksX5_works_0 7 rfl rfl)
theorem dX5_works_8 : decode cX5_works 8 = .ok (.getfield 52, 3) := dk_180 0 52 (dk_at dksX5_works_0 8 rfl rfl)
theorem dX5_works_11 : decode cX5_works 11 = .ok (.iload_n 1, 1) := dk_27 (dk_at dksX5_works_0 11 rfl rfl)
theorem dX5_works_12 : decode cX5_works 12 = .ok (.iload_n 2, 1) := dk_28 (dk_at dksX5_works_0 12 rfl rfl)
theorem dX5_works_13 : decode cX5_works 13 = .ok (.iastore, 1) := dk_79 (dk_at dksX5_works_0 13 rfl rfl)
theorem dX5_works_14 : decode cX5_works 14 = .ok (.aload_n 0, 1) := dk_42 (dk_at dksX5_works_0 14 rfl rfl)
theorem dX5_works_15 : decode cX5_works 15 = .ok (.getfield 55, 3) := dk_180 0 55 (dk_at dksX5_works_0 15 rfl rfl)
theorem dX5_works_18 : decode cX5_works 18 = .ok (.iload_n 1, 1) := dk_27 (dk_at dksX5_works_0 18 rfl rfl)
theorem dX5_works_19 : decode cX5_works 19 = .ok (.aload_n 0, 1) := dk_42 (dk_at dksX5_works_0 19 rfl rfl)
theorem dX5_works_20 : decode cX5_works 20 = .ok (.getfield 82, 3) := dk_180 0 82 (dk_at dksX5_works_0 20 rfl rfl)
theorem dX5_works_23 : decode cX5_works 23 = .ok (.aload_n 0, 1) := dk_42 (dk_at dksX5_works_0 23 rfl rfl)
theorem dX5_works_24 : decode cX5_works 24 = .ok (.getfield 46, 3) := dk_180 0 46 (dk_at dksX5_works_1 0 rfl rfl)
theorem dX5_works_27 : decode cX5_works 27 = .ok (.iload_n 1, 1) := dk_27 (dk_at dksX5_works_1 3 rfl rfl)
theorem dX5_works_28 : decode cX5_works 28 = .ok (.iaload, 1) := dk_46 (dk_at dksX5_works_1 4 rfl rfl)
theorem dX5_works_29 : decode cX5_works 29 = .ok (.iaload, 1) := dk_46 (dk_at dksX5_works_1 5 rfl rfl)
theorem dX5_works_30 : decode cX5_works 30 = .ok (.iastore, 1) := dk_79 (dk_at dksX5_works_1 6 rfl rfl)
theorem dX5_works_31 : decode cX5_works 31 = .ok (.return_, 1) := dk_177 (dk_at dksX5_works_1 7 rfl rfl)
abbrev cX5_notes : ByteArray := prog_18_method_14_code
def yX5_notes : MethodName := ⟨RX5, "notes", "(III)V"⟩
def dkwX5_notes_4 : List UInt8 := [42, 180, 0, 103, 21, 4, 6, 96, 29, 79, 42, 89, 180, 0, 155, 4, 96, 181, 0, 155, 177]
abbrev dktX5_notes_4 : List UInt8 := dkwX5_notes_4 ++ []
def dkwX5_notes_3 : List UInt8 := [180, 0, 158, 79, 42, 180, 0, 103, 21, 4, 4, 96, 27, 79, 42, 180, 0, 103, 21, 4, 5, 96, 28, 79]
abbrev dktX5_notes_3 : List UInt8 := dkwX5_notes_3 ++ dktX5_notes_4
def dkwX5_notes_2 : List UInt8 := [79, 132, 4, 1, 167, 255, 226, 7, 42, 180, 0, 155, 104, 54, 4, 42, 180, 0, 103, 21, 4, 42]
abbrev dktX5_notes_2 : List UInt8 := dkwX5_notes_2 ++ dktX5_notes_3
def dkwX5_notes_1 : List UInt8 := [7, 42, 180, 0, 155, 104, 162, 0, 25, 42, 180, 0, 103, 21, 4, 42, 180, 0, 103, 21, 4, 7, 96, 46]
abbrev dktX5_notes_1 : List UInt8 := dkwX5_notes_1 ++ dktX5_notes_2
def dkwX5_notes_0 : List UInt8 := [42, 180, 0, 155, 16, 24, 160, 0, 49, 42, 89, 180, 0, 155, 4, 100, 181, 0, 155, 3, 54, 4, 21, 4]
abbrev dktX5_notes_0 : List UInt8 := dkwX5_notes_0 ++ dktX5_notes_1
theorem dksX5_notes_0 : cX5_notes.data.toList.drop 0 = dktX5_notes_0 := by decide +kernel
theorem dksX5_notes_1 : cX5_notes.data.toList.drop 24 = dktX5_notes_1 := dk_seg dksX5_notes_0 24 rfl rfl
theorem dksX5_notes_2 : cX5_notes.data.toList.drop 48 = dktX5_notes_2 := dk_seg dksX5_notes_1 24 rfl rfl
theorem dksX5_notes_3 : cX5_notes.data.toList.drop 70 = dktX5_notes_3 := dk_seg dksX5_notes_2 22 rfl rfl
theorem dksX5_notes_4 : cX5_notes.data.toList.drop 94 = dktX5_notes_4 := dk_seg dksX5_notes_3 24 rfl rfl
theorem dX5_notes_0 : decode cX5_notes 0 = .ok (.aload_n 0, 1) := dk_42 (dk_at dksX5_notes_0 0 rfl rfl)
theorem dX5_notes_1 : decode cX5_notes 1 = .ok (.getfield 155, 3) := dk_180 0 155 (dk_at dksX5_notes_0 1 rfl rfl)
theorem dX5_notes_4 : decode cX5_notes 4 = .ok (.bipush 24, 2) := dk_16 24 (dk_at dksX5_notes_0 4 rfl rfl)
theorem dX5_notes_6 : decode cX5_notes 6 = .ok (.if_icmp .ne 49, 3) := dk_160 0 49 (dk_at dksX5_notes_0 6 rfl rfl)
theorem dX5_notes_9 : decode cX5_notes 9 = .ok (.aload_n 0, 1) := dk_42 (dk_at dksX5_notes_0 9 rfl rfl)
theorem dX5_notes_10 : decode cX5_notes 10 = .ok (.dup, 1) := dk_89 (dk_at dksX5_notes_0 10 rfl rfl)
theorem dX5_notes_11 : decode cX5_notes 11 = .ok (.getfield 155, 3) := dk_180 0 155 (dk_at dksX5_notes_0 11 rfl rfl)
theorem dX5_notes_14 : decode cX5_notes 14 = .ok (.iconst 1, 1) := dk_4 (dk_at dksX5_notes_0 14 rfl rfl)
theorem dX5_notes_15 : decode cX5_notes 15 = .ok (.isub, 1) := dk_100 (dk_at dksX5_notes_0 15 rfl rfl)
theorem dX5_notes_16 : decode cX5_notes 16 = .ok (.putfield 155, 3) := dk_181 0 155 (dk_at dksX5_notes_0 16 rfl rfl)
theorem dX5_notes_19 : decode cX5_notes 19 = .ok (.iconst 0, 1) := dk_3 (dk_at dksX5_notes_0 19 rfl rfl)
theorem dX5_notes_20 : decode cX5_notes 20 = .ok (.istore 4, 2) := dk_54 4 (dk_at dksX5_notes_0 20 rfl rfl)
theorem dX5_notes_22 : decode cX5_notes 22 = .ok (.iload 4, 2) := dk_21 4 (dk_at dksX5_notes_0 22 rfl rfl)
theorem dX5_notes_24 : decode cX5_notes 24 = .ok (.iconst 4, 1) := dk_7 (dk_at dksX5_notes_1 0 rfl rfl)
theorem dX5_notes_25 : decode cX5_notes 25 = .ok (.aload_n 0, 1) := dk_42 (dk_at dksX5_notes_1 1 rfl rfl)
theorem dX5_notes_26 : decode cX5_notes 26 = .ok (.getfield 155, 3) := dk_180 0 155 (dk_at dksX5_notes_1 2 rfl rfl)
theorem dX5_notes_29 : decode cX5_notes 29 = .ok (.imul, 1) := dk_104 (dk_at dksX5_notes_1 5 rfl rfl)
theorem dX5_notes_30 : decode cX5_notes 30 = .ok (.if_icmp .ge 25, 3) := dk_162 0 25 (dk_at dksX5_notes_1 6 rfl rfl)
theorem dX5_notes_33 : decode cX5_notes 33 = .ok (.aload_n 0, 1) := dk_42 (dk_at dksX5_notes_1 9 rfl rfl)
theorem dX5_notes_34 : decode cX5_notes 34 = .ok (.getfield 103, 3) := dk_180 0 103 (dk_at dksX5_notes_1 10 rfl rfl)
theorem dX5_notes_37 : decode cX5_notes 37 = .ok (.iload 4, 2) := dk_21 4 (dk_at dksX5_notes_1 13 rfl rfl)
theorem dX5_notes_39 : decode cX5_notes 39 = .ok (.aload_n 0, 1) := dk_42 (dk_at dksX5_notes_1 15 rfl rfl)
theorem dX5_notes_40 : decode cX5_notes 40 = .ok (.getfield 103, 3) := dk_180 0 103 (dk_at dksX5_notes_1 16 rfl rfl)
theorem dX5_notes_43 : decode cX5_notes 43 = .ok (.iload 4, 2) := dk_21 4 (dk_at dksX5_notes_1 19 rfl rfl)
theorem dX5_notes_45 : decode cX5_notes 45 = .ok (.iconst 4, 1) := dk_7 (dk_at dksX5_notes_1 21 rfl rfl)
theorem dX5_notes_46 : decode cX5_notes 46 = .ok (.iadd, 1) := dk_96 (dk_at dksX5_notes_1 22 rfl rfl)
theorem dX5_notes_47 : decode cX5_notes 47 = .ok (.iaload, 1) := dk_46 (dk_at dksX5_notes_1 23 rfl rfl)
theorem dX5_notes_48 : decode cX5_notes 48 = .ok (.iastore, 1) := dk_79 (dk_at dksX5_notes_2 0 rfl rfl)
theorem dX5_notes_49 : decode cX5_notes 49 = .ok (.iinc 4 1, 3) := dk_132 4 1 (dk_at dksX5_notes_2 1 rfl rfl)
theorem dX5_notes_52 : decode cX5_notes 52 = .ok (.goto (-30), 3) := dk_167 255 226 (dk_at dksX5_notes_2 4 rfl rfl)
theorem dX5_notes_55 : decode cX5_notes 55 = .ok (.iconst 4, 1) := dk_7 (dk_at dksX5_notes_2 7 rfl rfl)
theorem dX5_notes_56 : decode cX5_notes 56 = .ok (.aload_n 0, 1) := dk_42 (dk_at dksX5_notes_2 8 rfl rfl)
theorem dX5_notes_57 : decode cX5_notes 57 = .ok (.getfield 155, 3) := dk_180 0 155 (dk_at dksX5_notes_2 9 rfl rfl)
theorem dX5_notes_60 : decode cX5_notes 60 = .ok (.imul, 1) := dk_104 (dk_at dksX5_notes_2 12 rfl rfl)
theorem dX5_notes_61 : decode cX5_notes 61 = .ok (.istore 4, 2) := dk_54 4 (dk_at dksX5_notes_2 13 rfl rfl)
theorem dX5_notes_63 : decode cX5_notes 63 = .ok (.aload_n 0, 1) := dk_42 (dk_at dksX5_notes_2 15 rfl rfl)
theorem dX5_notes_64 : decode cX5_notes 64 = .ok (.getfield 103, 3) := dk_180 0 103 (dk_at dksX5_notes_2 16 rfl rfl)
theorem dX5_notes_67 : decode cX5_notes 67 = .ok (.iload 4, 2) := dk_21 4 (dk_at dksX5_notes_2 19 rfl rfl)
theorem dX5_notes_69 : decode cX5_notes 69 = .ok (.aload_n 0, 1) := dk_42 (dk_at dksX5_notes_2 21 rfl rfl)
theorem dX5_notes_70 : decode cX5_notes 70 = .ok (.getfield 158, 3) := dk_180 0 158 (dk_at dksX5_notes_3 0 rfl rfl)
theorem dX5_notes_73 : decode cX5_notes 73 = .ok (.iastore, 1) := dk_79 (dk_at dksX5_notes_3 3 rfl rfl)
theorem dX5_notes_74 : decode cX5_notes 74 = .ok (.aload_n 0, 1) := dk_42 (dk_at dksX5_notes_3 4 rfl rfl)
theorem dX5_notes_75 : decode cX5_notes 75 = .ok (.getfield 103, 3) := dk_180 0 103 (dk_at dksX5_notes_3 5 rfl rfl)
theorem dX5_notes_78 : decode cX5_notes 78 = .ok (.iload 4, 2) := dk_21 4 (dk_at dksX5_notes_3 8 rfl rfl)
theorem dX5_notes_80 : decode cX5_notes 80 = .ok (.iconst 1, 1) := dk_4 (dk_at dksX5_notes_3 10 rfl rfl)
theorem dX5_notes_81 : decode cX5_notes 81 = .ok (.iadd, 1) := dk_96 (dk_at dksX5_notes_3 11 rfl rfl)
theorem dX5_notes_82 : decode cX5_notes 82 = .ok (.iload_n 1, 1) := dk_27 (dk_at dksX5_notes_3 12 rfl rfl)
theorem dX5_notes_83 : decode cX5_notes 83 = .ok (.iastore, 1) := dk_79 (dk_at dksX5_notes_3 13 rfl rfl)
theorem dX5_notes_84 : decode cX5_notes 84 = .ok (.aload_n 0, 1) := dk_42 (dk_at dksX5_notes_3 14 rfl rfl)
theorem dX5_notes_85 : decode cX5_notes 85 = .ok (.getfield 103, 3) := dk_180 0 103 (dk_at dksX5_notes_3 15 rfl rfl)
theorem dX5_notes_88 : decode cX5_notes 88 = .ok (.iload 4, 2) := dk_21 4 (dk_at dksX5_notes_3 18 rfl rfl)
theorem dX5_notes_90 : decode cX5_notes 90 = .ok (.iconst 2, 1) := dk_5 (dk_at dksX5_notes_3 20 rfl rfl)
theorem dX5_notes_91 : decode cX5_notes 91 = .ok (.iadd, 1) := dk_96 (dk_at dksX5_notes_3 21 rfl rfl)
theorem dX5_notes_92 : decode cX5_notes 92 = .ok (.iload_n 2, 1) := dk_28 (dk_at dksX5_notes_3 22 rfl rfl)
theorem dX5_notes_93 : decode cX5_notes 93 = .ok (.iastore, 1) := dk_79 (dk_at dksX5_notes_3 23 rfl rfl)
theorem dX5_notes_94 : decode cX5_notes 94 = .ok (.aload_n 0, 1) := dk_42 (dk_at dksX5_notes_4 0 rfl rfl)
theorem dX5_notes_95 : decode cX5_notes 95 = .ok (.getfield 103, 3) := dk_180 0 103 (dk_at dksX5_notes_4 1 rfl rfl)
theorem dX5_notes_98 : decode cX5_notes 98 = .ok (.iload 4, 2) := dk_21 4 (dk_at dksX5_notes_4 4 rfl rfl)
theorem dX5_notes_100 : decode cX5_notes 100 = .ok (.iconst 3, 1) := dk_6 (dk_at dksX5_notes_4 6 rfl rfl)
theorem dX5_notes_101 : decode cX5_notes 101 = .ok (.iadd, 1) := dk_96 (dk_at dksX5_notes_4 7 rfl rfl)
theorem dX5_notes_102 : decode cX5_notes 102 = .ok (.iload_n 3, 1) := dk_29 (dk_at dksX5_notes_4 8 rfl rfl)
theorem dX5_notes_103 : decode cX5_notes 103 = .ok (.iastore, 1) := dk_79 (dk_at dksX5_notes_4 9 rfl rfl)
theorem dX5_notes_104 : decode cX5_notes 104 = .ok (.aload_n 0, 1) := dk_42 (dk_at dksX5_notes_4 10 rfl rfl)
theorem dX5_notes_105 : decode cX5_notes 105 = .ok (.dup, 1) := dk_89 (dk_at dksX5_notes_4 11 rfl rfl)
theorem dX5_notes_106 : decode cX5_notes 106 = .ok (.getfield 155, 3) := dk_180 0 155 (dk_at dksX5_notes_4 12 rfl rfl)
theorem dX5_notes_109 : decode cX5_notes 109 = .ok (.iconst 1, 1) := dk_4 (dk_at dksX5_notes_4 15 rfl rfl)
theorem dX5_notes_110 : decode cX5_notes 110 = .ok (.iadd, 1) := dk_96 (dk_at dksX5_notes_4 16 rfl rfl)
theorem dX5_notes_111 : decode cX5_notes 111 = .ok (.putfield 155, 3) := dk_181 0 155 (dk_at dksX5_notes_4 17 rfl rfl)
theorem dX5_notes_114 : decode cX5_notes 114 = .ok (.return_, 1) := dk_177 (dk_at dksX5_notes_4 20 rfl rfl)
abbrev cX5_requestsNext : ByteArray := prog_18_method_24_code
def yX5_requestsNext : MethodName := ⟨RX5, "requestsNext", "(I)V"⟩
def dkwX5_requestsNext_4 : List UInt8 := [42, 27, 4, 29, 182, 0, 203, 177]
abbrev dktX5_requestsNext_4 : List UInt8 := dkwX5_requestsNext_4 ++ []
def dkwX5_requestsNext_3 : List UInt8 := [180, 0, 85, 28, 46, 7, 108, 96, 42, 27, 29, 182, 0, 207, 153, 0, 7, 4, 167, 0, 4, 3, 96, 79]
abbrev dktX5_requestsNext_3 : List UInt8 := dkwX5_requestsNext_3 ++ dktX5_requestsNext_4
def dkwX5_requestsNext_2 : List UInt8 := [27, 46, 4, 96, 182, 0, 147, 62, 42, 180, 0, 49, 27, 5, 79, 42, 180, 0, 55, 27, 4, 42]
abbrev dktX5_requestsNext_2 : List UInt8 := dkwX5_requestsNext_2 ++ dktX5_requestsNext_3
def dkwX5_requestsNext_1 : List UInt8 := [154, 0, 18, 42, 180, 0, 49, 27, 6, 79, 42, 180, 0, 55, 27, 3, 79, 177, 42, 28, 42, 180, 0, 52]
abbrev dktX5_requestsNext_1 : List UInt8 := dkwX5_requestsNext_1 ++ dktX5_requestsNext_2
def dkwX5_requestsNext_0 : List UInt8 := [42, 180, 0, 46, 27, 46, 61, 42, 27, 28, 42, 180, 0, 52, 27, 46, 4, 96, 3, 182, 0, 195]
abbrev dktX5_requestsNext_0 : List UInt8 := dkwX5_requestsNext_0 ++ dktX5_requestsNext_1
theorem dksX5_requestsNext_0 : cX5_requestsNext.data.toList.drop 0 = dktX5_requestsNext_0 := by decide +kernel
theorem dksX5_requestsNext_1 : cX5_requestsNext.data.toList.drop 22 = dktX5_requestsNext_1 := dk_seg dksX5_requestsNext_0 22 rfl rfl
theorem dksX5_requestsNext_2 : cX5_requestsNext.data.toList.drop 46 = dktX5_requestsNext_2 := dk_seg dksX5_requestsNext_1 24 rfl rfl
theorem dksX5_requestsNext_3 : cX5_requestsNext.data.toList.drop 68 = dktX5_requestsNext_3 := dk_seg dksX5_requestsNext_2 22 rfl rfl
theorem dksX5_requestsNext_4 : cX5_requestsNext.data.toList.drop 92 = dktX5_requestsNext_4 := dk_seg dksX5_requestsNext_3 24 rfl rfl
theorem dX5_requestsNext_0 : decode cX5_requestsNext 0 = .ok (.aload_n 0, 1) := dk_42 (dk_at dksX5_requestsNext_0 0 rfl rfl)
theorem dX5_requestsNext_1 : decode cX5_requestsNext 1 = .ok (.getfield 46, 3) := dk_180 0 46 (dk_at dksX5_requestsNext_0 1 rfl rfl)
theorem dX5_requestsNext_4 : decode cX5_requestsNext 4 = .ok (.iload_n 1, 1) := dk_27 (dk_at dksX5_requestsNext_0 4 rfl rfl)
theorem dX5_requestsNext_5 : decode cX5_requestsNext 5 = .ok (.iaload, 1) := dk_46 (dk_at dksX5_requestsNext_0 5 rfl rfl)
theorem dX5_requestsNext_6 : decode cX5_requestsNext 6 = .ok (.istore_n 2, 1) := dk_61 (dk_at dksX5_requestsNext_0 6 rfl rfl)
theorem dX5_requestsNext_7 : decode cX5_requestsNext 7 = .ok (.aload_n 0, 1) := dk_42 (dk_at dksX5_requestsNext_0 7 rfl rfl)
theorem dX5_requestsNext_8 : decode cX5_requestsNext 8 = .ok (.iload_n 1, 1) := dk_27 (dk_at dksX5_requestsNext_0 8 rfl rfl)
theorem dX5_requestsNext_9 : decode cX5_requestsNext 9 = .ok (.iload_n 2, 1) := dk_28 (dk_at dksX5_requestsNext_0 9 rfl rfl)
theorem dX5_requestsNext_10 : decode cX5_requestsNext 10 = .ok (.aload_n 0, 1) := dk_42 (dk_at dksX5_requestsNext_0 10 rfl rfl)
theorem dX5_requestsNext_11 : decode cX5_requestsNext 11 = .ok (.getfield 52, 3) := dk_180 0 52 (dk_at dksX5_requestsNext_0 11 rfl rfl)
theorem dX5_requestsNext_14 : decode cX5_requestsNext 14 = .ok (.iload_n 1, 1) := dk_27 (dk_at dksX5_requestsNext_0 14 rfl rfl)
theorem dX5_requestsNext_15 : decode cX5_requestsNext 15 = .ok (.iaload, 1) := dk_46 (dk_at dksX5_requestsNext_0 15 rfl rfl)
theorem dX5_requestsNext_16 : decode cX5_requestsNext 16 = .ok (.iconst 1, 1) := dk_4 (dk_at dksX5_requestsNext_0 16 rfl rfl)
theorem dX5_requestsNext_17 : decode cX5_requestsNext 17 = .ok (.iadd, 1) := dk_96 (dk_at dksX5_requestsNext_0 17 rfl rfl)
theorem dX5_requestsNext_18 : decode cX5_requestsNext 18 = .ok (.iconst 0, 1) := dk_3 (dk_at dksX5_requestsNext_0 18 rfl rfl)
theorem dX5_requestsNext_19 : decode cX5_requestsNext 19 = .ok (.invokevirtual 195, 3) := dk_182 0 195 (dk_at dksX5_requestsNext_0 19 rfl rfl)
theorem dX5_requestsNext_22 : decode cX5_requestsNext 22 = .ok (.ifCond .ne 18, 3) := dk_154 0 18 (dk_at dksX5_requestsNext_1 0 rfl rfl)
theorem dX5_requestsNext_25 : decode cX5_requestsNext 25 = .ok (.aload_n 0, 1) := dk_42 (dk_at dksX5_requestsNext_1 3 rfl rfl)
theorem dX5_requestsNext_26 : decode cX5_requestsNext 26 = .ok (.getfield 49, 3) := dk_180 0 49 (dk_at dksX5_requestsNext_1 4 rfl rfl)
theorem dX5_requestsNext_29 : decode cX5_requestsNext 29 = .ok (.iload_n 1, 1) := dk_27 (dk_at dksX5_requestsNext_1 7 rfl rfl)
theorem dX5_requestsNext_30 : decode cX5_requestsNext 30 = .ok (.iconst 3, 1) := dk_6 (dk_at dksX5_requestsNext_1 8 rfl rfl)
theorem dX5_requestsNext_31 : decode cX5_requestsNext 31 = .ok (.iastore, 1) := dk_79 (dk_at dksX5_requestsNext_1 9 rfl rfl)
theorem dX5_requestsNext_32 : decode cX5_requestsNext 32 = .ok (.aload_n 0, 1) := dk_42 (dk_at dksX5_requestsNext_1 10 rfl rfl)
theorem dX5_requestsNext_33 : decode cX5_requestsNext 33 = .ok (.getfield 55, 3) := dk_180 0 55 (dk_at dksX5_requestsNext_1 11 rfl rfl)
theorem dX5_requestsNext_36 : decode cX5_requestsNext 36 = .ok (.iload_n 1, 1) := dk_27 (dk_at dksX5_requestsNext_1 14 rfl rfl)
theorem dX5_requestsNext_37 : decode cX5_requestsNext 37 = .ok (.iconst 0, 1) := dk_3 (dk_at dksX5_requestsNext_1 15 rfl rfl)
theorem dX5_requestsNext_38 : decode cX5_requestsNext 38 = .ok (.iastore, 1) := dk_79 (dk_at dksX5_requestsNext_1 16 rfl rfl)
theorem dX5_requestsNext_39 : decode cX5_requestsNext 39 = .ok (.return_, 1) := dk_177 (dk_at dksX5_requestsNext_1 17 rfl rfl)
theorem dX5_requestsNext_40 : decode cX5_requestsNext 40 = .ok (.aload_n 0, 1) := dk_42 (dk_at dksX5_requestsNext_1 18 rfl rfl)
theorem dX5_requestsNext_41 : decode cX5_requestsNext 41 = .ok (.iload_n 2, 1) := dk_28 (dk_at dksX5_requestsNext_1 19 rfl rfl)
theorem dX5_requestsNext_42 : decode cX5_requestsNext 42 = .ok (.aload_n 0, 1) := dk_42 (dk_at dksX5_requestsNext_1 20 rfl rfl)
theorem dX5_requestsNext_43 : decode cX5_requestsNext 43 = .ok (.getfield 52, 3) := dk_180 0 52 (dk_at dksX5_requestsNext_1 21 rfl rfl)
theorem dX5_requestsNext_46 : decode cX5_requestsNext 46 = .ok (.iload_n 1, 1) := dk_27 (dk_at dksX5_requestsNext_2 0 rfl rfl)
theorem dX5_requestsNext_47 : decode cX5_requestsNext 47 = .ok (.iaload, 1) := dk_46 (dk_at dksX5_requestsNext_2 1 rfl rfl)
theorem dX5_requestsNext_48 : decode cX5_requestsNext 48 = .ok (.iconst 1, 1) := dk_4 (dk_at dksX5_requestsNext_2 2 rfl rfl)
theorem dX5_requestsNext_49 : decode cX5_requestsNext 49 = .ok (.iadd, 1) := dk_96 (dk_at dksX5_requestsNext_2 3 rfl rfl)
theorem dX5_requestsNext_50 : decode cX5_requestsNext 50 = .ok (.invokevirtual 147, 3) := dk_182 0 147 (dk_at dksX5_requestsNext_2 4 rfl rfl)
theorem dX5_requestsNext_53 : decode cX5_requestsNext 53 = .ok (.istore_n 3, 1) := dk_62 (dk_at dksX5_requestsNext_2 7 rfl rfl)
theorem dX5_requestsNext_54 : decode cX5_requestsNext 54 = .ok (.aload_n 0, 1) := dk_42 (dk_at dksX5_requestsNext_2 8 rfl rfl)
theorem dX5_requestsNext_55 : decode cX5_requestsNext 55 = .ok (.getfield 49, 3) := dk_180 0 49 (dk_at dksX5_requestsNext_2 9 rfl rfl)
theorem dX5_requestsNext_58 : decode cX5_requestsNext 58 = .ok (.iload_n 1, 1) := dk_27 (dk_at dksX5_requestsNext_2 12 rfl rfl)
theorem dX5_requestsNext_59 : decode cX5_requestsNext 59 = .ok (.iconst 2, 1) := dk_5 (dk_at dksX5_requestsNext_2 13 rfl rfl)
theorem dX5_requestsNext_60 : decode cX5_requestsNext 60 = .ok (.iastore, 1) := dk_79 (dk_at dksX5_requestsNext_2 14 rfl rfl)
theorem dX5_requestsNext_61 : decode cX5_requestsNext 61 = .ok (.aload_n 0, 1) := dk_42 (dk_at dksX5_requestsNext_2 15 rfl rfl)
theorem dX5_requestsNext_62 : decode cX5_requestsNext 62 = .ok (.getfield 55, 3) := dk_180 0 55 (dk_at dksX5_requestsNext_2 16 rfl rfl)
theorem dX5_requestsNext_65 : decode cX5_requestsNext 65 = .ok (.iload_n 1, 1) := dk_27 (dk_at dksX5_requestsNext_2 19 rfl rfl)
theorem dX5_requestsNext_66 : decode cX5_requestsNext 66 = .ok (.iconst 1, 1) := dk_4 (dk_at dksX5_requestsNext_2 20 rfl rfl)
theorem dX5_requestsNext_67 : decode cX5_requestsNext 67 = .ok (.aload_n 0, 1) := dk_42 (dk_at dksX5_requestsNext_2 21 rfl rfl)
theorem dX5_requestsNext_68 : decode cX5_requestsNext 68 = .ok (.getfield 85, 3) := dk_180 0 85 (dk_at dksX5_requestsNext_3 0 rfl rfl)
theorem dX5_requestsNext_71 : decode cX5_requestsNext 71 = .ok (.iload_n 2, 1) := dk_28 (dk_at dksX5_requestsNext_3 3 rfl rfl)
theorem dX5_requestsNext_72 : decode cX5_requestsNext 72 = .ok (.iaload, 1) := dk_46 (dk_at dksX5_requestsNext_3 4 rfl rfl)
theorem dX5_requestsNext_73 : decode cX5_requestsNext 73 = .ok (.iconst 4, 1) := dk_7 (dk_at dksX5_requestsNext_3 5 rfl rfl)
theorem dX5_requestsNext_74 : decode cX5_requestsNext 74 = .ok (.idiv, 1) := dk_108 (dk_at dksX5_requestsNext_3 6 rfl rfl)
theorem dX5_requestsNext_75 : decode cX5_requestsNext 75 = .ok (.iadd, 1) := dk_96 (dk_at dksX5_requestsNext_3 7 rfl rfl)
theorem dX5_requestsNext_76 : decode cX5_requestsNext 76 = .ok (.aload_n 0, 1) := dk_42 (dk_at dksX5_requestsNext_3 8 rfl rfl)
theorem dX5_requestsNext_77 : decode cX5_requestsNext 77 = .ok (.iload_n 1, 1) := dk_27 (dk_at dksX5_requestsNext_3 9 rfl rfl)
theorem dX5_requestsNext_78 : decode cX5_requestsNext 78 = .ok (.iload_n 3, 1) := dk_29 (dk_at dksX5_requestsNext_3 10 rfl rfl)
theorem dX5_requestsNext_79 : decode cX5_requestsNext 79 = .ok (.invokevirtual 207, 3) := dk_182 0 207 (dk_at dksX5_requestsNext_3 11 rfl rfl)
theorem dX5_requestsNext_82 : decode cX5_requestsNext 82 = .ok (.ifCond .eq 7, 3) := dk_153 0 7 (dk_at dksX5_requestsNext_3 14 rfl rfl)
theorem dX5_requestsNext_85 : decode cX5_requestsNext 85 = .ok (.iconst 1, 1) := dk_4 (dk_at dksX5_requestsNext_3 17 rfl rfl)
theorem dX5_requestsNext_86 : decode cX5_requestsNext 86 = .ok (.goto 4, 3) := dk_167 0 4 (dk_at dksX5_requestsNext_3 18 rfl rfl)
theorem dX5_requestsNext_89 : decode cX5_requestsNext 89 = .ok (.iconst 0, 1) := dk_3 (dk_at dksX5_requestsNext_3 21 rfl rfl)
theorem dX5_requestsNext_90 : decode cX5_requestsNext 90 = .ok (.iadd, 1) := dk_96 (dk_at dksX5_requestsNext_3 22 rfl rfl)
theorem dX5_requestsNext_91 : decode cX5_requestsNext 91 = .ok (.iastore, 1) := dk_79 (dk_at dksX5_requestsNext_3 23 rfl rfl)
theorem dX5_requestsNext_92 : decode cX5_requestsNext 92 = .ok (.aload_n 0, 1) := dk_42 (dk_at dksX5_requestsNext_4 0 rfl rfl)
theorem dX5_requestsNext_93 : decode cX5_requestsNext 93 = .ok (.iload_n 1, 1) := dk_27 (dk_at dksX5_requestsNext_4 1 rfl rfl)
theorem dX5_requestsNext_94 : decode cX5_requestsNext 94 = .ok (.iconst 1, 1) := dk_4 (dk_at dksX5_requestsNext_4 2 rfl rfl)
theorem dX5_requestsNext_95 : decode cX5_requestsNext 95 = .ok (.iload_n 3, 1) := dk_29 (dk_at dksX5_requestsNext_4 3 rfl rfl)
theorem dX5_requestsNext_96 : decode cX5_requestsNext 96 = .ok (.invokevirtual 203, 3) := dk_182 0 203 (dk_at dksX5_requestsNext_4 4 rfl rfl)
theorem dX5_requestsNext_99 : decode cX5_requestsNext 99 = .ok (.return_, 1) := dk_177 (dk_at dksX5_requestsNext_4 7 rfl rfl)
abbrev cX5_isBeside : ByteArray := prog_18_method_23_code
def yX5_isBeside : MethodName := ⟨RX5, "isBeside", "(II)Z"⟩
def dkwX5_isBeside_2 : List UInt8 := [126, 153, 0, 7, 4, 167, 0, 4, 3, 172]
abbrev dktX5_isBeside_2 : List UInt8 := dkwX5_isBeside_2 ++ []
def dkwX5_isBeside_1 : List UInt8 := [167, 0, 4, 3, 128, 62, 132, 4, 1, 167, 255, 228, 29, 4, 28, 4, 96, 120, 4, 28, 120, 4, 122, 128]
abbrev dktX5_isBeside_1 : List UInt8 := dkwX5_isBeside_1 ++ dktX5_isBeside_2
def dkwX5_isBeside_0 : List UInt8 := [3, 62, 3, 54, 4, 21, 4, 6, 162, 0, 28, 29, 21, 4, 27, 159, 0, 12, 42, 21, 4, 182, 0, 161]
abbrev dktX5_isBeside_0 : List UInt8 := dkwX5_isBeside_0 ++ dktX5_isBeside_1
theorem dksX5_isBeside_0 : cX5_isBeside.data.toList.drop 0 = dktX5_isBeside_0 := by decide +kernel
theorem dksX5_isBeside_1 : cX5_isBeside.data.toList.drop 24 = dktX5_isBeside_1 := dk_seg dksX5_isBeside_0 24 rfl rfl
theorem dksX5_isBeside_2 : cX5_isBeside.data.toList.drop 48 = dktX5_isBeside_2 := dk_seg dksX5_isBeside_1 24 rfl rfl
theorem dX5_isBeside_0 : decode cX5_isBeside 0 = .ok (.iconst 0, 1) := dk_3 (dk_at dksX5_isBeside_0 0 rfl rfl)
theorem dX5_isBeside_1 : decode cX5_isBeside 1 = .ok (.istore_n 3, 1) := dk_62 (dk_at dksX5_isBeside_0 1 rfl rfl)
theorem dX5_isBeside_2 : decode cX5_isBeside 2 = .ok (.iconst 0, 1) := dk_3 (dk_at dksX5_isBeside_0 2 rfl rfl)
theorem dX5_isBeside_3 : decode cX5_isBeside 3 = .ok (.istore 4, 2) := dk_54 4 (dk_at dksX5_isBeside_0 3 rfl rfl)
theorem dX5_isBeside_5 : decode cX5_isBeside 5 = .ok (.iload 4, 2) := dk_21 4 (dk_at dksX5_isBeside_0 5 rfl rfl)
theorem dX5_isBeside_7 : decode cX5_isBeside 7 = .ok (.iconst 3, 1) := dk_6 (dk_at dksX5_isBeside_0 7 rfl rfl)
theorem dX5_isBeside_8 : decode cX5_isBeside 8 = .ok (.if_icmp .ge 28, 3) := dk_162 0 28 (dk_at dksX5_isBeside_0 8 rfl rfl)
theorem dX5_isBeside_11 : decode cX5_isBeside 11 = .ok (.iload_n 3, 1) := dk_29 (dk_at dksX5_isBeside_0 11 rfl rfl)
theorem dX5_isBeside_12 : decode cX5_isBeside 12 = .ok (.iload 4, 2) := dk_21 4 (dk_at dksX5_isBeside_0 12 rfl rfl)
theorem dX5_isBeside_14 : decode cX5_isBeside 14 = .ok (.iload_n 1, 1) := dk_27 (dk_at dksX5_isBeside_0 14 rfl rfl)
theorem dX5_isBeside_15 : decode cX5_isBeside 15 = .ok (.if_icmp .eq 12, 3) := dk_159 0 12 (dk_at dksX5_isBeside_0 15 rfl rfl)
theorem dX5_isBeside_18 : decode cX5_isBeside 18 = .ok (.aload_n 0, 1) := dk_42 (dk_at dksX5_isBeside_0 18 rfl rfl)
theorem dX5_isBeside_19 : decode cX5_isBeside 19 = .ok (.iload 4, 2) := dk_21 4 (dk_at dksX5_isBeside_0 19 rfl rfl)
theorem dX5_isBeside_21 : decode cX5_isBeside 21 = .ok (.invokevirtual 161, 3) := dk_182 0 161 (dk_at dksX5_isBeside_0 21 rfl rfl)
theorem dX5_isBeside_24 : decode cX5_isBeside 24 = .ok (.goto 4, 3) := dk_167 0 4 (dk_at dksX5_isBeside_1 0 rfl rfl)
theorem dX5_isBeside_27 : decode cX5_isBeside 27 = .ok (.iconst 0, 1) := dk_3 (dk_at dksX5_isBeside_1 3 rfl rfl)
theorem dX5_isBeside_28 : decode cX5_isBeside 28 = .ok (.ior, 1) := dk_128 (dk_at dksX5_isBeside_1 4 rfl rfl)
theorem dX5_isBeside_29 : decode cX5_isBeside 29 = .ok (.istore_n 3, 1) := dk_62 (dk_at dksX5_isBeside_1 5 rfl rfl)
theorem dX5_isBeside_30 : decode cX5_isBeside 30 = .ok (.iinc 4 1, 3) := dk_132 4 1 (dk_at dksX5_isBeside_1 6 rfl rfl)
theorem dX5_isBeside_33 : decode cX5_isBeside 33 = .ok (.goto (-28), 3) := dk_167 255 228 (dk_at dksX5_isBeside_1 9 rfl rfl)
theorem dX5_isBeside_36 : decode cX5_isBeside 36 = .ok (.iload_n 3, 1) := dk_29 (dk_at dksX5_isBeside_1 12 rfl rfl)
theorem dX5_isBeside_37 : decode cX5_isBeside 37 = .ok (.iconst 1, 1) := dk_4 (dk_at dksX5_isBeside_1 13 rfl rfl)
theorem dX5_isBeside_38 : decode cX5_isBeside 38 = .ok (.iload_n 2, 1) := dk_28 (dk_at dksX5_isBeside_1 14 rfl rfl)
theorem dX5_isBeside_39 : decode cX5_isBeside 39 = .ok (.iconst 1, 1) := dk_4 (dk_at dksX5_isBeside_1 15 rfl rfl)
theorem dX5_isBeside_40 : decode cX5_isBeside 40 = .ok (.iadd, 1) := dk_96 (dk_at dksX5_isBeside_1 16 rfl rfl)
theorem dX5_isBeside_41 : decode cX5_isBeside 41 = .ok (.ishl, 1) := dk_120 (dk_at dksX5_isBeside_1 17 rfl rfl)
theorem dX5_isBeside_42 : decode cX5_isBeside 42 = .ok (.iconst 1, 1) := dk_4 (dk_at dksX5_isBeside_1 18 rfl rfl)
theorem dX5_isBeside_43 : decode cX5_isBeside 43 = .ok (.iload_n 2, 1) := dk_28 (dk_at dksX5_isBeside_1 19 rfl rfl)
theorem dX5_isBeside_44 : decode cX5_isBeside 44 = .ok (.ishl, 1) := dk_120 (dk_at dksX5_isBeside_1 20 rfl rfl)
theorem dX5_isBeside_45 : decode cX5_isBeside 45 = .ok (.iconst 1, 1) := dk_4 (dk_at dksX5_isBeside_1 21 rfl rfl)
theorem dX5_isBeside_46 : decode cX5_isBeside 46 = .ok (.ishr, 1) := dk_122 (dk_at dksX5_isBeside_1 22 rfl rfl)
theorem dX5_isBeside_47 : decode cX5_isBeside 47 = .ok (.ior, 1) := dk_128 (dk_at dksX5_isBeside_1 23 rfl rfl)
theorem dX5_isBeside_48 : decode cX5_isBeside 48 = .ok (.iand, 1) := dk_126 (dk_at dksX5_isBeside_2 0 rfl rfl)
theorem dX5_isBeside_49 : decode cX5_isBeside 49 = .ok (.ifCond .eq 7, 3) := dk_153 0 7 (dk_at dksX5_isBeside_2 1 rfl rfl)
theorem dX5_isBeside_52 : decode cX5_isBeside 52 = .ok (.iconst 1, 1) := dk_4 (dk_at dksX5_isBeside_2 4 rfl rfl)
theorem dX5_isBeside_53 : decode cX5_isBeside 53 = .ok (.goto 4, 3) := dk_167 0 4 (dk_at dksX5_isBeside_2 5 rfl rfl)
theorem dX5_isBeside_56 : decode cX5_isBeside 56 = .ok (.iconst 0, 1) := dk_3 (dk_at dksX5_isBeside_2 8 rfl rfl)
theorem dX5_isBeside_57 : decode cX5_isBeside 57 = .ok (.ireturn, 1) := dk_172 (dk_at dksX5_isBeside_2 9 rfl rfl)
abbrev cX5_ends : ByteArray := prog_18_method_27_code
def yX5_ends : MethodName := ⟨RX5, "ends", "(I)V"⟩
def dkwX5_ends_8 : List UInt8 := [182, 0, 226, 177]
abbrev dktX5_ends_8 : List UInt8 := dkwX5_ends_8 ++ []
def dkwX5_ends_7 : List UInt8 := [180, 0, 25, 42, 180, 0, 91, 28, 46, 92, 46, 4, 100, 79, 42, 42, 180, 0, 91, 28, 46, 29]
abbrev dktX5_ends_7 : List UInt8 := dkwX5_ends_7 ++ dktX5_ends_8
def dkwX5_ends_6 : List UInt8 := [181, 0, 220, 177, 29, 156, 0, 18, 42, 180, 0, 223, 62, 42, 89, 180, 0, 223, 4, 96, 181, 0, 223, 42]
abbrev dktX5_ends_6 : List UInt8 := dkwX5_ends_6 ++ dktX5_ends_7
def dkwX5_ends_5 : List UInt8 := [180, 0, 91, 28, 46, 156, 0, 22, 42, 89, 180, 0, 220, 29, 155, 0, 7, 4, 167, 0, 4, 3, 96]
abbrev dktX5_ends_5 : List UInt8 := dkwX5_ends_5 ++ dktX5_ends_6
def dkwX5_ends_4 : List UInt8 := [180, 0, 88, 28, 46, 155, 0, 16, 42, 42, 180, 0, 88, 28, 46, 182, 0, 217, 167, 0, 4, 2, 62, 42]
abbrev dktX5_ends_4 : List UInt8 := dkwX5_ends_4 ++ dktX5_ends_5
def dkwX5_ends_3 : List UInt8 := [181, 0, 211, 42, 89, 180, 0, 214, 42, 180, 0, 158, 42, 180, 0, 97, 28, 46, 100, 96, 181, 0, 214, 42]
abbrev dktX5_ends_3 : List UInt8 := dkwX5_ends_3 ++ dktX5_ends_4
def dkwX5_ends_2 : List UInt8 := [180, 0, 94, 28, 5, 79, 42, 180, 0, 100, 28, 42, 180, 0, 158, 79, 42, 89, 180, 0, 211, 4, 96]
abbrev dktX5_ends_2 : List UInt8 := dkwX5_ends_2 ++ dktX5_ends_3
def dkwX5_ends_1 : List UInt8 := [79, 42, 180, 0, 46, 27, 2, 79, 42, 180, 0, 52, 27, 3, 79, 42, 180, 0, 55, 27, 3, 79, 42]
abbrev dktX5_ends_1 : List UInt8 := dkwX5_ends_1 ++ dktX5_ends_2
def dkwX5_ends_0 : List UInt8 := [42, 180, 0, 46, 27, 46, 61, 42, 27, 6, 42, 27, 182, 0, 151, 182, 0, 203, 42, 180, 0, 49, 27, 3]
abbrev dktX5_ends_0 : List UInt8 := dkwX5_ends_0 ++ dktX5_ends_1
theorem dksX5_ends_0 : cX5_ends.data.toList.drop 0 = dktX5_ends_0 := by decide +kernel
theorem dksX5_ends_1 : cX5_ends.data.toList.drop 24 = dktX5_ends_1 := dk_seg dksX5_ends_0 24 rfl rfl
theorem dksX5_ends_2 : cX5_ends.data.toList.drop 47 = dktX5_ends_2 := dk_seg dksX5_ends_1 23 rfl rfl
theorem dksX5_ends_3 : cX5_ends.data.toList.drop 70 = dktX5_ends_3 := dk_seg dksX5_ends_2 23 rfl rfl
theorem dksX5_ends_4 : cX5_ends.data.toList.drop 94 = dktX5_ends_4 := dk_seg dksX5_ends_3 24 rfl rfl
theorem dksX5_ends_5 : cX5_ends.data.toList.drop 118 = dktX5_ends_5 := dk_seg dksX5_ends_4 24 rfl rfl
theorem dksX5_ends_6 : cX5_ends.data.toList.drop 141 = dktX5_ends_6 := dk_seg dksX5_ends_5 23 rfl rfl
theorem dksX5_ends_7 : cX5_ends.data.toList.drop 165 = dktX5_ends_7 := dk_seg dksX5_ends_6 24 rfl rfl
theorem dksX5_ends_8 : cX5_ends.data.toList.drop 187 = dktX5_ends_8 := dk_seg dksX5_ends_7 22 rfl rfl
theorem dX5_ends_0 : decode cX5_ends 0 = .ok (.aload_n 0, 1) := dk_42 (dk_at dksX5_ends_0 0 rfl rfl)
theorem dX5_ends_1 : decode cX5_ends 1 = .ok (.getfield 46, 3) := dk_180 0 46 (dk_at dksX5_ends_0 1 rfl rfl)
theorem dX5_ends_4 : decode cX5_ends 4 = .ok (.iload_n 1, 1) := dk_27 (dk_at dksX5_ends_0 4 rfl rfl)
theorem dX5_ends_5 : decode cX5_ends 5 = .ok (.iaload, 1) := dk_46 (dk_at dksX5_ends_0 5 rfl rfl)
theorem dX5_ends_6 : decode cX5_ends 6 = .ok (.istore_n 2, 1) := dk_61 (dk_at dksX5_ends_0 6 rfl rfl)
theorem dX5_ends_7 : decode cX5_ends 7 = .ok (.aload_n 0, 1) := dk_42 (dk_at dksX5_ends_0 7 rfl rfl)
theorem dX5_ends_8 : decode cX5_ends 8 = .ok (.iload_n 1, 1) := dk_27 (dk_at dksX5_ends_0 8 rfl rfl)
theorem dX5_ends_9 : decode cX5_ends 9 = .ok (.iconst 3, 1) := dk_6 (dk_at dksX5_ends_0 9 rfl rfl)
theorem dX5_ends_10 : decode cX5_ends 10 = .ok (.aload_n 0, 1) := dk_42 (dk_at dksX5_ends_0 10 rfl rfl)
theorem dX5_ends_11 : decode cX5_ends 11 = .ok (.iload_n 1, 1) := dk_27 (dk_at dksX5_ends_0 11 rfl rfl)
theorem dX5_ends_12 : decode cX5_ends 12 = .ok (.invokevirtual 151, 3) := dk_182 0 151 (dk_at dksX5_ends_0 12 rfl rfl)
theorem dX5_ends_15 : decode cX5_ends 15 = .ok (.invokevirtual 203, 3) := dk_182 0 203 (dk_at dksX5_ends_0 15 rfl rfl)
theorem dX5_ends_18 : decode cX5_ends 18 = .ok (.aload_n 0, 1) := dk_42 (dk_at dksX5_ends_0 18 rfl rfl)
theorem dX5_ends_19 : decode cX5_ends 19 = .ok (.getfield 49, 3) := dk_180 0 49 (dk_at dksX5_ends_0 19 rfl rfl)
theorem dX5_ends_22 : decode cX5_ends 22 = .ok (.iload_n 1, 1) := dk_27 (dk_at dksX5_ends_0 22 rfl rfl)
theorem dX5_ends_23 : decode cX5_ends 23 = .ok (.iconst 0, 1) := dk_3 (dk_at dksX5_ends_0 23 rfl rfl)
theorem dX5_ends_24 : decode cX5_ends 24 = .ok (.iastore, 1) := dk_79 (dk_at dksX5_ends_1 0 rfl rfl)
theorem dX5_ends_25 : decode cX5_ends 25 = .ok (.aload_n 0, 1) := dk_42 (dk_at dksX5_ends_1 1 rfl rfl)
theorem dX5_ends_26 : decode cX5_ends 26 = .ok (.getfield 46, 3) := dk_180 0 46 (dk_at dksX5_ends_1 2 rfl rfl)
theorem dX5_ends_29 : decode cX5_ends 29 = .ok (.iload_n 1, 1) := dk_27 (dk_at dksX5_ends_1 5 rfl rfl)
theorem dX5_ends_30 : decode cX5_ends 30 = .ok (.iconst (-1), 1) := dk_2 (dk_at dksX5_ends_1 6 rfl rfl)
theorem dX5_ends_31 : decode cX5_ends 31 = .ok (.iastore, 1) := dk_79 (dk_at dksX5_ends_1 7 rfl rfl)
theorem dX5_ends_32 : decode cX5_ends 32 = .ok (.aload_n 0, 1) := dk_42 (dk_at dksX5_ends_1 8 rfl rfl)
theorem dX5_ends_33 : decode cX5_ends 33 = .ok (.getfield 52, 3) := dk_180 0 52 (dk_at dksX5_ends_1 9 rfl rfl)
theorem dX5_ends_36 : decode cX5_ends 36 = .ok (.iload_n 1, 1) := dk_27 (dk_at dksX5_ends_1 12 rfl rfl)
theorem dX5_ends_37 : decode cX5_ends 37 = .ok (.iconst 0, 1) := dk_3 (dk_at dksX5_ends_1 13 rfl rfl)
theorem dX5_ends_38 : decode cX5_ends 38 = .ok (.iastore, 1) := dk_79 (dk_at dksX5_ends_1 14 rfl rfl)
theorem dX5_ends_39 : decode cX5_ends 39 = .ok (.aload_n 0, 1) := dk_42 (dk_at dksX5_ends_1 15 rfl rfl)
theorem dX5_ends_40 : decode cX5_ends 40 = .ok (.getfield 55, 3) := dk_180 0 55 (dk_at dksX5_ends_1 16 rfl rfl)
theorem dX5_ends_43 : decode cX5_ends 43 = .ok (.iload_n 1, 1) := dk_27 (dk_at dksX5_ends_1 19 rfl rfl)
theorem dX5_ends_44 : decode cX5_ends 44 = .ok (.iconst 0, 1) := dk_3 (dk_at dksX5_ends_1 20 rfl rfl)
theorem dX5_ends_45 : decode cX5_ends 45 = .ok (.iastore, 1) := dk_79 (dk_at dksX5_ends_1 21 rfl rfl)
theorem dX5_ends_46 : decode cX5_ends 46 = .ok (.aload_n 0, 1) := dk_42 (dk_at dksX5_ends_1 22 rfl rfl)
theorem dX5_ends_47 : decode cX5_ends 47 = .ok (.getfield 94, 3) := dk_180 0 94 (dk_at dksX5_ends_2 0 rfl rfl)
theorem dX5_ends_50 : decode cX5_ends 50 = .ok (.iload_n 2, 1) := dk_28 (dk_at dksX5_ends_2 3 rfl rfl)
theorem dX5_ends_51 : decode cX5_ends 51 = .ok (.iconst 2, 1) := dk_5 (dk_at dksX5_ends_2 4 rfl rfl)
theorem dX5_ends_52 : decode cX5_ends 52 = .ok (.iastore, 1) := dk_79 (dk_at dksX5_ends_2 5 rfl rfl)
theorem dX5_ends_53 : decode cX5_ends 53 = .ok (.aload_n 0, 1) := dk_42 (dk_at dksX5_ends_2 6 rfl rfl)
theorem dX5_ends_54 : decode cX5_ends 54 = .ok (.getfield 100, 3) := dk_180 0 100 (dk_at dksX5_ends_2 7 rfl rfl)
theorem dX5_ends_57 : decode cX5_ends 57 = .ok (.iload_n 2, 1) := dk_28 (dk_at dksX5_ends_2 10 rfl rfl)
theorem dX5_ends_58 : decode cX5_ends 58 = .ok (.aload_n 0, 1) := dk_42 (dk_at dksX5_ends_2 11 rfl rfl)
theorem dX5_ends_59 : decode cX5_ends 59 = .ok (.getfield 158, 3) := dk_180 0 158 (dk_at dksX5_ends_2 12 rfl rfl)
theorem dX5_ends_62 : decode cX5_ends 62 = .ok (.iastore, 1) := dk_79 (dk_at dksX5_ends_2 15 rfl rfl)
theorem dX5_ends_63 : decode cX5_ends 63 = .ok (.aload_n 0, 1) := dk_42 (dk_at dksX5_ends_2 16 rfl rfl)
theorem dX5_ends_64 : decode cX5_ends 64 = .ok (.dup, 1) := dk_89 (dk_at dksX5_ends_2 17 rfl rfl)
theorem dX5_ends_65 : decode cX5_ends 65 = .ok (.getfield 211, 3) := dk_180 0 211 (dk_at dksX5_ends_2 18 rfl rfl)
theorem dX5_ends_68 : decode cX5_ends 68 = .ok (.iconst 1, 1) := dk_4 (dk_at dksX5_ends_2 21 rfl rfl)
theorem dX5_ends_69 : decode cX5_ends 69 = .ok (.iadd, 1) := dk_96 (dk_at dksX5_ends_2 22 rfl rfl)
theorem dX5_ends_70 : decode cX5_ends 70 = .ok (.putfield 211, 3) := dk_181 0 211 (dk_at dksX5_ends_3 0 rfl rfl)
theorem dX5_ends_73 : decode cX5_ends 73 = .ok (.aload_n 0, 1) := dk_42 (dk_at dksX5_ends_3 3 rfl rfl)
theorem dX5_ends_74 : decode cX5_ends 74 = .ok (.dup, 1) := dk_89 (dk_at dksX5_ends_3 4 rfl rfl)
theorem dX5_ends_75 : decode cX5_ends 75 = .ok (.getfield 214, 3) := dk_180 0 214 (dk_at dksX5_ends_3 5 rfl rfl)
theorem dX5_ends_78 : decode cX5_ends 78 = .ok (.aload_n 0, 1) := dk_42 (dk_at dksX5_ends_3 8 rfl rfl)
theorem dX5_ends_79 : decode cX5_ends 79 = .ok (.getfield 158, 3) := dk_180 0 158 (dk_at dksX5_ends_3 9 rfl rfl)
theorem dX5_ends_82 : decode cX5_ends 82 = .ok (.aload_n 0, 1) := dk_42 (dk_at dksX5_ends_3 12 rfl rfl)
theorem dX5_ends_83 : decode cX5_ends 83 = .ok (.getfield 97, 3) := dk_180 0 97 (dk_at dksX5_ends_3 13 rfl rfl)
theorem dX5_ends_86 : decode cX5_ends 86 = .ok (.iload_n 2, 1) := dk_28 (dk_at dksX5_ends_3 16 rfl rfl)
theorem dX5_ends_87 : decode cX5_ends 87 = .ok (.iaload, 1) := dk_46 (dk_at dksX5_ends_3 17 rfl rfl)
theorem dX5_ends_88 : decode cX5_ends 88 = .ok (.isub, 1) := dk_100 (dk_at dksX5_ends_3 18 rfl rfl)
theorem dX5_ends_89 : decode cX5_ends 89 = .ok (.iadd, 1) := dk_96 (dk_at dksX5_ends_3 19 rfl rfl)
theorem dX5_ends_90 : decode cX5_ends 90 = .ok (.putfield 214, 3) := dk_181 0 214 (dk_at dksX5_ends_3 20 rfl rfl)
theorem dX5_ends_93 : decode cX5_ends 93 = .ok (.aload_n 0, 1) := dk_42 (dk_at dksX5_ends_3 23 rfl rfl)
theorem dX5_ends_94 : decode cX5_ends 94 = .ok (.getfield 88, 3) := dk_180 0 88 (dk_at dksX5_ends_4 0 rfl rfl)
theorem dX5_ends_97 : decode cX5_ends 97 = .ok (.iload_n 2, 1) := dk_28 (dk_at dksX5_ends_4 3 rfl rfl)
theorem dX5_ends_98 : decode cX5_ends 98 = .ok (.iaload, 1) := dk_46 (dk_at dksX5_ends_4 4 rfl rfl)
theorem dX5_ends_99 : decode cX5_ends 99 = .ok (.ifCond .lt 16, 3) := dk_155 0 16 (dk_at dksX5_ends_4 5 rfl rfl)
theorem dX5_ends_102 : decode cX5_ends 102 = .ok (.aload_n 0, 1) := dk_42 (dk_at dksX5_ends_4 8 rfl rfl)
theorem dX5_ends_103 : decode cX5_ends 103 = .ok (.aload_n 0, 1) := dk_42 (dk_at dksX5_ends_4 9 rfl rfl)
theorem dX5_ends_104 : decode cX5_ends 104 = .ok (.getfield 88, 3) := dk_180 0 88 (dk_at dksX5_ends_4 10 rfl rfl)
theorem dX5_ends_107 : decode cX5_ends 107 = .ok (.iload_n 2, 1) := dk_28 (dk_at dksX5_ends_4 13 rfl rfl)
theorem dX5_ends_108 : decode cX5_ends 108 = .ok (.iaload, 1) := dk_46 (dk_at dksX5_ends_4 14 rfl rfl)
theorem dX5_ends_109 : decode cX5_ends 109 = .ok (.invokevirtual 217, 3) := dk_182 0 217 (dk_at dksX5_ends_4 15 rfl rfl)
theorem dX5_ends_112 : decode cX5_ends 112 = .ok (.goto 4, 3) := dk_167 0 4 (dk_at dksX5_ends_4 18 rfl rfl)
theorem dX5_ends_115 : decode cX5_ends 115 = .ok (.iconst (-1), 1) := dk_2 (dk_at dksX5_ends_4 21 rfl rfl)
theorem dX5_ends_116 : decode cX5_ends 116 = .ok (.istore_n 3, 1) := dk_62 (dk_at dksX5_ends_4 22 rfl rfl)
theorem dX5_ends_117 : decode cX5_ends 117 = .ok (.aload_n 0, 1) := dk_42 (dk_at dksX5_ends_4 23 rfl rfl)
theorem dX5_ends_118 : decode cX5_ends 118 = .ok (.getfield 91, 3) := dk_180 0 91 (dk_at dksX5_ends_5 0 rfl rfl)
theorem dX5_ends_121 : decode cX5_ends 121 = .ok (.iload_n 2, 1) := dk_28 (dk_at dksX5_ends_5 3 rfl rfl)
theorem dX5_ends_122 : decode cX5_ends 122 = .ok (.iaload, 1) := dk_46 (dk_at dksX5_ends_5 4 rfl rfl)
theorem dX5_ends_123 : decode cX5_ends 123 = .ok (.ifCond .ge 22, 3) := dk_156 0 22 (dk_at dksX5_ends_5 5 rfl rfl)
theorem dX5_ends_126 : decode cX5_ends 126 = .ok (.aload_n 0, 1) := dk_42 (dk_at dksX5_ends_5 8 rfl rfl)
theorem dX5_ends_127 : decode cX5_ends 127 = .ok (.dup, 1) := dk_89 (dk_at dksX5_ends_5 9 rfl rfl)
theorem dX5_ends_128 : decode cX5_ends 128 = .ok (.getfield 220, 3) := dk_180 0 220 (dk_at dksX5_ends_5 10 rfl rfl)
theorem dX5_ends_131 : decode cX5_ends 131 = .ok (.iload_n 3, 1) := dk_29 (dk_at dksX5_ends_5 13 rfl rfl)
theorem dX5_ends_132 : decode cX5_ends 132 = .ok (.ifCond .lt 7, 3) := dk_155 0 7 (dk_at dksX5_ends_5 14 rfl rfl)
theorem dX5_ends_135 : decode cX5_ends 135 = .ok (.iconst 1, 1) := dk_4 (dk_at dksX5_ends_5 17 rfl rfl)
theorem dX5_ends_136 : decode cX5_ends 136 = .ok (.goto 4, 3) := dk_167 0 4 (dk_at dksX5_ends_5 18 rfl rfl)
theorem dX5_ends_139 : decode cX5_ends 139 = .ok (.iconst 0, 1) := dk_3 (dk_at dksX5_ends_5 21 rfl rfl)
theorem dX5_ends_140 : decode cX5_ends 140 = .ok (.iadd, 1) := dk_96 (dk_at dksX5_ends_5 22 rfl rfl)
theorem dX5_ends_141 : decode cX5_ends 141 = .ok (.putfield 220, 3) := dk_181 0 220 (dk_at dksX5_ends_6 0 rfl rfl)
theorem dX5_ends_144 : decode cX5_ends 144 = .ok (.return_, 1) := dk_177 (dk_at dksX5_ends_6 3 rfl rfl)
theorem dX5_ends_145 : decode cX5_ends 145 = .ok (.iload_n 3, 1) := dk_29 (dk_at dksX5_ends_6 4 rfl rfl)
theorem dX5_ends_146 : decode cX5_ends 146 = .ok (.ifCond .ge 18, 3) := dk_156 0 18 (dk_at dksX5_ends_6 5 rfl rfl)
theorem dX5_ends_149 : decode cX5_ends 149 = .ok (.aload_n 0, 1) := dk_42 (dk_at dksX5_ends_6 8 rfl rfl)
theorem dX5_ends_150 : decode cX5_ends 150 = .ok (.getfield 223, 3) := dk_180 0 223 (dk_at dksX5_ends_6 9 rfl rfl)
theorem dX5_ends_153 : decode cX5_ends 153 = .ok (.istore_n 3, 1) := dk_62 (dk_at dksX5_ends_6 12 rfl rfl)
theorem dX5_ends_154 : decode cX5_ends 154 = .ok (.aload_n 0, 1) := dk_42 (dk_at dksX5_ends_6 13 rfl rfl)
theorem dX5_ends_155 : decode cX5_ends 155 = .ok (.dup, 1) := dk_89 (dk_at dksX5_ends_6 14 rfl rfl)
theorem dX5_ends_156 : decode cX5_ends 156 = .ok (.getfield 223, 3) := dk_180 0 223 (dk_at dksX5_ends_6 15 rfl rfl)
theorem dX5_ends_159 : decode cX5_ends 159 = .ok (.iconst 1, 1) := dk_4 (dk_at dksX5_ends_6 18 rfl rfl)
theorem dX5_ends_160 : decode cX5_ends 160 = .ok (.iadd, 1) := dk_96 (dk_at dksX5_ends_6 19 rfl rfl)
theorem dX5_ends_161 : decode cX5_ends 161 = .ok (.putfield 223, 3) := dk_181 0 223 (dk_at dksX5_ends_6 20 rfl rfl)
theorem dX5_ends_164 : decode cX5_ends 164 = .ok (.aload_n 0, 1) := dk_42 (dk_at dksX5_ends_6 23 rfl rfl)
theorem dX5_ends_165 : decode cX5_ends 165 = .ok (.getfield 25, 3) := dk_180 0 25 (dk_at dksX5_ends_7 0 rfl rfl)
theorem dX5_ends_168 : decode cX5_ends 168 = .ok (.aload_n 0, 1) := dk_42 (dk_at dksX5_ends_7 3 rfl rfl)
theorem dX5_ends_169 : decode cX5_ends 169 = .ok (.getfield 91, 3) := dk_180 0 91 (dk_at dksX5_ends_7 4 rfl rfl)
theorem dX5_ends_172 : decode cX5_ends 172 = .ok (.iload_n 2, 1) := dk_28 (dk_at dksX5_ends_7 7 rfl rfl)
theorem dX5_ends_173 : decode cX5_ends 173 = .ok (.iaload, 1) := dk_46 (dk_at dksX5_ends_7 8 rfl rfl)
theorem dX5_ends_174 : decode cX5_ends 174 = .ok (.dup2, 1) := dk_92 (dk_at dksX5_ends_7 9 rfl rfl)
theorem dX5_ends_175 : decode cX5_ends 175 = .ok (.iaload, 1) := dk_46 (dk_at dksX5_ends_7 10 rfl rfl)
theorem dX5_ends_176 : decode cX5_ends 176 = .ok (.iconst 1, 1) := dk_4 (dk_at dksX5_ends_7 11 rfl rfl)
theorem dX5_ends_177 : decode cX5_ends 177 = .ok (.isub, 1) := dk_100 (dk_at dksX5_ends_7 12 rfl rfl)
theorem dX5_ends_178 : decode cX5_ends 178 = .ok (.iastore, 1) := dk_79 (dk_at dksX5_ends_7 13 rfl rfl)
theorem dX5_ends_179 : decode cX5_ends 179 = .ok (.aload_n 0, 1) := dk_42 (dk_at dksX5_ends_7 14 rfl rfl)
theorem dX5_ends_180 : decode cX5_ends 180 = .ok (.aload_n 0, 1) := dk_42 (dk_at dksX5_ends_7 15 rfl rfl)
theorem dX5_ends_181 : decode cX5_ends 181 = .ok (.getfield 91, 3) := dk_180 0 91 (dk_at dksX5_ends_7 16 rfl rfl)
theorem dX5_ends_184 : decode cX5_ends 184 = .ok (.iload_n 2, 1) := dk_28 (dk_at dksX5_ends_7 19 rfl rfl)
theorem dX5_ends_185 : decode cX5_ends 185 = .ok (.iaload, 1) := dk_46 (dk_at dksX5_ends_7 20 rfl rfl)
theorem dX5_ends_186 : decode cX5_ends 186 = .ok (.iload_n 3, 1) := dk_29 (dk_at dksX5_ends_7 21 rfl rfl)
theorem dX5_ends_187 : decode cX5_ends 187 = .ok (.invokevirtual 226, 3) := dk_182 0 226 (dk_at dksX5_ends_8 0 rfl rfl)
theorem dX5_ends_190 : decode cX5_ends 190 = .ok (.return_, 1) := dk_177 (dk_at dksX5_ends_8 3 rfl rfl)
abbrev cX5_firstPartOf : ByteArray := prog_18_method_25_code
def yX5_firstPartOf : MethodName := ⟨RX5, "firstPartOf", "(I)I"⟩
def dkwX5_firstPartOf_3 : List UInt8 := [180, 0, 34, 27, 92, 46, 4, 96, 79, 28, 172]
abbrev dktX5_firstPartOf_3 : List UInt8 := dkwX5_firstPartOf_3 ++ []
def dkwX5_firstPartOf_2 : List UInt8 := [29, 96, 4, 96, 46, 79, 132, 3, 1, 167, 255, 221, 42, 180, 0, 28, 27, 92, 46, 4, 100, 79, 42]
abbrev dktX5_firstPartOf_2 : List UInt8 := dkwX5_firstPartOf_2 ++ dktX5_firstPartOf_3
def dkwX5_firstPartOf_1 : List UInt8 := [180, 0, 19, 27, 46, 162, 0, 31, 42, 180, 0, 22, 7, 27, 104, 29, 96, 42, 180, 0, 22, 7, 27, 104]
abbrev dktX5_firstPartOf_1 : List UInt8 := dkwX5_firstPartOf_1 ++ dktX5_firstPartOf_2
def dkwX5_firstPartOf_0 : List UInt8 := [42, 180, 0, 22, 7, 27, 104, 46, 61, 42, 180, 0, 19, 27, 92, 46, 4, 100, 79, 3, 62, 29, 42]
abbrev dktX5_firstPartOf_0 : List UInt8 := dkwX5_firstPartOf_0 ++ dktX5_firstPartOf_1
theorem dksX5_firstPartOf_0 : cX5_firstPartOf.data.toList.drop 0 = dktX5_firstPartOf_0 := by decide +kernel
theorem dksX5_firstPartOf_1 : cX5_firstPartOf.data.toList.drop 23 = dktX5_firstPartOf_1 := dk_seg dksX5_firstPartOf_0 23 rfl rfl
theorem dksX5_firstPartOf_2 : cX5_firstPartOf.data.toList.drop 47 = dktX5_firstPartOf_2 := dk_seg dksX5_firstPartOf_1 24 rfl rfl
theorem dksX5_firstPartOf_3 : cX5_firstPartOf.data.toList.drop 70 = dktX5_firstPartOf_3 := dk_seg dksX5_firstPartOf_2 23 rfl rfl
theorem dX5_firstPartOf_0 : decode cX5_firstPartOf 0 = .ok (.aload_n 0, 1) := dk_42 (dk_at dksX5_firstPartOf_0 0 rfl rfl)
theorem dX5_firstPartOf_1 : decode cX5_firstPartOf 1 = .ok (.getfield 22, 3) := dk_180 0 22 (dk_at dksX5_firstPartOf_0 1 rfl rfl)
theorem dX5_firstPartOf_4 : decode cX5_firstPartOf 4 = .ok (.iconst 4, 1) := dk_7 (dk_at dksX5_firstPartOf_0 4 rfl rfl)
theorem dX5_firstPartOf_5 : decode cX5_firstPartOf 5 = .ok (.iload_n 1, 1) := dk_27 (dk_at dksX5_firstPartOf_0 5 rfl rfl)
theorem dX5_firstPartOf_6 : decode cX5_firstPartOf 6 = .ok (.imul, 1) := dk_104 (dk_at dksX5_firstPartOf_0 6 rfl rfl)
theorem dX5_firstPartOf_7 : decode cX5_firstPartOf 7 = .ok (.iaload, 1) := dk_46 (dk_at dksX5_firstPartOf_0 7 rfl rfl)
theorem dX5_firstPartOf_8 : decode cX5_firstPartOf 8 = .ok (.istore_n 2, 1) := dk_61 (dk_at dksX5_firstPartOf_0 8 rfl rfl)
theorem dX5_firstPartOf_9 : decode cX5_firstPartOf 9 = .ok (.aload_n 0, 1) := dk_42 (dk_at dksX5_firstPartOf_0 9 rfl rfl)
theorem dX5_firstPartOf_10 : decode cX5_firstPartOf 10 = .ok (.getfield 19, 3) := dk_180 0 19 (dk_at dksX5_firstPartOf_0 10 rfl rfl)
theorem dX5_firstPartOf_13 : decode cX5_firstPartOf 13 = .ok (.iload_n 1, 1) := dk_27 (dk_at dksX5_firstPartOf_0 13 rfl rfl)
theorem dX5_firstPartOf_14 : decode cX5_firstPartOf 14 = .ok (.dup2, 1) := dk_92 (dk_at dksX5_firstPartOf_0 14 rfl rfl)
theorem dX5_firstPartOf_15 : decode cX5_firstPartOf 15 = .ok (.iaload, 1) := dk_46 (dk_at dksX5_firstPartOf_0 15 rfl rfl)
theorem dX5_firstPartOf_16 : decode cX5_firstPartOf 16 = .ok (.iconst 1, 1) := dk_4 (dk_at dksX5_firstPartOf_0 16 rfl rfl)
theorem dX5_firstPartOf_17 : decode cX5_firstPartOf 17 = .ok (.isub, 1) := dk_100 (dk_at dksX5_firstPartOf_0 17 rfl rfl)
theorem dX5_firstPartOf_18 : decode cX5_firstPartOf 18 = .ok (.iastore, 1) := dk_79 (dk_at dksX5_firstPartOf_0 18 rfl rfl)
theorem dX5_firstPartOf_19 : decode cX5_firstPartOf 19 = .ok (.iconst 0, 1) := dk_3 (dk_at dksX5_firstPartOf_0 19 rfl rfl)
theorem dX5_firstPartOf_20 : decode cX5_firstPartOf 20 = .ok (.istore_n 3, 1) := dk_62 (dk_at dksX5_firstPartOf_0 20 rfl rfl)
theorem dX5_firstPartOf_21 : decode cX5_firstPartOf 21 = .ok (.iload_n 3, 1) := dk_29 (dk_at dksX5_firstPartOf_0 21 rfl rfl)
theorem dX5_firstPartOf_22 : decode cX5_firstPartOf 22 = .ok (.aload_n 0, 1) := dk_42 (dk_at dksX5_firstPartOf_0 22 rfl rfl)
theorem dX5_firstPartOf_23 : decode cX5_firstPartOf 23 = .ok (.getfield 19, 3) := dk_180 0 19 (dk_at dksX5_firstPartOf_1 0 rfl rfl)
theorem dX5_firstPartOf_26 : decode cX5_firstPartOf 26 = .ok (.iload_n 1, 1) := dk_27 (dk_at dksX5_firstPartOf_1 3 rfl rfl)
theorem dX5_firstPartOf_27 : decode cX5_firstPartOf 27 = .ok (.iaload, 1) := dk_46 (dk_at dksX5_firstPartOf_1 4 rfl rfl)
theorem dX5_firstPartOf_28 : decode cX5_firstPartOf 28 = .ok (.if_icmp .ge 31, 3) := dk_162 0 31 (dk_at dksX5_firstPartOf_1 5 rfl rfl)
theorem dX5_firstPartOf_31 : decode cX5_firstPartOf 31 = .ok (.aload_n 0, 1) := dk_42 (dk_at dksX5_firstPartOf_1 8 rfl rfl)
theorem dX5_firstPartOf_32 : decode cX5_firstPartOf 32 = .ok (.getfield 22, 3) := dk_180 0 22 (dk_at dksX5_firstPartOf_1 9 rfl rfl)
theorem dX5_firstPartOf_35 : decode cX5_firstPartOf 35 = .ok (.iconst 4, 1) := dk_7 (dk_at dksX5_firstPartOf_1 12 rfl rfl)
theorem dX5_firstPartOf_36 : decode cX5_firstPartOf 36 = .ok (.iload_n 1, 1) := dk_27 (dk_at dksX5_firstPartOf_1 13 rfl rfl)
theorem dX5_firstPartOf_37 : decode cX5_firstPartOf 37 = .ok (.imul, 1) := dk_104 (dk_at dksX5_firstPartOf_1 14 rfl rfl)
theorem dX5_firstPartOf_38 : decode cX5_firstPartOf 38 = .ok (.iload_n 3, 1) := dk_29 (dk_at dksX5_firstPartOf_1 15 rfl rfl)
theorem dX5_firstPartOf_39 : decode cX5_firstPartOf 39 = .ok (.iadd, 1) := dk_96 (dk_at dksX5_firstPartOf_1 16 rfl rfl)
theorem dX5_firstPartOf_40 : decode cX5_firstPartOf 40 = .ok (.aload_n 0, 1) := dk_42 (dk_at dksX5_firstPartOf_1 17 rfl rfl)
theorem dX5_firstPartOf_41 : decode cX5_firstPartOf 41 = .ok (.getfield 22, 3) := dk_180 0 22 (dk_at dksX5_firstPartOf_1 18 rfl rfl)
theorem dX5_firstPartOf_44 : decode cX5_firstPartOf 44 = .ok (.iconst 4, 1) := dk_7 (dk_at dksX5_firstPartOf_1 21 rfl rfl)
theorem dX5_firstPartOf_45 : decode cX5_firstPartOf 45 = .ok (.iload_n 1, 1) := dk_27 (dk_at dksX5_firstPartOf_1 22 rfl rfl)
theorem dX5_firstPartOf_46 : decode cX5_firstPartOf 46 = .ok (.imul, 1) := dk_104 (dk_at dksX5_firstPartOf_1 23 rfl rfl)
theorem dX5_firstPartOf_47 : decode cX5_firstPartOf 47 = .ok (.iload_n 3, 1) := dk_29 (dk_at dksX5_firstPartOf_2 0 rfl rfl)
theorem dX5_firstPartOf_48 : decode cX5_firstPartOf 48 = .ok (.iadd, 1) := dk_96 (dk_at dksX5_firstPartOf_2 1 rfl rfl)
theorem dX5_firstPartOf_49 : decode cX5_firstPartOf 49 = .ok (.iconst 1, 1) := dk_4 (dk_at dksX5_firstPartOf_2 2 rfl rfl)
theorem dX5_firstPartOf_50 : decode cX5_firstPartOf 50 = .ok (.iadd, 1) := dk_96 (dk_at dksX5_firstPartOf_2 3 rfl rfl)
theorem dX5_firstPartOf_51 : decode cX5_firstPartOf 51 = .ok (.iaload, 1) := dk_46 (dk_at dksX5_firstPartOf_2 4 rfl rfl)
theorem dX5_firstPartOf_52 : decode cX5_firstPartOf 52 = .ok (.iastore, 1) := dk_79 (dk_at dksX5_firstPartOf_2 5 rfl rfl)
theorem dX5_firstPartOf_53 : decode cX5_firstPartOf 53 = .ok (.iinc 3 1, 3) := dk_132 3 1 (dk_at dksX5_firstPartOf_2 6 rfl rfl)
theorem dX5_firstPartOf_56 : decode cX5_firstPartOf 56 = .ok (.goto (-35), 3) := dk_167 255 221 (dk_at dksX5_firstPartOf_2 9 rfl rfl)
theorem dX5_firstPartOf_59 : decode cX5_firstPartOf 59 = .ok (.aload_n 0, 1) := dk_42 (dk_at dksX5_firstPartOf_2 12 rfl rfl)
theorem dX5_firstPartOf_60 : decode cX5_firstPartOf 60 = .ok (.getfield 28, 3) := dk_180 0 28 (dk_at dksX5_firstPartOf_2 13 rfl rfl)
theorem dX5_firstPartOf_63 : decode cX5_firstPartOf 63 = .ok (.iload_n 1, 1) := dk_27 (dk_at dksX5_firstPartOf_2 16 rfl rfl)
theorem dX5_firstPartOf_64 : decode cX5_firstPartOf 64 = .ok (.dup2, 1) := dk_92 (dk_at dksX5_firstPartOf_2 17 rfl rfl)
theorem dX5_firstPartOf_65 : decode cX5_firstPartOf 65 = .ok (.iaload, 1) := dk_46 (dk_at dksX5_firstPartOf_2 18 rfl rfl)
theorem dX5_firstPartOf_66 : decode cX5_firstPartOf 66 = .ok (.iconst 1, 1) := dk_4 (dk_at dksX5_firstPartOf_2 19 rfl rfl)
theorem dX5_firstPartOf_67 : decode cX5_firstPartOf 67 = .ok (.isub, 1) := dk_100 (dk_at dksX5_firstPartOf_2 20 rfl rfl)
theorem dX5_firstPartOf_68 : decode cX5_firstPartOf 68 = .ok (.iastore, 1) := dk_79 (dk_at dksX5_firstPartOf_2 21 rfl rfl)
theorem dX5_firstPartOf_69 : decode cX5_firstPartOf 69 = .ok (.aload_n 0, 1) := dk_42 (dk_at dksX5_firstPartOf_2 22 rfl rfl)
theorem dX5_firstPartOf_70 : decode cX5_firstPartOf 70 = .ok (.getfield 34, 3) := dk_180 0 34 (dk_at dksX5_firstPartOf_3 0 rfl rfl)
theorem dX5_firstPartOf_73 : decode cX5_firstPartOf 73 = .ok (.iload_n 1, 1) := dk_27 (dk_at dksX5_firstPartOf_3 3 rfl rfl)
theorem dX5_firstPartOf_74 : decode cX5_firstPartOf 74 = .ok (.dup2, 1) := dk_92 (dk_at dksX5_firstPartOf_3 4 rfl rfl)
theorem dX5_firstPartOf_75 : decode cX5_firstPartOf 75 = .ok (.iaload, 1) := dk_46 (dk_at dksX5_firstPartOf_3 5 rfl rfl)
theorem dX5_firstPartOf_76 : decode cX5_firstPartOf 76 = .ok (.iconst 1, 1) := dk_4 (dk_at dksX5_firstPartOf_3 6 rfl rfl)
theorem dX5_firstPartOf_77 : decode cX5_firstPartOf 77 = .ok (.iadd, 1) := dk_96 (dk_at dksX5_firstPartOf_3 7 rfl rfl)
theorem dX5_firstPartOf_78 : decode cX5_firstPartOf 78 = .ok (.iastore, 1) := dk_79 (dk_at dksX5_firstPartOf_3 8 rfl rfl)
theorem dX5_firstPartOf_79 : decode cX5_firstPartOf 79 = .ok (.iload_n 2, 1) := dk_28 (dk_at dksX5_firstPartOf_3 9 rfl rfl)
theorem dX5_firstPartOf_80 : decode cX5_firstPartOf 80 = .ok (.ireturn, 1) := dk_172 (dk_at dksX5_firstPartOf_3 10 rfl rfl)
abbrev cX5_reason : ByteArray := prog_18_method_52_code
def yX5_reason : MethodName := ⟨RX5, "reason", "(IZ)I"⟩
def dkwX5_reason_2 : List UInt8 := [180, 0, 61, 27, 46, 172]
abbrev dktX5_reason_2 : List UInt8 := dkwX5_reason_2 ++ []
def dkwX5_reason_1 : List UInt8 := [182, 1, 12, 172, 42, 3, 181, 0, 139, 28, 153, 0, 12, 42, 180, 0, 64, 27, 46, 167, 0, 9, 42]
abbrev dktX5_reason_1 : List UInt8 := dkwX5_reason_1 ++ dktX5_reason_2
def dkwX5_reason_0 : List UInt8 := [27, 184, 1, 9, 154, 0, 9, 42, 4, 182, 1, 12, 172, 42, 180, 0, 58, 27, 46, 154, 0, 9, 42, 5]
abbrev dktX5_reason_0 : List UInt8 := dkwX5_reason_0 ++ dktX5_reason_1
theorem dksX5_reason_0 : cX5_reason.data.toList.drop 0 = dktX5_reason_0 := by decide +kernel
theorem dksX5_reason_1 : cX5_reason.data.toList.drop 24 = dktX5_reason_1 := dk_seg dksX5_reason_0 24 rfl rfl
theorem dksX5_reason_2 : cX5_reason.data.toList.drop 47 = dktX5_reason_2 := dk_seg dksX5_reason_1 23 rfl rfl
theorem dX5_reason_0 : decode cX5_reason 0 = .ok (.iload_n 1, 1) := dk_27 (dk_at dksX5_reason_0 0 rfl rfl)
theorem dX5_reason_1 : decode cX5_reason 1 = .ok (.invokestatic 265, 3) := dk_184 1 9 (dk_at dksX5_reason_0 1 rfl rfl)
theorem dX5_reason_4 : decode cX5_reason 4 = .ok (.ifCond .ne 9, 3) := dk_154 0 9 (dk_at dksX5_reason_0 4 rfl rfl)
theorem dX5_reason_7 : decode cX5_reason 7 = .ok (.aload_n 0, 1) := dk_42 (dk_at dksX5_reason_0 7 rfl rfl)
theorem dX5_reason_8 : decode cX5_reason 8 = .ok (.iconst 1, 1) := dk_4 (dk_at dksX5_reason_0 8 rfl rfl)
theorem dX5_reason_9 : decode cX5_reason 9 = .ok (.invokevirtual 268, 3) := dk_182 1 12 (dk_at dksX5_reason_0 9 rfl rfl)
theorem dX5_reason_12 : decode cX5_reason 12 = .ok (.ireturn, 1) := dk_172 (dk_at dksX5_reason_0 12 rfl rfl)
theorem dX5_reason_13 : decode cX5_reason 13 = .ok (.aload_n 0, 1) := dk_42 (dk_at dksX5_reason_0 13 rfl rfl)
theorem dX5_reason_14 : decode cX5_reason 14 = .ok (.getfield 58, 3) := dk_180 0 58 (dk_at dksX5_reason_0 14 rfl rfl)
theorem dX5_reason_17 : decode cX5_reason 17 = .ok (.iload_n 1, 1) := dk_27 (dk_at dksX5_reason_0 17 rfl rfl)
theorem dX5_reason_18 : decode cX5_reason 18 = .ok (.iaload, 1) := dk_46 (dk_at dksX5_reason_0 18 rfl rfl)
theorem dX5_reason_19 : decode cX5_reason 19 = .ok (.ifCond .ne 9, 3) := dk_154 0 9 (dk_at dksX5_reason_0 19 rfl rfl)
theorem dX5_reason_22 : decode cX5_reason 22 = .ok (.aload_n 0, 1) := dk_42 (dk_at dksX5_reason_0 22 rfl rfl)
theorem dX5_reason_23 : decode cX5_reason 23 = .ok (.iconst 2, 1) := dk_5 (dk_at dksX5_reason_0 23 rfl rfl)
theorem dX5_reason_24 : decode cX5_reason 24 = .ok (.invokevirtual 268, 3) := dk_182 1 12 (dk_at dksX5_reason_1 0 rfl rfl)
theorem dX5_reason_27 : decode cX5_reason 27 = .ok (.ireturn, 1) := dk_172 (dk_at dksX5_reason_1 3 rfl rfl)
theorem dX5_reason_28 : decode cX5_reason 28 = .ok (.aload_n 0, 1) := dk_42 (dk_at dksX5_reason_1 4 rfl rfl)
theorem dX5_reason_29 : decode cX5_reason 29 = .ok (.iconst 0, 1) := dk_3 (dk_at dksX5_reason_1 5 rfl rfl)
theorem dX5_reason_30 : decode cX5_reason 30 = .ok (.putfield 139, 3) := dk_181 0 139 (dk_at dksX5_reason_1 6 rfl rfl)
theorem dX5_reason_33 : decode cX5_reason 33 = .ok (.iload_n 2, 1) := dk_28 (dk_at dksX5_reason_1 9 rfl rfl)
theorem dX5_reason_34 : decode cX5_reason 34 = .ok (.ifCond .eq 12, 3) := dk_153 0 12 (dk_at dksX5_reason_1 10 rfl rfl)
theorem dX5_reason_37 : decode cX5_reason 37 = .ok (.aload_n 0, 1) := dk_42 (dk_at dksX5_reason_1 13 rfl rfl)
theorem dX5_reason_38 : decode cX5_reason 38 = .ok (.getfield 64, 3) := dk_180 0 64 (dk_at dksX5_reason_1 14 rfl rfl)
theorem dX5_reason_41 : decode cX5_reason 41 = .ok (.iload_n 1, 1) := dk_27 (dk_at dksX5_reason_1 17 rfl rfl)
theorem dX5_reason_42 : decode cX5_reason 42 = .ok (.iaload, 1) := dk_46 (dk_at dksX5_reason_1 18 rfl rfl)
theorem dX5_reason_43 : decode cX5_reason 43 = .ok (.goto 9, 3) := dk_167 0 9 (dk_at dksX5_reason_1 19 rfl rfl)
theorem dX5_reason_46 : decode cX5_reason 46 = .ok (.aload_n 0, 1) := dk_42 (dk_at dksX5_reason_1 22 rfl rfl)
theorem dX5_reason_47 : decode cX5_reason 47 = .ok (.getfield 61, 3) := dk_180 0 61 (dk_at dksX5_reason_2 0 rfl rfl)
theorem dX5_reason_50 : decode cX5_reason 50 = .ok (.iload_n 1, 1) := dk_27 (dk_at dksX5_reason_2 3 rfl rfl)
theorem dX5_reason_51 : decode cX5_reason 51 = .ok (.iaload, 1) := dk_46 (dk_at dksX5_reason_2 4 rfl rfl)
theorem dX5_reason_52 : decode cX5_reason 52 = .ok (.ireturn, 1) := dk_172 (dk_at dksX5_reason_2 5 rfl rfl)
abbrev cX5_wouldBe : ByteArray := prog_18_method_53_code
def yX5_wouldBe : MethodName := ⟨RX5, "wouldBe", "(I)I"⟩
def dkwX5_wouldBe_5 : List UInt8 := [42, 3, 181, 0, 139, 42, 27, 29, 21, 4, 28, 182, 0, 187, 172]
abbrev dktX5_wouldBe_5 : List UInt8 := dkwX5_wouldBe_5 ++ []
def dkwX5_wouldBe_4 : List UInt8 := [167, 0, 4, 4, 96, 54, 4, 21, 4, 42, 180, 0, 79, 29, 46, 161, 0, 9, 42, 5, 182, 1, 12, 172]
abbrev dktX5_wouldBe_4 : List UInt8 := dkwX5_wouldBe_4 ++ dktX5_wouldBe_5
def dkwX5_wouldBe_3 : List UInt8 := [153, 0, 7, 3, 167, 0, 25, 42, 180, 0, 52, 27, 46, 42, 180, 0, 49, 27, 46, 5, 160, 0, 7, 5]
abbrev dktX5_wouldBe_3 : List UInt8 := dkwX5_wouldBe_3 ++ dktX5_wouldBe_4
def dkwX5_wouldBe_2 : List UInt8 := [28, 153, 0, 15, 42, 180, 0, 43, 16, 30, 27, 104, 46, 167, 0, 9, 42, 180, 0, 46, 27, 46, 62, 28]
abbrev dktX5_wouldBe_2 : List UInt8 := dkwX5_wouldBe_2 ++ dktX5_wouldBe_3
def dkwX5_wouldBe_1 : List UInt8 := [167, 0, 4, 3, 61, 28, 153, 0, 18, 42, 180, 0, 40, 27, 46, 154, 0, 9, 42, 5, 182, 1, 12, 172]
abbrev dktX5_wouldBe_1 : List UInt8 := dkwX5_wouldBe_1 ++ dktX5_wouldBe_2
def dkwX5_wouldBe_0 : List UInt8 := [27, 184, 1, 9, 154, 0, 9, 42, 4, 182, 1, 12, 172, 42, 180, 0, 49, 27, 46, 154, 0, 7, 4]
abbrev dktX5_wouldBe_0 : List UInt8 := dkwX5_wouldBe_0 ++ dktX5_wouldBe_1
theorem dksX5_wouldBe_0 : cX5_wouldBe.data.toList.drop 0 = dktX5_wouldBe_0 := by decide +kernel
theorem dksX5_wouldBe_1 : cX5_wouldBe.data.toList.drop 23 = dktX5_wouldBe_1 := dk_seg dksX5_wouldBe_0 23 rfl rfl
theorem dksX5_wouldBe_2 : cX5_wouldBe.data.toList.drop 47 = dktX5_wouldBe_2 := dk_seg dksX5_wouldBe_1 24 rfl rfl
theorem dksX5_wouldBe_3 : cX5_wouldBe.data.toList.drop 71 = dktX5_wouldBe_3 := dk_seg dksX5_wouldBe_2 24 rfl rfl
theorem dksX5_wouldBe_4 : cX5_wouldBe.data.toList.drop 95 = dktX5_wouldBe_4 := dk_seg dksX5_wouldBe_3 24 rfl rfl
theorem dksX5_wouldBe_5 : cX5_wouldBe.data.toList.drop 119 = dktX5_wouldBe_5 := dk_seg dksX5_wouldBe_4 24 rfl rfl
theorem dX5_wouldBe_0 : decode cX5_wouldBe 0 = .ok (.iload_n 1, 1) := dk_27 (dk_at dksX5_wouldBe_0 0 rfl rfl)
theorem dX5_wouldBe_1 : decode cX5_wouldBe 1 = .ok (.invokestatic 265, 3) := dk_184 1 9 (dk_at dksX5_wouldBe_0 1 rfl rfl)
theorem dX5_wouldBe_4 : decode cX5_wouldBe 4 = .ok (.ifCond .ne 9, 3) := dk_154 0 9 (dk_at dksX5_wouldBe_0 4 rfl rfl)
theorem dX5_wouldBe_7 : decode cX5_wouldBe 7 = .ok (.aload_n 0, 1) := dk_42 (dk_at dksX5_wouldBe_0 7 rfl rfl)
theorem dX5_wouldBe_8 : decode cX5_wouldBe 8 = .ok (.iconst 1, 1) := dk_4 (dk_at dksX5_wouldBe_0 8 rfl rfl)
theorem dX5_wouldBe_9 : decode cX5_wouldBe 9 = .ok (.invokevirtual 268, 3) := dk_182 1 12 (dk_at dksX5_wouldBe_0 9 rfl rfl)
theorem dX5_wouldBe_12 : decode cX5_wouldBe 12 = .ok (.ireturn, 1) := dk_172 (dk_at dksX5_wouldBe_0 12 rfl rfl)
theorem dX5_wouldBe_13 : decode cX5_wouldBe 13 = .ok (.aload_n 0, 1) := dk_42 (dk_at dksX5_wouldBe_0 13 rfl rfl)
theorem dX5_wouldBe_14 : decode cX5_wouldBe 14 = .ok (.getfield 49, 3) := dk_180 0 49 (dk_at dksX5_wouldBe_0 14 rfl rfl)
theorem dX5_wouldBe_17 : decode cX5_wouldBe 17 = .ok (.iload_n 1, 1) := dk_27 (dk_at dksX5_wouldBe_0 17 rfl rfl)
theorem dX5_wouldBe_18 : decode cX5_wouldBe 18 = .ok (.iaload, 1) := dk_46 (dk_at dksX5_wouldBe_0 18 rfl rfl)
theorem dX5_wouldBe_19 : decode cX5_wouldBe 19 = .ok (.ifCond .ne 7, 3) := dk_154 0 7 (dk_at dksX5_wouldBe_0 19 rfl rfl)
theorem dX5_wouldBe_22 : decode cX5_wouldBe 22 = .ok (.iconst 1, 1) := dk_4 (dk_at dksX5_wouldBe_0 22 rfl rfl)
theorem dX5_wouldBe_23 : decode cX5_wouldBe 23 = .ok (.goto 4, 3) := dk_167 0 4 (dk_at dksX5_wouldBe_1 0 rfl rfl)
theorem dX5_wouldBe_26 : decode cX5_wouldBe 26 = .ok (.iconst 0, 1) := dk_3 (dk_at dksX5_wouldBe_1 3 rfl rfl)
theorem dX5_wouldBe_27 : decode cX5_wouldBe 27 = .ok (.istore_n 2, 1) := dk_61 (dk_at dksX5_wouldBe_1 4 rfl rfl)
theorem dX5_wouldBe_28 : decode cX5_wouldBe 28 = .ok (.iload_n 2, 1) := dk_28 (dk_at dksX5_wouldBe_1 5 rfl rfl)
theorem dX5_wouldBe_29 : decode cX5_wouldBe 29 = .ok (.ifCond .eq 18, 3) := dk_153 0 18 (dk_at dksX5_wouldBe_1 6 rfl rfl)
theorem dX5_wouldBe_32 : decode cX5_wouldBe 32 = .ok (.aload_n 0, 1) := dk_42 (dk_at dksX5_wouldBe_1 9 rfl rfl)
theorem dX5_wouldBe_33 : decode cX5_wouldBe 33 = .ok (.getfield 40, 3) := dk_180 0 40 (dk_at dksX5_wouldBe_1 10 rfl rfl)
theorem dX5_wouldBe_36 : decode cX5_wouldBe 36 = .ok (.iload_n 1, 1) := dk_27 (dk_at dksX5_wouldBe_1 13 rfl rfl)
theorem dX5_wouldBe_37 : decode cX5_wouldBe 37 = .ok (.iaload, 1) := dk_46 (dk_at dksX5_wouldBe_1 14 rfl rfl)
theorem dX5_wouldBe_38 : decode cX5_wouldBe 38 = .ok (.ifCond .ne 9, 3) := dk_154 0 9 (dk_at dksX5_wouldBe_1 15 rfl rfl)
theorem dX5_wouldBe_41 : decode cX5_wouldBe 41 = .ok (.aload_n 0, 1) := dk_42 (dk_at dksX5_wouldBe_1 18 rfl rfl)
theorem dX5_wouldBe_42 : decode cX5_wouldBe 42 = .ok (.iconst 2, 1) := dk_5 (dk_at dksX5_wouldBe_1 19 rfl rfl)
theorem dX5_wouldBe_43 : decode cX5_wouldBe 43 = .ok (.invokevirtual 268, 3) := dk_182 1 12 (dk_at dksX5_wouldBe_1 20 rfl rfl)
theorem dX5_wouldBe_46 : decode cX5_wouldBe 46 = .ok (.ireturn, 1) := dk_172 (dk_at dksX5_wouldBe_1 23 rfl rfl)
theorem dX5_wouldBe_47 : decode cX5_wouldBe 47 = .ok (.iload_n 2, 1) := dk_28 (dk_at dksX5_wouldBe_2 0 rfl rfl)
theorem dX5_wouldBe_48 : decode cX5_wouldBe 48 = .ok (.ifCond .eq 15, 3) := dk_153 0 15 (dk_at dksX5_wouldBe_2 1 rfl rfl)
theorem dX5_wouldBe_51 : decode cX5_wouldBe 51 = .ok (.aload_n 0, 1) := dk_42 (dk_at dksX5_wouldBe_2 4 rfl rfl)
theorem dX5_wouldBe_52 : decode cX5_wouldBe 52 = .ok (.getfield 43, 3) := dk_180 0 43 (dk_at dksX5_wouldBe_2 5 rfl rfl)
theorem dX5_wouldBe_55 : decode cX5_wouldBe 55 = .ok (.bipush 30, 2) := dk_16 30 (dk_at dksX5_wouldBe_2 8 rfl rfl)
theorem dX5_wouldBe_57 : decode cX5_wouldBe 57 = .ok (.iload_n 1, 1) := dk_27 (dk_at dksX5_wouldBe_2 10 rfl rfl)
theorem dX5_wouldBe_58 : decode cX5_wouldBe 58 = .ok (.imul, 1) := dk_104 (dk_at dksX5_wouldBe_2 11 rfl rfl)
theorem dX5_wouldBe_59 : decode cX5_wouldBe 59 = .ok (.iaload, 1) := dk_46 (dk_at dksX5_wouldBe_2 12 rfl rfl)
theorem dX5_wouldBe_60 : decode cX5_wouldBe 60 = .ok (.goto 9, 3) := dk_167 0 9 (dk_at dksX5_wouldBe_2 13 rfl rfl)
theorem dX5_wouldBe_63 : decode cX5_wouldBe 63 = .ok (.aload_n 0, 1) := dk_42 (dk_at dksX5_wouldBe_2 16 rfl rfl)
theorem dX5_wouldBe_64 : decode cX5_wouldBe 64 = .ok (.getfield 46, 3) := dk_180 0 46 (dk_at dksX5_wouldBe_2 17 rfl rfl)
theorem dX5_wouldBe_67 : decode cX5_wouldBe 67 = .ok (.iload_n 1, 1) := dk_27 (dk_at dksX5_wouldBe_2 20 rfl rfl)
theorem dX5_wouldBe_68 : decode cX5_wouldBe 68 = .ok (.iaload, 1) := dk_46 (dk_at dksX5_wouldBe_2 21 rfl rfl)
theorem dX5_wouldBe_69 : decode cX5_wouldBe 69 = .ok (.istore_n 3, 1) := dk_62 (dk_at dksX5_wouldBe_2 22 rfl rfl)
theorem dX5_wouldBe_70 : decode cX5_wouldBe 70 = .ok (.iload_n 2, 1) := dk_28 (dk_at dksX5_wouldBe_2 23 rfl rfl)
theorem dX5_wouldBe_71 : decode cX5_wouldBe 71 = .ok (.ifCond .eq 7, 3) := dk_153 0 7 (dk_at dksX5_wouldBe_3 0 rfl rfl)
theorem dX5_wouldBe_74 : decode cX5_wouldBe 74 = .ok (.iconst 0, 1) := dk_3 (dk_at dksX5_wouldBe_3 3 rfl rfl)
theorem dX5_wouldBe_75 : decode cX5_wouldBe 75 = .ok (.goto 25, 3) := dk_167 0 25 (dk_at dksX5_wouldBe_3 4 rfl rfl)
theorem dX5_wouldBe_78 : decode cX5_wouldBe 78 = .ok (.aload_n 0, 1) := dk_42 (dk_at dksX5_wouldBe_3 7 rfl rfl)
theorem dX5_wouldBe_79 : decode cX5_wouldBe 79 = .ok (.getfield 52, 3) := dk_180 0 52 (dk_at dksX5_wouldBe_3 8 rfl rfl)
theorem dX5_wouldBe_82 : decode cX5_wouldBe 82 = .ok (.iload_n 1, 1) := dk_27 (dk_at dksX5_wouldBe_3 11 rfl rfl)
theorem dX5_wouldBe_83 : decode cX5_wouldBe 83 = .ok (.iaload, 1) := dk_46 (dk_at dksX5_wouldBe_3 12 rfl rfl)
theorem dX5_wouldBe_84 : decode cX5_wouldBe 84 = .ok (.aload_n 0, 1) := dk_42 (dk_at dksX5_wouldBe_3 13 rfl rfl)
theorem dX5_wouldBe_85 : decode cX5_wouldBe 85 = .ok (.getfield 49, 3) := dk_180 0 49 (dk_at dksX5_wouldBe_3 14 rfl rfl)
theorem dX5_wouldBe_88 : decode cX5_wouldBe 88 = .ok (.iload_n 1, 1) := dk_27 (dk_at dksX5_wouldBe_3 17 rfl rfl)
theorem dX5_wouldBe_89 : decode cX5_wouldBe 89 = .ok (.iaload, 1) := dk_46 (dk_at dksX5_wouldBe_3 18 rfl rfl)
theorem dX5_wouldBe_90 : decode cX5_wouldBe 90 = .ok (.iconst 2, 1) := dk_5 (dk_at dksX5_wouldBe_3 19 rfl rfl)
theorem dX5_wouldBe_91 : decode cX5_wouldBe 91 = .ok (.if_icmp .ne 7, 3) := dk_160 0 7 (dk_at dksX5_wouldBe_3 20 rfl rfl)
theorem dX5_wouldBe_94 : decode cX5_wouldBe 94 = .ok (.iconst 2, 1) := dk_5 (dk_at dksX5_wouldBe_3 23 rfl rfl)
theorem dX5_wouldBe_95 : decode cX5_wouldBe 95 = .ok (.goto 4, 3) := dk_167 0 4 (dk_at dksX5_wouldBe_4 0 rfl rfl)
theorem dX5_wouldBe_98 : decode cX5_wouldBe 98 = .ok (.iconst 1, 1) := dk_4 (dk_at dksX5_wouldBe_4 3 rfl rfl)
theorem dX5_wouldBe_99 : decode cX5_wouldBe 99 = .ok (.iadd, 1) := dk_96 (dk_at dksX5_wouldBe_4 4 rfl rfl)
theorem dX5_wouldBe_100 : decode cX5_wouldBe 100 = .ok (.istore 4, 2) := dk_54 4 (dk_at dksX5_wouldBe_4 5 rfl rfl)
theorem dX5_wouldBe_102 : decode cX5_wouldBe 102 = .ok (.iload 4, 2) := dk_21 4 (dk_at dksX5_wouldBe_4 7 rfl rfl)
theorem dX5_wouldBe_104 : decode cX5_wouldBe 104 = .ok (.aload_n 0, 1) := dk_42 (dk_at dksX5_wouldBe_4 9 rfl rfl)
theorem dX5_wouldBe_105 : decode cX5_wouldBe 105 = .ok (.getfield 79, 3) := dk_180 0 79 (dk_at dksX5_wouldBe_4 10 rfl rfl)
theorem dX5_wouldBe_108 : decode cX5_wouldBe 108 = .ok (.iload_n 3, 1) := dk_29 (dk_at dksX5_wouldBe_4 13 rfl rfl)
theorem dX5_wouldBe_109 : decode cX5_wouldBe 109 = .ok (.iaload, 1) := dk_46 (dk_at dksX5_wouldBe_4 14 rfl rfl)
theorem dX5_wouldBe_110 : decode cX5_wouldBe 110 = .ok (.if_icmp .lt 9, 3) := dk_161 0 9 (dk_at dksX5_wouldBe_4 15 rfl rfl)
theorem dX5_wouldBe_113 : decode cX5_wouldBe 113 = .ok (.aload_n 0, 1) := dk_42 (dk_at dksX5_wouldBe_4 18 rfl rfl)
theorem dX5_wouldBe_114 : decode cX5_wouldBe 114 = .ok (.iconst 2, 1) := dk_5 (dk_at dksX5_wouldBe_4 19 rfl rfl)
theorem dX5_wouldBe_115 : decode cX5_wouldBe 115 = .ok (.invokevirtual 268, 3) := dk_182 1 12 (dk_at dksX5_wouldBe_4 20 rfl rfl)
theorem dX5_wouldBe_118 : decode cX5_wouldBe 118 = .ok (.ireturn, 1) := dk_172 (dk_at dksX5_wouldBe_4 23 rfl rfl)
theorem dX5_wouldBe_119 : decode cX5_wouldBe 119 = .ok (.aload_n 0, 1) := dk_42 (dk_at dksX5_wouldBe_5 0 rfl rfl)
theorem dX5_wouldBe_120 : decode cX5_wouldBe 120 = .ok (.iconst 0, 1) := dk_3 (dk_at dksX5_wouldBe_5 1 rfl rfl)
theorem dX5_wouldBe_121 : decode cX5_wouldBe 121 = .ok (.putfield 139, 3) := dk_181 0 139 (dk_at dksX5_wouldBe_5 2 rfl rfl)
theorem dX5_wouldBe_124 : decode cX5_wouldBe 124 = .ok (.aload_n 0, 1) := dk_42 (dk_at dksX5_wouldBe_5 5 rfl rfl)
theorem dX5_wouldBe_125 : decode cX5_wouldBe 125 = .ok (.iload_n 1, 1) := dk_27 (dk_at dksX5_wouldBe_5 6 rfl rfl)
theorem dX5_wouldBe_126 : decode cX5_wouldBe 126 = .ok (.iload_n 3, 1) := dk_29 (dk_at dksX5_wouldBe_5 7 rfl rfl)
theorem dX5_wouldBe_127 : decode cX5_wouldBe 127 = .ok (.iload 4, 2) := dk_21 4 (dk_at dksX5_wouldBe_5 8 rfl rfl)
theorem dX5_wouldBe_129 : decode cX5_wouldBe 129 = .ok (.iload_n 2, 1) := dk_28 (dk_at dksX5_wouldBe_5 10 rfl rfl)
theorem dX5_wouldBe_130 : decode cX5_wouldBe 130 = .ok (.invokevirtual 187, 3) := dk_182 0 187 (dk_at dksX5_wouldBe_5 11 rfl rfl)
theorem dX5_wouldBe_133 : decode cX5_wouldBe 133 = .ok (.ireturn, 1) := dk_172 (dk_at dksX5_wouldBe_5 14 rfl rfl)
abbrev cX5_endsAfter : ByteArray := prog_18_method_56_code
def yX5_endsAfter : MethodName := ⟨RX5, "endsAfter", "(I)I"⟩
def dkwX5_endsAfter_2 : List UInt8 := [3, 181, 0, 139, 28, 17, 0, 200, 164, 0, 7, 3, 167, 0, 4, 28, 172]
abbrev dktX5_endsAfter_2 : List UInt8 := dkwX5_endsAfter_2 ++ []
def dkwX5_endsAfter_1 : List UInt8 := [42, 5, 182, 1, 12, 172, 42, 27, 182, 1, 52, 61, 42, 28, 17, 0, 200, 164, 0, 7, 5, 167, 0, 4]
abbrev dktX5_endsAfter_1 : List UInt8 := dkwX5_endsAfter_1 ++ dktX5_endsAfter_2
def dkwX5_endsAfter_0 : List UInt8 := [42, 27, 182, 1, 38, 154, 0, 9, 42, 4, 182, 1, 12, 172, 42, 180, 0, 94, 27, 46, 6, 160, 0, 9]
abbrev dktX5_endsAfter_0 : List UInt8 := dkwX5_endsAfter_0 ++ dktX5_endsAfter_1
theorem dksX5_endsAfter_0 : cX5_endsAfter.data.toList.drop 0 = dktX5_endsAfter_0 := by decide +kernel
theorem dksX5_endsAfter_1 : cX5_endsAfter.data.toList.drop 24 = dktX5_endsAfter_1 := dk_seg dksX5_endsAfter_0 24 rfl rfl
theorem dksX5_endsAfter_2 : cX5_endsAfter.data.toList.drop 48 = dktX5_endsAfter_2 := dk_seg dksX5_endsAfter_1 24 rfl rfl
theorem dX5_endsAfter_0 : decode cX5_endsAfter 0 = .ok (.aload_n 0, 1) := dk_42 (dk_at dksX5_endsAfter_0 0 rfl rfl)
theorem dX5_endsAfter_1 : decode cX5_endsAfter 1 = .ok (.iload_n 1, 1) := dk_27 (dk_at dksX5_endsAfter_0 1 rfl rfl)
theorem dX5_endsAfter_2 : decode cX5_endsAfter 2 = .ok (.invokevirtual 294, 3) := dk_182 1 38 (dk_at dksX5_endsAfter_0 2 rfl rfl)
theorem dX5_endsAfter_5 : decode cX5_endsAfter 5 = .ok (.ifCond .ne 9, 3) := dk_154 0 9 (dk_at dksX5_endsAfter_0 5 rfl rfl)
theorem dX5_endsAfter_8 : decode cX5_endsAfter 8 = .ok (.aload_n 0, 1) := dk_42 (dk_at dksX5_endsAfter_0 8 rfl rfl)
theorem dX5_endsAfter_9 : decode cX5_endsAfter 9 = .ok (.iconst 1, 1) := dk_4 (dk_at dksX5_endsAfter_0 9 rfl rfl)
theorem dX5_endsAfter_10 : decode cX5_endsAfter 10 = .ok (.invokevirtual 268, 3) := dk_182 1 12 (dk_at dksX5_endsAfter_0 10 rfl rfl)
theorem dX5_endsAfter_13 : decode cX5_endsAfter 13 = .ok (.ireturn, 1) := dk_172 (dk_at dksX5_endsAfter_0 13 rfl rfl)
theorem dX5_endsAfter_14 : decode cX5_endsAfter 14 = .ok (.aload_n 0, 1) := dk_42 (dk_at dksX5_endsAfter_0 14 rfl rfl)
theorem dX5_endsAfter_15 : decode cX5_endsAfter 15 = .ok (.getfield 94, 3) := dk_180 0 94 (dk_at dksX5_endsAfter_0 15 rfl rfl)
theorem dX5_endsAfter_18 : decode cX5_endsAfter 18 = .ok (.iload_n 1, 1) := dk_27 (dk_at dksX5_endsAfter_0 18 rfl rfl)
theorem dX5_endsAfter_19 : decode cX5_endsAfter 19 = .ok (.iaload, 1) := dk_46 (dk_at dksX5_endsAfter_0 19 rfl rfl)
theorem dX5_endsAfter_20 : decode cX5_endsAfter 20 = .ok (.iconst 3, 1) := dk_6 (dk_at dksX5_endsAfter_0 20 rfl rfl)
theorem dX5_endsAfter_21 : decode cX5_endsAfter 21 = .ok (.if_icmp .ne 9, 3) := dk_160 0 9 (dk_at dksX5_endsAfter_0 21 rfl rfl)
theorem dX5_endsAfter_24 : decode cX5_endsAfter 24 = .ok (.aload_n 0, 1) := dk_42 (dk_at dksX5_endsAfter_1 0 rfl rfl)
theorem dX5_endsAfter_25 : decode cX5_endsAfter 25 = .ok (.iconst 2, 1) := dk_5 (dk_at dksX5_endsAfter_1 1 rfl rfl)
theorem dX5_endsAfter_26 : decode cX5_endsAfter 26 = .ok (.invokevirtual 268, 3) := dk_182 1 12 (dk_at dksX5_endsAfter_1 2 rfl rfl)
theorem dX5_endsAfter_29 : decode cX5_endsAfter 29 = .ok (.ireturn, 1) := dk_172 (dk_at dksX5_endsAfter_1 5 rfl rfl)
theorem dX5_endsAfter_30 : decode cX5_endsAfter 30 = .ok (.aload_n 0, 1) := dk_42 (dk_at dksX5_endsAfter_1 6 rfl rfl)
theorem dX5_endsAfter_31 : decode cX5_endsAfter 31 = .ok (.iload_n 1, 1) := dk_27 (dk_at dksX5_endsAfter_1 7 rfl rfl)
theorem dX5_endsAfter_32 : decode cX5_endsAfter 32 = .ok (.invokevirtual 308, 3) := dk_182 1 52 (dk_at dksX5_endsAfter_1 8 rfl rfl)
theorem dX5_endsAfter_35 : decode cX5_endsAfter 35 = .ok (.istore_n 2, 1) := dk_61 (dk_at dksX5_endsAfter_1 11 rfl rfl)
theorem dX5_endsAfter_36 : decode cX5_endsAfter 36 = .ok (.aload_n 0, 1) := dk_42 (dk_at dksX5_endsAfter_1 12 rfl rfl)
theorem dX5_endsAfter_37 : decode cX5_endsAfter 37 = .ok (.iload_n 2, 1) := dk_28 (dk_at dksX5_endsAfter_1 13 rfl rfl)
theorem dX5_endsAfter_38 : decode cX5_endsAfter 38 = .ok (.sipush 200, 3) := dk_17 0 200 (dk_at dksX5_endsAfter_1 14 rfl rfl)
theorem dX5_endsAfter_41 : decode cX5_endsAfter 41 = .ok (.if_icmp .le 7, 3) := dk_164 0 7 (dk_at dksX5_endsAfter_1 17 rfl rfl)
theorem dX5_endsAfter_44 : decode cX5_endsAfter 44 = .ok (.iconst 2, 1) := dk_5 (dk_at dksX5_endsAfter_1 20 rfl rfl)
theorem dX5_endsAfter_45 : decode cX5_endsAfter 45 = .ok (.goto 4, 3) := dk_167 0 4 (dk_at dksX5_endsAfter_1 21 rfl rfl)
theorem dX5_endsAfter_48 : decode cX5_endsAfter 48 = .ok (.iconst 0, 1) := dk_3 (dk_at dksX5_endsAfter_2 0 rfl rfl)
theorem dX5_endsAfter_49 : decode cX5_endsAfter 49 = .ok (.putfield 139, 3) := dk_181 0 139 (dk_at dksX5_endsAfter_2 1 rfl rfl)
theorem dX5_endsAfter_52 : decode cX5_endsAfter 52 = .ok (.iload_n 2, 1) := dk_28 (dk_at dksX5_endsAfter_2 4 rfl rfl)
theorem dX5_endsAfter_53 : decode cX5_endsAfter 53 = .ok (.sipush 200, 3) := dk_17 0 200 (dk_at dksX5_endsAfter_2 5 rfl rfl)
theorem dX5_endsAfter_56 : decode cX5_endsAfter 56 = .ok (.if_icmp .le 7, 3) := dk_164 0 7 (dk_at dksX5_endsAfter_2 8 rfl rfl)
theorem dX5_endsAfter_59 : decode cX5_endsAfter 59 = .ok (.iconst 0, 1) := dk_3 (dk_at dksX5_endsAfter_2 11 rfl rfl)
theorem dX5_endsAfter_60 : decode cX5_endsAfter 60 = .ok (.goto 4, 3) := dk_167 0 4 (dk_at dksX5_endsAfter_2 12 rfl rfl)
theorem dX5_endsAfter_63 : decode cX5_endsAfter 63 = .ok (.iload_n 2, 1) := dk_28 (dk_at dksX5_endsAfter_2 15 rfl rfl)
theorem dX5_endsAfter_64 : decode cX5_endsAfter 64 = .ok (.ireturn, 1) := dk_172 (dk_at dksX5_endsAfter_2 16 rfl rfl)
abbrev cX5_findsEnd : ByteArray := prog_18_method_55_code
def yX5_findsEnd : MethodName := ⟨RX5, "findsEnd", "(I)I"⟩
def dkwX5_findsEnd_2 : List UInt8 := [132, 2, 1, 167, 255, 218, 42, 42, 180, 0, 133, 3, 3, 182, 1, 44, 28, 172]
abbrev dktX5_findsEnd_2 : List UInt8 := dkwX5_findsEnd_2 ++ []
def dkwX5_findsEnd_1 : List UInt8 := [182, 1, 48, 153, 0, 16, 167, 0, 23, 42, 180, 0, 94, 27, 46, 5, 159, 0, 13, 42, 182, 1, 41]
abbrev dktX5_findsEnd_1 : List UInt8 := dkwX5_findsEnd_1 ++ dktX5_findsEnd_2
def dkwX5_findsEnd_0 : List UInt8 := [42, 42, 180, 0, 133, 3, 4, 182, 1, 44, 3, 61, 28, 17, 0, 200, 163, 0, 37, 27, 156, 0, 13, 42]
abbrev dktX5_findsEnd_0 : List UInt8 := dkwX5_findsEnd_0 ++ dktX5_findsEnd_1
theorem dksX5_findsEnd_0 : cX5_findsEnd.data.toList.drop 0 = dktX5_findsEnd_0 := by decide +kernel
theorem dksX5_findsEnd_1 : cX5_findsEnd.data.toList.drop 24 = dktX5_findsEnd_1 := dk_seg dksX5_findsEnd_0 24 rfl rfl
theorem dksX5_findsEnd_2 : cX5_findsEnd.data.toList.drop 47 = dktX5_findsEnd_2 := dk_seg dksX5_findsEnd_1 23 rfl rfl
theorem dX5_findsEnd_0 : decode cX5_findsEnd 0 = .ok (.aload_n 0, 1) := dk_42 (dk_at dksX5_findsEnd_0 0 rfl rfl)
theorem dX5_findsEnd_1 : decode cX5_findsEnd 1 = .ok (.aload_n 0, 1) := dk_42 (dk_at dksX5_findsEnd_0 1 rfl rfl)
theorem dX5_findsEnd_2 : decode cX5_findsEnd 2 = .ok (.getfield 133, 3) := dk_180 0 133 (dk_at dksX5_findsEnd_0 2 rfl rfl)
theorem dX5_findsEnd_5 : decode cX5_findsEnd 5 = .ok (.iconst 0, 1) := dk_3 (dk_at dksX5_findsEnd_0 5 rfl rfl)
theorem dX5_findsEnd_6 : decode cX5_findsEnd 6 = .ok (.iconst 1, 1) := dk_4 (dk_at dksX5_findsEnd_0 6 rfl rfl)
theorem dX5_findsEnd_7 : decode cX5_findsEnd 7 = .ok (.invokevirtual 300, 3) := dk_182 1 44 (dk_at dksX5_findsEnd_0 7 rfl rfl)
theorem dX5_findsEnd_10 : decode cX5_findsEnd 10 = .ok (.iconst 0, 1) := dk_3 (dk_at dksX5_findsEnd_0 10 rfl rfl)
theorem dX5_findsEnd_11 : decode cX5_findsEnd 11 = .ok (.istore_n 2, 1) := dk_61 (dk_at dksX5_findsEnd_0 11 rfl rfl)
theorem dX5_findsEnd_12 : decode cX5_findsEnd 12 = .ok (.iload_n 2, 1) := dk_28 (dk_at dksX5_findsEnd_0 12 rfl rfl)
theorem dX5_findsEnd_13 : decode cX5_findsEnd 13 = .ok (.sipush 200, 3) := dk_17 0 200 (dk_at dksX5_findsEnd_0 13 rfl rfl)
theorem dX5_findsEnd_16 : decode cX5_findsEnd 16 = .ok (.if_icmp .gt 37, 3) := dk_163 0 37 (dk_at dksX5_findsEnd_0 16 rfl rfl)
theorem dX5_findsEnd_19 : decode cX5_findsEnd 19 = .ok (.iload_n 1, 1) := dk_27 (dk_at dksX5_findsEnd_0 19 rfl rfl)
theorem dX5_findsEnd_20 : decode cX5_findsEnd 20 = .ok (.ifCond .ge 13, 3) := dk_156 0 13 (dk_at dksX5_findsEnd_0 20 rfl rfl)
theorem dX5_findsEnd_23 : decode cX5_findsEnd 23 = .ok (.aload_n 0, 1) := dk_42 (dk_at dksX5_findsEnd_0 23 rfl rfl)
theorem dX5_findsEnd_24 : decode cX5_findsEnd 24 = .ok (.invokevirtual 304, 3) := dk_182 1 48 (dk_at dksX5_findsEnd_1 0 rfl rfl)
theorem dX5_findsEnd_27 : decode cX5_findsEnd 27 = .ok (.ifCond .eq 16, 3) := dk_153 0 16 (dk_at dksX5_findsEnd_1 3 rfl rfl)
theorem dX5_findsEnd_30 : decode cX5_findsEnd 30 = .ok (.goto 23, 3) := dk_167 0 23 (dk_at dksX5_findsEnd_1 6 rfl rfl)
theorem dX5_findsEnd_33 : decode cX5_findsEnd 33 = .ok (.aload_n 0, 1) := dk_42 (dk_at dksX5_findsEnd_1 9 rfl rfl)
theorem dX5_findsEnd_34 : decode cX5_findsEnd 34 = .ok (.getfield 94, 3) := dk_180 0 94 (dk_at dksX5_findsEnd_1 10 rfl rfl)
theorem dX5_findsEnd_37 : decode cX5_findsEnd 37 = .ok (.iload_n 1, 1) := dk_27 (dk_at dksX5_findsEnd_1 13 rfl rfl)
theorem dX5_findsEnd_38 : decode cX5_findsEnd 38 = .ok (.iaload, 1) := dk_46 (dk_at dksX5_findsEnd_1 14 rfl rfl)
theorem dX5_findsEnd_39 : decode cX5_findsEnd 39 = .ok (.iconst 2, 1) := dk_5 (dk_at dksX5_findsEnd_1 15 rfl rfl)
theorem dX5_findsEnd_40 : decode cX5_findsEnd 40 = .ok (.if_icmp .eq 13, 3) := dk_159 0 13 (dk_at dksX5_findsEnd_1 16 rfl rfl)
theorem dX5_findsEnd_43 : decode cX5_findsEnd 43 = .ok (.aload_n 0, 1) := dk_42 (dk_at dksX5_findsEnd_1 19 rfl rfl)
theorem dX5_findsEnd_44 : decode cX5_findsEnd 44 = .ok (.invokevirtual 297, 3) := dk_182 1 41 (dk_at dksX5_findsEnd_1 20 rfl rfl)
theorem dX5_findsEnd_47 : decode cX5_findsEnd 47 = .ok (.iinc 2 1, 3) := dk_132 2 1 (dk_at dksX5_findsEnd_2 0 rfl rfl)
theorem dX5_findsEnd_50 : decode cX5_findsEnd 50 = .ok (.goto (-38), 3) := dk_167 255 218 (dk_at dksX5_findsEnd_2 3 rfl rfl)
theorem dX5_findsEnd_53 : decode cX5_findsEnd 53 = .ok (.aload_n 0, 1) := dk_42 (dk_at dksX5_findsEnd_2 6 rfl rfl)
theorem dX5_findsEnd_54 : decode cX5_findsEnd 54 = .ok (.aload_n 0, 1) := dk_42 (dk_at dksX5_findsEnd_2 7 rfl rfl)
theorem dX5_findsEnd_55 : decode cX5_findsEnd 55 = .ok (.getfield 133, 3) := dk_180 0 133 (dk_at dksX5_findsEnd_2 8 rfl rfl)
theorem dX5_findsEnd_58 : decode cX5_findsEnd 58 = .ok (.iconst 0, 1) := dk_3 (dk_at dksX5_findsEnd_2 11 rfl rfl)
theorem dX5_findsEnd_59 : decode cX5_findsEnd 59 = .ok (.iconst 0, 1) := dk_3 (dk_at dksX5_findsEnd_2 12 rfl rfl)
theorem dX5_findsEnd_60 : decode cX5_findsEnd 60 = .ok (.invokevirtual 300, 3) := dk_182 1 44 (dk_at dksX5_findsEnd_2 13 rfl rfl)
theorem dX5_findsEnd_63 : decode cX5_findsEnd 63 = .ok (.iload_n 2, 1) := dk_28 (dk_at dksX5_findsEnd_2 16 rfl rfl)
theorem dX5_findsEnd_64 : decode cX5_findsEnd 64 = .ok (.ireturn, 1) := dk_172 (dk_at dksX5_findsEnd_2 17 rfl rfl)
abbrev cX5_isQuiet : ByteArray := prog_18_method_54_code
def yX5_isQuiet : MethodName := ⟨RX5, "isQuiet", "()Z"⟩
def dkwX5_isQuiet_1 : List UInt8 := [158, 0, 5, 3, 172, 132, 1, 1, 167, 255, 228, 4, 172]
abbrev dktX5_isQuiet_1 : List UInt8 := dkwX5_isQuiet_1 ++ []
def dkwX5_isQuiet_0 : List UInt8 := [3, 60, 27, 6, 162, 0, 29, 42, 180, 0, 49, 27, 46, 154, 0, 12, 42, 180, 0, 40, 27, 46]
abbrev dktX5_isQuiet_0 : List UInt8 := dkwX5_isQuiet_0 ++ dktX5_isQuiet_1
theorem dksX5_isQuiet_0 : cX5_isQuiet.data.toList.drop 0 = dktX5_isQuiet_0 := by decide +kernel
theorem dksX5_isQuiet_1 : cX5_isQuiet.data.toList.drop 22 = dktX5_isQuiet_1 := dk_seg dksX5_isQuiet_0 22 rfl rfl
theorem dX5_isQuiet_0 : decode cX5_isQuiet 0 = .ok (.iconst 0, 1) := dk_3 (dk_at dksX5_isQuiet_0 0 rfl rfl)
theorem dX5_isQuiet_1 : decode cX5_isQuiet 1 = .ok (.istore_n 1, 1) := dk_60 (dk_at dksX5_isQuiet_0 1 rfl rfl)
theorem dX5_isQuiet_2 : decode cX5_isQuiet 2 = .ok (.iload_n 1, 1) := dk_27 (dk_at dksX5_isQuiet_0 2 rfl rfl)
theorem dX5_isQuiet_3 : decode cX5_isQuiet 3 = .ok (.iconst 3, 1) := dk_6 (dk_at dksX5_isQuiet_0 3 rfl rfl)
theorem dX5_isQuiet_4 : decode cX5_isQuiet 4 = .ok (.if_icmp .ge 29, 3) := dk_162 0 29 (dk_at dksX5_isQuiet_0 4 rfl rfl)
theorem dX5_isQuiet_7 : decode cX5_isQuiet 7 = .ok (.aload_n 0, 1) := dk_42 (dk_at dksX5_isQuiet_0 7 rfl rfl)
theorem dX5_isQuiet_8 : decode cX5_isQuiet 8 = .ok (.getfield 49, 3) := dk_180 0 49 (dk_at dksX5_isQuiet_0 8 rfl rfl)
theorem dX5_isQuiet_11 : decode cX5_isQuiet 11 = .ok (.iload_n 1, 1) := dk_27 (dk_at dksX5_isQuiet_0 11 rfl rfl)
theorem dX5_isQuiet_12 : decode cX5_isQuiet 12 = .ok (.iaload, 1) := dk_46 (dk_at dksX5_isQuiet_0 12 rfl rfl)
theorem dX5_isQuiet_13 : decode cX5_isQuiet 13 = .ok (.ifCond .ne 12, 3) := dk_154 0 12 (dk_at dksX5_isQuiet_0 13 rfl rfl)
theorem dX5_isQuiet_16 : decode cX5_isQuiet 16 = .ok (.aload_n 0, 1) := dk_42 (dk_at dksX5_isQuiet_0 16 rfl rfl)
theorem dX5_isQuiet_17 : decode cX5_isQuiet 17 = .ok (.getfield 40, 3) := dk_180 0 40 (dk_at dksX5_isQuiet_0 17 rfl rfl)
theorem dX5_isQuiet_20 : decode cX5_isQuiet 20 = .ok (.iload_n 1, 1) := dk_27 (dk_at dksX5_isQuiet_0 20 rfl rfl)
theorem dX5_isQuiet_21 : decode cX5_isQuiet 21 = .ok (.iaload, 1) := dk_46 (dk_at dksX5_isQuiet_0 21 rfl rfl)
theorem dX5_isQuiet_22 : decode cX5_isQuiet 22 = .ok (.ifCond .le 5, 3) := dk_158 0 5 (dk_at dksX5_isQuiet_1 0 rfl rfl)
theorem dX5_isQuiet_25 : decode cX5_isQuiet 25 = .ok (.iconst 0, 1) := dk_3 (dk_at dksX5_isQuiet_1 3 rfl rfl)
theorem dX5_isQuiet_26 : decode cX5_isQuiet 26 = .ok (.ireturn, 1) := dk_172 (dk_at dksX5_isQuiet_1 4 rfl rfl)
theorem dX5_isQuiet_27 : decode cX5_isQuiet 27 = .ok (.iinc 1 1, 3) := dk_132 1 1 (dk_at dksX5_isQuiet_1 5 rfl rfl)
theorem dX5_isQuiet_30 : decode cX5_isQuiet 30 = .ok (.goto (-28), 3) := dk_167 255 228 (dk_at dksX5_isQuiet_1 8 rfl rfl)
theorem dX5_isQuiet_33 : decode cX5_isQuiet 33 = .ok (.iconst 1, 1) := dk_4 (dk_at dksX5_isQuiet_1 11 rfl rfl)
theorem dX5_isQuiet_34 : decode cX5_isQuiet 34 = .ok (.ireturn, 1) := dk_172 (dk_at dksX5_isQuiet_1 12 rfl rfl)
abbrev cX5_idleAfter : ByteArray := prog_18_method_57_code
def yX5_idleAfter : MethodName := ⟨RX5, "idleAfter", "()I"⟩
def dkwX5_idleAfter_1 : List UInt8 := [17, 0, 200, 164, 0, 7, 3, 167, 0, 4, 27, 172]
abbrev dktX5_idleAfter_1 : List UInt8 := dkwX5_idleAfter_1 ++ []
def dkwX5_idleAfter_0 : List UInt8 := [42, 2, 182, 1, 52, 60, 42, 27, 17, 0, 200, 164, 0, 7, 4, 167, 0, 4, 3, 181, 0, 139, 27]
abbrev dktX5_idleAfter_0 : List UInt8 := dkwX5_idleAfter_0 ++ dktX5_idleAfter_1
theorem dksX5_idleAfter_0 : cX5_idleAfter.data.toList.drop 0 = dktX5_idleAfter_0 := by decide +kernel
theorem dksX5_idleAfter_1 : cX5_idleAfter.data.toList.drop 23 = dktX5_idleAfter_1 := dk_seg dksX5_idleAfter_0 23 rfl rfl
theorem dX5_idleAfter_0 : decode cX5_idleAfter 0 = .ok (.aload_n 0, 1) := dk_42 (dk_at dksX5_idleAfter_0 0 rfl rfl)
theorem dX5_idleAfter_1 : decode cX5_idleAfter 1 = .ok (.iconst (-1), 1) := dk_2 (dk_at dksX5_idleAfter_0 1 rfl rfl)
theorem dX5_idleAfter_2 : decode cX5_idleAfter 2 = .ok (.invokevirtual 308, 3) := dk_182 1 52 (dk_at dksX5_idleAfter_0 2 rfl rfl)
theorem dX5_idleAfter_5 : decode cX5_idleAfter 5 = .ok (.istore_n 1, 1) := dk_60 (dk_at dksX5_idleAfter_0 5 rfl rfl)
theorem dX5_idleAfter_6 : decode cX5_idleAfter 6 = .ok (.aload_n 0, 1) := dk_42 (dk_at dksX5_idleAfter_0 6 rfl rfl)
theorem dX5_idleAfter_7 : decode cX5_idleAfter 7 = .ok (.iload_n 1, 1) := dk_27 (dk_at dksX5_idleAfter_0 7 rfl rfl)
theorem dX5_idleAfter_8 : decode cX5_idleAfter 8 = .ok (.sipush 200, 3) := dk_17 0 200 (dk_at dksX5_idleAfter_0 8 rfl rfl)
theorem dX5_idleAfter_11 : decode cX5_idleAfter 11 = .ok (.if_icmp .le 7, 3) := dk_164 0 7 (dk_at dksX5_idleAfter_0 11 rfl rfl)
theorem dX5_idleAfter_14 : decode cX5_idleAfter 14 = .ok (.iconst 1, 1) := dk_4 (dk_at dksX5_idleAfter_0 14 rfl rfl)
theorem dX5_idleAfter_15 : decode cX5_idleAfter 15 = .ok (.goto 4, 3) := dk_167 0 4 (dk_at dksX5_idleAfter_0 15 rfl rfl)
theorem dX5_idleAfter_18 : decode cX5_idleAfter 18 = .ok (.iconst 0, 1) := dk_3 (dk_at dksX5_idleAfter_0 18 rfl rfl)
theorem dX5_idleAfter_19 : decode cX5_idleAfter 19 = .ok (.putfield 139, 3) := dk_181 0 139 (dk_at dksX5_idleAfter_0 19 rfl rfl)
theorem dX5_idleAfter_22 : decode cX5_idleAfter 22 = .ok (.iload_n 1, 1) := dk_27 (dk_at dksX5_idleAfter_0 22 rfl rfl)
theorem dX5_idleAfter_23 : decode cX5_idleAfter 23 = .ok (.sipush 200, 3) := dk_17 0 200 (dk_at dksX5_idleAfter_1 0 rfl rfl)
theorem dX5_idleAfter_26 : decode cX5_idleAfter 26 = .ok (.if_icmp .le 7, 3) := dk_164 0 7 (dk_at dksX5_idleAfter_1 3 rfl rfl)
theorem dX5_idleAfter_29 : decode cX5_idleAfter 29 = .ok (.iconst 0, 1) := dk_3 (dk_at dksX5_idleAfter_1 6 rfl rfl)
theorem dX5_idleAfter_30 : decode cX5_idleAfter 30 = .ok (.goto 4, 3) := dk_167 0 4 (dk_at dksX5_idleAfter_1 7 rfl rfl)
theorem dX5_idleAfter_33 : decode cX5_idleAfter 33 = .ok (.iload_n 1, 1) := dk_27 (dk_at dksX5_idleAfter_1 10 rfl rfl)
theorem dX5_idleAfter_34 : decode cX5_idleAfter 34 = .ok (.ireturn, 1) := dk_172 (dk_at dksX5_idleAfter_1 11 rfl rfl)
abbrev cX5_isSafe : ByteArray := prog_18_method_58_code
def yX5_isSafe : MethodName := ⟨RX5, "isSafe", "()Z"⟩
def dkwX5_isSafe_0 : List UInt8 := [42, 3, 181, 0, 139, 42, 182, 0, 180, 42, 182, 0, 183, 156, 0, 7, 4, 167, 0, 4, 3, 172]
abbrev dktX5_isSafe_0 : List UInt8 := dkwX5_isSafe_0 ++ []
theorem dksX5_isSafe_0 : cX5_isSafe.data.toList.drop 0 = dktX5_isSafe_0 := by decide +kernel
theorem dX5_isSafe_0 : decode cX5_isSafe 0 = .ok (.aload_n 0, 1) := dk_42 (dk_at dksX5_isSafe_0 0 rfl rfl)
theorem dX5_isSafe_1 : decode cX5_isSafe 1 = .ok (.iconst 0, 1) := dk_3 (dk_at dksX5_isSafe_0 1 rfl rfl)
theorem dX5_isSafe_2 : decode cX5_isSafe 2 = .ok (.putfield 139, 3) := dk_181 0 139 (dk_at dksX5_isSafe_0 2 rfl rfl)
theorem dX5_isSafe_5 : decode cX5_isSafe 5 = .ok (.aload_n 0, 1) := dk_42 (dk_at dksX5_isSafe_0 5 rfl rfl)
theorem dX5_isSafe_6 : decode cX5_isSafe 6 = .ok (.invokevirtual 180, 3) := dk_182 0 180 (dk_at dksX5_isSafe_0 6 rfl rfl)
theorem dX5_isSafe_9 : decode cX5_isSafe 9 = .ok (.aload_n 0, 1) := dk_42 (dk_at dksX5_isSafe_0 9 rfl rfl)
theorem dX5_isSafe_10 : decode cX5_isSafe 10 = .ok (.invokevirtual 183, 3) := dk_182 0 183 (dk_at dksX5_isSafe_0 10 rfl rfl)
theorem dX5_isSafe_13 : decode cX5_isSafe 13 = .ok (.ifCond .ge 7, 3) := dk_156 0 7 (dk_at dksX5_isSafe_0 13 rfl rfl)
theorem dX5_isSafe_16 : decode cX5_isSafe 16 = .ok (.iconst 1, 1) := dk_4 (dk_at dksX5_isSafe_0 16 rfl rfl)
theorem dX5_isSafe_17 : decode cX5_isSafe 17 = .ok (.goto 4, 3) := dk_167 0 4 (dk_at dksX5_isSafe_0 17 rfl rfl)
theorem dX5_isSafe_20 : decode cX5_isSafe 20 = .ok (.iconst 0, 1) := dk_3 (dk_at dksX5_isSafe_0 20 rfl rfl)
theorem dX5_isSafe_21 : decode cX5_isSafe 21 = .ok (.ireturn, 1) := dk_172 (dk_at dksX5_isSafe_0 21 rfl rfl)
abbrev cX5_entry : ByteArray := prog_18_method_59_code
def yX5_entry : MethodName := ⟨RX5, "entry", "(II)I"⟩
def dkwX5_entry_2 : List UInt8 := [28, 96, 46, 172]
abbrev dktX5_entry_2 : List UInt8 := dkwX5_entry_2 ++ []
def dkwX5_entry_1 : List UInt8 := [184, 0, 143, 154, 0, 9, 42, 5, 182, 1, 12, 172, 42, 3, 181, 0, 139, 42, 180, 0, 103, 7, 27, 104]
abbrev dktX5_entry_1 : List UInt8 := dkwX5_entry_1 ++ dktX5_entry_2
def dkwX5_entry_0 : List UInt8 := [27, 3, 42, 180, 0, 155, 4, 100, 184, 0, 143, 154, 0, 9, 42, 4, 182, 1, 12, 172, 28, 3, 6]
abbrev dktX5_entry_0 : List UInt8 := dkwX5_entry_0 ++ dktX5_entry_1
theorem dksX5_entry_0 : cX5_entry.data.toList.drop 0 = dktX5_entry_0 := by decide +kernel
theorem dksX5_entry_1 : cX5_entry.data.toList.drop 23 = dktX5_entry_1 := dk_seg dksX5_entry_0 23 rfl rfl
theorem dksX5_entry_2 : cX5_entry.data.toList.drop 47 = dktX5_entry_2 := dk_seg dksX5_entry_1 24 rfl rfl
theorem dX5_entry_0 : decode cX5_entry 0 = .ok (.iload_n 1, 1) := dk_27 (dk_at dksX5_entry_0 0 rfl rfl)
theorem dX5_entry_1 : decode cX5_entry 1 = .ok (.iconst 0, 1) := dk_3 (dk_at dksX5_entry_0 1 rfl rfl)
theorem dX5_entry_2 : decode cX5_entry 2 = .ok (.aload_n 0, 1) := dk_42 (dk_at dksX5_entry_0 2 rfl rfl)
theorem dX5_entry_3 : decode cX5_entry 3 = .ok (.getfield 155, 3) := dk_180 0 155 (dk_at dksX5_entry_0 3 rfl rfl)
theorem dX5_entry_6 : decode cX5_entry 6 = .ok (.iconst 1, 1) := dk_4 (dk_at dksX5_entry_0 6 rfl rfl)
theorem dX5_entry_7 : decode cX5_entry 7 = .ok (.isub, 1) := dk_100 (dk_at dksX5_entry_0 7 rfl rfl)
theorem dX5_entry_8 : decode cX5_entry 8 = .ok (.invokestatic 143, 3) := dk_184 0 143 (dk_at dksX5_entry_0 8 rfl rfl)
theorem dX5_entry_11 : decode cX5_entry 11 = .ok (.ifCond .ne 9, 3) := dk_154 0 9 (dk_at dksX5_entry_0 11 rfl rfl)
theorem dX5_entry_14 : decode cX5_entry 14 = .ok (.aload_n 0, 1) := dk_42 (dk_at dksX5_entry_0 14 rfl rfl)
theorem dX5_entry_15 : decode cX5_entry 15 = .ok (.iconst 1, 1) := dk_4 (dk_at dksX5_entry_0 15 rfl rfl)
theorem dX5_entry_16 : decode cX5_entry 16 = .ok (.invokevirtual 268, 3) := dk_182 1 12 (dk_at dksX5_entry_0 16 rfl rfl)
theorem dX5_entry_19 : decode cX5_entry 19 = .ok (.ireturn, 1) := dk_172 (dk_at dksX5_entry_0 19 rfl rfl)
theorem dX5_entry_20 : decode cX5_entry 20 = .ok (.iload_n 2, 1) := dk_28 (dk_at dksX5_entry_0 20 rfl rfl)
theorem dX5_entry_21 : decode cX5_entry 21 = .ok (.iconst 0, 1) := dk_3 (dk_at dksX5_entry_0 21 rfl rfl)
theorem dX5_entry_22 : decode cX5_entry 22 = .ok (.iconst 3, 1) := dk_6 (dk_at dksX5_entry_0 22 rfl rfl)
theorem dX5_entry_23 : decode cX5_entry 23 = .ok (.invokestatic 143, 3) := dk_184 0 143 (dk_at dksX5_entry_1 0 rfl rfl)
theorem dX5_entry_26 : decode cX5_entry 26 = .ok (.ifCond .ne 9, 3) := dk_154 0 9 (dk_at dksX5_entry_1 3 rfl rfl)
theorem dX5_entry_29 : decode cX5_entry 29 = .ok (.aload_n 0, 1) := dk_42 (dk_at dksX5_entry_1 6 rfl rfl)
theorem dX5_entry_30 : decode cX5_entry 30 = .ok (.iconst 2, 1) := dk_5 (dk_at dksX5_entry_1 7 rfl rfl)
theorem dX5_entry_31 : decode cX5_entry 31 = .ok (.invokevirtual 268, 3) := dk_182 1 12 (dk_at dksX5_entry_1 8 rfl rfl)
theorem dX5_entry_34 : decode cX5_entry 34 = .ok (.ireturn, 1) := dk_172 (dk_at dksX5_entry_1 11 rfl rfl)
theorem dX5_entry_35 : decode cX5_entry 35 = .ok (.aload_n 0, 1) := dk_42 (dk_at dksX5_entry_1 12 rfl rfl)
theorem dX5_entry_36 : decode cX5_entry 36 = .ok (.iconst 0, 1) := dk_3 (dk_at dksX5_entry_1 13 rfl rfl)
theorem dX5_entry_37 : decode cX5_entry 37 = .ok (.putfield 139, 3) := dk_181 0 139 (dk_at dksX5_entry_1 14 rfl rfl)
theorem dX5_entry_40 : decode cX5_entry 40 = .ok (.aload_n 0, 1) := dk_42 (dk_at dksX5_entry_1 17 rfl rfl)
theorem dX5_entry_41 : decode cX5_entry 41 = .ok (.getfield 103, 3) := dk_180 0 103 (dk_at dksX5_entry_1 18 rfl rfl)
theorem dX5_entry_44 : decode cX5_entry 44 = .ok (.iconst 4, 1) := dk_7 (dk_at dksX5_entry_1 21 rfl rfl)
theorem dX5_entry_45 : decode cX5_entry 45 = .ok (.iload_n 1, 1) := dk_27 (dk_at dksX5_entry_1 22 rfl rfl)
theorem dX5_entry_46 : decode cX5_entry 46 = .ok (.imul, 1) := dk_104 (dk_at dksX5_entry_1 23 rfl rfl)
theorem dX5_entry_47 : decode cX5_entry 47 = .ok (.iload_n 2, 1) := dk_28 (dk_at dksX5_entry_2 0 rfl rfl)
theorem dX5_entry_48 : decode cX5_entry 48 = .ok (.iadd, 1) := dk_96 (dk_at dksX5_entry_2 1 rfl rfl)
theorem dX5_entry_49 : decode cX5_entry 49 = .ok (.iaload, 1) := dk_46 (dk_at dksX5_entry_2 2 rfl rfl)
theorem dX5_entry_50 : decode cX5_entry 50 = .ok (.ireturn, 1) := dk_172 (dk_at dksX5_entry_2 3 rfl rfl)
abbrev cX5_account : ByteArray := prog_18_method_62_code
def yX5_account : MethodName := ⟨RX5, "account", "(I)I"⟩
def dkwX5_account_4 : List UInt8 := [184, 1, 55, 172, 42, 182, 1, 59, 172]
abbrev dktX5_account_4 : List UInt8 := dkwX5_account_4 ++ []
def dkwX5_account_3 : List UInt8 := [172, 42, 180, 0, 19, 184, 1, 55, 172, 42, 180, 0, 220, 172, 42, 180, 0, 155, 172, 42, 180, 0, 67]
abbrev dktX5_account_3 : List UInt8 := dkwX5_account_3 ++ dktX5_account_4
def dkwX5_account_2 : List UInt8 := [42, 180, 0, 158, 172, 42, 180, 1, 24, 172, 42, 180, 0, 211, 172, 42, 180, 1, 35, 172, 42, 180, 0, 223]
abbrev dktX5_account_2 : List UInt8 := dkwX5_account_2 ++ dktX5_account_3
def dkwX5_account_1 : List UInt8 := [170, 0, 0, 0, 0, 101, 0, 0, 0, 0, 0, 0, 0, 8, 0, 0, 0, 50, 0, 0, 0, 55, 0, 0, 0, 60, 0, 0, 0, 65, 0, 0, 0, 70, 0, 0, 0, 75, 0, 0, 0, 83, 0, 0, 0, 88, 0, 0, 0, 93]
abbrev dktX5_account_1 : List UInt8 := dkwX5_account_1 ++ dktX5_account_2
def dkwX5_account_0 : List UInt8 := [27, 3, 16, 9, 184, 0, 143, 154, 0, 9, 42, 4, 182, 1, 12, 172, 42, 3, 181, 0, 139, 27]
abbrev dktX5_account_0 : List UInt8 := dkwX5_account_0 ++ dktX5_account_1
theorem dksX5_account_0 : cX5_account.data.toList.drop 0 = dktX5_account_0 := by decide +kernel
theorem dksX5_account_1 : cX5_account.data.toList.drop 22 = dktX5_account_1 := dk_seg dksX5_account_0 22 rfl rfl
theorem dksX5_account_2 : cX5_account.data.toList.drop 72 = dktX5_account_2 := dk_seg dksX5_account_1 50 rfl rfl
theorem dksX5_account_3 : cX5_account.data.toList.drop 96 = dktX5_account_3 := dk_seg dksX5_account_2 24 rfl rfl
theorem dksX5_account_4 : cX5_account.data.toList.drop 119 = dktX5_account_4 := dk_seg dksX5_account_3 23 rfl rfl
theorem dX5_account_0 : decode cX5_account 0 = .ok (.iload_n 1, 1) := dk_27 (dk_at dksX5_account_0 0 rfl rfl)
theorem dX5_account_1 : decode cX5_account 1 = .ok (.iconst 0, 1) := dk_3 (dk_at dksX5_account_0 1 rfl rfl)
theorem dX5_account_2 : decode cX5_account 2 = .ok (.bipush 9, 2) := dk_16 9 (dk_at dksX5_account_0 2 rfl rfl)
theorem dX5_account_4 : decode cX5_account 4 = .ok (.invokestatic 143, 3) := dk_184 0 143 (dk_at dksX5_account_0 4 rfl rfl)
theorem dX5_account_7 : decode cX5_account 7 = .ok (.ifCond .ne 9, 3) := dk_154 0 9 (dk_at dksX5_account_0 7 rfl rfl)
theorem dX5_account_10 : decode cX5_account 10 = .ok (.aload_n 0, 1) := dk_42 (dk_at dksX5_account_0 10 rfl rfl)
theorem dX5_account_11 : decode cX5_account 11 = .ok (.iconst 1, 1) := dk_4 (dk_at dksX5_account_0 11 rfl rfl)
theorem dX5_account_12 : decode cX5_account 12 = .ok (.invokevirtual 268, 3) := dk_182 1 12 (dk_at dksX5_account_0 12 rfl rfl)
theorem dX5_account_15 : decode cX5_account 15 = .ok (.ireturn, 1) := dk_172 (dk_at dksX5_account_0 15 rfl rfl)
theorem dX5_account_16 : decode cX5_account 16 = .ok (.aload_n 0, 1) := dk_42 (dk_at dksX5_account_0 16 rfl rfl)
theorem dX5_account_17 : decode cX5_account 17 = .ok (.iconst 0, 1) := dk_3 (dk_at dksX5_account_0 17 rfl rfl)
theorem dX5_account_18 : decode cX5_account 18 = .ok (.putfield 139, 3) := dk_181 0 139 (dk_at dksX5_account_0 18 rfl rfl)
theorem dX5_account_21 : decode cX5_account 21 = .ok (.iload_n 1, 1) := dk_27 (dk_at dksX5_account_0 21 rfl rfl)
theorem dX5_account_22 : decode cX5_account 22 = .ok (.tableswitch 101 0 8 #[50, 55, 60, 65, 70, 75, 83, 88, 93], 50) := by decide +kernel
theorem dX5_account_72 : decode cX5_account 72 = .ok (.aload_n 0, 1) := dk_42 (dk_at dksX5_account_2 0 rfl rfl)
theorem dX5_account_73 : decode cX5_account 73 = .ok (.getfield 158, 3) := dk_180 0 158 (dk_at dksX5_account_2 1 rfl rfl)
theorem dX5_account_76 : decode cX5_account 76 = .ok (.ireturn, 1) := dk_172 (dk_at dksX5_account_2 4 rfl rfl)
theorem dX5_account_77 : decode cX5_account 77 = .ok (.aload_n 0, 1) := dk_42 (dk_at dksX5_account_2 5 rfl rfl)
theorem dX5_account_78 : decode cX5_account 78 = .ok (.getfield 280, 3) := dk_180 1 24 (dk_at dksX5_account_2 6 rfl rfl)
theorem dX5_account_81 : decode cX5_account 81 = .ok (.ireturn, 1) := dk_172 (dk_at dksX5_account_2 9 rfl rfl)
theorem dX5_account_82 : decode cX5_account 82 = .ok (.aload_n 0, 1) := dk_42 (dk_at dksX5_account_2 10 rfl rfl)
theorem dX5_account_83 : decode cX5_account 83 = .ok (.getfield 211, 3) := dk_180 0 211 (dk_at dksX5_account_2 11 rfl rfl)
theorem dX5_account_86 : decode cX5_account 86 = .ok (.ireturn, 1) := dk_172 (dk_at dksX5_account_2 14 rfl rfl)
theorem dX5_account_87 : decode cX5_account 87 = .ok (.aload_n 0, 1) := dk_42 (dk_at dksX5_account_2 15 rfl rfl)
theorem dX5_account_88 : decode cX5_account 88 = .ok (.getfield 291, 3) := dk_180 1 35 (dk_at dksX5_account_2 16 rfl rfl)
theorem dX5_account_91 : decode cX5_account 91 = .ok (.ireturn, 1) := dk_172 (dk_at dksX5_account_2 19 rfl rfl)
theorem dX5_account_92 : decode cX5_account 92 = .ok (.aload_n 0, 1) := dk_42 (dk_at dksX5_account_2 20 rfl rfl)
theorem dX5_account_93 : decode cX5_account 93 = .ok (.getfield 223, 3) := dk_180 0 223 (dk_at dksX5_account_2 21 rfl rfl)
theorem dX5_account_96 : decode cX5_account 96 = .ok (.ireturn, 1) := dk_172 (dk_at dksX5_account_3 0 rfl rfl)
theorem dX5_account_97 : decode cX5_account 97 = .ok (.aload_n 0, 1) := dk_42 (dk_at dksX5_account_3 1 rfl rfl)
theorem dX5_account_98 : decode cX5_account 98 = .ok (.getfield 19, 3) := dk_180 0 19 (dk_at dksX5_account_3 2 rfl rfl)
theorem dX5_account_101 : decode cX5_account 101 = .ok (.invokestatic 311, 3) := dk_184 1 55 (dk_at dksX5_account_3 5 rfl rfl)
theorem dX5_account_104 : decode cX5_account 104 = .ok (.ireturn, 1) := dk_172 (dk_at dksX5_account_3 8 rfl rfl)
theorem dX5_account_105 : decode cX5_account 105 = .ok (.aload_n 0, 1) := dk_42 (dk_at dksX5_account_3 9 rfl rfl)
theorem dX5_account_106 : decode cX5_account 106 = .ok (.getfield 220, 3) := dk_180 0 220 (dk_at dksX5_account_3 10 rfl rfl)
theorem dX5_account_109 : decode cX5_account 109 = .ok (.ireturn, 1) := dk_172 (dk_at dksX5_account_3 13 rfl rfl)
theorem dX5_account_110 : decode cX5_account 110 = .ok (.aload_n 0, 1) := dk_42 (dk_at dksX5_account_3 14 rfl rfl)
theorem dX5_account_111 : decode cX5_account 111 = .ok (.getfield 155, 3) := dk_180 0 155 (dk_at dksX5_account_3 15 rfl rfl)
theorem dX5_account_114 : decode cX5_account 114 = .ok (.ireturn, 1) := dk_172 (dk_at dksX5_account_3 18 rfl rfl)
theorem dX5_account_115 : decode cX5_account 115 = .ok (.aload_n 0, 1) := dk_42 (dk_at dksX5_account_3 19 rfl rfl)
theorem dX5_account_116 : decode cX5_account 116 = .ok (.getfield 67, 3) := dk_180 0 67 (dk_at dksX5_account_3 20 rfl rfl)
theorem dX5_account_119 : decode cX5_account 119 = .ok (.invokestatic 311, 3) := dk_184 1 55 (dk_at dksX5_account_4 0 rfl rfl)
theorem dX5_account_122 : decode cX5_account 122 = .ok (.ireturn, 1) := dk_172 (dk_at dksX5_account_4 3 rfl rfl)
theorem dX5_account_123 : decode cX5_account 123 = .ok (.aload_n 0, 1) := dk_42 (dk_at dksX5_account_4 4 rfl rfl)
theorem dX5_account_124 : decode cX5_account 124 = .ok (.invokevirtual 315, 3) := dk_182 1 59 (dk_at dksX5_account_4 5 rfl rfl)
theorem dX5_account_127 : decode cX5_account 127 = .ok (.ireturn, 1) := dk_172 (dk_at dksX5_account_4 8 rfl rfl)
abbrev cX5_sum : ByteArray := prog_18_method_60_code
def yX5_sum : MethodName := ⟨RX5, "sum", "([I)I"⟩
def dkwX5_sum_0 : List UInt8 := [3, 60, 3, 61, 28, 42, 190, 162, 0, 15, 27, 42, 28, 46, 96, 60, 132, 2, 1, 167, 255, 241, 27, 172]
abbrev dktX5_sum_0 : List UInt8 := dkwX5_sum_0 ++ []
theorem dksX5_sum_0 : cX5_sum.data.toList.drop 0 = dktX5_sum_0 := by decide +kernel
theorem dX5_sum_0 : decode cX5_sum 0 = .ok (.iconst 0, 1) := dk_3 (dk_at dksX5_sum_0 0 rfl rfl)
theorem dX5_sum_1 : decode cX5_sum 1 = .ok (.istore_n 1, 1) := dk_60 (dk_at dksX5_sum_0 1 rfl rfl)
theorem dX5_sum_2 : decode cX5_sum 2 = .ok (.iconst 0, 1) := dk_3 (dk_at dksX5_sum_0 2 rfl rfl)
theorem dX5_sum_3 : decode cX5_sum 3 = .ok (.istore_n 2, 1) := dk_61 (dk_at dksX5_sum_0 3 rfl rfl)
theorem dX5_sum_4 : decode cX5_sum 4 = .ok (.iload_n 2, 1) := dk_28 (dk_at dksX5_sum_0 4 rfl rfl)
theorem dX5_sum_5 : decode cX5_sum 5 = .ok (.aload_n 0, 1) := dk_42 (dk_at dksX5_sum_0 5 rfl rfl)
theorem dX5_sum_6 : decode cX5_sum 6 = .ok (.arraylength, 1) := dk_190 (dk_at dksX5_sum_0 6 rfl rfl)
theorem dX5_sum_7 : decode cX5_sum 7 = .ok (.if_icmp .ge 15, 3) := dk_162 0 15 (dk_at dksX5_sum_0 7 rfl rfl)
theorem dX5_sum_10 : decode cX5_sum 10 = .ok (.iload_n 1, 1) := dk_27 (dk_at dksX5_sum_0 10 rfl rfl)
theorem dX5_sum_11 : decode cX5_sum 11 = .ok (.aload_n 0, 1) := dk_42 (dk_at dksX5_sum_0 11 rfl rfl)
theorem dX5_sum_12 : decode cX5_sum 12 = .ok (.iload_n 2, 1) := dk_28 (dk_at dksX5_sum_0 12 rfl rfl)
theorem dX5_sum_13 : decode cX5_sum 13 = .ok (.iaload, 1) := dk_46 (dk_at dksX5_sum_0 13 rfl rfl)
theorem dX5_sum_14 : decode cX5_sum 14 = .ok (.iadd, 1) := dk_96 (dk_at dksX5_sum_0 14 rfl rfl)
theorem dX5_sum_15 : decode cX5_sum 15 = .ok (.istore_n 1, 1) := dk_60 (dk_at dksX5_sum_0 15 rfl rfl)
theorem dX5_sum_16 : decode cX5_sum 16 = .ok (.iinc 2 1, 3) := dk_132 2 1 (dk_at dksX5_sum_0 16 rfl rfl)
theorem dX5_sum_19 : decode cX5_sum 19 = .ok (.goto (-15), 3) := dk_167 255 241 (dk_at dksX5_sum_0 19 rfl rfl)
theorem dX5_sum_22 : decode cX5_sum 22 = .ok (.iload_n 1, 1) := dk_27 (dk_at dksX5_sum_0 22 rfl rfl)
theorem dX5_sum_23 : decode cX5_sum 23 = .ok (.ireturn, 1) := dk_172 (dk_at dksX5_sum_0 23 rfl rfl)
abbrev cX5_interlocks : ByteArray := prog_18_method_61_code
def yX5_interlocks : MethodName := ⟨RX5, "interlocks", "()I"⟩
def dkwX5_interlocks_1 : List UInt8 := [29, 122, 4, 126, 96, 60, 132, 3, 1, 167, 255, 235, 132, 2, 1, 167, 255, 221, 27, 172]
abbrev dktX5_interlocks_1 : List UInt8 := dkwX5_interlocks_1 ++ []
def dkwX5_interlocks_0 : List UInt8 := [3, 60, 3, 61, 28, 16, 8, 162, 0, 35, 3, 62, 29, 28, 162, 0, 22, 27, 42, 180, 0, 7, 28, 46]
abbrev dktX5_interlocks_0 : List UInt8 := dkwX5_interlocks_0 ++ dktX5_interlocks_1
theorem dksX5_interlocks_0 : cX5_interlocks.data.toList.drop 0 = dktX5_interlocks_0 := by decide +kernel
theorem dksX5_interlocks_1 : cX5_interlocks.data.toList.drop 24 = dktX5_interlocks_1 := dk_seg dksX5_interlocks_0 24 rfl rfl
theorem dX5_interlocks_0 : decode cX5_interlocks 0 = .ok (.iconst 0, 1) := dk_3 (dk_at dksX5_interlocks_0 0 rfl rfl)
theorem dX5_interlocks_1 : decode cX5_interlocks 1 = .ok (.istore_n 1, 1) := dk_60 (dk_at dksX5_interlocks_0 1 rfl rfl)
theorem dX5_interlocks_2 : decode cX5_interlocks 2 = .ok (.iconst 0, 1) := dk_3 (dk_at dksX5_interlocks_0 2 rfl rfl)
theorem dX5_interlocks_3 : decode cX5_interlocks 3 = .ok (.istore_n 2, 1) := dk_61 (dk_at dksX5_interlocks_0 3 rfl rfl)
theorem dX5_interlocks_4 : decode cX5_interlocks 4 = .ok (.iload_n 2, 1) := dk_28 (dk_at dksX5_interlocks_0 4 rfl rfl)
theorem dX5_interlocks_5 : decode cX5_interlocks 5 = .ok (.bipush 8, 2) := dk_16 8 (dk_at dksX5_interlocks_0 5 rfl rfl)
theorem dX5_interlocks_7 : decode cX5_interlocks 7 = .ok (.if_icmp .ge 35, 3) := dk_162 0 35 (dk_at dksX5_interlocks_0 7 rfl rfl)
theorem dX5_interlocks_10 : decode cX5_interlocks 10 = .ok (.iconst 0, 1) := dk_3 (dk_at dksX5_interlocks_0 10 rfl rfl)
theorem dX5_interlocks_11 : decode cX5_interlocks 11 = .ok (.istore_n 3, 1) := dk_62 (dk_at dksX5_interlocks_0 11 rfl rfl)
theorem dX5_interlocks_12 : decode cX5_interlocks 12 = .ok (.iload_n 3, 1) := dk_29 (dk_at dksX5_interlocks_0 12 rfl rfl)
theorem dX5_interlocks_13 : decode cX5_interlocks 13 = .ok (.iload_n 2, 1) := dk_28 (dk_at dksX5_interlocks_0 13 rfl rfl)
theorem dX5_interlocks_14 : decode cX5_interlocks 14 = .ok (.if_icmp .ge 22, 3) := dk_162 0 22 (dk_at dksX5_interlocks_0 14 rfl rfl)
theorem dX5_interlocks_17 : decode cX5_interlocks 17 = .ok (.iload_n 1, 1) := dk_27 (dk_at dksX5_interlocks_0 17 rfl rfl)
theorem dX5_interlocks_18 : decode cX5_interlocks 18 = .ok (.aload_n 0, 1) := dk_42 (dk_at dksX5_interlocks_0 18 rfl rfl)
theorem dX5_interlocks_19 : decode cX5_interlocks 19 = .ok (.getfield 7, 3) := dk_180 0 7 (dk_at dksX5_interlocks_0 19 rfl rfl)
theorem dX5_interlocks_22 : decode cX5_interlocks 22 = .ok (.iload_n 2, 1) := dk_28 (dk_at dksX5_interlocks_0 22 rfl rfl)
theorem dX5_interlocks_23 : decode cX5_interlocks 23 = .ok (.iaload, 1) := dk_46 (dk_at dksX5_interlocks_0 23 rfl rfl)
theorem dX5_interlocks_24 : decode cX5_interlocks 24 = .ok (.iload_n 3, 1) := dk_29 (dk_at dksX5_interlocks_1 0 rfl rfl)
theorem dX5_interlocks_25 : decode cX5_interlocks 25 = .ok (.ishr, 1) := dk_122 (dk_at dksX5_interlocks_1 1 rfl rfl)
theorem dX5_interlocks_26 : decode cX5_interlocks 26 = .ok (.iconst 1, 1) := dk_4 (dk_at dksX5_interlocks_1 2 rfl rfl)
theorem dX5_interlocks_27 : decode cX5_interlocks 27 = .ok (.iand, 1) := dk_126 (dk_at dksX5_interlocks_1 3 rfl rfl)
theorem dX5_interlocks_28 : decode cX5_interlocks 28 = .ok (.iadd, 1) := dk_96 (dk_at dksX5_interlocks_1 4 rfl rfl)
theorem dX5_interlocks_29 : decode cX5_interlocks 29 = .ok (.istore_n 1, 1) := dk_60 (dk_at dksX5_interlocks_1 5 rfl rfl)
theorem dX5_interlocks_30 : decode cX5_interlocks 30 = .ok (.iinc 3 1, 3) := dk_132 3 1 (dk_at dksX5_interlocks_1 6 rfl rfl)
theorem dX5_interlocks_33 : decode cX5_interlocks 33 = .ok (.goto (-21), 3) := dk_167 255 235 (dk_at dksX5_interlocks_1 9 rfl rfl)
theorem dX5_interlocks_36 : decode cX5_interlocks 36 = .ok (.iinc 2 1, 3) := dk_132 2 1 (dk_at dksX5_interlocks_1 12 rfl rfl)
theorem dX5_interlocks_39 : decode cX5_interlocks 39 = .ok (.goto (-35), 3) := dk_167 255 221 (dk_at dksX5_interlocks_1 15 rfl rfl)
theorem dX5_interlocks_42 : decode cX5_interlocks 42 = .ok (.iload_n 1, 1) := dk_27 (dk_at dksX5_interlocks_1 18 rfl rfl)
theorem dX5_interlocks_43 : decode cX5_interlocks 43 = .ok (.ireturn, 1) := dk_172 (dk_at dksX5_interlocks_1 19 rfl rfl)
abbrev cX5_use : ByteArray := prog_18_method_63_code
def yX5_use : MethodName := ⟨RX5, "use", "(I)F"⟩
def dkwX5_use_2 : List UInt8 := [134, 42, 180, 0, 158, 134, 110, 174]
abbrev dktX5_use_2 : List UInt8 := dkwX5_use_2 ++ []
def dkwX5_use_1 : List UInt8 := [167, 0, 4, 3, 181, 0, 139, 42, 180, 0, 158, 154, 0, 7, 11, 167, 0, 16, 42, 180, 0, 70, 27, 46]
abbrev dktX5_use_1 : List UInt8 := dkwX5_use_1 ++ dktX5_use_2
def dkwX5_use_0 : List UInt8 := [27, 184, 1, 9, 154, 0, 10, 42, 4, 181, 0, 139, 11, 174, 42, 42, 180, 0, 158, 154, 0, 7, 5]
abbrev dktX5_use_0 : List UInt8 := dkwX5_use_0 ++ dktX5_use_1
theorem dksX5_use_0 : cX5_use.data.toList.drop 0 = dktX5_use_0 := by decide +kernel
theorem dksX5_use_1 : cX5_use.data.toList.drop 23 = dktX5_use_1 := dk_seg dksX5_use_0 23 rfl rfl
theorem dksX5_use_2 : cX5_use.data.toList.drop 47 = dktX5_use_2 := dk_seg dksX5_use_1 24 rfl rfl
theorem dX5_use_0 : decode cX5_use 0 = .ok (.iload_n 1, 1) := dk_27 (dk_at dksX5_use_0 0 rfl rfl)
theorem dX5_use_1 : decode cX5_use 1 = .ok (.invokestatic 265, 3) := dk_184 1 9 (dk_at dksX5_use_0 1 rfl rfl)
theorem dX5_use_4 : decode cX5_use 4 = .ok (.ifCond .ne 10, 3) := dk_154 0 10 (dk_at dksX5_use_0 4 rfl rfl)
theorem dX5_use_7 : decode cX5_use 7 = .ok (.aload_n 0, 1) := dk_42 (dk_at dksX5_use_0 7 rfl rfl)
theorem dX5_use_8 : decode cX5_use 8 = .ok (.iconst 1, 1) := dk_4 (dk_at dksX5_use_0 8 rfl rfl)
theorem dX5_use_9 : decode cX5_use 9 = .ok (.putfield 139, 3) := dk_181 0 139 (dk_at dksX5_use_0 9 rfl rfl)
theorem dX5_use_12 : decode cX5_use 12 = .ok (.fconst 0, 1) := dk_11 (dk_at dksX5_use_0 12 rfl rfl)
theorem dX5_use_13 : decode cX5_use 13 = .ok (.freturn, 1) := dk_174 (dk_at dksX5_use_0 13 rfl rfl)
theorem dX5_use_14 : decode cX5_use 14 = .ok (.aload_n 0, 1) := dk_42 (dk_at dksX5_use_0 14 rfl rfl)
theorem dX5_use_15 : decode cX5_use 15 = .ok (.aload_n 0, 1) := dk_42 (dk_at dksX5_use_0 15 rfl rfl)
theorem dX5_use_16 : decode cX5_use 16 = .ok (.getfield 158, 3) := dk_180 0 158 (dk_at dksX5_use_0 16 rfl rfl)
theorem dX5_use_19 : decode cX5_use 19 = .ok (.ifCond .ne 7, 3) := dk_154 0 7 (dk_at dksX5_use_0 19 rfl rfl)
theorem dX5_use_22 : decode cX5_use 22 = .ok (.iconst 2, 1) := dk_5 (dk_at dksX5_use_0 22 rfl rfl)
theorem dX5_use_23 : decode cX5_use 23 = .ok (.goto 4, 3) := dk_167 0 4 (dk_at dksX5_use_1 0 rfl rfl)
theorem dX5_use_26 : decode cX5_use 26 = .ok (.iconst 0, 1) := dk_3 (dk_at dksX5_use_1 3 rfl rfl)
theorem dX5_use_27 : decode cX5_use 27 = .ok (.putfield 139, 3) := dk_181 0 139 (dk_at dksX5_use_1 4 rfl rfl)
theorem dX5_use_30 : decode cX5_use 30 = .ok (.aload_n 0, 1) := dk_42 (dk_at dksX5_use_1 7 rfl rfl)
theorem dX5_use_31 : decode cX5_use 31 = .ok (.getfield 158, 3) := dk_180 0 158 (dk_at dksX5_use_1 8 rfl rfl)
theorem dX5_use_34 : decode cX5_use 34 = .ok (.ifCond .ne 7, 3) := dk_154 0 7 (dk_at dksX5_use_1 11 rfl rfl)
theorem dX5_use_37 : decode cX5_use 37 = .ok (.fconst 0, 1) := dk_11 (dk_at dksX5_use_1 14 rfl rfl)
theorem dX5_use_38 : decode cX5_use 38 = .ok (.goto 16, 3) := dk_167 0 16 (dk_at dksX5_use_1 15 rfl rfl)
theorem dX5_use_41 : decode cX5_use 41 = .ok (.aload_n 0, 1) := dk_42 (dk_at dksX5_use_1 18 rfl rfl)
theorem dX5_use_42 : decode cX5_use 42 = .ok (.getfield 70, 3) := dk_180 0 70 (dk_at dksX5_use_1 19 rfl rfl)
theorem dX5_use_45 : decode cX5_use 45 = .ok (.iload_n 1, 1) := dk_27 (dk_at dksX5_use_1 22 rfl rfl)
theorem dX5_use_46 : decode cX5_use 46 = .ok (.iaload, 1) := dk_46 (dk_at dksX5_use_1 23 rfl rfl)
theorem dX5_use_47 : decode cX5_use 47 = .ok (.i2f, 1) := dk_134 (dk_at dksX5_use_2 0 rfl rfl)
theorem dX5_use_48 : decode cX5_use 48 = .ok (.aload_n 0, 1) := dk_42 (dk_at dksX5_use_2 1 rfl rfl)
theorem dX5_use_49 : decode cX5_use 49 = .ok (.getfield 158, 3) := dk_180 0 158 (dk_at dksX5_use_2 2 rfl rfl)
theorem dX5_use_52 : decode cX5_use 52 = .ok (.i2f, 1) := dk_134 (dk_at dksX5_use_2 5 rfl rfl)
theorem dX5_use_53 : decode cX5_use 53 = .ok (.fdiv, 1) := dk_110 (dk_at dksX5_use_2 6 rfl rfl)
theorem dX5_use_54 : decode cX5_use 54 = .ok (.freturn, 1) := dk_174 (dk_at dksX5_use_2 7 rfl rfl)
abbrev cX5_meanDuration : ByteArray := prog_18_method_64_code
def yX5_meanDuration : MethodName := ⟨RX5, "meanDuration", "()D"⟩
def dkwX5_meanDuration_1 : List UInt8 := [167, 0, 14, 42, 180, 0, 214, 135, 42, 180, 0, 211, 135, 111, 175]
abbrev dktX5_meanDuration_1 : List UInt8 := dkwX5_meanDuration_1 ++ []
def dkwX5_meanDuration_0 : List UInt8 := [42, 42, 180, 0, 211, 154, 0, 7, 4, 167, 0, 4, 3, 181, 0, 139, 42, 180, 0, 211, 154, 0, 7, 14]
abbrev dktX5_meanDuration_0 : List UInt8 := dkwX5_meanDuration_0 ++ dktX5_meanDuration_1
theorem dksX5_meanDuration_0 : cX5_meanDuration.data.toList.drop 0 = dktX5_meanDuration_0 := by decide +kernel
theorem dksX5_meanDuration_1 : cX5_meanDuration.data.toList.drop 24 = dktX5_meanDuration_1 := dk_seg dksX5_meanDuration_0 24 rfl rfl
theorem dX5_meanDuration_0 : decode cX5_meanDuration 0 = .ok (.aload_n 0, 1) := dk_42 (dk_at dksX5_meanDuration_0 0 rfl rfl)
theorem dX5_meanDuration_1 : decode cX5_meanDuration 1 = .ok (.aload_n 0, 1) := dk_42 (dk_at dksX5_meanDuration_0 1 rfl rfl)
theorem dX5_meanDuration_2 : decode cX5_meanDuration 2 = .ok (.getfield 211, 3) := dk_180 0 211 (dk_at dksX5_meanDuration_0 2 rfl rfl)
theorem dX5_meanDuration_5 : decode cX5_meanDuration 5 = .ok (.ifCond .ne 7, 3) := dk_154 0 7 (dk_at dksX5_meanDuration_0 5 rfl rfl)
theorem dX5_meanDuration_8 : decode cX5_meanDuration 8 = .ok (.iconst 1, 1) := dk_4 (dk_at dksX5_meanDuration_0 8 rfl rfl)
theorem dX5_meanDuration_9 : decode cX5_meanDuration 9 = .ok (.goto 4, 3) := dk_167 0 4 (dk_at dksX5_meanDuration_0 9 rfl rfl)
theorem dX5_meanDuration_12 : decode cX5_meanDuration 12 = .ok (.iconst 0, 1) := dk_3 (dk_at dksX5_meanDuration_0 12 rfl rfl)
theorem dX5_meanDuration_13 : decode cX5_meanDuration 13 = .ok (.putfield 139, 3) := dk_181 0 139 (dk_at dksX5_meanDuration_0 13 rfl rfl)
theorem dX5_meanDuration_16 : decode cX5_meanDuration 16 = .ok (.aload_n 0, 1) := dk_42 (dk_at dksX5_meanDuration_0 16 rfl rfl)
theorem dX5_meanDuration_17 : decode cX5_meanDuration 17 = .ok (.getfield 211, 3) := dk_180 0 211 (dk_at dksX5_meanDuration_0 17 rfl rfl)
theorem dX5_meanDuration_20 : decode cX5_meanDuration 20 = .ok (.ifCond .ne 7, 3) := dk_154 0 7 (dk_at dksX5_meanDuration_0 20 rfl rfl)
theorem dX5_meanDuration_23 : decode cX5_meanDuration 23 = .ok (.dconst 0, 1) := dk_14 (dk_at dksX5_meanDuration_0 23 rfl rfl)
theorem dX5_meanDuration_24 : decode cX5_meanDuration 24 = .ok (.goto 14, 3) := dk_167 0 14 (dk_at dksX5_meanDuration_1 0 rfl rfl)
theorem dX5_meanDuration_27 : decode cX5_meanDuration 27 = .ok (.aload_n 0, 1) := dk_42 (dk_at dksX5_meanDuration_1 3 rfl rfl)
theorem dX5_meanDuration_28 : decode cX5_meanDuration 28 = .ok (.getfield 214, 3) := dk_180 0 214 (dk_at dksX5_meanDuration_1 4 rfl rfl)
theorem dX5_meanDuration_31 : decode cX5_meanDuration 31 = .ok (.i2d, 1) := dk_135 (dk_at dksX5_meanDuration_1 7 rfl rfl)
theorem dX5_meanDuration_32 : decode cX5_meanDuration 32 = .ok (.aload_n 0, 1) := dk_42 (dk_at dksX5_meanDuration_1 8 rfl rfl)
theorem dX5_meanDuration_33 : decode cX5_meanDuration 33 = .ok (.getfield 211, 3) := dk_180 0 211 (dk_at dksX5_meanDuration_1 9 rfl rfl)
theorem dX5_meanDuration_36 : decode cX5_meanDuration 36 = .ok (.i2d, 1) := dk_135 (dk_at dksX5_meanDuration_1 12 rfl rfl)
theorem dX5_meanDuration_37 : decode cX5_meanDuration 37 = .ok (.ddiv, 1) := dk_111 (dk_at dksX5_meanDuration_1 13 rfl rfl)
theorem dX5_meanDuration_38 : decode cX5_meanDuration 38 = .ok (.dreturn, 1) := dk_175 (dk_at dksX5_meanDuration_1 14 rfl rfl)
abbrev cX5_feed : ByteArray := prog_18_method_65_code
def yX5_feed : MethodName := ⟨RX5, "feed", "(C)I"⟩
def dkwX5_feed_1 : List UInt8 := [42, 180, 1, 62, 27, 79, 42, 89, 180, 1, 62, 4, 96, 181, 1, 62, 42, 180, 1, 62, 172]
abbrev dktX5_feed_1 : List UInt8 := dkwX5_feed_1 ++ []
def dkwX5_feed_0 : List UInt8 := [42, 180, 1, 62, 16, 80, 160, 0, 9, 42, 4, 182, 1, 12, 172, 42, 3, 181, 0, 139, 42, 180, 0, 118]
abbrev dktX5_feed_0 : List UInt8 := dkwX5_feed_0 ++ dktX5_feed_1
theorem dksX5_feed_0 : cX5_feed.data.toList.drop 0 = dktX5_feed_0 := by decide +kernel
theorem dksX5_feed_1 : cX5_feed.data.toList.drop 24 = dktX5_feed_1 := dk_seg dksX5_feed_0 24 rfl rfl
theorem dX5_feed_0 : decode cX5_feed 0 = .ok (.aload_n 0, 1) := dk_42 (dk_at dksX5_feed_0 0 rfl rfl)
theorem dX5_feed_1 : decode cX5_feed 1 = .ok (.getfield 318, 3) := dk_180 1 62 (dk_at dksX5_feed_0 1 rfl rfl)
theorem dX5_feed_4 : decode cX5_feed 4 = .ok (.bipush 80, 2) := dk_16 80 (dk_at dksX5_feed_0 4 rfl rfl)
theorem dX5_feed_6 : decode cX5_feed 6 = .ok (.if_icmp .ne 9, 3) := dk_160 0 9 (dk_at dksX5_feed_0 6 rfl rfl)
theorem dX5_feed_9 : decode cX5_feed 9 = .ok (.aload_n 0, 1) := dk_42 (dk_at dksX5_feed_0 9 rfl rfl)
theorem dX5_feed_10 : decode cX5_feed 10 = .ok (.iconst 1, 1) := dk_4 (dk_at dksX5_feed_0 10 rfl rfl)
theorem dX5_feed_11 : decode cX5_feed 11 = .ok (.invokevirtual 268, 3) := dk_182 1 12 (dk_at dksX5_feed_0 11 rfl rfl)
theorem dX5_feed_14 : decode cX5_feed 14 = .ok (.ireturn, 1) := dk_172 (dk_at dksX5_feed_0 14 rfl rfl)
theorem dX5_feed_15 : decode cX5_feed 15 = .ok (.aload_n 0, 1) := dk_42 (dk_at dksX5_feed_0 15 rfl rfl)
theorem dX5_feed_16 : decode cX5_feed 16 = .ok (.iconst 0, 1) := dk_3 (dk_at dksX5_feed_0 16 rfl rfl)
theorem dX5_feed_17 : decode cX5_feed 17 = .ok (.putfield 139, 3) := dk_181 0 139 (dk_at dksX5_feed_0 17 rfl rfl)
theorem dX5_feed_20 : decode cX5_feed 20 = .ok (.aload_n 0, 1) := dk_42 (dk_at dksX5_feed_0 20 rfl rfl)
theorem dX5_feed_21 : decode cX5_feed 21 = .ok (.getfield 118, 3) := dk_180 0 118 (dk_at dksX5_feed_0 21 rfl rfl)
theorem dX5_feed_24 : decode cX5_feed 24 = .ok (.aload_n 0, 1) := dk_42 (dk_at dksX5_feed_1 0 rfl rfl)
theorem dX5_feed_25 : decode cX5_feed 25 = .ok (.getfield 318, 3) := dk_180 1 62 (dk_at dksX5_feed_1 1 rfl rfl)
theorem dX5_feed_28 : decode cX5_feed 28 = .ok (.iload_n 1, 1) := dk_27 (dk_at dksX5_feed_1 4 rfl rfl)
theorem dX5_feed_29 : decode cX5_feed 29 = .ok (.iastore, 1) := dk_79 (dk_at dksX5_feed_1 5 rfl rfl)
theorem dX5_feed_30 : decode cX5_feed 30 = .ok (.aload_n 0, 1) := dk_42 (dk_at dksX5_feed_1 6 rfl rfl)
theorem dX5_feed_31 : decode cX5_feed 31 = .ok (.dup, 1) := dk_89 (dk_at dksX5_feed_1 7 rfl rfl)
theorem dX5_feed_32 : decode cX5_feed 32 = .ok (.getfield 318, 3) := dk_180 1 62 (dk_at dksX5_feed_1 8 rfl rfl)
theorem dX5_feed_35 : decode cX5_feed 35 = .ok (.iconst 1, 1) := dk_4 (dk_at dksX5_feed_1 11 rfl rfl)
theorem dX5_feed_36 : decode cX5_feed 36 = .ok (.iadd, 1) := dk_96 (dk_at dksX5_feed_1 12 rfl rfl)
theorem dX5_feed_37 : decode cX5_feed 37 = .ok (.putfield 318, 3) := dk_181 1 62 (dk_at dksX5_feed_1 13 rfl rfl)
theorem dX5_feed_40 : decode cX5_feed 40 = .ok (.aload_n 0, 1) := dk_42 (dk_at dksX5_feed_1 16 rfl rfl)
theorem dX5_feed_41 : decode cX5_feed 41 = .ok (.getfield 318, 3) := dk_180 1 62 (dk_at dksX5_feed_1 17 rfl rfl)
theorem dX5_feed_44 : decode cX5_feed 44 = .ok (.ireturn, 1) := dk_172 (dk_at dksX5_feed_1 20 rfl rfl)
abbrev cX5_perform : ByteArray := prog_18_method_75_code
def yX5_perform : MethodName := ⟨RX5, "perform", "()I"⟩
def dkwX5_perform_5 : List UInt8 := [180, 1, 74, 172]
abbrev dktX5_perform_5 : List UInt8 := dkwX5_perform_5 ++ []
def dkwX5_perform_4 : List UInt8 := [180, 0, 136, 3, 3, 182, 1, 44, 42, 182, 1, 2, 42, 42, 180, 0, 133, 3, 3, 182, 1, 44, 42]
abbrev dktX5_perform_4 : List UInt8 := dkwX5_perform_4 ++ dktX5_perform_5
def dkwX5_perform_3 : List UInt8 := [42, 4, 182, 1, 12, 172, 132, 2, 1, 167, 255, 218, 42, 42, 180, 0, 133, 3, 4, 182, 1, 44, 42, 42]
abbrev dktX5_perform_3 : List UInt8 := dkwX5_perform_3 ++ dktX5_perform_4
def dkwX5_perform_2 : List UInt8 := [162, 0, 36, 42, 28, 182, 1, 98, 153, 0, 6, 167, 0, 19, 42, 42, 180, 0, 136, 3, 3, 182, 1, 44]
abbrev dktX5_perform_2 : List UInt8 := dkwX5_perform_2 ++ dktX5_perform_3
def dkwX5_perform_1 : List UInt8 := [180, 1, 65, 100, 172, 42, 42, 180, 0, 136, 3, 4, 182, 1, 44, 3, 61, 28, 42, 180, 1, 74]
abbrev dktX5_perform_1 : List UInt8 := dkwX5_perform_1 ++ dktX5_perform_2
def dkwX5_perform_0 : List UInt8 := [42, 182, 1, 95, 60, 42, 3, 181, 1, 62, 42, 3, 181, 0, 139, 27, 154, 0, 11, 16, 156, 42]
abbrev dktX5_perform_0 : List UInt8 := dkwX5_perform_0 ++ dktX5_perform_1
theorem dksX5_perform_0 : cX5_perform.data.toList.drop 0 = dktX5_perform_0 := by decide +kernel
theorem dksX5_perform_1 : cX5_perform.data.toList.drop 22 = dktX5_perform_1 := dk_seg dksX5_perform_0 22 rfl rfl
theorem dksX5_perform_2 : cX5_perform.data.toList.drop 44 = dktX5_perform_2 := dk_seg dksX5_perform_1 22 rfl rfl
theorem dksX5_perform_3 : cX5_perform.data.toList.drop 68 = dktX5_perform_3 := dk_seg dksX5_perform_2 24 rfl rfl
theorem dksX5_perform_4 : cX5_perform.data.toList.drop 92 = dktX5_perform_4 := dk_seg dksX5_perform_3 24 rfl rfl
theorem dksX5_perform_5 : cX5_perform.data.toList.drop 115 = dktX5_perform_5 := dk_seg dksX5_perform_4 23 rfl rfl
theorem dX5_perform_0 : decode cX5_perform 0 = .ok (.aload_n 0, 1) := dk_42 (dk_at dksX5_perform_0 0 rfl rfl)
theorem dX5_perform_1 : decode cX5_perform 1 = .ok (.invokevirtual 351, 3) := dk_182 1 95 (dk_at dksX5_perform_0 1 rfl rfl)
theorem dX5_perform_4 : decode cX5_perform 4 = .ok (.istore_n 1, 1) := dk_60 (dk_at dksX5_perform_0 4 rfl rfl)
theorem dX5_perform_5 : decode cX5_perform 5 = .ok (.aload_n 0, 1) := dk_42 (dk_at dksX5_perform_0 5 rfl rfl)
theorem dX5_perform_6 : decode cX5_perform 6 = .ok (.iconst 0, 1) := dk_3 (dk_at dksX5_perform_0 6 rfl rfl)
theorem dX5_perform_7 : decode cX5_perform 7 = .ok (.putfield 318, 3) := dk_181 1 62 (dk_at dksX5_perform_0 7 rfl rfl)
theorem dX5_perform_10 : decode cX5_perform 10 = .ok (.aload_n 0, 1) := dk_42 (dk_at dksX5_perform_0 10 rfl rfl)
theorem dX5_perform_11 : decode cX5_perform 11 = .ok (.iconst 0, 1) := dk_3 (dk_at dksX5_perform_0 11 rfl rfl)
theorem dX5_perform_12 : decode cX5_perform 12 = .ok (.putfield 139, 3) := dk_181 0 139 (dk_at dksX5_perform_0 12 rfl rfl)
theorem dX5_perform_15 : decode cX5_perform 15 = .ok (.iload_n 1, 1) := dk_27 (dk_at dksX5_perform_0 15 rfl rfl)
theorem dX5_perform_16 : decode cX5_perform 16 = .ok (.ifCond .ne 11, 3) := dk_154 0 11 (dk_at dksX5_perform_0 16 rfl rfl)
theorem dX5_perform_19 : decode cX5_perform 19 = .ok (.bipush (-100), 2) := dk_16 156 (dk_at dksX5_perform_0 19 rfl rfl)
theorem dX5_perform_21 : decode cX5_perform 21 = .ok (.aload_n 0, 1) := dk_42 (dk_at dksX5_perform_0 21 rfl rfl)
theorem dX5_perform_22 : decode cX5_perform 22 = .ok (.getfield 321, 3) := dk_180 1 65 (dk_at dksX5_perform_1 0 rfl rfl)
theorem dX5_perform_25 : decode cX5_perform 25 = .ok (.isub, 1) := dk_100 (dk_at dksX5_perform_1 3 rfl rfl)
theorem dX5_perform_26 : decode cX5_perform 26 = .ok (.ireturn, 1) := dk_172 (dk_at dksX5_perform_1 4 rfl rfl)
theorem dX5_perform_27 : decode cX5_perform 27 = .ok (.aload_n 0, 1) := dk_42 (dk_at dksX5_perform_1 5 rfl rfl)
theorem dX5_perform_28 : decode cX5_perform 28 = .ok (.aload_n 0, 1) := dk_42 (dk_at dksX5_perform_1 6 rfl rfl)
theorem dX5_perform_29 : decode cX5_perform 29 = .ok (.getfield 136, 3) := dk_180 0 136 (dk_at dksX5_perform_1 7 rfl rfl)
theorem dX5_perform_32 : decode cX5_perform 32 = .ok (.iconst 0, 1) := dk_3 (dk_at dksX5_perform_1 10 rfl rfl)
theorem dX5_perform_33 : decode cX5_perform 33 = .ok (.iconst 1, 1) := dk_4 (dk_at dksX5_perform_1 11 rfl rfl)
theorem dX5_perform_34 : decode cX5_perform 34 = .ok (.invokevirtual 300, 3) := dk_182 1 44 (dk_at dksX5_perform_1 12 rfl rfl)
theorem dX5_perform_37 : decode cX5_perform 37 = .ok (.iconst 0, 1) := dk_3 (dk_at dksX5_perform_1 15 rfl rfl)
theorem dX5_perform_38 : decode cX5_perform 38 = .ok (.istore_n 2, 1) := dk_61 (dk_at dksX5_perform_1 16 rfl rfl)
theorem dX5_perform_39 : decode cX5_perform 39 = .ok (.iload_n 2, 1) := dk_28 (dk_at dksX5_perform_1 17 rfl rfl)
theorem dX5_perform_40 : decode cX5_perform 40 = .ok (.aload_n 0, 1) := dk_42 (dk_at dksX5_perform_1 18 rfl rfl)
theorem dX5_perform_41 : decode cX5_perform 41 = .ok (.getfield 330, 3) := dk_180 1 74 (dk_at dksX5_perform_1 19 rfl rfl)
theorem dX5_perform_44 : decode cX5_perform 44 = .ok (.if_icmp .ge 36, 3) := dk_162 0 36 (dk_at dksX5_perform_2 0 rfl rfl)
theorem dX5_perform_47 : decode cX5_perform 47 = .ok (.aload_n 0, 1) := dk_42 (dk_at dksX5_perform_2 3 rfl rfl)
theorem dX5_perform_48 : decode cX5_perform 48 = .ok (.iload_n 2, 1) := dk_28 (dk_at dksX5_perform_2 4 rfl rfl)
theorem dX5_perform_49 : decode cX5_perform 49 = .ok (.invokevirtual 354, 3) := dk_182 1 98 (dk_at dksX5_perform_2 5 rfl rfl)
theorem dX5_perform_52 : decode cX5_perform 52 = .ok (.ifCond .eq 6, 3) := dk_153 0 6 (dk_at dksX5_perform_2 8 rfl rfl)
theorem dX5_perform_55 : decode cX5_perform 55 = .ok (.goto 19, 3) := dk_167 0 19 (dk_at dksX5_perform_2 11 rfl rfl)
theorem dX5_perform_58 : decode cX5_perform 58 = .ok (.aload_n 0, 1) := dk_42 (dk_at dksX5_perform_2 14 rfl rfl)
theorem dX5_perform_59 : decode cX5_perform 59 = .ok (.aload_n 0, 1) := dk_42 (dk_at dksX5_perform_2 15 rfl rfl)
theorem dX5_perform_60 : decode cX5_perform 60 = .ok (.getfield 136, 3) := dk_180 0 136 (dk_at dksX5_perform_2 16 rfl rfl)
theorem dX5_perform_63 : decode cX5_perform 63 = .ok (.iconst 0, 1) := dk_3 (dk_at dksX5_perform_2 19 rfl rfl)
theorem dX5_perform_64 : decode cX5_perform 64 = .ok (.iconst 0, 1) := dk_3 (dk_at dksX5_perform_2 20 rfl rfl)
theorem dX5_perform_65 : decode cX5_perform 65 = .ok (.invokevirtual 300, 3) := dk_182 1 44 (dk_at dksX5_perform_2 21 rfl rfl)
theorem dX5_perform_68 : decode cX5_perform 68 = .ok (.aload_n 0, 1) := dk_42 (dk_at dksX5_perform_3 0 rfl rfl)
theorem dX5_perform_69 : decode cX5_perform 69 = .ok (.iconst 1, 1) := dk_4 (dk_at dksX5_perform_3 1 rfl rfl)
theorem dX5_perform_70 : decode cX5_perform 70 = .ok (.invokevirtual 268, 3) := dk_182 1 12 (dk_at dksX5_perform_3 2 rfl rfl)
theorem dX5_perform_73 : decode cX5_perform 73 = .ok (.ireturn, 1) := dk_172 (dk_at dksX5_perform_3 5 rfl rfl)
theorem dX5_perform_74 : decode cX5_perform 74 = .ok (.iinc 2 1, 3) := dk_132 2 1 (dk_at dksX5_perform_3 6 rfl rfl)
theorem dX5_perform_77 : decode cX5_perform 77 = .ok (.goto (-38), 3) := dk_167 255 218 (dk_at dksX5_perform_3 9 rfl rfl)
theorem dX5_perform_80 : decode cX5_perform 80 = .ok (.aload_n 0, 1) := dk_42 (dk_at dksX5_perform_3 12 rfl rfl)
theorem dX5_perform_81 : decode cX5_perform 81 = .ok (.aload_n 0, 1) := dk_42 (dk_at dksX5_perform_3 13 rfl rfl)
theorem dX5_perform_82 : decode cX5_perform 82 = .ok (.getfield 133, 3) := dk_180 0 133 (dk_at dksX5_perform_3 14 rfl rfl)
theorem dX5_perform_85 : decode cX5_perform 85 = .ok (.iconst 0, 1) := dk_3 (dk_at dksX5_perform_3 17 rfl rfl)
theorem dX5_perform_86 : decode cX5_perform 86 = .ok (.iconst 1, 1) := dk_4 (dk_at dksX5_perform_3 18 rfl rfl)
theorem dX5_perform_87 : decode cX5_perform 87 = .ok (.invokevirtual 300, 3) := dk_182 1 44 (dk_at dksX5_perform_3 19 rfl rfl)
theorem dX5_perform_90 : decode cX5_perform 90 = .ok (.aload_n 0, 1) := dk_42 (dk_at dksX5_perform_3 22 rfl rfl)
theorem dX5_perform_91 : decode cX5_perform 91 = .ok (.aload_n 0, 1) := dk_42 (dk_at dksX5_perform_3 23 rfl rfl)
theorem dX5_perform_92 : decode cX5_perform 92 = .ok (.getfield 136, 3) := dk_180 0 136 (dk_at dksX5_perform_4 0 rfl rfl)
theorem dX5_perform_95 : decode cX5_perform 95 = .ok (.iconst 0, 1) := dk_3 (dk_at dksX5_perform_4 3 rfl rfl)
theorem dX5_perform_96 : decode cX5_perform 96 = .ok (.iconst 0, 1) := dk_3 (dk_at dksX5_perform_4 4 rfl rfl)
theorem dX5_perform_97 : decode cX5_perform 97 = .ok (.invokevirtual 300, 3) := dk_182 1 44 (dk_at dksX5_perform_4 5 rfl rfl)
theorem dX5_perform_100 : decode cX5_perform 100 = .ok (.aload_n 0, 1) := dk_42 (dk_at dksX5_perform_4 8 rfl rfl)
theorem dX5_perform_101 : decode cX5_perform 101 = .ok (.invokevirtual 258, 3) := dk_182 1 2 (dk_at dksX5_perform_4 9 rfl rfl)
theorem dX5_perform_104 : decode cX5_perform 104 = .ok (.aload_n 0, 1) := dk_42 (dk_at dksX5_perform_4 12 rfl rfl)
theorem dX5_perform_105 : decode cX5_perform 105 = .ok (.aload_n 0, 1) := dk_42 (dk_at dksX5_perform_4 13 rfl rfl)
theorem dX5_perform_106 : decode cX5_perform 106 = .ok (.getfield 133, 3) := dk_180 0 133 (dk_at dksX5_perform_4 14 rfl rfl)
theorem dX5_perform_109 : decode cX5_perform 109 = .ok (.iconst 0, 1) := dk_3 (dk_at dksX5_perform_4 17 rfl rfl)
theorem dX5_perform_110 : decode cX5_perform 110 = .ok (.iconst 0, 1) := dk_3 (dk_at dksX5_perform_4 18 rfl rfl)
theorem dX5_perform_111 : decode cX5_perform 111 = .ok (.invokevirtual 300, 3) := dk_182 1 44 (dk_at dksX5_perform_4 19 rfl rfl)
theorem dX5_perform_114 : decode cX5_perform 114 = .ok (.aload_n 0, 1) := dk_42 (dk_at dksX5_perform_4 22 rfl rfl)
theorem dX5_perform_115 : decode cX5_perform 115 = .ok (.getfield 330, 3) := dk_180 1 74 (dk_at dksX5_perform_5 0 rfl rfl)
theorem dX5_perform_118 : decode cX5_perform 118 = .ok (.ireturn, 1) := dk_172 (dk_at dksX5_perform_5 3 rfl rfl)
abbrev cX5_takesText : ByteArray := prog_18_method_73_code
def yX5_takesText : MethodName := ⟨RX5, "takesText", "()Z"⟩
def dkwX5_takesText_2 : List UInt8 := [160, 0, 7, 4, 167, 0, 4, 3, 172]
abbrev dktX5_takesText_2 : List UInt8 := dkwX5_takesText_2 ++ []
def dkwX5_takesText_1 : List UInt8 := [4, 96, 181, 1, 74, 42, 16, 59, 182, 1, 77, 154, 255, 231, 42, 180, 1, 65, 42, 180, 1, 62]
abbrev dktX5_takesText_1 : List UInt8 := dkwX5_takesText_1 ++ dktX5_takesText_2
def dkwX5_takesText_0 : List UInt8 := [42, 3, 181, 1, 65, 42, 3, 181, 1, 74, 42, 182, 1, 92, 154, 0, 5, 3, 172, 42, 89, 180, 1, 74]
abbrev dktX5_takesText_0 : List UInt8 := dkwX5_takesText_0 ++ dktX5_takesText_1
theorem dksX5_takesText_0 : cX5_takesText.data.toList.drop 0 = dktX5_takesText_0 := by decide +kernel
theorem dksX5_takesText_1 : cX5_takesText.data.toList.drop 24 = dktX5_takesText_1 := dk_seg dksX5_takesText_0 24 rfl rfl
theorem dksX5_takesText_2 : cX5_takesText.data.toList.drop 46 = dktX5_takesText_2 := dk_seg dksX5_takesText_1 22 rfl rfl
theorem dX5_takesText_0 : decode cX5_takesText 0 = .ok (.aload_n 0, 1) := dk_42 (dk_at dksX5_takesText_0 0 rfl rfl)
theorem dX5_takesText_1 : decode cX5_takesText 1 = .ok (.iconst 0, 1) := dk_3 (dk_at dksX5_takesText_0 1 rfl rfl)
theorem dX5_takesText_2 : decode cX5_takesText 2 = .ok (.putfield 321, 3) := dk_181 1 65 (dk_at dksX5_takesText_0 2 rfl rfl)
theorem dX5_takesText_5 : decode cX5_takesText 5 = .ok (.aload_n 0, 1) := dk_42 (dk_at dksX5_takesText_0 5 rfl rfl)
theorem dX5_takesText_6 : decode cX5_takesText 6 = .ok (.iconst 0, 1) := dk_3 (dk_at dksX5_takesText_0 6 rfl rfl)
theorem dX5_takesText_7 : decode cX5_takesText 7 = .ok (.putfield 330, 3) := dk_181 1 74 (dk_at dksX5_takesText_0 7 rfl rfl)
theorem dX5_takesText_10 : decode cX5_takesText 10 = .ok (.aload_n 0, 1) := dk_42 (dk_at dksX5_takesText_0 10 rfl rfl)
theorem dX5_takesText_11 : decode cX5_takesText 11 = .ok (.invokevirtual 348, 3) := dk_182 1 92 (dk_at dksX5_takesText_0 11 rfl rfl)
theorem dX5_takesText_14 : decode cX5_takesText 14 = .ok (.ifCond .ne 5, 3) := dk_154 0 5 (dk_at dksX5_takesText_0 14 rfl rfl)
theorem dX5_takesText_17 : decode cX5_takesText 17 = .ok (.iconst 0, 1) := dk_3 (dk_at dksX5_takesText_0 17 rfl rfl)
theorem dX5_takesText_18 : decode cX5_takesText 18 = .ok (.ireturn, 1) := dk_172 (dk_at dksX5_takesText_0 18 rfl rfl)
theorem dX5_takesText_19 : decode cX5_takesText 19 = .ok (.aload_n 0, 1) := dk_42 (dk_at dksX5_takesText_0 19 rfl rfl)
theorem dX5_takesText_20 : decode cX5_takesText 20 = .ok (.dup, 1) := dk_89 (dk_at dksX5_takesText_0 20 rfl rfl)
theorem dX5_takesText_21 : decode cX5_takesText 21 = .ok (.getfield 330, 3) := dk_180 1 74 (dk_at dksX5_takesText_0 21 rfl rfl)
theorem dX5_takesText_24 : decode cX5_takesText 24 = .ok (.iconst 1, 1) := dk_4 (dk_at dksX5_takesText_1 0 rfl rfl)
theorem dX5_takesText_25 : decode cX5_takesText 25 = .ok (.iadd, 1) := dk_96 (dk_at dksX5_takesText_1 1 rfl rfl)
theorem dX5_takesText_26 : decode cX5_takesText 26 = .ok (.putfield 330, 3) := dk_181 1 74 (dk_at dksX5_takesText_1 2 rfl rfl)
theorem dX5_takesText_29 : decode cX5_takesText 29 = .ok (.aload_n 0, 1) := dk_42 (dk_at dksX5_takesText_1 5 rfl rfl)
theorem dX5_takesText_30 : decode cX5_takesText 30 = .ok (.bipush 59, 2) := dk_16 59 (dk_at dksX5_takesText_1 6 rfl rfl)
theorem dX5_takesText_32 : decode cX5_takesText 32 = .ok (.invokevirtual 333, 3) := dk_182 1 77 (dk_at dksX5_takesText_1 8 rfl rfl)
theorem dX5_takesText_35 : decode cX5_takesText 35 = .ok (.ifCond .ne (-25), 3) := dk_154 255 231 (dk_at dksX5_takesText_1 11 rfl rfl)
theorem dX5_takesText_38 : decode cX5_takesText 38 = .ok (.aload_n 0, 1) := dk_42 (dk_at dksX5_takesText_1 14 rfl rfl)
theorem dX5_takesText_39 : decode cX5_takesText 39 = .ok (.getfield 321, 3) := dk_180 1 65 (dk_at dksX5_takesText_1 15 rfl rfl)
theorem dX5_takesText_42 : decode cX5_takesText 42 = .ok (.aload_n 0, 1) := dk_42 (dk_at dksX5_takesText_1 18 rfl rfl)
theorem dX5_takesText_43 : decode cX5_takesText 43 = .ok (.getfield 318, 3) := dk_180 1 62 (dk_at dksX5_takesText_1 19 rfl rfl)
theorem dX5_takesText_46 : decode cX5_takesText 46 = .ok (.if_icmp .ne 7, 3) := dk_160 0 7 (dk_at dksX5_takesText_2 0 rfl rfl)
theorem dX5_takesText_49 : decode cX5_takesText 49 = .ok (.iconst 1, 1) := dk_4 (dk_at dksX5_takesText_2 3 rfl rfl)
theorem dX5_takesText_50 : decode cX5_takesText 50 = .ok (.goto 4, 3) := dk_167 0 4 (dk_at dksX5_takesText_2 4 rfl rfl)
theorem dX5_takesText_53 : decode cX5_takesText 53 = .ok (.iconst 0, 1) := dk_3 (dk_at dksX5_takesText_2 7 rfl rfl)
theorem dX5_takesText_54 : decode cX5_takesText 54 = .ok (.ireturn, 1) := dk_172 (dk_at dksX5_takesText_2 8 rfl rfl)
abbrev cX5_takesCommand : ByteArray := prog_18_method_72_code
def yX5_takesCommand : MethodName := ⟨RX5, "takesCommand", "()Z"⟩
def dkwX5_takesCommand_2 : List UInt8 := [3, 182, 1, 80, 153, 0, 15, 42, 4, 182, 1, 80, 153, 0, 7, 4, 167, 0, 4, 3, 172]
abbrev dktX5_takesCommand_2 : List UInt8 := dkwX5_takesCommand_2 ++ []
def dkwX5_takesCommand_1 : List UInt8 := [182, 1, 89, 172, 42, 180, 0, 121, 42, 180, 1, 74, 5, 79, 42, 16, 105, 182, 1, 77, 153, 0, 23, 42]
abbrev dktX5_takesCommand_1 : List UInt8 := dkwX5_takesCommand_1 ++ dktX5_takesCommand_2
def dkwX5_takesCommand_0 : List UInt8 := [42, 16, 106, 182, 1, 77, 153, 0, 8, 42, 182, 1, 86, 172, 42, 16, 116, 182, 1, 77, 153, 0, 8, 42]
abbrev dktX5_takesCommand_0 : List UInt8 := dkwX5_takesCommand_0 ++ dktX5_takesCommand_1
theorem dksX5_takesCommand_0 : cX5_takesCommand.data.toList.drop 0 = dktX5_takesCommand_0 := by decide +kernel
theorem dksX5_takesCommand_1 : cX5_takesCommand.data.toList.drop 24 = dktX5_takesCommand_1 := dk_seg dksX5_takesCommand_0 24 rfl rfl
theorem dksX5_takesCommand_2 : cX5_takesCommand.data.toList.drop 48 = dktX5_takesCommand_2 := dk_seg dksX5_takesCommand_1 24 rfl rfl
theorem dX5_takesCommand_0 : decode cX5_takesCommand 0 = .ok (.aload_n 0, 1) := dk_42 (dk_at dksX5_takesCommand_0 0 rfl rfl)
theorem dX5_takesCommand_1 : decode cX5_takesCommand 1 = .ok (.bipush 106, 2) := dk_16 106 (dk_at dksX5_takesCommand_0 1 rfl rfl)
theorem dX5_takesCommand_3 : decode cX5_takesCommand 3 = .ok (.invokevirtual 333, 3) := dk_182 1 77 (dk_at dksX5_takesCommand_0 3 rfl rfl)
theorem dX5_takesCommand_6 : decode cX5_takesCommand 6 = .ok (.ifCond .eq 8, 3) := dk_153 0 8 (dk_at dksX5_takesCommand_0 6 rfl rfl)
theorem dX5_takesCommand_9 : decode cX5_takesCommand 9 = .ok (.aload_n 0, 1) := dk_42 (dk_at dksX5_takesCommand_0 9 rfl rfl)
theorem dX5_takesCommand_10 : decode cX5_takesCommand 10 = .ok (.invokevirtual 342, 3) := dk_182 1 86 (dk_at dksX5_takesCommand_0 10 rfl rfl)
theorem dX5_takesCommand_13 : decode cX5_takesCommand 13 = .ok (.ireturn, 1) := dk_172 (dk_at dksX5_takesCommand_0 13 rfl rfl)
theorem dX5_takesCommand_14 : decode cX5_takesCommand 14 = .ok (.aload_n 0, 1) := dk_42 (dk_at dksX5_takesCommand_0 14 rfl rfl)
theorem dX5_takesCommand_15 : decode cX5_takesCommand 15 = .ok (.bipush 116, 2) := dk_16 116 (dk_at dksX5_takesCommand_0 15 rfl rfl)
theorem dX5_takesCommand_17 : decode cX5_takesCommand 17 = .ok (.invokevirtual 333, 3) := dk_182 1 77 (dk_at dksX5_takesCommand_0 17 rfl rfl)
theorem dX5_takesCommand_20 : decode cX5_takesCommand 20 = .ok (.ifCond .eq 8, 3) := dk_153 0 8 (dk_at dksX5_takesCommand_0 20 rfl rfl)
theorem dX5_takesCommand_23 : decode cX5_takesCommand 23 = .ok (.aload_n 0, 1) := dk_42 (dk_at dksX5_takesCommand_0 23 rfl rfl)
theorem dX5_takesCommand_24 : decode cX5_takesCommand 24 = .ok (.invokevirtual 345, 3) := dk_182 1 89 (dk_at dksX5_takesCommand_1 0 rfl rfl)
theorem dX5_takesCommand_27 : decode cX5_takesCommand 27 = .ok (.ireturn, 1) := dk_172 (dk_at dksX5_takesCommand_1 3 rfl rfl)
theorem dX5_takesCommand_28 : decode cX5_takesCommand 28 = .ok (.aload_n 0, 1) := dk_42 (dk_at dksX5_takesCommand_1 4 rfl rfl)
theorem dX5_takesCommand_29 : decode cX5_takesCommand 29 = .ok (.getfield 121, 3) := dk_180 0 121 (dk_at dksX5_takesCommand_1 5 rfl rfl)
theorem dX5_takesCommand_32 : decode cX5_takesCommand 32 = .ok (.aload_n 0, 1) := dk_42 (dk_at dksX5_takesCommand_1 8 rfl rfl)
theorem dX5_takesCommand_33 : decode cX5_takesCommand 33 = .ok (.getfield 330, 3) := dk_180 1 74 (dk_at dksX5_takesCommand_1 9 rfl rfl)
theorem dX5_takesCommand_36 : decode cX5_takesCommand 36 = .ok (.iconst 2, 1) := dk_5 (dk_at dksX5_takesCommand_1 12 rfl rfl)
theorem dX5_takesCommand_37 : decode cX5_takesCommand 37 = .ok (.iastore, 1) := dk_79 (dk_at dksX5_takesCommand_1 13 rfl rfl)
theorem dX5_takesCommand_38 : decode cX5_takesCommand 38 = .ok (.aload_n 0, 1) := dk_42 (dk_at dksX5_takesCommand_1 14 rfl rfl)
theorem dX5_takesCommand_39 : decode cX5_takesCommand 39 = .ok (.bipush 105, 2) := dk_16 105 (dk_at dksX5_takesCommand_1 15 rfl rfl)
theorem dX5_takesCommand_41 : decode cX5_takesCommand 41 = .ok (.invokevirtual 333, 3) := dk_182 1 77 (dk_at dksX5_takesCommand_1 17 rfl rfl)
theorem dX5_takesCommand_44 : decode cX5_takesCommand 44 = .ok (.ifCond .eq 23, 3) := dk_153 0 23 (dk_at dksX5_takesCommand_1 20 rfl rfl)
theorem dX5_takesCommand_47 : decode cX5_takesCommand 47 = .ok (.aload_n 0, 1) := dk_42 (dk_at dksX5_takesCommand_1 23 rfl rfl)
theorem dX5_takesCommand_48 : decode cX5_takesCommand 48 = .ok (.iconst 0, 1) := dk_3 (dk_at dksX5_takesCommand_2 0 rfl rfl)
theorem dX5_takesCommand_49 : decode cX5_takesCommand 49 = .ok (.invokevirtual 336, 3) := dk_182 1 80 (dk_at dksX5_takesCommand_2 1 rfl rfl)
theorem dX5_takesCommand_52 : decode cX5_takesCommand 52 = .ok (.ifCond .eq 15, 3) := dk_153 0 15 (dk_at dksX5_takesCommand_2 4 rfl rfl)
theorem dX5_takesCommand_55 : decode cX5_takesCommand 55 = .ok (.aload_n 0, 1) := dk_42 (dk_at dksX5_takesCommand_2 7 rfl rfl)
theorem dX5_takesCommand_56 : decode cX5_takesCommand 56 = .ok (.iconst 1, 1) := dk_4 (dk_at dksX5_takesCommand_2 8 rfl rfl)
theorem dX5_takesCommand_57 : decode cX5_takesCommand 57 = .ok (.invokevirtual 336, 3) := dk_182 1 80 (dk_at dksX5_takesCommand_2 9 rfl rfl)
theorem dX5_takesCommand_60 : decode cX5_takesCommand 60 = .ok (.ifCond .eq 7, 3) := dk_153 0 7 (dk_at dksX5_takesCommand_2 12 rfl rfl)
theorem dX5_takesCommand_63 : decode cX5_takesCommand 63 = .ok (.iconst 1, 1) := dk_4 (dk_at dksX5_takesCommand_2 15 rfl rfl)
theorem dX5_takesCommand_64 : decode cX5_takesCommand 64 = .ok (.goto 4, 3) := dk_167 0 4 (dk_at dksX5_takesCommand_2 16 rfl rfl)
theorem dX5_takesCommand_67 : decode cX5_takesCommand 67 = .ok (.iconst 0, 1) := dk_3 (dk_at dksX5_takesCommand_2 19 rfl rfl)
theorem dX5_takesCommand_68 : decode cX5_takesCommand 68 = .ok (.ireturn, 1) := dk_172 (dk_at dksX5_takesCommand_2 20 rfl rfl)
abbrev cX5_skips : ByteArray := prog_18_method_66_code
def yX5_skips : MethodName := ⟨RX5, "skips", "(I)Z"⟩
def dkwX5_skips_1 : List UInt8 := [3, 172, 42, 89, 180, 1, 65, 4, 96, 181, 1, 65, 4, 172]
abbrev dktX5_skips_1 : List UInt8 := dkwX5_skips_1 ++ []
def dkwX5_skips_0 : List UInt8 := [42, 180, 1, 65, 42, 180, 1, 62, 159, 0, 16, 42, 180, 0, 118, 42, 180, 1, 65, 46, 27, 159, 0, 5]
abbrev dktX5_skips_0 : List UInt8 := dkwX5_skips_0 ++ dktX5_skips_1
theorem dksX5_skips_0 : cX5_skips.data.toList.drop 0 = dktX5_skips_0 := by decide +kernel
theorem dksX5_skips_1 : cX5_skips.data.toList.drop 24 = dktX5_skips_1 := dk_seg dksX5_skips_0 24 rfl rfl
theorem dX5_skips_0 : decode cX5_skips 0 = .ok (.aload_n 0, 1) := dk_42 (dk_at dksX5_skips_0 0 rfl rfl)
theorem dX5_skips_1 : decode cX5_skips 1 = .ok (.getfield 321, 3) := dk_180 1 65 (dk_at dksX5_skips_0 1 rfl rfl)
theorem dX5_skips_4 : decode cX5_skips 4 = .ok (.aload_n 0, 1) := dk_42 (dk_at dksX5_skips_0 4 rfl rfl)
theorem dX5_skips_5 : decode cX5_skips 5 = .ok (.getfield 318, 3) := dk_180 1 62 (dk_at dksX5_skips_0 5 rfl rfl)
theorem dX5_skips_8 : decode cX5_skips 8 = .ok (.if_icmp .eq 16, 3) := dk_159 0 16 (dk_at dksX5_skips_0 8 rfl rfl)
theorem dX5_skips_11 : decode cX5_skips 11 = .ok (.aload_n 0, 1) := dk_42 (dk_at dksX5_skips_0 11 rfl rfl)
theorem dX5_skips_12 : decode cX5_skips 12 = .ok (.getfield 118, 3) := dk_180 0 118 (dk_at dksX5_skips_0 12 rfl rfl)
theorem dX5_skips_15 : decode cX5_skips 15 = .ok (.aload_n 0, 1) := dk_42 (dk_at dksX5_skips_0 15 rfl rfl)
theorem dX5_skips_16 : decode cX5_skips 16 = .ok (.getfield 321, 3) := dk_180 1 65 (dk_at dksX5_skips_0 16 rfl rfl)
theorem dX5_skips_19 : decode cX5_skips 19 = .ok (.iaload, 1) := dk_46 (dk_at dksX5_skips_0 19 rfl rfl)
theorem dX5_skips_20 : decode cX5_skips 20 = .ok (.iload_n 1, 1) := dk_27 (dk_at dksX5_skips_0 20 rfl rfl)
theorem dX5_skips_21 : decode cX5_skips 21 = .ok (.if_icmp .eq 5, 3) := dk_159 0 5 (dk_at dksX5_skips_0 21 rfl rfl)
theorem dX5_skips_24 : decode cX5_skips 24 = .ok (.iconst 0, 1) := dk_3 (dk_at dksX5_skips_1 0 rfl rfl)
theorem dX5_skips_25 : decode cX5_skips 25 = .ok (.ireturn, 1) := dk_172 (dk_at dksX5_skips_1 1 rfl rfl)
theorem dX5_skips_26 : decode cX5_skips 26 = .ok (.aload_n 0, 1) := dk_42 (dk_at dksX5_skips_1 2 rfl rfl)
theorem dX5_skips_27 : decode cX5_skips 27 = .ok (.dup, 1) := dk_89 (dk_at dksX5_skips_1 3 rfl rfl)
theorem dX5_skips_28 : decode cX5_skips 28 = .ok (.getfield 321, 3) := dk_180 1 65 (dk_at dksX5_skips_1 4 rfl rfl)
theorem dX5_skips_31 : decode cX5_skips 31 = .ok (.iconst 1, 1) := dk_4 (dk_at dksX5_skips_1 7 rfl rfl)
theorem dX5_skips_32 : decode cX5_skips 32 = .ok (.iadd, 1) := dk_96 (dk_at dksX5_skips_1 8 rfl rfl)
theorem dX5_skips_33 : decode cX5_skips 33 = .ok (.putfield 321, 3) := dk_181 1 65 (dk_at dksX5_skips_1 9 rfl rfl)
theorem dX5_skips_36 : decode cX5_skips 36 = .ok (.iconst 1, 1) := dk_4 (dk_at dksX5_skips_1 12 rfl rfl)
theorem dX5_skips_37 : decode cX5_skips 37 = .ok (.ireturn, 1) := dk_172 (dk_at dksX5_skips_1 13 rfl rfl)
abbrev cX5_takesJob : ByteArray := prog_18_method_70_code
def yX5_takesJob : MethodName := ⟨RX5, "takesJob", "()Z"⟩
def dkwX5_takesJob_6 : List UInt8 := [167, 0, 4, 3, 172]
abbrev dktX5_takesJob_6 : List UInt8 := dkwX5_takesJob_6 ++ []
def dkwX5_takesJob_5 : List UInt8 := [154, 0, 5, 3, 172, 42, 16, 62, 182, 1, 77, 153, 0, 11, 42, 8, 182, 1, 80, 153, 0, 7, 4]
abbrev dktX5_takesJob_5 : List UInt8 := dkwX5_takesJob_5 ++ dktX5_takesJob_6
def dkwX5_takesJob_4 : List UInt8 := [182, 1, 80, 154, 0, 5, 3, 172, 42, 16, 60, 182, 1, 77, 153, 0, 13, 42, 7, 182, 1, 80]
abbrev dktX5_takesJob_4 : List UInt8 := dkwX5_takesJob_4 ++ dktX5_takesJob_5
def dkwX5_takesJob_3 : List UInt8 := [153, 0, 28, 42, 5, 182, 1, 80, 153, 0, 20, 42, 16, 119, 182, 1, 77, 153, 0, 11, 42, 6]
abbrev dktX5_takesJob_3 : List UInt8 := dkwX5_takesJob_3 ++ dktX5_takesJob_4
def dkwX5_takesJob_2 : List UInt8 := [42, 16, 58, 182, 1, 77, 153, 0, 44, 42, 182, 1, 83, 153, 0, 37, 42, 16, 47, 182, 1, 77]
abbrev dktX5_takesJob_2 : List UInt8 := dkwX5_takesJob_2 ++ dktX5_takesJob_3
def dkwX5_takesJob_1 : List UInt8 := [79, 42, 180, 0, 124, 16, 6, 42, 180, 1, 74, 104, 8, 96, 2, 79, 42, 3, 182, 1, 80, 153, 0, 53]
abbrev dktX5_takesJob_1 : List UInt8 := dkwX5_takesJob_1 ++ dktX5_takesJob_2
def dkwX5_takesJob_0 : List UInt8 := [42, 180, 0, 121, 42, 180, 1, 74, 3, 79, 42, 180, 0, 124, 16, 6, 42, 180, 1, 74, 104, 7, 96, 2]
abbrev dktX5_takesJob_0 : List UInt8 := dkwX5_takesJob_0 ++ dktX5_takesJob_1
theorem dksX5_takesJob_0 : cX5_takesJob.data.toList.drop 0 = dktX5_takesJob_0 := by decide +kernel
theorem dksX5_takesJob_1 : cX5_takesJob.data.toList.drop 24 = dktX5_takesJob_1 := dk_seg dksX5_takesJob_0 24 rfl rfl
theorem dksX5_takesJob_2 : cX5_takesJob.data.toList.drop 48 = dktX5_takesJob_2 := dk_seg dksX5_takesJob_1 24 rfl rfl
theorem dksX5_takesJob_3 : cX5_takesJob.data.toList.drop 70 = dktX5_takesJob_3 := dk_seg dksX5_takesJob_2 22 rfl rfl
theorem dksX5_takesJob_4 : cX5_takesJob.data.toList.drop 92 = dktX5_takesJob_4 := dk_seg dksX5_takesJob_3 22 rfl rfl
theorem dksX5_takesJob_5 : cX5_takesJob.data.toList.drop 114 = dktX5_takesJob_5 := dk_seg dksX5_takesJob_4 22 rfl rfl
theorem dksX5_takesJob_6 : cX5_takesJob.data.toList.drop 137 = dktX5_takesJob_6 := dk_seg dksX5_takesJob_5 23 rfl rfl
theorem dX5_takesJob_0 : decode cX5_takesJob 0 = .ok (.aload_n 0, 1) := dk_42 (dk_at dksX5_takesJob_0 0 rfl rfl)
theorem dX5_takesJob_1 : decode cX5_takesJob 1 = .ok (.getfield 121, 3) := dk_180 0 121 (dk_at dksX5_takesJob_0 1 rfl rfl)
theorem dX5_takesJob_4 : decode cX5_takesJob 4 = .ok (.aload_n 0, 1) := dk_42 (dk_at dksX5_takesJob_0 4 rfl rfl)
theorem dX5_takesJob_5 : decode cX5_takesJob 5 = .ok (.getfield 330, 3) := dk_180 1 74 (dk_at dksX5_takesJob_0 5 rfl rfl)
theorem dX5_takesJob_8 : decode cX5_takesJob 8 = .ok (.iconst 0, 1) := dk_3 (dk_at dksX5_takesJob_0 8 rfl rfl)
theorem dX5_takesJob_9 : decode cX5_takesJob 9 = .ok (.iastore, 1) := dk_79 (dk_at dksX5_takesJob_0 9 rfl rfl)
theorem dX5_takesJob_10 : decode cX5_takesJob 10 = .ok (.aload_n 0, 1) := dk_42 (dk_at dksX5_takesJob_0 10 rfl rfl)
theorem dX5_takesJob_11 : decode cX5_takesJob 11 = .ok (.getfield 124, 3) := dk_180 0 124 (dk_at dksX5_takesJob_0 11 rfl rfl)
theorem dX5_takesJob_14 : decode cX5_takesJob 14 = .ok (.bipush 6, 2) := dk_16 6 (dk_at dksX5_takesJob_0 14 rfl rfl)
theorem dX5_takesJob_16 : decode cX5_takesJob 16 = .ok (.aload_n 0, 1) := dk_42 (dk_at dksX5_takesJob_0 16 rfl rfl)
theorem dX5_takesJob_17 : decode cX5_takesJob 17 = .ok (.getfield 330, 3) := dk_180 1 74 (dk_at dksX5_takesJob_0 17 rfl rfl)
theorem dX5_takesJob_20 : decode cX5_takesJob 20 = .ok (.imul, 1) := dk_104 (dk_at dksX5_takesJob_0 20 rfl rfl)
theorem dX5_takesJob_21 : decode cX5_takesJob 21 = .ok (.iconst 4, 1) := dk_7 (dk_at dksX5_takesJob_0 21 rfl rfl)
theorem dX5_takesJob_22 : decode cX5_takesJob 22 = .ok (.iadd, 1) := dk_96 (dk_at dksX5_takesJob_0 22 rfl rfl)
theorem dX5_takesJob_23 : decode cX5_takesJob 23 = .ok (.iconst (-1), 1) := dk_2 (dk_at dksX5_takesJob_0 23 rfl rfl)
theorem dX5_takesJob_24 : decode cX5_takesJob 24 = .ok (.iastore, 1) := dk_79 (dk_at dksX5_takesJob_1 0 rfl rfl)
theorem dX5_takesJob_25 : decode cX5_takesJob 25 = .ok (.aload_n 0, 1) := dk_42 (dk_at dksX5_takesJob_1 1 rfl rfl)
theorem dX5_takesJob_26 : decode cX5_takesJob 26 = .ok (.getfield 124, 3) := dk_180 0 124 (dk_at dksX5_takesJob_1 2 rfl rfl)
theorem dX5_takesJob_29 : decode cX5_takesJob 29 = .ok (.bipush 6, 2) := dk_16 6 (dk_at dksX5_takesJob_1 5 rfl rfl)
theorem dX5_takesJob_31 : decode cX5_takesJob 31 = .ok (.aload_n 0, 1) := dk_42 (dk_at dksX5_takesJob_1 7 rfl rfl)
theorem dX5_takesJob_32 : decode cX5_takesJob 32 = .ok (.getfield 330, 3) := dk_180 1 74 (dk_at dksX5_takesJob_1 8 rfl rfl)
theorem dX5_takesJob_35 : decode cX5_takesJob 35 = .ok (.imul, 1) := dk_104 (dk_at dksX5_takesJob_1 11 rfl rfl)
theorem dX5_takesJob_36 : decode cX5_takesJob 36 = .ok (.iconst 5, 1) := dk_8 (dk_at dksX5_takesJob_1 12 rfl rfl)
theorem dX5_takesJob_37 : decode cX5_takesJob 37 = .ok (.iadd, 1) := dk_96 (dk_at dksX5_takesJob_1 13 rfl rfl)
theorem dX5_takesJob_38 : decode cX5_takesJob 38 = .ok (.iconst (-1), 1) := dk_2 (dk_at dksX5_takesJob_1 14 rfl rfl)
theorem dX5_takesJob_39 : decode cX5_takesJob 39 = .ok (.iastore, 1) := dk_79 (dk_at dksX5_takesJob_1 15 rfl rfl)
theorem dX5_takesJob_40 : decode cX5_takesJob 40 = .ok (.aload_n 0, 1) := dk_42 (dk_at dksX5_takesJob_1 16 rfl rfl)
theorem dX5_takesJob_41 : decode cX5_takesJob 41 = .ok (.iconst 0, 1) := dk_3 (dk_at dksX5_takesJob_1 17 rfl rfl)
theorem dX5_takesJob_42 : decode cX5_takesJob 42 = .ok (.invokevirtual 336, 3) := dk_182 1 80 (dk_at dksX5_takesJob_1 18 rfl rfl)
theorem dX5_takesJob_45 : decode cX5_takesJob 45 = .ok (.ifCond .eq 53, 3) := dk_153 0 53 (dk_at dksX5_takesJob_1 21 rfl rfl)
theorem dX5_takesJob_48 : decode cX5_takesJob 48 = .ok (.aload_n 0, 1) := dk_42 (dk_at dksX5_takesJob_2 0 rfl rfl)
theorem dX5_takesJob_49 : decode cX5_takesJob 49 = .ok (.bipush 58, 2) := dk_16 58 (dk_at dksX5_takesJob_2 1 rfl rfl)
theorem dX5_takesJob_51 : decode cX5_takesJob 51 = .ok (.invokevirtual 333, 3) := dk_182 1 77 (dk_at dksX5_takesJob_2 3 rfl rfl)
theorem dX5_takesJob_54 : decode cX5_takesJob 54 = .ok (.ifCond .eq 44, 3) := dk_153 0 44 (dk_at dksX5_takesJob_2 6 rfl rfl)
theorem dX5_takesJob_57 : decode cX5_takesJob 57 = .ok (.aload_n 0, 1) := dk_42 (dk_at dksX5_takesJob_2 9 rfl rfl)
theorem dX5_takesJob_58 : decode cX5_takesJob 58 = .ok (.invokevirtual 339, 3) := dk_182 1 83 (dk_at dksX5_takesJob_2 10 rfl rfl)
theorem dX5_takesJob_61 : decode cX5_takesJob 61 = .ok (.ifCond .eq 37, 3) := dk_153 0 37 (dk_at dksX5_takesJob_2 13 rfl rfl)
theorem dX5_takesJob_64 : decode cX5_takesJob 64 = .ok (.aload_n 0, 1) := dk_42 (dk_at dksX5_takesJob_2 16 rfl rfl)
theorem dX5_takesJob_65 : decode cX5_takesJob 65 = .ok (.bipush 47, 2) := dk_16 47 (dk_at dksX5_takesJob_2 17 rfl rfl)
theorem dX5_takesJob_67 : decode cX5_takesJob 67 = .ok (.invokevirtual 333, 3) := dk_182 1 77 (dk_at dksX5_takesJob_2 19 rfl rfl)
theorem dX5_takesJob_70 : decode cX5_takesJob 70 = .ok (.ifCond .eq 28, 3) := dk_153 0 28 (dk_at dksX5_takesJob_3 0 rfl rfl)
theorem dX5_takesJob_73 : decode cX5_takesJob 73 = .ok (.aload_n 0, 1) := dk_42 (dk_at dksX5_takesJob_3 3 rfl rfl)
theorem dX5_takesJob_74 : decode cX5_takesJob 74 = .ok (.iconst 2, 1) := dk_5 (dk_at dksX5_takesJob_3 4 rfl rfl)
theorem dX5_takesJob_75 : decode cX5_takesJob 75 = .ok (.invokevirtual 336, 3) := dk_182 1 80 (dk_at dksX5_takesJob_3 5 rfl rfl)
theorem dX5_takesJob_78 : decode cX5_takesJob 78 = .ok (.ifCond .eq 20, 3) := dk_153 0 20 (dk_at dksX5_takesJob_3 8 rfl rfl)
theorem dX5_takesJob_81 : decode cX5_takesJob 81 = .ok (.aload_n 0, 1) := dk_42 (dk_at dksX5_takesJob_3 11 rfl rfl)
theorem dX5_takesJob_82 : decode cX5_takesJob 82 = .ok (.bipush 119, 2) := dk_16 119 (dk_at dksX5_takesJob_3 12 rfl rfl)
theorem dX5_takesJob_84 : decode cX5_takesJob 84 = .ok (.invokevirtual 333, 3) := dk_182 1 77 (dk_at dksX5_takesJob_3 14 rfl rfl)
theorem dX5_takesJob_87 : decode cX5_takesJob 87 = .ok (.ifCond .eq 11, 3) := dk_153 0 11 (dk_at dksX5_takesJob_3 17 rfl rfl)
theorem dX5_takesJob_90 : decode cX5_takesJob 90 = .ok (.aload_n 0, 1) := dk_42 (dk_at dksX5_takesJob_3 20 rfl rfl)
theorem dX5_takesJob_91 : decode cX5_takesJob 91 = .ok (.iconst 3, 1) := dk_6 (dk_at dksX5_takesJob_3 21 rfl rfl)
theorem dX5_takesJob_92 : decode cX5_takesJob 92 = .ok (.invokevirtual 336, 3) := dk_182 1 80 (dk_at dksX5_takesJob_4 0 rfl rfl)
theorem dX5_takesJob_95 : decode cX5_takesJob 95 = .ok (.ifCond .ne 5, 3) := dk_154 0 5 (dk_at dksX5_takesJob_4 3 rfl rfl)
theorem dX5_takesJob_98 : decode cX5_takesJob 98 = .ok (.iconst 0, 1) := dk_3 (dk_at dksX5_takesJob_4 6 rfl rfl)
theorem dX5_takesJob_99 : decode cX5_takesJob 99 = .ok (.ireturn, 1) := dk_172 (dk_at dksX5_takesJob_4 7 rfl rfl)
theorem dX5_takesJob_100 : decode cX5_takesJob 100 = .ok (.aload_n 0, 1) := dk_42 (dk_at dksX5_takesJob_4 8 rfl rfl)
theorem dX5_takesJob_101 : decode cX5_takesJob 101 = .ok (.bipush 60, 2) := dk_16 60 (dk_at dksX5_takesJob_4 9 rfl rfl)
theorem dX5_takesJob_103 : decode cX5_takesJob 103 = .ok (.invokevirtual 333, 3) := dk_182 1 77 (dk_at dksX5_takesJob_4 11 rfl rfl)
theorem dX5_takesJob_106 : decode cX5_takesJob 106 = .ok (.ifCond .eq 13, 3) := dk_153 0 13 (dk_at dksX5_takesJob_4 14 rfl rfl)
theorem dX5_takesJob_109 : decode cX5_takesJob 109 = .ok (.aload_n 0, 1) := dk_42 (dk_at dksX5_takesJob_4 17 rfl rfl)
theorem dX5_takesJob_110 : decode cX5_takesJob 110 = .ok (.iconst 4, 1) := dk_7 (dk_at dksX5_takesJob_4 18 rfl rfl)
theorem dX5_takesJob_111 : decode cX5_takesJob 111 = .ok (.invokevirtual 336, 3) := dk_182 1 80 (dk_at dksX5_takesJob_4 19 rfl rfl)
theorem dX5_takesJob_114 : decode cX5_takesJob 114 = .ok (.ifCond .ne 5, 3) := dk_154 0 5 (dk_at dksX5_takesJob_5 0 rfl rfl)
theorem dX5_takesJob_117 : decode cX5_takesJob 117 = .ok (.iconst 0, 1) := dk_3 (dk_at dksX5_takesJob_5 3 rfl rfl)
theorem dX5_takesJob_118 : decode cX5_takesJob 118 = .ok (.ireturn, 1) := dk_172 (dk_at dksX5_takesJob_5 4 rfl rfl)
theorem dX5_takesJob_119 : decode cX5_takesJob 119 = .ok (.aload_n 0, 1) := dk_42 (dk_at dksX5_takesJob_5 5 rfl rfl)
theorem dX5_takesJob_120 : decode cX5_takesJob 120 = .ok (.bipush 62, 2) := dk_16 62 (dk_at dksX5_takesJob_5 6 rfl rfl)
theorem dX5_takesJob_122 : decode cX5_takesJob 122 = .ok (.invokevirtual 333, 3) := dk_182 1 77 (dk_at dksX5_takesJob_5 8 rfl rfl)
theorem dX5_takesJob_125 : decode cX5_takesJob 125 = .ok (.ifCond .eq 11, 3) := dk_153 0 11 (dk_at dksX5_takesJob_5 11 rfl rfl)
theorem dX5_takesJob_128 : decode cX5_takesJob 128 = .ok (.aload_n 0, 1) := dk_42 (dk_at dksX5_takesJob_5 14 rfl rfl)
theorem dX5_takesJob_129 : decode cX5_takesJob 129 = .ok (.iconst 5, 1) := dk_8 (dk_at dksX5_takesJob_5 15 rfl rfl)
theorem dX5_takesJob_130 : decode cX5_takesJob 130 = .ok (.invokevirtual 336, 3) := dk_182 1 80 (dk_at dksX5_takesJob_5 16 rfl rfl)
theorem dX5_takesJob_133 : decode cX5_takesJob 133 = .ok (.ifCond .eq 7, 3) := dk_153 0 7 (dk_at dksX5_takesJob_5 19 rfl rfl)
theorem dX5_takesJob_136 : decode cX5_takesJob 136 = .ok (.iconst 1, 1) := dk_4 (dk_at dksX5_takesJob_5 22 rfl rfl)
theorem dX5_takesJob_137 : decode cX5_takesJob 137 = .ok (.goto 4, 3) := dk_167 0 4 (dk_at dksX5_takesJob_6 0 rfl rfl)
theorem dX5_takesJob_140 : decode cX5_takesJob 140 = .ok (.iconst 0, 1) := dk_3 (dk_at dksX5_takesJob_6 3 rfl rfl)
theorem dX5_takesJob_141 : decode cX5_takesJob 141 = .ok (.ireturn, 1) := dk_172 (dk_at dksX5_takesJob_6 4 rfl rfl)
abbrev cX5_takesAt : ByteArray := prog_18_method_68_code
def yX5_takesAt : MethodName := ⟨RX5, "takesAt", "(I)Z"⟩
def dkwX5_takesAt_1 : List UInt8 := [180, 1, 68, 79, 4, 172]
abbrev dktX5_takesAt_1 : List UInt8 := dkwX5_takesAt_1 ++ []
def dkwX5_takesAt_0 : List UInt8 := [42, 182, 1, 71, 154, 0, 5, 3, 172, 42, 180, 0, 124, 16, 6, 42, 180, 1, 74, 104, 27, 96, 42]
abbrev dktX5_takesAt_0 : List UInt8 := dkwX5_takesAt_0 ++ dktX5_takesAt_1
theorem dksX5_takesAt_0 : cX5_takesAt.data.toList.drop 0 = dktX5_takesAt_0 := by decide +kernel
theorem dksX5_takesAt_1 : cX5_takesAt.data.toList.drop 23 = dktX5_takesAt_1 := dk_seg dksX5_takesAt_0 23 rfl rfl
theorem dX5_takesAt_0 : decode cX5_takesAt 0 = .ok (.aload_n 0, 1) := dk_42 (dk_at dksX5_takesAt_0 0 rfl rfl)
theorem dX5_takesAt_1 : decode cX5_takesAt 1 = .ok (.invokevirtual 327, 3) := dk_182 1 71 (dk_at dksX5_takesAt_0 1 rfl rfl)
theorem dX5_takesAt_4 : decode cX5_takesAt 4 = .ok (.ifCond .ne 5, 3) := dk_154 0 5 (dk_at dksX5_takesAt_0 4 rfl rfl)
theorem dX5_takesAt_7 : decode cX5_takesAt 7 = .ok (.iconst 0, 1) := dk_3 (dk_at dksX5_takesAt_0 7 rfl rfl)
theorem dX5_takesAt_8 : decode cX5_takesAt 8 = .ok (.ireturn, 1) := dk_172 (dk_at dksX5_takesAt_0 8 rfl rfl)
theorem dX5_takesAt_9 : decode cX5_takesAt 9 = .ok (.aload_n 0, 1) := dk_42 (dk_at dksX5_takesAt_0 9 rfl rfl)
theorem dX5_takesAt_10 : decode cX5_takesAt 10 = .ok (.getfield 124, 3) := dk_180 0 124 (dk_at dksX5_takesAt_0 10 rfl rfl)
theorem dX5_takesAt_13 : decode cX5_takesAt 13 = .ok (.bipush 6, 2) := dk_16 6 (dk_at dksX5_takesAt_0 13 rfl rfl)
theorem dX5_takesAt_15 : decode cX5_takesAt 15 = .ok (.aload_n 0, 1) := dk_42 (dk_at dksX5_takesAt_0 15 rfl rfl)
theorem dX5_takesAt_16 : decode cX5_takesAt 16 = .ok (.getfield 330, 3) := dk_180 1 74 (dk_at dksX5_takesAt_0 16 rfl rfl)
theorem dX5_takesAt_19 : decode cX5_takesAt 19 = .ok (.imul, 1) := dk_104 (dk_at dksX5_takesAt_0 19 rfl rfl)
theorem dX5_takesAt_20 : decode cX5_takesAt 20 = .ok (.iload_n 1, 1) := dk_27 (dk_at dksX5_takesAt_0 20 rfl rfl)
theorem dX5_takesAt_21 : decode cX5_takesAt 21 = .ok (.iadd, 1) := dk_96 (dk_at dksX5_takesAt_0 21 rfl rfl)
theorem dX5_takesAt_22 : decode cX5_takesAt 22 = .ok (.aload_n 0, 1) := dk_42 (dk_at dksX5_takesAt_0 22 rfl rfl)
theorem dX5_takesAt_23 : decode cX5_takesAt 23 = .ok (.getfield 324, 3) := dk_180 1 68 (dk_at dksX5_takesAt_1 0 rfl rfl)
theorem dX5_takesAt_26 : decode cX5_takesAt 26 = .ok (.iastore, 1) := dk_79 (dk_at dksX5_takesAt_1 3 rfl rfl)
theorem dX5_takesAt_27 : decode cX5_takesAt 27 = .ok (.iconst 1, 1) := dk_4 (dk_at dksX5_takesAt_1 4 rfl rfl)
theorem dX5_takesAt_28 : decode cX5_takesAt 28 = .ok (.ireturn, 1) := dk_172 (dk_at dksX5_takesAt_1 5 rfl rfl)
abbrev cX5_takes : ByteArray := prog_18_method_67_code
def yX5_takes : MethodName := ⟨RX5, "takes", "()Z"⟩
def dkwX5_takes_2 : List UInt8 := [42, 89, 180, 1, 65, 4, 96, 181, 1, 65, 4, 172]
abbrev dktX5_takes_2 : List UInt8 := dkwX5_takes_2 ++ []
def dkwX5_takes_1 : List UInt8 := [184, 0, 143, 154, 0, 5, 3, 172, 42, 42, 180, 0, 118, 42, 180, 1, 65, 46, 16, 48, 100, 181, 1, 68]
abbrev dktX5_takes_1 : List UInt8 := dkwX5_takes_1 ++ dktX5_takes_2
def dkwX5_takes_0 : List UInt8 := [42, 180, 1, 65, 42, 180, 1, 62, 159, 0, 22, 42, 180, 0, 118, 42, 180, 1, 65, 46, 16, 48, 16, 57]
abbrev dktX5_takes_0 : List UInt8 := dkwX5_takes_0 ++ dktX5_takes_1
theorem dksX5_takes_0 : cX5_takes.data.toList.drop 0 = dktX5_takes_0 := by decide +kernel
theorem dksX5_takes_1 : cX5_takes.data.toList.drop 24 = dktX5_takes_1 := dk_seg dksX5_takes_0 24 rfl rfl
theorem dksX5_takes_2 : cX5_takes.data.toList.drop 48 = dktX5_takes_2 := dk_seg dksX5_takes_1 24 rfl rfl
theorem dX5_takes_0 : decode cX5_takes 0 = .ok (.aload_n 0, 1) := dk_42 (dk_at dksX5_takes_0 0 rfl rfl)
theorem dX5_takes_1 : decode cX5_takes 1 = .ok (.getfield 321, 3) := dk_180 1 65 (dk_at dksX5_takes_0 1 rfl rfl)
theorem dX5_takes_4 : decode cX5_takes 4 = .ok (.aload_n 0, 1) := dk_42 (dk_at dksX5_takes_0 4 rfl rfl)
theorem dX5_takes_5 : decode cX5_takes 5 = .ok (.getfield 318, 3) := dk_180 1 62 (dk_at dksX5_takes_0 5 rfl rfl)
theorem dX5_takes_8 : decode cX5_takes 8 = .ok (.if_icmp .eq 22, 3) := dk_159 0 22 (dk_at dksX5_takes_0 8 rfl rfl)
theorem dX5_takes_11 : decode cX5_takes 11 = .ok (.aload_n 0, 1) := dk_42 (dk_at dksX5_takes_0 11 rfl rfl)
theorem dX5_takes_12 : decode cX5_takes 12 = .ok (.getfield 118, 3) := dk_180 0 118 (dk_at dksX5_takes_0 12 rfl rfl)
theorem dX5_takes_15 : decode cX5_takes 15 = .ok (.aload_n 0, 1) := dk_42 (dk_at dksX5_takes_0 15 rfl rfl)
theorem dX5_takes_16 : decode cX5_takes 16 = .ok (.getfield 321, 3) := dk_180 1 65 (dk_at dksX5_takes_0 16 rfl rfl)
theorem dX5_takes_19 : decode cX5_takes 19 = .ok (.iaload, 1) := dk_46 (dk_at dksX5_takes_0 19 rfl rfl)
theorem dX5_takes_20 : decode cX5_takes 20 = .ok (.bipush 48, 2) := dk_16 48 (dk_at dksX5_takes_0 20 rfl rfl)
theorem dX5_takes_22 : decode cX5_takes 22 = .ok (.bipush 57, 2) := dk_16 57 (dk_at dksX5_takes_0 22 rfl rfl)
theorem dX5_takes_24 : decode cX5_takes 24 = .ok (.invokestatic 143, 3) := dk_184 0 143 (dk_at dksX5_takes_1 0 rfl rfl)
theorem dX5_takes_27 : decode cX5_takes 27 = .ok (.ifCond .ne 5, 3) := dk_154 0 5 (dk_at dksX5_takes_1 3 rfl rfl)
theorem dX5_takes_30 : decode cX5_takes 30 = .ok (.iconst 0, 1) := dk_3 (dk_at dksX5_takes_1 6 rfl rfl)
theorem dX5_takes_31 : decode cX5_takes 31 = .ok (.ireturn, 1) := dk_172 (dk_at dksX5_takes_1 7 rfl rfl)
theorem dX5_takes_32 : decode cX5_takes 32 = .ok (.aload_n 0, 1) := dk_42 (dk_at dksX5_takes_1 8 rfl rfl)
theorem dX5_takes_33 : decode cX5_takes 33 = .ok (.aload_n 0, 1) := dk_42 (dk_at dksX5_takes_1 9 rfl rfl)
theorem dX5_takes_34 : decode cX5_takes 34 = .ok (.getfield 118, 3) := dk_180 0 118 (dk_at dksX5_takes_1 10 rfl rfl)
theorem dX5_takes_37 : decode cX5_takes 37 = .ok (.aload_n 0, 1) := dk_42 (dk_at dksX5_takes_1 13 rfl rfl)
theorem dX5_takes_38 : decode cX5_takes 38 = .ok (.getfield 321, 3) := dk_180 1 65 (dk_at dksX5_takes_1 14 rfl rfl)
theorem dX5_takes_41 : decode cX5_takes 41 = .ok (.iaload, 1) := dk_46 (dk_at dksX5_takes_1 17 rfl rfl)
theorem dX5_takes_42 : decode cX5_takes 42 = .ok (.bipush 48, 2) := dk_16 48 (dk_at dksX5_takes_1 18 rfl rfl)
theorem dX5_takes_44 : decode cX5_takes 44 = .ok (.isub, 1) := dk_100 (dk_at dksX5_takes_1 20 rfl rfl)
theorem dX5_takes_45 : decode cX5_takes 45 = .ok (.putfield 324, 3) := dk_181 1 68 (dk_at dksX5_takes_1 21 rfl rfl)
theorem dX5_takes_48 : decode cX5_takes 48 = .ok (.aload_n 0, 1) := dk_42 (dk_at dksX5_takes_2 0 rfl rfl)
theorem dX5_takes_49 : decode cX5_takes 49 = .ok (.dup, 1) := dk_89 (dk_at dksX5_takes_2 1 rfl rfl)
theorem dX5_takes_50 : decode cX5_takes 50 = .ok (.getfield 321, 3) := dk_180 1 65 (dk_at dksX5_takes_2 2 rfl rfl)
theorem dX5_takes_53 : decode cX5_takes 53 = .ok (.iconst 1, 1) := dk_4 (dk_at dksX5_takes_2 5 rfl rfl)
theorem dX5_takes_54 : decode cX5_takes 54 = .ok (.iadd, 1) := dk_96 (dk_at dksX5_takes_2 6 rfl rfl)
theorem dX5_takes_55 : decode cX5_takes 55 = .ok (.putfield 321, 3) := dk_181 1 65 (dk_at dksX5_takes_2 7 rfl rfl)
theorem dX5_takes_58 : decode cX5_takes 58 = .ok (.iconst 1, 1) := dk_4 (dk_at dksX5_takes_2 10 rfl rfl)
theorem dX5_takes_59 : decode cX5_takes 59 = .ok (.ireturn, 1) := dk_172 (dk_at dksX5_takes_2 11 rfl rfl)
abbrev cX5_takesPath : ByteArray := prog_18_method_69_code
def yX5_takesPath : MethodName := ⟨RX5, "takesPath", "()Z"⟩
def dkwX5_takesPath_3 : List UInt8 := [96, 27, 79, 4, 172]
abbrev dktX5_takesPath_3 : List UInt8 := dkwX5_takesPath_3 ++ []
def dkwX5_takesPath_2 : List UInt8 := [162, 0, 12, 42, 16, 44, 182, 1, 77, 154, 255, 204, 42, 180, 0, 124, 16, 6, 42, 180, 1, 74, 104, 4]
abbrev dktX5_takesPath_2 : List UInt8 := dkwX5_takesPath_2 ++ dktX5_takesPath_3
def dkwX5_takesPath_1 : List UInt8 := [161, 0, 7, 2, 167, 0, 14, 16, 10, 27, 104, 42, 180, 1, 68, 96, 4, 96, 60, 132, 2, 1, 28, 8]
abbrev dktX5_takesPath_1 : List UInt8 := dkwX5_takesPath_1 ++ dktX5_takesPath_2
def dkwX5_takesPath_0 : List UInt8 := [3, 60, 3, 61, 42, 182, 1, 71, 154, 0, 5, 3, 172, 27, 155, 0, 12, 42, 180, 1, 68, 16, 8]
abbrev dktX5_takesPath_0 : List UInt8 := dkwX5_takesPath_0 ++ dktX5_takesPath_1
theorem dksX5_takesPath_0 : cX5_takesPath.data.toList.drop 0 = dktX5_takesPath_0 := by decide +kernel
theorem dksX5_takesPath_1 : cX5_takesPath.data.toList.drop 23 = dktX5_takesPath_1 := dk_seg dksX5_takesPath_0 23 rfl rfl
theorem dksX5_takesPath_2 : cX5_takesPath.data.toList.drop 47 = dktX5_takesPath_2 := dk_seg dksX5_takesPath_1 24 rfl rfl
theorem dksX5_takesPath_3 : cX5_takesPath.data.toList.drop 71 = dktX5_takesPath_3 := dk_seg dksX5_takesPath_2 24 rfl rfl
theorem dX5_takesPath_0 : decode cX5_takesPath 0 = .ok (.iconst 0, 1) := dk_3 (dk_at dksX5_takesPath_0 0 rfl rfl)
theorem dX5_takesPath_1 : decode cX5_takesPath 1 = .ok (.istore_n 1, 1) := dk_60 (dk_at dksX5_takesPath_0 1 rfl rfl)
theorem dX5_takesPath_2 : decode cX5_takesPath 2 = .ok (.iconst 0, 1) := dk_3 (dk_at dksX5_takesPath_0 2 rfl rfl)
theorem dX5_takesPath_3 : decode cX5_takesPath 3 = .ok (.istore_n 2, 1) := dk_61 (dk_at dksX5_takesPath_0 3 rfl rfl)
theorem dX5_takesPath_4 : decode cX5_takesPath 4 = .ok (.aload_n 0, 1) := dk_42 (dk_at dksX5_takesPath_0 4 rfl rfl)
theorem dX5_takesPath_5 : decode cX5_takesPath 5 = .ok (.invokevirtual 327, 3) := dk_182 1 71 (dk_at dksX5_takesPath_0 5 rfl rfl)
theorem dX5_takesPath_8 : decode cX5_takesPath 8 = .ok (.ifCond .ne 5, 3) := dk_154 0 5 (dk_at dksX5_takesPath_0 8 rfl rfl)
theorem dX5_takesPath_11 : decode cX5_takesPath 11 = .ok (.iconst 0, 1) := dk_3 (dk_at dksX5_takesPath_0 11 rfl rfl)
theorem dX5_takesPath_12 : decode cX5_takesPath 12 = .ok (.ireturn, 1) := dk_172 (dk_at dksX5_takesPath_0 12 rfl rfl)
theorem dX5_takesPath_13 : decode cX5_takesPath 13 = .ok (.iload_n 1, 1) := dk_27 (dk_at dksX5_takesPath_0 13 rfl rfl)
theorem dX5_takesPath_14 : decode cX5_takesPath 14 = .ok (.ifCond .lt 12, 3) := dk_155 0 12 (dk_at dksX5_takesPath_0 14 rfl rfl)
theorem dX5_takesPath_17 : decode cX5_takesPath 17 = .ok (.aload_n 0, 1) := dk_42 (dk_at dksX5_takesPath_0 17 rfl rfl)
theorem dX5_takesPath_18 : decode cX5_takesPath 18 = .ok (.getfield 324, 3) := dk_180 1 68 (dk_at dksX5_takesPath_0 18 rfl rfl)
theorem dX5_takesPath_21 : decode cX5_takesPath 21 = .ok (.bipush 8, 2) := dk_16 8 (dk_at dksX5_takesPath_0 21 rfl rfl)
theorem dX5_takesPath_23 : decode cX5_takesPath 23 = .ok (.if_icmp .lt 7, 3) := dk_161 0 7 (dk_at dksX5_takesPath_1 0 rfl rfl)
theorem dX5_takesPath_26 : decode cX5_takesPath 26 = .ok (.iconst (-1), 1) := dk_2 (dk_at dksX5_takesPath_1 3 rfl rfl)
theorem dX5_takesPath_27 : decode cX5_takesPath 27 = .ok (.goto 14, 3) := dk_167 0 14 (dk_at dksX5_takesPath_1 4 rfl rfl)
theorem dX5_takesPath_30 : decode cX5_takesPath 30 = .ok (.bipush 10, 2) := dk_16 10 (dk_at dksX5_takesPath_1 7 rfl rfl)
theorem dX5_takesPath_32 : decode cX5_takesPath 32 = .ok (.iload_n 1, 1) := dk_27 (dk_at dksX5_takesPath_1 9 rfl rfl)
theorem dX5_takesPath_33 : decode cX5_takesPath 33 = .ok (.imul, 1) := dk_104 (dk_at dksX5_takesPath_1 10 rfl rfl)
theorem dX5_takesPath_34 : decode cX5_takesPath 34 = .ok (.aload_n 0, 1) := dk_42 (dk_at dksX5_takesPath_1 11 rfl rfl)
theorem dX5_takesPath_35 : decode cX5_takesPath 35 = .ok (.getfield 324, 3) := dk_180 1 68 (dk_at dksX5_takesPath_1 12 rfl rfl)
theorem dX5_takesPath_38 : decode cX5_takesPath 38 = .ok (.iadd, 1) := dk_96 (dk_at dksX5_takesPath_1 15 rfl rfl)
theorem dX5_takesPath_39 : decode cX5_takesPath 39 = .ok (.iconst 1, 1) := dk_4 (dk_at dksX5_takesPath_1 16 rfl rfl)
theorem dX5_takesPath_40 : decode cX5_takesPath 40 = .ok (.iadd, 1) := dk_96 (dk_at dksX5_takesPath_1 17 rfl rfl)
theorem dX5_takesPath_41 : decode cX5_takesPath 41 = .ok (.istore_n 1, 1) := dk_60 (dk_at dksX5_takesPath_1 18 rfl rfl)
theorem dX5_takesPath_42 : decode cX5_takesPath 42 = .ok (.iinc 2 1, 3) := dk_132 2 1 (dk_at dksX5_takesPath_1 19 rfl rfl)
theorem dX5_takesPath_45 : decode cX5_takesPath 45 = .ok (.iload_n 2, 1) := dk_28 (dk_at dksX5_takesPath_1 22 rfl rfl)
theorem dX5_takesPath_46 : decode cX5_takesPath 46 = .ok (.iconst 5, 1) := dk_8 (dk_at dksX5_takesPath_1 23 rfl rfl)
theorem dX5_takesPath_47 : decode cX5_takesPath 47 = .ok (.if_icmp .ge 12, 3) := dk_162 0 12 (dk_at dksX5_takesPath_2 0 rfl rfl)
theorem dX5_takesPath_50 : decode cX5_takesPath 50 = .ok (.aload_n 0, 1) := dk_42 (dk_at dksX5_takesPath_2 3 rfl rfl)
theorem dX5_takesPath_51 : decode cX5_takesPath 51 = .ok (.bipush 44, 2) := dk_16 44 (dk_at dksX5_takesPath_2 4 rfl rfl)
theorem dX5_takesPath_53 : decode cX5_takesPath 53 = .ok (.invokevirtual 333, 3) := dk_182 1 77 (dk_at dksX5_takesPath_2 6 rfl rfl)
theorem dX5_takesPath_56 : decode cX5_takesPath 56 = .ok (.ifCond .ne (-52), 3) := dk_154 255 204 (dk_at dksX5_takesPath_2 9 rfl rfl)
theorem dX5_takesPath_59 : decode cX5_takesPath 59 = .ok (.aload_n 0, 1) := dk_42 (dk_at dksX5_takesPath_2 12 rfl rfl)
theorem dX5_takesPath_60 : decode cX5_takesPath 60 = .ok (.getfield 124, 3) := dk_180 0 124 (dk_at dksX5_takesPath_2 13 rfl rfl)
theorem dX5_takesPath_63 : decode cX5_takesPath 63 = .ok (.bipush 6, 2) := dk_16 6 (dk_at dksX5_takesPath_2 16 rfl rfl)
theorem dX5_takesPath_65 : decode cX5_takesPath 65 = .ok (.aload_n 0, 1) := dk_42 (dk_at dksX5_takesPath_2 18 rfl rfl)
theorem dX5_takesPath_66 : decode cX5_takesPath 66 = .ok (.getfield 330, 3) := dk_180 1 74 (dk_at dksX5_takesPath_2 19 rfl rfl)
theorem dX5_takesPath_69 : decode cX5_takesPath 69 = .ok (.imul, 1) := dk_104 (dk_at dksX5_takesPath_2 22 rfl rfl)
theorem dX5_takesPath_70 : decode cX5_takesPath 70 = .ok (.iconst 1, 1) := dk_4 (dk_at dksX5_takesPath_2 23 rfl rfl)
theorem dX5_takesPath_71 : decode cX5_takesPath 71 = .ok (.iadd, 1) := dk_96 (dk_at dksX5_takesPath_3 0 rfl rfl)
theorem dX5_takesPath_72 : decode cX5_takesPath 72 = .ok (.iload_n 1, 1) := dk_27 (dk_at dksX5_takesPath_3 1 rfl rfl)
theorem dX5_takesPath_73 : decode cX5_takesPath 73 = .ok (.iastore, 1) := dk_79 (dk_at dksX5_takesPath_3 2 rfl rfl)
theorem dX5_takesPath_74 : decode cX5_takesPath 74 = .ok (.iconst 1, 1) := dk_4 (dk_at dksX5_takesPath_3 3 rfl rfl)
theorem dX5_takesPath_75 : decode cX5_takesPath 75 = .ok (.ireturn, 1) := dk_172 (dk_at dksX5_takesPath_3 4 rfl rfl)
abbrev cX5_takesTicks : ByteArray := prog_18_method_71_code
def yX5_takesTicks : MethodName := ⟨RX5, "takesTicks", "()Z"⟩
def dkwX5_takesTicks_2 : List UInt8 := [180, 1, 74, 104, 46, 104, 42, 180, 1, 68, 96, 79, 4, 172]
abbrev dktX5_takesTicks_2 : List UInt8 := dkwX5_takesTicks_2 ++ []
def dkwX5_takesTicks_1 : List UInt8 := [153, 0, 35, 42, 180, 0, 124, 16, 6, 42, 180, 1, 74, 104, 16, 10, 42, 180, 0, 124, 16, 6, 42]
abbrev dktX5_takesTicks_1 : List UInt8 := dkwX5_takesTicks_1 ++ dktX5_takesTicks_2
def dkwX5_takesTicks_0 : List UInt8 := [42, 180, 0, 121, 42, 180, 1, 74, 4, 79, 42, 3, 182, 1, 80, 154, 0, 5, 3, 172, 42, 182, 1, 71]
abbrev dktX5_takesTicks_0 : List UInt8 := dkwX5_takesTicks_0 ++ dktX5_takesTicks_1
theorem dksX5_takesTicks_0 : cX5_takesTicks.data.toList.drop 0 = dktX5_takesTicks_0 := by decide +kernel
theorem dksX5_takesTicks_1 : cX5_takesTicks.data.toList.drop 24 = dktX5_takesTicks_1 := dk_seg dksX5_takesTicks_0 24 rfl rfl
theorem dksX5_takesTicks_2 : cX5_takesTicks.data.toList.drop 47 = dktX5_takesTicks_2 := dk_seg dksX5_takesTicks_1 23 rfl rfl
theorem dX5_takesTicks_0 : decode cX5_takesTicks 0 = .ok (.aload_n 0, 1) := dk_42 (dk_at dksX5_takesTicks_0 0 rfl rfl)
theorem dX5_takesTicks_1 : decode cX5_takesTicks 1 = .ok (.getfield 121, 3) := dk_180 0 121 (dk_at dksX5_takesTicks_0 1 rfl rfl)
theorem dX5_takesTicks_4 : decode cX5_takesTicks 4 = .ok (.aload_n 0, 1) := dk_42 (dk_at dksX5_takesTicks_0 4 rfl rfl)
theorem dX5_takesTicks_5 : decode cX5_takesTicks 5 = .ok (.getfield 330, 3) := dk_180 1 74 (dk_at dksX5_takesTicks_0 5 rfl rfl)
theorem dX5_takesTicks_8 : decode cX5_takesTicks 8 = .ok (.iconst 1, 1) := dk_4 (dk_at dksX5_takesTicks_0 8 rfl rfl)
theorem dX5_takesTicks_9 : decode cX5_takesTicks 9 = .ok (.iastore, 1) := dk_79 (dk_at dksX5_takesTicks_0 9 rfl rfl)
theorem dX5_takesTicks_10 : decode cX5_takesTicks 10 = .ok (.aload_n 0, 1) := dk_42 (dk_at dksX5_takesTicks_0 10 rfl rfl)
theorem dX5_takesTicks_11 : decode cX5_takesTicks 11 = .ok (.iconst 0, 1) := dk_3 (dk_at dksX5_takesTicks_0 11 rfl rfl)
theorem dX5_takesTicks_12 : decode cX5_takesTicks 12 = .ok (.invokevirtual 336, 3) := dk_182 1 80 (dk_at dksX5_takesTicks_0 12 rfl rfl)
theorem dX5_takesTicks_15 : decode cX5_takesTicks 15 = .ok (.ifCond .ne 5, 3) := dk_154 0 5 (dk_at dksX5_takesTicks_0 15 rfl rfl)
theorem dX5_takesTicks_18 : decode cX5_takesTicks 18 = .ok (.iconst 0, 1) := dk_3 (dk_at dksX5_takesTicks_0 18 rfl rfl)
theorem dX5_takesTicks_19 : decode cX5_takesTicks 19 = .ok (.ireturn, 1) := dk_172 (dk_at dksX5_takesTicks_0 19 rfl rfl)
theorem dX5_takesTicks_20 : decode cX5_takesTicks 20 = .ok (.aload_n 0, 1) := dk_42 (dk_at dksX5_takesTicks_0 20 rfl rfl)
theorem dX5_takesTicks_21 : decode cX5_takesTicks 21 = .ok (.invokevirtual 327, 3) := dk_182 1 71 (dk_at dksX5_takesTicks_0 21 rfl rfl)
theorem dX5_takesTicks_24 : decode cX5_takesTicks 24 = .ok (.ifCond .eq 35, 3) := dk_153 0 35 (dk_at dksX5_takesTicks_1 0 rfl rfl)
theorem dX5_takesTicks_27 : decode cX5_takesTicks 27 = .ok (.aload_n 0, 1) := dk_42 (dk_at dksX5_takesTicks_1 3 rfl rfl)
theorem dX5_takesTicks_28 : decode cX5_takesTicks 28 = .ok (.getfield 124, 3) := dk_180 0 124 (dk_at dksX5_takesTicks_1 4 rfl rfl)
theorem dX5_takesTicks_31 : decode cX5_takesTicks 31 = .ok (.bipush 6, 2) := dk_16 6 (dk_at dksX5_takesTicks_1 7 rfl rfl)
theorem dX5_takesTicks_33 : decode cX5_takesTicks 33 = .ok (.aload_n 0, 1) := dk_42 (dk_at dksX5_takesTicks_1 9 rfl rfl)
theorem dX5_takesTicks_34 : decode cX5_takesTicks 34 = .ok (.getfield 330, 3) := dk_180 1 74 (dk_at dksX5_takesTicks_1 10 rfl rfl)
theorem dX5_takesTicks_37 : decode cX5_takesTicks 37 = .ok (.imul, 1) := dk_104 (dk_at dksX5_takesTicks_1 13 rfl rfl)
theorem dX5_takesTicks_38 : decode cX5_takesTicks 38 = .ok (.bipush 10, 2) := dk_16 10 (dk_at dksX5_takesTicks_1 14 rfl rfl)
theorem dX5_takesTicks_40 : decode cX5_takesTicks 40 = .ok (.aload_n 0, 1) := dk_42 (dk_at dksX5_takesTicks_1 16 rfl rfl)
theorem dX5_takesTicks_41 : decode cX5_takesTicks 41 = .ok (.getfield 124, 3) := dk_180 0 124 (dk_at dksX5_takesTicks_1 17 rfl rfl)
theorem dX5_takesTicks_44 : decode cX5_takesTicks 44 = .ok (.bipush 6, 2) := dk_16 6 (dk_at dksX5_takesTicks_1 20 rfl rfl)
theorem dX5_takesTicks_46 : decode cX5_takesTicks 46 = .ok (.aload_n 0, 1) := dk_42 (dk_at dksX5_takesTicks_1 22 rfl rfl)
theorem dX5_takesTicks_47 : decode cX5_takesTicks 47 = .ok (.getfield 330, 3) := dk_180 1 74 (dk_at dksX5_takesTicks_2 0 rfl rfl)
theorem dX5_takesTicks_50 : decode cX5_takesTicks 50 = .ok (.imul, 1) := dk_104 (dk_at dksX5_takesTicks_2 3 rfl rfl)
theorem dX5_takesTicks_51 : decode cX5_takesTicks 51 = .ok (.iaload, 1) := dk_46 (dk_at dksX5_takesTicks_2 4 rfl rfl)
theorem dX5_takesTicks_52 : decode cX5_takesTicks 52 = .ok (.imul, 1) := dk_104 (dk_at dksX5_takesTicks_2 5 rfl rfl)
theorem dX5_takesTicks_53 : decode cX5_takesTicks 53 = .ok (.aload_n 0, 1) := dk_42 (dk_at dksX5_takesTicks_2 6 rfl rfl)
theorem dX5_takesTicks_54 : decode cX5_takesTicks 54 = .ok (.getfield 324, 3) := dk_180 1 68 (dk_at dksX5_takesTicks_2 7 rfl rfl)
theorem dX5_takesTicks_57 : decode cX5_takesTicks 57 = .ok (.iadd, 1) := dk_96 (dk_at dksX5_takesTicks_2 10 rfl rfl)
theorem dX5_takesTicks_58 : decode cX5_takesTicks 58 = .ok (.iastore, 1) := dk_79 (dk_at dksX5_takesTicks_2 11 rfl rfl)
theorem dX5_takesTicks_59 : decode cX5_takesTicks 59 = .ok (.iconst 1, 1) := dk_4 (dk_at dksX5_takesTicks_2 12 rfl rfl)
theorem dX5_takesTicks_60 : decode cX5_takesTicks 60 = .ok (.ireturn, 1) := dk_172 (dk_at dksX5_takesTicks_2 13 rfl rfl)
abbrev cX5_does : ByteArray := prog_18_method_74_code
def yX5_does : MethodName := ⟨RX5, "does", "(I)Z"⟩
def dkwX5_does_11 : List UInt8 := [180, 0, 124, 28, 46, 42, 180, 0, 124, 28, 4, 96, 46, 29, 182, 1, 5, 4, 172]
abbrev dktX5_does_11 : List UInt8 := dkwX5_does_11 ++ []
def dkwX5_does_10 : List UInt8 := [180, 0, 124, 28, 46, 42, 180, 0, 124, 28, 4, 96, 46, 29, 182, 0, 254, 158, 0, 5, 3, 172, 42, 42]
abbrev dktX5_does_10 : List UInt8 := dkwX5_does_10 ++ dktX5_does_11
def dkwX5_does_9 : List UInt8 := [46, 42, 180, 0, 124, 28, 4, 96, 46, 184, 0, 245, 154, 0, 7, 4, 167, 0, 4, 3, 62, 42, 42]
abbrev dktX5_does_9 : List UInt8 := dkwX5_does_9 ++ dktX5_does_10
def dkwX5_does_8 : List UInt8 := [42, 180, 0, 124, 28, 4, 96, 46, 184, 0, 248, 153, 0, 28, 42, 180, 0, 7, 42, 180, 0, 124, 28, 46]
abbrev dktX5_does_8 : List UInt8 := dkwX5_does_8 ++ dktX5_does_9
def dkwX5_does_7 : List UInt8 := [182, 1, 41, 132, 3, 1, 167, 255, 239, 167, 0, 103, 42, 180, 0, 124, 28, 46, 184, 0, 248, 153, 0, 42]
abbrev dktX5_does_7 : List UInt8 := dkwX5_does_7 ++ dktX5_does_8
def dkwX5_does_6 : List UInt8 := [16, 50, 184, 0, 143, 154, 0, 5, 3, 172, 3, 62, 29, 42, 180, 0, 124, 28, 46, 162, 0, 13, 42]
abbrev dktX5_does_6 : List UInt8 := dkwX5_does_6 ++ dktX5_does_7
def dkwX5_does_5 : List UInt8 := [182, 1, 31, 167, 0, 155, 42, 180, 0, 121, 27, 46, 4, 160, 0, 45, 42, 180, 0, 124, 28, 46, 4]
abbrev dktX5_does_5 : List UInt8 := dkwX5_does_5 ++ dktX5_does_6
def dkwX5_does_4 : List UInt8 := [180, 0, 124, 28, 6, 96, 46, 42, 180, 0, 124, 28, 7, 96, 46, 42, 180, 0, 124, 28, 8, 96, 46]
abbrev dktX5_does_4 : List UInt8 := dkwX5_does_4 ++ dktX5_does_5
def dkwX5_does_3 : List UInt8 := [42, 180, 0, 124, 28, 46, 42, 180, 0, 124, 28, 4, 96, 46, 42, 180, 0, 124, 28, 5, 96, 46, 42]
abbrev dktX5_does_3 : List UInt8 := dkwX5_does_3 ++ dktX5_does_4
def dkwX5_does_2 : List UInt8 := [180, 0, 124, 28, 7, 96, 46, 42, 180, 0, 124, 28, 8, 96, 46, 182, 1, 27, 158, 0, 5, 3, 172, 42]
abbrev dktX5_does_2 : List UInt8 := dkwX5_does_2 ++ dktX5_does_3
def dkwX5_does_1 : List UInt8 := [180, 0, 124, 28, 4, 96, 46, 42, 180, 0, 124, 28, 5, 96, 46, 42, 180, 0, 124, 28, 6, 96, 46, 42]
abbrev dktX5_does_1 : List UInt8 := dkwX5_does_1 ++ dktX5_does_2
def dkwX5_does_0 : List UInt8 := [16, 6, 27, 104, 61, 42, 180, 0, 121, 27, 46, 154, 0, 111, 42, 42, 180, 0, 124, 28, 46, 42]
abbrev dktX5_does_0 : List UInt8 := dkwX5_does_0 ++ dktX5_does_1
theorem dksX5_does_0 : cX5_does.data.toList.drop 0 = dktX5_does_0 := by decide +kernel
theorem dksX5_does_1 : cX5_does.data.toList.drop 22 = dktX5_does_1 := dk_seg dksX5_does_0 22 rfl rfl
theorem dksX5_does_2 : cX5_does.data.toList.drop 46 = dktX5_does_2 := dk_seg dksX5_does_1 24 rfl rfl
theorem dksX5_does_3 : cX5_does.data.toList.drop 70 = dktX5_does_3 := dk_seg dksX5_does_2 24 rfl rfl
theorem dksX5_does_4 : cX5_does.data.toList.drop 93 = dktX5_does_4 := dk_seg dksX5_does_3 23 rfl rfl
theorem dksX5_does_5 : cX5_does.data.toList.drop 116 = dktX5_does_5 := dk_seg dksX5_does_4 23 rfl rfl
theorem dksX5_does_6 : cX5_does.data.toList.drop 139 = dktX5_does_6 := dk_seg dksX5_does_5 23 rfl rfl
theorem dksX5_does_7 : cX5_does.data.toList.drop 162 = dktX5_does_7 := dk_seg dksX5_does_6 23 rfl rfl
theorem dksX5_does_8 : cX5_does.data.toList.drop 186 = dktX5_does_8 := dk_seg dksX5_does_7 24 rfl rfl
theorem dksX5_does_9 : cX5_does.data.toList.drop 210 = dktX5_does_9 := dk_seg dksX5_does_8 24 rfl rfl
theorem dksX5_does_10 : cX5_does.data.toList.drop 233 = dktX5_does_10 := dk_seg dksX5_does_9 23 rfl rfl
theorem dksX5_does_11 : cX5_does.data.toList.drop 257 = dktX5_does_11 := dk_seg dksX5_does_10 24 rfl rfl
theorem dX5_does_0 : decode cX5_does 0 = .ok (.bipush 6, 2) := dk_16 6 (dk_at dksX5_does_0 0 rfl rfl)
theorem dX5_does_2 : decode cX5_does 2 = .ok (.iload_n 1, 1) := dk_27 (dk_at dksX5_does_0 2 rfl rfl)
theorem dX5_does_3 : decode cX5_does 3 = .ok (.imul, 1) := dk_104 (dk_at dksX5_does_0 3 rfl rfl)
theorem dX5_does_4 : decode cX5_does 4 = .ok (.istore_n 2, 1) := dk_61 (dk_at dksX5_does_0 4 rfl rfl)
theorem dX5_does_5 : decode cX5_does 5 = .ok (.aload_n 0, 1) := dk_42 (dk_at dksX5_does_0 5 rfl rfl)
theorem dX5_does_6 : decode cX5_does 6 = .ok (.getfield 121, 3) := dk_180 0 121 (dk_at dksX5_does_0 6 rfl rfl)
theorem dX5_does_9 : decode cX5_does 9 = .ok (.iload_n 1, 1) := dk_27 (dk_at dksX5_does_0 9 rfl rfl)
theorem dX5_does_10 : decode cX5_does 10 = .ok (.iaload, 1) := dk_46 (dk_at dksX5_does_0 10 rfl rfl)
theorem dX5_does_11 : decode cX5_does 11 = .ok (.ifCond .ne 111, 3) := dk_154 0 111 (dk_at dksX5_does_0 11 rfl rfl)
theorem dX5_does_14 : decode cX5_does 14 = .ok (.aload_n 0, 1) := dk_42 (dk_at dksX5_does_0 14 rfl rfl)
theorem dX5_does_15 : decode cX5_does 15 = .ok (.aload_n 0, 1) := dk_42 (dk_at dksX5_does_0 15 rfl rfl)
theorem dX5_does_16 : decode cX5_does 16 = .ok (.getfield 124, 3) := dk_180 0 124 (dk_at dksX5_does_0 16 rfl rfl)
theorem dX5_does_19 : decode cX5_does 19 = .ok (.iload_n 2, 1) := dk_28 (dk_at dksX5_does_0 19 rfl rfl)
theorem dX5_does_20 : decode cX5_does 20 = .ok (.iaload, 1) := dk_46 (dk_at dksX5_does_0 20 rfl rfl)
theorem dX5_does_21 : decode cX5_does 21 = .ok (.aload_n 0, 1) := dk_42 (dk_at dksX5_does_0 21 rfl rfl)
theorem dX5_does_22 : decode cX5_does 22 = .ok (.getfield 124, 3) := dk_180 0 124 (dk_at dksX5_does_1 0 rfl rfl)
theorem dX5_does_25 : decode cX5_does 25 = .ok (.iload_n 2, 1) := dk_28 (dk_at dksX5_does_1 3 rfl rfl)
theorem dX5_does_26 : decode cX5_does 26 = .ok (.iconst 1, 1) := dk_4 (dk_at dksX5_does_1 4 rfl rfl)
theorem dX5_does_27 : decode cX5_does 27 = .ok (.iadd, 1) := dk_96 (dk_at dksX5_does_1 5 rfl rfl)
theorem dX5_does_28 : decode cX5_does 28 = .ok (.iaload, 1) := dk_46 (dk_at dksX5_does_1 6 rfl rfl)
theorem dX5_does_29 : decode cX5_does 29 = .ok (.aload_n 0, 1) := dk_42 (dk_at dksX5_does_1 7 rfl rfl)
theorem dX5_does_30 : decode cX5_does 30 = .ok (.getfield 124, 3) := dk_180 0 124 (dk_at dksX5_does_1 8 rfl rfl)
theorem dX5_does_33 : decode cX5_does 33 = .ok (.iload_n 2, 1) := dk_28 (dk_at dksX5_does_1 11 rfl rfl)
theorem dX5_does_34 : decode cX5_does 34 = .ok (.iconst 2, 1) := dk_5 (dk_at dksX5_does_1 12 rfl rfl)
theorem dX5_does_35 : decode cX5_does 35 = .ok (.iadd, 1) := dk_96 (dk_at dksX5_does_1 13 rfl rfl)
theorem dX5_does_36 : decode cX5_does 36 = .ok (.iaload, 1) := dk_46 (dk_at dksX5_does_1 14 rfl rfl)
theorem dX5_does_37 : decode cX5_does 37 = .ok (.aload_n 0, 1) := dk_42 (dk_at dksX5_does_1 15 rfl rfl)
theorem dX5_does_38 : decode cX5_does 38 = .ok (.getfield 124, 3) := dk_180 0 124 (dk_at dksX5_does_1 16 rfl rfl)
theorem dX5_does_41 : decode cX5_does 41 = .ok (.iload_n 2, 1) := dk_28 (dk_at dksX5_does_1 19 rfl rfl)
theorem dX5_does_42 : decode cX5_does 42 = .ok (.iconst 3, 1) := dk_6 (dk_at dksX5_does_1 20 rfl rfl)
theorem dX5_does_43 : decode cX5_does 43 = .ok (.iadd, 1) := dk_96 (dk_at dksX5_does_1 21 rfl rfl)
theorem dX5_does_44 : decode cX5_does 44 = .ok (.iaload, 1) := dk_46 (dk_at dksX5_does_1 22 rfl rfl)
theorem dX5_does_45 : decode cX5_does 45 = .ok (.aload_n 0, 1) := dk_42 (dk_at dksX5_does_1 23 rfl rfl)
theorem dX5_does_46 : decode cX5_does 46 = .ok (.getfield 124, 3) := dk_180 0 124 (dk_at dksX5_does_2 0 rfl rfl)
theorem dX5_does_49 : decode cX5_does 49 = .ok (.iload_n 2, 1) := dk_28 (dk_at dksX5_does_2 3 rfl rfl)
theorem dX5_does_50 : decode cX5_does 50 = .ok (.iconst 4, 1) := dk_7 (dk_at dksX5_does_2 4 rfl rfl)
theorem dX5_does_51 : decode cX5_does 51 = .ok (.iadd, 1) := dk_96 (dk_at dksX5_does_2 5 rfl rfl)
theorem dX5_does_52 : decode cX5_does 52 = .ok (.iaload, 1) := dk_46 (dk_at dksX5_does_2 6 rfl rfl)
theorem dX5_does_53 : decode cX5_does 53 = .ok (.aload_n 0, 1) := dk_42 (dk_at dksX5_does_2 7 rfl rfl)
theorem dX5_does_54 : decode cX5_does 54 = .ok (.getfield 124, 3) := dk_180 0 124 (dk_at dksX5_does_2 8 rfl rfl)
theorem dX5_does_57 : decode cX5_does 57 = .ok (.iload_n 2, 1) := dk_28 (dk_at dksX5_does_2 11 rfl rfl)
theorem dX5_does_58 : decode cX5_does 58 = .ok (.iconst 5, 1) := dk_8 (dk_at dksX5_does_2 12 rfl rfl)
theorem dX5_does_59 : decode cX5_does 59 = .ok (.iadd, 1) := dk_96 (dk_at dksX5_does_2 13 rfl rfl)
theorem dX5_does_60 : decode cX5_does 60 = .ok (.iaload, 1) := dk_46 (dk_at dksX5_does_2 14 rfl rfl)
theorem dX5_does_61 : decode cX5_does 61 = .ok (.invokevirtual 283, 3) := dk_182 1 27 (dk_at dksX5_does_2 15 rfl rfl)
theorem dX5_does_64 : decode cX5_does 64 = .ok (.ifCond .le 5, 3) := dk_158 0 5 (dk_at dksX5_does_2 18 rfl rfl)
theorem dX5_does_67 : decode cX5_does 67 = .ok (.iconst 0, 1) := dk_3 (dk_at dksX5_does_2 21 rfl rfl)
theorem dX5_does_68 : decode cX5_does 68 = .ok (.ireturn, 1) := dk_172 (dk_at dksX5_does_2 22 rfl rfl)
theorem dX5_does_69 : decode cX5_does 69 = .ok (.aload_n 0, 1) := dk_42 (dk_at dksX5_does_2 23 rfl rfl)
theorem dX5_does_70 : decode cX5_does 70 = .ok (.aload_n 0, 1) := dk_42 (dk_at dksX5_does_3 0 rfl rfl)
theorem dX5_does_71 : decode cX5_does 71 = .ok (.getfield 124, 3) := dk_180 0 124 (dk_at dksX5_does_3 1 rfl rfl)
theorem dX5_does_74 : decode cX5_does 74 = .ok (.iload_n 2, 1) := dk_28 (dk_at dksX5_does_3 4 rfl rfl)
theorem dX5_does_75 : decode cX5_does 75 = .ok (.iaload, 1) := dk_46 (dk_at dksX5_does_3 5 rfl rfl)
theorem dX5_does_76 : decode cX5_does 76 = .ok (.aload_n 0, 1) := dk_42 (dk_at dksX5_does_3 6 rfl rfl)
theorem dX5_does_77 : decode cX5_does 77 = .ok (.getfield 124, 3) := dk_180 0 124 (dk_at dksX5_does_3 7 rfl rfl)
theorem dX5_does_80 : decode cX5_does 80 = .ok (.iload_n 2, 1) := dk_28 (dk_at dksX5_does_3 10 rfl rfl)
theorem dX5_does_81 : decode cX5_does 81 = .ok (.iconst 1, 1) := dk_4 (dk_at dksX5_does_3 11 rfl rfl)
theorem dX5_does_82 : decode cX5_does 82 = .ok (.iadd, 1) := dk_96 (dk_at dksX5_does_3 12 rfl rfl)
theorem dX5_does_83 : decode cX5_does 83 = .ok (.iaload, 1) := dk_46 (dk_at dksX5_does_3 13 rfl rfl)
theorem dX5_does_84 : decode cX5_does 84 = .ok (.aload_n 0, 1) := dk_42 (dk_at dksX5_does_3 14 rfl rfl)
theorem dX5_does_85 : decode cX5_does 85 = .ok (.getfield 124, 3) := dk_180 0 124 (dk_at dksX5_does_3 15 rfl rfl)
theorem dX5_does_88 : decode cX5_does 88 = .ok (.iload_n 2, 1) := dk_28 (dk_at dksX5_does_3 18 rfl rfl)
theorem dX5_does_89 : decode cX5_does 89 = .ok (.iconst 2, 1) := dk_5 (dk_at dksX5_does_3 19 rfl rfl)
theorem dX5_does_90 : decode cX5_does 90 = .ok (.iadd, 1) := dk_96 (dk_at dksX5_does_3 20 rfl rfl)
theorem dX5_does_91 : decode cX5_does 91 = .ok (.iaload, 1) := dk_46 (dk_at dksX5_does_3 21 rfl rfl)
theorem dX5_does_92 : decode cX5_does 92 = .ok (.aload_n 0, 1) := dk_42 (dk_at dksX5_does_3 22 rfl rfl)
theorem dX5_does_93 : decode cX5_does 93 = .ok (.getfield 124, 3) := dk_180 0 124 (dk_at dksX5_does_4 0 rfl rfl)
theorem dX5_does_96 : decode cX5_does 96 = .ok (.iload_n 2, 1) := dk_28 (dk_at dksX5_does_4 3 rfl rfl)
theorem dX5_does_97 : decode cX5_does 97 = .ok (.iconst 3, 1) := dk_6 (dk_at dksX5_does_4 4 rfl rfl)
theorem dX5_does_98 : decode cX5_does 98 = .ok (.iadd, 1) := dk_96 (dk_at dksX5_does_4 5 rfl rfl)
theorem dX5_does_99 : decode cX5_does 99 = .ok (.iaload, 1) := dk_46 (dk_at dksX5_does_4 6 rfl rfl)
theorem dX5_does_100 : decode cX5_does 100 = .ok (.aload_n 0, 1) := dk_42 (dk_at dksX5_does_4 7 rfl rfl)
theorem dX5_does_101 : decode cX5_does 101 = .ok (.getfield 124, 3) := dk_180 0 124 (dk_at dksX5_does_4 8 rfl rfl)
theorem dX5_does_104 : decode cX5_does 104 = .ok (.iload_n 2, 1) := dk_28 (dk_at dksX5_does_4 11 rfl rfl)
theorem dX5_does_105 : decode cX5_does 105 = .ok (.iconst 4, 1) := dk_7 (dk_at dksX5_does_4 12 rfl rfl)
theorem dX5_does_106 : decode cX5_does 106 = .ok (.iadd, 1) := dk_96 (dk_at dksX5_does_4 13 rfl rfl)
theorem dX5_does_107 : decode cX5_does 107 = .ok (.iaload, 1) := dk_46 (dk_at dksX5_does_4 14 rfl rfl)
theorem dX5_does_108 : decode cX5_does 108 = .ok (.aload_n 0, 1) := dk_42 (dk_at dksX5_does_4 15 rfl rfl)
theorem dX5_does_109 : decode cX5_does 109 = .ok (.getfield 124, 3) := dk_180 0 124 (dk_at dksX5_does_4 16 rfl rfl)
theorem dX5_does_112 : decode cX5_does 112 = .ok (.iload_n 2, 1) := dk_28 (dk_at dksX5_does_4 19 rfl rfl)
theorem dX5_does_113 : decode cX5_does 113 = .ok (.iconst 5, 1) := dk_8 (dk_at dksX5_does_4 20 rfl rfl)
theorem dX5_does_114 : decode cX5_does 114 = .ok (.iadd, 1) := dk_96 (dk_at dksX5_does_4 21 rfl rfl)
theorem dX5_does_115 : decode cX5_does 115 = .ok (.iaload, 1) := dk_46 (dk_at dksX5_does_4 22 rfl rfl)
theorem dX5_does_116 : decode cX5_does 116 = .ok (.invokevirtual 287, 3) := dk_182 1 31 (dk_at dksX5_does_5 0 rfl rfl)
theorem dX5_does_119 : decode cX5_does 119 = .ok (.goto 155, 3) := dk_167 0 155 (dk_at dksX5_does_5 3 rfl rfl)
theorem dX5_does_122 : decode cX5_does 122 = .ok (.aload_n 0, 1) := dk_42 (dk_at dksX5_does_5 6 rfl rfl)
theorem dX5_does_123 : decode cX5_does 123 = .ok (.getfield 121, 3) := dk_180 0 121 (dk_at dksX5_does_5 7 rfl rfl)
theorem dX5_does_126 : decode cX5_does 126 = .ok (.iload_n 1, 1) := dk_27 (dk_at dksX5_does_5 10 rfl rfl)
theorem dX5_does_127 : decode cX5_does 127 = .ok (.iaload, 1) := dk_46 (dk_at dksX5_does_5 11 rfl rfl)
theorem dX5_does_128 : decode cX5_does 128 = .ok (.iconst 1, 1) := dk_4 (dk_at dksX5_does_5 12 rfl rfl)
theorem dX5_does_129 : decode cX5_does 129 = .ok (.if_icmp .ne 45, 3) := dk_160 0 45 (dk_at dksX5_does_5 13 rfl rfl)
theorem dX5_does_132 : decode cX5_does 132 = .ok (.aload_n 0, 1) := dk_42 (dk_at dksX5_does_5 16 rfl rfl)
theorem dX5_does_133 : decode cX5_does 133 = .ok (.getfield 124, 3) := dk_180 0 124 (dk_at dksX5_does_5 17 rfl rfl)
theorem dX5_does_136 : decode cX5_does 136 = .ok (.iload_n 2, 1) := dk_28 (dk_at dksX5_does_5 20 rfl rfl)
theorem dX5_does_137 : decode cX5_does 137 = .ok (.iaload, 1) := dk_46 (dk_at dksX5_does_5 21 rfl rfl)
theorem dX5_does_138 : decode cX5_does 138 = .ok (.iconst 1, 1) := dk_4 (dk_at dksX5_does_5 22 rfl rfl)
theorem dX5_does_139 : decode cX5_does 139 = .ok (.bipush 50, 2) := dk_16 50 (dk_at dksX5_does_6 0 rfl rfl)
theorem dX5_does_141 : decode cX5_does 141 = .ok (.invokestatic 143, 3) := dk_184 0 143 (dk_at dksX5_does_6 2 rfl rfl)
theorem dX5_does_144 : decode cX5_does 144 = .ok (.ifCond .ne 5, 3) := dk_154 0 5 (dk_at dksX5_does_6 5 rfl rfl)
theorem dX5_does_147 : decode cX5_does 147 = .ok (.iconst 0, 1) := dk_3 (dk_at dksX5_does_6 8 rfl rfl)
theorem dX5_does_148 : decode cX5_does 148 = .ok (.ireturn, 1) := dk_172 (dk_at dksX5_does_6 9 rfl rfl)
theorem dX5_does_149 : decode cX5_does 149 = .ok (.iconst 0, 1) := dk_3 (dk_at dksX5_does_6 10 rfl rfl)
theorem dX5_does_150 : decode cX5_does 150 = .ok (.istore_n 3, 1) := dk_62 (dk_at dksX5_does_6 11 rfl rfl)
theorem dX5_does_151 : decode cX5_does 151 = .ok (.iload_n 3, 1) := dk_29 (dk_at dksX5_does_6 12 rfl rfl)
theorem dX5_does_152 : decode cX5_does 152 = .ok (.aload_n 0, 1) := dk_42 (dk_at dksX5_does_6 13 rfl rfl)
theorem dX5_does_153 : decode cX5_does 153 = .ok (.getfield 124, 3) := dk_180 0 124 (dk_at dksX5_does_6 14 rfl rfl)
theorem dX5_does_156 : decode cX5_does 156 = .ok (.iload_n 2, 1) := dk_28 (dk_at dksX5_does_6 17 rfl rfl)
theorem dX5_does_157 : decode cX5_does 157 = .ok (.iaload, 1) := dk_46 (dk_at dksX5_does_6 18 rfl rfl)
theorem dX5_does_158 : decode cX5_does 158 = .ok (.if_icmp .ge 13, 3) := dk_162 0 13 (dk_at dksX5_does_6 19 rfl rfl)
theorem dX5_does_161 : decode cX5_does 161 = .ok (.aload_n 0, 1) := dk_42 (dk_at dksX5_does_6 22 rfl rfl)
theorem dX5_does_162 : decode cX5_does 162 = .ok (.invokevirtual 297, 3) := dk_182 1 41 (dk_at dksX5_does_7 0 rfl rfl)
theorem dX5_does_165 : decode cX5_does 165 = .ok (.iinc 3 1, 3) := dk_132 3 1 (dk_at dksX5_does_7 3 rfl rfl)
theorem dX5_does_168 : decode cX5_does 168 = .ok (.goto (-17), 3) := dk_167 255 239 (dk_at dksX5_does_7 6 rfl rfl)
theorem dX5_does_171 : decode cX5_does 171 = .ok (.goto 103, 3) := dk_167 0 103 (dk_at dksX5_does_7 9 rfl rfl)
theorem dX5_does_174 : decode cX5_does 174 = .ok (.aload_n 0, 1) := dk_42 (dk_at dksX5_does_7 12 rfl rfl)
theorem dX5_does_175 : decode cX5_does 175 = .ok (.getfield 124, 3) := dk_180 0 124 (dk_at dksX5_does_7 13 rfl rfl)
theorem dX5_does_178 : decode cX5_does 178 = .ok (.iload_n 2, 1) := dk_28 (dk_at dksX5_does_7 16 rfl rfl)
theorem dX5_does_179 : decode cX5_does 179 = .ok (.iaload, 1) := dk_46 (dk_at dksX5_does_7 17 rfl rfl)
theorem dX5_does_180 : decode cX5_does 180 = .ok (.invokestatic 248, 3) := dk_184 0 248 (dk_at dksX5_does_7 18 rfl rfl)
theorem dX5_does_183 : decode cX5_does 183 = .ok (.ifCond .eq 42, 3) := dk_153 0 42 (dk_at dksX5_does_7 21 rfl rfl)
theorem dX5_does_186 : decode cX5_does 186 = .ok (.aload_n 0, 1) := dk_42 (dk_at dksX5_does_8 0 rfl rfl)
theorem dX5_does_187 : decode cX5_does 187 = .ok (.getfield 124, 3) := dk_180 0 124 (dk_at dksX5_does_8 1 rfl rfl)
theorem dX5_does_190 : decode cX5_does 190 = .ok (.iload_n 2, 1) := dk_28 (dk_at dksX5_does_8 4 rfl rfl)
theorem dX5_does_191 : decode cX5_does 191 = .ok (.iconst 1, 1) := dk_4 (dk_at dksX5_does_8 5 rfl rfl)
theorem dX5_does_192 : decode cX5_does 192 = .ok (.iadd, 1) := dk_96 (dk_at dksX5_does_8 6 rfl rfl)
theorem dX5_does_193 : decode cX5_does 193 = .ok (.iaload, 1) := dk_46 (dk_at dksX5_does_8 7 rfl rfl)
theorem dX5_does_194 : decode cX5_does 194 = .ok (.invokestatic 248, 3) := dk_184 0 248 (dk_at dksX5_does_8 8 rfl rfl)
theorem dX5_does_197 : decode cX5_does 197 = .ok (.ifCond .eq 28, 3) := dk_153 0 28 (dk_at dksX5_does_8 11 rfl rfl)
theorem dX5_does_200 : decode cX5_does 200 = .ok (.aload_n 0, 1) := dk_42 (dk_at dksX5_does_8 14 rfl rfl)
theorem dX5_does_201 : decode cX5_does 201 = .ok (.getfield 7, 3) := dk_180 0 7 (dk_at dksX5_does_8 15 rfl rfl)
theorem dX5_does_204 : decode cX5_does 204 = .ok (.aload_n 0, 1) := dk_42 (dk_at dksX5_does_8 18 rfl rfl)
theorem dX5_does_205 : decode cX5_does 205 = .ok (.getfield 124, 3) := dk_180 0 124 (dk_at dksX5_does_8 19 rfl rfl)
theorem dX5_does_208 : decode cX5_does 208 = .ok (.iload_n 2, 1) := dk_28 (dk_at dksX5_does_8 22 rfl rfl)
theorem dX5_does_209 : decode cX5_does 209 = .ok (.iaload, 1) := dk_46 (dk_at dksX5_does_8 23 rfl rfl)
theorem dX5_does_210 : decode cX5_does 210 = .ok (.iaload, 1) := dk_46 (dk_at dksX5_does_9 0 rfl rfl)
theorem dX5_does_211 : decode cX5_does 211 = .ok (.aload_n 0, 1) := dk_42 (dk_at dksX5_does_9 1 rfl rfl)
theorem dX5_does_212 : decode cX5_does 212 = .ok (.getfield 124, 3) := dk_180 0 124 (dk_at dksX5_does_9 2 rfl rfl)
theorem dX5_does_215 : decode cX5_does 215 = .ok (.iload_n 2, 1) := dk_28 (dk_at dksX5_does_9 5 rfl rfl)
theorem dX5_does_216 : decode cX5_does 216 = .ok (.iconst 1, 1) := dk_4 (dk_at dksX5_does_9 6 rfl rfl)
theorem dX5_does_217 : decode cX5_does 217 = .ok (.iadd, 1) := dk_96 (dk_at dksX5_does_9 7 rfl rfl)
theorem dX5_does_218 : decode cX5_does 218 = .ok (.iaload, 1) := dk_46 (dk_at dksX5_does_9 8 rfl rfl)
theorem dX5_does_219 : decode cX5_does 219 = .ok (.invokestatic 245, 3) := dk_184 0 245 (dk_at dksX5_does_9 9 rfl rfl)
theorem dX5_does_222 : decode cX5_does 222 = .ok (.ifCond .ne 7, 3) := dk_154 0 7 (dk_at dksX5_does_9 12 rfl rfl)
theorem dX5_does_225 : decode cX5_does 225 = .ok (.iconst 1, 1) := dk_4 (dk_at dksX5_does_9 15 rfl rfl)
theorem dX5_does_226 : decode cX5_does 226 = .ok (.goto 4, 3) := dk_167 0 4 (dk_at dksX5_does_9 16 rfl rfl)
theorem dX5_does_229 : decode cX5_does 229 = .ok (.iconst 0, 1) := dk_3 (dk_at dksX5_does_9 19 rfl rfl)
theorem dX5_does_230 : decode cX5_does 230 = .ok (.istore_n 3, 1) := dk_62 (dk_at dksX5_does_9 20 rfl rfl)
theorem dX5_does_231 : decode cX5_does 231 = .ok (.aload_n 0, 1) := dk_42 (dk_at dksX5_does_9 21 rfl rfl)
theorem dX5_does_232 : decode cX5_does 232 = .ok (.aload_n 0, 1) := dk_42 (dk_at dksX5_does_9 22 rfl rfl)
theorem dX5_does_233 : decode cX5_does 233 = .ok (.getfield 124, 3) := dk_180 0 124 (dk_at dksX5_does_10 0 rfl rfl)
theorem dX5_does_236 : decode cX5_does 236 = .ok (.iload_n 2, 1) := dk_28 (dk_at dksX5_does_10 3 rfl rfl)
theorem dX5_does_237 : decode cX5_does 237 = .ok (.iaload, 1) := dk_46 (dk_at dksX5_does_10 4 rfl rfl)
theorem dX5_does_238 : decode cX5_does 238 = .ok (.aload_n 0, 1) := dk_42 (dk_at dksX5_does_10 5 rfl rfl)
theorem dX5_does_239 : decode cX5_does 239 = .ok (.getfield 124, 3) := dk_180 0 124 (dk_at dksX5_does_10 6 rfl rfl)
theorem dX5_does_242 : decode cX5_does 242 = .ok (.iload_n 2, 1) := dk_28 (dk_at dksX5_does_10 9 rfl rfl)
theorem dX5_does_243 : decode cX5_does 243 = .ok (.iconst 1, 1) := dk_4 (dk_at dksX5_does_10 10 rfl rfl)
theorem dX5_does_244 : decode cX5_does 244 = .ok (.iadd, 1) := dk_96 (dk_at dksX5_does_10 11 rfl rfl)
theorem dX5_does_245 : decode cX5_does 245 = .ok (.iaload, 1) := dk_46 (dk_at dksX5_does_10 12 rfl rfl)
theorem dX5_does_246 : decode cX5_does 246 = .ok (.iload_n 3, 1) := dk_29 (dk_at dksX5_does_10 13 rfl rfl)
theorem dX5_does_247 : decode cX5_does 247 = .ok (.invokevirtual 254, 3) := dk_182 0 254 (dk_at dksX5_does_10 14 rfl rfl)
theorem dX5_does_250 : decode cX5_does 250 = .ok (.ifCond .le 5, 3) := dk_158 0 5 (dk_at dksX5_does_10 17 rfl rfl)
theorem dX5_does_253 : decode cX5_does 253 = .ok (.iconst 0, 1) := dk_3 (dk_at dksX5_does_10 20 rfl rfl)
theorem dX5_does_254 : decode cX5_does 254 = .ok (.ireturn, 1) := dk_172 (dk_at dksX5_does_10 21 rfl rfl)
theorem dX5_does_255 : decode cX5_does 255 = .ok (.aload_n 0, 1) := dk_42 (dk_at dksX5_does_10 22 rfl rfl)
theorem dX5_does_256 : decode cX5_does 256 = .ok (.aload_n 0, 1) := dk_42 (dk_at dksX5_does_10 23 rfl rfl)
theorem dX5_does_257 : decode cX5_does 257 = .ok (.getfield 124, 3) := dk_180 0 124 (dk_at dksX5_does_11 0 rfl rfl)
theorem dX5_does_260 : decode cX5_does 260 = .ok (.iload_n 2, 1) := dk_28 (dk_at dksX5_does_11 3 rfl rfl)
theorem dX5_does_261 : decode cX5_does 261 = .ok (.iaload, 1) := dk_46 (dk_at dksX5_does_11 4 rfl rfl)
theorem dX5_does_262 : decode cX5_does 262 = .ok (.aload_n 0, 1) := dk_42 (dk_at dksX5_does_11 5 rfl rfl)
theorem dX5_does_263 : decode cX5_does 263 = .ok (.getfield 124, 3) := dk_180 0 124 (dk_at dksX5_does_11 6 rfl rfl)
theorem dX5_does_266 : decode cX5_does 266 = .ok (.iload_n 2, 1) := dk_28 (dk_at dksX5_does_11 9 rfl rfl)
theorem dX5_does_267 : decode cX5_does 267 = .ok (.iconst 1, 1) := dk_4 (dk_at dksX5_does_11 10 rfl rfl)
theorem dX5_does_268 : decode cX5_does 268 = .ok (.iadd, 1) := dk_96 (dk_at dksX5_does_11 11 rfl rfl)
theorem dX5_does_269 : decode cX5_does 269 = .ok (.iaload, 1) := dk_46 (dk_at dksX5_does_11 12 rfl rfl)
theorem dX5_does_270 : decode cX5_does 270 = .ok (.iload_n 3, 1) := dk_29 (dk_at dksX5_does_11 13 rfl rfl)
theorem dX5_does_271 : decode cX5_does 271 = .ok (.invokevirtual 261, 3) := dk_182 1 5 (dk_at dksX5_does_11 14 rfl rfl)
theorem dX5_does_274 : decode cX5_does 274 = .ok (.iconst 1, 1) := dk_4 (dk_at dksX5_does_11 17 rfl rfl)
theorem dX5_does_275 : decode cX5_does 275 = .ok (.ireturn, 1) := dk_172 (dk_at dksX5_does_11 18 rfl rfl)
abbrev cX5_undo : ByteArray := prog_18_method_82_code
def yX5_undo : MethodName := ⟨RX5, "undo", "()I"⟩
def dkwX5_undo_2 : List UInt8 := [180, 1, 122, 172]
abbrev dktX5_undo_2 : List UInt8 := dkwX5_undo_2 ++ []
def dkwX5_undo_1 : List UInt8 := [100, 181, 1, 122, 42, 42, 180, 0, 127, 17, 2, 61, 42, 180, 1, 122, 104, 3, 182, 1, 44, 42]
abbrev dktX5_undo_1 : List UInt8 := dkwX5_undo_1 ++ dktX5_undo_2
def dkwX5_undo_0 : List UInt8 := [42, 180, 1, 122, 154, 0, 9, 42, 4, 182, 1, 12, 172, 42, 3, 181, 0, 139, 42, 89, 180, 1, 122, 4]
abbrev dktX5_undo_0 : List UInt8 := dkwX5_undo_0 ++ dktX5_undo_1
theorem dksX5_undo_0 : cX5_undo.data.toList.drop 0 = dktX5_undo_0 := by decide +kernel
theorem dksX5_undo_1 : cX5_undo.data.toList.drop 24 = dktX5_undo_1 := dk_seg dksX5_undo_0 24 rfl rfl
theorem dksX5_undo_2 : cX5_undo.data.toList.drop 46 = dktX5_undo_2 := dk_seg dksX5_undo_1 22 rfl rfl
theorem dX5_undo_0 : decode cX5_undo 0 = .ok (.aload_n 0, 1) := dk_42 (dk_at dksX5_undo_0 0 rfl rfl)
theorem dX5_undo_1 : decode cX5_undo 1 = .ok (.getfield 378, 3) := dk_180 1 122 (dk_at dksX5_undo_0 1 rfl rfl)
theorem dX5_undo_4 : decode cX5_undo 4 = .ok (.ifCond .ne 9, 3) := dk_154 0 9 (dk_at dksX5_undo_0 4 rfl rfl)
theorem dX5_undo_7 : decode cX5_undo 7 = .ok (.aload_n 0, 1) := dk_42 (dk_at dksX5_undo_0 7 rfl rfl)
theorem dX5_undo_8 : decode cX5_undo 8 = .ok (.iconst 1, 1) := dk_4 (dk_at dksX5_undo_0 8 rfl rfl)
theorem dX5_undo_9 : decode cX5_undo 9 = .ok (.invokevirtual 268, 3) := dk_182 1 12 (dk_at dksX5_undo_0 9 rfl rfl)
theorem dX5_undo_12 : decode cX5_undo 12 = .ok (.ireturn, 1) := dk_172 (dk_at dksX5_undo_0 12 rfl rfl)
theorem dX5_undo_13 : decode cX5_undo 13 = .ok (.aload_n 0, 1) := dk_42 (dk_at dksX5_undo_0 13 rfl rfl)
theorem dX5_undo_14 : decode cX5_undo 14 = .ok (.iconst 0, 1) := dk_3 (dk_at dksX5_undo_0 14 rfl rfl)
theorem dX5_undo_15 : decode cX5_undo 15 = .ok (.putfield 139, 3) := dk_181 0 139 (dk_at dksX5_undo_0 15 rfl rfl)
theorem dX5_undo_18 : decode cX5_undo 18 = .ok (.aload_n 0, 1) := dk_42 (dk_at dksX5_undo_0 18 rfl rfl)
theorem dX5_undo_19 : decode cX5_undo 19 = .ok (.dup, 1) := dk_89 (dk_at dksX5_undo_0 19 rfl rfl)
theorem dX5_undo_20 : decode cX5_undo 20 = .ok (.getfield 378, 3) := dk_180 1 122 (dk_at dksX5_undo_0 20 rfl rfl)
theorem dX5_undo_23 : decode cX5_undo 23 = .ok (.iconst 1, 1) := dk_4 (dk_at dksX5_undo_0 23 rfl rfl)
theorem dX5_undo_24 : decode cX5_undo 24 = .ok (.isub, 1) := dk_100 (dk_at dksX5_undo_1 0 rfl rfl)
theorem dX5_undo_25 : decode cX5_undo 25 = .ok (.putfield 378, 3) := dk_181 1 122 (dk_at dksX5_undo_1 1 rfl rfl)
theorem dX5_undo_28 : decode cX5_undo 28 = .ok (.aload_n 0, 1) := dk_42 (dk_at dksX5_undo_1 4 rfl rfl)
theorem dX5_undo_29 : decode cX5_undo 29 = .ok (.aload_n 0, 1) := dk_42 (dk_at dksX5_undo_1 5 rfl rfl)
theorem dX5_undo_30 : decode cX5_undo 30 = .ok (.getfield 127, 3) := dk_180 0 127 (dk_at dksX5_undo_1 6 rfl rfl)
theorem dX5_undo_33 : decode cX5_undo 33 = .ok (.sipush 573, 3) := dk_17 2 61 (dk_at dksX5_undo_1 9 rfl rfl)
theorem dX5_undo_36 : decode cX5_undo 36 = .ok (.aload_n 0, 1) := dk_42 (dk_at dksX5_undo_1 12 rfl rfl)
theorem dX5_undo_37 : decode cX5_undo 37 = .ok (.getfield 378, 3) := dk_180 1 122 (dk_at dksX5_undo_1 13 rfl rfl)
theorem dX5_undo_40 : decode cX5_undo 40 = .ok (.imul, 1) := dk_104 (dk_at dksX5_undo_1 16 rfl rfl)
theorem dX5_undo_41 : decode cX5_undo 41 = .ok (.iconst 0, 1) := dk_3 (dk_at dksX5_undo_1 17 rfl rfl)
theorem dX5_undo_42 : decode cX5_undo 42 = .ok (.invokevirtual 300, 3) := dk_182 1 44 (dk_at dksX5_undo_1 18 rfl rfl)
theorem dX5_undo_45 : decode cX5_undo 45 = .ok (.aload_n 0, 1) := dk_42 (dk_at dksX5_undo_1 21 rfl rfl)
theorem dX5_undo_46 : decode cX5_undo 46 = .ok (.getfield 378, 3) := dk_180 1 122 (dk_at dksX5_undo_2 0 rfl rfl)
theorem dX5_undo_49 : decode cX5_undo 49 = .ok (.ireturn, 1) := dk_172 (dk_at dksX5_undo_2 3 rfl rfl)
abbrev cX5_save : ByteArray := prog_18_method_83_code
def yX5_save : MethodName := ⟨RX5, "save", "()I"⟩
def dkwX5_save_1 : List UInt8 := [172]
abbrev dktX5_save_1 : List UInt8 := dkwX5_save_1 ++ []
def dkwX5_save_0 : List UInt8 := [42, 3, 181, 0, 139, 42, 4, 181, 1, 125, 42, 42, 180, 0, 130, 3, 4, 182, 1, 44, 42, 180, 0, 158]
abbrev dktX5_save_0 : List UInt8 := dkwX5_save_0 ++ dktX5_save_1
theorem dksX5_save_0 : cX5_save.data.toList.drop 0 = dktX5_save_0 := by decide +kernel
theorem dksX5_save_1 : cX5_save.data.toList.drop 24 = dktX5_save_1 := dk_seg dksX5_save_0 24 rfl rfl
theorem dX5_save_0 : decode cX5_save 0 = .ok (.aload_n 0, 1) := dk_42 (dk_at dksX5_save_0 0 rfl rfl)
theorem dX5_save_1 : decode cX5_save 1 = .ok (.iconst 0, 1) := dk_3 (dk_at dksX5_save_0 1 rfl rfl)
theorem dX5_save_2 : decode cX5_save 2 = .ok (.putfield 139, 3) := dk_181 0 139 (dk_at dksX5_save_0 2 rfl rfl)
theorem dX5_save_5 : decode cX5_save 5 = .ok (.aload_n 0, 1) := dk_42 (dk_at dksX5_save_0 5 rfl rfl)
theorem dX5_save_6 : decode cX5_save 6 = .ok (.iconst 1, 1) := dk_4 (dk_at dksX5_save_0 6 rfl rfl)
theorem dX5_save_7 : decode cX5_save 7 = .ok (.putfield 381, 3) := dk_181 1 125 (dk_at dksX5_save_0 7 rfl rfl)
theorem dX5_save_10 : decode cX5_save 10 = .ok (.aload_n 0, 1) := dk_42 (dk_at dksX5_save_0 10 rfl rfl)
theorem dX5_save_11 : decode cX5_save 11 = .ok (.aload_n 0, 1) := dk_42 (dk_at dksX5_save_0 11 rfl rfl)
theorem dX5_save_12 : decode cX5_save 12 = .ok (.getfield 130, 3) := dk_180 0 130 (dk_at dksX5_save_0 12 rfl rfl)
theorem dX5_save_15 : decode cX5_save 15 = .ok (.iconst 0, 1) := dk_3 (dk_at dksX5_save_0 15 rfl rfl)
theorem dX5_save_16 : decode cX5_save 16 = .ok (.iconst 1, 1) := dk_4 (dk_at dksX5_save_0 16 rfl rfl)
theorem dX5_save_17 : decode cX5_save 17 = .ok (.invokevirtual 300, 3) := dk_182 1 44 (dk_at dksX5_save_0 17 rfl rfl)
theorem dX5_save_20 : decode cX5_save 20 = .ok (.aload_n 0, 1) := dk_42 (dk_at dksX5_save_0 20 rfl rfl)
theorem dX5_save_21 : decode cX5_save 21 = .ok (.getfield 158, 3) := dk_180 0 158 (dk_at dksX5_save_0 21 rfl rfl)
theorem dX5_save_24 : decode cX5_save 24 = .ok (.ireturn, 1) := dk_172 (dk_at dksX5_save_1 0 rfl rfl)
abbrev cX5_restore : ByteArray := prog_18_method_84_code
def yX5_restore : MethodName := ⟨RX5, "restore", "()I"⟩
def dkwX5_restore_1 : List UInt8 := [3, 182, 1, 44, 42, 3, 181, 1, 122, 42, 180, 0, 158, 172]
abbrev dktX5_restore_1 : List UInt8 := dkwX5_restore_1 ++ []
def dkwX5_restore_0 : List UInt8 := [42, 180, 1, 125, 154, 0, 9, 42, 4, 182, 1, 12, 172, 42, 3, 181, 0, 139, 42, 42, 180, 0, 130, 3]
abbrev dktX5_restore_0 : List UInt8 := dkwX5_restore_0 ++ dktX5_restore_1
theorem dksX5_restore_0 : cX5_restore.data.toList.drop 0 = dktX5_restore_0 := by decide +kernel
theorem dksX5_restore_1 : cX5_restore.data.toList.drop 24 = dktX5_restore_1 := dk_seg dksX5_restore_0 24 rfl rfl
theorem dX5_restore_0 : decode cX5_restore 0 = .ok (.aload_n 0, 1) := dk_42 (dk_at dksX5_restore_0 0 rfl rfl)
theorem dX5_restore_1 : decode cX5_restore 1 = .ok (.getfield 381, 3) := dk_180 1 125 (dk_at dksX5_restore_0 1 rfl rfl)
theorem dX5_restore_4 : decode cX5_restore 4 = .ok (.ifCond .ne 9, 3) := dk_154 0 9 (dk_at dksX5_restore_0 4 rfl rfl)
theorem dX5_restore_7 : decode cX5_restore 7 = .ok (.aload_n 0, 1) := dk_42 (dk_at dksX5_restore_0 7 rfl rfl)
theorem dX5_restore_8 : decode cX5_restore 8 = .ok (.iconst 1, 1) := dk_4 (dk_at dksX5_restore_0 8 rfl rfl)
theorem dX5_restore_9 : decode cX5_restore 9 = .ok (.invokevirtual 268, 3) := dk_182 1 12 (dk_at dksX5_restore_0 9 rfl rfl)
theorem dX5_restore_12 : decode cX5_restore 12 = .ok (.ireturn, 1) := dk_172 (dk_at dksX5_restore_0 12 rfl rfl)
theorem dX5_restore_13 : decode cX5_restore 13 = .ok (.aload_n 0, 1) := dk_42 (dk_at dksX5_restore_0 13 rfl rfl)
theorem dX5_restore_14 : decode cX5_restore 14 = .ok (.iconst 0, 1) := dk_3 (dk_at dksX5_restore_0 14 rfl rfl)
theorem dX5_restore_15 : decode cX5_restore 15 = .ok (.putfield 139, 3) := dk_181 0 139 (dk_at dksX5_restore_0 15 rfl rfl)
theorem dX5_restore_18 : decode cX5_restore 18 = .ok (.aload_n 0, 1) := dk_42 (dk_at dksX5_restore_0 18 rfl rfl)
theorem dX5_restore_19 : decode cX5_restore 19 = .ok (.aload_n 0, 1) := dk_42 (dk_at dksX5_restore_0 19 rfl rfl)
theorem dX5_restore_20 : decode cX5_restore 20 = .ok (.getfield 130, 3) := dk_180 0 130 (dk_at dksX5_restore_0 20 rfl rfl)
theorem dX5_restore_23 : decode cX5_restore 23 = .ok (.iconst 0, 1) := dk_3 (dk_at dksX5_restore_0 23 rfl rfl)
theorem dX5_restore_24 : decode cX5_restore 24 = .ok (.iconst 0, 1) := dk_3 (dk_at dksX5_restore_1 0 rfl rfl)
theorem dX5_restore_25 : decode cX5_restore 25 = .ok (.invokevirtual 300, 3) := dk_182 1 44 (dk_at dksX5_restore_1 1 rfl rfl)
theorem dX5_restore_28 : decode cX5_restore 28 = .ok (.aload_n 0, 1) := dk_42 (dk_at dksX5_restore_1 4 rfl rfl)
theorem dX5_restore_29 : decode cX5_restore 29 = .ok (.iconst 0, 1) := dk_3 (dk_at dksX5_restore_1 5 rfl rfl)
theorem dX5_restore_30 : decode cX5_restore 30 = .ok (.putfield 378, 3) := dk_181 1 122 (dk_at dksX5_restore_1 6 rfl rfl)
theorem dX5_restore_33 : decode cX5_restore 33 = .ok (.aload_n 0, 1) := dk_42 (dk_at dksX5_restore_1 9 rfl rfl)
theorem dX5_restore_34 : decode cX5_restore 34 = .ok (.getfield 158, 3) := dk_180 0 158 (dk_at dksX5_restore_1 10 rfl rfl)
theorem dX5_restore_37 : decode cX5_restore 37 = .ok (.ireturn, 1) := dk_172 (dk_at dksX5_restore_1 13 rfl rfl)
theorem q131 : (Jvm.Cond.initialized "RobotCellModel") ∈ lw_all := lw_g (lw_at lw_m1 38 rfl) rfl
theorem q893 : (Jvm.Cond.selects "RobotCellModel" ({ cls := "java/lang/Object", name := "getClass", desc := "()Ljava/lang/Class;" } : Jvm.MethodName) ({ cls := "java/lang/Object", name := "getClass", desc := "()Ljava/lang/Class;" } : Jvm.MethodName)) ∈ lw_all := lw_g (lw_at lw_m4 80 rfl) rfl
theorem q953 : (Jvm.Cond.selects "RobotCellModel" ({ cls := "java/lang/Object", name := "toString", desc := "()Ljava/lang/String;" } : Jvm.MethodName) ({ cls := "java/lang/Object", name := "toString", desc := "()Ljava/lang/String;" } : Jvm.MethodName)) ∈ lw_all := lw_g (lw_at lw_m4 140 rfl) rfl
theorem q1667 : (Jvm.Cond.selects "RobotCellModel" ({ cls := "java/lang/Object", name := "hashCode", desc := "()I" } : Jvm.MethodName) ({ cls := "java/lang/Object", name := "hashCode", desc := "()I" } : Jvm.MethodName)) ∈ lw_all := lw_g (lw_at lw_m7 134 rfl) rfl
theorem q2079 : (Jvm.Cond.selects "RobotCellModel" ({ cls := "java/lang/Object", name := "equals", desc := "(Ljava/lang/Object;)Z" } : Jvm.MethodName) ({ cls := "java/lang/Object", name := "equals", desc := "(Ljava/lang/Object;)Z" } : Jvm.MethodName)) ∈ lw_all := lw_g (lw_at lw_m9 66 rfl) rfl
theorem q3205 : (Jvm.Cond.instantiable "RobotCellModel" (63 : Nat)) ∈ lw_all := lw_g (lw_at lw_m13 232 rfl) rfl
theorem q3207 : (Jvm.Cond.instanceMethod ({ cls := "RobotCellModel", name := "<init>", desc := "()V" } : Jvm.MethodName)) ∈ lw_all := lw_g (lw_at lw_m13 234 rfl) rfl
theorem q3208 : (Jvm.Cond.code ({ cls := "RobotCellModel", name := "<init>", desc := "()V" } : Jvm.MethodName) prog_18_method_1_code (2 : Nat) (Option.none : Option Jvm.ClassFile.FieldType)) ∈ lw_all := lw_g (lw_at lw_m13 235 rfl) rfl
theorem q3209 : (Jvm.Cond.methodLink "RobotCellModel" (1 : Nat) ({ cls := "java/lang/Object", name := "<init>", desc := "()V" } : Jvm.MethodName)) ∈ lw_all := lw_g (lw_at lw_m13 236 rfl) rfl
theorem q3210 : (Jvm.Cond.fieldLink "RobotCellModel" (139 : Nat) "RobotCellModel" "thrown" "I") ∈ lw_all := lw_g (lw_at lw_m13 237 rfl) rfl
theorem q3211 : (Jvm.Cond.fieldLink "RobotCellModel" (7 : Nat) "RobotCellModel" "interlock" "[I") ∈ lw_all := lw_g (lw_at lw_m13 238 rfl) rfl
theorem q3212 : (Jvm.Cond.fieldLink "RobotCellModel" (13 : Nat) "RobotCellModel" "heldTicks" "[I") ∈ lw_all := lw_g (lw_at lw_m13 239 rfl) rfl
theorem q3213 : (Jvm.Cond.fieldLink "RobotCellModel" (16 : Nat) "RobotCellModel" "capacity" "[I") ∈ lw_all := lw_g (lw_at lw_m14 0 rfl) rfl
theorem q3214 : (Jvm.Cond.fieldLink "RobotCellModel" (19 : Nat) "RobotCellModel" "partMany" "[I") ∈ lw_all := lw_g (lw_at lw_m14 1 rfl) rfl
theorem q3215 : (Jvm.Cond.fieldLink "RobotCellModel" (22 : Nat) "RobotCellModel" "parts" "[I") ∈ lw_all := lw_g (lw_at lw_m14 2 rfl) rfl
theorem q3216 : (Jvm.Cond.fieldLink "RobotCellModel" (25 : Nat) "RobotCellModel" "promisedPlaces" "[I") ∈ lw_all := lw_g (lw_at lw_m14 3 rfl) rfl
theorem q3217 : (Jvm.Cond.fieldLink "RobotCellModel" (28 : Nat) "RobotCellModel" "promisedParts" "[I") ∈ lw_all := lw_g (lw_at lw_m14 4 rfl) rfl
theorem q3218 : (Jvm.Cond.fieldLink "RobotCellModel" (31 : Nat) "RobotCellModel" "came" "[I") ∈ lw_all := lw_g (lw_at lw_m14 5 rfl) rfl
theorem q3219 : (Jvm.Cond.fieldLink "RobotCellModel" (34 : Nat) "RobotCellModel" "gone" "[I") ∈ lw_all := lw_g (lw_at lw_m14 6 rfl) rfl
theorem q3220 : (Jvm.Cond.fieldLink "RobotCellModel" (37 : Nat) "RobotCellModel" "reach" "[I") ∈ lw_all := lw_g (lw_at lw_m14 7 rfl) rfl
theorem q3221 : (Jvm.Cond.fieldLink "RobotCellModel" (40 : Nat) "RobotCellModel" "rowMany" "[I") ∈ lw_all := lw_g (lw_at lw_m14 8 rfl) rfl
theorem q3222 : (Jvm.Cond.fieldLink "RobotCellModel" (43 : Nat) "RobotCellModel" "row" "[I") ∈ lw_all := lw_g (lw_at lw_m14 9 rfl) rfl
theorem q3223 : (Jvm.Cond.fieldLink "RobotCellModel" (46 : Nat) "RobotCellModel" "active" "[I") ∈ lw_all := lw_g (lw_at lw_m14 10 rfl) rfl
theorem q3224 : (Jvm.Cond.fieldLink "RobotCellModel" (49 : Nat) "RobotCellModel" "state" "[I") ∈ lw_all := lw_g (lw_at lw_m14 11 rfl) rfl
theorem q3225 : (Jvm.Cond.fieldLink "RobotCellModel" (52 : Nat) "RobotCellModel" "pos" "[I") ∈ lw_all := lw_g (lw_at lw_m14 12 rfl) rfl
theorem q3226 : (Jvm.Cond.fieldLink "RobotCellModel" (55 : Nat) "RobotCellModel" "toGo" "[I") ∈ lw_all := lw_g (lw_at lw_m14 13 rfl) rfl
theorem q3227 : (Jvm.Cond.fieldLink "RobotCellModel" (58 : Nat) "RobotCellModel" "patience" "[I") ∈ lw_all := lw_g (lw_at lw_m14 14 rfl) rfl
theorem q3228 : (Jvm.Cond.fieldLink "RobotCellModel" (61 : Nat) "RobotCellModel" "why" "[I") ∈ lw_all := lw_g (lw_at lw_m14 15 rfl) rfl
theorem q3229 : (Jvm.Cond.fieldLink "RobotCellModel" (64 : Nat) "RobotCellModel" "detail" "[I") ∈ lw_all := lw_g (lw_at lw_m14 16 rfl) rfl
theorem q3230 : (Jvm.Cond.fieldLink "RobotCellModel" (67 : Nat) "RobotCellModel" "refusals" "[I") ∈ lw_all := lw_g (lw_at lw_m14 17 rfl) rfl
theorem q3231 : (Jvm.Cond.fieldLink "RobotCellModel" (70 : Nat) "RobotCellModel" "busy" "[I") ∈ lw_all := lw_g (lw_at lw_m14 18 rfl) rfl
theorem q3232 : (Jvm.Cond.fieldLink "RobotCellModel" (73 : Nat) "RobotCellModel" "jobArm" "[I") ∈ lw_all := lw_g (lw_at lw_m14 19 rfl) rfl
theorem q3233 : (Jvm.Cond.fieldLink "RobotCellModel" (76 : Nat) "RobotCellModel" "jobPath" "[I") ∈ lw_all := lw_g (lw_at lw_m14 20 rfl) rfl
theorem q3234 : (Jvm.Cond.fieldLink "RobotCellModel" (79 : Nat) "RobotCellModel" "jobSize" "[I") ∈ lw_all := lw_g (lw_at lw_m14 21 rfl) rfl
theorem q3235 : (Jvm.Cond.fieldLink "RobotCellModel" (82 : Nat) "RobotCellModel" "jobWork" "[I") ∈ lw_all := lw_g (lw_at lw_m14 22 rfl) rfl
theorem q3236 : (Jvm.Cond.fieldLink "RobotCellModel" (85 : Nat) "RobotCellModel" "jobWeight" "[I") ∈ lw_all := lw_g (lw_at lw_m14 23 rfl) rfl
theorem q3237 : (Jvm.Cond.fieldLink "RobotCellModel" (88 : Nat) "RobotCellModel" "jobSource" "[I") ∈ lw_all := lw_g (lw_at lw_m14 24 rfl) rfl
theorem q3238 : (Jvm.Cond.fieldLink "RobotCellModel" (91 : Nat) "RobotCellModel" "jobTarget" "[I") ∈ lw_all := lw_g (lw_at lw_m14 25 rfl) rfl
theorem q3239 : (Jvm.Cond.fieldLink "RobotCellModel" (94 : Nat) "RobotCellModel" "jobState" "[I") ∈ lw_all := lw_g (lw_at lw_m14 26 rfl) rfl
theorem q3240 : (Jvm.Cond.fieldLink "RobotCellModel" (97 : Nat) "RobotCellModel" "startedAt" "[I") ∈ lw_all := lw_g (lw_at lw_m14 27 rfl) rfl
theorem q3241 : (Jvm.Cond.fieldLink "RobotCellModel" (100 : Nat) "RobotCellModel" "endedAt" "[I") ∈ lw_all := lw_g (lw_at lw_m14 28 rfl) rfl
theorem q3242 : (Jvm.Cond.fieldLink "RobotCellModel" (103 : Nat) "RobotCellModel" "log" "[I") ∈ lw_all := lw_g (lw_at lw_m14 29 rfl) rfl
theorem q3243 : (Jvm.Cond.fieldLink "RobotCellModel" (158 : Nat) "RobotCellModel" "time" "I") ∈ lw_all := lw_g (lw_at lw_m14 30 rfl) rfl
theorem q3244 : (Jvm.Cond.fieldLink "RobotCellModel" (280 : Nat) "RobotCellModel" "jobs" "I") ∈ lw_all := lw_g (lw_at lw_m14 31 rfl) rfl
theorem q3245 : (Jvm.Cond.fieldLink "RobotCellModel" (223 : Nat) "RobotCellModel" "newParts" "I") ∈ lw_all := lw_g (lw_at lw_m14 32 rfl) rfl
theorem q3246 : (Jvm.Cond.fieldLink "RobotCellModel" (220 : Nat) "RobotCellModel" "lostParts" "I") ∈ lw_all := lw_g (lw_at lw_m14 33 rfl) rfl
theorem q3247 : (Jvm.Cond.fieldLink "RobotCellModel" (211 : Nat) "RobotCellModel" "ended" "I") ∈ lw_all := lw_g (lw_at lw_m14 34 rfl) rfl
theorem q3248 : (Jvm.Cond.fieldLink "RobotCellModel" (291 : Nat) "RobotCellModel" "withdrawn" "I") ∈ lw_all := lw_g (lw_at lw_m14 35 rfl) rfl
theorem q3249 : (Jvm.Cond.fieldLink "RobotCellModel" (214 : Nat) "RobotCellModel" "durations" "I") ∈ lw_all := lw_g (lw_at lw_m14 36 rfl) rfl
theorem q3250 : (Jvm.Cond.fieldLink "RobotCellModel" (155 : Nat) "RobotCellModel" "logMany" "I") ∈ lw_all := lw_g (lw_at lw_m14 37 rfl) rfl
theorem q3251 : (Jvm.Cond.fieldLink "RobotCellModel" (106 : Nat) "RobotCellModel" "heldBy" "[I") ∈ lw_all := lw_g (lw_at lw_m14 38 rfl) rfl
theorem q3252 : (Jvm.Cond.fieldLink "RobotCellModel" (109 : Nat) "RobotCellModel" "jobOf" "[I") ∈ lw_all := lw_g (lw_at lw_m14 39 rfl) rfl
theorem q3253 : (Jvm.Cond.fieldLink "RobotCellModel" (112 : Nat) "RobotCellModel" "firstOf" "[I") ∈ lw_all := lw_g (lw_at lw_m14 40 rfl) rfl
theorem q3254 : (Jvm.Cond.fieldLink "RobotCellModel" (171 : Nat) "RobotCellModel" "reasonNow" "I") ∈ lw_all := lw_g (lw_at lw_m14 41 rfl) rfl
theorem q3255 : (Jvm.Cond.fieldLink "RobotCellModel" (174 : Nat) "RobotCellModel" "detailNow" "I") ∈ lw_all := lw_g (lw_at lw_m14 42 rfl) rfl
theorem q3256 : (Jvm.Cond.fieldLink "RobotCellModel" (191 : Nat) "RobotCellModel" "isRefusedNow" "Z") ∈ lw_all := lw_g (lw_at lw_m14 43 rfl) rfl
theorem q3257 : (Jvm.Cond.fieldLink "RobotCellModel" (115 : Nat) "RobotCellModel" "turn" "[I") ∈ lw_all := lw_g (lw_at lw_m14 44 rfl) rfl
theorem q3258 : (Jvm.Cond.fieldLink "RobotCellModel" (118 : Nat) "RobotCellModel" "text" "[I") ∈ lw_all := lw_g (lw_at lw_m14 45 rfl) rfl
theorem q3259 : (Jvm.Cond.fieldLink "RobotCellModel" (121 : Nat) "RobotCellModel" "kind" "[I") ∈ lw_all := lw_g (lw_at lw_m14 46 rfl) rfl
theorem q3260 : (Jvm.Cond.fieldLink "RobotCellModel" (124 : Nat) "RobotCellModel" "number" "[I") ∈ lw_all := lw_g (lw_at lw_m14 47 rfl) rfl
theorem q3261 : (Jvm.Cond.fieldLink "RobotCellModel" (318 : Nat) "RobotCellModel" "length" "I") ∈ lw_all := lw_g (lw_at lw_m14 48 rfl) rfl
theorem q3262 : (Jvm.Cond.fieldLink "RobotCellModel" (321 : Nat) "RobotCellModel" "at" "I") ∈ lw_all := lw_g (lw_at lw_m14 49 rfl) rfl
theorem q3263 : (Jvm.Cond.fieldLink "RobotCellModel" (330 : Nat) "RobotCellModel" "commands" "I") ∈ lw_all := lw_g (lw_at lw_m14 50 rfl) rfl
theorem q3264 : (Jvm.Cond.fieldLink "RobotCellModel" (324 : Nat) "RobotCellModel" "digit" "I") ∈ lw_all := lw_g (lw_at lw_m14 51 rfl) rfl
theorem q3265 : (Jvm.Cond.fieldLink "RobotCellModel" (127 : Nat) "RobotCellModel" "earlier" "[I") ∈ lw_all := lw_g (lw_at lw_m14 52 rfl) rfl
theorem q3266 : (Jvm.Cond.fieldLink "RobotCellModel" (130 : Nat) "RobotCellModel" "saved" "[I") ∈ lw_all := lw_g (lw_at lw_m14 53 rfl) rfl
theorem q3267 : (Jvm.Cond.fieldLink "RobotCellModel" (133 : Nat) "RobotCellModel" "scratch" "[I") ∈ lw_all := lw_g (lw_at lw_m14 54 rfl) rfl
theorem q3268 : (Jvm.Cond.fieldLink "RobotCellModel" (136 : Nat) "RobotCellModel" "undone" "[I") ∈ lw_all := lw_g (lw_at lw_m14 55 rfl) rfl
theorem q3269 : (Jvm.Cond.fieldLink "RobotCellModel" (378 : Nat) "RobotCellModel" "changes" "I") ∈ lw_all := lw_g (lw_at lw_m14 56 rfl) rfl
theorem q3270 : (Jvm.Cond.fieldLink "RobotCellModel" (360 : Nat) "RobotCellModel" "cursor" "I") ∈ lw_all := lw_g (lw_at lw_m14 57 rfl) rfl
theorem q3271 : (Jvm.Cond.fieldLink "RobotCellModel" (381 : Nat) "RobotCellModel" "isSaved" "Z") ∈ lw_all := lw_g (lw_at lw_m14 58 rfl) rfl
theorem q3272 : (Jvm.Cond.fieldLink "RobotCellModel" (357 : Nat) "RobotCellModel" "isKeeping" "Z") ∈ lw_all := lw_g (lw_at lw_m14 59 rfl) rfl
theorem q3273 : (Jvm.Cond.lays "RobotCellModel" "RobotCellModel" "thrown" "I") ∈ lw_all := lw_g (lw_at lw_m14 60 rfl) rfl
theorem q3274 : (Jvm.Cond.soleField "RobotCellModel" "thrown") ∈ lw_all := lw_g (lw_at lw_m14 61 rfl) rfl
theorem q3275 : (Jvm.Cond.laysFinal "RobotCellModel" "RobotCellModel" "interlock" "[I") ∈ lw_all := lw_g (lw_at lw_m14 62 rfl) rfl
theorem q3276 : (Jvm.Cond.soleField "RobotCellModel" "interlock") ∈ lw_all := lw_g (lw_at lw_m14 63 rfl) rfl
theorem q3277 : (Jvm.Cond.laysFinal "RobotCellModel" "RobotCellModel" "heldTicks" "[I") ∈ lw_all := lw_g (lw_at lw_m14 64 rfl) rfl
theorem q3278 : (Jvm.Cond.soleField "RobotCellModel" "heldTicks") ∈ lw_all := lw_g (lw_at lw_m14 65 rfl) rfl
theorem q3279 : (Jvm.Cond.laysFinal "RobotCellModel" "RobotCellModel" "capacity" "[I") ∈ lw_all := lw_g (lw_at lw_m14 66 rfl) rfl
theorem q3280 : (Jvm.Cond.soleField "RobotCellModel" "capacity") ∈ lw_all := lw_g (lw_at lw_m14 67 rfl) rfl
theorem q3281 : (Jvm.Cond.laysFinal "RobotCellModel" "RobotCellModel" "partMany" "[I") ∈ lw_all := lw_g (lw_at lw_m14 68 rfl) rfl
theorem q3282 : (Jvm.Cond.soleField "RobotCellModel" "partMany") ∈ lw_all := lw_g (lw_at lw_m14 69 rfl) rfl
theorem q3283 : (Jvm.Cond.laysFinal "RobotCellModel" "RobotCellModel" "parts" "[I") ∈ lw_all := lw_g (lw_at lw_m14 70 rfl) rfl
theorem q3284 : (Jvm.Cond.soleField "RobotCellModel" "parts") ∈ lw_all := lw_g (lw_at lw_m14 71 rfl) rfl
theorem q3285 : (Jvm.Cond.laysFinal "RobotCellModel" "RobotCellModel" "promisedPlaces" "[I") ∈ lw_all := lw_g (lw_at lw_m14 72 rfl) rfl
theorem q3286 : (Jvm.Cond.soleField "RobotCellModel" "promisedPlaces") ∈ lw_all := lw_g (lw_at lw_m14 73 rfl) rfl
theorem q3287 : (Jvm.Cond.laysFinal "RobotCellModel" "RobotCellModel" "promisedParts" "[I") ∈ lw_all := lw_g (lw_at lw_m14 74 rfl) rfl
theorem q3288 : (Jvm.Cond.soleField "RobotCellModel" "promisedParts") ∈ lw_all := lw_g (lw_at lw_m14 75 rfl) rfl
theorem q3289 : (Jvm.Cond.laysFinal "RobotCellModel" "RobotCellModel" "came" "[I") ∈ lw_all := lw_g (lw_at lw_m14 76 rfl) rfl
theorem q3290 : (Jvm.Cond.soleField "RobotCellModel" "came") ∈ lw_all := lw_g (lw_at lw_m14 77 rfl) rfl
theorem q3291 : (Jvm.Cond.laysFinal "RobotCellModel" "RobotCellModel" "gone" "[I") ∈ lw_all := lw_g (lw_at lw_m14 78 rfl) rfl
theorem q3292 : (Jvm.Cond.soleField "RobotCellModel" "gone") ∈ lw_all := lw_g (lw_at lw_m14 79 rfl) rfl
theorem q3293 : (Jvm.Cond.laysFinal "RobotCellModel" "RobotCellModel" "reach" "[I") ∈ lw_all := lw_g (lw_at lw_m14 80 rfl) rfl
theorem q3294 : (Jvm.Cond.soleField "RobotCellModel" "reach") ∈ lw_all := lw_g (lw_at lw_m14 81 rfl) rfl
theorem q3295 : (Jvm.Cond.laysFinal "RobotCellModel" "RobotCellModel" "rowMany" "[I") ∈ lw_all := lw_g (lw_at lw_m14 82 rfl) rfl
theorem q3296 : (Jvm.Cond.soleField "RobotCellModel" "rowMany") ∈ lw_all := lw_g (lw_at lw_m14 83 rfl) rfl
theorem q3297 : (Jvm.Cond.laysFinal "RobotCellModel" "RobotCellModel" "row" "[I") ∈ lw_all := lw_g (lw_at lw_m14 84 rfl) rfl
theorem q3298 : (Jvm.Cond.soleField "RobotCellModel" "row") ∈ lw_all := lw_g (lw_at lw_m14 85 rfl) rfl
theorem q3299 : (Jvm.Cond.laysFinal "RobotCellModel" "RobotCellModel" "active" "[I") ∈ lw_all := lw_g (lw_at lw_m14 86 rfl) rfl
theorem q3300 : (Jvm.Cond.soleField "RobotCellModel" "active") ∈ lw_all := lw_g (lw_at lw_m14 87 rfl) rfl
theorem q3301 : (Jvm.Cond.laysFinal "RobotCellModel" "RobotCellModel" "state" "[I") ∈ lw_all := lw_g (lw_at lw_m14 88 rfl) rfl
theorem q3302 : (Jvm.Cond.soleField "RobotCellModel" "state") ∈ lw_all := lw_g (lw_at lw_m14 89 rfl) rfl
theorem q3303 : (Jvm.Cond.laysFinal "RobotCellModel" "RobotCellModel" "pos" "[I") ∈ lw_all := lw_g (lw_at lw_m14 90 rfl) rfl
theorem q3304 : (Jvm.Cond.soleField "RobotCellModel" "pos") ∈ lw_all := lw_g (lw_at lw_m14 91 rfl) rfl
theorem q3305 : (Jvm.Cond.laysFinal "RobotCellModel" "RobotCellModel" "toGo" "[I") ∈ lw_all := lw_g (lw_at lw_m14 92 rfl) rfl
theorem q3306 : (Jvm.Cond.soleField "RobotCellModel" "toGo") ∈ lw_all := lw_g (lw_at lw_m14 93 rfl) rfl
theorem q3307 : (Jvm.Cond.laysFinal "RobotCellModel" "RobotCellModel" "patience" "[I") ∈ lw_all := lw_g (lw_at lw_m14 94 rfl) rfl
theorem q3308 : (Jvm.Cond.soleField "RobotCellModel" "patience") ∈ lw_all := lw_g (lw_at lw_m14 95 rfl) rfl
theorem q3309 : (Jvm.Cond.laysFinal "RobotCellModel" "RobotCellModel" "why" "[I") ∈ lw_all := lw_g (lw_at lw_m14 96 rfl) rfl
theorem q3310 : (Jvm.Cond.soleField "RobotCellModel" "why") ∈ lw_all := lw_g (lw_at lw_m14 97 rfl) rfl
theorem q3311 : (Jvm.Cond.laysFinal "RobotCellModel" "RobotCellModel" "detail" "[I") ∈ lw_all := lw_g (lw_at lw_m14 98 rfl) rfl
theorem q3312 : (Jvm.Cond.soleField "RobotCellModel" "detail") ∈ lw_all := lw_g (lw_at lw_m14 99 rfl) rfl
theorem q3313 : (Jvm.Cond.laysFinal "RobotCellModel" "RobotCellModel" "refusals" "[I") ∈ lw_all := lw_g (lw_at lw_m14 100 rfl) rfl
theorem q3314 : (Jvm.Cond.soleField "RobotCellModel" "refusals") ∈ lw_all := lw_g (lw_at lw_m14 101 rfl) rfl
theorem q3315 : (Jvm.Cond.laysFinal "RobotCellModel" "RobotCellModel" "busy" "[I") ∈ lw_all := lw_g (lw_at lw_m14 102 rfl) rfl
theorem q3316 : (Jvm.Cond.soleField "RobotCellModel" "busy") ∈ lw_all := lw_g (lw_at lw_m14 103 rfl) rfl
theorem q3317 : (Jvm.Cond.laysFinal "RobotCellModel" "RobotCellModel" "jobArm" "[I") ∈ lw_all := lw_g (lw_at lw_m14 104 rfl) rfl
theorem q3318 : (Jvm.Cond.soleField "RobotCellModel" "jobArm") ∈ lw_all := lw_g (lw_at lw_m14 105 rfl) rfl
theorem q3319 : (Jvm.Cond.laysFinal "RobotCellModel" "RobotCellModel" "jobPath" "[I") ∈ lw_all := lw_g (lw_at lw_m14 106 rfl) rfl
theorem q3320 : (Jvm.Cond.soleField "RobotCellModel" "jobPath") ∈ lw_all := lw_g (lw_at lw_m14 107 rfl) rfl
theorem q3321 : (Jvm.Cond.laysFinal "RobotCellModel" "RobotCellModel" "jobSize" "[I") ∈ lw_all := lw_g (lw_at lw_m14 108 rfl) rfl
theorem q3322 : (Jvm.Cond.soleField "RobotCellModel" "jobSize") ∈ lw_all := lw_g (lw_at lw_m14 109 rfl) rfl
theorem q3323 : (Jvm.Cond.laysFinal "RobotCellModel" "RobotCellModel" "jobWork" "[I") ∈ lw_all := lw_g (lw_at lw_m14 110 rfl) rfl
theorem q3324 : (Jvm.Cond.soleField "RobotCellModel" "jobWork") ∈ lw_all := lw_g (lw_at lw_m14 111 rfl) rfl
theorem q3325 : (Jvm.Cond.laysFinal "RobotCellModel" "RobotCellModel" "jobWeight" "[I") ∈ lw_all := lw_g (lw_at lw_m14 112 rfl) rfl
theorem q3326 : (Jvm.Cond.soleField "RobotCellModel" "jobWeight") ∈ lw_all := lw_g (lw_at lw_m14 113 rfl) rfl
theorem q3327 : (Jvm.Cond.laysFinal "RobotCellModel" "RobotCellModel" "jobSource" "[I") ∈ lw_all := lw_g (lw_at lw_m14 114 rfl) rfl
theorem q3328 : (Jvm.Cond.soleField "RobotCellModel" "jobSource") ∈ lw_all := lw_g (lw_at lw_m14 115 rfl) rfl
theorem q3329 : (Jvm.Cond.laysFinal "RobotCellModel" "RobotCellModel" "jobTarget" "[I") ∈ lw_all := lw_g (lw_at lw_m14 116 rfl) rfl
theorem q3330 : (Jvm.Cond.soleField "RobotCellModel" "jobTarget") ∈ lw_all := lw_g (lw_at lw_m14 117 rfl) rfl
theorem q3331 : (Jvm.Cond.laysFinal "RobotCellModel" "RobotCellModel" "jobState" "[I") ∈ lw_all := lw_g (lw_at lw_m14 118 rfl) rfl
theorem q3332 : (Jvm.Cond.soleField "RobotCellModel" "jobState") ∈ lw_all := lw_g (lw_at lw_m14 119 rfl) rfl
theorem q3333 : (Jvm.Cond.laysFinal "RobotCellModel" "RobotCellModel" "startedAt" "[I") ∈ lw_all := lw_g (lw_at lw_m14 120 rfl) rfl
theorem q3334 : (Jvm.Cond.soleField "RobotCellModel" "startedAt") ∈ lw_all := lw_g (lw_at lw_m14 121 rfl) rfl
theorem q3335 : (Jvm.Cond.laysFinal "RobotCellModel" "RobotCellModel" "endedAt" "[I") ∈ lw_all := lw_g (lw_at lw_m14 122 rfl) rfl
theorem q3336 : (Jvm.Cond.soleField "RobotCellModel" "endedAt") ∈ lw_all := lw_g (lw_at lw_m14 123 rfl) rfl
theorem q3337 : (Jvm.Cond.laysFinal "RobotCellModel" "RobotCellModel" "log" "[I") ∈ lw_all := lw_g (lw_at lw_m14 124 rfl) rfl
theorem q3338 : (Jvm.Cond.soleField "RobotCellModel" "log") ∈ lw_all := lw_g (lw_at lw_m14 125 rfl) rfl
theorem q3339 : (Jvm.Cond.lays "RobotCellModel" "RobotCellModel" "time" "I") ∈ lw_all := lw_g (lw_at lw_m14 126 rfl) rfl
theorem q3340 : (Jvm.Cond.soleField "RobotCellModel" "time") ∈ lw_all := lw_g (lw_at lw_m14 127 rfl) rfl
theorem q3341 : (Jvm.Cond.lays "RobotCellModel" "RobotCellModel" "jobs" "I") ∈ lw_all := lw_g (lw_at lw_m14 128 rfl) rfl
theorem q3342 : (Jvm.Cond.soleField "RobotCellModel" "jobs") ∈ lw_all := lw_g (lw_at lw_m14 129 rfl) rfl
theorem q3343 : (Jvm.Cond.lays "RobotCellModel" "RobotCellModel" "newParts" "I") ∈ lw_all := lw_g (lw_at lw_m14 130 rfl) rfl
theorem q3344 : (Jvm.Cond.soleField "RobotCellModel" "newParts") ∈ lw_all := lw_g (lw_at lw_m14 131 rfl) rfl
theorem q3345 : (Jvm.Cond.lays "RobotCellModel" "RobotCellModel" "lostParts" "I") ∈ lw_all := lw_g (lw_at lw_m14 132 rfl) rfl
theorem q3346 : (Jvm.Cond.soleField "RobotCellModel" "lostParts") ∈ lw_all := lw_g (lw_at lw_m14 133 rfl) rfl
theorem q3347 : (Jvm.Cond.lays "RobotCellModel" "RobotCellModel" "ended" "I") ∈ lw_all := lw_g (lw_at lw_m14 134 rfl) rfl
theorem q3348 : (Jvm.Cond.soleField "RobotCellModel" "ended") ∈ lw_all := lw_g (lw_at lw_m14 135 rfl) rfl
theorem q3349 : (Jvm.Cond.lays "RobotCellModel" "RobotCellModel" "withdrawn" "I") ∈ lw_all := lw_g (lw_at lw_m14 136 rfl) rfl
theorem q3350 : (Jvm.Cond.soleField "RobotCellModel" "withdrawn") ∈ lw_all := lw_g (lw_at lw_m14 137 rfl) rfl
theorem q3351 : (Jvm.Cond.lays "RobotCellModel" "RobotCellModel" "durations" "I") ∈ lw_all := lw_g (lw_at lw_m14 138 rfl) rfl
theorem q3352 : (Jvm.Cond.soleField "RobotCellModel" "durations") ∈ lw_all := lw_g (lw_at lw_m14 139 rfl) rfl
theorem q3353 : (Jvm.Cond.lays "RobotCellModel" "RobotCellModel" "logMany" "I") ∈ lw_all := lw_g (lw_at lw_m14 140 rfl) rfl
theorem q3354 : (Jvm.Cond.soleField "RobotCellModel" "logMany") ∈ lw_all := lw_g (lw_at lw_m14 141 rfl) rfl
theorem q3355 : (Jvm.Cond.laysFinal "RobotCellModel" "RobotCellModel" "heldBy" "[I") ∈ lw_all := lw_g (lw_at lw_m14 142 rfl) rfl
theorem q3356 : (Jvm.Cond.soleField "RobotCellModel" "heldBy") ∈ lw_all := lw_g (lw_at lw_m14 143 rfl) rfl
theorem q3357 : (Jvm.Cond.laysFinal "RobotCellModel" "RobotCellModel" "jobOf" "[I") ∈ lw_all := lw_g (lw_at lw_m14 144 rfl) rfl
theorem q3358 : (Jvm.Cond.soleField "RobotCellModel" "jobOf") ∈ lw_all := lw_g (lw_at lw_m14 145 rfl) rfl
theorem q3359 : (Jvm.Cond.laysFinal "RobotCellModel" "RobotCellModel" "firstOf" "[I") ∈ lw_all := lw_g (lw_at lw_m14 146 rfl) rfl
theorem q3360 : (Jvm.Cond.soleField "RobotCellModel" "firstOf") ∈ lw_all := lw_g (lw_at lw_m14 147 rfl) rfl
theorem q3361 : (Jvm.Cond.lays "RobotCellModel" "RobotCellModel" "reasonNow" "I") ∈ lw_all := lw_g (lw_at lw_m14 148 rfl) rfl
theorem q3362 : (Jvm.Cond.soleField "RobotCellModel" "reasonNow") ∈ lw_all := lw_g (lw_at lw_m14 149 rfl) rfl
theorem q3363 : (Jvm.Cond.lays "RobotCellModel" "RobotCellModel" "detailNow" "I") ∈ lw_all := lw_g (lw_at lw_m14 150 rfl) rfl
theorem q3364 : (Jvm.Cond.soleField "RobotCellModel" "detailNow") ∈ lw_all := lw_g (lw_at lw_m14 151 rfl) rfl
theorem q3365 : (Jvm.Cond.lays "RobotCellModel" "RobotCellModel" "isRefusedNow" "Z") ∈ lw_all := lw_g (lw_at lw_m14 152 rfl) rfl
theorem q3366 : (Jvm.Cond.soleField "RobotCellModel" "isRefusedNow") ∈ lw_all := lw_g (lw_at lw_m14 153 rfl) rfl
theorem q3367 : (Jvm.Cond.laysFinal "RobotCellModel" "RobotCellModel" "turn" "[I") ∈ lw_all := lw_g (lw_at lw_m14 154 rfl) rfl
theorem q3368 : (Jvm.Cond.soleField "RobotCellModel" "turn") ∈ lw_all := lw_g (lw_at lw_m14 155 rfl) rfl
theorem q3369 : (Jvm.Cond.laysFinal "RobotCellModel" "RobotCellModel" "text" "[I") ∈ lw_all := lw_g (lw_at lw_m14 156 rfl) rfl
theorem q3370 : (Jvm.Cond.soleField "RobotCellModel" "text") ∈ lw_all := lw_g (lw_at lw_m14 157 rfl) rfl
theorem q3371 : (Jvm.Cond.laysFinal "RobotCellModel" "RobotCellModel" "kind" "[I") ∈ lw_all := lw_g (lw_at lw_m14 158 rfl) rfl
theorem q3372 : (Jvm.Cond.soleField "RobotCellModel" "kind") ∈ lw_all := lw_g (lw_at lw_m14 159 rfl) rfl
theorem q3373 : (Jvm.Cond.laysFinal "RobotCellModel" "RobotCellModel" "number" "[I") ∈ lw_all := lw_g (lw_at lw_m14 160 rfl) rfl
theorem q3374 : (Jvm.Cond.soleField "RobotCellModel" "number") ∈ lw_all := lw_g (lw_at lw_m14 161 rfl) rfl
theorem q3375 : (Jvm.Cond.lays "RobotCellModel" "RobotCellModel" "length" "I") ∈ lw_all := lw_g (lw_at lw_m14 162 rfl) rfl
theorem q3376 : (Jvm.Cond.soleField "RobotCellModel" "length") ∈ lw_all := lw_g (lw_at lw_m14 163 rfl) rfl
theorem q3377 : (Jvm.Cond.lays "RobotCellModel" "RobotCellModel" "at" "I") ∈ lw_all := lw_g (lw_at lw_m14 164 rfl) rfl
theorem q3378 : (Jvm.Cond.soleField "RobotCellModel" "at") ∈ lw_all := lw_g (lw_at lw_m14 165 rfl) rfl
theorem q3379 : (Jvm.Cond.lays "RobotCellModel" "RobotCellModel" "commands" "I") ∈ lw_all := lw_g (lw_at lw_m14 166 rfl) rfl
theorem q3380 : (Jvm.Cond.soleField "RobotCellModel" "commands") ∈ lw_all := lw_g (lw_at lw_m14 167 rfl) rfl
theorem q3381 : (Jvm.Cond.lays "RobotCellModel" "RobotCellModel" "digit" "I") ∈ lw_all := lw_g (lw_at lw_m14 168 rfl) rfl
theorem q3382 : (Jvm.Cond.soleField "RobotCellModel" "digit") ∈ lw_all := lw_g (lw_at lw_m14 169 rfl) rfl
theorem q3383 : (Jvm.Cond.laysFinal "RobotCellModel" "RobotCellModel" "earlier" "[I") ∈ lw_all := lw_g (lw_at lw_m14 170 rfl) rfl
theorem q3384 : (Jvm.Cond.soleField "RobotCellModel" "earlier") ∈ lw_all := lw_g (lw_at lw_m14 171 rfl) rfl
theorem q3385 : (Jvm.Cond.laysFinal "RobotCellModel" "RobotCellModel" "saved" "[I") ∈ lw_all := lw_g (lw_at lw_m14 172 rfl) rfl
theorem q3386 : (Jvm.Cond.soleField "RobotCellModel" "saved") ∈ lw_all := lw_g (lw_at lw_m14 173 rfl) rfl
theorem q3387 : (Jvm.Cond.laysFinal "RobotCellModel" "RobotCellModel" "scratch" "[I") ∈ lw_all := lw_g (lw_at lw_m14 174 rfl) rfl
theorem q3388 : (Jvm.Cond.soleField "RobotCellModel" "scratch") ∈ lw_all := lw_g (lw_at lw_m14 175 rfl) rfl
theorem q3389 : (Jvm.Cond.laysFinal "RobotCellModel" "RobotCellModel" "undone" "[I") ∈ lw_all := lw_g (lw_at lw_m14 176 rfl) rfl
theorem q3390 : (Jvm.Cond.soleField "RobotCellModel" "undone") ∈ lw_all := lw_g (lw_at lw_m14 177 rfl) rfl
theorem q3391 : (Jvm.Cond.lays "RobotCellModel" "RobotCellModel" "changes" "I") ∈ lw_all := lw_g (lw_at lw_m14 178 rfl) rfl
theorem q3392 : (Jvm.Cond.soleField "RobotCellModel" "changes") ∈ lw_all := lw_g (lw_at lw_m14 179 rfl) rfl
theorem q3393 : (Jvm.Cond.lays "RobotCellModel" "RobotCellModel" "cursor" "I") ∈ lw_all := lw_g (lw_at lw_m14 180 rfl) rfl
theorem q3394 : (Jvm.Cond.soleField "RobotCellModel" "cursor") ∈ lw_all := lw_g (lw_at lw_m14 181 rfl) rfl
theorem q3395 : (Jvm.Cond.lays "RobotCellModel" "RobotCellModel" "isSaved" "Z") ∈ lw_all := lw_g (lw_at lw_m14 182 rfl) rfl
theorem q3396 : (Jvm.Cond.soleField "RobotCellModel" "isSaved") ∈ lw_all := lw_g (lw_at lw_m14 183 rfl) rfl
theorem q3397 : (Jvm.Cond.lays "RobotCellModel" "RobotCellModel" "isKeeping" "Z") ∈ lw_all := lw_g (lw_at lw_m14 184 rfl) rfl
theorem q3398 : (Jvm.Cond.soleField "RobotCellModel" "isKeeping") ∈ lw_all := lw_g (lw_at lw_m14 185 rfl) rfl
theorem q3399 : (Jvm.Cond.superclass "RobotCellModel" "java/lang/Object") ∈ lw_all := lw_g (lw_at lw_m14 186 rfl) rfl
theorem q3401 : (Jvm.Cond.instanceMethod ({ cls := "RobotCellModel", name := "thrown", desc := "()I" } : Jvm.MethodName)) ∈ lw_all := lw_g (lw_at lw_m14 188 rfl) rfl
theorem q3402 : (Jvm.Cond.selects "RobotCellModel" ({ cls := "RobotCellModel", name := "thrown", desc := "()I" } : Jvm.MethodName) ({ cls := "RobotCellModel", name := "thrown", desc := "()I" } : Jvm.MethodName)) ∈ lw_all := lw_g (lw_at lw_m14 189 rfl) rfl
theorem q3403 : (Jvm.Cond.code ({ cls := "RobotCellModel", name := "thrown", desc := "()I" } : Jvm.MethodName) prog_18_method_2_code (1 : Nat) (Option.some Jvm.ClassFile.FieldType.int)) ∈ lw_all := lw_g (lw_at lw_m14 190 rfl) rfl
theorem q3405 : (Jvm.Cond.instanceMethod ({ cls := "RobotCellModel", name := "setInterlock", desc := "(IIZ)Z" } : Jvm.MethodName)) ∈ lw_all := lw_g (lw_at lw_m14 192 rfl) rfl
theorem q3406 : (Jvm.Cond.selects "RobotCellModel" ({ cls := "RobotCellModel", name := "setInterlock", desc := "(IIZ)Z" } : Jvm.MethodName) ({ cls := "RobotCellModel", name := "setInterlock", desc := "(IIZ)Z" } : Jvm.MethodName)) ∈ lw_all := lw_g (lw_at lw_m14 193 rfl) rfl
theorem q3407 : (Jvm.Cond.code ({ cls := "RobotCellModel", name := "setInterlock", desc := "(IIZ)Z" } : Jvm.MethodName) prog_18_method_34_code (5 : Nat) (Option.some Jvm.ClassFile.FieldType.boolean)) ∈ lw_all := lw_g (lw_at lw_m14 194 rfl) rfl
theorem q3408 : (Jvm.Cond.methodLink "RobotCellModel" (254 : Nat) ({ cls := "RobotCellModel", name := "notLocked", desc := "(IIZ)I" } : Jvm.MethodName)) ∈ lw_all := lw_g (lw_at lw_m14 195 rfl) rfl
theorem q3409 : (Jvm.Cond.privateMethod ({ cls := "RobotCellModel", name := "notLocked", desc := "(IIZ)I" } : Jvm.MethodName)) ∈ lw_tbl := lw_at lw_m14 196 rfl
theorem q3410 : (Jvm.Cond.instanceMethod ({ cls := "RobotCellModel", name := "notLocked", desc := "(IIZ)I" } : Jvm.MethodName)) ∈ lw_all := lw_g (lw_at lw_m14 197 rfl) rfl
theorem q3411 : (Jvm.Cond.code ({ cls := "RobotCellModel", name := "notLocked", desc := "(IIZ)I" } : Jvm.MethodName) prog_18_method_33_code (6 : Nat) (Option.some Jvm.ClassFile.FieldType.int)) ∈ lw_all := lw_g (lw_at lw_m14 198 rfl) rfl
theorem q3412 : (Jvm.Cond.methodLink "RobotCellModel" (248 : Nat) ({ cls := "RobotCellModel", name := "isZone", desc := "(I)Z" } : Jvm.MethodName)) ∈ lw_all := lw_g (lw_at lw_m14 199 rfl) rfl
theorem q3413 : (Jvm.Cond.static ({ cls := "RobotCellModel", name := "isZone", desc := "(I)Z" } : Jvm.MethodName)) ∈ lw_all := lw_g (lw_at lw_m14 200 rfl) rfl
theorem q3414 : (Jvm.Cond.code ({ cls := "RobotCellModel", name := "isZone", desc := "(I)Z" } : Jvm.MethodName) prog_18_method_6_code (1 : Nat) (Option.some Jvm.ClassFile.FieldType.boolean)) ∈ lw_all := lw_g (lw_at lw_m14 201 rfl) rfl
theorem q3415 : (Jvm.Cond.methodLink "RobotCellModel" (143 : Nat) ({ cls := "RobotCellModel", name := "isBetween", desc := "(III)Z" } : Jvm.MethodName)) ∈ lw_all := lw_g (lw_at lw_m14 202 rfl) rfl
theorem q3416 : (Jvm.Cond.static ({ cls := "RobotCellModel", name := "isBetween", desc := "(III)Z" } : Jvm.MethodName)) ∈ lw_all := lw_g (lw_at lw_m14 203 rfl) rfl
theorem q3417 : (Jvm.Cond.code ({ cls := "RobotCellModel", name := "isBetween", desc := "(III)Z" } : Jvm.MethodName) prog_18_method_5_code (3 : Nat) (Option.some Jvm.ClassFile.FieldType.boolean)) ∈ lw_all := lw_g (lw_at lw_m14 204 rfl) rfl
theorem q3418 : (Jvm.Cond.methodLink "RobotCellModel" (251 : Nat) ({ cls := "RobotCellModel", name := "holderOf", desc := "(I)I" } : Jvm.MethodName)) ∈ lw_all := lw_g (lw_at lw_m14 205 rfl) rfl
theorem q3419 : (Jvm.Cond.privateMethod ({ cls := "RobotCellModel", name := "holderOf", desc := "(I)I" } : Jvm.MethodName)) ∈ lw_tbl := lw_at lw_m14 206 rfl
theorem q3420 : (Jvm.Cond.instanceMethod ({ cls := "RobotCellModel", name := "holderOf", desc := "(I)I" } : Jvm.MethodName)) ∈ lw_all := lw_g (lw_at lw_m14 207 rfl) rfl
theorem q3421 : (Jvm.Cond.code ({ cls := "RobotCellModel", name := "holderOf", desc := "(I)I" } : Jvm.MethodName) prog_18_method_31_code (3 : Nat) (Option.some Jvm.ClassFile.FieldType.int)) ∈ lw_all := lw_g (lw_at lw_m14 208 rfl) rfl
theorem q3422 : (Jvm.Cond.methodLink "RobotCellModel" (161 : Nat) ({ cls := "RobotCellModel", name := "holds", desc := "(I)I" } : Jvm.MethodName)) ∈ lw_all := lw_g (lw_at lw_m14 209 rfl) rfl
theorem q3423 : (Jvm.Cond.privateMethod ({ cls := "RobotCellModel", name := "holds", desc := "(I)I" } : Jvm.MethodName)) ∈ lw_tbl := lw_at lw_m14 210 rfl
theorem q3424 : (Jvm.Cond.instanceMethod ({ cls := "RobotCellModel", name := "holds", desc := "(I)I" } : Jvm.MethodName)) ∈ lw_all := lw_g (lw_at lw_m14 211 rfl) rfl
theorem q3425 : (Jvm.Cond.code ({ cls := "RobotCellModel", name := "holds", desc := "(I)I" } : Jvm.MethodName) prog_18_method_12_code (3 : Nat) (Option.some Jvm.ClassFile.FieldType.int)) ∈ lw_all := lw_g (lw_at lw_m14 212 rfl) rfl
theorem q3426 : (Jvm.Cond.methodLink "RobotCellModel" (151 : Nat) ({ cls := "RobotCellModel", name := "zoneOf", desc := "(I)I" } : Jvm.MethodName)) ∈ lw_all := lw_g (lw_at lw_m14 213 rfl) rfl
theorem q3427 : (Jvm.Cond.privateMethod ({ cls := "RobotCellModel", name := "zoneOf", desc := "(I)I" } : Jvm.MethodName)) ∈ lw_tbl := lw_at lw_m14 214 rfl
theorem q3428 : (Jvm.Cond.instanceMethod ({ cls := "RobotCellModel", name := "zoneOf", desc := "(I)I" } : Jvm.MethodName)) ∈ lw_all := lw_g (lw_at lw_m14 215 rfl) rfl
theorem q3429 : (Jvm.Cond.code ({ cls := "RobotCellModel", name := "zoneOf", desc := "(I)I" } : Jvm.MethodName) prog_18_method_11_code (2 : Nat) (Option.some Jvm.ClassFile.FieldType.int)) ∈ lw_all := lw_g (lw_at lw_m14 216 rfl) rfl
theorem q3430 : (Jvm.Cond.methodLink "RobotCellModel" (147 : Nat) ({ cls := "RobotCellModel", name := "zoneAt", desc := "(II)I" } : Jvm.MethodName)) ∈ lw_all := lw_g (lw_at lw_m14 217 rfl) rfl
theorem q3431 : (Jvm.Cond.privateMethod ({ cls := "RobotCellModel", name := "zoneAt", desc := "(II)I" } : Jvm.MethodName)) ∈ lw_tbl := lw_at lw_m14 218 rfl
theorem q3432 : (Jvm.Cond.instanceMethod ({ cls := "RobotCellModel", name := "zoneAt", desc := "(II)I" } : Jvm.MethodName)) ∈ lw_all := lw_g (lw_at lw_m14 219 rfl) rfl
theorem q3433 : (Jvm.Cond.code ({ cls := "RobotCellModel", name := "zoneAt", desc := "(II)I" } : Jvm.MethodName) prog_18_method_10_code (5 : Nat) (Option.some Jvm.ClassFile.FieldType.int)) ∈ lw_all := lw_g (lw_at lw_m14 220 rfl) rfl
theorem q3434 : (Jvm.Cond.methodLink "RobotCellModel" (245 : Nat) ({ cls := "RobotCellModel", name := "has", desc := "(II)Z" } : Jvm.MethodName)) ∈ lw_all := lw_g (lw_at lw_m14 221 rfl) rfl
theorem q3435 : (Jvm.Cond.static ({ cls := "RobotCellModel", name := "has", desc := "(II)Z" } : Jvm.MethodName)) ∈ lw_all := lw_g (lw_at lw_m14 222 rfl) rfl
theorem q3436 : (Jvm.Cond.code ({ cls := "RobotCellModel", name := "has", desc := "(II)Z" } : Jvm.MethodName) prog_18_method_9_code (2 : Nat) (Option.some Jvm.ClassFile.FieldType.boolean)) ∈ lw_all := lw_g (lw_at lw_m14 223 rfl) rfl
theorem q3437 : (Jvm.Cond.methodLink "RobotCellModel" (258 : Nat) ({ cls := "RobotCellModel", name := "remembers", desc := "()V" } : Jvm.MethodName)) ∈ lw_all := lw_g (lw_at lw_m14 224 rfl) rfl
theorem q3438 : (Jvm.Cond.privateMethod ({ cls := "RobotCellModel", name := "remembers", desc := "()V" } : Jvm.MethodName)) ∈ lw_tbl := lw_at lw_m14 225 rfl
theorem q3439 : (Jvm.Cond.instanceMethod ({ cls := "RobotCellModel", name := "remembers", desc := "()V" } : Jvm.MethodName)) ∈ lw_all := lw_g (lw_at lw_m14 226 rfl) rfl
theorem q3440 : (Jvm.Cond.code ({ cls := "RobotCellModel", name := "remembers", desc := "()V" } : Jvm.MethodName) prog_18_method_81_code (2 : Nat) (Option.none : Option Jvm.ClassFile.FieldType)) ∈ lw_all := lw_g (lw_at lw_m14 227 rfl) rfl
theorem q3441 : (Jvm.Cond.methodLink "RobotCellModel" (300 : Nat) ({ cls := "RobotCellModel", name := "passAll", desc := "([IIZ)V" } : Jvm.MethodName)) ∈ lw_all := lw_g (lw_at lw_m14 228 rfl) rfl
theorem q3442 : (Jvm.Cond.privateMethod ({ cls := "RobotCellModel", name := "passAll", desc := "([IIZ)V" } : Jvm.MethodName)) ∈ lw_tbl := lw_at lw_m14 229 rfl
theorem q3443 : (Jvm.Cond.instanceMethod ({ cls := "RobotCellModel", name := "passAll", desc := "([IIZ)V" } : Jvm.MethodName)) ∈ lw_all := lw_g (lw_at lw_m14 230 rfl) rfl
theorem q3444 : (Jvm.Cond.code ({ cls := "RobotCellModel", name := "passAll", desc := "([IIZ)V" } : Jvm.MethodName) prog_18_method_80_code (4 : Nat) (Option.none : Option Jvm.ClassFile.FieldType)) ∈ lw_all := lw_g (lw_at lw_m14 231 rfl) rfl
theorem q3445 : (Jvm.Cond.methodLink "RobotCellModel" (363 : Nat) ({ cls := "RobotCellModel", name := "passes", desc := "([I[I)V" } : Jvm.MethodName)) ∈ lw_all := lw_g (lw_at lw_m14 232 rfl) rfl
theorem q3446 : (Jvm.Cond.privateMethod ({ cls := "RobotCellModel", name := "passes", desc := "([I[I)V" } : Jvm.MethodName)) ∈ lw_tbl := lw_at lw_m14 233 rfl
theorem q3447 : (Jvm.Cond.instanceMethod ({ cls := "RobotCellModel", name := "passes", desc := "([I[I)V" } : Jvm.MethodName)) ∈ lw_all := lw_g (lw_at lw_m14 234 rfl) rfl
theorem q3448 : (Jvm.Cond.code ({ cls := "RobotCellModel", name := "passes", desc := "([I[I)V" } : Jvm.MethodName) prog_18_method_76_code (4 : Nat) (Option.none : Option Jvm.ClassFile.FieldType)) ∈ lw_all := lw_g (lw_at lw_m14 235 rfl) rfl
theorem q3449 : (Jvm.Cond.methodLink "RobotCellModel" (367 : Nat) ({ cls := "RobotCellModel", name := "passArms", desc := "([I)V" } : Jvm.MethodName)) ∈ lw_all := lw_g (lw_at lw_m14 236 rfl) rfl
theorem q3450 : (Jvm.Cond.privateMethod ({ cls := "RobotCellModel", name := "passArms", desc := "([I)V" } : Jvm.MethodName)) ∈ lw_tbl := lw_at lw_m14 237 rfl
theorem q3451 : (Jvm.Cond.instanceMethod ({ cls := "RobotCellModel", name := "passArms", desc := "([I)V" } : Jvm.MethodName)) ∈ lw_all := lw_g (lw_at lw_m14 238 rfl) rfl
theorem q3452 : (Jvm.Cond.code ({ cls := "RobotCellModel", name := "passArms", desc := "([I)V" } : Jvm.MethodName) prog_18_method_78_code (2 : Nat) (Option.none : Option Jvm.ClassFile.FieldType)) ∈ lw_all := lw_g (lw_at lw_m14 239 rfl) rfl
theorem q3453 : (Jvm.Cond.methodLink "RobotCellModel" (371 : Nat) ({ cls := "RobotCellModel", name := "passJobs", desc := "([I)V" } : Jvm.MethodName)) ∈ lw_all := lw_g (lw_at lw_m15 0 rfl) rfl
theorem q3454 : (Jvm.Cond.privateMethod ({ cls := "RobotCellModel", name := "passJobs", desc := "([I)V" } : Jvm.MethodName)) ∈ lw_tbl := lw_at lw_m15 1 rfl
theorem q3455 : (Jvm.Cond.instanceMethod ({ cls := "RobotCellModel", name := "passJobs", desc := "([I)V" } : Jvm.MethodName)) ∈ lw_all := lw_g (lw_at lw_m15 2 rfl) rfl
theorem q3456 : (Jvm.Cond.code ({ cls := "RobotCellModel", name := "passJobs", desc := "([I)V" } : Jvm.MethodName) prog_18_method_79_code (2 : Nat) (Option.none : Option Jvm.ClassFile.FieldType)) ∈ lw_all := lw_g (lw_at lw_m15 3 rfl) rfl
theorem q3457 : (Jvm.Cond.methodLink "RobotCellModel" (374 : Nat) ({ cls := "RobotCellModel", name := "pass", desc := "(I[I)I" } : Jvm.MethodName)) ∈ lw_all := lw_g (lw_at lw_m15 4 rfl) rfl
theorem q3458 : (Jvm.Cond.privateMethod ({ cls := "RobotCellModel", name := "pass", desc := "(I[I)I" } : Jvm.MethodName)) ∈ lw_tbl := lw_at lw_m15 5 rfl
theorem q3459 : (Jvm.Cond.instanceMethod ({ cls := "RobotCellModel", name := "pass", desc := "(I[I)I" } : Jvm.MethodName)) ∈ lw_all := lw_g (lw_at lw_m15 6 rfl) rfl
theorem q3460 : (Jvm.Cond.code ({ cls := "RobotCellModel", name := "pass", desc := "(I[I)I" } : Jvm.MethodName) prog_18_method_77_code (4 : Nat) (Option.some Jvm.ClassFile.FieldType.int)) ∈ lw_all := lw_g (lw_at lw_m15 7 rfl) rfl
theorem q3461 : (Jvm.Cond.methodLink "RobotCellModel" (261 : Nat) ({ cls := "RobotCellModel", name := "locks", desc := "(IIZ)V" } : Jvm.MethodName)) ∈ lw_all := lw_g (lw_at lw_m15 8 rfl) rfl
theorem q3462 : (Jvm.Cond.privateMethod ({ cls := "RobotCellModel", name := "locks", desc := "(IIZ)V" } : Jvm.MethodName)) ∈ lw_tbl := lw_at lw_m15 9 rfl
theorem q3463 : (Jvm.Cond.instanceMethod ({ cls := "RobotCellModel", name := "locks", desc := "(IIZ)V" } : Jvm.MethodName)) ∈ lw_all := lw_g (lw_at lw_m15 10 rfl) rfl
theorem q3464 : (Jvm.Cond.code ({ cls := "RobotCellModel", name := "locks", desc := "(IIZ)V" } : Jvm.MethodName) prog_18_method_32_code (4 : Nat) (Option.none : Option Jvm.ClassFile.FieldType)) ∈ lw_all := lw_g (lw_at lw_m15 11 rfl) rfl
theorem q3466 : (Jvm.Cond.instanceMethod ({ cls := "RobotCellModel", name := "setReach", desc := "(II)I" } : Jvm.MethodName)) ∈ lw_all := lw_g (lw_at lw_m15 13 rfl) rfl
theorem q3467 : (Jvm.Cond.selects "RobotCellModel" ({ cls := "RobotCellModel", name := "setReach", desc := "(II)I" } : Jvm.MethodName) ({ cls := "RobotCellModel", name := "setReach", desc := "(II)I" } : Jvm.MethodName)) ∈ lw_all := lw_g (lw_at lw_m15 14 rfl) rfl
theorem q3468 : (Jvm.Cond.code ({ cls := "RobotCellModel", name := "setReach", desc := "(II)I" } : Jvm.MethodName) prog_18_method_35_code (4 : Nat) (Option.some Jvm.ClassFile.FieldType.int)) ∈ lw_all := lw_g (lw_at lw_m15 15 rfl) rfl
theorem q3469 : (Jvm.Cond.methodLink "RobotCellModel" (265 : Nat) ({ cls := "RobotCellModel", name := "isArm", desc := "(I)Z" } : Jvm.MethodName)) ∈ lw_all := lw_g (lw_at lw_m15 16 rfl) rfl
theorem q3470 : (Jvm.Cond.static ({ cls := "RobotCellModel", name := "isArm", desc := "(I)Z" } : Jvm.MethodName)) ∈ lw_all := lw_g (lw_at lw_m15 17 rfl) rfl
theorem q3471 : (Jvm.Cond.code ({ cls := "RobotCellModel", name := "isArm", desc := "(I)Z" } : Jvm.MethodName) prog_18_method_7_code (1 : Nat) (Option.some Jvm.ClassFile.FieldType.boolean)) ∈ lw_all := lw_g (lw_at lw_m15 18 rfl) rfl
theorem q3472 : (Jvm.Cond.methodLink "RobotCellModel" (268 : Nat) ({ cls := "RobotCellModel", name := "fails", desc := "(I)I" } : Jvm.MethodName)) ∈ lw_all := lw_g (lw_at lw_m15 19 rfl) rfl
theorem q3473 : (Jvm.Cond.privateMethod ({ cls := "RobotCellModel", name := "fails", desc := "(I)I" } : Jvm.MethodName)) ∈ lw_tbl := lw_at lw_m15 20 rfl
theorem q3474 : (Jvm.Cond.instanceMethod ({ cls := "RobotCellModel", name := "fails", desc := "(I)I" } : Jvm.MethodName)) ∈ lw_all := lw_g (lw_at lw_m15 21 rfl) rfl
theorem q3475 : (Jvm.Cond.code ({ cls := "RobotCellModel", name := "fails", desc := "(I)I" } : Jvm.MethodName) prog_18_method_3_code (2 : Nat) (Option.some Jvm.ClassFile.FieldType.int)) ∈ lw_all := lw_g (lw_at lw_m15 22 rfl) rfl
theorem q3477 : (Jvm.Cond.instanceMethod ({ cls := "RobotCellModel", name := "setCapacity", desc := "(II)I" } : Jvm.MethodName)) ∈ lw_all := lw_g (lw_at lw_m15 24 rfl) rfl
theorem q3478 : (Jvm.Cond.selects "RobotCellModel" ({ cls := "RobotCellModel", name := "setCapacity", desc := "(II)I" } : Jvm.MethodName) ({ cls := "RobotCellModel", name := "setCapacity", desc := "(II)I" } : Jvm.MethodName)) ∈ lw_all := lw_g (lw_at lw_m15 25 rfl) rfl
theorem q3479 : (Jvm.Cond.code ({ cls := "RobotCellModel", name := "setCapacity", desc := "(II)I" } : Jvm.MethodName) prog_18_method_36_code (4 : Nat) (Option.some Jvm.ClassFile.FieldType.int)) ∈ lw_all := lw_g (lw_at lw_m15 26 rfl) rfl
theorem q3480 : (Jvm.Cond.methodLink "RobotCellModel" (271 : Nat) ({ cls := "RobotCellModel", name := "isBuffer", desc := "(I)Z" } : Jvm.MethodName)) ∈ lw_all := lw_g (lw_at lw_m15 27 rfl) rfl
theorem q3481 : (Jvm.Cond.static ({ cls := "RobotCellModel", name := "isBuffer", desc := "(I)Z" } : Jvm.MethodName)) ∈ lw_all := lw_g (lw_at lw_m15 28 rfl) rfl
theorem q3482 : (Jvm.Cond.code ({ cls := "RobotCellModel", name := "isBuffer", desc := "(I)Z" } : Jvm.MethodName) prog_18_method_8_code (1 : Nat) (Option.some Jvm.ClassFile.FieldType.boolean)) ∈ lw_all := lw_g (lw_at lw_m15 29 rfl) rfl
theorem q3484 : (Jvm.Cond.instanceMethod ({ cls := "RobotCellModel", name := "supply", desc := "(I)I" } : Jvm.MethodName)) ∈ lw_all := lw_g (lw_at lw_m15 31 rfl) rfl
theorem q3485 : (Jvm.Cond.selects "RobotCellModel" ({ cls := "RobotCellModel", name := "supply", desc := "(I)I" } : Jvm.MethodName) ({ cls := "RobotCellModel", name := "supply", desc := "(I)I" } : Jvm.MethodName)) ∈ lw_all := lw_g (lw_at lw_m15 32 rfl) rfl
theorem q3486 : (Jvm.Cond.code ({ cls := "RobotCellModel", name := "supply", desc := "(I)I" } : Jvm.MethodName) prog_18_method_37_code (2 : Nat) (Option.some Jvm.ClassFile.FieldType.int)) ∈ lw_all := lw_g (lw_at lw_m15 33 rfl) rfl
theorem q3487 : (Jvm.Cond.methodLink "RobotCellModel" (226 : Nat) ({ cls := "RobotCellModel", name := "comesPart", desc := "(II)V" } : Jvm.MethodName)) ∈ lw_all := lw_g (lw_at lw_m15 34 rfl) rfl
theorem q3488 : (Jvm.Cond.privateMethod ({ cls := "RobotCellModel", name := "comesPart", desc := "(II)V" } : Jvm.MethodName)) ∈ lw_tbl := lw_at lw_m15 35 rfl
theorem q3489 : (Jvm.Cond.instanceMethod ({ cls := "RobotCellModel", name := "comesPart", desc := "(II)V" } : Jvm.MethodName)) ∈ lw_all := lw_g (lw_at lw_m15 36 rfl) rfl
theorem q3490 : (Jvm.Cond.code ({ cls := "RobotCellModel", name := "comesPart", desc := "(II)V" } : Jvm.MethodName) prog_18_method_26_code (3 : Nat) (Option.none : Option Jvm.ClassFile.FieldType)) ∈ lw_all := lw_g (lw_at lw_m15 37 rfl) rfl
theorem q3492 : (Jvm.Cond.instanceMethod ({ cls := "RobotCellModel", name := "zone", desc := "(II)I" } : Jvm.MethodName)) ∈ lw_all := lw_g (lw_at lw_m15 39 rfl) rfl
theorem q3493 : (Jvm.Cond.selects "RobotCellModel" ({ cls := "RobotCellModel", name := "zone", desc := "(II)I" } : Jvm.MethodName) ({ cls := "RobotCellModel", name := "zone", desc := "(II)I" } : Jvm.MethodName)) ∈ lw_all := lw_g (lw_at lw_m15 40 rfl) rfl
theorem q3494 : (Jvm.Cond.code ({ cls := "RobotCellModel", name := "zone", desc := "(II)I" } : Jvm.MethodName) prog_18_method_38_code (5 : Nat) (Option.some Jvm.ClassFile.FieldType.int)) ∈ lw_all := lw_g (lw_at lw_m15 41 rfl) rfl
theorem q3495 : (Jvm.Cond.methodLink "RobotCellModel" (164 : Nat) ({ cls := "RobotCellModel", name := "conflicts", desc := "(I)I" } : Jvm.MethodName)) ∈ lw_all := lw_g (lw_at lw_m15 42 rfl) rfl
theorem q3496 : (Jvm.Cond.privateMethod ({ cls := "RobotCellModel", name := "conflicts", desc := "(I)I" } : Jvm.MethodName)) ∈ lw_tbl := lw_at lw_m15 43 rfl
theorem q3497 : (Jvm.Cond.instanceMethod ({ cls := "RobotCellModel", name := "conflicts", desc := "(I)I" } : Jvm.MethodName)) ∈ lw_all := lw_g (lw_at lw_m15 44 rfl) rfl
theorem q3498 : (Jvm.Cond.code ({ cls := "RobotCellModel", name := "conflicts", desc := "(I)I" } : Jvm.MethodName) prog_18_method_13_code (2 : Nat) (Option.some Jvm.ClassFile.FieldType.int)) ∈ lw_all := lw_g (lw_at lw_m15 45 rfl) rfl
theorem q3500 : (Jvm.Cond.instanceMethod ({ cls := "RobotCellModel", name := "buffer", desc := "(II)I" } : Jvm.MethodName)) ∈ lw_all := lw_g (lw_at lw_m15 47 rfl) rfl
theorem q3501 : (Jvm.Cond.selects "RobotCellModel" ({ cls := "RobotCellModel", name := "buffer", desc := "(II)I" } : Jvm.MethodName) ({ cls := "RobotCellModel", name := "buffer", desc := "(II)I" } : Jvm.MethodName)) ∈ lw_all := lw_g (lw_at lw_m15 48 rfl) rfl
theorem q3502 : (Jvm.Cond.code ({ cls := "RobotCellModel", name := "buffer", desc := "(II)I" } : Jvm.MethodName) prog_18_method_39_code (3 : Nat) (Option.some Jvm.ClassFile.FieldType.int)) ∈ lw_all := lw_g (lw_at lw_m15 49 rfl) rfl
theorem q3504 : (Jvm.Cond.instanceMethod ({ cls := "RobotCellModel", name := "part", desc := "(II)I" } : Jvm.MethodName)) ∈ lw_all := lw_g (lw_at lw_m15 51 rfl) rfl
theorem q3505 : (Jvm.Cond.selects "RobotCellModel" ({ cls := "RobotCellModel", name := "part", desc := "(II)I" } : Jvm.MethodName) ({ cls := "RobotCellModel", name := "part", desc := "(II)I" } : Jvm.MethodName)) ∈ lw_all := lw_g (lw_at lw_m15 52 rfl) rfl
theorem q3506 : (Jvm.Cond.code ({ cls := "RobotCellModel", name := "part", desc := "(II)I" } : Jvm.MethodName) prog_18_method_40_code (3 : Nat) (Option.some Jvm.ClassFile.FieldType.int)) ∈ lw_all := lw_g (lw_at lw_m15 53 rfl) rfl
theorem q3508 : (Jvm.Cond.instanceMethod ({ cls := "RobotCellModel", name := "give", desc := "(IIIIII)I" } : Jvm.MethodName)) ∈ lw_all := lw_g (lw_at lw_m15 55 rfl) rfl
theorem q3509 : (Jvm.Cond.selects "RobotCellModel" ({ cls := "RobotCellModel", name := "give", desc := "(IIIIII)I" } : Jvm.MethodName) ({ cls := "RobotCellModel", name := "give", desc := "(IIIIII)I" } : Jvm.MethodName)) ∈ lw_all := lw_g (lw_at lw_m15 56 rfl) rfl
theorem q3510 : (Jvm.Cond.code ({ cls := "RobotCellModel", name := "give", desc := "(IIIIII)I" } : Jvm.MethodName) prog_18_method_45_code (7 : Nat) (Option.some Jvm.ClassFile.FieldType.int)) ∈ lw_all := lw_g (lw_at lw_m15 57 rfl) rfl
theorem q3511 : (Jvm.Cond.methodLink "RobotCellModel" (283 : Nat) ({ cls := "RobotCellModel", name := "notGiven", desc := "(IIIIII)I" } : Jvm.MethodName)) ∈ lw_all := lw_g (lw_at lw_m15 58 rfl) rfl
theorem q3512 : (Jvm.Cond.privateMethod ({ cls := "RobotCellModel", name := "notGiven", desc := "(IIIIII)I" } : Jvm.MethodName)) ∈ lw_tbl := lw_at lw_m15 59 rfl
theorem q3513 : (Jvm.Cond.instanceMethod ({ cls := "RobotCellModel", name := "notGiven", desc := "(IIIIII)I" } : Jvm.MethodName)) ∈ lw_all := lw_g (lw_at lw_m15 60 rfl) rfl
theorem q3514 : (Jvm.Cond.code ({ cls := "RobotCellModel", name := "notGiven", desc := "(IIIIII)I" } : Jvm.MethodName) prog_18_method_43_code (8 : Nat) (Option.some Jvm.ClassFile.FieldType.int)) ∈ lw_all := lw_g (lw_at lw_m15 61 rfl) rfl
theorem q3515 : (Jvm.Cond.methodLink "RobotCellModel" (277 : Nat) ({ cls := "RobotCellModel", name := "setOf", desc := "(I)I" } : Jvm.MethodName)) ∈ lw_all := lw_g (lw_at lw_m15 62 rfl) rfl
theorem q3516 : (Jvm.Cond.static ({ cls := "RobotCellModel", name := "setOf", desc := "(I)I" } : Jvm.MethodName)) ∈ lw_all := lw_g (lw_at lw_m15 63 rfl) rfl
theorem q3517 : (Jvm.Cond.code ({ cls := "RobotCellModel", name := "setOf", desc := "(I)I" } : Jvm.MethodName) prog_18_method_42_code (5 : Nat) (Option.some Jvm.ClassFile.FieldType.int)) ∈ lw_all := lw_g (lw_at lw_m15 64 rfl) rfl
theorem q3518 : (Jvm.Cond.methodLink "RobotCellModel" (274 : Nat) ({ cls := "RobotCellModel", name := "digitsOf", desc := "(I)I" } : Jvm.MethodName)) ∈ lw_all := lw_g (lw_at lw_m15 65 rfl) rfl
theorem q3519 : (Jvm.Cond.static ({ cls := "RobotCellModel", name := "digitsOf", desc := "(I)I" } : Jvm.MethodName)) ∈ lw_all := lw_g (lw_at lw_m15 66 rfl) rfl
theorem q3520 : (Jvm.Cond.code ({ cls := "RobotCellModel", name := "digitsOf", desc := "(I)I" } : Jvm.MethodName) prog_18_method_41_code (3 : Nat) (Option.some Jvm.ClassFile.FieldType.int)) ∈ lw_all := lw_g (lw_at lw_m15 67 rfl) rfl
theorem q3521 : (Jvm.Cond.methodLink "RobotCellModel" (287 : Nat) ({ cls := "RobotCellModel", name := "gives", desc := "(IIIIII)V" } : Jvm.MethodName)) ∈ lw_all := lw_g (lw_at lw_m15 68 rfl) rfl
theorem q3522 : (Jvm.Cond.privateMethod ({ cls := "RobotCellModel", name := "gives", desc := "(IIIIII)V" } : Jvm.MethodName)) ∈ lw_tbl := lw_at lw_m15 69 rfl
theorem q3523 : (Jvm.Cond.instanceMethod ({ cls := "RobotCellModel", name := "gives", desc := "(IIIIII)V" } : Jvm.MethodName)) ∈ lw_all := lw_g (lw_at lw_m15 70 rfl) rfl
theorem q3524 : (Jvm.Cond.code ({ cls := "RobotCellModel", name := "gives", desc := "(IIIIII)V" } : Jvm.MethodName) prog_18_method_44_code (7 : Nat) (Option.none : Option Jvm.ClassFile.FieldType)) ∈ lw_all := lw_g (lw_at lw_m15 71 rfl) rfl
theorem q3526 : (Jvm.Cond.instanceMethod ({ cls := "RobotCellModel", name := "withdraw", desc := "(I)I" } : Jvm.MethodName)) ∈ lw_all := lw_g (lw_at lw_m15 73 rfl) rfl
theorem q3527 : (Jvm.Cond.selects "RobotCellModel" ({ cls := "RobotCellModel", name := "withdraw", desc := "(I)I" } : Jvm.MethodName) ({ cls := "RobotCellModel", name := "withdraw", desc := "(I)I" } : Jvm.MethodName)) ∈ lw_all := lw_g (lw_at lw_m15 74 rfl) rfl
theorem q3528 : (Jvm.Cond.code ({ cls := "RobotCellModel", name := "withdraw", desc := "(I)I" } : Jvm.MethodName) prog_18_method_46_code (3 : Nat) (Option.some Jvm.ClassFile.FieldType.int)) ∈ lw_all := lw_g (lw_at lw_m15 75 rfl) rfl
theorem q3530 : (Jvm.Cond.instanceMethod ({ cls := "RobotCellModel", name := "job", desc := "(II)I" } : Jvm.MethodName)) ∈ lw_all := lw_g (lw_at lw_m15 77 rfl) rfl
theorem q3531 : (Jvm.Cond.selects "RobotCellModel" ({ cls := "RobotCellModel", name := "job", desc := "(II)I" } : Jvm.MethodName) ({ cls := "RobotCellModel", name := "job", desc := "(II)I" } : Jvm.MethodName)) ∈ lw_all := lw_g (lw_at lw_m15 78 rfl) rfl
theorem q3532 : (Jvm.Cond.code ({ cls := "RobotCellModel", name := "job", desc := "(II)I" } : Jvm.MethodName) prog_18_method_48_code (3 : Nat) (Option.some Jvm.ClassFile.FieldType.int)) ∈ lw_all := lw_g (lw_at lw_m15 79 rfl) rfl
theorem q3533 : (Jvm.Cond.methodLink "RobotCellModel" (294 : Nat) ({ cls := "RobotCellModel", name := "isJob", desc := "(I)Z" } : Jvm.MethodName)) ∈ lw_all := lw_g (lw_at lw_m15 80 rfl) rfl
theorem q3534 : (Jvm.Cond.privateMethod ({ cls := "RobotCellModel", name := "isJob", desc := "(I)Z" } : Jvm.MethodName)) ∈ lw_tbl := lw_at lw_m15 81 rfl
theorem q3535 : (Jvm.Cond.instanceMethod ({ cls := "RobotCellModel", name := "isJob", desc := "(I)Z" } : Jvm.MethodName)) ∈ lw_all := lw_g (lw_at lw_m15 82 rfl) rfl
theorem q3536 : (Jvm.Cond.code ({ cls := "RobotCellModel", name := "isJob", desc := "(I)Z" } : Jvm.MethodName) prog_18_method_47_code (2 : Nat) (Option.some Jvm.ClassFile.FieldType.boolean)) ∈ lw_all := lw_g (lw_at lw_m15 83 rfl) rfl
theorem q3538 : (Jvm.Cond.instanceMethod ({ cls := "RobotCellModel", name := "arm", desc := "(II)I" } : Jvm.MethodName)) ∈ lw_all := lw_g (lw_at lw_m15 85 rfl) rfl
theorem q3539 : (Jvm.Cond.selects "RobotCellModel" ({ cls := "RobotCellModel", name := "arm", desc := "(II)I" } : Jvm.MethodName) ({ cls := "RobotCellModel", name := "arm", desc := "(II)I" } : Jvm.MethodName)) ∈ lw_all := lw_g (lw_at lw_m15 86 rfl) rfl
theorem q3540 : (Jvm.Cond.code ({ cls := "RobotCellModel", name := "arm", desc := "(II)I" } : Jvm.MethodName) prog_18_method_49_code (3 : Nat) (Option.some Jvm.ClassFile.FieldType.int)) ∈ lw_all := lw_g (lw_at lw_m15 87 rfl) rfl
theorem q3542 : (Jvm.Cond.instanceMethod ({ cls := "RobotCellModel", name := "waiting", desc := "(II)I" } : Jvm.MethodName)) ∈ lw_all := lw_g (lw_at lw_m15 89 rfl) rfl
theorem q3543 : (Jvm.Cond.selects "RobotCellModel" ({ cls := "RobotCellModel", name := "waiting", desc := "(II)I" } : Jvm.MethodName) ({ cls := "RobotCellModel", name := "waiting", desc := "(II)I" } : Jvm.MethodName)) ∈ lw_all := lw_g (lw_at lw_m15 90 rfl) rfl
theorem q3544 : (Jvm.Cond.code ({ cls := "RobotCellModel", name := "waiting", desc := "(II)I" } : Jvm.MethodName) prog_18_method_50_code (3 : Nat) (Option.some Jvm.ClassFile.FieldType.int)) ∈ lw_all := lw_g (lw_at lw_m15 91 rfl) rfl
theorem q3546 : (Jvm.Cond.instanceMethod ({ cls := "RobotCellModel", name := "tick", desc := "(I)I" } : Jvm.MethodName)) ∈ lw_all := lw_g (lw_at lw_m15 93 rfl) rfl
theorem q3547 : (Jvm.Cond.selects "RobotCellModel" ({ cls := "RobotCellModel", name := "tick", desc := "(I)I" } : Jvm.MethodName) ({ cls := "RobotCellModel", name := "tick", desc := "(I)I" } : Jvm.MethodName)) ∈ lw_all := lw_g (lw_at lw_m15 94 rfl) rfl
theorem q3548 : (Jvm.Cond.code ({ cls := "RobotCellModel", name := "tick", desc := "(I)I" } : Jvm.MethodName) prog_18_method_51_code (4 : Nat) (Option.some Jvm.ClassFile.FieldType.int)) ∈ lw_all := lw_g (lw_at lw_m15 95 rfl) rfl
theorem q3549 : (Jvm.Cond.methodLink "RobotCellModel" (297 : Nat) ({ cls := "RobotCellModel", name := "ticks", desc := "()V" } : Jvm.MethodName)) ∈ lw_all := lw_g (lw_at lw_m15 96 rfl) rfl
theorem q3550 : (Jvm.Cond.privateMethod ({ cls := "RobotCellModel", name := "ticks", desc := "()V" } : Jvm.MethodName)) ∈ lw_tbl := lw_at lw_m15 97 rfl
theorem q3551 : (Jvm.Cond.instanceMethod ({ cls := "RobotCellModel", name := "ticks", desc := "()V" } : Jvm.MethodName)) ∈ lw_all := lw_g (lw_at lw_m15 98 rfl) rfl
theorem q3552 : (Jvm.Cond.code ({ cls := "RobotCellModel", name := "ticks", desc := "()V" } : Jvm.MethodName) prog_18_method_30_code (3 : Nat) (Option.none : Option Jvm.ClassFile.FieldType)) ∈ lw_all := lw_g (lw_at lw_m15 99 rfl) rfl
theorem q3553 : (Jvm.Cond.methodLink "RobotCellModel" (239 : Nat) ({ cls := "RobotCellModel", name := "findTurns", desc := "()V" } : Jvm.MethodName)) ∈ lw_all := lw_g (lw_at lw_m15 100 rfl) rfl
theorem q3554 : (Jvm.Cond.privateMethod ({ cls := "RobotCellModel", name := "findTurns", desc := "()V" } : Jvm.MethodName)) ∈ lw_tbl := lw_at lw_m15 101 rfl
theorem q3555 : (Jvm.Cond.instanceMethod ({ cls := "RobotCellModel", name := "findTurns", desc := "()V" } : Jvm.MethodName)) ∈ lw_all := lw_g (lw_at lw_m15 102 rfl) rfl
theorem q3556 : (Jvm.Cond.code ({ cls := "RobotCellModel", name := "findTurns", desc := "()V" } : Jvm.MethodName) prog_18_method_29_code (3 : Nat) (Option.none : Option Jvm.ClassFile.FieldType)) ∈ lw_all := lw_g (lw_at lw_m15 103 rfl) rfl
theorem q3557 : (Jvm.Cond.methodLink "RobotCellModel" (242 : Nat) ({ cls := "RobotCellModel", name := "acts", desc := "(I)V" } : Jvm.MethodName)) ∈ lw_all := lw_g (lw_at lw_m15 104 rfl) rfl
theorem q3558 : (Jvm.Cond.privateMethod ({ cls := "RobotCellModel", name := "acts", desc := "(I)V" } : Jvm.MethodName)) ∈ lw_tbl := lw_at lw_m15 105 rfl
theorem q3559 : (Jvm.Cond.instanceMethod ({ cls := "RobotCellModel", name := "acts", desc := "(I)V" } : Jvm.MethodName)) ∈ lw_all := lw_g (lw_at lw_m15 106 rfl) rfl
theorem q3560 : (Jvm.Cond.code ({ cls := "RobotCellModel", name := "acts", desc := "(I)V" } : Jvm.MethodName) prog_18_method_28_code (2 : Nat) (Option.none : Option Jvm.ClassFile.FieldType)) ∈ lw_all := lw_g (lw_at lw_m15 107 rfl) rfl
theorem q3561 : (Jvm.Cond.methodLink "RobotCellModel" (229 : Nat) ({ cls := "RobotCellModel", name := "starts", desc := "(I)V" } : Jvm.MethodName)) ∈ lw_all := lw_g (lw_at lw_m15 108 rfl) rfl
theorem q3562 : (Jvm.Cond.privateMethod ({ cls := "RobotCellModel", name := "starts", desc := "(I)V" } : Jvm.MethodName)) ∈ lw_tbl := lw_at lw_m15 109 rfl
theorem q3563 : (Jvm.Cond.instanceMethod ({ cls := "RobotCellModel", name := "starts", desc := "(I)V" } : Jvm.MethodName)) ∈ lw_all := lw_g (lw_at lw_m15 110 rfl) rfl
theorem q3564 : (Jvm.Cond.code ({ cls := "RobotCellModel", name := "starts", desc := "(I)V" } : Jvm.MethodName) prog_18_method_21_code (4 : Nat) (Option.none : Option Jvm.ClassFile.FieldType)) ∈ lw_all := lw_g (lw_at lw_m15 111 rfl) rfl
theorem q3565 : (Jvm.Cond.methodLink "RobotCellModel" (195 : Nat) ({ cls := "RobotCellModel", name := "isGranted", desc := "(IIIZ)Z" } : Jvm.MethodName)) ∈ lw_all := lw_g (lw_at lw_m15 112 rfl) rfl
theorem q3566 : (Jvm.Cond.privateMethod ({ cls := "RobotCellModel", name := "isGranted", desc := "(IIIZ)Z" } : Jvm.MethodName)) ∈ lw_tbl := lw_at lw_m15 113 rfl
theorem q3567 : (Jvm.Cond.instanceMethod ({ cls := "RobotCellModel", name := "isGranted", desc := "(IIIZ)Z" } : Jvm.MethodName)) ∈ lw_all := lw_g (lw_at lw_m15 114 rfl) rfl
theorem q3568 : (Jvm.Cond.code ({ cls := "RobotCellModel", name := "isGranted", desc := "(IIIZ)Z" } : Jvm.MethodName) prog_18_method_20_code (5 : Nat) (Option.some Jvm.ClassFile.FieldType.boolean)) ∈ lw_all := lw_g (lw_at lw_m15 115 rfl) rfl
theorem q3569 : (Jvm.Cond.methodLink "RobotCellModel" (187 : Nat) ({ cls := "RobotCellModel", name := "answers", desc := "(IIIZ)I" } : Jvm.MethodName)) ∈ lw_all := lw_g (lw_at lw_m15 116 rfl) rfl
theorem q3570 : (Jvm.Cond.privateMethod ({ cls := "RobotCellModel", name := "answers", desc := "(IIIZ)I" } : Jvm.MethodName)) ∈ lw_tbl := lw_at lw_m15 117 rfl
theorem q3571 : (Jvm.Cond.instanceMethod ({ cls := "RobotCellModel", name := "answers", desc := "(IIIZ)I" } : Jvm.MethodName)) ∈ lw_all := lw_g (lw_at lw_m15 118 rfl) rfl
theorem q3572 : (Jvm.Cond.code ({ cls := "RobotCellModel", name := "answers", desc := "(IIIZ)I" } : Jvm.MethodName) prog_18_method_19_code (9 : Nat) (Option.some Jvm.ClassFile.FieldType.int)) ∈ lw_all := lw_g (lw_at lw_m15 119 rfl) rfl
theorem q3573 : (Jvm.Cond.methodLink "RobotCellModel" (177 : Nat) ({ cls := "RobotCellModel", name := "reasons", desc := "(II)I" } : Jvm.MethodName)) ∈ lw_all := lw_g (lw_at lw_m15 120 rfl) rfl
theorem q3574 : (Jvm.Cond.privateMethod ({ cls := "RobotCellModel", name := "reasons", desc := "(II)I" } : Jvm.MethodName)) ∈ lw_tbl := lw_at lw_m15 121 rfl
theorem q3575 : (Jvm.Cond.instanceMethod ({ cls := "RobotCellModel", name := "reasons", desc := "(II)I" } : Jvm.MethodName)) ∈ lw_all := lw_g (lw_at lw_m15 122 rfl) rfl
theorem q3576 : (Jvm.Cond.code ({ cls := "RobotCellModel", name := "reasons", desc := "(II)I" } : Jvm.MethodName) prog_18_method_18_code (3 : Nat) (Option.some Jvm.ClassFile.FieldType.int)) ∈ lw_all := lw_g (lw_at lw_m15 123 rfl) rfl
theorem q3577 : (Jvm.Cond.methodLink "RobotCellModel" (180 : Nat) ({ cls := "RobotCellModel", name := "findNow", desc := "()V" } : Jvm.MethodName)) ∈ lw_all := lw_g (lw_at lw_m15 124 rfl) rfl
theorem q3578 : (Jvm.Cond.privateMethod ({ cls := "RobotCellModel", name := "findNow", desc := "()V" } : Jvm.MethodName)) ∈ lw_tbl := lw_at lw_m15 125 rfl
theorem q3579 : (Jvm.Cond.instanceMethod ({ cls := "RobotCellModel", name := "findNow", desc := "()V" } : Jvm.MethodName)) ∈ lw_all := lw_g (lw_at lw_m15 126 rfl) rfl
theorem q3580 : (Jvm.Cond.code ({ cls := "RobotCellModel", name := "findNow", desc := "()V" } : Jvm.MethodName) prog_18_method_15_code (2 : Nat) (Option.none : Option Jvm.ClassFile.FieldType)) ∈ lw_all := lw_g (lw_at lw_m15 127 rfl) rfl
theorem q3581 : (Jvm.Cond.methodLink "RobotCellModel" (183 : Nat) ({ cls := "RobotCellModel", name := "findStuck", desc := "()I" } : Jvm.MethodName)) ∈ lw_all := lw_g (lw_at lw_m15 128 rfl) rfl
theorem q3582 : (Jvm.Cond.privateMethod ({ cls := "RobotCellModel", name := "findStuck", desc := "()I" } : Jvm.MethodName)) ∈ lw_tbl := lw_at lw_m15 129 rfl
theorem q3583 : (Jvm.Cond.instanceMethod ({ cls := "RobotCellModel", name := "findStuck", desc := "()I" } : Jvm.MethodName)) ∈ lw_all := lw_g (lw_at lw_m15 130 rfl) rfl
theorem q3584 : (Jvm.Cond.code ({ cls := "RobotCellModel", name := "findStuck", desc := "()I" } : Jvm.MethodName) prog_18_method_17_code (3 : Nat) (Option.some Jvm.ClassFile.FieldType.int)) ∈ lw_all := lw_g (lw_at lw_m15 131 rfl) rfl
theorem q3585 : (Jvm.Cond.methodLink "RobotCellModel" (167 : Nat) ({ cls := "RobotCellModel", name := "canFinish", desc := "(I)Z" } : Jvm.MethodName)) ∈ lw_all := lw_g (lw_at lw_m15 132 rfl) rfl
theorem q3586 : (Jvm.Cond.privateMethod ({ cls := "RobotCellModel", name := "canFinish", desc := "(I)Z" } : Jvm.MethodName)) ∈ lw_tbl := lw_at lw_m15 133 rfl
theorem q3587 : (Jvm.Cond.instanceMethod ({ cls := "RobotCellModel", name := "canFinish", desc := "(I)Z" } : Jvm.MethodName)) ∈ lw_all := lw_g (lw_at lw_m15 134 rfl) rfl
theorem q3588 : (Jvm.Cond.code ({ cls := "RobotCellModel", name := "canFinish", desc := "(I)Z" } : Jvm.MethodName) prog_18_method_16_code (4 : Nat) (Option.some Jvm.ClassFile.FieldType.boolean)) ∈ lw_all := lw_g (lw_at lw_m15 135 rfl) rfl
theorem q3589 : (Jvm.Cond.methodLink "RobotCellModel" (199 : Nat) ({ cls := "RobotCellModel", name := "works", desc := "(II)V" } : Jvm.MethodName)) ∈ lw_all := lw_g (lw_at lw_m15 136 rfl) rfl
theorem q3590 : (Jvm.Cond.privateMethod ({ cls := "RobotCellModel", name := "works", desc := "(II)V" } : Jvm.MethodName)) ∈ lw_tbl := lw_at lw_m15 137 rfl
theorem q3591 : (Jvm.Cond.instanceMethod ({ cls := "RobotCellModel", name := "works", desc := "(II)V" } : Jvm.MethodName)) ∈ lw_all := lw_g (lw_at lw_m15 138 rfl) rfl
theorem q3592 : (Jvm.Cond.code ({ cls := "RobotCellModel", name := "works", desc := "(II)V" } : Jvm.MethodName) prog_18_method_22_code (3 : Nat) (Option.none : Option Jvm.ClassFile.FieldType)) ∈ lw_all := lw_g (lw_at lw_m15 139 rfl) rfl
theorem q3593 : (Jvm.Cond.methodLink "RobotCellModel" (203 : Nat) ({ cls := "RobotCellModel", name := "notes", desc := "(III)V" } : Jvm.MethodName)) ∈ lw_all := lw_g (lw_at lw_m15 140 rfl) rfl
theorem q3594 : (Jvm.Cond.privateMethod ({ cls := "RobotCellModel", name := "notes", desc := "(III)V" } : Jvm.MethodName)) ∈ lw_tbl := lw_at lw_m15 141 rfl
theorem q3595 : (Jvm.Cond.instanceMethod ({ cls := "RobotCellModel", name := "notes", desc := "(III)V" } : Jvm.MethodName)) ∈ lw_all := lw_g (lw_at lw_m15 142 rfl) rfl
theorem q3596 : (Jvm.Cond.code ({ cls := "RobotCellModel", name := "notes", desc := "(III)V" } : Jvm.MethodName) prog_18_method_14_code (5 : Nat) (Option.none : Option Jvm.ClassFile.FieldType)) ∈ lw_all := lw_g (lw_at lw_m15 143 rfl) rfl
theorem q3597 : (Jvm.Cond.methodLink "RobotCellModel" (233 : Nat) ({ cls := "RobotCellModel", name := "requestsNext", desc := "(I)V" } : Jvm.MethodName)) ∈ lw_all := lw_g (lw_at lw_m15 144 rfl) rfl
theorem q3598 : (Jvm.Cond.privateMethod ({ cls := "RobotCellModel", name := "requestsNext", desc := "(I)V" } : Jvm.MethodName)) ∈ lw_tbl := lw_at lw_m15 145 rfl
theorem q3599 : (Jvm.Cond.instanceMethod ({ cls := "RobotCellModel", name := "requestsNext", desc := "(I)V" } : Jvm.MethodName)) ∈ lw_all := lw_g (lw_at lw_m15 146 rfl) rfl
theorem q3600 : (Jvm.Cond.code ({ cls := "RobotCellModel", name := "requestsNext", desc := "(I)V" } : Jvm.MethodName) prog_18_method_24_code (4 : Nat) (Option.none : Option Jvm.ClassFile.FieldType)) ∈ lw_all := lw_g (lw_at lw_m15 147 rfl) rfl
theorem q3601 : (Jvm.Cond.methodLink "RobotCellModel" (207 : Nat) ({ cls := "RobotCellModel", name := "isBeside", desc := "(II)Z" } : Jvm.MethodName)) ∈ lw_all := lw_g (lw_at lw_m15 148 rfl) rfl
theorem q3602 : (Jvm.Cond.privateMethod ({ cls := "RobotCellModel", name := "isBeside", desc := "(II)Z" } : Jvm.MethodName)) ∈ lw_tbl := lw_at lw_m15 149 rfl
theorem q3603 : (Jvm.Cond.instanceMethod ({ cls := "RobotCellModel", name := "isBeside", desc := "(II)Z" } : Jvm.MethodName)) ∈ lw_all := lw_g (lw_at lw_m15 150 rfl) rfl
theorem q3604 : (Jvm.Cond.code ({ cls := "RobotCellModel", name := "isBeside", desc := "(II)Z" } : Jvm.MethodName) prog_18_method_23_code (5 : Nat) (Option.some Jvm.ClassFile.FieldType.boolean)) ∈ lw_all := lw_g (lw_at lw_m15 151 rfl) rfl
theorem q3605 : (Jvm.Cond.methodLink "RobotCellModel" (236 : Nat) ({ cls := "RobotCellModel", name := "ends", desc := "(I)V" } : Jvm.MethodName)) ∈ lw_all := lw_g (lw_at lw_m15 152 rfl) rfl
theorem q3606 : (Jvm.Cond.privateMethod ({ cls := "RobotCellModel", name := "ends", desc := "(I)V" } : Jvm.MethodName)) ∈ lw_tbl := lw_at lw_m15 153 rfl
theorem q3607 : (Jvm.Cond.instanceMethod ({ cls := "RobotCellModel", name := "ends", desc := "(I)V" } : Jvm.MethodName)) ∈ lw_all := lw_g (lw_at lw_m15 154 rfl) rfl
theorem q3608 : (Jvm.Cond.code ({ cls := "RobotCellModel", name := "ends", desc := "(I)V" } : Jvm.MethodName) prog_18_method_27_code (4 : Nat) (Option.none : Option Jvm.ClassFile.FieldType)) ∈ lw_all := lw_g (lw_at lw_m15 155 rfl) rfl
theorem q3609 : (Jvm.Cond.methodLink "RobotCellModel" (217 : Nat) ({ cls := "RobotCellModel", name := "firstPartOf", desc := "(I)I" } : Jvm.MethodName)) ∈ lw_all := lw_g (lw_at lw_m15 156 rfl) rfl
theorem q3610 : (Jvm.Cond.privateMethod ({ cls := "RobotCellModel", name := "firstPartOf", desc := "(I)I" } : Jvm.MethodName)) ∈ lw_tbl := lw_at lw_m15 157 rfl
theorem q3611 : (Jvm.Cond.instanceMethod ({ cls := "RobotCellModel", name := "firstPartOf", desc := "(I)I" } : Jvm.MethodName)) ∈ lw_all := lw_g (lw_at lw_m15 158 rfl) rfl
theorem q3612 : (Jvm.Cond.code ({ cls := "RobotCellModel", name := "firstPartOf", desc := "(I)I" } : Jvm.MethodName) prog_18_method_25_code (4 : Nat) (Option.some Jvm.ClassFile.FieldType.int)) ∈ lw_all := lw_g (lw_at lw_m15 159 rfl) rfl
theorem q3614 : (Jvm.Cond.instanceMethod ({ cls := "RobotCellModel", name := "reason", desc := "(IZ)I" } : Jvm.MethodName)) ∈ lw_all := lw_g (lw_at lw_m15 161 rfl) rfl
theorem q3615 : (Jvm.Cond.selects "RobotCellModel" ({ cls := "RobotCellModel", name := "reason", desc := "(IZ)I" } : Jvm.MethodName) ({ cls := "RobotCellModel", name := "reason", desc := "(IZ)I" } : Jvm.MethodName)) ∈ lw_all := lw_g (lw_at lw_m15 162 rfl) rfl
theorem q3616 : (Jvm.Cond.code ({ cls := "RobotCellModel", name := "reason", desc := "(IZ)I" } : Jvm.MethodName) prog_18_method_52_code (3 : Nat) (Option.some Jvm.ClassFile.FieldType.int)) ∈ lw_all := lw_g (lw_at lw_m15 163 rfl) rfl
theorem q3618 : (Jvm.Cond.instanceMethod ({ cls := "RobotCellModel", name := "wouldBe", desc := "(I)I" } : Jvm.MethodName)) ∈ lw_all := lw_g (lw_at lw_m15 165 rfl) rfl
theorem q3619 : (Jvm.Cond.selects "RobotCellModel" ({ cls := "RobotCellModel", name := "wouldBe", desc := "(I)I" } : Jvm.MethodName) ({ cls := "RobotCellModel", name := "wouldBe", desc := "(I)I" } : Jvm.MethodName)) ∈ lw_all := lw_g (lw_at lw_m15 166 rfl) rfl
theorem q3620 : (Jvm.Cond.code ({ cls := "RobotCellModel", name := "wouldBe", desc := "(I)I" } : Jvm.MethodName) prog_18_method_53_code (5 : Nat) (Option.some Jvm.ClassFile.FieldType.int)) ∈ lw_all := lw_g (lw_at lw_m15 167 rfl) rfl
theorem q3622 : (Jvm.Cond.instanceMethod ({ cls := "RobotCellModel", name := "endsAfter", desc := "(I)I" } : Jvm.MethodName)) ∈ lw_all := lw_g (lw_at lw_m15 169 rfl) rfl
theorem q3623 : (Jvm.Cond.selects "RobotCellModel" ({ cls := "RobotCellModel", name := "endsAfter", desc := "(I)I" } : Jvm.MethodName) ({ cls := "RobotCellModel", name := "endsAfter", desc := "(I)I" } : Jvm.MethodName)) ∈ lw_all := lw_g (lw_at lw_m15 170 rfl) rfl
theorem q3624 : (Jvm.Cond.code ({ cls := "RobotCellModel", name := "endsAfter", desc := "(I)I" } : Jvm.MethodName) prog_18_method_56_code (3 : Nat) (Option.some Jvm.ClassFile.FieldType.int)) ∈ lw_all := lw_g (lw_at lw_m15 171 rfl) rfl
theorem q3625 : (Jvm.Cond.methodLink "RobotCellModel" (308 : Nat) ({ cls := "RobotCellModel", name := "findsEnd", desc := "(I)I" } : Jvm.MethodName)) ∈ lw_all := lw_g (lw_at lw_m15 172 rfl) rfl
theorem q3626 : (Jvm.Cond.privateMethod ({ cls := "RobotCellModel", name := "findsEnd", desc := "(I)I" } : Jvm.MethodName)) ∈ lw_tbl := lw_at lw_m15 173 rfl
theorem q3627 : (Jvm.Cond.instanceMethod ({ cls := "RobotCellModel", name := "findsEnd", desc := "(I)I" } : Jvm.MethodName)) ∈ lw_all := lw_g (lw_at lw_m15 174 rfl) rfl
theorem q3628 : (Jvm.Cond.code ({ cls := "RobotCellModel", name := "findsEnd", desc := "(I)I" } : Jvm.MethodName) prog_18_method_55_code (3 : Nat) (Option.some Jvm.ClassFile.FieldType.int)) ∈ lw_all := lw_g (lw_at lw_m15 175 rfl) rfl
theorem q3629 : (Jvm.Cond.methodLink "RobotCellModel" (304 : Nat) ({ cls := "RobotCellModel", name := "isQuiet", desc := "()Z" } : Jvm.MethodName)) ∈ lw_all := lw_g (lw_at lw_m15 176 rfl) rfl
theorem q3630 : (Jvm.Cond.privateMethod ({ cls := "RobotCellModel", name := "isQuiet", desc := "()Z" } : Jvm.MethodName)) ∈ lw_tbl := lw_at lw_m15 177 rfl
theorem q3631 : (Jvm.Cond.instanceMethod ({ cls := "RobotCellModel", name := "isQuiet", desc := "()Z" } : Jvm.MethodName)) ∈ lw_all := lw_g (lw_at lw_m15 178 rfl) rfl
theorem q3632 : (Jvm.Cond.code ({ cls := "RobotCellModel", name := "isQuiet", desc := "()Z" } : Jvm.MethodName) prog_18_method_54_code (2 : Nat) (Option.some Jvm.ClassFile.FieldType.boolean)) ∈ lw_all := lw_g (lw_at lw_m15 179 rfl) rfl
theorem q3634 : (Jvm.Cond.instanceMethod ({ cls := "RobotCellModel", name := "idleAfter", desc := "()I" } : Jvm.MethodName)) ∈ lw_all := lw_g (lw_at lw_m15 181 rfl) rfl
theorem q3635 : (Jvm.Cond.selects "RobotCellModel" ({ cls := "RobotCellModel", name := "idleAfter", desc := "()I" } : Jvm.MethodName) ({ cls := "RobotCellModel", name := "idleAfter", desc := "()I" } : Jvm.MethodName)) ∈ lw_all := lw_g (lw_at lw_m15 182 rfl) rfl
theorem q3636 : (Jvm.Cond.code ({ cls := "RobotCellModel", name := "idleAfter", desc := "()I" } : Jvm.MethodName) prog_18_method_57_code (2 : Nat) (Option.some Jvm.ClassFile.FieldType.int)) ∈ lw_all := lw_g (lw_at lw_m15 183 rfl) rfl
theorem q3638 : (Jvm.Cond.instanceMethod ({ cls := "RobotCellModel", name := "isSafe", desc := "()Z" } : Jvm.MethodName)) ∈ lw_all := lw_g (lw_at lw_m15 185 rfl) rfl
theorem q3639 : (Jvm.Cond.selects "RobotCellModel" ({ cls := "RobotCellModel", name := "isSafe", desc := "()Z" } : Jvm.MethodName) ({ cls := "RobotCellModel", name := "isSafe", desc := "()Z" } : Jvm.MethodName)) ∈ lw_all := lw_g (lw_at lw_m15 186 rfl) rfl
theorem q3640 : (Jvm.Cond.code ({ cls := "RobotCellModel", name := "isSafe", desc := "()Z" } : Jvm.MethodName) prog_18_method_58_code (1 : Nat) (Option.some Jvm.ClassFile.FieldType.boolean)) ∈ lw_all := lw_g (lw_at lw_m15 187 rfl) rfl
theorem q3642 : (Jvm.Cond.instanceMethod ({ cls := "RobotCellModel", name := "entry", desc := "(II)I" } : Jvm.MethodName)) ∈ lw_all := lw_g (lw_at lw_m15 189 rfl) rfl
theorem q3643 : (Jvm.Cond.selects "RobotCellModel" ({ cls := "RobotCellModel", name := "entry", desc := "(II)I" } : Jvm.MethodName) ({ cls := "RobotCellModel", name := "entry", desc := "(II)I" } : Jvm.MethodName)) ∈ lw_all := lw_g (lw_at lw_m15 190 rfl) rfl
theorem q3644 : (Jvm.Cond.code ({ cls := "RobotCellModel", name := "entry", desc := "(II)I" } : Jvm.MethodName) prog_18_method_59_code (3 : Nat) (Option.some Jvm.ClassFile.FieldType.int)) ∈ lw_all := lw_g (lw_at lw_m15 191 rfl) rfl
theorem q3646 : (Jvm.Cond.instanceMethod ({ cls := "RobotCellModel", name := "account", desc := "(I)I" } : Jvm.MethodName)) ∈ lw_all := lw_g (lw_at lw_m15 193 rfl) rfl
theorem q3647 : (Jvm.Cond.selects "RobotCellModel" ({ cls := "RobotCellModel", name := "account", desc := "(I)I" } : Jvm.MethodName) ({ cls := "RobotCellModel", name := "account", desc := "(I)I" } : Jvm.MethodName)) ∈ lw_all := lw_g (lw_at lw_m15 194 rfl) rfl
theorem q3648 : (Jvm.Cond.code ({ cls := "RobotCellModel", name := "account", desc := "(I)I" } : Jvm.MethodName) prog_18_method_62_code (2 : Nat) (Option.some Jvm.ClassFile.FieldType.int)) ∈ lw_all := lw_g (lw_at lw_m15 195 rfl) rfl
theorem q3649 : (Jvm.Cond.methodLink "RobotCellModel" (311 : Nat) ({ cls := "RobotCellModel", name := "sum", desc := "([I)I" } : Jvm.MethodName)) ∈ lw_all := lw_g (lw_at lw_m15 196 rfl) rfl
theorem q3650 : (Jvm.Cond.static ({ cls := "RobotCellModel", name := "sum", desc := "([I)I" } : Jvm.MethodName)) ∈ lw_all := lw_g (lw_at lw_m15 197 rfl) rfl
theorem q3651 : (Jvm.Cond.code ({ cls := "RobotCellModel", name := "sum", desc := "([I)I" } : Jvm.MethodName) prog_18_method_60_code (3 : Nat) (Option.some Jvm.ClassFile.FieldType.int)) ∈ lw_all := lw_g (lw_at lw_m15 198 rfl) rfl
theorem q3652 : (Jvm.Cond.methodLink "RobotCellModel" (315 : Nat) ({ cls := "RobotCellModel", name := "interlocks", desc := "()I" } : Jvm.MethodName)) ∈ lw_all := lw_g (lw_at lw_m15 199 rfl) rfl
theorem q3653 : (Jvm.Cond.privateMethod ({ cls := "RobotCellModel", name := "interlocks", desc := "()I" } : Jvm.MethodName)) ∈ lw_tbl := lw_at lw_m15 200 rfl
theorem q3654 : (Jvm.Cond.instanceMethod ({ cls := "RobotCellModel", name := "interlocks", desc := "()I" } : Jvm.MethodName)) ∈ lw_all := lw_g (lw_at lw_m15 201 rfl) rfl
theorem q3655 : (Jvm.Cond.code ({ cls := "RobotCellModel", name := "interlocks", desc := "()I" } : Jvm.MethodName) prog_18_method_61_code (4 : Nat) (Option.some Jvm.ClassFile.FieldType.int)) ∈ lw_all := lw_g (lw_at lw_m15 202 rfl) rfl
theorem q3657 : (Jvm.Cond.instanceMethod ({ cls := "RobotCellModel", name := "use", desc := "(I)F" } : Jvm.MethodName)) ∈ lw_all := lw_g (lw_at lw_m15 204 rfl) rfl
theorem q3658 : (Jvm.Cond.selects "RobotCellModel" ({ cls := "RobotCellModel", name := "use", desc := "(I)F" } : Jvm.MethodName) ({ cls := "RobotCellModel", name := "use", desc := "(I)F" } : Jvm.MethodName)) ∈ lw_all := lw_g (lw_at lw_m15 205 rfl) rfl
theorem q3659 : (Jvm.Cond.code ({ cls := "RobotCellModel", name := "use", desc := "(I)F" } : Jvm.MethodName) prog_18_method_63_code (2 : Nat) (Option.some Jvm.ClassFile.FieldType.float)) ∈ lw_all := lw_g (lw_at lw_m15 206 rfl) rfl
theorem q3661 : (Jvm.Cond.instanceMethod ({ cls := "RobotCellModel", name := "meanDuration", desc := "()D" } : Jvm.MethodName)) ∈ lw_all := lw_g (lw_at lw_m15 208 rfl) rfl
theorem q3662 : (Jvm.Cond.selects "RobotCellModel" ({ cls := "RobotCellModel", name := "meanDuration", desc := "()D" } : Jvm.MethodName) ({ cls := "RobotCellModel", name := "meanDuration", desc := "()D" } : Jvm.MethodName)) ∈ lw_all := lw_g (lw_at lw_m15 209 rfl) rfl
theorem q3663 : (Jvm.Cond.code ({ cls := "RobotCellModel", name := "meanDuration", desc := "()D" } : Jvm.MethodName) prog_18_method_64_code (1 : Nat) (Option.some Jvm.ClassFile.FieldType.double)) ∈ lw_all := lw_g (lw_at lw_m15 210 rfl) rfl
theorem q3665 : (Jvm.Cond.instanceMethod ({ cls := "RobotCellModel", name := "feed", desc := "(C)I" } : Jvm.MethodName)) ∈ lw_all := lw_g (lw_at lw_m15 212 rfl) rfl
theorem q3666 : (Jvm.Cond.selects "RobotCellModel" ({ cls := "RobotCellModel", name := "feed", desc := "(C)I" } : Jvm.MethodName) ({ cls := "RobotCellModel", name := "feed", desc := "(C)I" } : Jvm.MethodName)) ∈ lw_all := lw_g (lw_at lw_m15 213 rfl) rfl
theorem q3667 : (Jvm.Cond.code ({ cls := "RobotCellModel", name := "feed", desc := "(C)I" } : Jvm.MethodName) prog_18_method_65_code (2 : Nat) (Option.some Jvm.ClassFile.FieldType.int)) ∈ lw_all := lw_g (lw_at lw_m15 214 rfl) rfl
theorem q3669 : (Jvm.Cond.instanceMethod ({ cls := "RobotCellModel", name := "perform", desc := "()I" } : Jvm.MethodName)) ∈ lw_all := lw_g (lw_at lw_m15 216 rfl) rfl
theorem q3670 : (Jvm.Cond.selects "RobotCellModel" ({ cls := "RobotCellModel", name := "perform", desc := "()I" } : Jvm.MethodName) ({ cls := "RobotCellModel", name := "perform", desc := "()I" } : Jvm.MethodName)) ∈ lw_all := lw_g (lw_at lw_m15 217 rfl) rfl
theorem q3671 : (Jvm.Cond.code ({ cls := "RobotCellModel", name := "perform", desc := "()I" } : Jvm.MethodName) prog_18_method_75_code (3 : Nat) (Option.some Jvm.ClassFile.FieldType.int)) ∈ lw_all := lw_g (lw_at lw_m15 218 rfl) rfl
theorem q3672 : (Jvm.Cond.methodLink "RobotCellModel" (351 : Nat) ({ cls := "RobotCellModel", name := "takesText", desc := "()Z" } : Jvm.MethodName)) ∈ lw_all := lw_g (lw_at lw_m15 219 rfl) rfl
theorem q3673 : (Jvm.Cond.privateMethod ({ cls := "RobotCellModel", name := "takesText", desc := "()Z" } : Jvm.MethodName)) ∈ lw_tbl := lw_at lw_m15 220 rfl
theorem q3674 : (Jvm.Cond.instanceMethod ({ cls := "RobotCellModel", name := "takesText", desc := "()Z" } : Jvm.MethodName)) ∈ lw_all := lw_g (lw_at lw_m15 221 rfl) rfl
theorem q3675 : (Jvm.Cond.code ({ cls := "RobotCellModel", name := "takesText", desc := "()Z" } : Jvm.MethodName) prog_18_method_73_code (1 : Nat) (Option.some Jvm.ClassFile.FieldType.boolean)) ∈ lw_all := lw_g (lw_at lw_m15 222 rfl) rfl
theorem q3676 : (Jvm.Cond.methodLink "RobotCellModel" (348 : Nat) ({ cls := "RobotCellModel", name := "takesCommand", desc := "()Z" } : Jvm.MethodName)) ∈ lw_all := lw_g (lw_at lw_m15 223 rfl) rfl
theorem q3677 : (Jvm.Cond.privateMethod ({ cls := "RobotCellModel", name := "takesCommand", desc := "()Z" } : Jvm.MethodName)) ∈ lw_tbl := lw_at lw_m15 224 rfl
theorem q3678 : (Jvm.Cond.instanceMethod ({ cls := "RobotCellModel", name := "takesCommand", desc := "()Z" } : Jvm.MethodName)) ∈ lw_all := lw_g (lw_at lw_m15 225 rfl) rfl
theorem q3679 : (Jvm.Cond.code ({ cls := "RobotCellModel", name := "takesCommand", desc := "()Z" } : Jvm.MethodName) prog_18_method_72_code (1 : Nat) (Option.some Jvm.ClassFile.FieldType.boolean)) ∈ lw_all := lw_g (lw_at lw_m15 226 rfl) rfl
theorem q3680 : (Jvm.Cond.methodLink "RobotCellModel" (333 : Nat) ({ cls := "RobotCellModel", name := "skips", desc := "(I)Z" } : Jvm.MethodName)) ∈ lw_all := lw_g (lw_at lw_m15 227 rfl) rfl
theorem q3681 : (Jvm.Cond.privateMethod ({ cls := "RobotCellModel", name := "skips", desc := "(I)Z" } : Jvm.MethodName)) ∈ lw_tbl := lw_at lw_m15 228 rfl
theorem q3682 : (Jvm.Cond.instanceMethod ({ cls := "RobotCellModel", name := "skips", desc := "(I)Z" } : Jvm.MethodName)) ∈ lw_all := lw_g (lw_at lw_m15 229 rfl) rfl
theorem q3683 : (Jvm.Cond.code ({ cls := "RobotCellModel", name := "skips", desc := "(I)Z" } : Jvm.MethodName) prog_18_method_66_code (2 : Nat) (Option.some Jvm.ClassFile.FieldType.boolean)) ∈ lw_all := lw_g (lw_at lw_m15 230 rfl) rfl
theorem q3684 : (Jvm.Cond.methodLink "RobotCellModel" (342 : Nat) ({ cls := "RobotCellModel", name := "takesJob", desc := "()Z" } : Jvm.MethodName)) ∈ lw_all := lw_g (lw_at lw_m15 231 rfl) rfl
theorem q3685 : (Jvm.Cond.privateMethod ({ cls := "RobotCellModel", name := "takesJob", desc := "()Z" } : Jvm.MethodName)) ∈ lw_tbl := lw_at lw_m15 232 rfl
theorem q3686 : (Jvm.Cond.instanceMethod ({ cls := "RobotCellModel", name := "takesJob", desc := "()Z" } : Jvm.MethodName)) ∈ lw_all := lw_g (lw_at lw_m15 233 rfl) rfl
theorem q3687 : (Jvm.Cond.code ({ cls := "RobotCellModel", name := "takesJob", desc := "()Z" } : Jvm.MethodName) prog_18_method_70_code (1 : Nat) (Option.some Jvm.ClassFile.FieldType.boolean)) ∈ lw_all := lw_g (lw_at lw_m15 234 rfl) rfl
theorem q3688 : (Jvm.Cond.methodLink "RobotCellModel" (336 : Nat) ({ cls := "RobotCellModel", name := "takesAt", desc := "(I)Z" } : Jvm.MethodName)) ∈ lw_all := lw_g (lw_at lw_m15 235 rfl) rfl
theorem q3689 : (Jvm.Cond.privateMethod ({ cls := "RobotCellModel", name := "takesAt", desc := "(I)Z" } : Jvm.MethodName)) ∈ lw_tbl := lw_at lw_m15 236 rfl
theorem q3690 : (Jvm.Cond.instanceMethod ({ cls := "RobotCellModel", name := "takesAt", desc := "(I)Z" } : Jvm.MethodName)) ∈ lw_all := lw_g (lw_at lw_m15 237 rfl) rfl
theorem q3691 : (Jvm.Cond.code ({ cls := "RobotCellModel", name := "takesAt", desc := "(I)Z" } : Jvm.MethodName) prog_18_method_68_code (2 : Nat) (Option.some Jvm.ClassFile.FieldType.boolean)) ∈ lw_all := lw_g (lw_at lw_m15 238 rfl) rfl
theorem q3692 : (Jvm.Cond.methodLink "RobotCellModel" (327 : Nat) ({ cls := "RobotCellModel", name := "takes", desc := "()Z" } : Jvm.MethodName)) ∈ lw_all := lw_g (lw_at lw_m15 239 rfl) rfl
theorem q3693 : (Jvm.Cond.privateMethod ({ cls := "RobotCellModel", name := "takes", desc := "()Z" } : Jvm.MethodName)) ∈ lw_tbl := lw_at lw_m16 0 rfl
theorem q3694 : (Jvm.Cond.instanceMethod ({ cls := "RobotCellModel", name := "takes", desc := "()Z" } : Jvm.MethodName)) ∈ lw_all := lw_g (lw_at lw_m16 1 rfl) rfl
theorem q3695 : (Jvm.Cond.code ({ cls := "RobotCellModel", name := "takes", desc := "()Z" } : Jvm.MethodName) prog_18_method_67_code (1 : Nat) (Option.some Jvm.ClassFile.FieldType.boolean)) ∈ lw_all := lw_g (lw_at lw_m16 2 rfl) rfl
theorem q3696 : (Jvm.Cond.methodLink "RobotCellModel" (339 : Nat) ({ cls := "RobotCellModel", name := "takesPath", desc := "()Z" } : Jvm.MethodName)) ∈ lw_all := lw_g (lw_at lw_m16 3 rfl) rfl
theorem q3697 : (Jvm.Cond.privateMethod ({ cls := "RobotCellModel", name := "takesPath", desc := "()Z" } : Jvm.MethodName)) ∈ lw_tbl := lw_at lw_m16 4 rfl
theorem q3698 : (Jvm.Cond.instanceMethod ({ cls := "RobotCellModel", name := "takesPath", desc := "()Z" } : Jvm.MethodName)) ∈ lw_all := lw_g (lw_at lw_m16 5 rfl) rfl
theorem q3699 : (Jvm.Cond.code ({ cls := "RobotCellModel", name := "takesPath", desc := "()Z" } : Jvm.MethodName) prog_18_method_69_code (3 : Nat) (Option.some Jvm.ClassFile.FieldType.boolean)) ∈ lw_all := lw_g (lw_at lw_m16 6 rfl) rfl
theorem q3700 : (Jvm.Cond.methodLink "RobotCellModel" (345 : Nat) ({ cls := "RobotCellModel", name := "takesTicks", desc := "()Z" } : Jvm.MethodName)) ∈ lw_all := lw_g (lw_at lw_m16 7 rfl) rfl
theorem q3701 : (Jvm.Cond.privateMethod ({ cls := "RobotCellModel", name := "takesTicks", desc := "()Z" } : Jvm.MethodName)) ∈ lw_tbl := lw_at lw_m16 8 rfl
theorem q3702 : (Jvm.Cond.instanceMethod ({ cls := "RobotCellModel", name := "takesTicks", desc := "()Z" } : Jvm.MethodName)) ∈ lw_all := lw_g (lw_at lw_m16 9 rfl) rfl
theorem q3703 : (Jvm.Cond.code ({ cls := "RobotCellModel", name := "takesTicks", desc := "()Z" } : Jvm.MethodName) prog_18_method_71_code (1 : Nat) (Option.some Jvm.ClassFile.FieldType.boolean)) ∈ lw_all := lw_g (lw_at lw_m16 10 rfl) rfl
theorem q3704 : (Jvm.Cond.methodLink "RobotCellModel" (354 : Nat) ({ cls := "RobotCellModel", name := "does", desc := "(I)Z" } : Jvm.MethodName)) ∈ lw_all := lw_g (lw_at lw_m16 11 rfl) rfl
theorem q3705 : (Jvm.Cond.privateMethod ({ cls := "RobotCellModel", name := "does", desc := "(I)Z" } : Jvm.MethodName)) ∈ lw_tbl := lw_at lw_m16 12 rfl
theorem q3706 : (Jvm.Cond.instanceMethod ({ cls := "RobotCellModel", name := "does", desc := "(I)Z" } : Jvm.MethodName)) ∈ lw_all := lw_g (lw_at lw_m16 13 rfl) rfl
theorem q3707 : (Jvm.Cond.code ({ cls := "RobotCellModel", name := "does", desc := "(I)Z" } : Jvm.MethodName) prog_18_method_74_code (4 : Nat) (Option.some Jvm.ClassFile.FieldType.boolean)) ∈ lw_all := lw_g (lw_at lw_m16 14 rfl) rfl
theorem q3709 : (Jvm.Cond.instanceMethod ({ cls := "RobotCellModel", name := "undo", desc := "()I" } : Jvm.MethodName)) ∈ lw_all := lw_g (lw_at lw_m16 16 rfl) rfl
theorem q3710 : (Jvm.Cond.selects "RobotCellModel" ({ cls := "RobotCellModel", name := "undo", desc := "()I" } : Jvm.MethodName) ({ cls := "RobotCellModel", name := "undo", desc := "()I" } : Jvm.MethodName)) ∈ lw_all := lw_g (lw_at lw_m16 17 rfl) rfl
theorem q3711 : (Jvm.Cond.code ({ cls := "RobotCellModel", name := "undo", desc := "()I" } : Jvm.MethodName) prog_18_method_82_code (1 : Nat) (Option.some Jvm.ClassFile.FieldType.int)) ∈ lw_all := lw_g (lw_at lw_m16 18 rfl) rfl
theorem q3713 : (Jvm.Cond.instanceMethod ({ cls := "RobotCellModel", name := "save", desc := "()I" } : Jvm.MethodName)) ∈ lw_all := lw_g (lw_at lw_m16 20 rfl) rfl
theorem q3714 : (Jvm.Cond.selects "RobotCellModel" ({ cls := "RobotCellModel", name := "save", desc := "()I" } : Jvm.MethodName) ({ cls := "RobotCellModel", name := "save", desc := "()I" } : Jvm.MethodName)) ∈ lw_all := lw_g (lw_at lw_m16 21 rfl) rfl
theorem q3715 : (Jvm.Cond.code ({ cls := "RobotCellModel", name := "save", desc := "()I" } : Jvm.MethodName) prog_18_method_83_code (1 : Nat) (Option.some Jvm.ClassFile.FieldType.int)) ∈ lw_all := lw_g (lw_at lw_m16 22 rfl) rfl
theorem q3717 : (Jvm.Cond.instanceMethod ({ cls := "RobotCellModel", name := "restore", desc := "()I" } : Jvm.MethodName)) ∈ lw_all := lw_g (lw_at lw_m16 24 rfl) rfl
theorem q3718 : (Jvm.Cond.selects "RobotCellModel" ({ cls := "RobotCellModel", name := "restore", desc := "()I" } : Jvm.MethodName) ({ cls := "RobotCellModel", name := "restore", desc := "()I" } : Jvm.MethodName)) ∈ lw_all := lw_g (lw_at lw_m16 25 rfl) rfl
theorem q3719 : (Jvm.Cond.code ({ cls := "RobotCellModel", name := "restore", desc := "()I" } : Jvm.MethodName) prog_18_method_84_code (1 : Nat) (Option.some Jvm.ClassFile.FieldType.int)) ∈ lw_all := lw_g (lw_at lw_m16 26 rfl) rfl
theorem q3777 : (Jvm.Cond.castable "RobotCellModel" "java/lang/Object") ∈ lw_tbl := lw_at lw_m16 84 rfl
theorem in_X5 : ∀ w ∈ wsX50, w ∈ lw_all := lw_in wsX50 [3273, 3275, 3277, 3279, 3281, 3283, 3285, 3287, 3289, 3291, 3293, 3295, 3297, 3299, 3301, 3303, 3305, 3307, 3309, 3311, 3313, 3315, 3317, 3319, 3321, 3323, 3325, 3327, 3329, 3331, 3333, 3335, 3337, 3339, 3341, 3343, 3345, 3347, 3349, 3351, 3353, 3355, 3357, 3359, 3361, 3363, 3365, 3367, 3369, 3371, 3373, 3375, 3377, 3379, 3381, 3383, 3385, 3387, 3389, 3391, 3393, 3395, 3397] (by decide +kernel) (by decide +kernel)
