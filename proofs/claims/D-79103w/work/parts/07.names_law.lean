/-! RobotCellLaw -/
set_option maxRecDepth 100000
def RX0 : String := "RobotCellLaw"
abbrev cX0_setInterlock : ByteArray := method_3_code
def yX0_setInterlock : MethodName := ⟨RX0, "setInterlock", "(LRobotCell;IIZ[J)I"⟩
def dkwX0_setInterlock_1 : List UInt8 := [4, 172, 58, 5, 5, 172, 58, 5, 6, 172, 3, 172]
abbrev dktX0_setInterlock_1 : List UInt8 := dkwX0_setInterlock_1 ++ []
def dkwX0_setInterlock_0 : List UInt8 := [25, 4, 3, 42, 27, 28, 29, 182, 0, 7, 153, 0, 7, 10, 167, 0, 4, 9, 80, 167, 0, 15, 58, 5]
abbrev dktX0_setInterlock_0 : List UInt8 := dkwX0_setInterlock_0 ++ dktX0_setInterlock_1
theorem dksX0_setInterlock_0 : cX0_setInterlock.data.toList.drop 0 = dktX0_setInterlock_0 := by decide +kernel
theorem dksX0_setInterlock_1 : cX0_setInterlock.data.toList.drop 24 = dktX0_setInterlock_1 := dk_seg dksX0_setInterlock_0 24 rfl rfl
theorem dX0_setInterlock_0 : decode cX0_setInterlock 0 = .ok (.aload 4, 2) := dk_25 4 (dk_at dksX0_setInterlock_0 0 rfl rfl)
theorem dX0_setInterlock_2 : decode cX0_setInterlock 2 = .ok (.iconst 0, 1) := dk_3 (dk_at dksX0_setInterlock_0 2 rfl rfl)
theorem dX0_setInterlock_3 : decode cX0_setInterlock 3 = .ok (.aload_n 0, 1) := dk_42 (dk_at dksX0_setInterlock_0 3 rfl rfl)
theorem dX0_setInterlock_4 : decode cX0_setInterlock 4 = .ok (.iload_n 1, 1) := dk_27 (dk_at dksX0_setInterlock_0 4 rfl rfl)
theorem dX0_setInterlock_5 : decode cX0_setInterlock 5 = .ok (.iload_n 2, 1) := dk_28 (dk_at dksX0_setInterlock_0 5 rfl rfl)
theorem dX0_setInterlock_6 : decode cX0_setInterlock 6 = .ok (.iload_n 3, 1) := dk_29 (dk_at dksX0_setInterlock_0 6 rfl rfl)
theorem dX0_setInterlock_7 : decode cX0_setInterlock 7 = .ok (.invokevirtual 7, 3) := dk_182 0 7 (dk_at dksX0_setInterlock_0 7 rfl rfl)
theorem dX0_setInterlock_10 : decode cX0_setInterlock 10 = .ok (.ifCond .eq 7, 3) := dk_153 0 7 (dk_at dksX0_setInterlock_0 10 rfl rfl)
theorem dX0_setInterlock_13 : decode cX0_setInterlock 13 = .ok (.lconst 1, 1) := dk_10 (dk_at dksX0_setInterlock_0 13 rfl rfl)
theorem dX0_setInterlock_14 : decode cX0_setInterlock 14 = .ok (.goto 4, 3) := dk_167 0 4 (dk_at dksX0_setInterlock_0 14 rfl rfl)
theorem dX0_setInterlock_17 : decode cX0_setInterlock 17 = .ok (.lconst 0, 1) := dk_9 (dk_at dksX0_setInterlock_0 17 rfl rfl)
theorem dX0_setInterlock_18 : decode cX0_setInterlock 18 = .ok (.lastore, 1) := dk_80 (dk_at dksX0_setInterlock_0 18 rfl rfl)
theorem dX0_setInterlock_19 : decode cX0_setInterlock 19 = .ok (.goto 15, 3) := dk_167 0 15 (dk_at dksX0_setInterlock_0 19 rfl rfl)
theorem dX0_setInterlock_22 : decode cX0_setInterlock 22 = .ok (.astore 5, 2) := dk_58 5 (dk_at dksX0_setInterlock_0 22 rfl rfl)
theorem dX0_setInterlock_24 : decode cX0_setInterlock 24 = .ok (.iconst 1, 1) := dk_4 (dk_at dksX0_setInterlock_1 0 rfl rfl)
theorem dX0_setInterlock_25 : decode cX0_setInterlock 25 = .ok (.ireturn, 1) := dk_172 (dk_at dksX0_setInterlock_1 1 rfl rfl)
theorem dX0_setInterlock_26 : decode cX0_setInterlock 26 = .ok (.astore 5, 2) := dk_58 5 (dk_at dksX0_setInterlock_1 2 rfl rfl)
theorem dX0_setInterlock_28 : decode cX0_setInterlock 28 = .ok (.iconst 2, 1) := dk_5 (dk_at dksX0_setInterlock_1 4 rfl rfl)
theorem dX0_setInterlock_29 : decode cX0_setInterlock 29 = .ok (.ireturn, 1) := dk_172 (dk_at dksX0_setInterlock_1 5 rfl rfl)
theorem dX0_setInterlock_30 : decode cX0_setInterlock 30 = .ok (.astore 5, 2) := dk_58 5 (dk_at dksX0_setInterlock_1 6 rfl rfl)
theorem dX0_setInterlock_32 : decode cX0_setInterlock 32 = .ok (.iconst 3, 1) := dk_6 (dk_at dksX0_setInterlock_1 8 rfl rfl)
theorem dX0_setInterlock_33 : decode cX0_setInterlock 33 = .ok (.ireturn, 1) := dk_172 (dk_at dksX0_setInterlock_1 9 rfl rfl)
theorem dX0_setInterlock_34 : decode cX0_setInterlock 34 = .ok (.iconst 0, 1) := dk_3 (dk_at dksX0_setInterlock_1 10 rfl rfl)
theorem dX0_setInterlock_35 : decode cX0_setInterlock 35 = .ok (.ireturn, 1) := dk_172 (dk_at dksX0_setInterlock_1 11 rfl rfl)
abbrev cX0_setReach : ByteArray := method_4_code
def yX0_setReach : MethodName := ⟨RX0, "setReach", "(LRobotCell;II[J)I"⟩
def dkwX0_setReach_0 : List UInt8 := [45, 3, 42, 27, 28, 182, 0, 19, 133, 80, 167, 0, 11, 58, 4, 4, 172, 58, 4, 5, 172, 3, 172]
abbrev dktX0_setReach_0 : List UInt8 := dkwX0_setReach_0 ++ []
theorem dksX0_setReach_0 : cX0_setReach.data.toList.drop 0 = dktX0_setReach_0 := by decide +kernel
theorem dX0_setReach_0 : decode cX0_setReach 0 = .ok (.aload_n 3, 1) := dk_45 (dk_at dksX0_setReach_0 0 rfl rfl)
theorem dX0_setReach_1 : decode cX0_setReach 1 = .ok (.iconst 0, 1) := dk_3 (dk_at dksX0_setReach_0 1 rfl rfl)
theorem dX0_setReach_2 : decode cX0_setReach 2 = .ok (.aload_n 0, 1) := dk_42 (dk_at dksX0_setReach_0 2 rfl rfl)
theorem dX0_setReach_3 : decode cX0_setReach 3 = .ok (.iload_n 1, 1) := dk_27 (dk_at dksX0_setReach_0 3 rfl rfl)
theorem dX0_setReach_4 : decode cX0_setReach 4 = .ok (.iload_n 2, 1) := dk_28 (dk_at dksX0_setReach_0 4 rfl rfl)
theorem dX0_setReach_5 : decode cX0_setReach 5 = .ok (.invokevirtual 19, 3) := dk_182 0 19 (dk_at dksX0_setReach_0 5 rfl rfl)
theorem dX0_setReach_8 : decode cX0_setReach 8 = .ok (.i2l, 1) := dk_133 (dk_at dksX0_setReach_0 8 rfl rfl)
theorem dX0_setReach_9 : decode cX0_setReach 9 = .ok (.lastore, 1) := dk_80 (dk_at dksX0_setReach_0 9 rfl rfl)
theorem dX0_setReach_10 : decode cX0_setReach 10 = .ok (.goto 11, 3) := dk_167 0 11 (dk_at dksX0_setReach_0 10 rfl rfl)
theorem dX0_setReach_13 : decode cX0_setReach 13 = .ok (.astore 4, 2) := dk_58 4 (dk_at dksX0_setReach_0 13 rfl rfl)
theorem dX0_setReach_15 : decode cX0_setReach 15 = .ok (.iconst 1, 1) := dk_4 (dk_at dksX0_setReach_0 15 rfl rfl)
theorem dX0_setReach_16 : decode cX0_setReach 16 = .ok (.ireturn, 1) := dk_172 (dk_at dksX0_setReach_0 16 rfl rfl)
theorem dX0_setReach_17 : decode cX0_setReach 17 = .ok (.astore 4, 2) := dk_58 4 (dk_at dksX0_setReach_0 17 rfl rfl)
theorem dX0_setReach_19 : decode cX0_setReach 19 = .ok (.iconst 2, 1) := dk_5 (dk_at dksX0_setReach_0 19 rfl rfl)
theorem dX0_setReach_20 : decode cX0_setReach 20 = .ok (.ireturn, 1) := dk_172 (dk_at dksX0_setReach_0 20 rfl rfl)
theorem dX0_setReach_21 : decode cX0_setReach 21 = .ok (.iconst 0, 1) := dk_3 (dk_at dksX0_setReach_0 21 rfl rfl)
theorem dX0_setReach_22 : decode cX0_setReach 22 = .ok (.ireturn, 1) := dk_172 (dk_at dksX0_setReach_0 22 rfl rfl)
abbrev cX0_setCapacity : ByteArray := method_5_code
def yX0_setCapacity : MethodName := ⟨RX0, "setCapacity", "(LRobotCell;II[J)I"⟩
def dkwX0_setCapacity_1 : List UInt8 := [172, 3, 172]
abbrev dktX0_setCapacity_1 : List UInt8 := dkwX0_setCapacity_1 ++ []
def dkwX0_setCapacity_0 : List UInt8 := [45, 3, 42, 27, 28, 182, 0, 23, 133, 80, 167, 0, 15, 58, 4, 4, 172, 58, 4, 5, 172, 58, 4, 6]
abbrev dktX0_setCapacity_0 : List UInt8 := dkwX0_setCapacity_0 ++ dktX0_setCapacity_1
theorem dksX0_setCapacity_0 : cX0_setCapacity.data.toList.drop 0 = dktX0_setCapacity_0 := by decide +kernel
theorem dksX0_setCapacity_1 : cX0_setCapacity.data.toList.drop 24 = dktX0_setCapacity_1 := dk_seg dksX0_setCapacity_0 24 rfl rfl
theorem dX0_setCapacity_0 : decode cX0_setCapacity 0 = .ok (.aload_n 3, 1) := dk_45 (dk_at dksX0_setCapacity_0 0 rfl rfl)
theorem dX0_setCapacity_1 : decode cX0_setCapacity 1 = .ok (.iconst 0, 1) := dk_3 (dk_at dksX0_setCapacity_0 1 rfl rfl)
theorem dX0_setCapacity_2 : decode cX0_setCapacity 2 = .ok (.aload_n 0, 1) := dk_42 (dk_at dksX0_setCapacity_0 2 rfl rfl)
theorem dX0_setCapacity_3 : decode cX0_setCapacity 3 = .ok (.iload_n 1, 1) := dk_27 (dk_at dksX0_setCapacity_0 3 rfl rfl)
theorem dX0_setCapacity_4 : decode cX0_setCapacity 4 = .ok (.iload_n 2, 1) := dk_28 (dk_at dksX0_setCapacity_0 4 rfl rfl)
theorem dX0_setCapacity_5 : decode cX0_setCapacity 5 = .ok (.invokevirtual 23, 3) := dk_182 0 23 (dk_at dksX0_setCapacity_0 5 rfl rfl)
theorem dX0_setCapacity_8 : decode cX0_setCapacity 8 = .ok (.i2l, 1) := dk_133 (dk_at dksX0_setCapacity_0 8 rfl rfl)
theorem dX0_setCapacity_9 : decode cX0_setCapacity 9 = .ok (.lastore, 1) := dk_80 (dk_at dksX0_setCapacity_0 9 rfl rfl)
theorem dX0_setCapacity_10 : decode cX0_setCapacity 10 = .ok (.goto 15, 3) := dk_167 0 15 (dk_at dksX0_setCapacity_0 10 rfl rfl)
theorem dX0_setCapacity_13 : decode cX0_setCapacity 13 = .ok (.astore 4, 2) := dk_58 4 (dk_at dksX0_setCapacity_0 13 rfl rfl)
theorem dX0_setCapacity_15 : decode cX0_setCapacity 15 = .ok (.iconst 1, 1) := dk_4 (dk_at dksX0_setCapacity_0 15 rfl rfl)
theorem dX0_setCapacity_16 : decode cX0_setCapacity 16 = .ok (.ireturn, 1) := dk_172 (dk_at dksX0_setCapacity_0 16 rfl rfl)
theorem dX0_setCapacity_17 : decode cX0_setCapacity 17 = .ok (.astore 4, 2) := dk_58 4 (dk_at dksX0_setCapacity_0 17 rfl rfl)
theorem dX0_setCapacity_19 : decode cX0_setCapacity 19 = .ok (.iconst 2, 1) := dk_5 (dk_at dksX0_setCapacity_0 19 rfl rfl)
theorem dX0_setCapacity_20 : decode cX0_setCapacity 20 = .ok (.ireturn, 1) := dk_172 (dk_at dksX0_setCapacity_0 20 rfl rfl)
theorem dX0_setCapacity_21 : decode cX0_setCapacity 21 = .ok (.astore 4, 2) := dk_58 4 (dk_at dksX0_setCapacity_0 21 rfl rfl)
theorem dX0_setCapacity_23 : decode cX0_setCapacity 23 = .ok (.iconst 3, 1) := dk_6 (dk_at dksX0_setCapacity_0 23 rfl rfl)
theorem dX0_setCapacity_24 : decode cX0_setCapacity 24 = .ok (.ireturn, 1) := dk_172 (dk_at dksX0_setCapacity_1 0 rfl rfl)
theorem dX0_setCapacity_25 : decode cX0_setCapacity 25 = .ok (.iconst 0, 1) := dk_3 (dk_at dksX0_setCapacity_1 1 rfl rfl)
theorem dX0_setCapacity_26 : decode cX0_setCapacity 26 = .ok (.ireturn, 1) := dk_172 (dk_at dksX0_setCapacity_1 2 rfl rfl)
abbrev cX0_supply : ByteArray := method_6_code
def yX0_supply : MethodName := ⟨RX0, "supply", "(LRobotCell;I[J)I"⟩
def dkwX0_supply_0 : List UInt8 := [44, 3, 42, 27, 182, 0, 26, 133, 80, 167, 0, 9, 78, 4, 172, 78, 5, 172, 3, 172]
abbrev dktX0_supply_0 : List UInt8 := dkwX0_supply_0 ++ []
theorem dksX0_supply_0 : cX0_supply.data.toList.drop 0 = dktX0_supply_0 := by decide +kernel
theorem dX0_supply_0 : decode cX0_supply 0 = .ok (.aload_n 2, 1) := dk_44 (dk_at dksX0_supply_0 0 rfl rfl)
theorem dX0_supply_1 : decode cX0_supply 1 = .ok (.iconst 0, 1) := dk_3 (dk_at dksX0_supply_0 1 rfl rfl)
theorem dX0_supply_2 : decode cX0_supply 2 = .ok (.aload_n 0, 1) := dk_42 (dk_at dksX0_supply_0 2 rfl rfl)
theorem dX0_supply_3 : decode cX0_supply 3 = .ok (.iload_n 1, 1) := dk_27 (dk_at dksX0_supply_0 3 rfl rfl)
theorem dX0_supply_4 : decode cX0_supply 4 = .ok (.invokevirtual 26, 3) := dk_182 0 26 (dk_at dksX0_supply_0 4 rfl rfl)
theorem dX0_supply_7 : decode cX0_supply 7 = .ok (.i2l, 1) := dk_133 (dk_at dksX0_supply_0 7 rfl rfl)
theorem dX0_supply_8 : decode cX0_supply 8 = .ok (.lastore, 1) := dk_80 (dk_at dksX0_supply_0 8 rfl rfl)
theorem dX0_supply_9 : decode cX0_supply 9 = .ok (.goto 9, 3) := dk_167 0 9 (dk_at dksX0_supply_0 9 rfl rfl)
theorem dX0_supply_12 : decode cX0_supply 12 = .ok (.astore_n 3, 1) := dk_78 (dk_at dksX0_supply_0 12 rfl rfl)
theorem dX0_supply_13 : decode cX0_supply 13 = .ok (.iconst 1, 1) := dk_4 (dk_at dksX0_supply_0 13 rfl rfl)
theorem dX0_supply_14 : decode cX0_supply 14 = .ok (.ireturn, 1) := dk_172 (dk_at dksX0_supply_0 14 rfl rfl)
theorem dX0_supply_15 : decode cX0_supply 15 = .ok (.astore_n 3, 1) := dk_78 (dk_at dksX0_supply_0 15 rfl rfl)
theorem dX0_supply_16 : decode cX0_supply 16 = .ok (.iconst 2, 1) := dk_5 (dk_at dksX0_supply_0 16 rfl rfl)
theorem dX0_supply_17 : decode cX0_supply 17 = .ok (.ireturn, 1) := dk_172 (dk_at dksX0_supply_0 17 rfl rfl)
theorem dX0_supply_18 : decode cX0_supply 18 = .ok (.iconst 0, 1) := dk_3 (dk_at dksX0_supply_0 18 rfl rfl)
theorem dX0_supply_19 : decode cX0_supply 19 = .ok (.ireturn, 1) := dk_172 (dk_at dksX0_supply_0 19 rfl rfl)
abbrev cX0_zone : ByteArray := method_7_code
def yX0_zone : MethodName := ⟨RX0, "zone", "(LRobotCell;II[J)I"⟩
def dkwX0_zone_0 : List UInt8 := [45, 3, 42, 27, 28, 182, 0, 30, 133, 80, 167, 0, 11, 58, 4, 4, 172, 58, 4, 5, 172, 3, 172]
abbrev dktX0_zone_0 : List UInt8 := dkwX0_zone_0 ++ []
theorem dksX0_zone_0 : cX0_zone.data.toList.drop 0 = dktX0_zone_0 := by decide +kernel
theorem dX0_zone_0 : decode cX0_zone 0 = .ok (.aload_n 3, 1) := dk_45 (dk_at dksX0_zone_0 0 rfl rfl)
theorem dX0_zone_1 : decode cX0_zone 1 = .ok (.iconst 0, 1) := dk_3 (dk_at dksX0_zone_0 1 rfl rfl)
theorem dX0_zone_2 : decode cX0_zone 2 = .ok (.aload_n 0, 1) := dk_42 (dk_at dksX0_zone_0 2 rfl rfl)
theorem dX0_zone_3 : decode cX0_zone 3 = .ok (.iload_n 1, 1) := dk_27 (dk_at dksX0_zone_0 3 rfl rfl)
theorem dX0_zone_4 : decode cX0_zone 4 = .ok (.iload_n 2, 1) := dk_28 (dk_at dksX0_zone_0 4 rfl rfl)
theorem dX0_zone_5 : decode cX0_zone 5 = .ok (.invokevirtual 30, 3) := dk_182 0 30 (dk_at dksX0_zone_0 5 rfl rfl)
theorem dX0_zone_8 : decode cX0_zone 8 = .ok (.i2l, 1) := dk_133 (dk_at dksX0_zone_0 8 rfl rfl)
theorem dX0_zone_9 : decode cX0_zone 9 = .ok (.lastore, 1) := dk_80 (dk_at dksX0_zone_0 9 rfl rfl)
theorem dX0_zone_10 : decode cX0_zone 10 = .ok (.goto 11, 3) := dk_167 0 11 (dk_at dksX0_zone_0 10 rfl rfl)
theorem dX0_zone_13 : decode cX0_zone 13 = .ok (.astore 4, 2) := dk_58 4 (dk_at dksX0_zone_0 13 rfl rfl)
theorem dX0_zone_15 : decode cX0_zone 15 = .ok (.iconst 1, 1) := dk_4 (dk_at dksX0_zone_0 15 rfl rfl)
theorem dX0_zone_16 : decode cX0_zone 16 = .ok (.ireturn, 1) := dk_172 (dk_at dksX0_zone_0 16 rfl rfl)
theorem dX0_zone_17 : decode cX0_zone 17 = .ok (.astore 4, 2) := dk_58 4 (dk_at dksX0_zone_0 17 rfl rfl)
theorem dX0_zone_19 : decode cX0_zone 19 = .ok (.iconst 2, 1) := dk_5 (dk_at dksX0_zone_0 19 rfl rfl)
theorem dX0_zone_20 : decode cX0_zone 20 = .ok (.ireturn, 1) := dk_172 (dk_at dksX0_zone_0 20 rfl rfl)
theorem dX0_zone_21 : decode cX0_zone 21 = .ok (.iconst 0, 1) := dk_3 (dk_at dksX0_zone_0 21 rfl rfl)
theorem dX0_zone_22 : decode cX0_zone 22 = .ok (.ireturn, 1) := dk_172 (dk_at dksX0_zone_0 22 rfl rfl)
abbrev cX0_buffer : ByteArray := method_8_code
def yX0_buffer : MethodName := ⟨RX0, "buffer", "(LRobotCell;II[J)I"⟩
def dkwX0_buffer_0 : List UInt8 := [45, 3, 42, 27, 28, 182, 0, 33, 133, 80, 167, 0, 11, 58, 4, 4, 172, 58, 4, 5, 172, 3, 172]
abbrev dktX0_buffer_0 : List UInt8 := dkwX0_buffer_0 ++ []
theorem dksX0_buffer_0 : cX0_buffer.data.toList.drop 0 = dktX0_buffer_0 := by decide +kernel
theorem dX0_buffer_0 : decode cX0_buffer 0 = .ok (.aload_n 3, 1) := dk_45 (dk_at dksX0_buffer_0 0 rfl rfl)
theorem dX0_buffer_1 : decode cX0_buffer 1 = .ok (.iconst 0, 1) := dk_3 (dk_at dksX0_buffer_0 1 rfl rfl)
theorem dX0_buffer_2 : decode cX0_buffer 2 = .ok (.aload_n 0, 1) := dk_42 (dk_at dksX0_buffer_0 2 rfl rfl)
theorem dX0_buffer_3 : decode cX0_buffer 3 = .ok (.iload_n 1, 1) := dk_27 (dk_at dksX0_buffer_0 3 rfl rfl)
theorem dX0_buffer_4 : decode cX0_buffer 4 = .ok (.iload_n 2, 1) := dk_28 (dk_at dksX0_buffer_0 4 rfl rfl)
theorem dX0_buffer_5 : decode cX0_buffer 5 = .ok (.invokevirtual 33, 3) := dk_182 0 33 (dk_at dksX0_buffer_0 5 rfl rfl)
theorem dX0_buffer_8 : decode cX0_buffer 8 = .ok (.i2l, 1) := dk_133 (dk_at dksX0_buffer_0 8 rfl rfl)
theorem dX0_buffer_9 : decode cX0_buffer 9 = .ok (.lastore, 1) := dk_80 (dk_at dksX0_buffer_0 9 rfl rfl)
theorem dX0_buffer_10 : decode cX0_buffer 10 = .ok (.goto 11, 3) := dk_167 0 11 (dk_at dksX0_buffer_0 10 rfl rfl)
theorem dX0_buffer_13 : decode cX0_buffer 13 = .ok (.astore 4, 2) := dk_58 4 (dk_at dksX0_buffer_0 13 rfl rfl)
theorem dX0_buffer_15 : decode cX0_buffer 15 = .ok (.iconst 1, 1) := dk_4 (dk_at dksX0_buffer_0 15 rfl rfl)
theorem dX0_buffer_16 : decode cX0_buffer 16 = .ok (.ireturn, 1) := dk_172 (dk_at dksX0_buffer_0 16 rfl rfl)
theorem dX0_buffer_17 : decode cX0_buffer 17 = .ok (.astore 4, 2) := dk_58 4 (dk_at dksX0_buffer_0 17 rfl rfl)
theorem dX0_buffer_19 : decode cX0_buffer 19 = .ok (.iconst 2, 1) := dk_5 (dk_at dksX0_buffer_0 19 rfl rfl)
theorem dX0_buffer_20 : decode cX0_buffer 20 = .ok (.ireturn, 1) := dk_172 (dk_at dksX0_buffer_0 20 rfl rfl)
theorem dX0_buffer_21 : decode cX0_buffer 21 = .ok (.iconst 0, 1) := dk_3 (dk_at dksX0_buffer_0 21 rfl rfl)
theorem dX0_buffer_22 : decode cX0_buffer 22 = .ok (.ireturn, 1) := dk_172 (dk_at dksX0_buffer_0 22 rfl rfl)
abbrev cX0_part : ByteArray := method_9_code
def yX0_part : MethodName := ⟨RX0, "part", "(LRobotCell;II[J)I"⟩
def dkwX0_part_0 : List UInt8 := [45, 3, 42, 27, 28, 182, 0, 36, 133, 80, 167, 0, 11, 58, 4, 4, 172, 58, 4, 5, 172, 3, 172]
abbrev dktX0_part_0 : List UInt8 := dkwX0_part_0 ++ []
theorem dksX0_part_0 : cX0_part.data.toList.drop 0 = dktX0_part_0 := by decide +kernel
theorem dX0_part_0 : decode cX0_part 0 = .ok (.aload_n 3, 1) := dk_45 (dk_at dksX0_part_0 0 rfl rfl)
theorem dX0_part_1 : decode cX0_part 1 = .ok (.iconst 0, 1) := dk_3 (dk_at dksX0_part_0 1 rfl rfl)
theorem dX0_part_2 : decode cX0_part 2 = .ok (.aload_n 0, 1) := dk_42 (dk_at dksX0_part_0 2 rfl rfl)
theorem dX0_part_3 : decode cX0_part 3 = .ok (.iload_n 1, 1) := dk_27 (dk_at dksX0_part_0 3 rfl rfl)
theorem dX0_part_4 : decode cX0_part 4 = .ok (.iload_n 2, 1) := dk_28 (dk_at dksX0_part_0 4 rfl rfl)
theorem dX0_part_5 : decode cX0_part 5 = .ok (.invokevirtual 36, 3) := dk_182 0 36 (dk_at dksX0_part_0 5 rfl rfl)
theorem dX0_part_8 : decode cX0_part 8 = .ok (.i2l, 1) := dk_133 (dk_at dksX0_part_0 8 rfl rfl)
theorem dX0_part_9 : decode cX0_part 9 = .ok (.lastore, 1) := dk_80 (dk_at dksX0_part_0 9 rfl rfl)
theorem dX0_part_10 : decode cX0_part 10 = .ok (.goto 11, 3) := dk_167 0 11 (dk_at dksX0_part_0 10 rfl rfl)
theorem dX0_part_13 : decode cX0_part 13 = .ok (.astore 4, 2) := dk_58 4 (dk_at dksX0_part_0 13 rfl rfl)
theorem dX0_part_15 : decode cX0_part 15 = .ok (.iconst 1, 1) := dk_4 (dk_at dksX0_part_0 15 rfl rfl)
theorem dX0_part_16 : decode cX0_part 16 = .ok (.ireturn, 1) := dk_172 (dk_at dksX0_part_0 16 rfl rfl)
theorem dX0_part_17 : decode cX0_part 17 = .ok (.astore 4, 2) := dk_58 4 (dk_at dksX0_part_0 17 rfl rfl)
theorem dX0_part_19 : decode cX0_part 19 = .ok (.iconst 2, 1) := dk_5 (dk_at dksX0_part_0 19 rfl rfl)
theorem dX0_part_20 : decode cX0_part 20 = .ok (.ireturn, 1) := dk_172 (dk_at dksX0_part_0 20 rfl rfl)
theorem dX0_part_21 : decode cX0_part 21 = .ok (.iconst 0, 1) := dk_3 (dk_at dksX0_part_0 21 rfl rfl)
theorem dX0_part_22 : decode cX0_part 22 = .ok (.ireturn, 1) := dk_172 (dk_at dksX0_part_0 22 rfl rfl)
abbrev cX0_give : ByteArray := method_10_code
def yX0_give : MethodName := ⟨RX0, "give", "(LRobotCell;IIIIII[J)I"⟩
def dkwX0_give_1 : List UInt8 := [172, 58, 8, 5, 172, 58, 8, 6, 172, 58, 8, 7, 172, 3, 172]
abbrev dktX0_give_1 : List UInt8 := dkwX0_give_1 ++ []
def dkwX0_give_0 : List UInt8 := [25, 7, 3, 42, 27, 28, 29, 21, 4, 21, 5, 21, 6, 182, 0, 41, 133, 80, 167, 0, 19, 58, 8, 4]
abbrev dktX0_give_0 : List UInt8 := dkwX0_give_0 ++ dktX0_give_1
theorem dksX0_give_0 : cX0_give.data.toList.drop 0 = dktX0_give_0 := by decide +kernel
theorem dksX0_give_1 : cX0_give.data.toList.drop 24 = dktX0_give_1 := dk_seg dksX0_give_0 24 rfl rfl
theorem dX0_give_0 : decode cX0_give 0 = .ok (.aload 7, 2) := dk_25 7 (dk_at dksX0_give_0 0 rfl rfl)
theorem dX0_give_2 : decode cX0_give 2 = .ok (.iconst 0, 1) := dk_3 (dk_at dksX0_give_0 2 rfl rfl)
theorem dX0_give_3 : decode cX0_give 3 = .ok (.aload_n 0, 1) := dk_42 (dk_at dksX0_give_0 3 rfl rfl)
theorem dX0_give_4 : decode cX0_give 4 = .ok (.iload_n 1, 1) := dk_27 (dk_at dksX0_give_0 4 rfl rfl)
theorem dX0_give_5 : decode cX0_give 5 = .ok (.iload_n 2, 1) := dk_28 (dk_at dksX0_give_0 5 rfl rfl)
theorem dX0_give_6 : decode cX0_give 6 = .ok (.iload_n 3, 1) := dk_29 (dk_at dksX0_give_0 6 rfl rfl)
theorem dX0_give_7 : decode cX0_give 7 = .ok (.iload 4, 2) := dk_21 4 (dk_at dksX0_give_0 7 rfl rfl)
theorem dX0_give_9 : decode cX0_give 9 = .ok (.iload 5, 2) := dk_21 5 (dk_at dksX0_give_0 9 rfl rfl)
theorem dX0_give_11 : decode cX0_give 11 = .ok (.iload 6, 2) := dk_21 6 (dk_at dksX0_give_0 11 rfl rfl)
theorem dX0_give_13 : decode cX0_give 13 = .ok (.invokevirtual 41, 3) := dk_182 0 41 (dk_at dksX0_give_0 13 rfl rfl)
theorem dX0_give_16 : decode cX0_give 16 = .ok (.i2l, 1) := dk_133 (dk_at dksX0_give_0 16 rfl rfl)
theorem dX0_give_17 : decode cX0_give 17 = .ok (.lastore, 1) := dk_80 (dk_at dksX0_give_0 17 rfl rfl)
theorem dX0_give_18 : decode cX0_give 18 = .ok (.goto 19, 3) := dk_167 0 19 (dk_at dksX0_give_0 18 rfl rfl)
theorem dX0_give_21 : decode cX0_give 21 = .ok (.astore 8, 2) := dk_58 8 (dk_at dksX0_give_0 21 rfl rfl)
theorem dX0_give_23 : decode cX0_give 23 = .ok (.iconst 1, 1) := dk_4 (dk_at dksX0_give_0 23 rfl rfl)
theorem dX0_give_24 : decode cX0_give 24 = .ok (.ireturn, 1) := dk_172 (dk_at dksX0_give_1 0 rfl rfl)
theorem dX0_give_25 : decode cX0_give 25 = .ok (.astore 8, 2) := dk_58 8 (dk_at dksX0_give_1 1 rfl rfl)
theorem dX0_give_27 : decode cX0_give 27 = .ok (.iconst 2, 1) := dk_5 (dk_at dksX0_give_1 3 rfl rfl)
theorem dX0_give_28 : decode cX0_give 28 = .ok (.ireturn, 1) := dk_172 (dk_at dksX0_give_1 4 rfl rfl)
theorem dX0_give_29 : decode cX0_give 29 = .ok (.astore 8, 2) := dk_58 8 (dk_at dksX0_give_1 5 rfl rfl)
theorem dX0_give_31 : decode cX0_give 31 = .ok (.iconst 3, 1) := dk_6 (dk_at dksX0_give_1 7 rfl rfl)
theorem dX0_give_32 : decode cX0_give 32 = .ok (.ireturn, 1) := dk_172 (dk_at dksX0_give_1 8 rfl rfl)
theorem dX0_give_33 : decode cX0_give 33 = .ok (.astore 8, 2) := dk_58 8 (dk_at dksX0_give_1 9 rfl rfl)
theorem dX0_give_35 : decode cX0_give 35 = .ok (.iconst 4, 1) := dk_7 (dk_at dksX0_give_1 11 rfl rfl)
theorem dX0_give_36 : decode cX0_give 36 = .ok (.ireturn, 1) := dk_172 (dk_at dksX0_give_1 12 rfl rfl)
theorem dX0_give_37 : decode cX0_give 37 = .ok (.iconst 0, 1) := dk_3 (dk_at dksX0_give_1 13 rfl rfl)
theorem dX0_give_38 : decode cX0_give 38 = .ok (.ireturn, 1) := dk_172 (dk_at dksX0_give_1 14 rfl rfl)
abbrev cX0_withdraw : ByteArray := method_11_code
def yX0_withdraw : MethodName := ⟨RX0, "withdraw", "(LRobotCell;I[J)I"⟩
def dkwX0_withdraw_0 : List UInt8 := [44, 3, 42, 27, 182, 0, 47, 133, 80, 167, 0, 9, 78, 4, 172, 78, 5, 172, 3, 172]
abbrev dktX0_withdraw_0 : List UInt8 := dkwX0_withdraw_0 ++ []
theorem dksX0_withdraw_0 : cX0_withdraw.data.toList.drop 0 = dktX0_withdraw_0 := by decide +kernel
theorem dX0_withdraw_0 : decode cX0_withdraw 0 = .ok (.aload_n 2, 1) := dk_44 (dk_at dksX0_withdraw_0 0 rfl rfl)
theorem dX0_withdraw_1 : decode cX0_withdraw 1 = .ok (.iconst 0, 1) := dk_3 (dk_at dksX0_withdraw_0 1 rfl rfl)
theorem dX0_withdraw_2 : decode cX0_withdraw 2 = .ok (.aload_n 0, 1) := dk_42 (dk_at dksX0_withdraw_0 2 rfl rfl)
theorem dX0_withdraw_3 : decode cX0_withdraw 3 = .ok (.iload_n 1, 1) := dk_27 (dk_at dksX0_withdraw_0 3 rfl rfl)
theorem dX0_withdraw_4 : decode cX0_withdraw 4 = .ok (.invokevirtual 47, 3) := dk_182 0 47 (dk_at dksX0_withdraw_0 4 rfl rfl)
theorem dX0_withdraw_7 : decode cX0_withdraw 7 = .ok (.i2l, 1) := dk_133 (dk_at dksX0_withdraw_0 7 rfl rfl)
theorem dX0_withdraw_8 : decode cX0_withdraw 8 = .ok (.lastore, 1) := dk_80 (dk_at dksX0_withdraw_0 8 rfl rfl)
theorem dX0_withdraw_9 : decode cX0_withdraw 9 = .ok (.goto 9, 3) := dk_167 0 9 (dk_at dksX0_withdraw_0 9 rfl rfl)
theorem dX0_withdraw_12 : decode cX0_withdraw 12 = .ok (.astore_n 3, 1) := dk_78 (dk_at dksX0_withdraw_0 12 rfl rfl)
theorem dX0_withdraw_13 : decode cX0_withdraw 13 = .ok (.iconst 1, 1) := dk_4 (dk_at dksX0_withdraw_0 13 rfl rfl)
theorem dX0_withdraw_14 : decode cX0_withdraw 14 = .ok (.ireturn, 1) := dk_172 (dk_at dksX0_withdraw_0 14 rfl rfl)
theorem dX0_withdraw_15 : decode cX0_withdraw 15 = .ok (.astore_n 3, 1) := dk_78 (dk_at dksX0_withdraw_0 15 rfl rfl)
theorem dX0_withdraw_16 : decode cX0_withdraw 16 = .ok (.iconst 2, 1) := dk_5 (dk_at dksX0_withdraw_0 16 rfl rfl)
theorem dX0_withdraw_17 : decode cX0_withdraw 17 = .ok (.ireturn, 1) := dk_172 (dk_at dksX0_withdraw_0 17 rfl rfl)
theorem dX0_withdraw_18 : decode cX0_withdraw 18 = .ok (.iconst 0, 1) := dk_3 (dk_at dksX0_withdraw_0 18 rfl rfl)
theorem dX0_withdraw_19 : decode cX0_withdraw 19 = .ok (.ireturn, 1) := dk_172 (dk_at dksX0_withdraw_0 19 rfl rfl)
abbrev cX0_job : ByteArray := method_12_code
def yX0_job : MethodName := ⟨RX0, "job", "(LRobotCell;II[J)I"⟩
def dkwX0_job_0 : List UInt8 := [45, 3, 42, 27, 28, 182, 0, 50, 133, 80, 167, 0, 11, 58, 4, 4, 172, 58, 4, 5, 172, 3, 172]
abbrev dktX0_job_0 : List UInt8 := dkwX0_job_0 ++ []
theorem dksX0_job_0 : cX0_job.data.toList.drop 0 = dktX0_job_0 := by decide +kernel
theorem dX0_job_0 : decode cX0_job 0 = .ok (.aload_n 3, 1) := dk_45 (dk_at dksX0_job_0 0 rfl rfl)
theorem dX0_job_1 : decode cX0_job 1 = .ok (.iconst 0, 1) := dk_3 (dk_at dksX0_job_0 1 rfl rfl)
theorem dX0_job_2 : decode cX0_job 2 = .ok (.aload_n 0, 1) := dk_42 (dk_at dksX0_job_0 2 rfl rfl)
theorem dX0_job_3 : decode cX0_job 3 = .ok (.iload_n 1, 1) := dk_27 (dk_at dksX0_job_0 3 rfl rfl)
theorem dX0_job_4 : decode cX0_job 4 = .ok (.iload_n 2, 1) := dk_28 (dk_at dksX0_job_0 4 rfl rfl)
theorem dX0_job_5 : decode cX0_job 5 = .ok (.invokevirtual 50, 3) := dk_182 0 50 (dk_at dksX0_job_0 5 rfl rfl)
theorem dX0_job_8 : decode cX0_job 8 = .ok (.i2l, 1) := dk_133 (dk_at dksX0_job_0 8 rfl rfl)
theorem dX0_job_9 : decode cX0_job 9 = .ok (.lastore, 1) := dk_80 (dk_at dksX0_job_0 9 rfl rfl)
theorem dX0_job_10 : decode cX0_job 10 = .ok (.goto 11, 3) := dk_167 0 11 (dk_at dksX0_job_0 10 rfl rfl)
theorem dX0_job_13 : decode cX0_job 13 = .ok (.astore 4, 2) := dk_58 4 (dk_at dksX0_job_0 13 rfl rfl)
theorem dX0_job_15 : decode cX0_job 15 = .ok (.iconst 1, 1) := dk_4 (dk_at dksX0_job_0 15 rfl rfl)
theorem dX0_job_16 : decode cX0_job 16 = .ok (.ireturn, 1) := dk_172 (dk_at dksX0_job_0 16 rfl rfl)
theorem dX0_job_17 : decode cX0_job 17 = .ok (.astore 4, 2) := dk_58 4 (dk_at dksX0_job_0 17 rfl rfl)
theorem dX0_job_19 : decode cX0_job 19 = .ok (.iconst 2, 1) := dk_5 (dk_at dksX0_job_0 19 rfl rfl)
theorem dX0_job_20 : decode cX0_job 20 = .ok (.ireturn, 1) := dk_172 (dk_at dksX0_job_0 20 rfl rfl)
theorem dX0_job_21 : decode cX0_job 21 = .ok (.iconst 0, 1) := dk_3 (dk_at dksX0_job_0 21 rfl rfl)
theorem dX0_job_22 : decode cX0_job 22 = .ok (.ireturn, 1) := dk_172 (dk_at dksX0_job_0 22 rfl rfl)
abbrev cX0_arm : ByteArray := method_13_code
def yX0_arm : MethodName := ⟨RX0, "arm", "(LRobotCell;II[J)I"⟩
def dkwX0_arm_0 : List UInt8 := [45, 3, 42, 27, 28, 182, 0, 53, 133, 80, 167, 0, 11, 58, 4, 4, 172, 58, 4, 5, 172, 3, 172]
abbrev dktX0_arm_0 : List UInt8 := dkwX0_arm_0 ++ []
theorem dksX0_arm_0 : cX0_arm.data.toList.drop 0 = dktX0_arm_0 := by decide +kernel
theorem dX0_arm_0 : decode cX0_arm 0 = .ok (.aload_n 3, 1) := dk_45 (dk_at dksX0_arm_0 0 rfl rfl)
theorem dX0_arm_1 : decode cX0_arm 1 = .ok (.iconst 0, 1) := dk_3 (dk_at dksX0_arm_0 1 rfl rfl)
theorem dX0_arm_2 : decode cX0_arm 2 = .ok (.aload_n 0, 1) := dk_42 (dk_at dksX0_arm_0 2 rfl rfl)
theorem dX0_arm_3 : decode cX0_arm 3 = .ok (.iload_n 1, 1) := dk_27 (dk_at dksX0_arm_0 3 rfl rfl)
theorem dX0_arm_4 : decode cX0_arm 4 = .ok (.iload_n 2, 1) := dk_28 (dk_at dksX0_arm_0 4 rfl rfl)
theorem dX0_arm_5 : decode cX0_arm 5 = .ok (.invokevirtual 53, 3) := dk_182 0 53 (dk_at dksX0_arm_0 5 rfl rfl)
theorem dX0_arm_8 : decode cX0_arm 8 = .ok (.i2l, 1) := dk_133 (dk_at dksX0_arm_0 8 rfl rfl)
theorem dX0_arm_9 : decode cX0_arm 9 = .ok (.lastore, 1) := dk_80 (dk_at dksX0_arm_0 9 rfl rfl)
theorem dX0_arm_10 : decode cX0_arm 10 = .ok (.goto 11, 3) := dk_167 0 11 (dk_at dksX0_arm_0 10 rfl rfl)
theorem dX0_arm_13 : decode cX0_arm 13 = .ok (.astore 4, 2) := dk_58 4 (dk_at dksX0_arm_0 13 rfl rfl)
theorem dX0_arm_15 : decode cX0_arm 15 = .ok (.iconst 1, 1) := dk_4 (dk_at dksX0_arm_0 15 rfl rfl)
theorem dX0_arm_16 : decode cX0_arm 16 = .ok (.ireturn, 1) := dk_172 (dk_at dksX0_arm_0 16 rfl rfl)
theorem dX0_arm_17 : decode cX0_arm 17 = .ok (.astore 4, 2) := dk_58 4 (dk_at dksX0_arm_0 17 rfl rfl)
theorem dX0_arm_19 : decode cX0_arm 19 = .ok (.iconst 2, 1) := dk_5 (dk_at dksX0_arm_0 19 rfl rfl)
theorem dX0_arm_20 : decode cX0_arm 20 = .ok (.ireturn, 1) := dk_172 (dk_at dksX0_arm_0 20 rfl rfl)
theorem dX0_arm_21 : decode cX0_arm 21 = .ok (.iconst 0, 1) := dk_3 (dk_at dksX0_arm_0 21 rfl rfl)
theorem dX0_arm_22 : decode cX0_arm 22 = .ok (.ireturn, 1) := dk_172 (dk_at dksX0_arm_0 22 rfl rfl)
abbrev cX0_waiting : ByteArray := method_14_code
def yX0_waiting : MethodName := ⟨RX0, "waiting", "(LRobotCell;II[J)I"⟩
def dkwX0_waiting_0 : List UInt8 := [45, 3, 42, 27, 28, 182, 0, 56, 133, 80, 167, 0, 7, 58, 4, 4, 172, 3, 172]
abbrev dktX0_waiting_0 : List UInt8 := dkwX0_waiting_0 ++ []
theorem dksX0_waiting_0 : cX0_waiting.data.toList.drop 0 = dktX0_waiting_0 := by decide +kernel
theorem dX0_waiting_0 : decode cX0_waiting 0 = .ok (.aload_n 3, 1) := dk_45 (dk_at dksX0_waiting_0 0 rfl rfl)
theorem dX0_waiting_1 : decode cX0_waiting 1 = .ok (.iconst 0, 1) := dk_3 (dk_at dksX0_waiting_0 1 rfl rfl)
theorem dX0_waiting_2 : decode cX0_waiting 2 = .ok (.aload_n 0, 1) := dk_42 (dk_at dksX0_waiting_0 2 rfl rfl)
theorem dX0_waiting_3 : decode cX0_waiting 3 = .ok (.iload_n 1, 1) := dk_27 (dk_at dksX0_waiting_0 3 rfl rfl)
theorem dX0_waiting_4 : decode cX0_waiting 4 = .ok (.iload_n 2, 1) := dk_28 (dk_at dksX0_waiting_0 4 rfl rfl)
theorem dX0_waiting_5 : decode cX0_waiting 5 = .ok (.invokevirtual 56, 3) := dk_182 0 56 (dk_at dksX0_waiting_0 5 rfl rfl)
theorem dX0_waiting_8 : decode cX0_waiting 8 = .ok (.i2l, 1) := dk_133 (dk_at dksX0_waiting_0 8 rfl rfl)
theorem dX0_waiting_9 : decode cX0_waiting 9 = .ok (.lastore, 1) := dk_80 (dk_at dksX0_waiting_0 9 rfl rfl)
theorem dX0_waiting_10 : decode cX0_waiting 10 = .ok (.goto 7, 3) := dk_167 0 7 (dk_at dksX0_waiting_0 10 rfl rfl)
theorem dX0_waiting_13 : decode cX0_waiting 13 = .ok (.astore 4, 2) := dk_58 4 (dk_at dksX0_waiting_0 13 rfl rfl)
theorem dX0_waiting_15 : decode cX0_waiting 15 = .ok (.iconst 1, 1) := dk_4 (dk_at dksX0_waiting_0 15 rfl rfl)
theorem dX0_waiting_16 : decode cX0_waiting 16 = .ok (.ireturn, 1) := dk_172 (dk_at dksX0_waiting_0 16 rfl rfl)
theorem dX0_waiting_17 : decode cX0_waiting 17 = .ok (.iconst 0, 1) := dk_3 (dk_at dksX0_waiting_0 17 rfl rfl)
theorem dX0_waiting_18 : decode cX0_waiting 18 = .ok (.ireturn, 1) := dk_172 (dk_at dksX0_waiting_0 18 rfl rfl)
abbrev cX0_tick : ByteArray := method_15_code
def yX0_tick : MethodName := ⟨RX0, "tick", "(LRobotCell;I[J)I"⟩
def dkwX0_tick_0 : List UInt8 := [44, 3, 42, 27, 182, 0, 59, 133, 80, 167, 0, 6, 78, 4, 172, 3, 172]
abbrev dktX0_tick_0 : List UInt8 := dkwX0_tick_0 ++ []
theorem dksX0_tick_0 : cX0_tick.data.toList.drop 0 = dktX0_tick_0 := by decide +kernel
theorem dX0_tick_0 : decode cX0_tick 0 = .ok (.aload_n 2, 1) := dk_44 (dk_at dksX0_tick_0 0 rfl rfl)
theorem dX0_tick_1 : decode cX0_tick 1 = .ok (.iconst 0, 1) := dk_3 (dk_at dksX0_tick_0 1 rfl rfl)
theorem dX0_tick_2 : decode cX0_tick 2 = .ok (.aload_n 0, 1) := dk_42 (dk_at dksX0_tick_0 2 rfl rfl)
theorem dX0_tick_3 : decode cX0_tick 3 = .ok (.iload_n 1, 1) := dk_27 (dk_at dksX0_tick_0 3 rfl rfl)
theorem dX0_tick_4 : decode cX0_tick 4 = .ok (.invokevirtual 59, 3) := dk_182 0 59 (dk_at dksX0_tick_0 4 rfl rfl)
theorem dX0_tick_7 : decode cX0_tick 7 = .ok (.i2l, 1) := dk_133 (dk_at dksX0_tick_0 7 rfl rfl)
theorem dX0_tick_8 : decode cX0_tick 8 = .ok (.lastore, 1) := dk_80 (dk_at dksX0_tick_0 8 rfl rfl)
theorem dX0_tick_9 : decode cX0_tick 9 = .ok (.goto 6, 3) := dk_167 0 6 (dk_at dksX0_tick_0 9 rfl rfl)
theorem dX0_tick_12 : decode cX0_tick 12 = .ok (.astore_n 3, 1) := dk_78 (dk_at dksX0_tick_0 12 rfl rfl)
theorem dX0_tick_13 : decode cX0_tick 13 = .ok (.iconst 1, 1) := dk_4 (dk_at dksX0_tick_0 13 rfl rfl)
theorem dX0_tick_14 : decode cX0_tick 14 = .ok (.ireturn, 1) := dk_172 (dk_at dksX0_tick_0 14 rfl rfl)
theorem dX0_tick_15 : decode cX0_tick 15 = .ok (.iconst 0, 1) := dk_3 (dk_at dksX0_tick_0 15 rfl rfl)
theorem dX0_tick_16 : decode cX0_tick 16 = .ok (.ireturn, 1) := dk_172 (dk_at dksX0_tick_0 16 rfl rfl)
abbrev cX0_reason : ByteArray := method_16_code
def yX0_reason : MethodName := ⟨RX0, "reason", "(LRobotCell;IZ[J)I"⟩
def dkwX0_reason_0 : List UInt8 := [45, 3, 42, 27, 28, 182, 0, 62, 133, 80, 167, 0, 11, 58, 4, 4, 172, 58, 4, 5, 172, 3, 172]
abbrev dktX0_reason_0 : List UInt8 := dkwX0_reason_0 ++ []
theorem dksX0_reason_0 : cX0_reason.data.toList.drop 0 = dktX0_reason_0 := by decide +kernel
theorem dX0_reason_0 : decode cX0_reason 0 = .ok (.aload_n 3, 1) := dk_45 (dk_at dksX0_reason_0 0 rfl rfl)
theorem dX0_reason_1 : decode cX0_reason 1 = .ok (.iconst 0, 1) := dk_3 (dk_at dksX0_reason_0 1 rfl rfl)
theorem dX0_reason_2 : decode cX0_reason 2 = .ok (.aload_n 0, 1) := dk_42 (dk_at dksX0_reason_0 2 rfl rfl)
theorem dX0_reason_3 : decode cX0_reason 3 = .ok (.iload_n 1, 1) := dk_27 (dk_at dksX0_reason_0 3 rfl rfl)
theorem dX0_reason_4 : decode cX0_reason 4 = .ok (.iload_n 2, 1) := dk_28 (dk_at dksX0_reason_0 4 rfl rfl)
theorem dX0_reason_5 : decode cX0_reason 5 = .ok (.invokevirtual 62, 3) := dk_182 0 62 (dk_at dksX0_reason_0 5 rfl rfl)
theorem dX0_reason_8 : decode cX0_reason 8 = .ok (.i2l, 1) := dk_133 (dk_at dksX0_reason_0 8 rfl rfl)
theorem dX0_reason_9 : decode cX0_reason 9 = .ok (.lastore, 1) := dk_80 (dk_at dksX0_reason_0 9 rfl rfl)
theorem dX0_reason_10 : decode cX0_reason 10 = .ok (.goto 11, 3) := dk_167 0 11 (dk_at dksX0_reason_0 10 rfl rfl)
theorem dX0_reason_13 : decode cX0_reason 13 = .ok (.astore 4, 2) := dk_58 4 (dk_at dksX0_reason_0 13 rfl rfl)
theorem dX0_reason_15 : decode cX0_reason 15 = .ok (.iconst 1, 1) := dk_4 (dk_at dksX0_reason_0 15 rfl rfl)
theorem dX0_reason_16 : decode cX0_reason 16 = .ok (.ireturn, 1) := dk_172 (dk_at dksX0_reason_0 16 rfl rfl)
theorem dX0_reason_17 : decode cX0_reason 17 = .ok (.astore 4, 2) := dk_58 4 (dk_at dksX0_reason_0 17 rfl rfl)
theorem dX0_reason_19 : decode cX0_reason 19 = .ok (.iconst 2, 1) := dk_5 (dk_at dksX0_reason_0 19 rfl rfl)
theorem dX0_reason_20 : decode cX0_reason 20 = .ok (.ireturn, 1) := dk_172 (dk_at dksX0_reason_0 20 rfl rfl)
theorem dX0_reason_21 : decode cX0_reason 21 = .ok (.iconst 0, 1) := dk_3 (dk_at dksX0_reason_0 21 rfl rfl)
theorem dX0_reason_22 : decode cX0_reason 22 = .ok (.ireturn, 1) := dk_172 (dk_at dksX0_reason_0 22 rfl rfl)
abbrev cX0_wouldBe : ByteArray := method_17_code
def yX0_wouldBe : MethodName := ⟨RX0, "wouldBe", "(LRobotCell;I[J)I"⟩
def dkwX0_wouldBe_0 : List UInt8 := [44, 3, 42, 27, 182, 0, 66, 133, 80, 167, 0, 9, 78, 4, 172, 78, 5, 172, 3, 172]
abbrev dktX0_wouldBe_0 : List UInt8 := dkwX0_wouldBe_0 ++ []
theorem dksX0_wouldBe_0 : cX0_wouldBe.data.toList.drop 0 = dktX0_wouldBe_0 := by decide +kernel
theorem dX0_wouldBe_0 : decode cX0_wouldBe 0 = .ok (.aload_n 2, 1) := dk_44 (dk_at dksX0_wouldBe_0 0 rfl rfl)
theorem dX0_wouldBe_1 : decode cX0_wouldBe 1 = .ok (.iconst 0, 1) := dk_3 (dk_at dksX0_wouldBe_0 1 rfl rfl)
theorem dX0_wouldBe_2 : decode cX0_wouldBe 2 = .ok (.aload_n 0, 1) := dk_42 (dk_at dksX0_wouldBe_0 2 rfl rfl)
theorem dX0_wouldBe_3 : decode cX0_wouldBe 3 = .ok (.iload_n 1, 1) := dk_27 (dk_at dksX0_wouldBe_0 3 rfl rfl)
theorem dX0_wouldBe_4 : decode cX0_wouldBe 4 = .ok (.invokevirtual 66, 3) := dk_182 0 66 (dk_at dksX0_wouldBe_0 4 rfl rfl)
theorem dX0_wouldBe_7 : decode cX0_wouldBe 7 = .ok (.i2l, 1) := dk_133 (dk_at dksX0_wouldBe_0 7 rfl rfl)
theorem dX0_wouldBe_8 : decode cX0_wouldBe 8 = .ok (.lastore, 1) := dk_80 (dk_at dksX0_wouldBe_0 8 rfl rfl)
theorem dX0_wouldBe_9 : decode cX0_wouldBe 9 = .ok (.goto 9, 3) := dk_167 0 9 (dk_at dksX0_wouldBe_0 9 rfl rfl)
theorem dX0_wouldBe_12 : decode cX0_wouldBe 12 = .ok (.astore_n 3, 1) := dk_78 (dk_at dksX0_wouldBe_0 12 rfl rfl)
theorem dX0_wouldBe_13 : decode cX0_wouldBe 13 = .ok (.iconst 1, 1) := dk_4 (dk_at dksX0_wouldBe_0 13 rfl rfl)
theorem dX0_wouldBe_14 : decode cX0_wouldBe 14 = .ok (.ireturn, 1) := dk_172 (dk_at dksX0_wouldBe_0 14 rfl rfl)
theorem dX0_wouldBe_15 : decode cX0_wouldBe 15 = .ok (.astore_n 3, 1) := dk_78 (dk_at dksX0_wouldBe_0 15 rfl rfl)
theorem dX0_wouldBe_16 : decode cX0_wouldBe 16 = .ok (.iconst 2, 1) := dk_5 (dk_at dksX0_wouldBe_0 16 rfl rfl)
theorem dX0_wouldBe_17 : decode cX0_wouldBe 17 = .ok (.ireturn, 1) := dk_172 (dk_at dksX0_wouldBe_0 17 rfl rfl)
theorem dX0_wouldBe_18 : decode cX0_wouldBe 18 = .ok (.iconst 0, 1) := dk_3 (dk_at dksX0_wouldBe_0 18 rfl rfl)
theorem dX0_wouldBe_19 : decode cX0_wouldBe 19 = .ok (.ireturn, 1) := dk_172 (dk_at dksX0_wouldBe_0 19 rfl rfl)
abbrev cX0_endsAfter : ByteArray := method_18_code
def yX0_endsAfter : MethodName := ⟨RX0, "endsAfter", "(LRobotCell;I[J)I"⟩
def dkwX0_endsAfter_0 : List UInt8 := [44, 3, 42, 27, 182, 0, 69, 133, 80, 167, 0, 9, 78, 4, 172, 78, 5, 172, 3, 172]
abbrev dktX0_endsAfter_0 : List UInt8 := dkwX0_endsAfter_0 ++ []
theorem dksX0_endsAfter_0 : cX0_endsAfter.data.toList.drop 0 = dktX0_endsAfter_0 := by decide +kernel
theorem dX0_endsAfter_0 : decode cX0_endsAfter 0 = .ok (.aload_n 2, 1) := dk_44 (dk_at dksX0_endsAfter_0 0 rfl rfl)
theorem dX0_endsAfter_1 : decode cX0_endsAfter 1 = .ok (.iconst 0, 1) := dk_3 (dk_at dksX0_endsAfter_0 1 rfl rfl)
theorem dX0_endsAfter_2 : decode cX0_endsAfter 2 = .ok (.aload_n 0, 1) := dk_42 (dk_at dksX0_endsAfter_0 2 rfl rfl)
theorem dX0_endsAfter_3 : decode cX0_endsAfter 3 = .ok (.iload_n 1, 1) := dk_27 (dk_at dksX0_endsAfter_0 3 rfl rfl)
theorem dX0_endsAfter_4 : decode cX0_endsAfter 4 = .ok (.invokevirtual 69, 3) := dk_182 0 69 (dk_at dksX0_endsAfter_0 4 rfl rfl)
theorem dX0_endsAfter_7 : decode cX0_endsAfter 7 = .ok (.i2l, 1) := dk_133 (dk_at dksX0_endsAfter_0 7 rfl rfl)
theorem dX0_endsAfter_8 : decode cX0_endsAfter 8 = .ok (.lastore, 1) := dk_80 (dk_at dksX0_endsAfter_0 8 rfl rfl)
theorem dX0_endsAfter_9 : decode cX0_endsAfter 9 = .ok (.goto 9, 3) := dk_167 0 9 (dk_at dksX0_endsAfter_0 9 rfl rfl)
theorem dX0_endsAfter_12 : decode cX0_endsAfter 12 = .ok (.astore_n 3, 1) := dk_78 (dk_at dksX0_endsAfter_0 12 rfl rfl)
theorem dX0_endsAfter_13 : decode cX0_endsAfter 13 = .ok (.iconst 1, 1) := dk_4 (dk_at dksX0_endsAfter_0 13 rfl rfl)
theorem dX0_endsAfter_14 : decode cX0_endsAfter 14 = .ok (.ireturn, 1) := dk_172 (dk_at dksX0_endsAfter_0 14 rfl rfl)
theorem dX0_endsAfter_15 : decode cX0_endsAfter 15 = .ok (.astore_n 3, 1) := dk_78 (dk_at dksX0_endsAfter_0 15 rfl rfl)
theorem dX0_endsAfter_16 : decode cX0_endsAfter 16 = .ok (.iconst 2, 1) := dk_5 (dk_at dksX0_endsAfter_0 16 rfl rfl)
theorem dX0_endsAfter_17 : decode cX0_endsAfter 17 = .ok (.ireturn, 1) := dk_172 (dk_at dksX0_endsAfter_0 17 rfl rfl)
theorem dX0_endsAfter_18 : decode cX0_endsAfter 18 = .ok (.iconst 0, 1) := dk_3 (dk_at dksX0_endsAfter_0 18 rfl rfl)
theorem dX0_endsAfter_19 : decode cX0_endsAfter 19 = .ok (.ireturn, 1) := dk_172 (dk_at dksX0_endsAfter_0 19 rfl rfl)
abbrev cX0_idleAfter : ByteArray := method_19_code
def yX0_idleAfter : MethodName := ⟨RX0, "idleAfter", "(LRobotCell;[J)I"⟩
def dkwX0_idleAfter_0 : List UInt8 := [43, 3, 42, 182, 0, 72, 133, 80, 167, 0, 6, 77, 4, 172, 3, 172]
abbrev dktX0_idleAfter_0 : List UInt8 := dkwX0_idleAfter_0 ++ []
theorem dksX0_idleAfter_0 : cX0_idleAfter.data.toList.drop 0 = dktX0_idleAfter_0 := by decide +kernel
theorem dX0_idleAfter_0 : decode cX0_idleAfter 0 = .ok (.aload_n 1, 1) := dk_43 (dk_at dksX0_idleAfter_0 0 rfl rfl)
theorem dX0_idleAfter_1 : decode cX0_idleAfter 1 = .ok (.iconst 0, 1) := dk_3 (dk_at dksX0_idleAfter_0 1 rfl rfl)
theorem dX0_idleAfter_2 : decode cX0_idleAfter 2 = .ok (.aload_n 0, 1) := dk_42 (dk_at dksX0_idleAfter_0 2 rfl rfl)
theorem dX0_idleAfter_3 : decode cX0_idleAfter 3 = .ok (.invokevirtual 72, 3) := dk_182 0 72 (dk_at dksX0_idleAfter_0 3 rfl rfl)
theorem dX0_idleAfter_6 : decode cX0_idleAfter 6 = .ok (.i2l, 1) := dk_133 (dk_at dksX0_idleAfter_0 6 rfl rfl)
theorem dX0_idleAfter_7 : decode cX0_idleAfter 7 = .ok (.lastore, 1) := dk_80 (dk_at dksX0_idleAfter_0 7 rfl rfl)
theorem dX0_idleAfter_8 : decode cX0_idleAfter 8 = .ok (.goto 6, 3) := dk_167 0 6 (dk_at dksX0_idleAfter_0 8 rfl rfl)
theorem dX0_idleAfter_11 : decode cX0_idleAfter 11 = .ok (.astore_n 2, 1) := dk_77 (dk_at dksX0_idleAfter_0 11 rfl rfl)
theorem dX0_idleAfter_12 : decode cX0_idleAfter 12 = .ok (.iconst 1, 1) := dk_4 (dk_at dksX0_idleAfter_0 12 rfl rfl)
theorem dX0_idleAfter_13 : decode cX0_idleAfter 13 = .ok (.ireturn, 1) := dk_172 (dk_at dksX0_idleAfter_0 13 rfl rfl)
theorem dX0_idleAfter_14 : decode cX0_idleAfter 14 = .ok (.iconst 0, 1) := dk_3 (dk_at dksX0_idleAfter_0 14 rfl rfl)
theorem dX0_idleAfter_15 : decode cX0_idleAfter 15 = .ok (.ireturn, 1) := dk_172 (dk_at dksX0_idleAfter_0 15 rfl rfl)
abbrev cX0_entry : ByteArray := method_20_code
def yX0_entry : MethodName := ⟨RX0, "entry", "(LRobotCell;II[J)I"⟩
def dkwX0_entry_0 : List UInt8 := [45, 3, 42, 27, 28, 182, 0, 76, 133, 80, 167, 0, 11, 58, 4, 4, 172, 58, 4, 5, 172, 3, 172]
abbrev dktX0_entry_0 : List UInt8 := dkwX0_entry_0 ++ []
theorem dksX0_entry_0 : cX0_entry.data.toList.drop 0 = dktX0_entry_0 := by decide +kernel
theorem dX0_entry_0 : decode cX0_entry 0 = .ok (.aload_n 3, 1) := dk_45 (dk_at dksX0_entry_0 0 rfl rfl)
theorem dX0_entry_1 : decode cX0_entry 1 = .ok (.iconst 0, 1) := dk_3 (dk_at dksX0_entry_0 1 rfl rfl)
theorem dX0_entry_2 : decode cX0_entry 2 = .ok (.aload_n 0, 1) := dk_42 (dk_at dksX0_entry_0 2 rfl rfl)
theorem dX0_entry_3 : decode cX0_entry 3 = .ok (.iload_n 1, 1) := dk_27 (dk_at dksX0_entry_0 3 rfl rfl)
theorem dX0_entry_4 : decode cX0_entry 4 = .ok (.iload_n 2, 1) := dk_28 (dk_at dksX0_entry_0 4 rfl rfl)
theorem dX0_entry_5 : decode cX0_entry 5 = .ok (.invokevirtual 76, 3) := dk_182 0 76 (dk_at dksX0_entry_0 5 rfl rfl)
theorem dX0_entry_8 : decode cX0_entry 8 = .ok (.i2l, 1) := dk_133 (dk_at dksX0_entry_0 8 rfl rfl)
theorem dX0_entry_9 : decode cX0_entry 9 = .ok (.lastore, 1) := dk_80 (dk_at dksX0_entry_0 9 rfl rfl)
theorem dX0_entry_10 : decode cX0_entry 10 = .ok (.goto 11, 3) := dk_167 0 11 (dk_at dksX0_entry_0 10 rfl rfl)
theorem dX0_entry_13 : decode cX0_entry 13 = .ok (.astore 4, 2) := dk_58 4 (dk_at dksX0_entry_0 13 rfl rfl)
theorem dX0_entry_15 : decode cX0_entry 15 = .ok (.iconst 1, 1) := dk_4 (dk_at dksX0_entry_0 15 rfl rfl)
theorem dX0_entry_16 : decode cX0_entry 16 = .ok (.ireturn, 1) := dk_172 (dk_at dksX0_entry_0 16 rfl rfl)
theorem dX0_entry_17 : decode cX0_entry 17 = .ok (.astore 4, 2) := dk_58 4 (dk_at dksX0_entry_0 17 rfl rfl)
theorem dX0_entry_19 : decode cX0_entry 19 = .ok (.iconst 2, 1) := dk_5 (dk_at dksX0_entry_0 19 rfl rfl)
theorem dX0_entry_20 : decode cX0_entry 20 = .ok (.ireturn, 1) := dk_172 (dk_at dksX0_entry_0 20 rfl rfl)
theorem dX0_entry_21 : decode cX0_entry 21 = .ok (.iconst 0, 1) := dk_3 (dk_at dksX0_entry_0 21 rfl rfl)
theorem dX0_entry_22 : decode cX0_entry 22 = .ok (.ireturn, 1) := dk_172 (dk_at dksX0_entry_0 22 rfl rfl)
abbrev cX0_account : ByteArray := method_21_code
def yX0_account : MethodName := ⟨RX0, "account", "(LRobotCell;I[J)I"⟩
def dkwX0_account_0 : List UInt8 := [44, 3, 42, 27, 182, 0, 79, 133, 80, 167, 0, 6, 78, 4, 172, 3, 172]
abbrev dktX0_account_0 : List UInt8 := dkwX0_account_0 ++ []
theorem dksX0_account_0 : cX0_account.data.toList.drop 0 = dktX0_account_0 := by decide +kernel
theorem dX0_account_0 : decode cX0_account 0 = .ok (.aload_n 2, 1) := dk_44 (dk_at dksX0_account_0 0 rfl rfl)
theorem dX0_account_1 : decode cX0_account 1 = .ok (.iconst 0, 1) := dk_3 (dk_at dksX0_account_0 1 rfl rfl)
theorem dX0_account_2 : decode cX0_account 2 = .ok (.aload_n 0, 1) := dk_42 (dk_at dksX0_account_0 2 rfl rfl)
theorem dX0_account_3 : decode cX0_account 3 = .ok (.iload_n 1, 1) := dk_27 (dk_at dksX0_account_0 3 rfl rfl)
theorem dX0_account_4 : decode cX0_account 4 = .ok (.invokevirtual 79, 3) := dk_182 0 79 (dk_at dksX0_account_0 4 rfl rfl)
theorem dX0_account_7 : decode cX0_account 7 = .ok (.i2l, 1) := dk_133 (dk_at dksX0_account_0 7 rfl rfl)
theorem dX0_account_8 : decode cX0_account 8 = .ok (.lastore, 1) := dk_80 (dk_at dksX0_account_0 8 rfl rfl)
theorem dX0_account_9 : decode cX0_account 9 = .ok (.goto 6, 3) := dk_167 0 6 (dk_at dksX0_account_0 9 rfl rfl)
theorem dX0_account_12 : decode cX0_account 12 = .ok (.astore_n 3, 1) := dk_78 (dk_at dksX0_account_0 12 rfl rfl)
theorem dX0_account_13 : decode cX0_account 13 = .ok (.iconst 1, 1) := dk_4 (dk_at dksX0_account_0 13 rfl rfl)
theorem dX0_account_14 : decode cX0_account 14 = .ok (.ireturn, 1) := dk_172 (dk_at dksX0_account_0 14 rfl rfl)
theorem dX0_account_15 : decode cX0_account 15 = .ok (.iconst 0, 1) := dk_3 (dk_at dksX0_account_0 15 rfl rfl)
theorem dX0_account_16 : decode cX0_account 16 = .ok (.ireturn, 1) := dk_172 (dk_at dksX0_account_0 16 rfl rfl)
abbrev cX0_use : ByteArray := method_22_code
def yX0_use : MethodName := ⟨RX0, "use", "(LRobotCell;I[D)I"⟩
def dkwX0_use_0 : List UInt8 := [44, 3, 42, 27, 182, 0, 82, 141, 82, 167, 0, 9, 78, 4, 172, 78, 5, 172, 3, 172]
abbrev dktX0_use_0 : List UInt8 := dkwX0_use_0 ++ []
theorem dksX0_use_0 : cX0_use.data.toList.drop 0 = dktX0_use_0 := by decide +kernel
theorem dX0_use_0 : decode cX0_use 0 = .ok (.aload_n 2, 1) := dk_44 (dk_at dksX0_use_0 0 rfl rfl)
theorem dX0_use_1 : decode cX0_use 1 = .ok (.iconst 0, 1) := dk_3 (dk_at dksX0_use_0 1 rfl rfl)
theorem dX0_use_2 : decode cX0_use 2 = .ok (.aload_n 0, 1) := dk_42 (dk_at dksX0_use_0 2 rfl rfl)
theorem dX0_use_3 : decode cX0_use 3 = .ok (.iload_n 1, 1) := dk_27 (dk_at dksX0_use_0 3 rfl rfl)
theorem dX0_use_4 : decode cX0_use 4 = .ok (.invokevirtual 82, 3) := dk_182 0 82 (dk_at dksX0_use_0 4 rfl rfl)
theorem dX0_use_7 : decode cX0_use 7 = .ok (.f2d, 1) := dk_141 (dk_at dksX0_use_0 7 rfl rfl)
theorem dX0_use_8 : decode cX0_use 8 = .ok (.dastore, 1) := dk_82 (dk_at dksX0_use_0 8 rfl rfl)
theorem dX0_use_9 : decode cX0_use 9 = .ok (.goto 9, 3) := dk_167 0 9 (dk_at dksX0_use_0 9 rfl rfl)
theorem dX0_use_12 : decode cX0_use 12 = .ok (.astore_n 3, 1) := dk_78 (dk_at dksX0_use_0 12 rfl rfl)
theorem dX0_use_13 : decode cX0_use 13 = .ok (.iconst 1, 1) := dk_4 (dk_at dksX0_use_0 13 rfl rfl)
theorem dX0_use_14 : decode cX0_use 14 = .ok (.ireturn, 1) := dk_172 (dk_at dksX0_use_0 14 rfl rfl)
theorem dX0_use_15 : decode cX0_use 15 = .ok (.astore_n 3, 1) := dk_78 (dk_at dksX0_use_0 15 rfl rfl)
theorem dX0_use_16 : decode cX0_use 16 = .ok (.iconst 2, 1) := dk_5 (dk_at dksX0_use_0 16 rfl rfl)
theorem dX0_use_17 : decode cX0_use 17 = .ok (.ireturn, 1) := dk_172 (dk_at dksX0_use_0 17 rfl rfl)
theorem dX0_use_18 : decode cX0_use 18 = .ok (.iconst 0, 1) := dk_3 (dk_at dksX0_use_0 18 rfl rfl)
theorem dX0_use_19 : decode cX0_use 19 = .ok (.ireturn, 1) := dk_172 (dk_at dksX0_use_0 19 rfl rfl)
abbrev cX0_meanDuration : ByteArray := method_23_code
def yX0_meanDuration : MethodName := ⟨RX0, "meanDuration", "(LRobotCell;[D)I"⟩
def dkwX0_meanDuration_0 : List UInt8 := [43, 3, 42, 182, 0, 88, 82, 167, 0, 6, 77, 4, 172, 3, 172]
abbrev dktX0_meanDuration_0 : List UInt8 := dkwX0_meanDuration_0 ++ []
theorem dksX0_meanDuration_0 : cX0_meanDuration.data.toList.drop 0 = dktX0_meanDuration_0 := by decide +kernel
theorem dX0_meanDuration_0 : decode cX0_meanDuration 0 = .ok (.aload_n 1, 1) := dk_43 (dk_at dksX0_meanDuration_0 0 rfl rfl)
theorem dX0_meanDuration_1 : decode cX0_meanDuration 1 = .ok (.iconst 0, 1) := dk_3 (dk_at dksX0_meanDuration_0 1 rfl rfl)
theorem dX0_meanDuration_2 : decode cX0_meanDuration 2 = .ok (.aload_n 0, 1) := dk_42 (dk_at dksX0_meanDuration_0 2 rfl rfl)
theorem dX0_meanDuration_3 : decode cX0_meanDuration 3 = .ok (.invokevirtual 88, 3) := dk_182 0 88 (dk_at dksX0_meanDuration_0 3 rfl rfl)
theorem dX0_meanDuration_6 : decode cX0_meanDuration 6 = .ok (.dastore, 1) := dk_82 (dk_at dksX0_meanDuration_0 6 rfl rfl)
theorem dX0_meanDuration_7 : decode cX0_meanDuration 7 = .ok (.goto 6, 3) := dk_167 0 6 (dk_at dksX0_meanDuration_0 7 rfl rfl)
theorem dX0_meanDuration_10 : decode cX0_meanDuration 10 = .ok (.astore_n 2, 1) := dk_77 (dk_at dksX0_meanDuration_0 10 rfl rfl)
theorem dX0_meanDuration_11 : decode cX0_meanDuration 11 = .ok (.iconst 1, 1) := dk_4 (dk_at dksX0_meanDuration_0 11 rfl rfl)
theorem dX0_meanDuration_12 : decode cX0_meanDuration 12 = .ok (.ireturn, 1) := dk_172 (dk_at dksX0_meanDuration_0 12 rfl rfl)
theorem dX0_meanDuration_13 : decode cX0_meanDuration 13 = .ok (.iconst 0, 1) := dk_3 (dk_at dksX0_meanDuration_0 13 rfl rfl)
theorem dX0_meanDuration_14 : decode cX0_meanDuration 14 = .ok (.ireturn, 1) := dk_172 (dk_at dksX0_meanDuration_0 14 rfl rfl)
abbrev cX0_feed : ByteArray := method_24_code
def yX0_feed : MethodName := ⟨RX0, "feed", "(LRobotCell;C[J)I"⟩
def dkwX0_feed_0 : List UInt8 := [44, 3, 42, 27, 182, 0, 92, 133, 80, 167, 0, 6, 78, 4, 172, 3, 172]
abbrev dktX0_feed_0 : List UInt8 := dkwX0_feed_0 ++ []
theorem dksX0_feed_0 : cX0_feed.data.toList.drop 0 = dktX0_feed_0 := by decide +kernel
theorem dX0_feed_0 : decode cX0_feed 0 = .ok (.aload_n 2, 1) := dk_44 (dk_at dksX0_feed_0 0 rfl rfl)
theorem dX0_feed_1 : decode cX0_feed 1 = .ok (.iconst 0, 1) := dk_3 (dk_at dksX0_feed_0 1 rfl rfl)
theorem dX0_feed_2 : decode cX0_feed 2 = .ok (.aload_n 0, 1) := dk_42 (dk_at dksX0_feed_0 2 rfl rfl)
theorem dX0_feed_3 : decode cX0_feed 3 = .ok (.iload_n 1, 1) := dk_27 (dk_at dksX0_feed_0 3 rfl rfl)
theorem dX0_feed_4 : decode cX0_feed 4 = .ok (.invokevirtual 92, 3) := dk_182 0 92 (dk_at dksX0_feed_0 4 rfl rfl)
theorem dX0_feed_7 : decode cX0_feed 7 = .ok (.i2l, 1) := dk_133 (dk_at dksX0_feed_0 7 rfl rfl)
theorem dX0_feed_8 : decode cX0_feed 8 = .ok (.lastore, 1) := dk_80 (dk_at dksX0_feed_0 8 rfl rfl)
theorem dX0_feed_9 : decode cX0_feed 9 = .ok (.goto 6, 3) := dk_167 0 6 (dk_at dksX0_feed_0 9 rfl rfl)
theorem dX0_feed_12 : decode cX0_feed 12 = .ok (.astore_n 3, 1) := dk_78 (dk_at dksX0_feed_0 12 rfl rfl)
theorem dX0_feed_13 : decode cX0_feed 13 = .ok (.iconst 1, 1) := dk_4 (dk_at dksX0_feed_0 13 rfl rfl)
theorem dX0_feed_14 : decode cX0_feed 14 = .ok (.ireturn, 1) := dk_172 (dk_at dksX0_feed_0 14 rfl rfl)
theorem dX0_feed_15 : decode cX0_feed 15 = .ok (.iconst 0, 1) := dk_3 (dk_at dksX0_feed_0 15 rfl rfl)
theorem dX0_feed_16 : decode cX0_feed 16 = .ok (.ireturn, 1) := dk_172 (dk_at dksX0_feed_0 16 rfl rfl)
abbrev cX0_perform : ByteArray := method_25_code
def yX0_perform : MethodName := ⟨RX0, "perform", "(LRobotCell;[J)I"⟩
def dkwX0_perform_0 : List UInt8 := [43, 3, 42, 182, 0, 96, 133, 80, 167, 0, 6, 77, 4, 172, 3, 172]
abbrev dktX0_perform_0 : List UInt8 := dkwX0_perform_0 ++ []
theorem dksX0_perform_0 : cX0_perform.data.toList.drop 0 = dktX0_perform_0 := by decide +kernel
theorem dX0_perform_0 : decode cX0_perform 0 = .ok (.aload_n 1, 1) := dk_43 (dk_at dksX0_perform_0 0 rfl rfl)
theorem dX0_perform_1 : decode cX0_perform 1 = .ok (.iconst 0, 1) := dk_3 (dk_at dksX0_perform_0 1 rfl rfl)
theorem dX0_perform_2 : decode cX0_perform 2 = .ok (.aload_n 0, 1) := dk_42 (dk_at dksX0_perform_0 2 rfl rfl)
theorem dX0_perform_3 : decode cX0_perform 3 = .ok (.invokevirtual 96, 3) := dk_182 0 96 (dk_at dksX0_perform_0 3 rfl rfl)
theorem dX0_perform_6 : decode cX0_perform 6 = .ok (.i2l, 1) := dk_133 (dk_at dksX0_perform_0 6 rfl rfl)
theorem dX0_perform_7 : decode cX0_perform 7 = .ok (.lastore, 1) := dk_80 (dk_at dksX0_perform_0 7 rfl rfl)
theorem dX0_perform_8 : decode cX0_perform 8 = .ok (.goto 6, 3) := dk_167 0 6 (dk_at dksX0_perform_0 8 rfl rfl)
theorem dX0_perform_11 : decode cX0_perform 11 = .ok (.astore_n 2, 1) := dk_77 (dk_at dksX0_perform_0 11 rfl rfl)
theorem dX0_perform_12 : decode cX0_perform 12 = .ok (.iconst 1, 1) := dk_4 (dk_at dksX0_perform_0 12 rfl rfl)
theorem dX0_perform_13 : decode cX0_perform 13 = .ok (.ireturn, 1) := dk_172 (dk_at dksX0_perform_0 13 rfl rfl)
theorem dX0_perform_14 : decode cX0_perform 14 = .ok (.iconst 0, 1) := dk_3 (dk_at dksX0_perform_0 14 rfl rfl)
theorem dX0_perform_15 : decode cX0_perform 15 = .ok (.ireturn, 1) := dk_172 (dk_at dksX0_perform_0 15 rfl rfl)
abbrev cX0_undo : ByteArray := method_26_code
def yX0_undo : MethodName := ⟨RX0, "undo", "(LRobotCell;[J)I"⟩
def dkwX0_undo_0 : List UInt8 := [43, 3, 42, 182, 0, 99, 133, 80, 167, 0, 6, 77, 4, 172, 3, 172]
abbrev dktX0_undo_0 : List UInt8 := dkwX0_undo_0 ++ []
theorem dksX0_undo_0 : cX0_undo.data.toList.drop 0 = dktX0_undo_0 := by decide +kernel
theorem dX0_undo_0 : decode cX0_undo 0 = .ok (.aload_n 1, 1) := dk_43 (dk_at dksX0_undo_0 0 rfl rfl)
theorem dX0_undo_1 : decode cX0_undo 1 = .ok (.iconst 0, 1) := dk_3 (dk_at dksX0_undo_0 1 rfl rfl)
theorem dX0_undo_2 : decode cX0_undo 2 = .ok (.aload_n 0, 1) := dk_42 (dk_at dksX0_undo_0 2 rfl rfl)
theorem dX0_undo_3 : decode cX0_undo 3 = .ok (.invokevirtual 99, 3) := dk_182 0 99 (dk_at dksX0_undo_0 3 rfl rfl)
theorem dX0_undo_6 : decode cX0_undo 6 = .ok (.i2l, 1) := dk_133 (dk_at dksX0_undo_0 6 rfl rfl)
theorem dX0_undo_7 : decode cX0_undo 7 = .ok (.lastore, 1) := dk_80 (dk_at dksX0_undo_0 7 rfl rfl)
theorem dX0_undo_8 : decode cX0_undo 8 = .ok (.goto 6, 3) := dk_167 0 6 (dk_at dksX0_undo_0 8 rfl rfl)
theorem dX0_undo_11 : decode cX0_undo 11 = .ok (.astore_n 2, 1) := dk_77 (dk_at dksX0_undo_0 11 rfl rfl)
theorem dX0_undo_12 : decode cX0_undo 12 = .ok (.iconst 1, 1) := dk_4 (dk_at dksX0_undo_0 12 rfl rfl)
theorem dX0_undo_13 : decode cX0_undo 13 = .ok (.ireturn, 1) := dk_172 (dk_at dksX0_undo_0 13 rfl rfl)
theorem dX0_undo_14 : decode cX0_undo 14 = .ok (.iconst 0, 1) := dk_3 (dk_at dksX0_undo_0 14 rfl rfl)
theorem dX0_undo_15 : decode cX0_undo 15 = .ok (.ireturn, 1) := dk_172 (dk_at dksX0_undo_0 15 rfl rfl)
abbrev cX0_restore : ByteArray := method_27_code
def yX0_restore : MethodName := ⟨RX0, "restore", "(LRobotCell;[J)I"⟩
def dkwX0_restore_0 : List UInt8 := [43, 3, 42, 182, 0, 102, 133, 80, 167, 0, 6, 77, 4, 172, 3, 172]
abbrev dktX0_restore_0 : List UInt8 := dkwX0_restore_0 ++ []
theorem dksX0_restore_0 : cX0_restore.data.toList.drop 0 = dktX0_restore_0 := by decide +kernel
theorem dX0_restore_0 : decode cX0_restore 0 = .ok (.aload_n 1, 1) := dk_43 (dk_at dksX0_restore_0 0 rfl rfl)
theorem dX0_restore_1 : decode cX0_restore 1 = .ok (.iconst 0, 1) := dk_3 (dk_at dksX0_restore_0 1 rfl rfl)
theorem dX0_restore_2 : decode cX0_restore 2 = .ok (.aload_n 0, 1) := dk_42 (dk_at dksX0_restore_0 2 rfl rfl)
theorem dX0_restore_3 : decode cX0_restore 3 = .ok (.invokevirtual 102, 3) := dk_182 0 102 (dk_at dksX0_restore_0 3 rfl rfl)
theorem dX0_restore_6 : decode cX0_restore 6 = .ok (.i2l, 1) := dk_133 (dk_at dksX0_restore_0 6 rfl rfl)
theorem dX0_restore_7 : decode cX0_restore 7 = .ok (.lastore, 1) := dk_80 (dk_at dksX0_restore_0 7 rfl rfl)
theorem dX0_restore_8 : decode cX0_restore 8 = .ok (.goto 6, 3) := dk_167 0 6 (dk_at dksX0_restore_0 8 rfl rfl)
theorem dX0_restore_11 : decode cX0_restore 11 = .ok (.astore_n 2, 1) := dk_77 (dk_at dksX0_restore_0 11 rfl rfl)
theorem dX0_restore_12 : decode cX0_restore 12 = .ok (.iconst 1, 1) := dk_4 (dk_at dksX0_restore_0 12 rfl rfl)
theorem dX0_restore_13 : decode cX0_restore 13 = .ok (.ireturn, 1) := dk_172 (dk_at dksX0_restore_0 13 rfl rfl)
theorem dX0_restore_14 : decode cX0_restore 14 = .ok (.iconst 0, 1) := dk_3 (dk_at dksX0_restore_0 14 rfl rfl)
theorem dX0_restore_15 : decode cX0_restore 15 = .ok (.ireturn, 1) := dk_172 (dk_at dksX0_restore_0 15 rfl rfl)
theorem q93 : (Jvm.Cond.initialized "RobotCellLaw") ∈ lw_all := lw_g (lw_at lw_m1 0 rfl) rfl
theorem q164 : (Jvm.Cond.classLink "RobotCellLaw" (8 : Nat) "RobotCell") ∈ lw_all := lw_g (lw_at lw_m1 71 rfl) rfl
theorem q166 : (Jvm.Cond.methodLink "RobotCellLaw" (105 : Nat) ({ cls := "RobotCell", name := "<init>", desc := "()V" } : Jvm.MethodName)) ∈ lw_all := lw_g (lw_at lw_m1 73 rfl) rfl
theorem q1314 : (Jvm.Cond.methodLink "RobotCellLaw" (171 : Nat) ({ cls := "RobotCell", name := "isSafe", desc := "()Z" } : Jvm.MethodName)) ∈ lw_all := lw_g (lw_at lw_m6 21 rfl) rfl
theorem q1623 : (Jvm.Cond.methodLink "RobotCellLaw" (200 : Nat) ({ cls := "RobotCell", name := "save", desc := "()I" } : Jvm.MethodName)) ∈ lw_all := lw_g (lw_at lw_m7 90 rfl) rfl
theorem q2356 : (Jvm.Cond.methodLink "RobotCellLaw" (109 : Nat) ({ cls := "RobotCellLaw", name := "setInterlock", desc := "(LRobotCell;IIZ[J)I" } : Jvm.MethodName)) ∈ lw_all := lw_g (lw_at lw_m10 103 rfl) rfl
theorem q2357 : (Jvm.Cond.static ({ cls := "RobotCellLaw", name := "setInterlock", desc := "(LRobotCell;IIZ[J)I" } : Jvm.MethodName)) ∈ lw_all := lw_g (lw_at lw_m10 104 rfl) rfl
theorem q2358 : (Jvm.Cond.codeWith ({ cls := "RobotCellLaw", name := "setInterlock", desc := "(LRobotCell;IIZ[J)I" } : Jvm.MethodName) method_3_code (6 : Nat) (Option.some Jvm.ClassFile.FieldType.int) [((0 : Nat), (19 : Nat), (22 : Nat), (13 : Nat)), ((0 : Nat), (19 : Nat), (26 : Nat), (15 : Nat)), ((0 : Nat), (19 : Nat), (30 : Nat), (17 : Nat))]) ∈ lw_all := lw_g (lw_at lw_m10 105 rfl) rfl
theorem q2359 : (Jvm.Cond.classLink "RobotCellLaw" (13 : Nat) "java/lang/IndexOutOfBoundsException") ∈ lw_all := lw_g (lw_at lw_m10 106 rfl) rfl
theorem q2378 : (Jvm.Cond.classLink "RobotCellLaw" (15 : Nat) "java/lang/IllegalArgumentException") ∈ lw_all := lw_g (lw_at lw_m10 125 rfl) rfl
theorem q2379 : (Jvm.Cond.classLink "RobotCellLaw" (17 : Nat) "java/lang/IllegalStateException") ∈ lw_all := lw_g (lw_at lw_m10 126 rfl) rfl
theorem q2380 : (Jvm.Cond.methodLink "RobotCellLaw" (7 : Nat) ({ cls := "RobotCell", name := "setInterlock", desc := "(IIZ)Z" } : Jvm.MethodName)) ∈ lw_all := lw_g (lw_at lw_m10 127 rfl) rfl
theorem q2514 : (Jvm.Cond.methodLink "RobotCellLaw" (118 : Nat) ({ cls := "RobotCellLaw", name := "setReach", desc := "(LRobotCell;II[J)I" } : Jvm.MethodName)) ∈ lw_all := lw_g (lw_at lw_m11 21 rfl) rfl
theorem q2515 : (Jvm.Cond.static ({ cls := "RobotCellLaw", name := "setReach", desc := "(LRobotCell;II[J)I" } : Jvm.MethodName)) ∈ lw_all := lw_g (lw_at lw_m11 22 rfl) rfl
theorem q2516 : (Jvm.Cond.codeWith ({ cls := "RobotCellLaw", name := "setReach", desc := "(LRobotCell;II[J)I" } : Jvm.MethodName) method_4_code (5 : Nat) (Option.some Jvm.ClassFile.FieldType.int) [((0 : Nat), (10 : Nat), (13 : Nat), (13 : Nat)), ((0 : Nat), (10 : Nat), (17 : Nat), (15 : Nat))]) ∈ lw_all := lw_g (lw_at lw_m11 23 rfl) rfl
theorem q2517 : (Jvm.Cond.methodLink "RobotCellLaw" (19 : Nat) ({ cls := "RobotCell", name := "setReach", desc := "(II)I" } : Jvm.MethodName)) ∈ lw_all := lw_g (lw_at lw_m11 24 rfl) rfl
theorem q2521 : (Jvm.Cond.methodLink "RobotCellLaw" (122 : Nat) ({ cls := "RobotCellLaw", name := "setCapacity", desc := "(LRobotCell;II[J)I" } : Jvm.MethodName)) ∈ lw_all := lw_g (lw_at lw_m11 28 rfl) rfl
theorem q2522 : (Jvm.Cond.static ({ cls := "RobotCellLaw", name := "setCapacity", desc := "(LRobotCell;II[J)I" } : Jvm.MethodName)) ∈ lw_all := lw_g (lw_at lw_m11 29 rfl) rfl
theorem q2523 : (Jvm.Cond.codeWith ({ cls := "RobotCellLaw", name := "setCapacity", desc := "(LRobotCell;II[J)I" } : Jvm.MethodName) method_5_code (5 : Nat) (Option.some Jvm.ClassFile.FieldType.int) [((0 : Nat), (10 : Nat), (13 : Nat), (13 : Nat)), ((0 : Nat), (10 : Nat), (17 : Nat), (15 : Nat)), ((0 : Nat), (10 : Nat), (21 : Nat), (17 : Nat))]) ∈ lw_all := lw_g (lw_at lw_m11 30 rfl) rfl
theorem q2524 : (Jvm.Cond.methodLink "RobotCellLaw" (23 : Nat) ({ cls := "RobotCell", name := "setCapacity", desc := "(II)I" } : Jvm.MethodName)) ∈ lw_all := lw_g (lw_at lw_m11 31 rfl) rfl
theorem q2528 : (Jvm.Cond.methodLink "RobotCellLaw" (125 : Nat) ({ cls := "RobotCellLaw", name := "supply", desc := "(LRobotCell;I[J)I" } : Jvm.MethodName)) ∈ lw_all := lw_g (lw_at lw_m11 35 rfl) rfl
theorem q2529 : (Jvm.Cond.static ({ cls := "RobotCellLaw", name := "supply", desc := "(LRobotCell;I[J)I" } : Jvm.MethodName)) ∈ lw_all := lw_g (lw_at lw_m11 36 rfl) rfl
theorem q2530 : (Jvm.Cond.codeWith ({ cls := "RobotCellLaw", name := "supply", desc := "(LRobotCell;I[J)I" } : Jvm.MethodName) method_6_code (4 : Nat) (Option.some Jvm.ClassFile.FieldType.int) [((0 : Nat), (9 : Nat), (12 : Nat), (13 : Nat)), ((0 : Nat), (9 : Nat), (15 : Nat), (17 : Nat))]) ∈ lw_all := lw_g (lw_at lw_m11 37 rfl) rfl
theorem q2531 : (Jvm.Cond.methodLink "RobotCellLaw" (26 : Nat) ({ cls := "RobotCell", name := "supply", desc := "(I)I" } : Jvm.MethodName)) ∈ lw_all := lw_g (lw_at lw_m11 38 rfl) rfl
theorem q2567 : (Jvm.Cond.methodLink "RobotCellLaw" (129 : Nat) ({ cls := "RobotCellLaw", name := "zone", desc := "(LRobotCell;II[J)I" } : Jvm.MethodName)) ∈ lw_all := lw_g (lw_at lw_m11 74 rfl) rfl
theorem q2568 : (Jvm.Cond.static ({ cls := "RobotCellLaw", name := "zone", desc := "(LRobotCell;II[J)I" } : Jvm.MethodName)) ∈ lw_all := lw_g (lw_at lw_m11 75 rfl) rfl
theorem q2569 : (Jvm.Cond.codeWith ({ cls := "RobotCellLaw", name := "zone", desc := "(LRobotCell;II[J)I" } : Jvm.MethodName) method_7_code (5 : Nat) (Option.some Jvm.ClassFile.FieldType.int) [((0 : Nat), (10 : Nat), (13 : Nat), (13 : Nat)), ((0 : Nat), (10 : Nat), (17 : Nat), (15 : Nat))]) ∈ lw_all := lw_g (lw_at lw_m11 76 rfl) rfl
theorem q2570 : (Jvm.Cond.methodLink "RobotCellLaw" (30 : Nat) ({ cls := "RobotCell", name := "zone", desc := "(II)I" } : Jvm.MethodName)) ∈ lw_all := lw_g (lw_at lw_m11 77 rfl) rfl
theorem q2575 : (Jvm.Cond.methodLink "RobotCellLaw" (132 : Nat) ({ cls := "RobotCellLaw", name := "buffer", desc := "(LRobotCell;II[J)I" } : Jvm.MethodName)) ∈ lw_all := lw_g (lw_at lw_m11 82 rfl) rfl
theorem q2576 : (Jvm.Cond.static ({ cls := "RobotCellLaw", name := "buffer", desc := "(LRobotCell;II[J)I" } : Jvm.MethodName)) ∈ lw_all := lw_g (lw_at lw_m11 83 rfl) rfl
theorem q2577 : (Jvm.Cond.codeWith ({ cls := "RobotCellLaw", name := "buffer", desc := "(LRobotCell;II[J)I" } : Jvm.MethodName) method_8_code (5 : Nat) (Option.some Jvm.ClassFile.FieldType.int) [((0 : Nat), (10 : Nat), (13 : Nat), (13 : Nat)), ((0 : Nat), (10 : Nat), (17 : Nat), (15 : Nat))]) ∈ lw_all := lw_g (lw_at lw_m11 84 rfl) rfl
theorem q2578 : (Jvm.Cond.methodLink "RobotCellLaw" (33 : Nat) ({ cls := "RobotCell", name := "buffer", desc := "(II)I" } : Jvm.MethodName)) ∈ lw_all := lw_g (lw_at lw_m11 85 rfl) rfl
theorem q2586 : (Jvm.Cond.methodLink "RobotCellLaw" (135 : Nat) ({ cls := "RobotCellLaw", name := "part", desc := "(LRobotCell;II[J)I" } : Jvm.MethodName)) ∈ lw_all := lw_g (lw_at lw_m11 93 rfl) rfl
theorem q2587 : (Jvm.Cond.static ({ cls := "RobotCellLaw", name := "part", desc := "(LRobotCell;II[J)I" } : Jvm.MethodName)) ∈ lw_all := lw_g (lw_at lw_m11 94 rfl) rfl
theorem q2588 : (Jvm.Cond.codeWith ({ cls := "RobotCellLaw", name := "part", desc := "(LRobotCell;II[J)I" } : Jvm.MethodName) method_9_code (5 : Nat) (Option.some Jvm.ClassFile.FieldType.int) [((0 : Nat), (10 : Nat), (13 : Nat), (13 : Nat)), ((0 : Nat), (10 : Nat), (17 : Nat), (39 : Nat))]) ∈ lw_all := lw_g (lw_at lw_m11 95 rfl) rfl
theorem q2589 : (Jvm.Cond.classLink "RobotCellLaw" (39 : Nat) "java/util/NoSuchElementException") ∈ lw_all := lw_g (lw_at lw_m11 96 rfl) rfl
theorem q2590 : (Jvm.Cond.methodLink "RobotCellLaw" (36 : Nat) ({ cls := "RobotCell", name := "part", desc := "(II)I" } : Jvm.MethodName)) ∈ lw_all := lw_g (lw_at lw_m11 97 rfl) rfl
theorem q2626 : (Jvm.Cond.methodLink "RobotCellLaw" (138 : Nat) ({ cls := "RobotCellLaw", name := "give", desc := "(LRobotCell;IIIIII[J)I" } : Jvm.MethodName)) ∈ lw_all := lw_g (lw_at lw_m11 133 rfl) rfl
theorem q2627 : (Jvm.Cond.static ({ cls := "RobotCellLaw", name := "give", desc := "(LRobotCell;IIIIII[J)I" } : Jvm.MethodName)) ∈ lw_all := lw_g (lw_at lw_m11 134 rfl) rfl
theorem q2628 : (Jvm.Cond.codeWith ({ cls := "RobotCellLaw", name := "give", desc := "(LRobotCell;IIIIII[J)I" } : Jvm.MethodName) method_10_code (9 : Nat) (Option.some Jvm.ClassFile.FieldType.int) [((0 : Nat), (18 : Nat), (21 : Nat), (13 : Nat)), ((0 : Nat), (18 : Nat), (25 : Nat), (15 : Nat)), ((0 : Nat), (18 : Nat), (29 : Nat), (45 : Nat)), ((0 : Nat), (18 : Nat), (33 : Nat), (17 : Nat))]) ∈ lw_all := lw_g (lw_at lw_m11 135 rfl) rfl
theorem q2629 : (Jvm.Cond.classLink "RobotCellLaw" (45 : Nat) "java/lang/UnsupportedOperationException") ∈ lw_all := lw_g (lw_at lw_m11 136 rfl) rfl
theorem q2630 : (Jvm.Cond.methodLink "RobotCellLaw" (41 : Nat) ({ cls := "RobotCell", name := "give", desc := "(IIIIII)I" } : Jvm.MethodName)) ∈ lw_all := lw_g (lw_at lw_m11 137 rfl) rfl
theorem q2711 : (Jvm.Cond.methodLink "RobotCellLaw" (142 : Nat) ({ cls := "RobotCellLaw", name := "withdraw", desc := "(LRobotCell;I[J)I" } : Jvm.MethodName)) ∈ lw_all := lw_g (lw_at lw_m11 218 rfl) rfl
theorem q2712 : (Jvm.Cond.static ({ cls := "RobotCellLaw", name := "withdraw", desc := "(LRobotCell;I[J)I" } : Jvm.MethodName)) ∈ lw_all := lw_g (lw_at lw_m11 219 rfl) rfl
theorem q2713 : (Jvm.Cond.codeWith ({ cls := "RobotCellLaw", name := "withdraw", desc := "(LRobotCell;I[J)I" } : Jvm.MethodName) method_11_code (4 : Nat) (Option.some Jvm.ClassFile.FieldType.int) [((0 : Nat), (9 : Nat), (12 : Nat), (13 : Nat)), ((0 : Nat), (9 : Nat), (15 : Nat), (39 : Nat))]) ∈ lw_all := lw_g (lw_at lw_m11 220 rfl) rfl
theorem q2714 : (Jvm.Cond.methodLink "RobotCellLaw" (47 : Nat) ({ cls := "RobotCell", name := "withdraw", desc := "(I)I" } : Jvm.MethodName)) ∈ lw_all := lw_g (lw_at lw_m11 221 rfl) rfl
theorem q2733 : (Jvm.Cond.methodLink "RobotCellLaw" (145 : Nat) ({ cls := "RobotCellLaw", name := "job", desc := "(LRobotCell;II[J)I" } : Jvm.MethodName)) ∈ lw_all := lw_g (lw_at lw_m12 0 rfl) rfl
theorem q2734 : (Jvm.Cond.static ({ cls := "RobotCellLaw", name := "job", desc := "(LRobotCell;II[J)I" } : Jvm.MethodName)) ∈ lw_all := lw_g (lw_at lw_m12 1 rfl) rfl
theorem q2735 : (Jvm.Cond.codeWith ({ cls := "RobotCellLaw", name := "job", desc := "(LRobotCell;II[J)I" } : Jvm.MethodName) method_12_code (5 : Nat) (Option.some Jvm.ClassFile.FieldType.int) [((0 : Nat), (10 : Nat), (13 : Nat), (13 : Nat)), ((0 : Nat), (10 : Nat), (17 : Nat), (15 : Nat))]) ∈ lw_all := lw_g (lw_at lw_m12 2 rfl) rfl
theorem q2736 : (Jvm.Cond.methodLink "RobotCellLaw" (50 : Nat) ({ cls := "RobotCell", name := "job", desc := "(II)I" } : Jvm.MethodName)) ∈ lw_all := lw_g (lw_at lw_m12 3 rfl) rfl
theorem q2749 : (Jvm.Cond.methodLink "RobotCellLaw" (148 : Nat) ({ cls := "RobotCellLaw", name := "arm", desc := "(LRobotCell;II[J)I" } : Jvm.MethodName)) ∈ lw_all := lw_g (lw_at lw_m12 16 rfl) rfl
theorem q2750 : (Jvm.Cond.static ({ cls := "RobotCellLaw", name := "arm", desc := "(LRobotCell;II[J)I" } : Jvm.MethodName)) ∈ lw_all := lw_g (lw_at lw_m12 17 rfl) rfl
theorem q2751 : (Jvm.Cond.codeWith ({ cls := "RobotCellLaw", name := "arm", desc := "(LRobotCell;II[J)I" } : Jvm.MethodName) method_13_code (5 : Nat) (Option.some Jvm.ClassFile.FieldType.int) [((0 : Nat), (10 : Nat), (13 : Nat), (13 : Nat)), ((0 : Nat), (10 : Nat), (17 : Nat), (15 : Nat))]) ∈ lw_all := lw_g (lw_at lw_m12 18 rfl) rfl
theorem q2752 : (Jvm.Cond.methodLink "RobotCellLaw" (53 : Nat) ({ cls := "RobotCell", name := "arm", desc := "(II)I" } : Jvm.MethodName)) ∈ lw_all := lw_g (lw_at lw_m12 19 rfl) rfl
theorem q2766 : (Jvm.Cond.methodLink "RobotCellLaw" (151 : Nat) ({ cls := "RobotCellLaw", name := "waiting", desc := "(LRobotCell;II[J)I" } : Jvm.MethodName)) ∈ lw_all := lw_g (lw_at lw_m12 33 rfl) rfl
theorem q2767 : (Jvm.Cond.static ({ cls := "RobotCellLaw", name := "waiting", desc := "(LRobotCell;II[J)I" } : Jvm.MethodName)) ∈ lw_all := lw_g (lw_at lw_m12 34 rfl) rfl
theorem q2768 : (Jvm.Cond.codeWith ({ cls := "RobotCellLaw", name := "waiting", desc := "(LRobotCell;II[J)I" } : Jvm.MethodName) method_14_code (5 : Nat) (Option.some Jvm.ClassFile.FieldType.int) [((0 : Nat), (10 : Nat), (13 : Nat), (13 : Nat))]) ∈ lw_all := lw_g (lw_at lw_m12 35 rfl) rfl
theorem q2769 : (Jvm.Cond.methodLink "RobotCellLaw" (56 : Nat) ({ cls := "RobotCell", name := "waiting", desc := "(II)I" } : Jvm.MethodName)) ∈ lw_all := lw_g (lw_at lw_m12 36 rfl) rfl
theorem q2773 : (Jvm.Cond.methodLink "RobotCellLaw" (154 : Nat) ({ cls := "RobotCellLaw", name := "tick", desc := "(LRobotCell;I[J)I" } : Jvm.MethodName)) ∈ lw_all := lw_g (lw_at lw_m12 40 rfl) rfl
theorem q2774 : (Jvm.Cond.static ({ cls := "RobotCellLaw", name := "tick", desc := "(LRobotCell;I[J)I" } : Jvm.MethodName)) ∈ lw_all := lw_g (lw_at lw_m12 41 rfl) rfl
theorem q2775 : (Jvm.Cond.codeWith ({ cls := "RobotCellLaw", name := "tick", desc := "(LRobotCell;I[J)I" } : Jvm.MethodName) method_15_code (4 : Nat) (Option.some Jvm.ClassFile.FieldType.int) [((0 : Nat), (9 : Nat), (12 : Nat), (15 : Nat))]) ∈ lw_all := lw_g (lw_at lw_m12 42 rfl) rfl
theorem q2776 : (Jvm.Cond.methodLink "RobotCellLaw" (59 : Nat) ({ cls := "RobotCell", name := "tick", desc := "(I)I" } : Jvm.MethodName)) ∈ lw_all := lw_g (lw_at lw_m12 43 rfl) rfl
theorem q2905 : (Jvm.Cond.methodLink "RobotCellLaw" (157 : Nat) ({ cls := "RobotCellLaw", name := "reason", desc := "(LRobotCell;IZ[J)I" } : Jvm.MethodName)) ∈ lw_all := lw_g (lw_at lw_m12 172 rfl) rfl
theorem q2906 : (Jvm.Cond.static ({ cls := "RobotCellLaw", name := "reason", desc := "(LRobotCell;IZ[J)I" } : Jvm.MethodName)) ∈ lw_all := lw_g (lw_at lw_m12 173 rfl) rfl
theorem q2907 : (Jvm.Cond.codeWith ({ cls := "RobotCellLaw", name := "reason", desc := "(LRobotCell;IZ[J)I" } : Jvm.MethodName) method_16_code (5 : Nat) (Option.some Jvm.ClassFile.FieldType.int) [((0 : Nat), (10 : Nat), (13 : Nat), (13 : Nat)), ((0 : Nat), (10 : Nat), (17 : Nat), (39 : Nat))]) ∈ lw_all := lw_g (lw_at lw_m12 174 rfl) rfl
theorem q2908 : (Jvm.Cond.methodLink "RobotCellLaw" (62 : Nat) ({ cls := "RobotCell", name := "reason", desc := "(IZ)I" } : Jvm.MethodName)) ∈ lw_all := lw_g (lw_at lw_m12 175 rfl) rfl
theorem q2912 : (Jvm.Cond.methodLink "RobotCellLaw" (161 : Nat) ({ cls := "RobotCellLaw", name := "wouldBe", desc := "(LRobotCell;I[J)I" } : Jvm.MethodName)) ∈ lw_all := lw_g (lw_at lw_m12 179 rfl) rfl
theorem q2913 : (Jvm.Cond.static ({ cls := "RobotCellLaw", name := "wouldBe", desc := "(LRobotCell;I[J)I" } : Jvm.MethodName)) ∈ lw_all := lw_g (lw_at lw_m12 180 rfl) rfl
theorem q2914 : (Jvm.Cond.codeWith ({ cls := "RobotCellLaw", name := "wouldBe", desc := "(LRobotCell;I[J)I" } : Jvm.MethodName) method_17_code (4 : Nat) (Option.some Jvm.ClassFile.FieldType.int) [((0 : Nat), (9 : Nat), (12 : Nat), (13 : Nat)), ((0 : Nat), (9 : Nat), (15 : Nat), (39 : Nat))]) ∈ lw_all := lw_g (lw_at lw_m12 181 rfl) rfl
theorem q2915 : (Jvm.Cond.methodLink "RobotCellLaw" (66 : Nat) ({ cls := "RobotCell", name := "wouldBe", desc := "(I)I" } : Jvm.MethodName)) ∈ lw_all := lw_g (lw_at lw_m12 182 rfl) rfl
theorem q2921 : (Jvm.Cond.methodLink "RobotCellLaw" (164 : Nat) ({ cls := "RobotCellLaw", name := "endsAfter", desc := "(LRobotCell;I[J)I" } : Jvm.MethodName)) ∈ lw_all := lw_g (lw_at lw_m12 188 rfl) rfl
theorem q2922 : (Jvm.Cond.static ({ cls := "RobotCellLaw", name := "endsAfter", desc := "(LRobotCell;I[J)I" } : Jvm.MethodName)) ∈ lw_all := lw_g (lw_at lw_m12 189 rfl) rfl
theorem q2923 : (Jvm.Cond.codeWith ({ cls := "RobotCellLaw", name := "endsAfter", desc := "(LRobotCell;I[J)I" } : Jvm.MethodName) method_18_code (4 : Nat) (Option.some Jvm.ClassFile.FieldType.int) [((0 : Nat), (9 : Nat), (12 : Nat), (13 : Nat)), ((0 : Nat), (9 : Nat), (15 : Nat), (39 : Nat))]) ∈ lw_all := lw_g (lw_at lw_m12 190 rfl) rfl
theorem q2924 : (Jvm.Cond.methodLink "RobotCellLaw" (69 : Nat) ({ cls := "RobotCell", name := "endsAfter", desc := "(I)I" } : Jvm.MethodName)) ∈ lw_all := lw_g (lw_at lw_m12 191 rfl) rfl
theorem q2928 : (Jvm.Cond.methodLink "RobotCellLaw" (167 : Nat) ({ cls := "RobotCellLaw", name := "idleAfter", desc := "(LRobotCell;[J)I" } : Jvm.MethodName)) ∈ lw_all := lw_g (lw_at lw_m12 195 rfl) rfl
theorem q2929 : (Jvm.Cond.static ({ cls := "RobotCellLaw", name := "idleAfter", desc := "(LRobotCell;[J)I" } : Jvm.MethodName)) ∈ lw_all := lw_g (lw_at lw_m12 196 rfl) rfl
theorem q2930 : (Jvm.Cond.codeWith ({ cls := "RobotCellLaw", name := "idleAfter", desc := "(LRobotCell;[J)I" } : Jvm.MethodName) method_19_code (3 : Nat) (Option.some Jvm.ClassFile.FieldType.int) [((0 : Nat), (8 : Nat), (11 : Nat), (39 : Nat))]) ∈ lw_all := lw_g (lw_at lw_m12 197 rfl) rfl
theorem q2931 : (Jvm.Cond.methodLink "RobotCellLaw" (72 : Nat) ({ cls := "RobotCell", name := "idleAfter", desc := "()I" } : Jvm.MethodName)) ∈ lw_all := lw_g (lw_at lw_m12 198 rfl) rfl
theorem q2940 : (Jvm.Cond.methodLink "RobotCellLaw" (176 : Nat) ({ cls := "RobotCellLaw", name := "entry", desc := "(LRobotCell;II[J)I" } : Jvm.MethodName)) ∈ lw_all := lw_g (lw_at lw_m12 207 rfl) rfl
theorem q2941 : (Jvm.Cond.static ({ cls := "RobotCellLaw", name := "entry", desc := "(LRobotCell;II[J)I" } : Jvm.MethodName)) ∈ lw_all := lw_g (lw_at lw_m12 208 rfl) rfl
theorem q2942 : (Jvm.Cond.codeWith ({ cls := "RobotCellLaw", name := "entry", desc := "(LRobotCell;II[J)I" } : Jvm.MethodName) method_20_code (5 : Nat) (Option.some Jvm.ClassFile.FieldType.int) [((0 : Nat), (10 : Nat), (13 : Nat), (13 : Nat)), ((0 : Nat), (10 : Nat), (17 : Nat), (15 : Nat))]) ∈ lw_all := lw_g (lw_at lw_m12 209 rfl) rfl
theorem q2943 : (Jvm.Cond.methodLink "RobotCellLaw" (76 : Nat) ({ cls := "RobotCell", name := "entry", desc := "(II)I" } : Jvm.MethodName)) ∈ lw_all := lw_g (lw_at lw_m12 210 rfl) rfl
theorem q2952 : (Jvm.Cond.methodLink "RobotCellLaw" (179 : Nat) ({ cls := "RobotCellLaw", name := "account", desc := "(LRobotCell;I[J)I" } : Jvm.MethodName)) ∈ lw_all := lw_g (lw_at lw_m12 219 rfl) rfl
theorem q2953 : (Jvm.Cond.static ({ cls := "RobotCellLaw", name := "account", desc := "(LRobotCell;I[J)I" } : Jvm.MethodName)) ∈ lw_all := lw_g (lw_at lw_m12 220 rfl) rfl
theorem q2954 : (Jvm.Cond.codeWith ({ cls := "RobotCellLaw", name := "account", desc := "(LRobotCell;I[J)I" } : Jvm.MethodName) method_21_code (4 : Nat) (Option.some Jvm.ClassFile.FieldType.int) [((0 : Nat), (9 : Nat), (12 : Nat), (15 : Nat))]) ∈ lw_all := lw_g (lw_at lw_m12 221 rfl) rfl
theorem q2955 : (Jvm.Cond.methodLink "RobotCellLaw" (79 : Nat) ({ cls := "RobotCell", name := "account", desc := "(I)I" } : Jvm.MethodName)) ∈ lw_all := lw_g (lw_at lw_m12 222 rfl) rfl
theorem q2978 : (Jvm.Cond.methodLink "RobotCellLaw" (182 : Nat) ({ cls := "RobotCellLaw", name := "use", desc := "(LRobotCell;I[D)I" } : Jvm.MethodName)) ∈ lw_all := lw_g (lw_at lw_m13 5 rfl) rfl
theorem q2979 : (Jvm.Cond.static ({ cls := "RobotCellLaw", name := "use", desc := "(LRobotCell;I[D)I" } : Jvm.MethodName)) ∈ lw_all := lw_g (lw_at lw_m13 6 rfl) rfl
theorem q2980 : (Jvm.Cond.codeWith ({ cls := "RobotCellLaw", name := "use", desc := "(LRobotCell;I[D)I" } : Jvm.MethodName) method_22_code (4 : Nat) (Option.some Jvm.ClassFile.FieldType.int) [((0 : Nat), (9 : Nat), (12 : Nat), (13 : Nat)), ((0 : Nat), (9 : Nat), (15 : Nat), (86 : Nat))]) ∈ lw_all := lw_g (lw_at lw_m13 7 rfl) rfl
theorem q2981 : (Jvm.Cond.classLink "RobotCellLaw" (86 : Nat) "java/lang/ArithmeticException") ∈ lw_all := lw_g (lw_at lw_m13 8 rfl) rfl
theorem q2995 : (Jvm.Cond.methodLink "RobotCellLaw" (82 : Nat) ({ cls := "RobotCell", name := "use", desc := "(I)F" } : Jvm.MethodName)) ∈ lw_all := lw_g (lw_at lw_m13 22 rfl) rfl
theorem q3004 : (Jvm.Cond.methodLink "RobotCellLaw" (186 : Nat) ({ cls := "RobotCellLaw", name := "meanDuration", desc := "(LRobotCell;[D)I" } : Jvm.MethodName)) ∈ lw_all := lw_g (lw_at lw_m13 31 rfl) rfl
theorem q3005 : (Jvm.Cond.static ({ cls := "RobotCellLaw", name := "meanDuration", desc := "(LRobotCell;[D)I" } : Jvm.MethodName)) ∈ lw_all := lw_g (lw_at lw_m13 32 rfl) rfl
theorem q3006 : (Jvm.Cond.codeWith ({ cls := "RobotCellLaw", name := "meanDuration", desc := "(LRobotCell;[D)I" } : Jvm.MethodName) method_23_code (3 : Nat) (Option.some Jvm.ClassFile.FieldType.int) [((0 : Nat), (7 : Nat), (10 : Nat), (86 : Nat))]) ∈ lw_all := lw_g (lw_at lw_m13 33 rfl) rfl
theorem q3007 : (Jvm.Cond.methodLink "RobotCellLaw" (88 : Nat) ({ cls := "RobotCell", name := "meanDuration", desc := "()D" } : Jvm.MethodName)) ∈ lw_all := lw_g (lw_at lw_m13 34 rfl) rfl
theorem q3011 : (Jvm.Cond.methodLink "RobotCellLaw" (190 : Nat) ({ cls := "RobotCellLaw", name := "feed", desc := "(LRobotCell;C[J)I" } : Jvm.MethodName)) ∈ lw_all := lw_g (lw_at lw_m13 38 rfl) rfl
theorem q3012 : (Jvm.Cond.static ({ cls := "RobotCellLaw", name := "feed", desc := "(LRobotCell;C[J)I" } : Jvm.MethodName)) ∈ lw_all := lw_g (lw_at lw_m13 39 rfl) rfl
theorem q3013 : (Jvm.Cond.codeWith ({ cls := "RobotCellLaw", name := "feed", desc := "(LRobotCell;C[J)I" } : Jvm.MethodName) method_24_code (4 : Nat) (Option.some Jvm.ClassFile.FieldType.int) [((0 : Nat), (9 : Nat), (12 : Nat), (17 : Nat))]) ∈ lw_all := lw_g (lw_at lw_m13 40 rfl) rfl
theorem q3014 : (Jvm.Cond.methodLink "RobotCellLaw" (92 : Nat) ({ cls := "RobotCell", name := "feed", desc := "(C)I" } : Jvm.MethodName)) ∈ lw_all := lw_g (lw_at lw_m13 41 rfl) rfl
theorem q3018 : (Jvm.Cond.methodLink "RobotCellLaw" (194 : Nat) ({ cls := "RobotCellLaw", name := "perform", desc := "(LRobotCell;[J)I" } : Jvm.MethodName)) ∈ lw_all := lw_g (lw_at lw_m13 45 rfl) rfl
theorem q3019 : (Jvm.Cond.static ({ cls := "RobotCellLaw", name := "perform", desc := "(LRobotCell;[J)I" } : Jvm.MethodName)) ∈ lw_all := lw_g (lw_at lw_m13 46 rfl) rfl
theorem q3020 : (Jvm.Cond.codeWith ({ cls := "RobotCellLaw", name := "perform", desc := "(LRobotCell;[J)I" } : Jvm.MethodName) method_25_code (3 : Nat) (Option.some Jvm.ClassFile.FieldType.int) [((0 : Nat), (8 : Nat), (11 : Nat), (45 : Nat))]) ∈ lw_all := lw_g (lw_at lw_m13 47 rfl) rfl
theorem q3021 : (Jvm.Cond.methodLink "RobotCellLaw" (96 : Nat) ({ cls := "RobotCell", name := "perform", desc := "()I" } : Jvm.MethodName)) ∈ lw_all := lw_g (lw_at lw_m13 48 rfl) rfl
theorem q3183 : (Jvm.Cond.methodLink "RobotCellLaw" (197 : Nat) ({ cls := "RobotCellLaw", name := "undo", desc := "(LRobotCell;[J)I" } : Jvm.MethodName)) ∈ lw_all := lw_g (lw_at lw_m13 210 rfl) rfl
theorem q3184 : (Jvm.Cond.static ({ cls := "RobotCellLaw", name := "undo", desc := "(LRobotCell;[J)I" } : Jvm.MethodName)) ∈ lw_all := lw_g (lw_at lw_m13 211 rfl) rfl
theorem q3185 : (Jvm.Cond.codeWith ({ cls := "RobotCellLaw", name := "undo", desc := "(LRobotCell;[J)I" } : Jvm.MethodName) method_26_code (3 : Nat) (Option.some Jvm.ClassFile.FieldType.int) [((0 : Nat), (8 : Nat), (11 : Nat), (17 : Nat))]) ∈ lw_all := lw_g (lw_at lw_m13 212 rfl) rfl
theorem q3186 : (Jvm.Cond.methodLink "RobotCellLaw" (99 : Nat) ({ cls := "RobotCell", name := "undo", desc := "()I" } : Jvm.MethodName)) ∈ lw_all := lw_g (lw_at lw_m13 213 rfl) rfl
theorem q3190 : (Jvm.Cond.methodLink "RobotCellLaw" (204 : Nat) ({ cls := "RobotCellLaw", name := "restore", desc := "(LRobotCell;[J)I" } : Jvm.MethodName)) ∈ lw_all := lw_g (lw_at lw_m13 217 rfl) rfl
theorem q3191 : (Jvm.Cond.static ({ cls := "RobotCellLaw", name := "restore", desc := "(LRobotCell;[J)I" } : Jvm.MethodName)) ∈ lw_all := lw_g (lw_at lw_m13 218 rfl) rfl
theorem q3192 : (Jvm.Cond.codeWith ({ cls := "RobotCellLaw", name := "restore", desc := "(LRobotCell;[J)I" } : Jvm.MethodName) method_27_code (3 : Nat) (Option.some Jvm.ClassFile.FieldType.int) [((0 : Nat), (8 : Nat), (11 : Nat), (17 : Nat))]) ∈ lw_all := lw_g (lw_at lw_m13 219 rfl) rfl
theorem q3193 : (Jvm.Cond.methodLink "RobotCellLaw" (102 : Nat) ({ cls := "RobotCell", name := "restore", desc := "()I" } : Jvm.MethodName)) ∈ lw_all := lw_g (lw_at lw_m13 220 rfl) rfl
theorem q3204 : (Jvm.Cond.classLink "RobotCellLaw" (106 : Nat) "RobotCellModel") ∈ lw_all := lw_g (lw_at lw_m13 231 rfl) rfl
theorem q3206 : (Jvm.Cond.methodLink "RobotCellLaw" (108 : Nat) ({ cls := "RobotCellModel", name := "<init>", desc := "()V" } : Jvm.MethodName)) ∈ lw_all := lw_g (lw_at lw_m13 233 rfl) rfl
theorem q3400 : (Jvm.Cond.methodLink "RobotCellLaw" (115 : Nat) ({ cls := "RobotCellModel", name := "thrown", desc := "()I" } : Jvm.MethodName)) ∈ lw_all := lw_g (lw_at lw_m14 187 rfl) rfl
theorem q3404 : (Jvm.Cond.methodLink "RobotCellLaw" (114 : Nat) ({ cls := "RobotCellModel", name := "setInterlock", desc := "(IIZ)Z" } : Jvm.MethodName)) ∈ lw_all := lw_g (lw_at lw_m14 191 rfl) rfl
theorem q3465 : (Jvm.Cond.methodLink "RobotCellLaw" (121 : Nat) ({ cls := "RobotCellModel", name := "setReach", desc := "(II)I" } : Jvm.MethodName)) ∈ lw_all := lw_g (lw_at lw_m15 12 rfl) rfl
theorem q3476 : (Jvm.Cond.methodLink "RobotCellLaw" (124 : Nat) ({ cls := "RobotCellModel", name := "setCapacity", desc := "(II)I" } : Jvm.MethodName)) ∈ lw_all := lw_g (lw_at lw_m15 23 rfl) rfl
theorem q3483 : (Jvm.Cond.methodLink "RobotCellLaw" (128 : Nat) ({ cls := "RobotCellModel", name := "supply", desc := "(I)I" } : Jvm.MethodName)) ∈ lw_all := lw_g (lw_at lw_m15 30 rfl) rfl
theorem q3491 : (Jvm.Cond.methodLink "RobotCellLaw" (131 : Nat) ({ cls := "RobotCellModel", name := "zone", desc := "(II)I" } : Jvm.MethodName)) ∈ lw_all := lw_g (lw_at lw_m15 38 rfl) rfl
theorem q3499 : (Jvm.Cond.methodLink "RobotCellLaw" (134 : Nat) ({ cls := "RobotCellModel", name := "buffer", desc := "(II)I" } : Jvm.MethodName)) ∈ lw_all := lw_g (lw_at lw_m15 46 rfl) rfl
theorem q3503 : (Jvm.Cond.methodLink "RobotCellLaw" (137 : Nat) ({ cls := "RobotCellModel", name := "part", desc := "(II)I" } : Jvm.MethodName)) ∈ lw_all := lw_g (lw_at lw_m15 50 rfl) rfl
theorem q3507 : (Jvm.Cond.methodLink "RobotCellLaw" (141 : Nat) ({ cls := "RobotCellModel", name := "give", desc := "(IIIIII)I" } : Jvm.MethodName)) ∈ lw_all := lw_g (lw_at lw_m15 54 rfl) rfl
theorem q3525 : (Jvm.Cond.methodLink "RobotCellLaw" (144 : Nat) ({ cls := "RobotCellModel", name := "withdraw", desc := "(I)I" } : Jvm.MethodName)) ∈ lw_all := lw_g (lw_at lw_m15 72 rfl) rfl
theorem q3529 : (Jvm.Cond.methodLink "RobotCellLaw" (147 : Nat) ({ cls := "RobotCellModel", name := "job", desc := "(II)I" } : Jvm.MethodName)) ∈ lw_all := lw_g (lw_at lw_m15 76 rfl) rfl
theorem q3537 : (Jvm.Cond.methodLink "RobotCellLaw" (150 : Nat) ({ cls := "RobotCellModel", name := "arm", desc := "(II)I" } : Jvm.MethodName)) ∈ lw_all := lw_g (lw_at lw_m15 84 rfl) rfl
theorem q3541 : (Jvm.Cond.methodLink "RobotCellLaw" (153 : Nat) ({ cls := "RobotCellModel", name := "waiting", desc := "(II)I" } : Jvm.MethodName)) ∈ lw_all := lw_g (lw_at lw_m15 88 rfl) rfl
theorem q3545 : (Jvm.Cond.methodLink "RobotCellLaw" (156 : Nat) ({ cls := "RobotCellModel", name := "tick", desc := "(I)I" } : Jvm.MethodName)) ∈ lw_all := lw_g (lw_at lw_m15 92 rfl) rfl
theorem q3613 : (Jvm.Cond.methodLink "RobotCellLaw" (160 : Nat) ({ cls := "RobotCellModel", name := "reason", desc := "(IZ)I" } : Jvm.MethodName)) ∈ lw_all := lw_g (lw_at lw_m15 160 rfl) rfl
theorem q3617 : (Jvm.Cond.methodLink "RobotCellLaw" (163 : Nat) ({ cls := "RobotCellModel", name := "wouldBe", desc := "(I)I" } : Jvm.MethodName)) ∈ lw_all := lw_g (lw_at lw_m15 164 rfl) rfl
theorem q3621 : (Jvm.Cond.methodLink "RobotCellLaw" (166 : Nat) ({ cls := "RobotCellModel", name := "endsAfter", desc := "(I)I" } : Jvm.MethodName)) ∈ lw_all := lw_g (lw_at lw_m15 168 rfl) rfl
theorem q3633 : (Jvm.Cond.methodLink "RobotCellLaw" (170 : Nat) ({ cls := "RobotCellModel", name := "idleAfter", desc := "()I" } : Jvm.MethodName)) ∈ lw_all := lw_g (lw_at lw_m15 180 rfl) rfl
theorem q3637 : (Jvm.Cond.methodLink "RobotCellLaw" (175 : Nat) ({ cls := "RobotCellModel", name := "isSafe", desc := "()Z" } : Jvm.MethodName)) ∈ lw_all := lw_g (lw_at lw_m15 184 rfl) rfl
theorem q3641 : (Jvm.Cond.methodLink "RobotCellLaw" (178 : Nat) ({ cls := "RobotCellModel", name := "entry", desc := "(II)I" } : Jvm.MethodName)) ∈ lw_all := lw_g (lw_at lw_m15 188 rfl) rfl
theorem q3645 : (Jvm.Cond.methodLink "RobotCellLaw" (181 : Nat) ({ cls := "RobotCellModel", name := "account", desc := "(I)I" } : Jvm.MethodName)) ∈ lw_all := lw_g (lw_at lw_m15 192 rfl) rfl
theorem q3656 : (Jvm.Cond.methodLink "RobotCellLaw" (185 : Nat) ({ cls := "RobotCellModel", name := "use", desc := "(I)F" } : Jvm.MethodName)) ∈ lw_all := lw_g (lw_at lw_m15 203 rfl) rfl
theorem q3660 : (Jvm.Cond.methodLink "RobotCellLaw" (189 : Nat) ({ cls := "RobotCellModel", name := "meanDuration", desc := "()D" } : Jvm.MethodName)) ∈ lw_all := lw_g (lw_at lw_m15 207 rfl) rfl
theorem q3664 : (Jvm.Cond.methodLink "RobotCellLaw" (193 : Nat) ({ cls := "RobotCellModel", name := "feed", desc := "(C)I" } : Jvm.MethodName)) ∈ lw_all := lw_g (lw_at lw_m15 211 rfl) rfl
theorem q3668 : (Jvm.Cond.methodLink "RobotCellLaw" (196 : Nat) ({ cls := "RobotCellModel", name := "perform", desc := "()I" } : Jvm.MethodName)) ∈ lw_all := lw_g (lw_at lw_m15 215 rfl) rfl
theorem q3708 : (Jvm.Cond.methodLink "RobotCellLaw" (199 : Nat) ({ cls := "RobotCellModel", name := "undo", desc := "()I" } : Jvm.MethodName)) ∈ lw_all := lw_g (lw_at lw_m16 15 rfl) rfl
theorem q3712 : (Jvm.Cond.methodLink "RobotCellLaw" (203 : Nat) ({ cls := "RobotCellModel", name := "save", desc := "()I" } : Jvm.MethodName)) ∈ lw_all := lw_g (lw_at lw_m16 19 rfl) rfl
theorem q3716 : (Jvm.Cond.methodLink "RobotCellLaw" (206 : Nat) ({ cls := "RobotCellModel", name := "restore", desc := "()I" } : Jvm.MethodName)) ∈ lw_all := lw_g (lw_at lw_m16 23 rfl) rfl
/-! the law's own entry -/
set_option maxRecDepth 100000
abbrev cL_law : ByteArray := code
def dkwL_law_74 : List UInt8 := [4, 172]
abbrev dktL_law_74 : List UInt8 := dkwL_law_74 ++ []
def dkwL_law_73 : List UInt8 := [154, 0, 15, 45, 3, 47, 21, 7, 133, 148, 153, 0, 5, 3, 172, 167, 0, 3, 132, 5, 7, 167, 248, 249]
abbrev dktL_law_73 : List UInt8 := dkwL_law_73 ++ dktL_law_74
def dkwL_law_72 : List UInt8 := [184, 0, 204, 54, 6, 44, 182, 0, 206, 54, 7, 44, 182, 0, 115, 21, 6, 159, 0, 5, 3, 172, 21, 6]
abbrev dktL_law_72 : List UInt8 := dkwL_law_72 ++ dktL_law_73
def dkwL_law_71 : List UInt8 := [153, 0, 5, 3, 172, 167, 0, 60, 43, 182, 0, 200, 44, 182, 0, 203, 159, 0, 49, 3, 172, 43, 45]
abbrev dktL_law_71 : List UInt8 := dkwL_law_71 ++ dktL_law_72
def dkwL_law_70 : List UInt8 := [182, 0, 115, 21, 6, 159, 0, 5, 3, 172, 21, 6, 154, 0, 15, 45, 3, 47, 21, 7, 133, 148]
abbrev dktL_law_70 : List UInt8 := dkwL_law_70 ++ dktL_law_71
def dkwL_law_69 : List UInt8 := [153, 0, 5, 3, 172, 167, 0, 104, 43, 45, 184, 0, 197, 54, 6, 44, 182, 0, 199, 54, 7, 44]
abbrev dktL_law_69 : List UInt8 := dkwL_law_69 ++ dktL_law_70
def dkwL_law_68 : List UInt8 := [182, 0, 115, 21, 6, 159, 0, 5, 3, 172, 21, 6, 154, 0, 15, 45, 3, 47, 21, 7, 133, 148]
abbrev dktL_law_68 : List UInt8 := dkwL_law_68 ++ dktL_law_69
def dkwL_law_67 : List UInt8 := [148, 153, 0, 5, 3, 172, 167, 0, 148, 43, 45, 184, 0, 194, 54, 6, 44, 182, 0, 196, 54, 7, 44]
abbrev dktL_law_67 : List UInt8 := dkwL_law_67 ++ dktL_law_68
def dkwL_law_66 : List UInt8 := [54, 7, 44, 182, 0, 115, 21, 6, 159, 0, 5, 3, 172, 21, 6, 154, 0, 15, 45, 3, 47, 21, 7, 133]
abbrev dktL_law_66 : List UInt8 := dkwL_law_66 ++ dktL_law_67
def dkwL_law_65 : List UInt8 := [21, 5, 4, 96, 46, 146, 45, 184, 0, 190, 54, 6, 44, 42, 21, 5, 4, 96, 46, 146, 182, 0, 193]
abbrev dktL_law_65 : List UInt8 := dkwL_law_65 ++ dktL_law_66
def dkwL_law_64 : List UInt8 := [25, 4, 3, 49, 151, 153, 0, 11, 24, 7, 24, 7, 151, 154, 0, 5, 3, 172, 167, 0, 206, 43, 42]
abbrev dktL_law_64 : List UInt8 := dkwL_law_64 ++ dktL_law_65
def dkwL_law_63 : List UInt8 := [159, 0, 5, 3, 172, 21, 6, 154, 0, 35, 25, 4, 3, 49, 24, 7, 151, 153, 0, 25, 25, 4, 3, 49]
abbrev dktL_law_63 : List UInt8 := dkwL_law_63 ++ dktL_law_64
def dkwL_law_62 : List UInt8 := [172, 167, 1, 15, 43, 25, 4, 184, 0, 186, 54, 6, 44, 182, 0, 189, 57, 7, 44, 182, 0, 115, 21, 6]
abbrev dktL_law_62 : List UInt8 := dkwL_law_62 ++ dktL_law_63
def dkwL_law_61 : List UInt8 := [153, 0, 25, 25, 4, 3, 49, 25, 4, 3, 49, 151, 153, 0, 11, 23, 7, 23, 7, 149, 154, 0, 5, 3]
abbrev dktL_law_61 : List UInt8 := dkwL_law_61 ++ dktL_law_62
def dkwL_law_60 : List UInt8 := [44, 182, 0, 115, 21, 6, 159, 0, 5, 3, 172, 21, 6, 154, 0, 36, 25, 4, 3, 49, 23, 7, 141, 151]
abbrev dktL_law_60 : List UInt8 := dkwL_law_60 ++ dktL_law_61
def dkwL_law_59 : List UInt8 := [21, 5, 4, 96, 46, 25, 4, 184, 0, 182, 54, 6, 44, 42, 21, 5, 4, 96, 46, 182, 0, 185, 56, 7]
abbrev dktL_law_59 : List UInt8 := dkwL_law_59 ++ dktL_law_60
def dkwL_law_58 : List UInt8 := [172, 21, 6, 154, 0, 15, 45, 3, 47, 21, 7, 133, 148, 153, 0, 5, 3, 172, 167, 1, 93, 43, 42]
abbrev dktL_law_58 : List UInt8 := dkwL_law_58 ++ dktL_law_59
def dkwL_law_57 : List UInt8 := [54, 6, 44, 42, 21, 5, 4, 96, 46, 182, 0, 181, 54, 7, 44, 182, 0, 115, 21, 6, 159, 0, 5, 3]
abbrev dktL_law_57 : List UInt8 := dkwL_law_57 ++ dktL_law_58
def dkwL_law_56 : List UInt8 := [21, 7, 133, 148, 153, 0, 5, 3, 172, 167, 1, 149, 43, 42, 21, 5, 4, 96, 46, 45, 184, 0, 179]
abbrev dktL_law_56 : List UInt8 := dkwL_law_56 ++ dktL_law_57
def dkwL_law_55 : List UInt8 := [182, 0, 178, 54, 7, 44, 182, 0, 115, 21, 6, 159, 0, 5, 3, 172, 21, 6, 154, 0, 15, 45, 3, 47]
abbrev dktL_law_55 : List UInt8 := dkwL_law_55 ++ dktL_law_56
def dkwL_law_54 : List UInt8 := [21, 5, 5, 96, 46, 45, 184, 0, 176, 54, 6, 44, 42, 21, 5, 4, 96, 46, 42, 21, 5, 5, 96, 46]
abbrev dktL_law_54 : List UInt8 := dkwL_law_54 ++ dktL_law_55
def dkwL_law_53 : List UInt8 := [167, 1, 230, 43, 182, 0, 171, 44, 182, 0, 175, 159, 1, 219, 3, 172, 43, 42, 21, 5, 4, 96, 46, 42]
abbrev dktL_law_53 : List UInt8 := dkwL_law_53 ++ dktL_law_54
def dkwL_law_52 : List UInt8 := [159, 0, 5, 3, 172, 21, 6, 154, 0, 15, 45, 3, 47, 21, 7, 133, 148, 153, 0, 5, 3, 172]
abbrev dktL_law_52 : List UInt8 := dkwL_law_52 ++ dktL_law_53
def dkwL_law_51 : List UInt8 := [167, 2, 18, 43, 45, 184, 0, 167, 54, 6, 44, 182, 0, 170, 54, 7, 44, 182, 0, 115, 21, 6]
abbrev dktL_law_51 : List UInt8 := dkwL_law_51 ++ dktL_law_52
def dkwL_law_50 : List UInt8 := [21, 6, 159, 0, 5, 3, 172, 21, 6, 154, 0, 15, 45, 3, 47, 21, 7, 133, 148, 153, 0, 5, 3, 172]
abbrev dktL_law_50 : List UInt8 := dkwL_law_50 ++ dktL_law_51
def dkwL_law_49 : List UInt8 := [46, 45, 184, 0, 164, 54, 6, 44, 42, 21, 5, 4, 96, 46, 182, 0, 166, 54, 7, 44, 182, 0, 115]
abbrev dktL_law_49 : List UInt8 := dkwL_law_49 ++ dktL_law_50
def dkwL_law_48 : List UInt8 := [154, 0, 15, 45, 3, 47, 21, 7, 133, 148, 153, 0, 5, 3, 172, 167, 2, 74, 43, 42, 21, 5, 4, 96]
abbrev dktL_law_48 : List UInt8 := dkwL_law_48 ++ dktL_law_49
def dkwL_law_47 : List UInt8 := [21, 5, 4, 96, 46, 182, 0, 163, 54, 7, 44, 182, 0, 115, 21, 6, 159, 0, 5, 3, 172, 21, 6]
abbrev dktL_law_47 : List UInt8 := dkwL_law_47 ++ dktL_law_48
def dkwL_law_46 : List UInt8 := [153, 0, 5, 3, 172, 167, 2, 130, 43, 42, 21, 5, 4, 96, 46, 45, 184, 0, 161, 54, 6, 44, 42]
abbrev dktL_law_46 : List UInt8 := dkwL_law_46 ++ dktL_law_47
def dkwL_law_45 : List UInt8 := [44, 182, 0, 115, 21, 6, 159, 0, 5, 3, 172, 21, 6, 154, 0, 15, 45, 3, 47, 21, 7, 133, 148]
abbrev dktL_law_45 : List UInt8 := dkwL_law_45 ++ dktL_law_46
def dkwL_law_44 : List UInt8 := [21, 5, 4, 96, 46, 42, 21, 5, 5, 96, 46, 153, 0, 7, 4, 167, 0, 4, 3, 182, 0, 160, 54, 7]
abbrev dktL_law_44 : List UInt8 := dkwL_law_44 ++ dktL_law_45
def dkwL_law_43 : List UInt8 := [46, 42, 21, 5, 5, 96, 46, 153, 0, 7, 4, 167, 0, 4, 3, 45, 184, 0, 157, 54, 6, 44, 42]
abbrev dktL_law_43 : List UInt8 := dkwL_law_43 ++ dktL_law_44
def dkwL_law_42 : List UInt8 := [154, 0, 15, 45, 3, 47, 21, 7, 133, 148, 153, 0, 5, 3, 172, 167, 2, 214, 43, 42, 21, 5, 4, 96]
abbrev dktL_law_42 : List UInt8 := dkwL_law_42 ++ dktL_law_43
def dkwL_law_41 : List UInt8 := [21, 5, 4, 96, 46, 182, 0, 156, 54, 7, 44, 182, 0, 115, 21, 6, 159, 0, 5, 3, 172, 21, 6]
abbrev dktL_law_41 : List UInt8 := dkwL_law_41 ++ dktL_law_42
def dkwL_law_40 : List UInt8 := [148, 153, 0, 5, 3, 172, 167, 3, 14, 43, 42, 21, 5, 4, 96, 46, 45, 184, 0, 154, 54, 6, 44, 42]
abbrev dktL_law_40 : List UInt8 := dkwL_law_40 ++ dktL_law_41
def dkwL_law_39 : List UInt8 := [54, 7, 44, 182, 0, 115, 21, 6, 159, 0, 5, 3, 172, 21, 6, 154, 0, 15, 45, 3, 47, 21, 7, 133]
abbrev dktL_law_39 : List UInt8 := dkwL_law_39 ++ dktL_law_40
def dkwL_law_38 : List UInt8 := [46, 45, 184, 0, 151, 54, 6, 44, 42, 21, 5, 4, 96, 46, 42, 21, 5, 5, 96, 46, 182, 0, 153]
abbrev dktL_law_38 : List UInt8 := dkwL_law_38 ++ dktL_law_39
def dkwL_law_37 : List UInt8 := [21, 7, 133, 148, 153, 0, 5, 3, 172, 167, 3, 82, 43, 42, 21, 5, 4, 96, 46, 42, 21, 5, 5, 96]
abbrev dktL_law_37 : List UInt8 := dkwL_law_37 ++ dktL_law_38
def dkwL_law_36 : List UInt8 := [182, 0, 150, 54, 7, 44, 182, 0, 115, 21, 6, 159, 0, 5, 3, 172, 21, 6, 154, 0, 15, 45, 3, 47]
abbrev dktL_law_36 : List UInt8 := dkwL_law_36 ++ dktL_law_37
def dkwL_law_35 : List UInt8 := [5, 96, 46, 45, 184, 0, 148, 54, 6, 44, 42, 21, 5, 4, 96, 46, 42, 21, 5, 5, 96, 46]
abbrev dktL_law_35 : List UInt8 := dkwL_law_35 ++ dktL_law_36
def dkwL_law_34 : List UInt8 := [3, 47, 21, 7, 133, 148, 153, 0, 5, 3, 172, 167, 3, 150, 43, 42, 21, 5, 4, 96, 46, 42, 21, 5]
abbrev dktL_law_34 : List UInt8 := dkwL_law_34 ++ dktL_law_35
def dkwL_law_33 : List UInt8 := [96, 46, 182, 0, 147, 54, 7, 44, 182, 0, 115, 21, 6, 159, 0, 5, 3, 172, 21, 6, 154, 0, 15, 45]
abbrev dktL_law_33 : List UInt8 := dkwL_law_33 ++ dktL_law_34
def dkwL_law_32 : List UInt8 := [46, 42, 21, 5, 5, 96, 46, 45, 184, 0, 145, 54, 6, 44, 42, 21, 5, 4, 96, 46, 42, 21, 5, 5]
abbrev dktL_law_32 : List UInt8 := dkwL_law_32 ++ dktL_law_33
def dkwL_law_31 : List UInt8 := [154, 0, 15, 45, 3, 47, 21, 7, 133, 148, 153, 0, 5, 3, 172, 167, 3, 218, 43, 42, 21, 5, 4, 96]
abbrev dktL_law_31 : List UInt8 := dkwL_law_31 ++ dktL_law_32
def dkwL_law_30 : List UInt8 := [21, 5, 4, 96, 46, 182, 0, 144, 54, 7, 44, 182, 0, 115, 21, 6, 159, 0, 5, 3, 172, 21, 6]
abbrev dktL_law_30 : List UInt8 := dkwL_law_30 ++ dktL_law_31
def dkwL_law_29 : List UInt8 := [148, 153, 0, 5, 3, 172, 167, 4, 18, 43, 42, 21, 5, 4, 96, 46, 45, 184, 0, 142, 54, 6, 44, 42]
abbrev dktL_law_29 : List UInt8 := dkwL_law_29 ++ dktL_law_30
def dkwL_law_28 : List UInt8 := [54, 7, 44, 182, 0, 115, 21, 6, 159, 0, 5, 3, 172, 21, 6, 154, 0, 15, 45, 3, 47, 21, 7, 133]
abbrev dktL_law_28 : List UInt8 := dkwL_law_28 ++ dktL_law_29
def dkwL_law_27 : List UInt8 := [46, 42, 21, 5, 7, 96, 46, 42, 21, 5, 8, 96, 46, 42, 21, 5, 16, 6, 96, 46, 182, 0, 141]
abbrev dktL_law_27 : List UInt8 := dkwL_law_27 ++ dktL_law_28
def dkwL_law_26 : List UInt8 := [45, 184, 0, 138, 54, 6, 44, 42, 21, 5, 4, 96, 46, 42, 21, 5, 5, 96, 46, 42, 21, 5, 6, 96]
abbrev dktL_law_26 : List UInt8 := dkwL_law_26 ++ dktL_law_27
def dkwL_law_25 : List UInt8 := [21, 5, 6, 96, 46, 42, 21, 5, 7, 96, 46, 42, 21, 5, 8, 96, 46, 42, 21, 5, 16, 6, 96, 46]
abbrev dktL_law_25 : List UInt8 := dkwL_law_25 ++ dktL_law_26
def dkwL_law_24 : List UInt8 := [148, 153, 0, 5, 3, 172, 167, 4, 136, 43, 42, 21, 5, 4, 96, 46, 42, 21, 5, 5, 96, 46, 42]
abbrev dktL_law_24 : List UInt8 := dkwL_law_24 ++ dktL_law_25
def dkwL_law_23 : List UInt8 := [54, 7, 44, 182, 0, 115, 21, 6, 159, 0, 5, 3, 172, 21, 6, 154, 0, 15, 45, 3, 47, 21, 7, 133]
abbrev dktL_law_23 : List UInt8 := dkwL_law_23 ++ dktL_law_24
def dkwL_law_22 : List UInt8 := [46, 45, 184, 0, 135, 54, 6, 44, 42, 21, 5, 4, 96, 46, 42, 21, 5, 5, 96, 46, 182, 0, 137]
abbrev dktL_law_22 : List UInt8 := dkwL_law_22 ++ dktL_law_23
def dkwL_law_21 : List UInt8 := [21, 7, 133, 148, 153, 0, 5, 3, 172, 167, 4, 204, 43, 42, 21, 5, 4, 96, 46, 42, 21, 5, 5, 96]
abbrev dktL_law_21 : List UInt8 := dkwL_law_21 ++ dktL_law_22
def dkwL_law_20 : List UInt8 := [182, 0, 134, 54, 7, 44, 182, 0, 115, 21, 6, 159, 0, 5, 3, 172, 21, 6, 154, 0, 15, 45, 3, 47]
abbrev dktL_law_20 : List UInt8 := dkwL_law_20 ++ dktL_law_21
def dkwL_law_19 : List UInt8 := [5, 96, 46, 45, 184, 0, 132, 54, 6, 44, 42, 21, 5, 4, 96, 46, 42, 21, 5, 5, 96, 46]
abbrev dktL_law_19 : List UInt8 := dkwL_law_19 ++ dktL_law_20
def dkwL_law_18 : List UInt8 := [3, 47, 21, 7, 133, 148, 153, 0, 5, 3, 172, 167, 5, 16, 43, 42, 21, 5, 4, 96, 46, 42, 21, 5]
abbrev dktL_law_18 : List UInt8 := dkwL_law_18 ++ dktL_law_19
def dkwL_law_17 : List UInt8 := [96, 46, 182, 0, 131, 54, 7, 44, 182, 0, 115, 21, 6, 159, 0, 5, 3, 172, 21, 6, 154, 0, 15, 45]
abbrev dktL_law_17 : List UInt8 := dkwL_law_17 ++ dktL_law_18
def dkwL_law_16 : List UInt8 := [46, 42, 21, 5, 5, 96, 46, 45, 184, 0, 129, 54, 6, 44, 42, 21, 5, 4, 96, 46, 42, 21, 5, 5]
abbrev dktL_law_16 : List UInt8 := dkwL_law_16 ++ dktL_law_17
def dkwL_law_15 : List UInt8 := [154, 0, 15, 45, 3, 47, 21, 7, 133, 148, 153, 0, 5, 3, 172, 167, 5, 84, 43, 42, 21, 5, 4, 96]
abbrev dktL_law_15 : List UInt8 := dkwL_law_15 ++ dktL_law_16
def dkwL_law_14 : List UInt8 := [21, 5, 4, 96, 46, 182, 0, 128, 54, 7, 44, 182, 0, 115, 21, 6, 159, 0, 5, 3, 172, 21, 6]
abbrev dktL_law_14 : List UInt8 := dkwL_law_14 ++ dktL_law_15
def dkwL_law_13 : List UInt8 := [153, 0, 5, 3, 172, 167, 5, 140, 43, 42, 21, 5, 4, 96, 46, 45, 184, 0, 125, 54, 6, 44, 42]
abbrev dktL_law_13 : List UInt8 := dkwL_law_13 ++ dktL_law_14
def dkwL_law_12 : List UInt8 := [182, 0, 115, 21, 6, 159, 0, 5, 3, 172, 21, 6, 154, 0, 15, 45, 3, 47, 21, 7, 133, 148]
abbrev dktL_law_12 : List UInt8 := dkwL_law_12 ++ dktL_law_13
def dkwL_law_11 : List UInt8 := [184, 0, 122, 54, 6, 44, 42, 21, 5, 4, 96, 46, 42, 21, 5, 5, 96, 46, 182, 0, 124, 54, 7, 44]
abbrev dktL_law_11 : List UInt8 := dkwL_law_11 ++ dktL_law_12
def dkwL_law_10 : List UInt8 := [153, 0, 5, 3, 172, 167, 5, 208, 43, 42, 21, 5, 4, 96, 46, 42, 21, 5, 5, 96, 46, 45]
abbrev dktL_law_10 : List UInt8 := dkwL_law_10 ++ dktL_law_11
def dkwL_law_9 : List UInt8 := [182, 0, 115, 21, 6, 159, 0, 5, 3, 172, 21, 6, 154, 0, 15, 45, 3, 47, 21, 7, 133, 148]
abbrev dktL_law_9 : List UInt8 := dkwL_law_9 ++ dktL_law_10
def dkwL_law_8 : List UInt8 := [184, 0, 118, 54, 6, 44, 42, 21, 5, 4, 96, 46, 42, 21, 5, 5, 96, 46, 182, 0, 121, 54, 7, 44]
abbrev dktL_law_8 : List UInt8 := dkwL_law_8 ++ dktL_law_9
def dkwL_law_7 : List UInt8 := [153, 0, 5, 3, 172, 167, 6, 20, 43, 42, 21, 5, 4, 96, 46, 42, 21, 5, 5, 96, 46, 45]
abbrev dktL_law_7 : List UInt8 := dkwL_law_7 ++ dktL_law_8
def dkwL_law_6 : List UInt8 := [159, 0, 5, 3, 172, 21, 6, 154, 0, 22, 45, 3, 47, 21, 7, 153, 0, 7, 10, 167, 0, 4, 9, 148]
abbrev dktL_law_6 : List UInt8 := dkwL_law_6 ++ dktL_law_7
def dkwL_law_5 : List UInt8 := [21, 5, 6, 96, 46, 153, 0, 7, 4, 167, 0, 4, 3, 182, 0, 114, 54, 7, 44, 182, 0, 115, 21, 6]
abbrev dktL_law_5 : List UInt8 := dkwL_law_5 ++ dktL_law_6
def dkwL_law_4 : List UInt8 := [167, 0, 4, 3, 45, 184, 0, 109, 54, 6, 44, 42, 21, 5, 4, 96, 46, 42, 21, 5, 5, 96, 46, 42]
abbrev dktL_law_4 : List UInt8 := dkwL_law_4 ++ dktL_law_5
def dkwL_law_3 : List UInt8 := [43, 42, 21, 5, 4, 96, 46, 42, 21, 5, 5, 96, 46, 42, 21, 5, 6, 96, 46, 153, 0, 7, 4]
abbrev dktL_law_3 : List UInt8 := dkwL_law_3 ++ dktL_law_4
def dkwL_law_2 : List UInt8 := [170, 0, 0, 0, 0, 6, 243, 0, 0, 0, 0, 0, 0, 0, 26, 0, 0, 0, 123, 0, 0, 0, 226, 0, 0, 1, 38, 0, 0, 1, 106, 0, 0, 1, 162, 0, 0, 1, 230, 0, 0, 2, 42, 0, 0, 2, 110, 0, 0, 2, 228, 0, 0, 3, 28, 0, 0, 3, 96, 0, 0, 3, 164, 0, 0, 3, 232, 0, 0, 4, 32, 0, 0, 4, 116, 0, 0, 4, 172, 0, 0, 4, 228, 0, 0, 5, 16, 0, 0, 5, 29, 0, 0, 5, 97, 0, 0, 5, 153, 0, 0, 5, 231, 0, 0, 6, 40, 0, 0, 6, 98, 0, 0, 6, 142, 0, 0, 6, 186, 0, 0, 6, 199]
abbrev dktL_law_2 : List UInt8 := dkwL_law_2 ++ dktL_law_3
def dkwL_law_1 : List UInt8 := [58, 4, 3, 54, 5, 21, 5, 42, 190, 16, 7, 100, 163, 7, 3, 42, 21, 5, 46, 16, 31, 126]
abbrev dktL_law_1 : List UInt8 := dkwL_law_1 ++ dktL_law_2
def dkwL_law_0 : List UInt8 := [187, 0, 8, 89, 183, 0, 105, 76, 187, 0, 106, 89, 183, 0, 108, 77, 4, 188, 11, 78, 4, 188, 7]
abbrev dktL_law_0 : List UInt8 := dkwL_law_0 ++ dktL_law_1
theorem dksL_law_0 : cL_law.data.toList.drop 0 = dktL_law_0 := by decide +kernel
theorem dksL_law_1 : cL_law.data.toList.drop 23 = dktL_law_1 := dk_seg dksL_law_0 23 rfl rfl
theorem dksL_law_2 : cL_law.data.toList.drop 45 = dktL_law_2 := dk_seg dksL_law_1 22 rfl rfl
theorem dksL_law_3 : cL_law.data.toList.drop 168 = dktL_law_3 := dk_seg dksL_law_2 123 rfl rfl
theorem dksL_law_4 : cL_law.data.toList.drop 191 = dktL_law_4 := dk_seg dksL_law_3 23 rfl rfl
theorem dksL_law_5 : cL_law.data.toList.drop 215 = dktL_law_5 := dk_seg dksL_law_4 24 rfl rfl
theorem dksL_law_6 : cL_law.data.toList.drop 239 = dktL_law_6 := dk_seg dksL_law_5 24 rfl rfl
theorem dksL_law_7 : cL_law.data.toList.drop 263 = dktL_law_7 := dk_seg dksL_law_6 24 rfl rfl
theorem dksL_law_8 : cL_law.data.toList.drop 285 = dktL_law_8 := dk_seg dksL_law_7 22 rfl rfl
theorem dksL_law_9 : cL_law.data.toList.drop 309 = dktL_law_9 := dk_seg dksL_law_8 24 rfl rfl
theorem dksL_law_10 : cL_law.data.toList.drop 331 = dktL_law_10 := dk_seg dksL_law_9 22 rfl rfl
theorem dksL_law_11 : cL_law.data.toList.drop 353 = dktL_law_11 := dk_seg dksL_law_10 22 rfl rfl
theorem dksL_law_12 : cL_law.data.toList.drop 377 = dktL_law_12 := dk_seg dksL_law_11 24 rfl rfl
theorem dksL_law_13 : cL_law.data.toList.drop 399 = dktL_law_13 := dk_seg dksL_law_12 22 rfl rfl
theorem dksL_law_14 : cL_law.data.toList.drop 422 = dktL_law_14 := dk_seg dksL_law_13 23 rfl rfl
theorem dksL_law_15 : cL_law.data.toList.drop 445 = dktL_law_15 := dk_seg dksL_law_14 23 rfl rfl
theorem dksL_law_16 : cL_law.data.toList.drop 469 = dktL_law_16 := dk_seg dksL_law_15 24 rfl rfl
theorem dksL_law_17 : cL_law.data.toList.drop 493 = dktL_law_17 := dk_seg dksL_law_16 24 rfl rfl
theorem dksL_law_18 : cL_law.data.toList.drop 517 = dktL_law_18 := dk_seg dksL_law_17 24 rfl rfl
theorem dksL_law_19 : cL_law.data.toList.drop 541 = dktL_law_19 := dk_seg dksL_law_18 24 rfl rfl
theorem dksL_law_20 : cL_law.data.toList.drop 563 = dktL_law_20 := dk_seg dksL_law_19 22 rfl rfl
theorem dksL_law_21 : cL_law.data.toList.drop 587 = dktL_law_21 := dk_seg dksL_law_20 24 rfl rfl
theorem dksL_law_22 : cL_law.data.toList.drop 611 = dktL_law_22 := dk_seg dksL_law_21 24 rfl rfl
theorem dksL_law_23 : cL_law.data.toList.drop 634 = dktL_law_23 := dk_seg dksL_law_22 23 rfl rfl
theorem dksL_law_24 : cL_law.data.toList.drop 658 = dktL_law_24 := dk_seg dksL_law_23 24 rfl rfl
theorem dksL_law_25 : cL_law.data.toList.drop 681 = dktL_law_25 := dk_seg dksL_law_24 23 rfl rfl
theorem dksL_law_26 : cL_law.data.toList.drop 705 = dktL_law_26 := dk_seg dksL_law_25 24 rfl rfl
theorem dksL_law_27 : cL_law.data.toList.drop 729 = dktL_law_27 := dk_seg dksL_law_26 24 rfl rfl
theorem dksL_law_28 : cL_law.data.toList.drop 752 = dktL_law_28 := dk_seg dksL_law_27 23 rfl rfl
theorem dksL_law_29 : cL_law.data.toList.drop 776 = dktL_law_29 := dk_seg dksL_law_28 24 rfl rfl
theorem dksL_law_30 : cL_law.data.toList.drop 800 = dktL_law_30 := dk_seg dksL_law_29 24 rfl rfl
theorem dksL_law_31 : cL_law.data.toList.drop 823 = dktL_law_31 := dk_seg dksL_law_30 23 rfl rfl
theorem dksL_law_32 : cL_law.data.toList.drop 847 = dktL_law_32 := dk_seg dksL_law_31 24 rfl rfl
theorem dksL_law_33 : cL_law.data.toList.drop 871 = dktL_law_33 := dk_seg dksL_law_32 24 rfl rfl
theorem dksL_law_34 : cL_law.data.toList.drop 895 = dktL_law_34 := dk_seg dksL_law_33 24 rfl rfl
theorem dksL_law_35 : cL_law.data.toList.drop 919 = dktL_law_35 := dk_seg dksL_law_34 24 rfl rfl
theorem dksL_law_36 : cL_law.data.toList.drop 941 = dktL_law_36 := dk_seg dksL_law_35 22 rfl rfl
theorem dksL_law_37 : cL_law.data.toList.drop 965 = dktL_law_37 := dk_seg dksL_law_36 24 rfl rfl
theorem dksL_law_38 : cL_law.data.toList.drop 989 = dktL_law_38 := dk_seg dksL_law_37 24 rfl rfl
theorem dksL_law_39 : cL_law.data.toList.drop 1012 = dktL_law_39 := dk_seg dksL_law_38 23 rfl rfl
theorem dksL_law_40 : cL_law.data.toList.drop 1036 = dktL_law_40 := dk_seg dksL_law_39 24 rfl rfl
theorem dksL_law_41 : cL_law.data.toList.drop 1060 = dktL_law_41 := dk_seg dksL_law_40 24 rfl rfl
theorem dksL_law_42 : cL_law.data.toList.drop 1083 = dktL_law_42 := dk_seg dksL_law_41 23 rfl rfl
theorem dksL_law_43 : cL_law.data.toList.drop 1107 = dktL_law_43 := dk_seg dksL_law_42 24 rfl rfl
theorem dksL_law_44 : cL_law.data.toList.drop 1130 = dktL_law_44 := dk_seg dksL_law_43 23 rfl rfl
theorem dksL_law_45 : cL_law.data.toList.drop 1154 = dktL_law_45 := dk_seg dksL_law_44 24 rfl rfl
theorem dksL_law_46 : cL_law.data.toList.drop 1177 = dktL_law_46 := dk_seg dksL_law_45 23 rfl rfl
theorem dksL_law_47 : cL_law.data.toList.drop 1200 = dktL_law_47 := dk_seg dksL_law_46 23 rfl rfl
theorem dksL_law_48 : cL_law.data.toList.drop 1223 = dktL_law_48 := dk_seg dksL_law_47 23 rfl rfl
theorem dksL_law_49 : cL_law.data.toList.drop 1247 = dktL_law_49 := dk_seg dksL_law_48 24 rfl rfl
theorem dksL_law_50 : cL_law.data.toList.drop 1270 = dktL_law_50 := dk_seg dksL_law_49 23 rfl rfl
theorem dksL_law_51 : cL_law.data.toList.drop 1294 = dktL_law_51 := dk_seg dksL_law_50 24 rfl rfl
theorem dksL_law_52 : cL_law.data.toList.drop 1316 = dktL_law_52 := dk_seg dksL_law_51 22 rfl rfl
theorem dksL_law_53 : cL_law.data.toList.drop 1338 = dktL_law_53 := dk_seg dksL_law_52 22 rfl rfl
theorem dksL_law_54 : cL_law.data.toList.drop 1362 = dktL_law_54 := dk_seg dksL_law_53 24 rfl rfl
theorem dksL_law_55 : cL_law.data.toList.drop 1386 = dktL_law_55 := dk_seg dksL_law_54 24 rfl rfl
theorem dksL_law_56 : cL_law.data.toList.drop 1410 = dktL_law_56 := dk_seg dksL_law_55 24 rfl rfl
theorem dksL_law_57 : cL_law.data.toList.drop 1433 = dktL_law_57 := dk_seg dksL_law_56 23 rfl rfl
theorem dksL_law_58 : cL_law.data.toList.drop 1457 = dktL_law_58 := dk_seg dksL_law_57 24 rfl rfl
theorem dksL_law_59 : cL_law.data.toList.drop 1480 = dktL_law_59 := dk_seg dksL_law_58 23 rfl rfl
theorem dksL_law_60 : cL_law.data.toList.drop 1504 = dktL_law_60 := dk_seg dksL_law_59 24 rfl rfl
theorem dksL_law_61 : cL_law.data.toList.drop 1528 = dktL_law_61 := dk_seg dksL_law_60 24 rfl rfl
theorem dksL_law_62 : cL_law.data.toList.drop 1552 = dktL_law_62 := dk_seg dksL_law_61 24 rfl rfl
theorem dksL_law_63 : cL_law.data.toList.drop 1576 = dktL_law_63 := dk_seg dksL_law_62 24 rfl rfl
theorem dksL_law_64 : cL_law.data.toList.drop 1600 = dktL_law_64 := dk_seg dksL_law_63 24 rfl rfl
theorem dksL_law_65 : cL_law.data.toList.drop 1623 = dktL_law_65 := dk_seg dksL_law_64 23 rfl rfl
theorem dksL_law_66 : cL_law.data.toList.drop 1646 = dktL_law_66 := dk_seg dksL_law_65 23 rfl rfl
theorem dksL_law_67 : cL_law.data.toList.drop 1670 = dktL_law_67 := dk_seg dksL_law_66 24 rfl rfl
theorem dksL_law_68 : cL_law.data.toList.drop 1693 = dktL_law_68 := dk_seg dksL_law_67 23 rfl rfl
theorem dksL_law_69 : cL_law.data.toList.drop 1715 = dktL_law_69 := dk_seg dksL_law_68 22 rfl rfl
theorem dksL_law_70 : cL_law.data.toList.drop 1737 = dktL_law_70 := dk_seg dksL_law_69 22 rfl rfl
theorem dksL_law_71 : cL_law.data.toList.drop 1759 = dktL_law_71 := dk_seg dksL_law_70 22 rfl rfl
theorem dksL_law_72 : cL_law.data.toList.drop 1782 = dktL_law_72 := dk_seg dksL_law_71 23 rfl rfl
theorem dksL_law_73 : cL_law.data.toList.drop 1806 = dktL_law_73 := dk_seg dksL_law_72 24 rfl rfl
theorem dksL_law_74 : cL_law.data.toList.drop 1830 = dktL_law_74 := dk_seg dksL_law_73 24 rfl rfl
theorem dL_law_0 : decode cL_law 0 = .ok (.new 8, 3) := dk_187 0 8 (dk_at dksL_law_0 0 rfl rfl)
theorem dL_law_3 : decode cL_law 3 = .ok (.dup, 1) := dk_89 (dk_at dksL_law_0 3 rfl rfl)
theorem dL_law_4 : decode cL_law 4 = .ok (.invokespecial 105, 3) := dk_183 0 105 (dk_at dksL_law_0 4 rfl rfl)
theorem dL_law_7 : decode cL_law 7 = .ok (.astore_n 1, 1) := dk_76 (dk_at dksL_law_0 7 rfl rfl)
theorem dL_law_8 : decode cL_law 8 = .ok (.new 106, 3) := dk_187 0 106 (dk_at dksL_law_0 8 rfl rfl)
theorem dL_law_11 : decode cL_law 11 = .ok (.dup, 1) := dk_89 (dk_at dksL_law_0 11 rfl rfl)
theorem dL_law_12 : decode cL_law 12 = .ok (.invokespecial 108, 3) := dk_183 0 108 (dk_at dksL_law_0 12 rfl rfl)
theorem dL_law_15 : decode cL_law 15 = .ok (.astore_n 2, 1) := dk_77 (dk_at dksL_law_0 15 rfl rfl)
theorem dL_law_16 : decode cL_law 16 = .ok (.iconst 1, 1) := dk_4 (dk_at dksL_law_0 16 rfl rfl)
theorem dL_law_17 : decode cL_law 17 = .ok (.newarray .long, 2) := dk_188_11 (dk_at dksL_law_0 17 rfl rfl)
theorem dL_law_19 : decode cL_law 19 = .ok (.astore_n 3, 1) := dk_78 (dk_at dksL_law_0 19 rfl rfl)
theorem dL_law_20 : decode cL_law 20 = .ok (.iconst 1, 1) := dk_4 (dk_at dksL_law_0 20 rfl rfl)
theorem dL_law_21 : decode cL_law 21 = .ok (.newarray .double, 2) := dk_188_7 (dk_at dksL_law_0 21 rfl rfl)
theorem dL_law_23 : decode cL_law 23 = .ok (.astore 4, 2) := dk_58 4 (dk_at dksL_law_1 0 rfl rfl)
theorem dL_law_25 : decode cL_law 25 = .ok (.iconst 0, 1) := dk_3 (dk_at dksL_law_1 2 rfl rfl)
theorem dL_law_26 : decode cL_law 26 = .ok (.istore 5, 2) := dk_54 5 (dk_at dksL_law_1 3 rfl rfl)
theorem dL_law_28 : decode cL_law 28 = .ok (.iload 5, 2) := dk_21 5 (dk_at dksL_law_1 5 rfl rfl)
theorem dL_law_30 : decode cL_law 30 = .ok (.aload_n 0, 1) := dk_42 (dk_at dksL_law_1 7 rfl rfl)
theorem dL_law_31 : decode cL_law 31 = .ok (.arraylength, 1) := dk_190 (dk_at dksL_law_1 8 rfl rfl)
theorem dL_law_32 : decode cL_law 32 = .ok (.bipush 7, 2) := dk_16 7 (dk_at dksL_law_1 9 rfl rfl)
theorem dL_law_34 : decode cL_law 34 = .ok (.isub, 1) := dk_100 (dk_at dksL_law_1 11 rfl rfl)
theorem dL_law_35 : decode cL_law 35 = .ok (.if_icmp .gt 1795, 3) := dk_163 7 3 (dk_at dksL_law_1 12 rfl rfl)
theorem dL_law_38 : decode cL_law 38 = .ok (.aload_n 0, 1) := dk_42 (dk_at dksL_law_1 15 rfl rfl)
theorem dL_law_39 : decode cL_law 39 = .ok (.iload 5, 2) := dk_21 5 (dk_at dksL_law_1 16 rfl rfl)
theorem dL_law_41 : decode cL_law 41 = .ok (.iaload, 1) := dk_46 (dk_at dksL_law_1 18 rfl rfl)
theorem dL_law_42 : decode cL_law 42 = .ok (.bipush 31, 2) := dk_16 31 (dk_at dksL_law_1 19 rfl rfl)
theorem dL_law_44 : decode cL_law 44 = .ok (.iand, 1) := dk_126 (dk_at dksL_law_1 21 rfl rfl)
theorem dL_law_45 : decode cL_law 45 = .ok (.tableswitch 1779 0 26 #[123, 226, 294, 362, 418, 486, 554, 622, 740, 796, 864, 932, 1000, 1056, 1140, 1196, 1252, 1296, 1309, 1377, 1433, 1511, 1576, 1634, 1678, 1722, 1735], 123) := by decide +kernel
theorem dL_law_168 : decode cL_law 168 = .ok (.aload_n 1, 1) := dk_43 (dk_at dksL_law_3 0 rfl rfl)
theorem dL_law_169 : decode cL_law 169 = .ok (.aload_n 0, 1) := dk_42 (dk_at dksL_law_3 1 rfl rfl)
theorem dL_law_170 : decode cL_law 170 = .ok (.iload 5, 2) := dk_21 5 (dk_at dksL_law_3 2 rfl rfl)
theorem dL_law_172 : decode cL_law 172 = .ok (.iconst 1, 1) := dk_4 (dk_at dksL_law_3 4 rfl rfl)
theorem dL_law_173 : decode cL_law 173 = .ok (.iadd, 1) := dk_96 (dk_at dksL_law_3 5 rfl rfl)
theorem dL_law_174 : decode cL_law 174 = .ok (.iaload, 1) := dk_46 (dk_at dksL_law_3 6 rfl rfl)
theorem dL_law_175 : decode cL_law 175 = .ok (.aload_n 0, 1) := dk_42 (dk_at dksL_law_3 7 rfl rfl)
theorem dL_law_176 : decode cL_law 176 = .ok (.iload 5, 2) := dk_21 5 (dk_at dksL_law_3 8 rfl rfl)
theorem dL_law_178 : decode cL_law 178 = .ok (.iconst 2, 1) := dk_5 (dk_at dksL_law_3 10 rfl rfl)
theorem dL_law_179 : decode cL_law 179 = .ok (.iadd, 1) := dk_96 (dk_at dksL_law_3 11 rfl rfl)
theorem dL_law_180 : decode cL_law 180 = .ok (.iaload, 1) := dk_46 (dk_at dksL_law_3 12 rfl rfl)
theorem dL_law_181 : decode cL_law 181 = .ok (.aload_n 0, 1) := dk_42 (dk_at dksL_law_3 13 rfl rfl)
theorem dL_law_182 : decode cL_law 182 = .ok (.iload 5, 2) := dk_21 5 (dk_at dksL_law_3 14 rfl rfl)
theorem dL_law_184 : decode cL_law 184 = .ok (.iconst 3, 1) := dk_6 (dk_at dksL_law_3 16 rfl rfl)
theorem dL_law_185 : decode cL_law 185 = .ok (.iadd, 1) := dk_96 (dk_at dksL_law_3 17 rfl rfl)
theorem dL_law_186 : decode cL_law 186 = .ok (.iaload, 1) := dk_46 (dk_at dksL_law_3 18 rfl rfl)
theorem dL_law_187 : decode cL_law 187 = .ok (.ifCond .eq 7, 3) := dk_153 0 7 (dk_at dksL_law_3 19 rfl rfl)
theorem dL_law_190 : decode cL_law 190 = .ok (.iconst 1, 1) := dk_4 (dk_at dksL_law_3 22 rfl rfl)
theorem dL_law_191 : decode cL_law 191 = .ok (.goto 4, 3) := dk_167 0 4 (dk_at dksL_law_4 0 rfl rfl)
theorem dL_law_194 : decode cL_law 194 = .ok (.iconst 0, 1) := dk_3 (dk_at dksL_law_4 3 rfl rfl)
theorem dL_law_195 : decode cL_law 195 = .ok (.aload_n 3, 1) := dk_45 (dk_at dksL_law_4 4 rfl rfl)
theorem dL_law_196 : decode cL_law 196 = .ok (.invokestatic 109, 3) := dk_184 0 109 (dk_at dksL_law_4 5 rfl rfl)
theorem dL_law_199 : decode cL_law 199 = .ok (.istore 6, 2) := dk_54 6 (dk_at dksL_law_4 8 rfl rfl)
theorem dL_law_201 : decode cL_law 201 = .ok (.aload_n 2, 1) := dk_44 (dk_at dksL_law_4 10 rfl rfl)
theorem dL_law_202 : decode cL_law 202 = .ok (.aload_n 0, 1) := dk_42 (dk_at dksL_law_4 11 rfl rfl)
theorem dL_law_203 : decode cL_law 203 = .ok (.iload 5, 2) := dk_21 5 (dk_at dksL_law_4 12 rfl rfl)
theorem dL_law_205 : decode cL_law 205 = .ok (.iconst 1, 1) := dk_4 (dk_at dksL_law_4 14 rfl rfl)
theorem dL_law_206 : decode cL_law 206 = .ok (.iadd, 1) := dk_96 (dk_at dksL_law_4 15 rfl rfl)
theorem dL_law_207 : decode cL_law 207 = .ok (.iaload, 1) := dk_46 (dk_at dksL_law_4 16 rfl rfl)
theorem dL_law_208 : decode cL_law 208 = .ok (.aload_n 0, 1) := dk_42 (dk_at dksL_law_4 17 rfl rfl)
theorem dL_law_209 : decode cL_law 209 = .ok (.iload 5, 2) := dk_21 5 (dk_at dksL_law_4 18 rfl rfl)
theorem dL_law_211 : decode cL_law 211 = .ok (.iconst 2, 1) := dk_5 (dk_at dksL_law_4 20 rfl rfl)
theorem dL_law_212 : decode cL_law 212 = .ok (.iadd, 1) := dk_96 (dk_at dksL_law_4 21 rfl rfl)
theorem dL_law_213 : decode cL_law 213 = .ok (.iaload, 1) := dk_46 (dk_at dksL_law_4 22 rfl rfl)
theorem dL_law_214 : decode cL_law 214 = .ok (.aload_n 0, 1) := dk_42 (dk_at dksL_law_4 23 rfl rfl)
theorem dL_law_215 : decode cL_law 215 = .ok (.iload 5, 2) := dk_21 5 (dk_at dksL_law_5 0 rfl rfl)
theorem dL_law_217 : decode cL_law 217 = .ok (.iconst 3, 1) := dk_6 (dk_at dksL_law_5 2 rfl rfl)
theorem dL_law_218 : decode cL_law 218 = .ok (.iadd, 1) := dk_96 (dk_at dksL_law_5 3 rfl rfl)
theorem dL_law_219 : decode cL_law 219 = .ok (.iaload, 1) := dk_46 (dk_at dksL_law_5 4 rfl rfl)
theorem dL_law_220 : decode cL_law 220 = .ok (.ifCond .eq 7, 3) := dk_153 0 7 (dk_at dksL_law_5 5 rfl rfl)
theorem dL_law_223 : decode cL_law 223 = .ok (.iconst 1, 1) := dk_4 (dk_at dksL_law_5 8 rfl rfl)
theorem dL_law_224 : decode cL_law 224 = .ok (.goto 4, 3) := dk_167 0 4 (dk_at dksL_law_5 9 rfl rfl)
theorem dL_law_227 : decode cL_law 227 = .ok (.iconst 0, 1) := dk_3 (dk_at dksL_law_5 12 rfl rfl)
theorem dL_law_228 : decode cL_law 228 = .ok (.invokevirtual 114, 3) := dk_182 0 114 (dk_at dksL_law_5 13 rfl rfl)
theorem dL_law_231 : decode cL_law 231 = .ok (.istore 7, 2) := dk_54 7 (dk_at dksL_law_5 16 rfl rfl)
theorem dL_law_233 : decode cL_law 233 = .ok (.aload_n 2, 1) := dk_44 (dk_at dksL_law_5 18 rfl rfl)
theorem dL_law_234 : decode cL_law 234 = .ok (.invokevirtual 115, 3) := dk_182 0 115 (dk_at dksL_law_5 19 rfl rfl)
theorem dL_law_237 : decode cL_law 237 = .ok (.iload 6, 2) := dk_21 6 (dk_at dksL_law_5 22 rfl rfl)
theorem dL_law_239 : decode cL_law 239 = .ok (.if_icmp .eq 5, 3) := dk_159 0 5 (dk_at dksL_law_6 0 rfl rfl)
theorem dL_law_242 : decode cL_law 242 = .ok (.iconst 0, 1) := dk_3 (dk_at dksL_law_6 3 rfl rfl)
theorem dL_law_243 : decode cL_law 243 = .ok (.ireturn, 1) := dk_172 (dk_at dksL_law_6 4 rfl rfl)
theorem dL_law_244 : decode cL_law 244 = .ok (.iload 6, 2) := dk_21 6 (dk_at dksL_law_6 5 rfl rfl)
theorem dL_law_246 : decode cL_law 246 = .ok (.ifCond .ne 22, 3) := dk_154 0 22 (dk_at dksL_law_6 7 rfl rfl)
theorem dL_law_249 : decode cL_law 249 = .ok (.aload_n 3, 1) := dk_45 (dk_at dksL_law_6 10 rfl rfl)
theorem dL_law_250 : decode cL_law 250 = .ok (.iconst 0, 1) := dk_3 (dk_at dksL_law_6 11 rfl rfl)
theorem dL_law_251 : decode cL_law 251 = .ok (.laload, 1) := dk_47 (dk_at dksL_law_6 12 rfl rfl)
theorem dL_law_252 : decode cL_law 252 = .ok (.iload 7, 2) := dk_21 7 (dk_at dksL_law_6 13 rfl rfl)
theorem dL_law_254 : decode cL_law 254 = .ok (.ifCond .eq 7, 3) := dk_153 0 7 (dk_at dksL_law_6 15 rfl rfl)
theorem dL_law_257 : decode cL_law 257 = .ok (.lconst 1, 1) := dk_10 (dk_at dksL_law_6 18 rfl rfl)
theorem dL_law_258 : decode cL_law 258 = .ok (.goto 4, 3) := dk_167 0 4 (dk_at dksL_law_6 19 rfl rfl)
theorem dL_law_261 : decode cL_law 261 = .ok (.lconst 0, 1) := dk_9 (dk_at dksL_law_6 22 rfl rfl)
theorem dL_law_262 : decode cL_law 262 = .ok (.lcmp, 1) := dk_148 (dk_at dksL_law_6 23 rfl rfl)
theorem dL_law_263 : decode cL_law 263 = .ok (.ifCond .eq 5, 3) := dk_153 0 5 (dk_at dksL_law_7 0 rfl rfl)
theorem dL_law_266 : decode cL_law 266 = .ok (.iconst 0, 1) := dk_3 (dk_at dksL_law_7 3 rfl rfl)
theorem dL_law_267 : decode cL_law 267 = .ok (.ireturn, 1) := dk_172 (dk_at dksL_law_7 4 rfl rfl)
theorem dL_law_268 : decode cL_law 268 = .ok (.goto 1556, 3) := dk_167 6 20 (dk_at dksL_law_7 5 rfl rfl)
theorem dL_law_271 : decode cL_law 271 = .ok (.aload_n 1, 1) := dk_43 (dk_at dksL_law_7 8 rfl rfl)
theorem dL_law_272 : decode cL_law 272 = .ok (.aload_n 0, 1) := dk_42 (dk_at dksL_law_7 9 rfl rfl)
theorem dL_law_273 : decode cL_law 273 = .ok (.iload 5, 2) := dk_21 5 (dk_at dksL_law_7 10 rfl rfl)
theorem dL_law_275 : decode cL_law 275 = .ok (.iconst 1, 1) := dk_4 (dk_at dksL_law_7 12 rfl rfl)
theorem dL_law_276 : decode cL_law 276 = .ok (.iadd, 1) := dk_96 (dk_at dksL_law_7 13 rfl rfl)
theorem dL_law_277 : decode cL_law 277 = .ok (.iaload, 1) := dk_46 (dk_at dksL_law_7 14 rfl rfl)
theorem dL_law_278 : decode cL_law 278 = .ok (.aload_n 0, 1) := dk_42 (dk_at dksL_law_7 15 rfl rfl)
theorem dL_law_279 : decode cL_law 279 = .ok (.iload 5, 2) := dk_21 5 (dk_at dksL_law_7 16 rfl rfl)
theorem dL_law_281 : decode cL_law 281 = .ok (.iconst 2, 1) := dk_5 (dk_at dksL_law_7 18 rfl rfl)
theorem dL_law_282 : decode cL_law 282 = .ok (.iadd, 1) := dk_96 (dk_at dksL_law_7 19 rfl rfl)
theorem dL_law_283 : decode cL_law 283 = .ok (.iaload, 1) := dk_46 (dk_at dksL_law_7 20 rfl rfl)
theorem dL_law_284 : decode cL_law 284 = .ok (.aload_n 3, 1) := dk_45 (dk_at dksL_law_7 21 rfl rfl)
theorem dL_law_285 : decode cL_law 285 = .ok (.invokestatic 118, 3) := dk_184 0 118 (dk_at dksL_law_8 0 rfl rfl)
theorem dL_law_288 : decode cL_law 288 = .ok (.istore 6, 2) := dk_54 6 (dk_at dksL_law_8 3 rfl rfl)
theorem dL_law_290 : decode cL_law 290 = .ok (.aload_n 2, 1) := dk_44 (dk_at dksL_law_8 5 rfl rfl)
theorem dL_law_291 : decode cL_law 291 = .ok (.aload_n 0, 1) := dk_42 (dk_at dksL_law_8 6 rfl rfl)
theorem dL_law_292 : decode cL_law 292 = .ok (.iload 5, 2) := dk_21 5 (dk_at dksL_law_8 7 rfl rfl)
theorem dL_law_294 : decode cL_law 294 = .ok (.iconst 1, 1) := dk_4 (dk_at dksL_law_8 9 rfl rfl)
theorem dL_law_295 : decode cL_law 295 = .ok (.iadd, 1) := dk_96 (dk_at dksL_law_8 10 rfl rfl)
theorem dL_law_296 : decode cL_law 296 = .ok (.iaload, 1) := dk_46 (dk_at dksL_law_8 11 rfl rfl)
theorem dL_law_297 : decode cL_law 297 = .ok (.aload_n 0, 1) := dk_42 (dk_at dksL_law_8 12 rfl rfl)
theorem dL_law_298 : decode cL_law 298 = .ok (.iload 5, 2) := dk_21 5 (dk_at dksL_law_8 13 rfl rfl)
theorem dL_law_300 : decode cL_law 300 = .ok (.iconst 2, 1) := dk_5 (dk_at dksL_law_8 15 rfl rfl)
theorem dL_law_301 : decode cL_law 301 = .ok (.iadd, 1) := dk_96 (dk_at dksL_law_8 16 rfl rfl)
theorem dL_law_302 : decode cL_law 302 = .ok (.iaload, 1) := dk_46 (dk_at dksL_law_8 17 rfl rfl)
theorem dL_law_303 : decode cL_law 303 = .ok (.invokevirtual 121, 3) := dk_182 0 121 (dk_at dksL_law_8 18 rfl rfl)
theorem dL_law_306 : decode cL_law 306 = .ok (.istore 7, 2) := dk_54 7 (dk_at dksL_law_8 21 rfl rfl)
theorem dL_law_308 : decode cL_law 308 = .ok (.aload_n 2, 1) := dk_44 (dk_at dksL_law_8 23 rfl rfl)
theorem dL_law_309 : decode cL_law 309 = .ok (.invokevirtual 115, 3) := dk_182 0 115 (dk_at dksL_law_9 0 rfl rfl)
theorem dL_law_312 : decode cL_law 312 = .ok (.iload 6, 2) := dk_21 6 (dk_at dksL_law_9 3 rfl rfl)
theorem dL_law_314 : decode cL_law 314 = .ok (.if_icmp .eq 5, 3) := dk_159 0 5 (dk_at dksL_law_9 5 rfl rfl)
theorem dL_law_317 : decode cL_law 317 = .ok (.iconst 0, 1) := dk_3 (dk_at dksL_law_9 8 rfl rfl)
theorem dL_law_318 : decode cL_law 318 = .ok (.ireturn, 1) := dk_172 (dk_at dksL_law_9 9 rfl rfl)
theorem dL_law_319 : decode cL_law 319 = .ok (.iload 6, 2) := dk_21 6 (dk_at dksL_law_9 10 rfl rfl)
theorem dL_law_321 : decode cL_law 321 = .ok (.ifCond .ne 15, 3) := dk_154 0 15 (dk_at dksL_law_9 12 rfl rfl)
theorem dL_law_324 : decode cL_law 324 = .ok (.aload_n 3, 1) := dk_45 (dk_at dksL_law_9 15 rfl rfl)
theorem dL_law_325 : decode cL_law 325 = .ok (.iconst 0, 1) := dk_3 (dk_at dksL_law_9 16 rfl rfl)
theorem dL_law_326 : decode cL_law 326 = .ok (.laload, 1) := dk_47 (dk_at dksL_law_9 17 rfl rfl)
theorem dL_law_327 : decode cL_law 327 = .ok (.iload 7, 2) := dk_21 7 (dk_at dksL_law_9 18 rfl rfl)
theorem dL_law_329 : decode cL_law 329 = .ok (.i2l, 1) := dk_133 (dk_at dksL_law_9 20 rfl rfl)
theorem dL_law_330 : decode cL_law 330 = .ok (.lcmp, 1) := dk_148 (dk_at dksL_law_9 21 rfl rfl)
theorem dL_law_331 : decode cL_law 331 = .ok (.ifCond .eq 5, 3) := dk_153 0 5 (dk_at dksL_law_10 0 rfl rfl)
theorem dL_law_334 : decode cL_law 334 = .ok (.iconst 0, 1) := dk_3 (dk_at dksL_law_10 3 rfl rfl)
theorem dL_law_335 : decode cL_law 335 = .ok (.ireturn, 1) := dk_172 (dk_at dksL_law_10 4 rfl rfl)
theorem dL_law_336 : decode cL_law 336 = .ok (.goto 1488, 3) := dk_167 5 208 (dk_at dksL_law_10 5 rfl rfl)
theorem dL_law_339 : decode cL_law 339 = .ok (.aload_n 1, 1) := dk_43 (dk_at dksL_law_10 8 rfl rfl)
theorem dL_law_340 : decode cL_law 340 = .ok (.aload_n 0, 1) := dk_42 (dk_at dksL_law_10 9 rfl rfl)
theorem dL_law_341 : decode cL_law 341 = .ok (.iload 5, 2) := dk_21 5 (dk_at dksL_law_10 10 rfl rfl)
theorem dL_law_343 : decode cL_law 343 = .ok (.iconst 1, 1) := dk_4 (dk_at dksL_law_10 12 rfl rfl)
theorem dL_law_344 : decode cL_law 344 = .ok (.iadd, 1) := dk_96 (dk_at dksL_law_10 13 rfl rfl)
theorem dL_law_345 : decode cL_law 345 = .ok (.iaload, 1) := dk_46 (dk_at dksL_law_10 14 rfl rfl)
theorem dL_law_346 : decode cL_law 346 = .ok (.aload_n 0, 1) := dk_42 (dk_at dksL_law_10 15 rfl rfl)
theorem dL_law_347 : decode cL_law 347 = .ok (.iload 5, 2) := dk_21 5 (dk_at dksL_law_10 16 rfl rfl)
theorem dL_law_349 : decode cL_law 349 = .ok (.iconst 2, 1) := dk_5 (dk_at dksL_law_10 18 rfl rfl)
theorem dL_law_350 : decode cL_law 350 = .ok (.iadd, 1) := dk_96 (dk_at dksL_law_10 19 rfl rfl)
theorem dL_law_351 : decode cL_law 351 = .ok (.iaload, 1) := dk_46 (dk_at dksL_law_10 20 rfl rfl)
theorem dL_law_352 : decode cL_law 352 = .ok (.aload_n 3, 1) := dk_45 (dk_at dksL_law_10 21 rfl rfl)
theorem dL_law_353 : decode cL_law 353 = .ok (.invokestatic 122, 3) := dk_184 0 122 (dk_at dksL_law_11 0 rfl rfl)
theorem dL_law_356 : decode cL_law 356 = .ok (.istore 6, 2) := dk_54 6 (dk_at dksL_law_11 3 rfl rfl)
theorem dL_law_358 : decode cL_law 358 = .ok (.aload_n 2, 1) := dk_44 (dk_at dksL_law_11 5 rfl rfl)
theorem dL_law_359 : decode cL_law 359 = .ok (.aload_n 0, 1) := dk_42 (dk_at dksL_law_11 6 rfl rfl)
theorem dL_law_360 : decode cL_law 360 = .ok (.iload 5, 2) := dk_21 5 (dk_at dksL_law_11 7 rfl rfl)
theorem dL_law_362 : decode cL_law 362 = .ok (.iconst 1, 1) := dk_4 (dk_at dksL_law_11 9 rfl rfl)
theorem dL_law_363 : decode cL_law 363 = .ok (.iadd, 1) := dk_96 (dk_at dksL_law_11 10 rfl rfl)
theorem dL_law_364 : decode cL_law 364 = .ok (.iaload, 1) := dk_46 (dk_at dksL_law_11 11 rfl rfl)
theorem dL_law_365 : decode cL_law 365 = .ok (.aload_n 0, 1) := dk_42 (dk_at dksL_law_11 12 rfl rfl)
theorem dL_law_366 : decode cL_law 366 = .ok (.iload 5, 2) := dk_21 5 (dk_at dksL_law_11 13 rfl rfl)
theorem dL_law_368 : decode cL_law 368 = .ok (.iconst 2, 1) := dk_5 (dk_at dksL_law_11 15 rfl rfl)
theorem dL_law_369 : decode cL_law 369 = .ok (.iadd, 1) := dk_96 (dk_at dksL_law_11 16 rfl rfl)
theorem dL_law_370 : decode cL_law 370 = .ok (.iaload, 1) := dk_46 (dk_at dksL_law_11 17 rfl rfl)
theorem dL_law_371 : decode cL_law 371 = .ok (.invokevirtual 124, 3) := dk_182 0 124 (dk_at dksL_law_11 18 rfl rfl)
theorem dL_law_374 : decode cL_law 374 = .ok (.istore 7, 2) := dk_54 7 (dk_at dksL_law_11 21 rfl rfl)
theorem dL_law_376 : decode cL_law 376 = .ok (.aload_n 2, 1) := dk_44 (dk_at dksL_law_11 23 rfl rfl)
theorem dL_law_377 : decode cL_law 377 = .ok (.invokevirtual 115, 3) := dk_182 0 115 (dk_at dksL_law_12 0 rfl rfl)
theorem dL_law_380 : decode cL_law 380 = .ok (.iload 6, 2) := dk_21 6 (dk_at dksL_law_12 3 rfl rfl)
theorem dL_law_382 : decode cL_law 382 = .ok (.if_icmp .eq 5, 3) := dk_159 0 5 (dk_at dksL_law_12 5 rfl rfl)
theorem dL_law_385 : decode cL_law 385 = .ok (.iconst 0, 1) := dk_3 (dk_at dksL_law_12 8 rfl rfl)
theorem dL_law_386 : decode cL_law 386 = .ok (.ireturn, 1) := dk_172 (dk_at dksL_law_12 9 rfl rfl)
theorem dL_law_387 : decode cL_law 387 = .ok (.iload 6, 2) := dk_21 6 (dk_at dksL_law_12 10 rfl rfl)
theorem dL_law_389 : decode cL_law 389 = .ok (.ifCond .ne 15, 3) := dk_154 0 15 (dk_at dksL_law_12 12 rfl rfl)
theorem dL_law_392 : decode cL_law 392 = .ok (.aload_n 3, 1) := dk_45 (dk_at dksL_law_12 15 rfl rfl)
theorem dL_law_393 : decode cL_law 393 = .ok (.iconst 0, 1) := dk_3 (dk_at dksL_law_12 16 rfl rfl)
theorem dL_law_394 : decode cL_law 394 = .ok (.laload, 1) := dk_47 (dk_at dksL_law_12 17 rfl rfl)
theorem dL_law_395 : decode cL_law 395 = .ok (.iload 7, 2) := dk_21 7 (dk_at dksL_law_12 18 rfl rfl)
theorem dL_law_397 : decode cL_law 397 = .ok (.i2l, 1) := dk_133 (dk_at dksL_law_12 20 rfl rfl)
theorem dL_law_398 : decode cL_law 398 = .ok (.lcmp, 1) := dk_148 (dk_at dksL_law_12 21 rfl rfl)
theorem dL_law_399 : decode cL_law 399 = .ok (.ifCond .eq 5, 3) := dk_153 0 5 (dk_at dksL_law_13 0 rfl rfl)
theorem dL_law_402 : decode cL_law 402 = .ok (.iconst 0, 1) := dk_3 (dk_at dksL_law_13 3 rfl rfl)
theorem dL_law_403 : decode cL_law 403 = .ok (.ireturn, 1) := dk_172 (dk_at dksL_law_13 4 rfl rfl)
theorem dL_law_404 : decode cL_law 404 = .ok (.goto 1420, 3) := dk_167 5 140 (dk_at dksL_law_13 5 rfl rfl)
theorem dL_law_407 : decode cL_law 407 = .ok (.aload_n 1, 1) := dk_43 (dk_at dksL_law_13 8 rfl rfl)
theorem dL_law_408 : decode cL_law 408 = .ok (.aload_n 0, 1) := dk_42 (dk_at dksL_law_13 9 rfl rfl)
theorem dL_law_409 : decode cL_law 409 = .ok (.iload 5, 2) := dk_21 5 (dk_at dksL_law_13 10 rfl rfl)
theorem dL_law_411 : decode cL_law 411 = .ok (.iconst 1, 1) := dk_4 (dk_at dksL_law_13 12 rfl rfl)
theorem dL_law_412 : decode cL_law 412 = .ok (.iadd, 1) := dk_96 (dk_at dksL_law_13 13 rfl rfl)
theorem dL_law_413 : decode cL_law 413 = .ok (.iaload, 1) := dk_46 (dk_at dksL_law_13 14 rfl rfl)
theorem dL_law_414 : decode cL_law 414 = .ok (.aload_n 3, 1) := dk_45 (dk_at dksL_law_13 15 rfl rfl)
theorem dL_law_415 : decode cL_law 415 = .ok (.invokestatic 125, 3) := dk_184 0 125 (dk_at dksL_law_13 16 rfl rfl)
theorem dL_law_418 : decode cL_law 418 = .ok (.istore 6, 2) := dk_54 6 (dk_at dksL_law_13 19 rfl rfl)
theorem dL_law_420 : decode cL_law 420 = .ok (.aload_n 2, 1) := dk_44 (dk_at dksL_law_13 21 rfl rfl)
theorem dL_law_421 : decode cL_law 421 = .ok (.aload_n 0, 1) := dk_42 (dk_at dksL_law_13 22 rfl rfl)
theorem dL_law_422 : decode cL_law 422 = .ok (.iload 5, 2) := dk_21 5 (dk_at dksL_law_14 0 rfl rfl)
theorem dL_law_424 : decode cL_law 424 = .ok (.iconst 1, 1) := dk_4 (dk_at dksL_law_14 2 rfl rfl)
theorem dL_law_425 : decode cL_law 425 = .ok (.iadd, 1) := dk_96 (dk_at dksL_law_14 3 rfl rfl)
theorem dL_law_426 : decode cL_law 426 = .ok (.iaload, 1) := dk_46 (dk_at dksL_law_14 4 rfl rfl)
theorem dL_law_427 : decode cL_law 427 = .ok (.invokevirtual 128, 3) := dk_182 0 128 (dk_at dksL_law_14 5 rfl rfl)
theorem dL_law_430 : decode cL_law 430 = .ok (.istore 7, 2) := dk_54 7 (dk_at dksL_law_14 8 rfl rfl)
theorem dL_law_432 : decode cL_law 432 = .ok (.aload_n 2, 1) := dk_44 (dk_at dksL_law_14 10 rfl rfl)
theorem dL_law_433 : decode cL_law 433 = .ok (.invokevirtual 115, 3) := dk_182 0 115 (dk_at dksL_law_14 11 rfl rfl)
theorem dL_law_436 : decode cL_law 436 = .ok (.iload 6, 2) := dk_21 6 (dk_at dksL_law_14 14 rfl rfl)
theorem dL_law_438 : decode cL_law 438 = .ok (.if_icmp .eq 5, 3) := dk_159 0 5 (dk_at dksL_law_14 16 rfl rfl)
theorem dL_law_441 : decode cL_law 441 = .ok (.iconst 0, 1) := dk_3 (dk_at dksL_law_14 19 rfl rfl)
theorem dL_law_442 : decode cL_law 442 = .ok (.ireturn, 1) := dk_172 (dk_at dksL_law_14 20 rfl rfl)
theorem dL_law_443 : decode cL_law 443 = .ok (.iload 6, 2) := dk_21 6 (dk_at dksL_law_14 21 rfl rfl)
theorem dL_law_445 : decode cL_law 445 = .ok (.ifCond .ne 15, 3) := dk_154 0 15 (dk_at dksL_law_15 0 rfl rfl)
theorem dL_law_448 : decode cL_law 448 = .ok (.aload_n 3, 1) := dk_45 (dk_at dksL_law_15 3 rfl rfl)
theorem dL_law_449 : decode cL_law 449 = .ok (.iconst 0, 1) := dk_3 (dk_at dksL_law_15 4 rfl rfl)
theorem dL_law_450 : decode cL_law 450 = .ok (.laload, 1) := dk_47 (dk_at dksL_law_15 5 rfl rfl)
theorem dL_law_451 : decode cL_law 451 = .ok (.iload 7, 2) := dk_21 7 (dk_at dksL_law_15 6 rfl rfl)
theorem dL_law_453 : decode cL_law 453 = .ok (.i2l, 1) := dk_133 (dk_at dksL_law_15 8 rfl rfl)
theorem dL_law_454 : decode cL_law 454 = .ok (.lcmp, 1) := dk_148 (dk_at dksL_law_15 9 rfl rfl)
theorem dL_law_455 : decode cL_law 455 = .ok (.ifCond .eq 5, 3) := dk_153 0 5 (dk_at dksL_law_15 10 rfl rfl)
theorem dL_law_458 : decode cL_law 458 = .ok (.iconst 0, 1) := dk_3 (dk_at dksL_law_15 13 rfl rfl)
theorem dL_law_459 : decode cL_law 459 = .ok (.ireturn, 1) := dk_172 (dk_at dksL_law_15 14 rfl rfl)
theorem dL_law_460 : decode cL_law 460 = .ok (.goto 1364, 3) := dk_167 5 84 (dk_at dksL_law_15 15 rfl rfl)
theorem dL_law_463 : decode cL_law 463 = .ok (.aload_n 1, 1) := dk_43 (dk_at dksL_law_15 18 rfl rfl)
theorem dL_law_464 : decode cL_law 464 = .ok (.aload_n 0, 1) := dk_42 (dk_at dksL_law_15 19 rfl rfl)
theorem dL_law_465 : decode cL_law 465 = .ok (.iload 5, 2) := dk_21 5 (dk_at dksL_law_15 20 rfl rfl)
theorem dL_law_467 : decode cL_law 467 = .ok (.iconst 1, 1) := dk_4 (dk_at dksL_law_15 22 rfl rfl)
theorem dL_law_468 : decode cL_law 468 = .ok (.iadd, 1) := dk_96 (dk_at dksL_law_15 23 rfl rfl)
theorem dL_law_469 : decode cL_law 469 = .ok (.iaload, 1) := dk_46 (dk_at dksL_law_16 0 rfl rfl)
theorem dL_law_470 : decode cL_law 470 = .ok (.aload_n 0, 1) := dk_42 (dk_at dksL_law_16 1 rfl rfl)
theorem dL_law_471 : decode cL_law 471 = .ok (.iload 5, 2) := dk_21 5 (dk_at dksL_law_16 2 rfl rfl)
theorem dL_law_473 : decode cL_law 473 = .ok (.iconst 2, 1) := dk_5 (dk_at dksL_law_16 4 rfl rfl)
theorem dL_law_474 : decode cL_law 474 = .ok (.iadd, 1) := dk_96 (dk_at dksL_law_16 5 rfl rfl)
theorem dL_law_475 : decode cL_law 475 = .ok (.iaload, 1) := dk_46 (dk_at dksL_law_16 6 rfl rfl)
theorem dL_law_476 : decode cL_law 476 = .ok (.aload_n 3, 1) := dk_45 (dk_at dksL_law_16 7 rfl rfl)
theorem dL_law_477 : decode cL_law 477 = .ok (.invokestatic 129, 3) := dk_184 0 129 (dk_at dksL_law_16 8 rfl rfl)
theorem dL_law_480 : decode cL_law 480 = .ok (.istore 6, 2) := dk_54 6 (dk_at dksL_law_16 11 rfl rfl)
theorem dL_law_482 : decode cL_law 482 = .ok (.aload_n 2, 1) := dk_44 (dk_at dksL_law_16 13 rfl rfl)
theorem dL_law_483 : decode cL_law 483 = .ok (.aload_n 0, 1) := dk_42 (dk_at dksL_law_16 14 rfl rfl)
theorem dL_law_484 : decode cL_law 484 = .ok (.iload 5, 2) := dk_21 5 (dk_at dksL_law_16 15 rfl rfl)
theorem dL_law_486 : decode cL_law 486 = .ok (.iconst 1, 1) := dk_4 (dk_at dksL_law_16 17 rfl rfl)
theorem dL_law_487 : decode cL_law 487 = .ok (.iadd, 1) := dk_96 (dk_at dksL_law_16 18 rfl rfl)
theorem dL_law_488 : decode cL_law 488 = .ok (.iaload, 1) := dk_46 (dk_at dksL_law_16 19 rfl rfl)
theorem dL_law_489 : decode cL_law 489 = .ok (.aload_n 0, 1) := dk_42 (dk_at dksL_law_16 20 rfl rfl)
theorem dL_law_490 : decode cL_law 490 = .ok (.iload 5, 2) := dk_21 5 (dk_at dksL_law_16 21 rfl rfl)
theorem dL_law_492 : decode cL_law 492 = .ok (.iconst 2, 1) := dk_5 (dk_at dksL_law_16 23 rfl rfl)
theorem dL_law_493 : decode cL_law 493 = .ok (.iadd, 1) := dk_96 (dk_at dksL_law_17 0 rfl rfl)
theorem dL_law_494 : decode cL_law 494 = .ok (.iaload, 1) := dk_46 (dk_at dksL_law_17 1 rfl rfl)
theorem dL_law_495 : decode cL_law 495 = .ok (.invokevirtual 131, 3) := dk_182 0 131 (dk_at dksL_law_17 2 rfl rfl)
theorem dL_law_498 : decode cL_law 498 = .ok (.istore 7, 2) := dk_54 7 (dk_at dksL_law_17 5 rfl rfl)
theorem dL_law_500 : decode cL_law 500 = .ok (.aload_n 2, 1) := dk_44 (dk_at dksL_law_17 7 rfl rfl)
theorem dL_law_501 : decode cL_law 501 = .ok (.invokevirtual 115, 3) := dk_182 0 115 (dk_at dksL_law_17 8 rfl rfl)
theorem dL_law_504 : decode cL_law 504 = .ok (.iload 6, 2) := dk_21 6 (dk_at dksL_law_17 11 rfl rfl)
theorem dL_law_506 : decode cL_law 506 = .ok (.if_icmp .eq 5, 3) := dk_159 0 5 (dk_at dksL_law_17 13 rfl rfl)
theorem dL_law_509 : decode cL_law 509 = .ok (.iconst 0, 1) := dk_3 (dk_at dksL_law_17 16 rfl rfl)
theorem dL_law_510 : decode cL_law 510 = .ok (.ireturn, 1) := dk_172 (dk_at dksL_law_17 17 rfl rfl)
theorem dL_law_511 : decode cL_law 511 = .ok (.iload 6, 2) := dk_21 6 (dk_at dksL_law_17 18 rfl rfl)
theorem dL_law_513 : decode cL_law 513 = .ok (.ifCond .ne 15, 3) := dk_154 0 15 (dk_at dksL_law_17 20 rfl rfl)
theorem dL_law_516 : decode cL_law 516 = .ok (.aload_n 3, 1) := dk_45 (dk_at dksL_law_17 23 rfl rfl)
theorem dL_law_517 : decode cL_law 517 = .ok (.iconst 0, 1) := dk_3 (dk_at dksL_law_18 0 rfl rfl)
theorem dL_law_518 : decode cL_law 518 = .ok (.laload, 1) := dk_47 (dk_at dksL_law_18 1 rfl rfl)
theorem dL_law_519 : decode cL_law 519 = .ok (.iload 7, 2) := dk_21 7 (dk_at dksL_law_18 2 rfl rfl)
theorem dL_law_521 : decode cL_law 521 = .ok (.i2l, 1) := dk_133 (dk_at dksL_law_18 4 rfl rfl)
theorem dL_law_522 : decode cL_law 522 = .ok (.lcmp, 1) := dk_148 (dk_at dksL_law_18 5 rfl rfl)
theorem dL_law_523 : decode cL_law 523 = .ok (.ifCond .eq 5, 3) := dk_153 0 5 (dk_at dksL_law_18 6 rfl rfl)
theorem dL_law_526 : decode cL_law 526 = .ok (.iconst 0, 1) := dk_3 (dk_at dksL_law_18 9 rfl rfl)
theorem dL_law_527 : decode cL_law 527 = .ok (.ireturn, 1) := dk_172 (dk_at dksL_law_18 10 rfl rfl)
theorem dL_law_528 : decode cL_law 528 = .ok (.goto 1296, 3) := dk_167 5 16 (dk_at dksL_law_18 11 rfl rfl)
theorem dL_law_531 : decode cL_law 531 = .ok (.aload_n 1, 1) := dk_43 (dk_at dksL_law_18 14 rfl rfl)
theorem dL_law_532 : decode cL_law 532 = .ok (.aload_n 0, 1) := dk_42 (dk_at dksL_law_18 15 rfl rfl)
theorem dL_law_533 : decode cL_law 533 = .ok (.iload 5, 2) := dk_21 5 (dk_at dksL_law_18 16 rfl rfl)
theorem dL_law_535 : decode cL_law 535 = .ok (.iconst 1, 1) := dk_4 (dk_at dksL_law_18 18 rfl rfl)
theorem dL_law_536 : decode cL_law 536 = .ok (.iadd, 1) := dk_96 (dk_at dksL_law_18 19 rfl rfl)
theorem dL_law_537 : decode cL_law 537 = .ok (.iaload, 1) := dk_46 (dk_at dksL_law_18 20 rfl rfl)
theorem dL_law_538 : decode cL_law 538 = .ok (.aload_n 0, 1) := dk_42 (dk_at dksL_law_18 21 rfl rfl)
theorem dL_law_539 : decode cL_law 539 = .ok (.iload 5, 2) := dk_21 5 (dk_at dksL_law_18 22 rfl rfl)
theorem dL_law_541 : decode cL_law 541 = .ok (.iconst 2, 1) := dk_5 (dk_at dksL_law_19 0 rfl rfl)
theorem dL_law_542 : decode cL_law 542 = .ok (.iadd, 1) := dk_96 (dk_at dksL_law_19 1 rfl rfl)
theorem dL_law_543 : decode cL_law 543 = .ok (.iaload, 1) := dk_46 (dk_at dksL_law_19 2 rfl rfl)
theorem dL_law_544 : decode cL_law 544 = .ok (.aload_n 3, 1) := dk_45 (dk_at dksL_law_19 3 rfl rfl)
theorem dL_law_545 : decode cL_law 545 = .ok (.invokestatic 132, 3) := dk_184 0 132 (dk_at dksL_law_19 4 rfl rfl)
theorem dL_law_548 : decode cL_law 548 = .ok (.istore 6, 2) := dk_54 6 (dk_at dksL_law_19 7 rfl rfl)
theorem dL_law_550 : decode cL_law 550 = .ok (.aload_n 2, 1) := dk_44 (dk_at dksL_law_19 9 rfl rfl)
theorem dL_law_551 : decode cL_law 551 = .ok (.aload_n 0, 1) := dk_42 (dk_at dksL_law_19 10 rfl rfl)
theorem dL_law_552 : decode cL_law 552 = .ok (.iload 5, 2) := dk_21 5 (dk_at dksL_law_19 11 rfl rfl)
theorem dL_law_554 : decode cL_law 554 = .ok (.iconst 1, 1) := dk_4 (dk_at dksL_law_19 13 rfl rfl)
theorem dL_law_555 : decode cL_law 555 = .ok (.iadd, 1) := dk_96 (dk_at dksL_law_19 14 rfl rfl)
theorem dL_law_556 : decode cL_law 556 = .ok (.iaload, 1) := dk_46 (dk_at dksL_law_19 15 rfl rfl)
theorem dL_law_557 : decode cL_law 557 = .ok (.aload_n 0, 1) := dk_42 (dk_at dksL_law_19 16 rfl rfl)
theorem dL_law_558 : decode cL_law 558 = .ok (.iload 5, 2) := dk_21 5 (dk_at dksL_law_19 17 rfl rfl)
theorem dL_law_560 : decode cL_law 560 = .ok (.iconst 2, 1) := dk_5 (dk_at dksL_law_19 19 rfl rfl)
theorem dL_law_561 : decode cL_law 561 = .ok (.iadd, 1) := dk_96 (dk_at dksL_law_19 20 rfl rfl)
theorem dL_law_562 : decode cL_law 562 = .ok (.iaload, 1) := dk_46 (dk_at dksL_law_19 21 rfl rfl)
theorem dL_law_563 : decode cL_law 563 = .ok (.invokevirtual 134, 3) := dk_182 0 134 (dk_at dksL_law_20 0 rfl rfl)
theorem dL_law_566 : decode cL_law 566 = .ok (.istore 7, 2) := dk_54 7 (dk_at dksL_law_20 3 rfl rfl)
theorem dL_law_568 : decode cL_law 568 = .ok (.aload_n 2, 1) := dk_44 (dk_at dksL_law_20 5 rfl rfl)
theorem dL_law_569 : decode cL_law 569 = .ok (.invokevirtual 115, 3) := dk_182 0 115 (dk_at dksL_law_20 6 rfl rfl)
theorem dL_law_572 : decode cL_law 572 = .ok (.iload 6, 2) := dk_21 6 (dk_at dksL_law_20 9 rfl rfl)
theorem dL_law_574 : decode cL_law 574 = .ok (.if_icmp .eq 5, 3) := dk_159 0 5 (dk_at dksL_law_20 11 rfl rfl)
theorem dL_law_577 : decode cL_law 577 = .ok (.iconst 0, 1) := dk_3 (dk_at dksL_law_20 14 rfl rfl)
theorem dL_law_578 : decode cL_law 578 = .ok (.ireturn, 1) := dk_172 (dk_at dksL_law_20 15 rfl rfl)
theorem dL_law_579 : decode cL_law 579 = .ok (.iload 6, 2) := dk_21 6 (dk_at dksL_law_20 16 rfl rfl)
theorem dL_law_581 : decode cL_law 581 = .ok (.ifCond .ne 15, 3) := dk_154 0 15 (dk_at dksL_law_20 18 rfl rfl)
theorem dL_law_584 : decode cL_law 584 = .ok (.aload_n 3, 1) := dk_45 (dk_at dksL_law_20 21 rfl rfl)
theorem dL_law_585 : decode cL_law 585 = .ok (.iconst 0, 1) := dk_3 (dk_at dksL_law_20 22 rfl rfl)
theorem dL_law_586 : decode cL_law 586 = .ok (.laload, 1) := dk_47 (dk_at dksL_law_20 23 rfl rfl)
theorem dL_law_587 : decode cL_law 587 = .ok (.iload 7, 2) := dk_21 7 (dk_at dksL_law_21 0 rfl rfl)
theorem dL_law_589 : decode cL_law 589 = .ok (.i2l, 1) := dk_133 (dk_at dksL_law_21 2 rfl rfl)
theorem dL_law_590 : decode cL_law 590 = .ok (.lcmp, 1) := dk_148 (dk_at dksL_law_21 3 rfl rfl)
theorem dL_law_591 : decode cL_law 591 = .ok (.ifCond .eq 5, 3) := dk_153 0 5 (dk_at dksL_law_21 4 rfl rfl)
theorem dL_law_594 : decode cL_law 594 = .ok (.iconst 0, 1) := dk_3 (dk_at dksL_law_21 7 rfl rfl)
theorem dL_law_595 : decode cL_law 595 = .ok (.ireturn, 1) := dk_172 (dk_at dksL_law_21 8 rfl rfl)
theorem dL_law_596 : decode cL_law 596 = .ok (.goto 1228, 3) := dk_167 4 204 (dk_at dksL_law_21 9 rfl rfl)
theorem dL_law_599 : decode cL_law 599 = .ok (.aload_n 1, 1) := dk_43 (dk_at dksL_law_21 12 rfl rfl)
theorem dL_law_600 : decode cL_law 600 = .ok (.aload_n 0, 1) := dk_42 (dk_at dksL_law_21 13 rfl rfl)
theorem dL_law_601 : decode cL_law 601 = .ok (.iload 5, 2) := dk_21 5 (dk_at dksL_law_21 14 rfl rfl)
theorem dL_law_603 : decode cL_law 603 = .ok (.iconst 1, 1) := dk_4 (dk_at dksL_law_21 16 rfl rfl)
theorem dL_law_604 : decode cL_law 604 = .ok (.iadd, 1) := dk_96 (dk_at dksL_law_21 17 rfl rfl)
theorem dL_law_605 : decode cL_law 605 = .ok (.iaload, 1) := dk_46 (dk_at dksL_law_21 18 rfl rfl)
theorem dL_law_606 : decode cL_law 606 = .ok (.aload_n 0, 1) := dk_42 (dk_at dksL_law_21 19 rfl rfl)
theorem dL_law_607 : decode cL_law 607 = .ok (.iload 5, 2) := dk_21 5 (dk_at dksL_law_21 20 rfl rfl)
theorem dL_law_609 : decode cL_law 609 = .ok (.iconst 2, 1) := dk_5 (dk_at dksL_law_21 22 rfl rfl)
theorem dL_law_610 : decode cL_law 610 = .ok (.iadd, 1) := dk_96 (dk_at dksL_law_21 23 rfl rfl)
theorem dL_law_611 : decode cL_law 611 = .ok (.iaload, 1) := dk_46 (dk_at dksL_law_22 0 rfl rfl)
theorem dL_law_612 : decode cL_law 612 = .ok (.aload_n 3, 1) := dk_45 (dk_at dksL_law_22 1 rfl rfl)
theorem dL_law_613 : decode cL_law 613 = .ok (.invokestatic 135, 3) := dk_184 0 135 (dk_at dksL_law_22 2 rfl rfl)
theorem dL_law_616 : decode cL_law 616 = .ok (.istore 6, 2) := dk_54 6 (dk_at dksL_law_22 5 rfl rfl)
theorem dL_law_618 : decode cL_law 618 = .ok (.aload_n 2, 1) := dk_44 (dk_at dksL_law_22 7 rfl rfl)
theorem dL_law_619 : decode cL_law 619 = .ok (.aload_n 0, 1) := dk_42 (dk_at dksL_law_22 8 rfl rfl)
theorem dL_law_620 : decode cL_law 620 = .ok (.iload 5, 2) := dk_21 5 (dk_at dksL_law_22 9 rfl rfl)
theorem dL_law_622 : decode cL_law 622 = .ok (.iconst 1, 1) := dk_4 (dk_at dksL_law_22 11 rfl rfl)
theorem dL_law_623 : decode cL_law 623 = .ok (.iadd, 1) := dk_96 (dk_at dksL_law_22 12 rfl rfl)
theorem dL_law_624 : decode cL_law 624 = .ok (.iaload, 1) := dk_46 (dk_at dksL_law_22 13 rfl rfl)
theorem dL_law_625 : decode cL_law 625 = .ok (.aload_n 0, 1) := dk_42 (dk_at dksL_law_22 14 rfl rfl)
theorem dL_law_626 : decode cL_law 626 = .ok (.iload 5, 2) := dk_21 5 (dk_at dksL_law_22 15 rfl rfl)
theorem dL_law_628 : decode cL_law 628 = .ok (.iconst 2, 1) := dk_5 (dk_at dksL_law_22 17 rfl rfl)
theorem dL_law_629 : decode cL_law 629 = .ok (.iadd, 1) := dk_96 (dk_at dksL_law_22 18 rfl rfl)
theorem dL_law_630 : decode cL_law 630 = .ok (.iaload, 1) := dk_46 (dk_at dksL_law_22 19 rfl rfl)
theorem dL_law_631 : decode cL_law 631 = .ok (.invokevirtual 137, 3) := dk_182 0 137 (dk_at dksL_law_22 20 rfl rfl)
theorem dL_law_634 : decode cL_law 634 = .ok (.istore 7, 2) := dk_54 7 (dk_at dksL_law_23 0 rfl rfl)
theorem dL_law_636 : decode cL_law 636 = .ok (.aload_n 2, 1) := dk_44 (dk_at dksL_law_23 2 rfl rfl)
theorem dL_law_637 : decode cL_law 637 = .ok (.invokevirtual 115, 3) := dk_182 0 115 (dk_at dksL_law_23 3 rfl rfl)
theorem dL_law_640 : decode cL_law 640 = .ok (.iload 6, 2) := dk_21 6 (dk_at dksL_law_23 6 rfl rfl)
theorem dL_law_642 : decode cL_law 642 = .ok (.if_icmp .eq 5, 3) := dk_159 0 5 (dk_at dksL_law_23 8 rfl rfl)
theorem dL_law_645 : decode cL_law 645 = .ok (.iconst 0, 1) := dk_3 (dk_at dksL_law_23 11 rfl rfl)
theorem dL_law_646 : decode cL_law 646 = .ok (.ireturn, 1) := dk_172 (dk_at dksL_law_23 12 rfl rfl)
theorem dL_law_647 : decode cL_law 647 = .ok (.iload 6, 2) := dk_21 6 (dk_at dksL_law_23 13 rfl rfl)
theorem dL_law_649 : decode cL_law 649 = .ok (.ifCond .ne 15, 3) := dk_154 0 15 (dk_at dksL_law_23 15 rfl rfl)
theorem dL_law_652 : decode cL_law 652 = .ok (.aload_n 3, 1) := dk_45 (dk_at dksL_law_23 18 rfl rfl)
theorem dL_law_653 : decode cL_law 653 = .ok (.iconst 0, 1) := dk_3 (dk_at dksL_law_23 19 rfl rfl)
theorem dL_law_654 : decode cL_law 654 = .ok (.laload, 1) := dk_47 (dk_at dksL_law_23 20 rfl rfl)
theorem dL_law_655 : decode cL_law 655 = .ok (.iload 7, 2) := dk_21 7 (dk_at dksL_law_23 21 rfl rfl)
theorem dL_law_657 : decode cL_law 657 = .ok (.i2l, 1) := dk_133 (dk_at dksL_law_23 23 rfl rfl)
theorem dL_law_658 : decode cL_law 658 = .ok (.lcmp, 1) := dk_148 (dk_at dksL_law_24 0 rfl rfl)
theorem dL_law_659 : decode cL_law 659 = .ok (.ifCond .eq 5, 3) := dk_153 0 5 (dk_at dksL_law_24 1 rfl rfl)
theorem dL_law_662 : decode cL_law 662 = .ok (.iconst 0, 1) := dk_3 (dk_at dksL_law_24 4 rfl rfl)
theorem dL_law_663 : decode cL_law 663 = .ok (.ireturn, 1) := dk_172 (dk_at dksL_law_24 5 rfl rfl)
theorem dL_law_664 : decode cL_law 664 = .ok (.goto 1160, 3) := dk_167 4 136 (dk_at dksL_law_24 6 rfl rfl)
theorem dL_law_667 : decode cL_law 667 = .ok (.aload_n 1, 1) := dk_43 (dk_at dksL_law_24 9 rfl rfl)
theorem dL_law_668 : decode cL_law 668 = .ok (.aload_n 0, 1) := dk_42 (dk_at dksL_law_24 10 rfl rfl)
theorem dL_law_669 : decode cL_law 669 = .ok (.iload 5, 2) := dk_21 5 (dk_at dksL_law_24 11 rfl rfl)
theorem dL_law_671 : decode cL_law 671 = .ok (.iconst 1, 1) := dk_4 (dk_at dksL_law_24 13 rfl rfl)
theorem dL_law_672 : decode cL_law 672 = .ok (.iadd, 1) := dk_96 (dk_at dksL_law_24 14 rfl rfl)
theorem dL_law_673 : decode cL_law 673 = .ok (.iaload, 1) := dk_46 (dk_at dksL_law_24 15 rfl rfl)
theorem dL_law_674 : decode cL_law 674 = .ok (.aload_n 0, 1) := dk_42 (dk_at dksL_law_24 16 rfl rfl)
theorem dL_law_675 : decode cL_law 675 = .ok (.iload 5, 2) := dk_21 5 (dk_at dksL_law_24 17 rfl rfl)
theorem dL_law_677 : decode cL_law 677 = .ok (.iconst 2, 1) := dk_5 (dk_at dksL_law_24 19 rfl rfl)
theorem dL_law_678 : decode cL_law 678 = .ok (.iadd, 1) := dk_96 (dk_at dksL_law_24 20 rfl rfl)
theorem dL_law_679 : decode cL_law 679 = .ok (.iaload, 1) := dk_46 (dk_at dksL_law_24 21 rfl rfl)
theorem dL_law_680 : decode cL_law 680 = .ok (.aload_n 0, 1) := dk_42 (dk_at dksL_law_24 22 rfl rfl)
theorem dL_law_681 : decode cL_law 681 = .ok (.iload 5, 2) := dk_21 5 (dk_at dksL_law_25 0 rfl rfl)
theorem dL_law_683 : decode cL_law 683 = .ok (.iconst 3, 1) := dk_6 (dk_at dksL_law_25 2 rfl rfl)
theorem dL_law_684 : decode cL_law 684 = .ok (.iadd, 1) := dk_96 (dk_at dksL_law_25 3 rfl rfl)
theorem dL_law_685 : decode cL_law 685 = .ok (.iaload, 1) := dk_46 (dk_at dksL_law_25 4 rfl rfl)
theorem dL_law_686 : decode cL_law 686 = .ok (.aload_n 0, 1) := dk_42 (dk_at dksL_law_25 5 rfl rfl)
theorem dL_law_687 : decode cL_law 687 = .ok (.iload 5, 2) := dk_21 5 (dk_at dksL_law_25 6 rfl rfl)
theorem dL_law_689 : decode cL_law 689 = .ok (.iconst 4, 1) := dk_7 (dk_at dksL_law_25 8 rfl rfl)
theorem dL_law_690 : decode cL_law 690 = .ok (.iadd, 1) := dk_96 (dk_at dksL_law_25 9 rfl rfl)
theorem dL_law_691 : decode cL_law 691 = .ok (.iaload, 1) := dk_46 (dk_at dksL_law_25 10 rfl rfl)
theorem dL_law_692 : decode cL_law 692 = .ok (.aload_n 0, 1) := dk_42 (dk_at dksL_law_25 11 rfl rfl)
theorem dL_law_693 : decode cL_law 693 = .ok (.iload 5, 2) := dk_21 5 (dk_at dksL_law_25 12 rfl rfl)
theorem dL_law_695 : decode cL_law 695 = .ok (.iconst 5, 1) := dk_8 (dk_at dksL_law_25 14 rfl rfl)
theorem dL_law_696 : decode cL_law 696 = .ok (.iadd, 1) := dk_96 (dk_at dksL_law_25 15 rfl rfl)
theorem dL_law_697 : decode cL_law 697 = .ok (.iaload, 1) := dk_46 (dk_at dksL_law_25 16 rfl rfl)
theorem dL_law_698 : decode cL_law 698 = .ok (.aload_n 0, 1) := dk_42 (dk_at dksL_law_25 17 rfl rfl)
theorem dL_law_699 : decode cL_law 699 = .ok (.iload 5, 2) := dk_21 5 (dk_at dksL_law_25 18 rfl rfl)
theorem dL_law_701 : decode cL_law 701 = .ok (.bipush 6, 2) := dk_16 6 (dk_at dksL_law_25 20 rfl rfl)
theorem dL_law_703 : decode cL_law 703 = .ok (.iadd, 1) := dk_96 (dk_at dksL_law_25 22 rfl rfl)
theorem dL_law_704 : decode cL_law 704 = .ok (.iaload, 1) := dk_46 (dk_at dksL_law_25 23 rfl rfl)
theorem dL_law_705 : decode cL_law 705 = .ok (.aload_n 3, 1) := dk_45 (dk_at dksL_law_26 0 rfl rfl)
theorem dL_law_706 : decode cL_law 706 = .ok (.invokestatic 138, 3) := dk_184 0 138 (dk_at dksL_law_26 1 rfl rfl)
theorem dL_law_709 : decode cL_law 709 = .ok (.istore 6, 2) := dk_54 6 (dk_at dksL_law_26 4 rfl rfl)
theorem dL_law_711 : decode cL_law 711 = .ok (.aload_n 2, 1) := dk_44 (dk_at dksL_law_26 6 rfl rfl)
theorem dL_law_712 : decode cL_law 712 = .ok (.aload_n 0, 1) := dk_42 (dk_at dksL_law_26 7 rfl rfl)
theorem dL_law_713 : decode cL_law 713 = .ok (.iload 5, 2) := dk_21 5 (dk_at dksL_law_26 8 rfl rfl)
theorem dL_law_715 : decode cL_law 715 = .ok (.iconst 1, 1) := dk_4 (dk_at dksL_law_26 10 rfl rfl)
theorem dL_law_716 : decode cL_law 716 = .ok (.iadd, 1) := dk_96 (dk_at dksL_law_26 11 rfl rfl)
theorem dL_law_717 : decode cL_law 717 = .ok (.iaload, 1) := dk_46 (dk_at dksL_law_26 12 rfl rfl)
theorem dL_law_718 : decode cL_law 718 = .ok (.aload_n 0, 1) := dk_42 (dk_at dksL_law_26 13 rfl rfl)
theorem dL_law_719 : decode cL_law 719 = .ok (.iload 5, 2) := dk_21 5 (dk_at dksL_law_26 14 rfl rfl)
theorem dL_law_721 : decode cL_law 721 = .ok (.iconst 2, 1) := dk_5 (dk_at dksL_law_26 16 rfl rfl)
theorem dL_law_722 : decode cL_law 722 = .ok (.iadd, 1) := dk_96 (dk_at dksL_law_26 17 rfl rfl)
theorem dL_law_723 : decode cL_law 723 = .ok (.iaload, 1) := dk_46 (dk_at dksL_law_26 18 rfl rfl)
theorem dL_law_724 : decode cL_law 724 = .ok (.aload_n 0, 1) := dk_42 (dk_at dksL_law_26 19 rfl rfl)
theorem dL_law_725 : decode cL_law 725 = .ok (.iload 5, 2) := dk_21 5 (dk_at dksL_law_26 20 rfl rfl)
theorem dL_law_727 : decode cL_law 727 = .ok (.iconst 3, 1) := dk_6 (dk_at dksL_law_26 22 rfl rfl)
theorem dL_law_728 : decode cL_law 728 = .ok (.iadd, 1) := dk_96 (dk_at dksL_law_26 23 rfl rfl)
theorem dL_law_729 : decode cL_law 729 = .ok (.iaload, 1) := dk_46 (dk_at dksL_law_27 0 rfl rfl)
theorem dL_law_730 : decode cL_law 730 = .ok (.aload_n 0, 1) := dk_42 (dk_at dksL_law_27 1 rfl rfl)
theorem dL_law_731 : decode cL_law 731 = .ok (.iload 5, 2) := dk_21 5 (dk_at dksL_law_27 2 rfl rfl)
theorem dL_law_733 : decode cL_law 733 = .ok (.iconst 4, 1) := dk_7 (dk_at dksL_law_27 4 rfl rfl)
theorem dL_law_734 : decode cL_law 734 = .ok (.iadd, 1) := dk_96 (dk_at dksL_law_27 5 rfl rfl)
theorem dL_law_735 : decode cL_law 735 = .ok (.iaload, 1) := dk_46 (dk_at dksL_law_27 6 rfl rfl)
theorem dL_law_736 : decode cL_law 736 = .ok (.aload_n 0, 1) := dk_42 (dk_at dksL_law_27 7 rfl rfl)
theorem dL_law_737 : decode cL_law 737 = .ok (.iload 5, 2) := dk_21 5 (dk_at dksL_law_27 8 rfl rfl)
theorem dL_law_739 : decode cL_law 739 = .ok (.iconst 5, 1) := dk_8 (dk_at dksL_law_27 10 rfl rfl)
theorem dL_law_740 : decode cL_law 740 = .ok (.iadd, 1) := dk_96 (dk_at dksL_law_27 11 rfl rfl)
theorem dL_law_741 : decode cL_law 741 = .ok (.iaload, 1) := dk_46 (dk_at dksL_law_27 12 rfl rfl)
theorem dL_law_742 : decode cL_law 742 = .ok (.aload_n 0, 1) := dk_42 (dk_at dksL_law_27 13 rfl rfl)
theorem dL_law_743 : decode cL_law 743 = .ok (.iload 5, 2) := dk_21 5 (dk_at dksL_law_27 14 rfl rfl)
theorem dL_law_745 : decode cL_law 745 = .ok (.bipush 6, 2) := dk_16 6 (dk_at dksL_law_27 16 rfl rfl)
theorem dL_law_747 : decode cL_law 747 = .ok (.iadd, 1) := dk_96 (dk_at dksL_law_27 18 rfl rfl)
theorem dL_law_748 : decode cL_law 748 = .ok (.iaload, 1) := dk_46 (dk_at dksL_law_27 19 rfl rfl)
theorem dL_law_749 : decode cL_law 749 = .ok (.invokevirtual 141, 3) := dk_182 0 141 (dk_at dksL_law_27 20 rfl rfl)
theorem dL_law_752 : decode cL_law 752 = .ok (.istore 7, 2) := dk_54 7 (dk_at dksL_law_28 0 rfl rfl)
theorem dL_law_754 : decode cL_law 754 = .ok (.aload_n 2, 1) := dk_44 (dk_at dksL_law_28 2 rfl rfl)
theorem dL_law_755 : decode cL_law 755 = .ok (.invokevirtual 115, 3) := dk_182 0 115 (dk_at dksL_law_28 3 rfl rfl)
theorem dL_law_758 : decode cL_law 758 = .ok (.iload 6, 2) := dk_21 6 (dk_at dksL_law_28 6 rfl rfl)
theorem dL_law_760 : decode cL_law 760 = .ok (.if_icmp .eq 5, 3) := dk_159 0 5 (dk_at dksL_law_28 8 rfl rfl)
theorem dL_law_763 : decode cL_law 763 = .ok (.iconst 0, 1) := dk_3 (dk_at dksL_law_28 11 rfl rfl)
theorem dL_law_764 : decode cL_law 764 = .ok (.ireturn, 1) := dk_172 (dk_at dksL_law_28 12 rfl rfl)
theorem dL_law_765 : decode cL_law 765 = .ok (.iload 6, 2) := dk_21 6 (dk_at dksL_law_28 13 rfl rfl)
theorem dL_law_767 : decode cL_law 767 = .ok (.ifCond .ne 15, 3) := dk_154 0 15 (dk_at dksL_law_28 15 rfl rfl)
theorem dL_law_770 : decode cL_law 770 = .ok (.aload_n 3, 1) := dk_45 (dk_at dksL_law_28 18 rfl rfl)
theorem dL_law_771 : decode cL_law 771 = .ok (.iconst 0, 1) := dk_3 (dk_at dksL_law_28 19 rfl rfl)
theorem dL_law_772 : decode cL_law 772 = .ok (.laload, 1) := dk_47 (dk_at dksL_law_28 20 rfl rfl)
theorem dL_law_773 : decode cL_law 773 = .ok (.iload 7, 2) := dk_21 7 (dk_at dksL_law_28 21 rfl rfl)
theorem dL_law_775 : decode cL_law 775 = .ok (.i2l, 1) := dk_133 (dk_at dksL_law_28 23 rfl rfl)
theorem dL_law_776 : decode cL_law 776 = .ok (.lcmp, 1) := dk_148 (dk_at dksL_law_29 0 rfl rfl)
theorem dL_law_777 : decode cL_law 777 = .ok (.ifCond .eq 5, 3) := dk_153 0 5 (dk_at dksL_law_29 1 rfl rfl)
theorem dL_law_780 : decode cL_law 780 = .ok (.iconst 0, 1) := dk_3 (dk_at dksL_law_29 4 rfl rfl)
theorem dL_law_781 : decode cL_law 781 = .ok (.ireturn, 1) := dk_172 (dk_at dksL_law_29 5 rfl rfl)
theorem dL_law_782 : decode cL_law 782 = .ok (.goto 1042, 3) := dk_167 4 18 (dk_at dksL_law_29 6 rfl rfl)
theorem dL_law_785 : decode cL_law 785 = .ok (.aload_n 1, 1) := dk_43 (dk_at dksL_law_29 9 rfl rfl)
theorem dL_law_786 : decode cL_law 786 = .ok (.aload_n 0, 1) := dk_42 (dk_at dksL_law_29 10 rfl rfl)
theorem dL_law_787 : decode cL_law 787 = .ok (.iload 5, 2) := dk_21 5 (dk_at dksL_law_29 11 rfl rfl)
theorem dL_law_789 : decode cL_law 789 = .ok (.iconst 1, 1) := dk_4 (dk_at dksL_law_29 13 rfl rfl)
theorem dL_law_790 : decode cL_law 790 = .ok (.iadd, 1) := dk_96 (dk_at dksL_law_29 14 rfl rfl)
theorem dL_law_791 : decode cL_law 791 = .ok (.iaload, 1) := dk_46 (dk_at dksL_law_29 15 rfl rfl)
theorem dL_law_792 : decode cL_law 792 = .ok (.aload_n 3, 1) := dk_45 (dk_at dksL_law_29 16 rfl rfl)
theorem dL_law_793 : decode cL_law 793 = .ok (.invokestatic 142, 3) := dk_184 0 142 (dk_at dksL_law_29 17 rfl rfl)
theorem dL_law_796 : decode cL_law 796 = .ok (.istore 6, 2) := dk_54 6 (dk_at dksL_law_29 20 rfl rfl)
theorem dL_law_798 : decode cL_law 798 = .ok (.aload_n 2, 1) := dk_44 (dk_at dksL_law_29 22 rfl rfl)
theorem dL_law_799 : decode cL_law 799 = .ok (.aload_n 0, 1) := dk_42 (dk_at dksL_law_29 23 rfl rfl)
theorem dL_law_800 : decode cL_law 800 = .ok (.iload 5, 2) := dk_21 5 (dk_at dksL_law_30 0 rfl rfl)
theorem dL_law_802 : decode cL_law 802 = .ok (.iconst 1, 1) := dk_4 (dk_at dksL_law_30 2 rfl rfl)
theorem dL_law_803 : decode cL_law 803 = .ok (.iadd, 1) := dk_96 (dk_at dksL_law_30 3 rfl rfl)
theorem dL_law_804 : decode cL_law 804 = .ok (.iaload, 1) := dk_46 (dk_at dksL_law_30 4 rfl rfl)
theorem dL_law_805 : decode cL_law 805 = .ok (.invokevirtual 144, 3) := dk_182 0 144 (dk_at dksL_law_30 5 rfl rfl)
theorem dL_law_808 : decode cL_law 808 = .ok (.istore 7, 2) := dk_54 7 (dk_at dksL_law_30 8 rfl rfl)
theorem dL_law_810 : decode cL_law 810 = .ok (.aload_n 2, 1) := dk_44 (dk_at dksL_law_30 10 rfl rfl)
theorem dL_law_811 : decode cL_law 811 = .ok (.invokevirtual 115, 3) := dk_182 0 115 (dk_at dksL_law_30 11 rfl rfl)
theorem dL_law_814 : decode cL_law 814 = .ok (.iload 6, 2) := dk_21 6 (dk_at dksL_law_30 14 rfl rfl)
theorem dL_law_816 : decode cL_law 816 = .ok (.if_icmp .eq 5, 3) := dk_159 0 5 (dk_at dksL_law_30 16 rfl rfl)
theorem dL_law_819 : decode cL_law 819 = .ok (.iconst 0, 1) := dk_3 (dk_at dksL_law_30 19 rfl rfl)
theorem dL_law_820 : decode cL_law 820 = .ok (.ireturn, 1) := dk_172 (dk_at dksL_law_30 20 rfl rfl)
theorem dL_law_821 : decode cL_law 821 = .ok (.iload 6, 2) := dk_21 6 (dk_at dksL_law_30 21 rfl rfl)
theorem dL_law_823 : decode cL_law 823 = .ok (.ifCond .ne 15, 3) := dk_154 0 15 (dk_at dksL_law_31 0 rfl rfl)
theorem dL_law_826 : decode cL_law 826 = .ok (.aload_n 3, 1) := dk_45 (dk_at dksL_law_31 3 rfl rfl)
theorem dL_law_827 : decode cL_law 827 = .ok (.iconst 0, 1) := dk_3 (dk_at dksL_law_31 4 rfl rfl)
theorem dL_law_828 : decode cL_law 828 = .ok (.laload, 1) := dk_47 (dk_at dksL_law_31 5 rfl rfl)
theorem dL_law_829 : decode cL_law 829 = .ok (.iload 7, 2) := dk_21 7 (dk_at dksL_law_31 6 rfl rfl)
theorem dL_law_831 : decode cL_law 831 = .ok (.i2l, 1) := dk_133 (dk_at dksL_law_31 8 rfl rfl)
theorem dL_law_832 : decode cL_law 832 = .ok (.lcmp, 1) := dk_148 (dk_at dksL_law_31 9 rfl rfl)
theorem dL_law_833 : decode cL_law 833 = .ok (.ifCond .eq 5, 3) := dk_153 0 5 (dk_at dksL_law_31 10 rfl rfl)
theorem dL_law_836 : decode cL_law 836 = .ok (.iconst 0, 1) := dk_3 (dk_at dksL_law_31 13 rfl rfl)
theorem dL_law_837 : decode cL_law 837 = .ok (.ireturn, 1) := dk_172 (dk_at dksL_law_31 14 rfl rfl)
theorem dL_law_838 : decode cL_law 838 = .ok (.goto 986, 3) := dk_167 3 218 (dk_at dksL_law_31 15 rfl rfl)
theorem dL_law_841 : decode cL_law 841 = .ok (.aload_n 1, 1) := dk_43 (dk_at dksL_law_31 18 rfl rfl)
theorem dL_law_842 : decode cL_law 842 = .ok (.aload_n 0, 1) := dk_42 (dk_at dksL_law_31 19 rfl rfl)
theorem dL_law_843 : decode cL_law 843 = .ok (.iload 5, 2) := dk_21 5 (dk_at dksL_law_31 20 rfl rfl)
theorem dL_law_845 : decode cL_law 845 = .ok (.iconst 1, 1) := dk_4 (dk_at dksL_law_31 22 rfl rfl)
theorem dL_law_846 : decode cL_law 846 = .ok (.iadd, 1) := dk_96 (dk_at dksL_law_31 23 rfl rfl)
theorem dL_law_847 : decode cL_law 847 = .ok (.iaload, 1) := dk_46 (dk_at dksL_law_32 0 rfl rfl)
theorem dL_law_848 : decode cL_law 848 = .ok (.aload_n 0, 1) := dk_42 (dk_at dksL_law_32 1 rfl rfl)
theorem dL_law_849 : decode cL_law 849 = .ok (.iload 5, 2) := dk_21 5 (dk_at dksL_law_32 2 rfl rfl)
theorem dL_law_851 : decode cL_law 851 = .ok (.iconst 2, 1) := dk_5 (dk_at dksL_law_32 4 rfl rfl)
theorem dL_law_852 : decode cL_law 852 = .ok (.iadd, 1) := dk_96 (dk_at dksL_law_32 5 rfl rfl)
theorem dL_law_853 : decode cL_law 853 = .ok (.iaload, 1) := dk_46 (dk_at dksL_law_32 6 rfl rfl)
theorem dL_law_854 : decode cL_law 854 = .ok (.aload_n 3, 1) := dk_45 (dk_at dksL_law_32 7 rfl rfl)
theorem dL_law_855 : decode cL_law 855 = .ok (.invokestatic 145, 3) := dk_184 0 145 (dk_at dksL_law_32 8 rfl rfl)
theorem dL_law_858 : decode cL_law 858 = .ok (.istore 6, 2) := dk_54 6 (dk_at dksL_law_32 11 rfl rfl)
theorem dL_law_860 : decode cL_law 860 = .ok (.aload_n 2, 1) := dk_44 (dk_at dksL_law_32 13 rfl rfl)
theorem dL_law_861 : decode cL_law 861 = .ok (.aload_n 0, 1) := dk_42 (dk_at dksL_law_32 14 rfl rfl)
theorem dL_law_862 : decode cL_law 862 = .ok (.iload 5, 2) := dk_21 5 (dk_at dksL_law_32 15 rfl rfl)
theorem dL_law_864 : decode cL_law 864 = .ok (.iconst 1, 1) := dk_4 (dk_at dksL_law_32 17 rfl rfl)
theorem dL_law_865 : decode cL_law 865 = .ok (.iadd, 1) := dk_96 (dk_at dksL_law_32 18 rfl rfl)
theorem dL_law_866 : decode cL_law 866 = .ok (.iaload, 1) := dk_46 (dk_at dksL_law_32 19 rfl rfl)
theorem dL_law_867 : decode cL_law 867 = .ok (.aload_n 0, 1) := dk_42 (dk_at dksL_law_32 20 rfl rfl)
theorem dL_law_868 : decode cL_law 868 = .ok (.iload 5, 2) := dk_21 5 (dk_at dksL_law_32 21 rfl rfl)
theorem dL_law_870 : decode cL_law 870 = .ok (.iconst 2, 1) := dk_5 (dk_at dksL_law_32 23 rfl rfl)
theorem dL_law_871 : decode cL_law 871 = .ok (.iadd, 1) := dk_96 (dk_at dksL_law_33 0 rfl rfl)
theorem dL_law_872 : decode cL_law 872 = .ok (.iaload, 1) := dk_46 (dk_at dksL_law_33 1 rfl rfl)
theorem dL_law_873 : decode cL_law 873 = .ok (.invokevirtual 147, 3) := dk_182 0 147 (dk_at dksL_law_33 2 rfl rfl)
theorem dL_law_876 : decode cL_law 876 = .ok (.istore 7, 2) := dk_54 7 (dk_at dksL_law_33 5 rfl rfl)
theorem dL_law_878 : decode cL_law 878 = .ok (.aload_n 2, 1) := dk_44 (dk_at dksL_law_33 7 rfl rfl)
theorem dL_law_879 : decode cL_law 879 = .ok (.invokevirtual 115, 3) := dk_182 0 115 (dk_at dksL_law_33 8 rfl rfl)
theorem dL_law_882 : decode cL_law 882 = .ok (.iload 6, 2) := dk_21 6 (dk_at dksL_law_33 11 rfl rfl)
theorem dL_law_884 : decode cL_law 884 = .ok (.if_icmp .eq 5, 3) := dk_159 0 5 (dk_at dksL_law_33 13 rfl rfl)
theorem dL_law_887 : decode cL_law 887 = .ok (.iconst 0, 1) := dk_3 (dk_at dksL_law_33 16 rfl rfl)
theorem dL_law_888 : decode cL_law 888 = .ok (.ireturn, 1) := dk_172 (dk_at dksL_law_33 17 rfl rfl)
theorem dL_law_889 : decode cL_law 889 = .ok (.iload 6, 2) := dk_21 6 (dk_at dksL_law_33 18 rfl rfl)
theorem dL_law_891 : decode cL_law 891 = .ok (.ifCond .ne 15, 3) := dk_154 0 15 (dk_at dksL_law_33 20 rfl rfl)
theorem dL_law_894 : decode cL_law 894 = .ok (.aload_n 3, 1) := dk_45 (dk_at dksL_law_33 23 rfl rfl)
theorem dL_law_895 : decode cL_law 895 = .ok (.iconst 0, 1) := dk_3 (dk_at dksL_law_34 0 rfl rfl)
theorem dL_law_896 : decode cL_law 896 = .ok (.laload, 1) := dk_47 (dk_at dksL_law_34 1 rfl rfl)
theorem dL_law_897 : decode cL_law 897 = .ok (.iload 7, 2) := dk_21 7 (dk_at dksL_law_34 2 rfl rfl)
theorem dL_law_899 : decode cL_law 899 = .ok (.i2l, 1) := dk_133 (dk_at dksL_law_34 4 rfl rfl)
theorem dL_law_900 : decode cL_law 900 = .ok (.lcmp, 1) := dk_148 (dk_at dksL_law_34 5 rfl rfl)
theorem dL_law_901 : decode cL_law 901 = .ok (.ifCond .eq 5, 3) := dk_153 0 5 (dk_at dksL_law_34 6 rfl rfl)
theorem dL_law_904 : decode cL_law 904 = .ok (.iconst 0, 1) := dk_3 (dk_at dksL_law_34 9 rfl rfl)
theorem dL_law_905 : decode cL_law 905 = .ok (.ireturn, 1) := dk_172 (dk_at dksL_law_34 10 rfl rfl)
theorem dL_law_906 : decode cL_law 906 = .ok (.goto 918, 3) := dk_167 3 150 (dk_at dksL_law_34 11 rfl rfl)
theorem dL_law_909 : decode cL_law 909 = .ok (.aload_n 1, 1) := dk_43 (dk_at dksL_law_34 14 rfl rfl)
theorem dL_law_910 : decode cL_law 910 = .ok (.aload_n 0, 1) := dk_42 (dk_at dksL_law_34 15 rfl rfl)
theorem dL_law_911 : decode cL_law 911 = .ok (.iload 5, 2) := dk_21 5 (dk_at dksL_law_34 16 rfl rfl)
theorem dL_law_913 : decode cL_law 913 = .ok (.iconst 1, 1) := dk_4 (dk_at dksL_law_34 18 rfl rfl)
theorem dL_law_914 : decode cL_law 914 = .ok (.iadd, 1) := dk_96 (dk_at dksL_law_34 19 rfl rfl)
theorem dL_law_915 : decode cL_law 915 = .ok (.iaload, 1) := dk_46 (dk_at dksL_law_34 20 rfl rfl)
theorem dL_law_916 : decode cL_law 916 = .ok (.aload_n 0, 1) := dk_42 (dk_at dksL_law_34 21 rfl rfl)
theorem dL_law_917 : decode cL_law 917 = .ok (.iload 5, 2) := dk_21 5 (dk_at dksL_law_34 22 rfl rfl)
theorem dL_law_919 : decode cL_law 919 = .ok (.iconst 2, 1) := dk_5 (dk_at dksL_law_35 0 rfl rfl)
theorem dL_law_920 : decode cL_law 920 = .ok (.iadd, 1) := dk_96 (dk_at dksL_law_35 1 rfl rfl)
theorem dL_law_921 : decode cL_law 921 = .ok (.iaload, 1) := dk_46 (dk_at dksL_law_35 2 rfl rfl)
theorem dL_law_922 : decode cL_law 922 = .ok (.aload_n 3, 1) := dk_45 (dk_at dksL_law_35 3 rfl rfl)
theorem dL_law_923 : decode cL_law 923 = .ok (.invokestatic 148, 3) := dk_184 0 148 (dk_at dksL_law_35 4 rfl rfl)
theorem dL_law_926 : decode cL_law 926 = .ok (.istore 6, 2) := dk_54 6 (dk_at dksL_law_35 7 rfl rfl)
theorem dL_law_928 : decode cL_law 928 = .ok (.aload_n 2, 1) := dk_44 (dk_at dksL_law_35 9 rfl rfl)
theorem dL_law_929 : decode cL_law 929 = .ok (.aload_n 0, 1) := dk_42 (dk_at dksL_law_35 10 rfl rfl)
theorem dL_law_930 : decode cL_law 930 = .ok (.iload 5, 2) := dk_21 5 (dk_at dksL_law_35 11 rfl rfl)
theorem dL_law_932 : decode cL_law 932 = .ok (.iconst 1, 1) := dk_4 (dk_at dksL_law_35 13 rfl rfl)
theorem dL_law_933 : decode cL_law 933 = .ok (.iadd, 1) := dk_96 (dk_at dksL_law_35 14 rfl rfl)
theorem dL_law_934 : decode cL_law 934 = .ok (.iaload, 1) := dk_46 (dk_at dksL_law_35 15 rfl rfl)
theorem dL_law_935 : decode cL_law 935 = .ok (.aload_n 0, 1) := dk_42 (dk_at dksL_law_35 16 rfl rfl)
theorem dL_law_936 : decode cL_law 936 = .ok (.iload 5, 2) := dk_21 5 (dk_at dksL_law_35 17 rfl rfl)
theorem dL_law_938 : decode cL_law 938 = .ok (.iconst 2, 1) := dk_5 (dk_at dksL_law_35 19 rfl rfl)
theorem dL_law_939 : decode cL_law 939 = .ok (.iadd, 1) := dk_96 (dk_at dksL_law_35 20 rfl rfl)
theorem dL_law_940 : decode cL_law 940 = .ok (.iaload, 1) := dk_46 (dk_at dksL_law_35 21 rfl rfl)
theorem dL_law_941 : decode cL_law 941 = .ok (.invokevirtual 150, 3) := dk_182 0 150 (dk_at dksL_law_36 0 rfl rfl)
theorem dL_law_944 : decode cL_law 944 = .ok (.istore 7, 2) := dk_54 7 (dk_at dksL_law_36 3 rfl rfl)
theorem dL_law_946 : decode cL_law 946 = .ok (.aload_n 2, 1) := dk_44 (dk_at dksL_law_36 5 rfl rfl)
theorem dL_law_947 : decode cL_law 947 = .ok (.invokevirtual 115, 3) := dk_182 0 115 (dk_at dksL_law_36 6 rfl rfl)
theorem dL_law_950 : decode cL_law 950 = .ok (.iload 6, 2) := dk_21 6 (dk_at dksL_law_36 9 rfl rfl)
theorem dL_law_952 : decode cL_law 952 = .ok (.if_icmp .eq 5, 3) := dk_159 0 5 (dk_at dksL_law_36 11 rfl rfl)
theorem dL_law_955 : decode cL_law 955 = .ok (.iconst 0, 1) := dk_3 (dk_at dksL_law_36 14 rfl rfl)
theorem dL_law_956 : decode cL_law 956 = .ok (.ireturn, 1) := dk_172 (dk_at dksL_law_36 15 rfl rfl)
theorem dL_law_957 : decode cL_law 957 = .ok (.iload 6, 2) := dk_21 6 (dk_at dksL_law_36 16 rfl rfl)
theorem dL_law_959 : decode cL_law 959 = .ok (.ifCond .ne 15, 3) := dk_154 0 15 (dk_at dksL_law_36 18 rfl rfl)
theorem dL_law_962 : decode cL_law 962 = .ok (.aload_n 3, 1) := dk_45 (dk_at dksL_law_36 21 rfl rfl)
theorem dL_law_963 : decode cL_law 963 = .ok (.iconst 0, 1) := dk_3 (dk_at dksL_law_36 22 rfl rfl)
theorem dL_law_964 : decode cL_law 964 = .ok (.laload, 1) := dk_47 (dk_at dksL_law_36 23 rfl rfl)
theorem dL_law_965 : decode cL_law 965 = .ok (.iload 7, 2) := dk_21 7 (dk_at dksL_law_37 0 rfl rfl)
theorem dL_law_967 : decode cL_law 967 = .ok (.i2l, 1) := dk_133 (dk_at dksL_law_37 2 rfl rfl)
theorem dL_law_968 : decode cL_law 968 = .ok (.lcmp, 1) := dk_148 (dk_at dksL_law_37 3 rfl rfl)
theorem dL_law_969 : decode cL_law 969 = .ok (.ifCond .eq 5, 3) := dk_153 0 5 (dk_at dksL_law_37 4 rfl rfl)
theorem dL_law_972 : decode cL_law 972 = .ok (.iconst 0, 1) := dk_3 (dk_at dksL_law_37 7 rfl rfl)
theorem dL_law_973 : decode cL_law 973 = .ok (.ireturn, 1) := dk_172 (dk_at dksL_law_37 8 rfl rfl)
theorem dL_law_974 : decode cL_law 974 = .ok (.goto 850, 3) := dk_167 3 82 (dk_at dksL_law_37 9 rfl rfl)
theorem dL_law_977 : decode cL_law 977 = .ok (.aload_n 1, 1) := dk_43 (dk_at dksL_law_37 12 rfl rfl)
theorem dL_law_978 : decode cL_law 978 = .ok (.aload_n 0, 1) := dk_42 (dk_at dksL_law_37 13 rfl rfl)
theorem dL_law_979 : decode cL_law 979 = .ok (.iload 5, 2) := dk_21 5 (dk_at dksL_law_37 14 rfl rfl)
theorem dL_law_981 : decode cL_law 981 = .ok (.iconst 1, 1) := dk_4 (dk_at dksL_law_37 16 rfl rfl)
theorem dL_law_982 : decode cL_law 982 = .ok (.iadd, 1) := dk_96 (dk_at dksL_law_37 17 rfl rfl)
theorem dL_law_983 : decode cL_law 983 = .ok (.iaload, 1) := dk_46 (dk_at dksL_law_37 18 rfl rfl)
theorem dL_law_984 : decode cL_law 984 = .ok (.aload_n 0, 1) := dk_42 (dk_at dksL_law_37 19 rfl rfl)
theorem dL_law_985 : decode cL_law 985 = .ok (.iload 5, 2) := dk_21 5 (dk_at dksL_law_37 20 rfl rfl)
theorem dL_law_987 : decode cL_law 987 = .ok (.iconst 2, 1) := dk_5 (dk_at dksL_law_37 22 rfl rfl)
theorem dL_law_988 : decode cL_law 988 = .ok (.iadd, 1) := dk_96 (dk_at dksL_law_37 23 rfl rfl)
theorem dL_law_989 : decode cL_law 989 = .ok (.iaload, 1) := dk_46 (dk_at dksL_law_38 0 rfl rfl)
theorem dL_law_990 : decode cL_law 990 = .ok (.aload_n 3, 1) := dk_45 (dk_at dksL_law_38 1 rfl rfl)
theorem dL_law_991 : decode cL_law 991 = .ok (.invokestatic 151, 3) := dk_184 0 151 (dk_at dksL_law_38 2 rfl rfl)
theorem dL_law_994 : decode cL_law 994 = .ok (.istore 6, 2) := dk_54 6 (dk_at dksL_law_38 5 rfl rfl)
theorem dL_law_996 : decode cL_law 996 = .ok (.aload_n 2, 1) := dk_44 (dk_at dksL_law_38 7 rfl rfl)
theorem dL_law_997 : decode cL_law 997 = .ok (.aload_n 0, 1) := dk_42 (dk_at dksL_law_38 8 rfl rfl)
theorem dL_law_998 : decode cL_law 998 = .ok (.iload 5, 2) := dk_21 5 (dk_at dksL_law_38 9 rfl rfl)
theorem dL_law_1000 : decode cL_law 1000 = .ok (.iconst 1, 1) := dk_4 (dk_at dksL_law_38 11 rfl rfl)
theorem dL_law_1001 : decode cL_law 1001 = .ok (.iadd, 1) := dk_96 (dk_at dksL_law_38 12 rfl rfl)
theorem dL_law_1002 : decode cL_law 1002 = .ok (.iaload, 1) := dk_46 (dk_at dksL_law_38 13 rfl rfl)
theorem dL_law_1003 : decode cL_law 1003 = .ok (.aload_n 0, 1) := dk_42 (dk_at dksL_law_38 14 rfl rfl)
theorem dL_law_1004 : decode cL_law 1004 = .ok (.iload 5, 2) := dk_21 5 (dk_at dksL_law_38 15 rfl rfl)
theorem dL_law_1006 : decode cL_law 1006 = .ok (.iconst 2, 1) := dk_5 (dk_at dksL_law_38 17 rfl rfl)
theorem dL_law_1007 : decode cL_law 1007 = .ok (.iadd, 1) := dk_96 (dk_at dksL_law_38 18 rfl rfl)
theorem dL_law_1008 : decode cL_law 1008 = .ok (.iaload, 1) := dk_46 (dk_at dksL_law_38 19 rfl rfl)
theorem dL_law_1009 : decode cL_law 1009 = .ok (.invokevirtual 153, 3) := dk_182 0 153 (dk_at dksL_law_38 20 rfl rfl)
theorem dL_law_1012 : decode cL_law 1012 = .ok (.istore 7, 2) := dk_54 7 (dk_at dksL_law_39 0 rfl rfl)
theorem dL_law_1014 : decode cL_law 1014 = .ok (.aload_n 2, 1) := dk_44 (dk_at dksL_law_39 2 rfl rfl)
theorem dL_law_1015 : decode cL_law 1015 = .ok (.invokevirtual 115, 3) := dk_182 0 115 (dk_at dksL_law_39 3 rfl rfl)
theorem dL_law_1018 : decode cL_law 1018 = .ok (.iload 6, 2) := dk_21 6 (dk_at dksL_law_39 6 rfl rfl)
theorem dL_law_1020 : decode cL_law 1020 = .ok (.if_icmp .eq 5, 3) := dk_159 0 5 (dk_at dksL_law_39 8 rfl rfl)
theorem dL_law_1023 : decode cL_law 1023 = .ok (.iconst 0, 1) := dk_3 (dk_at dksL_law_39 11 rfl rfl)
theorem dL_law_1024 : decode cL_law 1024 = .ok (.ireturn, 1) := dk_172 (dk_at dksL_law_39 12 rfl rfl)
theorem dL_law_1025 : decode cL_law 1025 = .ok (.iload 6, 2) := dk_21 6 (dk_at dksL_law_39 13 rfl rfl)
theorem dL_law_1027 : decode cL_law 1027 = .ok (.ifCond .ne 15, 3) := dk_154 0 15 (dk_at dksL_law_39 15 rfl rfl)
theorem dL_law_1030 : decode cL_law 1030 = .ok (.aload_n 3, 1) := dk_45 (dk_at dksL_law_39 18 rfl rfl)
theorem dL_law_1031 : decode cL_law 1031 = .ok (.iconst 0, 1) := dk_3 (dk_at dksL_law_39 19 rfl rfl)
theorem dL_law_1032 : decode cL_law 1032 = .ok (.laload, 1) := dk_47 (dk_at dksL_law_39 20 rfl rfl)
theorem dL_law_1033 : decode cL_law 1033 = .ok (.iload 7, 2) := dk_21 7 (dk_at dksL_law_39 21 rfl rfl)
theorem dL_law_1035 : decode cL_law 1035 = .ok (.i2l, 1) := dk_133 (dk_at dksL_law_39 23 rfl rfl)
theorem dL_law_1036 : decode cL_law 1036 = .ok (.lcmp, 1) := dk_148 (dk_at dksL_law_40 0 rfl rfl)
theorem dL_law_1037 : decode cL_law 1037 = .ok (.ifCond .eq 5, 3) := dk_153 0 5 (dk_at dksL_law_40 1 rfl rfl)
theorem dL_law_1040 : decode cL_law 1040 = .ok (.iconst 0, 1) := dk_3 (dk_at dksL_law_40 4 rfl rfl)
theorem dL_law_1041 : decode cL_law 1041 = .ok (.ireturn, 1) := dk_172 (dk_at dksL_law_40 5 rfl rfl)
theorem dL_law_1042 : decode cL_law 1042 = .ok (.goto 782, 3) := dk_167 3 14 (dk_at dksL_law_40 6 rfl rfl)
theorem dL_law_1045 : decode cL_law 1045 = .ok (.aload_n 1, 1) := dk_43 (dk_at dksL_law_40 9 rfl rfl)
theorem dL_law_1046 : decode cL_law 1046 = .ok (.aload_n 0, 1) := dk_42 (dk_at dksL_law_40 10 rfl rfl)
theorem dL_law_1047 : decode cL_law 1047 = .ok (.iload 5, 2) := dk_21 5 (dk_at dksL_law_40 11 rfl rfl)
theorem dL_law_1049 : decode cL_law 1049 = .ok (.iconst 1, 1) := dk_4 (dk_at dksL_law_40 13 rfl rfl)
theorem dL_law_1050 : decode cL_law 1050 = .ok (.iadd, 1) := dk_96 (dk_at dksL_law_40 14 rfl rfl)
theorem dL_law_1051 : decode cL_law 1051 = .ok (.iaload, 1) := dk_46 (dk_at dksL_law_40 15 rfl rfl)
theorem dL_law_1052 : decode cL_law 1052 = .ok (.aload_n 3, 1) := dk_45 (dk_at dksL_law_40 16 rfl rfl)
theorem dL_law_1053 : decode cL_law 1053 = .ok (.invokestatic 154, 3) := dk_184 0 154 (dk_at dksL_law_40 17 rfl rfl)
theorem dL_law_1056 : decode cL_law 1056 = .ok (.istore 6, 2) := dk_54 6 (dk_at dksL_law_40 20 rfl rfl)
theorem dL_law_1058 : decode cL_law 1058 = .ok (.aload_n 2, 1) := dk_44 (dk_at dksL_law_40 22 rfl rfl)
theorem dL_law_1059 : decode cL_law 1059 = .ok (.aload_n 0, 1) := dk_42 (dk_at dksL_law_40 23 rfl rfl)
theorem dL_law_1060 : decode cL_law 1060 = .ok (.iload 5, 2) := dk_21 5 (dk_at dksL_law_41 0 rfl rfl)
theorem dL_law_1062 : decode cL_law 1062 = .ok (.iconst 1, 1) := dk_4 (dk_at dksL_law_41 2 rfl rfl)
theorem dL_law_1063 : decode cL_law 1063 = .ok (.iadd, 1) := dk_96 (dk_at dksL_law_41 3 rfl rfl)
theorem dL_law_1064 : decode cL_law 1064 = .ok (.iaload, 1) := dk_46 (dk_at dksL_law_41 4 rfl rfl)
theorem dL_law_1065 : decode cL_law 1065 = .ok (.invokevirtual 156, 3) := dk_182 0 156 (dk_at dksL_law_41 5 rfl rfl)
theorem dL_law_1068 : decode cL_law 1068 = .ok (.istore 7, 2) := dk_54 7 (dk_at dksL_law_41 8 rfl rfl)
theorem dL_law_1070 : decode cL_law 1070 = .ok (.aload_n 2, 1) := dk_44 (dk_at dksL_law_41 10 rfl rfl)
theorem dL_law_1071 : decode cL_law 1071 = .ok (.invokevirtual 115, 3) := dk_182 0 115 (dk_at dksL_law_41 11 rfl rfl)
theorem dL_law_1074 : decode cL_law 1074 = .ok (.iload 6, 2) := dk_21 6 (dk_at dksL_law_41 14 rfl rfl)
theorem dL_law_1076 : decode cL_law 1076 = .ok (.if_icmp .eq 5, 3) := dk_159 0 5 (dk_at dksL_law_41 16 rfl rfl)
theorem dL_law_1079 : decode cL_law 1079 = .ok (.iconst 0, 1) := dk_3 (dk_at dksL_law_41 19 rfl rfl)
theorem dL_law_1080 : decode cL_law 1080 = .ok (.ireturn, 1) := dk_172 (dk_at dksL_law_41 20 rfl rfl)
theorem dL_law_1081 : decode cL_law 1081 = .ok (.iload 6, 2) := dk_21 6 (dk_at dksL_law_41 21 rfl rfl)
theorem dL_law_1083 : decode cL_law 1083 = .ok (.ifCond .ne 15, 3) := dk_154 0 15 (dk_at dksL_law_42 0 rfl rfl)
theorem dL_law_1086 : decode cL_law 1086 = .ok (.aload_n 3, 1) := dk_45 (dk_at dksL_law_42 3 rfl rfl)
theorem dL_law_1087 : decode cL_law 1087 = .ok (.iconst 0, 1) := dk_3 (dk_at dksL_law_42 4 rfl rfl)
theorem dL_law_1088 : decode cL_law 1088 = .ok (.laload, 1) := dk_47 (dk_at dksL_law_42 5 rfl rfl)
theorem dL_law_1089 : decode cL_law 1089 = .ok (.iload 7, 2) := dk_21 7 (dk_at dksL_law_42 6 rfl rfl)
theorem dL_law_1091 : decode cL_law 1091 = .ok (.i2l, 1) := dk_133 (dk_at dksL_law_42 8 rfl rfl)
theorem dL_law_1092 : decode cL_law 1092 = .ok (.lcmp, 1) := dk_148 (dk_at dksL_law_42 9 rfl rfl)
theorem dL_law_1093 : decode cL_law 1093 = .ok (.ifCond .eq 5, 3) := dk_153 0 5 (dk_at dksL_law_42 10 rfl rfl)
theorem dL_law_1096 : decode cL_law 1096 = .ok (.iconst 0, 1) := dk_3 (dk_at dksL_law_42 13 rfl rfl)
theorem dL_law_1097 : decode cL_law 1097 = .ok (.ireturn, 1) := dk_172 (dk_at dksL_law_42 14 rfl rfl)
theorem dL_law_1098 : decode cL_law 1098 = .ok (.goto 726, 3) := dk_167 2 214 (dk_at dksL_law_42 15 rfl rfl)
theorem dL_law_1101 : decode cL_law 1101 = .ok (.aload_n 1, 1) := dk_43 (dk_at dksL_law_42 18 rfl rfl)
theorem dL_law_1102 : decode cL_law 1102 = .ok (.aload_n 0, 1) := dk_42 (dk_at dksL_law_42 19 rfl rfl)
theorem dL_law_1103 : decode cL_law 1103 = .ok (.iload 5, 2) := dk_21 5 (dk_at dksL_law_42 20 rfl rfl)
theorem dL_law_1105 : decode cL_law 1105 = .ok (.iconst 1, 1) := dk_4 (dk_at dksL_law_42 22 rfl rfl)
theorem dL_law_1106 : decode cL_law 1106 = .ok (.iadd, 1) := dk_96 (dk_at dksL_law_42 23 rfl rfl)
theorem dL_law_1107 : decode cL_law 1107 = .ok (.iaload, 1) := dk_46 (dk_at dksL_law_43 0 rfl rfl)
theorem dL_law_1108 : decode cL_law 1108 = .ok (.aload_n 0, 1) := dk_42 (dk_at dksL_law_43 1 rfl rfl)
theorem dL_law_1109 : decode cL_law 1109 = .ok (.iload 5, 2) := dk_21 5 (dk_at dksL_law_43 2 rfl rfl)
theorem dL_law_1111 : decode cL_law 1111 = .ok (.iconst 2, 1) := dk_5 (dk_at dksL_law_43 4 rfl rfl)
theorem dL_law_1112 : decode cL_law 1112 = .ok (.iadd, 1) := dk_96 (dk_at dksL_law_43 5 rfl rfl)
theorem dL_law_1113 : decode cL_law 1113 = .ok (.iaload, 1) := dk_46 (dk_at dksL_law_43 6 rfl rfl)
theorem dL_law_1114 : decode cL_law 1114 = .ok (.ifCond .eq 7, 3) := dk_153 0 7 (dk_at dksL_law_43 7 rfl rfl)
theorem dL_law_1117 : decode cL_law 1117 = .ok (.iconst 1, 1) := dk_4 (dk_at dksL_law_43 10 rfl rfl)
theorem dL_law_1118 : decode cL_law 1118 = .ok (.goto 4, 3) := dk_167 0 4 (dk_at dksL_law_43 11 rfl rfl)
theorem dL_law_1121 : decode cL_law 1121 = .ok (.iconst 0, 1) := dk_3 (dk_at dksL_law_43 14 rfl rfl)
theorem dL_law_1122 : decode cL_law 1122 = .ok (.aload_n 3, 1) := dk_45 (dk_at dksL_law_43 15 rfl rfl)
theorem dL_law_1123 : decode cL_law 1123 = .ok (.invokestatic 157, 3) := dk_184 0 157 (dk_at dksL_law_43 16 rfl rfl)
theorem dL_law_1126 : decode cL_law 1126 = .ok (.istore 6, 2) := dk_54 6 (dk_at dksL_law_43 19 rfl rfl)
theorem dL_law_1128 : decode cL_law 1128 = .ok (.aload_n 2, 1) := dk_44 (dk_at dksL_law_43 21 rfl rfl)
theorem dL_law_1129 : decode cL_law 1129 = .ok (.aload_n 0, 1) := dk_42 (dk_at dksL_law_43 22 rfl rfl)
theorem dL_law_1130 : decode cL_law 1130 = .ok (.iload 5, 2) := dk_21 5 (dk_at dksL_law_44 0 rfl rfl)
theorem dL_law_1132 : decode cL_law 1132 = .ok (.iconst 1, 1) := dk_4 (dk_at dksL_law_44 2 rfl rfl)
theorem dL_law_1133 : decode cL_law 1133 = .ok (.iadd, 1) := dk_96 (dk_at dksL_law_44 3 rfl rfl)
theorem dL_law_1134 : decode cL_law 1134 = .ok (.iaload, 1) := dk_46 (dk_at dksL_law_44 4 rfl rfl)
theorem dL_law_1135 : decode cL_law 1135 = .ok (.aload_n 0, 1) := dk_42 (dk_at dksL_law_44 5 rfl rfl)
theorem dL_law_1136 : decode cL_law 1136 = .ok (.iload 5, 2) := dk_21 5 (dk_at dksL_law_44 6 rfl rfl)
theorem dL_law_1138 : decode cL_law 1138 = .ok (.iconst 2, 1) := dk_5 (dk_at dksL_law_44 8 rfl rfl)
theorem dL_law_1139 : decode cL_law 1139 = .ok (.iadd, 1) := dk_96 (dk_at dksL_law_44 9 rfl rfl)
theorem dL_law_1140 : decode cL_law 1140 = .ok (.iaload, 1) := dk_46 (dk_at dksL_law_44 10 rfl rfl)
theorem dL_law_1141 : decode cL_law 1141 = .ok (.ifCond .eq 7, 3) := dk_153 0 7 (dk_at dksL_law_44 11 rfl rfl)
theorem dL_law_1144 : decode cL_law 1144 = .ok (.iconst 1, 1) := dk_4 (dk_at dksL_law_44 14 rfl rfl)
theorem dL_law_1145 : decode cL_law 1145 = .ok (.goto 4, 3) := dk_167 0 4 (dk_at dksL_law_44 15 rfl rfl)
theorem dL_law_1148 : decode cL_law 1148 = .ok (.iconst 0, 1) := dk_3 (dk_at dksL_law_44 18 rfl rfl)
theorem dL_law_1149 : decode cL_law 1149 = .ok (.invokevirtual 160, 3) := dk_182 0 160 (dk_at dksL_law_44 19 rfl rfl)
theorem dL_law_1152 : decode cL_law 1152 = .ok (.istore 7, 2) := dk_54 7 (dk_at dksL_law_44 22 rfl rfl)
theorem dL_law_1154 : decode cL_law 1154 = .ok (.aload_n 2, 1) := dk_44 (dk_at dksL_law_45 0 rfl rfl)
theorem dL_law_1155 : decode cL_law 1155 = .ok (.invokevirtual 115, 3) := dk_182 0 115 (dk_at dksL_law_45 1 rfl rfl)
theorem dL_law_1158 : decode cL_law 1158 = .ok (.iload 6, 2) := dk_21 6 (dk_at dksL_law_45 4 rfl rfl)
theorem dL_law_1160 : decode cL_law 1160 = .ok (.if_icmp .eq 5, 3) := dk_159 0 5 (dk_at dksL_law_45 6 rfl rfl)
theorem dL_law_1163 : decode cL_law 1163 = .ok (.iconst 0, 1) := dk_3 (dk_at dksL_law_45 9 rfl rfl)
theorem dL_law_1164 : decode cL_law 1164 = .ok (.ireturn, 1) := dk_172 (dk_at dksL_law_45 10 rfl rfl)
theorem dL_law_1165 : decode cL_law 1165 = .ok (.iload 6, 2) := dk_21 6 (dk_at dksL_law_45 11 rfl rfl)
theorem dL_law_1167 : decode cL_law 1167 = .ok (.ifCond .ne 15, 3) := dk_154 0 15 (dk_at dksL_law_45 13 rfl rfl)
theorem dL_law_1170 : decode cL_law 1170 = .ok (.aload_n 3, 1) := dk_45 (dk_at dksL_law_45 16 rfl rfl)
theorem dL_law_1171 : decode cL_law 1171 = .ok (.iconst 0, 1) := dk_3 (dk_at dksL_law_45 17 rfl rfl)
theorem dL_law_1172 : decode cL_law 1172 = .ok (.laload, 1) := dk_47 (dk_at dksL_law_45 18 rfl rfl)
theorem dL_law_1173 : decode cL_law 1173 = .ok (.iload 7, 2) := dk_21 7 (dk_at dksL_law_45 19 rfl rfl)
theorem dL_law_1175 : decode cL_law 1175 = .ok (.i2l, 1) := dk_133 (dk_at dksL_law_45 21 rfl rfl)
theorem dL_law_1176 : decode cL_law 1176 = .ok (.lcmp, 1) := dk_148 (dk_at dksL_law_45 22 rfl rfl)
theorem dL_law_1177 : decode cL_law 1177 = .ok (.ifCond .eq 5, 3) := dk_153 0 5 (dk_at dksL_law_46 0 rfl rfl)
theorem dL_law_1180 : decode cL_law 1180 = .ok (.iconst 0, 1) := dk_3 (dk_at dksL_law_46 3 rfl rfl)
theorem dL_law_1181 : decode cL_law 1181 = .ok (.ireturn, 1) := dk_172 (dk_at dksL_law_46 4 rfl rfl)
theorem dL_law_1182 : decode cL_law 1182 = .ok (.goto 642, 3) := dk_167 2 130 (dk_at dksL_law_46 5 rfl rfl)
theorem dL_law_1185 : decode cL_law 1185 = .ok (.aload_n 1, 1) := dk_43 (dk_at dksL_law_46 8 rfl rfl)
theorem dL_law_1186 : decode cL_law 1186 = .ok (.aload_n 0, 1) := dk_42 (dk_at dksL_law_46 9 rfl rfl)
theorem dL_law_1187 : decode cL_law 1187 = .ok (.iload 5, 2) := dk_21 5 (dk_at dksL_law_46 10 rfl rfl)
theorem dL_law_1189 : decode cL_law 1189 = .ok (.iconst 1, 1) := dk_4 (dk_at dksL_law_46 12 rfl rfl)
theorem dL_law_1190 : decode cL_law 1190 = .ok (.iadd, 1) := dk_96 (dk_at dksL_law_46 13 rfl rfl)
theorem dL_law_1191 : decode cL_law 1191 = .ok (.iaload, 1) := dk_46 (dk_at dksL_law_46 14 rfl rfl)
theorem dL_law_1192 : decode cL_law 1192 = .ok (.aload_n 3, 1) := dk_45 (dk_at dksL_law_46 15 rfl rfl)
theorem dL_law_1193 : decode cL_law 1193 = .ok (.invokestatic 161, 3) := dk_184 0 161 (dk_at dksL_law_46 16 rfl rfl)
theorem dL_law_1196 : decode cL_law 1196 = .ok (.istore 6, 2) := dk_54 6 (dk_at dksL_law_46 19 rfl rfl)
theorem dL_law_1198 : decode cL_law 1198 = .ok (.aload_n 2, 1) := dk_44 (dk_at dksL_law_46 21 rfl rfl)
theorem dL_law_1199 : decode cL_law 1199 = .ok (.aload_n 0, 1) := dk_42 (dk_at dksL_law_46 22 rfl rfl)
theorem dL_law_1200 : decode cL_law 1200 = .ok (.iload 5, 2) := dk_21 5 (dk_at dksL_law_47 0 rfl rfl)
theorem dL_law_1202 : decode cL_law 1202 = .ok (.iconst 1, 1) := dk_4 (dk_at dksL_law_47 2 rfl rfl)
theorem dL_law_1203 : decode cL_law 1203 = .ok (.iadd, 1) := dk_96 (dk_at dksL_law_47 3 rfl rfl)
theorem dL_law_1204 : decode cL_law 1204 = .ok (.iaload, 1) := dk_46 (dk_at dksL_law_47 4 rfl rfl)
theorem dL_law_1205 : decode cL_law 1205 = .ok (.invokevirtual 163, 3) := dk_182 0 163 (dk_at dksL_law_47 5 rfl rfl)
theorem dL_law_1208 : decode cL_law 1208 = .ok (.istore 7, 2) := dk_54 7 (dk_at dksL_law_47 8 rfl rfl)
theorem dL_law_1210 : decode cL_law 1210 = .ok (.aload_n 2, 1) := dk_44 (dk_at dksL_law_47 10 rfl rfl)
theorem dL_law_1211 : decode cL_law 1211 = .ok (.invokevirtual 115, 3) := dk_182 0 115 (dk_at dksL_law_47 11 rfl rfl)
theorem dL_law_1214 : decode cL_law 1214 = .ok (.iload 6, 2) := dk_21 6 (dk_at dksL_law_47 14 rfl rfl)
theorem dL_law_1216 : decode cL_law 1216 = .ok (.if_icmp .eq 5, 3) := dk_159 0 5 (dk_at dksL_law_47 16 rfl rfl)
theorem dL_law_1219 : decode cL_law 1219 = .ok (.iconst 0, 1) := dk_3 (dk_at dksL_law_47 19 rfl rfl)
theorem dL_law_1220 : decode cL_law 1220 = .ok (.ireturn, 1) := dk_172 (dk_at dksL_law_47 20 rfl rfl)
theorem dL_law_1221 : decode cL_law 1221 = .ok (.iload 6, 2) := dk_21 6 (dk_at dksL_law_47 21 rfl rfl)
theorem dL_law_1223 : decode cL_law 1223 = .ok (.ifCond .ne 15, 3) := dk_154 0 15 (dk_at dksL_law_48 0 rfl rfl)
theorem dL_law_1226 : decode cL_law 1226 = .ok (.aload_n 3, 1) := dk_45 (dk_at dksL_law_48 3 rfl rfl)
theorem dL_law_1227 : decode cL_law 1227 = .ok (.iconst 0, 1) := dk_3 (dk_at dksL_law_48 4 rfl rfl)
theorem dL_law_1228 : decode cL_law 1228 = .ok (.laload, 1) := dk_47 (dk_at dksL_law_48 5 rfl rfl)
theorem dL_law_1229 : decode cL_law 1229 = .ok (.iload 7, 2) := dk_21 7 (dk_at dksL_law_48 6 rfl rfl)
theorem dL_law_1231 : decode cL_law 1231 = .ok (.i2l, 1) := dk_133 (dk_at dksL_law_48 8 rfl rfl)
theorem dL_law_1232 : decode cL_law 1232 = .ok (.lcmp, 1) := dk_148 (dk_at dksL_law_48 9 rfl rfl)
theorem dL_law_1233 : decode cL_law 1233 = .ok (.ifCond .eq 5, 3) := dk_153 0 5 (dk_at dksL_law_48 10 rfl rfl)
theorem dL_law_1236 : decode cL_law 1236 = .ok (.iconst 0, 1) := dk_3 (dk_at dksL_law_48 13 rfl rfl)
theorem dL_law_1237 : decode cL_law 1237 = .ok (.ireturn, 1) := dk_172 (dk_at dksL_law_48 14 rfl rfl)
theorem dL_law_1238 : decode cL_law 1238 = .ok (.goto 586, 3) := dk_167 2 74 (dk_at dksL_law_48 15 rfl rfl)
theorem dL_law_1241 : decode cL_law 1241 = .ok (.aload_n 1, 1) := dk_43 (dk_at dksL_law_48 18 rfl rfl)
theorem dL_law_1242 : decode cL_law 1242 = .ok (.aload_n 0, 1) := dk_42 (dk_at dksL_law_48 19 rfl rfl)
theorem dL_law_1243 : decode cL_law 1243 = .ok (.iload 5, 2) := dk_21 5 (dk_at dksL_law_48 20 rfl rfl)
theorem dL_law_1245 : decode cL_law 1245 = .ok (.iconst 1, 1) := dk_4 (dk_at dksL_law_48 22 rfl rfl)
theorem dL_law_1246 : decode cL_law 1246 = .ok (.iadd, 1) := dk_96 (dk_at dksL_law_48 23 rfl rfl)
theorem dL_law_1247 : decode cL_law 1247 = .ok (.iaload, 1) := dk_46 (dk_at dksL_law_49 0 rfl rfl)
theorem dL_law_1248 : decode cL_law 1248 = .ok (.aload_n 3, 1) := dk_45 (dk_at dksL_law_49 1 rfl rfl)
theorem dL_law_1249 : decode cL_law 1249 = .ok (.invokestatic 164, 3) := dk_184 0 164 (dk_at dksL_law_49 2 rfl rfl)
theorem dL_law_1252 : decode cL_law 1252 = .ok (.istore 6, 2) := dk_54 6 (dk_at dksL_law_49 5 rfl rfl)
theorem dL_law_1254 : decode cL_law 1254 = .ok (.aload_n 2, 1) := dk_44 (dk_at dksL_law_49 7 rfl rfl)
theorem dL_law_1255 : decode cL_law 1255 = .ok (.aload_n 0, 1) := dk_42 (dk_at dksL_law_49 8 rfl rfl)
theorem dL_law_1256 : decode cL_law 1256 = .ok (.iload 5, 2) := dk_21 5 (dk_at dksL_law_49 9 rfl rfl)
theorem dL_law_1258 : decode cL_law 1258 = .ok (.iconst 1, 1) := dk_4 (dk_at dksL_law_49 11 rfl rfl)
theorem dL_law_1259 : decode cL_law 1259 = .ok (.iadd, 1) := dk_96 (dk_at dksL_law_49 12 rfl rfl)
theorem dL_law_1260 : decode cL_law 1260 = .ok (.iaload, 1) := dk_46 (dk_at dksL_law_49 13 rfl rfl)
theorem dL_law_1261 : decode cL_law 1261 = .ok (.invokevirtual 166, 3) := dk_182 0 166 (dk_at dksL_law_49 14 rfl rfl)
theorem dL_law_1264 : decode cL_law 1264 = .ok (.istore 7, 2) := dk_54 7 (dk_at dksL_law_49 17 rfl rfl)
theorem dL_law_1266 : decode cL_law 1266 = .ok (.aload_n 2, 1) := dk_44 (dk_at dksL_law_49 19 rfl rfl)
theorem dL_law_1267 : decode cL_law 1267 = .ok (.invokevirtual 115, 3) := dk_182 0 115 (dk_at dksL_law_49 20 rfl rfl)
theorem dL_law_1270 : decode cL_law 1270 = .ok (.iload 6, 2) := dk_21 6 (dk_at dksL_law_50 0 rfl rfl)
theorem dL_law_1272 : decode cL_law 1272 = .ok (.if_icmp .eq 5, 3) := dk_159 0 5 (dk_at dksL_law_50 2 rfl rfl)
theorem dL_law_1275 : decode cL_law 1275 = .ok (.iconst 0, 1) := dk_3 (dk_at dksL_law_50 5 rfl rfl)
theorem dL_law_1276 : decode cL_law 1276 = .ok (.ireturn, 1) := dk_172 (dk_at dksL_law_50 6 rfl rfl)
theorem dL_law_1277 : decode cL_law 1277 = .ok (.iload 6, 2) := dk_21 6 (dk_at dksL_law_50 7 rfl rfl)
theorem dL_law_1279 : decode cL_law 1279 = .ok (.ifCond .ne 15, 3) := dk_154 0 15 (dk_at dksL_law_50 9 rfl rfl)
theorem dL_law_1282 : decode cL_law 1282 = .ok (.aload_n 3, 1) := dk_45 (dk_at dksL_law_50 12 rfl rfl)
theorem dL_law_1283 : decode cL_law 1283 = .ok (.iconst 0, 1) := dk_3 (dk_at dksL_law_50 13 rfl rfl)
theorem dL_law_1284 : decode cL_law 1284 = .ok (.laload, 1) := dk_47 (dk_at dksL_law_50 14 rfl rfl)
theorem dL_law_1285 : decode cL_law 1285 = .ok (.iload 7, 2) := dk_21 7 (dk_at dksL_law_50 15 rfl rfl)
theorem dL_law_1287 : decode cL_law 1287 = .ok (.i2l, 1) := dk_133 (dk_at dksL_law_50 17 rfl rfl)
theorem dL_law_1288 : decode cL_law 1288 = .ok (.lcmp, 1) := dk_148 (dk_at dksL_law_50 18 rfl rfl)
theorem dL_law_1289 : decode cL_law 1289 = .ok (.ifCond .eq 5, 3) := dk_153 0 5 (dk_at dksL_law_50 19 rfl rfl)
theorem dL_law_1292 : decode cL_law 1292 = .ok (.iconst 0, 1) := dk_3 (dk_at dksL_law_50 22 rfl rfl)
theorem dL_law_1293 : decode cL_law 1293 = .ok (.ireturn, 1) := dk_172 (dk_at dksL_law_50 23 rfl rfl)
theorem dL_law_1294 : decode cL_law 1294 = .ok (.goto 530, 3) := dk_167 2 18 (dk_at dksL_law_51 0 rfl rfl)
theorem dL_law_1297 : decode cL_law 1297 = .ok (.aload_n 1, 1) := dk_43 (dk_at dksL_law_51 3 rfl rfl)
theorem dL_law_1298 : decode cL_law 1298 = .ok (.aload_n 3, 1) := dk_45 (dk_at dksL_law_51 4 rfl rfl)
theorem dL_law_1299 : decode cL_law 1299 = .ok (.invokestatic 167, 3) := dk_184 0 167 (dk_at dksL_law_51 5 rfl rfl)
theorem dL_law_1302 : decode cL_law 1302 = .ok (.istore 6, 2) := dk_54 6 (dk_at dksL_law_51 8 rfl rfl)
theorem dL_law_1304 : decode cL_law 1304 = .ok (.aload_n 2, 1) := dk_44 (dk_at dksL_law_51 10 rfl rfl)
theorem dL_law_1305 : decode cL_law 1305 = .ok (.invokevirtual 170, 3) := dk_182 0 170 (dk_at dksL_law_51 11 rfl rfl)
theorem dL_law_1308 : decode cL_law 1308 = .ok (.istore 7, 2) := dk_54 7 (dk_at dksL_law_51 14 rfl rfl)
theorem dL_law_1310 : decode cL_law 1310 = .ok (.aload_n 2, 1) := dk_44 (dk_at dksL_law_51 16 rfl rfl)
theorem dL_law_1311 : decode cL_law 1311 = .ok (.invokevirtual 115, 3) := dk_182 0 115 (dk_at dksL_law_51 17 rfl rfl)
theorem dL_law_1314 : decode cL_law 1314 = .ok (.iload 6, 2) := dk_21 6 (dk_at dksL_law_51 20 rfl rfl)
theorem dL_law_1316 : decode cL_law 1316 = .ok (.if_icmp .eq 5, 3) := dk_159 0 5 (dk_at dksL_law_52 0 rfl rfl)
theorem dL_law_1319 : decode cL_law 1319 = .ok (.iconst 0, 1) := dk_3 (dk_at dksL_law_52 3 rfl rfl)
theorem dL_law_1320 : decode cL_law 1320 = .ok (.ireturn, 1) := dk_172 (dk_at dksL_law_52 4 rfl rfl)
theorem dL_law_1321 : decode cL_law 1321 = .ok (.iload 6, 2) := dk_21 6 (dk_at dksL_law_52 5 rfl rfl)
theorem dL_law_1323 : decode cL_law 1323 = .ok (.ifCond .ne 15, 3) := dk_154 0 15 (dk_at dksL_law_52 7 rfl rfl)
theorem dL_law_1326 : decode cL_law 1326 = .ok (.aload_n 3, 1) := dk_45 (dk_at dksL_law_52 10 rfl rfl)
theorem dL_law_1327 : decode cL_law 1327 = .ok (.iconst 0, 1) := dk_3 (dk_at dksL_law_52 11 rfl rfl)
theorem dL_law_1328 : decode cL_law 1328 = .ok (.laload, 1) := dk_47 (dk_at dksL_law_52 12 rfl rfl)
theorem dL_law_1329 : decode cL_law 1329 = .ok (.iload 7, 2) := dk_21 7 (dk_at dksL_law_52 13 rfl rfl)
theorem dL_law_1331 : decode cL_law 1331 = .ok (.i2l, 1) := dk_133 (dk_at dksL_law_52 15 rfl rfl)
theorem dL_law_1332 : decode cL_law 1332 = .ok (.lcmp, 1) := dk_148 (dk_at dksL_law_52 16 rfl rfl)
theorem dL_law_1333 : decode cL_law 1333 = .ok (.ifCond .eq 5, 3) := dk_153 0 5 (dk_at dksL_law_52 17 rfl rfl)
theorem dL_law_1336 : decode cL_law 1336 = .ok (.iconst 0, 1) := dk_3 (dk_at dksL_law_52 20 rfl rfl)
theorem dL_law_1337 : decode cL_law 1337 = .ok (.ireturn, 1) := dk_172 (dk_at dksL_law_52 21 rfl rfl)
theorem dL_law_1338 : decode cL_law 1338 = .ok (.goto 486, 3) := dk_167 1 230 (dk_at dksL_law_53 0 rfl rfl)
theorem dL_law_1341 : decode cL_law 1341 = .ok (.aload_n 1, 1) := dk_43 (dk_at dksL_law_53 3 rfl rfl)
theorem dL_law_1342 : decode cL_law 1342 = .ok (.invokevirtual 171, 3) := dk_182 0 171 (dk_at dksL_law_53 4 rfl rfl)
theorem dL_law_1345 : decode cL_law 1345 = .ok (.aload_n 2, 1) := dk_44 (dk_at dksL_law_53 7 rfl rfl)
theorem dL_law_1346 : decode cL_law 1346 = .ok (.invokevirtual 175, 3) := dk_182 0 175 (dk_at dksL_law_53 8 rfl rfl)
theorem dL_law_1349 : decode cL_law 1349 = .ok (.if_icmp .eq 475, 3) := dk_159 1 219 (dk_at dksL_law_53 11 rfl rfl)
theorem dL_law_1352 : decode cL_law 1352 = .ok (.iconst 0, 1) := dk_3 (dk_at dksL_law_53 14 rfl rfl)
theorem dL_law_1353 : decode cL_law 1353 = .ok (.ireturn, 1) := dk_172 (dk_at dksL_law_53 15 rfl rfl)
theorem dL_law_1354 : decode cL_law 1354 = .ok (.aload_n 1, 1) := dk_43 (dk_at dksL_law_53 16 rfl rfl)
theorem dL_law_1355 : decode cL_law 1355 = .ok (.aload_n 0, 1) := dk_42 (dk_at dksL_law_53 17 rfl rfl)
theorem dL_law_1356 : decode cL_law 1356 = .ok (.iload 5, 2) := dk_21 5 (dk_at dksL_law_53 18 rfl rfl)
theorem dL_law_1358 : decode cL_law 1358 = .ok (.iconst 1, 1) := dk_4 (dk_at dksL_law_53 20 rfl rfl)
theorem dL_law_1359 : decode cL_law 1359 = .ok (.iadd, 1) := dk_96 (dk_at dksL_law_53 21 rfl rfl)
theorem dL_law_1360 : decode cL_law 1360 = .ok (.iaload, 1) := dk_46 (dk_at dksL_law_53 22 rfl rfl)
theorem dL_law_1361 : decode cL_law 1361 = .ok (.aload_n 0, 1) := dk_42 (dk_at dksL_law_53 23 rfl rfl)
theorem dL_law_1362 : decode cL_law 1362 = .ok (.iload 5, 2) := dk_21 5 (dk_at dksL_law_54 0 rfl rfl)
theorem dL_law_1364 : decode cL_law 1364 = .ok (.iconst 2, 1) := dk_5 (dk_at dksL_law_54 2 rfl rfl)
theorem dL_law_1365 : decode cL_law 1365 = .ok (.iadd, 1) := dk_96 (dk_at dksL_law_54 3 rfl rfl)
theorem dL_law_1366 : decode cL_law 1366 = .ok (.iaload, 1) := dk_46 (dk_at dksL_law_54 4 rfl rfl)
theorem dL_law_1367 : decode cL_law 1367 = .ok (.aload_n 3, 1) := dk_45 (dk_at dksL_law_54 5 rfl rfl)
theorem dL_law_1368 : decode cL_law 1368 = .ok (.invokestatic 176, 3) := dk_184 0 176 (dk_at dksL_law_54 6 rfl rfl)
theorem dL_law_1371 : decode cL_law 1371 = .ok (.istore 6, 2) := dk_54 6 (dk_at dksL_law_54 9 rfl rfl)
theorem dL_law_1373 : decode cL_law 1373 = .ok (.aload_n 2, 1) := dk_44 (dk_at dksL_law_54 11 rfl rfl)
theorem dL_law_1374 : decode cL_law 1374 = .ok (.aload_n 0, 1) := dk_42 (dk_at dksL_law_54 12 rfl rfl)
theorem dL_law_1375 : decode cL_law 1375 = .ok (.iload 5, 2) := dk_21 5 (dk_at dksL_law_54 13 rfl rfl)
theorem dL_law_1377 : decode cL_law 1377 = .ok (.iconst 1, 1) := dk_4 (dk_at dksL_law_54 15 rfl rfl)
theorem dL_law_1378 : decode cL_law 1378 = .ok (.iadd, 1) := dk_96 (dk_at dksL_law_54 16 rfl rfl)
theorem dL_law_1379 : decode cL_law 1379 = .ok (.iaload, 1) := dk_46 (dk_at dksL_law_54 17 rfl rfl)
theorem dL_law_1380 : decode cL_law 1380 = .ok (.aload_n 0, 1) := dk_42 (dk_at dksL_law_54 18 rfl rfl)
theorem dL_law_1381 : decode cL_law 1381 = .ok (.iload 5, 2) := dk_21 5 (dk_at dksL_law_54 19 rfl rfl)
theorem dL_law_1383 : decode cL_law 1383 = .ok (.iconst 2, 1) := dk_5 (dk_at dksL_law_54 21 rfl rfl)
theorem dL_law_1384 : decode cL_law 1384 = .ok (.iadd, 1) := dk_96 (dk_at dksL_law_54 22 rfl rfl)
theorem dL_law_1385 : decode cL_law 1385 = .ok (.iaload, 1) := dk_46 (dk_at dksL_law_54 23 rfl rfl)
theorem dL_law_1386 : decode cL_law 1386 = .ok (.invokevirtual 178, 3) := dk_182 0 178 (dk_at dksL_law_55 0 rfl rfl)
theorem dL_law_1389 : decode cL_law 1389 = .ok (.istore 7, 2) := dk_54 7 (dk_at dksL_law_55 3 rfl rfl)
theorem dL_law_1391 : decode cL_law 1391 = .ok (.aload_n 2, 1) := dk_44 (dk_at dksL_law_55 5 rfl rfl)
theorem dL_law_1392 : decode cL_law 1392 = .ok (.invokevirtual 115, 3) := dk_182 0 115 (dk_at dksL_law_55 6 rfl rfl)
theorem dL_law_1395 : decode cL_law 1395 = .ok (.iload 6, 2) := dk_21 6 (dk_at dksL_law_55 9 rfl rfl)
theorem dL_law_1397 : decode cL_law 1397 = .ok (.if_icmp .eq 5, 3) := dk_159 0 5 (dk_at dksL_law_55 11 rfl rfl)
theorem dL_law_1400 : decode cL_law 1400 = .ok (.iconst 0, 1) := dk_3 (dk_at dksL_law_55 14 rfl rfl)
theorem dL_law_1401 : decode cL_law 1401 = .ok (.ireturn, 1) := dk_172 (dk_at dksL_law_55 15 rfl rfl)
theorem dL_law_1402 : decode cL_law 1402 = .ok (.iload 6, 2) := dk_21 6 (dk_at dksL_law_55 16 rfl rfl)
theorem dL_law_1404 : decode cL_law 1404 = .ok (.ifCond .ne 15, 3) := dk_154 0 15 (dk_at dksL_law_55 18 rfl rfl)
theorem dL_law_1407 : decode cL_law 1407 = .ok (.aload_n 3, 1) := dk_45 (dk_at dksL_law_55 21 rfl rfl)
theorem dL_law_1408 : decode cL_law 1408 = .ok (.iconst 0, 1) := dk_3 (dk_at dksL_law_55 22 rfl rfl)
theorem dL_law_1409 : decode cL_law 1409 = .ok (.laload, 1) := dk_47 (dk_at dksL_law_55 23 rfl rfl)
theorem dL_law_1410 : decode cL_law 1410 = .ok (.iload 7, 2) := dk_21 7 (dk_at dksL_law_56 0 rfl rfl)
theorem dL_law_1412 : decode cL_law 1412 = .ok (.i2l, 1) := dk_133 (dk_at dksL_law_56 2 rfl rfl)
theorem dL_law_1413 : decode cL_law 1413 = .ok (.lcmp, 1) := dk_148 (dk_at dksL_law_56 3 rfl rfl)
theorem dL_law_1414 : decode cL_law 1414 = .ok (.ifCond .eq 5, 3) := dk_153 0 5 (dk_at dksL_law_56 4 rfl rfl)
theorem dL_law_1417 : decode cL_law 1417 = .ok (.iconst 0, 1) := dk_3 (dk_at dksL_law_56 7 rfl rfl)
theorem dL_law_1418 : decode cL_law 1418 = .ok (.ireturn, 1) := dk_172 (dk_at dksL_law_56 8 rfl rfl)
theorem dL_law_1419 : decode cL_law 1419 = .ok (.goto 405, 3) := dk_167 1 149 (dk_at dksL_law_56 9 rfl rfl)
theorem dL_law_1422 : decode cL_law 1422 = .ok (.aload_n 1, 1) := dk_43 (dk_at dksL_law_56 12 rfl rfl)
theorem dL_law_1423 : decode cL_law 1423 = .ok (.aload_n 0, 1) := dk_42 (dk_at dksL_law_56 13 rfl rfl)
theorem dL_law_1424 : decode cL_law 1424 = .ok (.iload 5, 2) := dk_21 5 (dk_at dksL_law_56 14 rfl rfl)
theorem dL_law_1426 : decode cL_law 1426 = .ok (.iconst 1, 1) := dk_4 (dk_at dksL_law_56 16 rfl rfl)
theorem dL_law_1427 : decode cL_law 1427 = .ok (.iadd, 1) := dk_96 (dk_at dksL_law_56 17 rfl rfl)
theorem dL_law_1428 : decode cL_law 1428 = .ok (.iaload, 1) := dk_46 (dk_at dksL_law_56 18 rfl rfl)
theorem dL_law_1429 : decode cL_law 1429 = .ok (.aload_n 3, 1) := dk_45 (dk_at dksL_law_56 19 rfl rfl)
theorem dL_law_1430 : decode cL_law 1430 = .ok (.invokestatic 179, 3) := dk_184 0 179 (dk_at dksL_law_56 20 rfl rfl)
theorem dL_law_1433 : decode cL_law 1433 = .ok (.istore 6, 2) := dk_54 6 (dk_at dksL_law_57 0 rfl rfl)
theorem dL_law_1435 : decode cL_law 1435 = .ok (.aload_n 2, 1) := dk_44 (dk_at dksL_law_57 2 rfl rfl)
theorem dL_law_1436 : decode cL_law 1436 = .ok (.aload_n 0, 1) := dk_42 (dk_at dksL_law_57 3 rfl rfl)
theorem dL_law_1437 : decode cL_law 1437 = .ok (.iload 5, 2) := dk_21 5 (dk_at dksL_law_57 4 rfl rfl)
theorem dL_law_1439 : decode cL_law 1439 = .ok (.iconst 1, 1) := dk_4 (dk_at dksL_law_57 6 rfl rfl)
theorem dL_law_1440 : decode cL_law 1440 = .ok (.iadd, 1) := dk_96 (dk_at dksL_law_57 7 rfl rfl)
theorem dL_law_1441 : decode cL_law 1441 = .ok (.iaload, 1) := dk_46 (dk_at dksL_law_57 8 rfl rfl)
theorem dL_law_1442 : decode cL_law 1442 = .ok (.invokevirtual 181, 3) := dk_182 0 181 (dk_at dksL_law_57 9 rfl rfl)
theorem dL_law_1445 : decode cL_law 1445 = .ok (.istore 7, 2) := dk_54 7 (dk_at dksL_law_57 12 rfl rfl)
theorem dL_law_1447 : decode cL_law 1447 = .ok (.aload_n 2, 1) := dk_44 (dk_at dksL_law_57 14 rfl rfl)
theorem dL_law_1448 : decode cL_law 1448 = .ok (.invokevirtual 115, 3) := dk_182 0 115 (dk_at dksL_law_57 15 rfl rfl)
theorem dL_law_1451 : decode cL_law 1451 = .ok (.iload 6, 2) := dk_21 6 (dk_at dksL_law_57 18 rfl rfl)
theorem dL_law_1453 : decode cL_law 1453 = .ok (.if_icmp .eq 5, 3) := dk_159 0 5 (dk_at dksL_law_57 20 rfl rfl)
theorem dL_law_1456 : decode cL_law 1456 = .ok (.iconst 0, 1) := dk_3 (dk_at dksL_law_57 23 rfl rfl)
theorem dL_law_1457 : decode cL_law 1457 = .ok (.ireturn, 1) := dk_172 (dk_at dksL_law_58 0 rfl rfl)
theorem dL_law_1458 : decode cL_law 1458 = .ok (.iload 6, 2) := dk_21 6 (dk_at dksL_law_58 1 rfl rfl)
theorem dL_law_1460 : decode cL_law 1460 = .ok (.ifCond .ne 15, 3) := dk_154 0 15 (dk_at dksL_law_58 3 rfl rfl)
theorem dL_law_1463 : decode cL_law 1463 = .ok (.aload_n 3, 1) := dk_45 (dk_at dksL_law_58 6 rfl rfl)
theorem dL_law_1464 : decode cL_law 1464 = .ok (.iconst 0, 1) := dk_3 (dk_at dksL_law_58 7 rfl rfl)
theorem dL_law_1465 : decode cL_law 1465 = .ok (.laload, 1) := dk_47 (dk_at dksL_law_58 8 rfl rfl)
theorem dL_law_1466 : decode cL_law 1466 = .ok (.iload 7, 2) := dk_21 7 (dk_at dksL_law_58 9 rfl rfl)
theorem dL_law_1468 : decode cL_law 1468 = .ok (.i2l, 1) := dk_133 (dk_at dksL_law_58 11 rfl rfl)
theorem dL_law_1469 : decode cL_law 1469 = .ok (.lcmp, 1) := dk_148 (dk_at dksL_law_58 12 rfl rfl)
theorem dL_law_1470 : decode cL_law 1470 = .ok (.ifCond .eq 5, 3) := dk_153 0 5 (dk_at dksL_law_58 13 rfl rfl)
theorem dL_law_1473 : decode cL_law 1473 = .ok (.iconst 0, 1) := dk_3 (dk_at dksL_law_58 16 rfl rfl)
theorem dL_law_1474 : decode cL_law 1474 = .ok (.ireturn, 1) := dk_172 (dk_at dksL_law_58 17 rfl rfl)
theorem dL_law_1475 : decode cL_law 1475 = .ok (.goto 349, 3) := dk_167 1 93 (dk_at dksL_law_58 18 rfl rfl)
theorem dL_law_1478 : decode cL_law 1478 = .ok (.aload_n 1, 1) := dk_43 (dk_at dksL_law_58 21 rfl rfl)
theorem dL_law_1479 : decode cL_law 1479 = .ok (.aload_n 0, 1) := dk_42 (dk_at dksL_law_58 22 rfl rfl)
theorem dL_law_1480 : decode cL_law 1480 = .ok (.iload 5, 2) := dk_21 5 (dk_at dksL_law_59 0 rfl rfl)
theorem dL_law_1482 : decode cL_law 1482 = .ok (.iconst 1, 1) := dk_4 (dk_at dksL_law_59 2 rfl rfl)
theorem dL_law_1483 : decode cL_law 1483 = .ok (.iadd, 1) := dk_96 (dk_at dksL_law_59 3 rfl rfl)
theorem dL_law_1484 : decode cL_law 1484 = .ok (.iaload, 1) := dk_46 (dk_at dksL_law_59 4 rfl rfl)
theorem dL_law_1485 : decode cL_law 1485 = .ok (.aload 4, 2) := dk_25 4 (dk_at dksL_law_59 5 rfl rfl)
theorem dL_law_1487 : decode cL_law 1487 = .ok (.invokestatic 182, 3) := dk_184 0 182 (dk_at dksL_law_59 7 rfl rfl)
theorem dL_law_1490 : decode cL_law 1490 = .ok (.istore 6, 2) := dk_54 6 (dk_at dksL_law_59 10 rfl rfl)
theorem dL_law_1492 : decode cL_law 1492 = .ok (.aload_n 2, 1) := dk_44 (dk_at dksL_law_59 12 rfl rfl)
theorem dL_law_1493 : decode cL_law 1493 = .ok (.aload_n 0, 1) := dk_42 (dk_at dksL_law_59 13 rfl rfl)
theorem dL_law_1494 : decode cL_law 1494 = .ok (.iload 5, 2) := dk_21 5 (dk_at dksL_law_59 14 rfl rfl)
theorem dL_law_1496 : decode cL_law 1496 = .ok (.iconst 1, 1) := dk_4 (dk_at dksL_law_59 16 rfl rfl)
theorem dL_law_1497 : decode cL_law 1497 = .ok (.iadd, 1) := dk_96 (dk_at dksL_law_59 17 rfl rfl)
theorem dL_law_1498 : decode cL_law 1498 = .ok (.iaload, 1) := dk_46 (dk_at dksL_law_59 18 rfl rfl)
theorem dL_law_1499 : decode cL_law 1499 = .ok (.invokevirtual 185, 3) := dk_182 0 185 (dk_at dksL_law_59 19 rfl rfl)
theorem dL_law_1502 : decode cL_law 1502 = .ok (.fstore 7, 2) := dk_56 7 (dk_at dksL_law_59 22 rfl rfl)
theorem dL_law_1504 : decode cL_law 1504 = .ok (.aload_n 2, 1) := dk_44 (dk_at dksL_law_60 0 rfl rfl)
theorem dL_law_1505 : decode cL_law 1505 = .ok (.invokevirtual 115, 3) := dk_182 0 115 (dk_at dksL_law_60 1 rfl rfl)
theorem dL_law_1508 : decode cL_law 1508 = .ok (.iload 6, 2) := dk_21 6 (dk_at dksL_law_60 4 rfl rfl)
theorem dL_law_1510 : decode cL_law 1510 = .ok (.if_icmp .eq 5, 3) := dk_159 0 5 (dk_at dksL_law_60 6 rfl rfl)
theorem dL_law_1513 : decode cL_law 1513 = .ok (.iconst 0, 1) := dk_3 (dk_at dksL_law_60 9 rfl rfl)
theorem dL_law_1514 : decode cL_law 1514 = .ok (.ireturn, 1) := dk_172 (dk_at dksL_law_60 10 rfl rfl)
theorem dL_law_1515 : decode cL_law 1515 = .ok (.iload 6, 2) := dk_21 6 (dk_at dksL_law_60 11 rfl rfl)
theorem dL_law_1517 : decode cL_law 1517 = .ok (.ifCond .ne 36, 3) := dk_154 0 36 (dk_at dksL_law_60 13 rfl rfl)
theorem dL_law_1520 : decode cL_law 1520 = .ok (.aload 4, 2) := dk_25 4 (dk_at dksL_law_60 16 rfl rfl)
theorem dL_law_1522 : decode cL_law 1522 = .ok (.iconst 0, 1) := dk_3 (dk_at dksL_law_60 18 rfl rfl)
theorem dL_law_1523 : decode cL_law 1523 = .ok (.daload, 1) := dk_49 (dk_at dksL_law_60 19 rfl rfl)
theorem dL_law_1524 : decode cL_law 1524 = .ok (.fload 7, 2) := dk_23 7 (dk_at dksL_law_60 20 rfl rfl)
theorem dL_law_1526 : decode cL_law 1526 = .ok (.f2d, 1) := dk_141 (dk_at dksL_law_60 22 rfl rfl)
theorem dL_law_1527 : decode cL_law 1527 = .ok (.dcmp .l, 1) := dk_151 (dk_at dksL_law_60 23 rfl rfl)
theorem dL_law_1528 : decode cL_law 1528 = .ok (.ifCond .eq 25, 3) := dk_153 0 25 (dk_at dksL_law_61 0 rfl rfl)
theorem dL_law_1531 : decode cL_law 1531 = .ok (.aload 4, 2) := dk_25 4 (dk_at dksL_law_61 3 rfl rfl)
theorem dL_law_1533 : decode cL_law 1533 = .ok (.iconst 0, 1) := dk_3 (dk_at dksL_law_61 5 rfl rfl)
theorem dL_law_1534 : decode cL_law 1534 = .ok (.daload, 1) := dk_49 (dk_at dksL_law_61 6 rfl rfl)
theorem dL_law_1535 : decode cL_law 1535 = .ok (.aload 4, 2) := dk_25 4 (dk_at dksL_law_61 7 rfl rfl)
theorem dL_law_1537 : decode cL_law 1537 = .ok (.iconst 0, 1) := dk_3 (dk_at dksL_law_61 9 rfl rfl)
theorem dL_law_1538 : decode cL_law 1538 = .ok (.daload, 1) := dk_49 (dk_at dksL_law_61 10 rfl rfl)
theorem dL_law_1539 : decode cL_law 1539 = .ok (.dcmp .l, 1) := dk_151 (dk_at dksL_law_61 11 rfl rfl)
theorem dL_law_1540 : decode cL_law 1540 = .ok (.ifCond .eq 11, 3) := dk_153 0 11 (dk_at dksL_law_61 12 rfl rfl)
theorem dL_law_1543 : decode cL_law 1543 = .ok (.fload 7, 2) := dk_23 7 (dk_at dksL_law_61 15 rfl rfl)
theorem dL_law_1545 : decode cL_law 1545 = .ok (.fload 7, 2) := dk_23 7 (dk_at dksL_law_61 17 rfl rfl)
theorem dL_law_1547 : decode cL_law 1547 = .ok (.fcmp .l, 1) := dk_149 (dk_at dksL_law_61 19 rfl rfl)
theorem dL_law_1548 : decode cL_law 1548 = .ok (.ifCond .ne 5, 3) := dk_154 0 5 (dk_at dksL_law_61 20 rfl rfl)
theorem dL_law_1551 : decode cL_law 1551 = .ok (.iconst 0, 1) := dk_3 (dk_at dksL_law_61 23 rfl rfl)
theorem dL_law_1552 : decode cL_law 1552 = .ok (.ireturn, 1) := dk_172 (dk_at dksL_law_62 0 rfl rfl)
theorem dL_law_1553 : decode cL_law 1553 = .ok (.goto 271, 3) := dk_167 1 15 (dk_at dksL_law_62 1 rfl rfl)
theorem dL_law_1556 : decode cL_law 1556 = .ok (.aload_n 1, 1) := dk_43 (dk_at dksL_law_62 4 rfl rfl)
theorem dL_law_1557 : decode cL_law 1557 = .ok (.aload 4, 2) := dk_25 4 (dk_at dksL_law_62 5 rfl rfl)
theorem dL_law_1559 : decode cL_law 1559 = .ok (.invokestatic 186, 3) := dk_184 0 186 (dk_at dksL_law_62 7 rfl rfl)
theorem dL_law_1562 : decode cL_law 1562 = .ok (.istore 6, 2) := dk_54 6 (dk_at dksL_law_62 10 rfl rfl)
theorem dL_law_1564 : decode cL_law 1564 = .ok (.aload_n 2, 1) := dk_44 (dk_at dksL_law_62 12 rfl rfl)
theorem dL_law_1565 : decode cL_law 1565 = .ok (.invokevirtual 189, 3) := dk_182 0 189 (dk_at dksL_law_62 13 rfl rfl)
theorem dL_law_1568 : decode cL_law 1568 = .ok (.dstore 7, 2) := dk_57 7 (dk_at dksL_law_62 16 rfl rfl)
theorem dL_law_1570 : decode cL_law 1570 = .ok (.aload_n 2, 1) := dk_44 (dk_at dksL_law_62 18 rfl rfl)
theorem dL_law_1571 : decode cL_law 1571 = .ok (.invokevirtual 115, 3) := dk_182 0 115 (dk_at dksL_law_62 19 rfl rfl)
theorem dL_law_1574 : decode cL_law 1574 = .ok (.iload 6, 2) := dk_21 6 (dk_at dksL_law_62 22 rfl rfl)
theorem dL_law_1576 : decode cL_law 1576 = .ok (.if_icmp .eq 5, 3) := dk_159 0 5 (dk_at dksL_law_63 0 rfl rfl)
theorem dL_law_1579 : decode cL_law 1579 = .ok (.iconst 0, 1) := dk_3 (dk_at dksL_law_63 3 rfl rfl)
theorem dL_law_1580 : decode cL_law 1580 = .ok (.ireturn, 1) := dk_172 (dk_at dksL_law_63 4 rfl rfl)
theorem dL_law_1581 : decode cL_law 1581 = .ok (.iload 6, 2) := dk_21 6 (dk_at dksL_law_63 5 rfl rfl)
theorem dL_law_1583 : decode cL_law 1583 = .ok (.ifCond .ne 35, 3) := dk_154 0 35 (dk_at dksL_law_63 7 rfl rfl)
theorem dL_law_1586 : decode cL_law 1586 = .ok (.aload 4, 2) := dk_25 4 (dk_at dksL_law_63 10 rfl rfl)
theorem dL_law_1588 : decode cL_law 1588 = .ok (.iconst 0, 1) := dk_3 (dk_at dksL_law_63 12 rfl rfl)
theorem dL_law_1589 : decode cL_law 1589 = .ok (.daload, 1) := dk_49 (dk_at dksL_law_63 13 rfl rfl)
theorem dL_law_1590 : decode cL_law 1590 = .ok (.dload 7, 2) := dk_24 7 (dk_at dksL_law_63 14 rfl rfl)
theorem dL_law_1592 : decode cL_law 1592 = .ok (.dcmp .l, 1) := dk_151 (dk_at dksL_law_63 16 rfl rfl)
theorem dL_law_1593 : decode cL_law 1593 = .ok (.ifCond .eq 25, 3) := dk_153 0 25 (dk_at dksL_law_63 17 rfl rfl)
theorem dL_law_1596 : decode cL_law 1596 = .ok (.aload 4, 2) := dk_25 4 (dk_at dksL_law_63 20 rfl rfl)
theorem dL_law_1598 : decode cL_law 1598 = .ok (.iconst 0, 1) := dk_3 (dk_at dksL_law_63 22 rfl rfl)
theorem dL_law_1599 : decode cL_law 1599 = .ok (.daload, 1) := dk_49 (dk_at dksL_law_63 23 rfl rfl)
theorem dL_law_1600 : decode cL_law 1600 = .ok (.aload 4, 2) := dk_25 4 (dk_at dksL_law_64 0 rfl rfl)
theorem dL_law_1602 : decode cL_law 1602 = .ok (.iconst 0, 1) := dk_3 (dk_at dksL_law_64 2 rfl rfl)
theorem dL_law_1603 : decode cL_law 1603 = .ok (.daload, 1) := dk_49 (dk_at dksL_law_64 3 rfl rfl)
theorem dL_law_1604 : decode cL_law 1604 = .ok (.dcmp .l, 1) := dk_151 (dk_at dksL_law_64 4 rfl rfl)
theorem dL_law_1605 : decode cL_law 1605 = .ok (.ifCond .eq 11, 3) := dk_153 0 11 (dk_at dksL_law_64 5 rfl rfl)
theorem dL_law_1608 : decode cL_law 1608 = .ok (.dload 7, 2) := dk_24 7 (dk_at dksL_law_64 8 rfl rfl)
theorem dL_law_1610 : decode cL_law 1610 = .ok (.dload 7, 2) := dk_24 7 (dk_at dksL_law_64 10 rfl rfl)
theorem dL_law_1612 : decode cL_law 1612 = .ok (.dcmp .l, 1) := dk_151 (dk_at dksL_law_64 12 rfl rfl)
theorem dL_law_1613 : decode cL_law 1613 = .ok (.ifCond .ne 5, 3) := dk_154 0 5 (dk_at dksL_law_64 13 rfl rfl)
theorem dL_law_1616 : decode cL_law 1616 = .ok (.iconst 0, 1) := dk_3 (dk_at dksL_law_64 16 rfl rfl)
theorem dL_law_1617 : decode cL_law 1617 = .ok (.ireturn, 1) := dk_172 (dk_at dksL_law_64 17 rfl rfl)
theorem dL_law_1618 : decode cL_law 1618 = .ok (.goto 206, 3) := dk_167 0 206 (dk_at dksL_law_64 18 rfl rfl)
theorem dL_law_1621 : decode cL_law 1621 = .ok (.aload_n 1, 1) := dk_43 (dk_at dksL_law_64 21 rfl rfl)
theorem dL_law_1622 : decode cL_law 1622 = .ok (.aload_n 0, 1) := dk_42 (dk_at dksL_law_64 22 rfl rfl)
theorem dL_law_1623 : decode cL_law 1623 = .ok (.iload 5, 2) := dk_21 5 (dk_at dksL_law_65 0 rfl rfl)
theorem dL_law_1625 : decode cL_law 1625 = .ok (.iconst 1, 1) := dk_4 (dk_at dksL_law_65 2 rfl rfl)
theorem dL_law_1626 : decode cL_law 1626 = .ok (.iadd, 1) := dk_96 (dk_at dksL_law_65 3 rfl rfl)
theorem dL_law_1627 : decode cL_law 1627 = .ok (.iaload, 1) := dk_46 (dk_at dksL_law_65 4 rfl rfl)
theorem dL_law_1628 : decode cL_law 1628 = .ok (.i2c, 1) := dk_146 (dk_at dksL_law_65 5 rfl rfl)
theorem dL_law_1629 : decode cL_law 1629 = .ok (.aload_n 3, 1) := dk_45 (dk_at dksL_law_65 6 rfl rfl)
theorem dL_law_1630 : decode cL_law 1630 = .ok (.invokestatic 190, 3) := dk_184 0 190 (dk_at dksL_law_65 7 rfl rfl)
theorem dL_law_1633 : decode cL_law 1633 = .ok (.istore 6, 2) := dk_54 6 (dk_at dksL_law_65 10 rfl rfl)
theorem dL_law_1635 : decode cL_law 1635 = .ok (.aload_n 2, 1) := dk_44 (dk_at dksL_law_65 12 rfl rfl)
theorem dL_law_1636 : decode cL_law 1636 = .ok (.aload_n 0, 1) := dk_42 (dk_at dksL_law_65 13 rfl rfl)
theorem dL_law_1637 : decode cL_law 1637 = .ok (.iload 5, 2) := dk_21 5 (dk_at dksL_law_65 14 rfl rfl)
theorem dL_law_1639 : decode cL_law 1639 = .ok (.iconst 1, 1) := dk_4 (dk_at dksL_law_65 16 rfl rfl)
theorem dL_law_1640 : decode cL_law 1640 = .ok (.iadd, 1) := dk_96 (dk_at dksL_law_65 17 rfl rfl)
theorem dL_law_1641 : decode cL_law 1641 = .ok (.iaload, 1) := dk_46 (dk_at dksL_law_65 18 rfl rfl)
theorem dL_law_1642 : decode cL_law 1642 = .ok (.i2c, 1) := dk_146 (dk_at dksL_law_65 19 rfl rfl)
theorem dL_law_1643 : decode cL_law 1643 = .ok (.invokevirtual 193, 3) := dk_182 0 193 (dk_at dksL_law_65 20 rfl rfl)
theorem dL_law_1646 : decode cL_law 1646 = .ok (.istore 7, 2) := dk_54 7 (dk_at dksL_law_66 0 rfl rfl)
theorem dL_law_1648 : decode cL_law 1648 = .ok (.aload_n 2, 1) := dk_44 (dk_at dksL_law_66 2 rfl rfl)
theorem dL_law_1649 : decode cL_law 1649 = .ok (.invokevirtual 115, 3) := dk_182 0 115 (dk_at dksL_law_66 3 rfl rfl)
theorem dL_law_1652 : decode cL_law 1652 = .ok (.iload 6, 2) := dk_21 6 (dk_at dksL_law_66 6 rfl rfl)
theorem dL_law_1654 : decode cL_law 1654 = .ok (.if_icmp .eq 5, 3) := dk_159 0 5 (dk_at dksL_law_66 8 rfl rfl)
theorem dL_law_1657 : decode cL_law 1657 = .ok (.iconst 0, 1) := dk_3 (dk_at dksL_law_66 11 rfl rfl)
theorem dL_law_1658 : decode cL_law 1658 = .ok (.ireturn, 1) := dk_172 (dk_at dksL_law_66 12 rfl rfl)
theorem dL_law_1659 : decode cL_law 1659 = .ok (.iload 6, 2) := dk_21 6 (dk_at dksL_law_66 13 rfl rfl)
theorem dL_law_1661 : decode cL_law 1661 = .ok (.ifCond .ne 15, 3) := dk_154 0 15 (dk_at dksL_law_66 15 rfl rfl)
theorem dL_law_1664 : decode cL_law 1664 = .ok (.aload_n 3, 1) := dk_45 (dk_at dksL_law_66 18 rfl rfl)
theorem dL_law_1665 : decode cL_law 1665 = .ok (.iconst 0, 1) := dk_3 (dk_at dksL_law_66 19 rfl rfl)
theorem dL_law_1666 : decode cL_law 1666 = .ok (.laload, 1) := dk_47 (dk_at dksL_law_66 20 rfl rfl)
theorem dL_law_1667 : decode cL_law 1667 = .ok (.iload 7, 2) := dk_21 7 (dk_at dksL_law_66 21 rfl rfl)
theorem dL_law_1669 : decode cL_law 1669 = .ok (.i2l, 1) := dk_133 (dk_at dksL_law_66 23 rfl rfl)
theorem dL_law_1670 : decode cL_law 1670 = .ok (.lcmp, 1) := dk_148 (dk_at dksL_law_67 0 rfl rfl)
theorem dL_law_1671 : decode cL_law 1671 = .ok (.ifCond .eq 5, 3) := dk_153 0 5 (dk_at dksL_law_67 1 rfl rfl)
theorem dL_law_1674 : decode cL_law 1674 = .ok (.iconst 0, 1) := dk_3 (dk_at dksL_law_67 4 rfl rfl)
theorem dL_law_1675 : decode cL_law 1675 = .ok (.ireturn, 1) := dk_172 (dk_at dksL_law_67 5 rfl rfl)
theorem dL_law_1676 : decode cL_law 1676 = .ok (.goto 148, 3) := dk_167 0 148 (dk_at dksL_law_67 6 rfl rfl)
theorem dL_law_1679 : decode cL_law 1679 = .ok (.aload_n 1, 1) := dk_43 (dk_at dksL_law_67 9 rfl rfl)
theorem dL_law_1680 : decode cL_law 1680 = .ok (.aload_n 3, 1) := dk_45 (dk_at dksL_law_67 10 rfl rfl)
theorem dL_law_1681 : decode cL_law 1681 = .ok (.invokestatic 194, 3) := dk_184 0 194 (dk_at dksL_law_67 11 rfl rfl)
theorem dL_law_1684 : decode cL_law 1684 = .ok (.istore 6, 2) := dk_54 6 (dk_at dksL_law_67 14 rfl rfl)
theorem dL_law_1686 : decode cL_law 1686 = .ok (.aload_n 2, 1) := dk_44 (dk_at dksL_law_67 16 rfl rfl)
theorem dL_law_1687 : decode cL_law 1687 = .ok (.invokevirtual 196, 3) := dk_182 0 196 (dk_at dksL_law_67 17 rfl rfl)
theorem dL_law_1690 : decode cL_law 1690 = .ok (.istore 7, 2) := dk_54 7 (dk_at dksL_law_67 20 rfl rfl)
theorem dL_law_1692 : decode cL_law 1692 = .ok (.aload_n 2, 1) := dk_44 (dk_at dksL_law_67 22 rfl rfl)
theorem dL_law_1693 : decode cL_law 1693 = .ok (.invokevirtual 115, 3) := dk_182 0 115 (dk_at dksL_law_68 0 rfl rfl)
theorem dL_law_1696 : decode cL_law 1696 = .ok (.iload 6, 2) := dk_21 6 (dk_at dksL_law_68 3 rfl rfl)
theorem dL_law_1698 : decode cL_law 1698 = .ok (.if_icmp .eq 5, 3) := dk_159 0 5 (dk_at dksL_law_68 5 rfl rfl)
theorem dL_law_1701 : decode cL_law 1701 = .ok (.iconst 0, 1) := dk_3 (dk_at dksL_law_68 8 rfl rfl)
theorem dL_law_1702 : decode cL_law 1702 = .ok (.ireturn, 1) := dk_172 (dk_at dksL_law_68 9 rfl rfl)
theorem dL_law_1703 : decode cL_law 1703 = .ok (.iload 6, 2) := dk_21 6 (dk_at dksL_law_68 10 rfl rfl)
theorem dL_law_1705 : decode cL_law 1705 = .ok (.ifCond .ne 15, 3) := dk_154 0 15 (dk_at dksL_law_68 12 rfl rfl)
theorem dL_law_1708 : decode cL_law 1708 = .ok (.aload_n 3, 1) := dk_45 (dk_at dksL_law_68 15 rfl rfl)
theorem dL_law_1709 : decode cL_law 1709 = .ok (.iconst 0, 1) := dk_3 (dk_at dksL_law_68 16 rfl rfl)
theorem dL_law_1710 : decode cL_law 1710 = .ok (.laload, 1) := dk_47 (dk_at dksL_law_68 17 rfl rfl)
theorem dL_law_1711 : decode cL_law 1711 = .ok (.iload 7, 2) := dk_21 7 (dk_at dksL_law_68 18 rfl rfl)
theorem dL_law_1713 : decode cL_law 1713 = .ok (.i2l, 1) := dk_133 (dk_at dksL_law_68 20 rfl rfl)
theorem dL_law_1714 : decode cL_law 1714 = .ok (.lcmp, 1) := dk_148 (dk_at dksL_law_68 21 rfl rfl)
theorem dL_law_1715 : decode cL_law 1715 = .ok (.ifCond .eq 5, 3) := dk_153 0 5 (dk_at dksL_law_69 0 rfl rfl)
theorem dL_law_1718 : decode cL_law 1718 = .ok (.iconst 0, 1) := dk_3 (dk_at dksL_law_69 3 rfl rfl)
theorem dL_law_1719 : decode cL_law 1719 = .ok (.ireturn, 1) := dk_172 (dk_at dksL_law_69 4 rfl rfl)
theorem dL_law_1720 : decode cL_law 1720 = .ok (.goto 104, 3) := dk_167 0 104 (dk_at dksL_law_69 5 rfl rfl)
theorem dL_law_1723 : decode cL_law 1723 = .ok (.aload_n 1, 1) := dk_43 (dk_at dksL_law_69 8 rfl rfl)
theorem dL_law_1724 : decode cL_law 1724 = .ok (.aload_n 3, 1) := dk_45 (dk_at dksL_law_69 9 rfl rfl)
theorem dL_law_1725 : decode cL_law 1725 = .ok (.invokestatic 197, 3) := dk_184 0 197 (dk_at dksL_law_69 10 rfl rfl)
theorem dL_law_1728 : decode cL_law 1728 = .ok (.istore 6, 2) := dk_54 6 (dk_at dksL_law_69 13 rfl rfl)
theorem dL_law_1730 : decode cL_law 1730 = .ok (.aload_n 2, 1) := dk_44 (dk_at dksL_law_69 15 rfl rfl)
theorem dL_law_1731 : decode cL_law 1731 = .ok (.invokevirtual 199, 3) := dk_182 0 199 (dk_at dksL_law_69 16 rfl rfl)
theorem dL_law_1734 : decode cL_law 1734 = .ok (.istore 7, 2) := dk_54 7 (dk_at dksL_law_69 19 rfl rfl)
theorem dL_law_1736 : decode cL_law 1736 = .ok (.aload_n 2, 1) := dk_44 (dk_at dksL_law_69 21 rfl rfl)
theorem dL_law_1737 : decode cL_law 1737 = .ok (.invokevirtual 115, 3) := dk_182 0 115 (dk_at dksL_law_70 0 rfl rfl)
theorem dL_law_1740 : decode cL_law 1740 = .ok (.iload 6, 2) := dk_21 6 (dk_at dksL_law_70 3 rfl rfl)
theorem dL_law_1742 : decode cL_law 1742 = .ok (.if_icmp .eq 5, 3) := dk_159 0 5 (dk_at dksL_law_70 5 rfl rfl)
theorem dL_law_1745 : decode cL_law 1745 = .ok (.iconst 0, 1) := dk_3 (dk_at dksL_law_70 8 rfl rfl)
theorem dL_law_1746 : decode cL_law 1746 = .ok (.ireturn, 1) := dk_172 (dk_at dksL_law_70 9 rfl rfl)
theorem dL_law_1747 : decode cL_law 1747 = .ok (.iload 6, 2) := dk_21 6 (dk_at dksL_law_70 10 rfl rfl)
theorem dL_law_1749 : decode cL_law 1749 = .ok (.ifCond .ne 15, 3) := dk_154 0 15 (dk_at dksL_law_70 12 rfl rfl)
theorem dL_law_1752 : decode cL_law 1752 = .ok (.aload_n 3, 1) := dk_45 (dk_at dksL_law_70 15 rfl rfl)
theorem dL_law_1753 : decode cL_law 1753 = .ok (.iconst 0, 1) := dk_3 (dk_at dksL_law_70 16 rfl rfl)
theorem dL_law_1754 : decode cL_law 1754 = .ok (.laload, 1) := dk_47 (dk_at dksL_law_70 17 rfl rfl)
theorem dL_law_1755 : decode cL_law 1755 = .ok (.iload 7, 2) := dk_21 7 (dk_at dksL_law_70 18 rfl rfl)
theorem dL_law_1757 : decode cL_law 1757 = .ok (.i2l, 1) := dk_133 (dk_at dksL_law_70 20 rfl rfl)
theorem dL_law_1758 : decode cL_law 1758 = .ok (.lcmp, 1) := dk_148 (dk_at dksL_law_70 21 rfl rfl)
theorem dL_law_1759 : decode cL_law 1759 = .ok (.ifCond .eq 5, 3) := dk_153 0 5 (dk_at dksL_law_71 0 rfl rfl)
theorem dL_law_1762 : decode cL_law 1762 = .ok (.iconst 0, 1) := dk_3 (dk_at dksL_law_71 3 rfl rfl)
theorem dL_law_1763 : decode cL_law 1763 = .ok (.ireturn, 1) := dk_172 (dk_at dksL_law_71 4 rfl rfl)
theorem dL_law_1764 : decode cL_law 1764 = .ok (.goto 60, 3) := dk_167 0 60 (dk_at dksL_law_71 5 rfl rfl)
theorem dL_law_1767 : decode cL_law 1767 = .ok (.aload_n 1, 1) := dk_43 (dk_at dksL_law_71 8 rfl rfl)
theorem dL_law_1768 : decode cL_law 1768 = .ok (.invokevirtual 200, 3) := dk_182 0 200 (dk_at dksL_law_71 9 rfl rfl)
theorem dL_law_1771 : decode cL_law 1771 = .ok (.aload_n 2, 1) := dk_44 (dk_at dksL_law_71 12 rfl rfl)
theorem dL_law_1772 : decode cL_law 1772 = .ok (.invokevirtual 203, 3) := dk_182 0 203 (dk_at dksL_law_71 13 rfl rfl)
theorem dL_law_1775 : decode cL_law 1775 = .ok (.if_icmp .eq 49, 3) := dk_159 0 49 (dk_at dksL_law_71 16 rfl rfl)
theorem dL_law_1778 : decode cL_law 1778 = .ok (.iconst 0, 1) := dk_3 (dk_at dksL_law_71 19 rfl rfl)
theorem dL_law_1779 : decode cL_law 1779 = .ok (.ireturn, 1) := dk_172 (dk_at dksL_law_71 20 rfl rfl)
theorem dL_law_1780 : decode cL_law 1780 = .ok (.aload_n 1, 1) := dk_43 (dk_at dksL_law_71 21 rfl rfl)
theorem dL_law_1781 : decode cL_law 1781 = .ok (.aload_n 3, 1) := dk_45 (dk_at dksL_law_71 22 rfl rfl)
theorem dL_law_1782 : decode cL_law 1782 = .ok (.invokestatic 204, 3) := dk_184 0 204 (dk_at dksL_law_72 0 rfl rfl)
theorem dL_law_1785 : decode cL_law 1785 = .ok (.istore 6, 2) := dk_54 6 (dk_at dksL_law_72 3 rfl rfl)
theorem dL_law_1787 : decode cL_law 1787 = .ok (.aload_n 2, 1) := dk_44 (dk_at dksL_law_72 5 rfl rfl)
theorem dL_law_1788 : decode cL_law 1788 = .ok (.invokevirtual 206, 3) := dk_182 0 206 (dk_at dksL_law_72 6 rfl rfl)
theorem dL_law_1791 : decode cL_law 1791 = .ok (.istore 7, 2) := dk_54 7 (dk_at dksL_law_72 9 rfl rfl)
theorem dL_law_1793 : decode cL_law 1793 = .ok (.aload_n 2, 1) := dk_44 (dk_at dksL_law_72 11 rfl rfl)
theorem dL_law_1794 : decode cL_law 1794 = .ok (.invokevirtual 115, 3) := dk_182 0 115 (dk_at dksL_law_72 12 rfl rfl)
theorem dL_law_1797 : decode cL_law 1797 = .ok (.iload 6, 2) := dk_21 6 (dk_at dksL_law_72 15 rfl rfl)
theorem dL_law_1799 : decode cL_law 1799 = .ok (.if_icmp .eq 5, 3) := dk_159 0 5 (dk_at dksL_law_72 17 rfl rfl)
theorem dL_law_1802 : decode cL_law 1802 = .ok (.iconst 0, 1) := dk_3 (dk_at dksL_law_72 20 rfl rfl)
theorem dL_law_1803 : decode cL_law 1803 = .ok (.ireturn, 1) := dk_172 (dk_at dksL_law_72 21 rfl rfl)
theorem dL_law_1804 : decode cL_law 1804 = .ok (.iload 6, 2) := dk_21 6 (dk_at dksL_law_72 22 rfl rfl)
theorem dL_law_1806 : decode cL_law 1806 = .ok (.ifCond .ne 15, 3) := dk_154 0 15 (dk_at dksL_law_73 0 rfl rfl)
theorem dL_law_1809 : decode cL_law 1809 = .ok (.aload_n 3, 1) := dk_45 (dk_at dksL_law_73 3 rfl rfl)
theorem dL_law_1810 : decode cL_law 1810 = .ok (.iconst 0, 1) := dk_3 (dk_at dksL_law_73 4 rfl rfl)
theorem dL_law_1811 : decode cL_law 1811 = .ok (.laload, 1) := dk_47 (dk_at dksL_law_73 5 rfl rfl)
theorem dL_law_1812 : decode cL_law 1812 = .ok (.iload 7, 2) := dk_21 7 (dk_at dksL_law_73 6 rfl rfl)
theorem dL_law_1814 : decode cL_law 1814 = .ok (.i2l, 1) := dk_133 (dk_at dksL_law_73 8 rfl rfl)
theorem dL_law_1815 : decode cL_law 1815 = .ok (.lcmp, 1) := dk_148 (dk_at dksL_law_73 9 rfl rfl)
theorem dL_law_1816 : decode cL_law 1816 = .ok (.ifCond .eq 5, 3) := dk_153 0 5 (dk_at dksL_law_73 10 rfl rfl)
theorem dL_law_1819 : decode cL_law 1819 = .ok (.iconst 0, 1) := dk_3 (dk_at dksL_law_73 13 rfl rfl)
theorem dL_law_1820 : decode cL_law 1820 = .ok (.ireturn, 1) := dk_172 (dk_at dksL_law_73 14 rfl rfl)
theorem dL_law_1821 : decode cL_law 1821 = .ok (.goto 3, 3) := dk_167 0 3 (dk_at dksL_law_73 15 rfl rfl)
theorem dL_law_1824 : decode cL_law 1824 = .ok (.iinc 5 7, 3) := dk_132 5 7 (dk_at dksL_law_73 18 rfl rfl)
theorem dL_law_1827 : decode cL_law 1827 = .ok (.goto (-1799), 3) := dk_167 248 249 (dk_at dksL_law_73 21 rfl rfl)
theorem dL_law_1830 : decode cL_law 1830 = .ok (.iconst 1, 1) := dk_4 (dk_at dksL_law_74 0 rfl rfl)
theorem dL_law_1831 : decode cL_law 1831 = .ok (.ireturn, 1) := dk_172 (dk_at dksL_law_74 1 rfl rfl)
