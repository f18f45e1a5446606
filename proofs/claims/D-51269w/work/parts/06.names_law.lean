/-! PingEyeLaw -/
set_option maxRecDepth 100000
def RX0 : String := "PingEyeLaw"
abbrev cX0_load : ByteArray := method_3_code
def yX0_load : MethodName := ⟨RX0, "load", "(LPingEye;I[J)I"⟩
def dkwX0_load_0 : List UInt8 := [44, 3, 42, 27, 182, 0, 7, 133, 80, 167, 0, 9, 78, 4, 172, 78, 5, 172, 3, 172]
abbrev dktX0_load_0 : List UInt8 := dkwX0_load_0 ++ []
theorem dksX0_load_0 : cX0_load.data.toList.drop 0 = dktX0_load_0 := by decide +kernel
theorem dX0_load_0 : decode cX0_load 0 = .ok (.aload_n 2, 1) := dk_44 (dk_at dksX0_load_0 0 rfl rfl)
theorem dX0_load_1 : decode cX0_load 1 = .ok (.iconst 0, 1) := dk_3 (dk_at dksX0_load_0 1 rfl rfl)
theorem dX0_load_2 : decode cX0_load 2 = .ok (.aload_n 0, 1) := dk_42 (dk_at dksX0_load_0 2 rfl rfl)
theorem dX0_load_3 : decode cX0_load 3 = .ok (.iload_n 1, 1) := dk_27 (dk_at dksX0_load_0 3 rfl rfl)
theorem dX0_load_4 : decode cX0_load 4 = .ok (.invokevirtual 7, 3) := dk_182 0 7 (dk_at dksX0_load_0 4 rfl rfl)
theorem dX0_load_7 : decode cX0_load 7 = .ok (.i2l, 1) := dk_133 (dk_at dksX0_load_0 7 rfl rfl)
theorem dX0_load_8 : decode cX0_load 8 = .ok (.lastore, 1) := dk_80 (dk_at dksX0_load_0 8 rfl rfl)
theorem dX0_load_9 : decode cX0_load 9 = .ok (.goto 9, 3) := dk_167 0 9 (dk_at dksX0_load_0 9 rfl rfl)
theorem dX0_load_12 : decode cX0_load 12 = .ok (.astore_n 3, 1) := dk_78 (dk_at dksX0_load_0 12 rfl rfl)
theorem dX0_load_13 : decode cX0_load 13 = .ok (.iconst 1, 1) := dk_4 (dk_at dksX0_load_0 13 rfl rfl)
theorem dX0_load_14 : decode cX0_load 14 = .ok (.ireturn, 1) := dk_172 (dk_at dksX0_load_0 14 rfl rfl)
theorem dX0_load_15 : decode cX0_load 15 = .ok (.astore_n 3, 1) := dk_78 (dk_at dksX0_load_0 15 rfl rfl)
theorem dX0_load_16 : decode cX0_load 16 = .ok (.iconst 2, 1) := dk_5 (dk_at dksX0_load_0 16 rfl rfl)
theorem dX0_load_17 : decode cX0_load 17 = .ok (.ireturn, 1) := dk_172 (dk_at dksX0_load_0 17 rfl rfl)
theorem dX0_load_18 : decode cX0_load 18 = .ok (.iconst 0, 1) := dk_3 (dk_at dksX0_load_0 18 rfl rfl)
theorem dX0_load_19 : decode cX0_load 19 = .ok (.ireturn, 1) := dk_172 (dk_at dksX0_load_0 19 rfl rfl)
abbrev cX0_number : ByteArray := method_4_code
def yX0_number : MethodName := ⟨RX0, "number", "(LPingEye;I[J)I"⟩
def dkwX0_number_0 : List UInt8 := [44, 3, 42, 27, 182, 0, 17, 133, 80, 167, 0, 9, 78, 4, 172, 78, 5, 172, 3, 172]
abbrev dktX0_number_0 : List UInt8 := dkwX0_number_0 ++ []
theorem dksX0_number_0 : cX0_number.data.toList.drop 0 = dktX0_number_0 := by decide +kernel
theorem dX0_number_0 : decode cX0_number 0 = .ok (.aload_n 2, 1) := dk_44 (dk_at dksX0_number_0 0 rfl rfl)
theorem dX0_number_1 : decode cX0_number 1 = .ok (.iconst 0, 1) := dk_3 (dk_at dksX0_number_0 1 rfl rfl)
theorem dX0_number_2 : decode cX0_number 2 = .ok (.aload_n 0, 1) := dk_42 (dk_at dksX0_number_0 2 rfl rfl)
theorem dX0_number_3 : decode cX0_number 3 = .ok (.iload_n 1, 1) := dk_27 (dk_at dksX0_number_0 3 rfl rfl)
theorem dX0_number_4 : decode cX0_number 4 = .ok (.invokevirtual 17, 3) := dk_182 0 17 (dk_at dksX0_number_0 4 rfl rfl)
theorem dX0_number_7 : decode cX0_number 7 = .ok (.i2l, 1) := dk_133 (dk_at dksX0_number_0 7 rfl rfl)
theorem dX0_number_8 : decode cX0_number 8 = .ok (.lastore, 1) := dk_80 (dk_at dksX0_number_0 8 rfl rfl)
theorem dX0_number_9 : decode cX0_number 9 = .ok (.goto 9, 3) := dk_167 0 9 (dk_at dksX0_number_0 9 rfl rfl)
theorem dX0_number_12 : decode cX0_number 12 = .ok (.astore_n 3, 1) := dk_78 (dk_at dksX0_number_0 12 rfl rfl)
theorem dX0_number_13 : decode cX0_number 13 = .ok (.iconst 1, 1) := dk_4 (dk_at dksX0_number_0 13 rfl rfl)
theorem dX0_number_14 : decode cX0_number 14 = .ok (.ireturn, 1) := dk_172 (dk_at dksX0_number_0 14 rfl rfl)
theorem dX0_number_15 : decode cX0_number 15 = .ok (.astore_n 3, 1) := dk_78 (dk_at dksX0_number_0 15 rfl rfl)
theorem dX0_number_16 : decode cX0_number 16 = .ok (.iconst 2, 1) := dk_5 (dk_at dksX0_number_0 16 rfl rfl)
theorem dX0_number_17 : decode cX0_number 17 = .ok (.ireturn, 1) := dk_172 (dk_at dksX0_number_0 17 rfl rfl)
theorem dX0_number_18 : decode cX0_number 18 = .ok (.iconst 0, 1) := dk_3 (dk_at dksX0_number_0 18 rfl rfl)
theorem dX0_number_19 : decode cX0_number 19 = .ok (.ireturn, 1) := dk_172 (dk_at dksX0_number_0 19 rfl rfl)
abbrev cX0_count : ByteArray := method_5_code
def yX0_count : MethodName := ⟨RX0, "count", "(LPingEye;I[J)I"⟩
def dkwX0_count_0 : List UInt8 := [44, 3, 42, 27, 182, 0, 22, 133, 80, 167, 0, 9, 78, 4, 172, 78, 5, 172, 3, 172]
abbrev dktX0_count_0 : List UInt8 := dkwX0_count_0 ++ []
theorem dksX0_count_0 : cX0_count.data.toList.drop 0 = dktX0_count_0 := by decide +kernel
theorem dX0_count_0 : decode cX0_count 0 = .ok (.aload_n 2, 1) := dk_44 (dk_at dksX0_count_0 0 rfl rfl)
theorem dX0_count_1 : decode cX0_count 1 = .ok (.iconst 0, 1) := dk_3 (dk_at dksX0_count_0 1 rfl rfl)
theorem dX0_count_2 : decode cX0_count 2 = .ok (.aload_n 0, 1) := dk_42 (dk_at dksX0_count_0 2 rfl rfl)
theorem dX0_count_3 : decode cX0_count 3 = .ok (.iload_n 1, 1) := dk_27 (dk_at dksX0_count_0 3 rfl rfl)
theorem dX0_count_4 : decode cX0_count 4 = .ok (.invokevirtual 22, 3) := dk_182 0 22 (dk_at dksX0_count_0 4 rfl rfl)
theorem dX0_count_7 : decode cX0_count 7 = .ok (.i2l, 1) := dk_133 (dk_at dksX0_count_0 7 rfl rfl)
theorem dX0_count_8 : decode cX0_count 8 = .ok (.lastore, 1) := dk_80 (dk_at dksX0_count_0 8 rfl rfl)
theorem dX0_count_9 : decode cX0_count 9 = .ok (.goto 9, 3) := dk_167 0 9 (dk_at dksX0_count_0 9 rfl rfl)
theorem dX0_count_12 : decode cX0_count 12 = .ok (.astore_n 3, 1) := dk_78 (dk_at dksX0_count_0 12 rfl rfl)
theorem dX0_count_13 : decode cX0_count 13 = .ok (.iconst 1, 1) := dk_4 (dk_at dksX0_count_0 13 rfl rfl)
theorem dX0_count_14 : decode cX0_count 14 = .ok (.ireturn, 1) := dk_172 (dk_at dksX0_count_0 14 rfl rfl)
theorem dX0_count_15 : decode cX0_count 15 = .ok (.astore_n 3, 1) := dk_78 (dk_at dksX0_count_0 15 rfl rfl)
theorem dX0_count_16 : decode cX0_count 16 = .ok (.iconst 2, 1) := dk_5 (dk_at dksX0_count_0 16 rfl rfl)
theorem dX0_count_17 : decode cX0_count 17 = .ok (.ireturn, 1) := dk_172 (dk_at dksX0_count_0 17 rfl rfl)
theorem dX0_count_18 : decode cX0_count 18 = .ok (.iconst 0, 1) := dk_3 (dk_at dksX0_count_0 18 rfl rfl)
theorem dX0_count_19 : decode cX0_count 19 = .ok (.ireturn, 1) := dk_172 (dk_at dksX0_count_0 19 rfl rfl)
abbrev cX0_height : ByteArray := method_6_code
def yX0_height : MethodName := ⟨RX0, "height", "(LPingEye;I[J)I"⟩
def dkwX0_height_0 : List UInt8 := [44, 3, 42, 27, 182, 0, 25, 133, 80, 167, 0, 9, 78, 4, 172, 78, 5, 172, 3, 172]
abbrev dktX0_height_0 : List UInt8 := dkwX0_height_0 ++ []
theorem dksX0_height_0 : cX0_height.data.toList.drop 0 = dktX0_height_0 := by decide +kernel
theorem dX0_height_0 : decode cX0_height 0 = .ok (.aload_n 2, 1) := dk_44 (dk_at dksX0_height_0 0 rfl rfl)
theorem dX0_height_1 : decode cX0_height 1 = .ok (.iconst 0, 1) := dk_3 (dk_at dksX0_height_0 1 rfl rfl)
theorem dX0_height_2 : decode cX0_height 2 = .ok (.aload_n 0, 1) := dk_42 (dk_at dksX0_height_0 2 rfl rfl)
theorem dX0_height_3 : decode cX0_height 3 = .ok (.iload_n 1, 1) := dk_27 (dk_at dksX0_height_0 3 rfl rfl)
theorem dX0_height_4 : decode cX0_height 4 = .ok (.invokevirtual 25, 3) := dk_182 0 25 (dk_at dksX0_height_0 4 rfl rfl)
theorem dX0_height_7 : decode cX0_height 7 = .ok (.i2l, 1) := dk_133 (dk_at dksX0_height_0 7 rfl rfl)
theorem dX0_height_8 : decode cX0_height 8 = .ok (.lastore, 1) := dk_80 (dk_at dksX0_height_0 8 rfl rfl)
theorem dX0_height_9 : decode cX0_height 9 = .ok (.goto 9, 3) := dk_167 0 9 (dk_at dksX0_height_0 9 rfl rfl)
theorem dX0_height_12 : decode cX0_height 12 = .ok (.astore_n 3, 1) := dk_78 (dk_at dksX0_height_0 12 rfl rfl)
theorem dX0_height_13 : decode cX0_height 13 = .ok (.iconst 1, 1) := dk_4 (dk_at dksX0_height_0 13 rfl rfl)
theorem dX0_height_14 : decode cX0_height 14 = .ok (.ireturn, 1) := dk_172 (dk_at dksX0_height_0 14 rfl rfl)
theorem dX0_height_15 : decode cX0_height 15 = .ok (.astore_n 3, 1) := dk_78 (dk_at dksX0_height_0 15 rfl rfl)
theorem dX0_height_16 : decode cX0_height 16 = .ok (.iconst 2, 1) := dk_5 (dk_at dksX0_height_0 16 rfl rfl)
theorem dX0_height_17 : decode cX0_height 17 = .ok (.ireturn, 1) := dk_172 (dk_at dksX0_height_0 17 rfl rfl)
theorem dX0_height_18 : decode cX0_height 18 = .ok (.iconst 0, 1) := dk_3 (dk_at dksX0_height_0 18 rfl rfl)
theorem dX0_height_19 : decode cX0_height 19 = .ok (.ireturn, 1) := dk_172 (dk_at dksX0_height_0 19 rfl rfl)
abbrev cX0_isStuck : ByteArray := method_7_code
def yX0_isStuck : MethodName := ⟨RX0, "isStuck", "(LPingEye;I[J)I"⟩
def dkwX0_isStuck_1 : List UInt8 := [172, 3, 172]
abbrev dktX0_isStuck_1 : List UInt8 := dkwX0_isStuck_1 ++ []
def dkwX0_isStuck_0 : List UInt8 := [44, 3, 42, 27, 182, 0, 28, 153, 0, 7, 10, 167, 0, 4, 9, 80, 167, 0, 9, 78, 4, 172, 78, 5]
abbrev dktX0_isStuck_0 : List UInt8 := dkwX0_isStuck_0 ++ dktX0_isStuck_1
theorem dksX0_isStuck_0 : cX0_isStuck.data.toList.drop 0 = dktX0_isStuck_0 := by decide +kernel
theorem dksX0_isStuck_1 : cX0_isStuck.data.toList.drop 24 = dktX0_isStuck_1 := dk_seg dksX0_isStuck_0 24 rfl rfl
theorem dX0_isStuck_0 : decode cX0_isStuck 0 = .ok (.aload_n 2, 1) := dk_44 (dk_at dksX0_isStuck_0 0 rfl rfl)
theorem dX0_isStuck_1 : decode cX0_isStuck 1 = .ok (.iconst 0, 1) := dk_3 (dk_at dksX0_isStuck_0 1 rfl rfl)
theorem dX0_isStuck_2 : decode cX0_isStuck 2 = .ok (.aload_n 0, 1) := dk_42 (dk_at dksX0_isStuck_0 2 rfl rfl)
theorem dX0_isStuck_3 : decode cX0_isStuck 3 = .ok (.iload_n 1, 1) := dk_27 (dk_at dksX0_isStuck_0 3 rfl rfl)
theorem dX0_isStuck_4 : decode cX0_isStuck 4 = .ok (.invokevirtual 28, 3) := dk_182 0 28 (dk_at dksX0_isStuck_0 4 rfl rfl)
theorem dX0_isStuck_7 : decode cX0_isStuck 7 = .ok (.ifCond .eq 7, 3) := dk_153 0 7 (dk_at dksX0_isStuck_0 7 rfl rfl)
theorem dX0_isStuck_10 : decode cX0_isStuck 10 = .ok (.lconst 1, 1) := dk_10 (dk_at dksX0_isStuck_0 10 rfl rfl)
theorem dX0_isStuck_11 : decode cX0_isStuck 11 = .ok (.goto 4, 3) := dk_167 0 4 (dk_at dksX0_isStuck_0 11 rfl rfl)
theorem dX0_isStuck_14 : decode cX0_isStuck 14 = .ok (.lconst 0, 1) := dk_9 (dk_at dksX0_isStuck_0 14 rfl rfl)
theorem dX0_isStuck_15 : decode cX0_isStuck 15 = .ok (.lastore, 1) := dk_80 (dk_at dksX0_isStuck_0 15 rfl rfl)
theorem dX0_isStuck_16 : decode cX0_isStuck 16 = .ok (.goto 9, 3) := dk_167 0 9 (dk_at dksX0_isStuck_0 16 rfl rfl)
theorem dX0_isStuck_19 : decode cX0_isStuck 19 = .ok (.astore_n 3, 1) := dk_78 (dk_at dksX0_isStuck_0 19 rfl rfl)
theorem dX0_isStuck_20 : decode cX0_isStuck 20 = .ok (.iconst 1, 1) := dk_4 (dk_at dksX0_isStuck_0 20 rfl rfl)
theorem dX0_isStuck_21 : decode cX0_isStuck 21 = .ok (.ireturn, 1) := dk_172 (dk_at dksX0_isStuck_0 21 rfl rfl)
theorem dX0_isStuck_22 : decode cX0_isStuck 22 = .ok (.astore_n 3, 1) := dk_78 (dk_at dksX0_isStuck_0 22 rfl rfl)
theorem dX0_isStuck_23 : decode cX0_isStuck 23 = .ok (.iconst 2, 1) := dk_5 (dk_at dksX0_isStuck_0 23 rfl rfl)
theorem dX0_isStuck_24 : decode cX0_isStuck 24 = .ok (.ireturn, 1) := dk_172 (dk_at dksX0_isStuck_1 0 rfl rfl)
theorem dX0_isStuck_25 : decode cX0_isStuck 25 = .ok (.iconst 0, 1) := dk_3 (dk_at dksX0_isStuck_1 1 rfl rfl)
theorem dX0_isStuck_26 : decode cX0_isStuck 26 = .ok (.ireturn, 1) := dk_172 (dk_at dksX0_isStuck_1 2 rfl rfl)
abbrev cX0_hangs : ByteArray := method_8_code
def yX0_hangs : MethodName := ⟨RX0, "hangs", "(LPingEye;I[J)I"⟩
def dkwX0_hangs_1 : List UInt8 := [172, 3, 172]
abbrev dktX0_hangs_1 : List UInt8 := dkwX0_hangs_1 ++ []
def dkwX0_hangs_0 : List UInt8 := [44, 3, 42, 27, 182, 0, 32, 153, 0, 7, 10, 167, 0, 4, 9, 80, 167, 0, 9, 78, 4, 172, 78, 5]
abbrev dktX0_hangs_0 : List UInt8 := dkwX0_hangs_0 ++ dktX0_hangs_1
theorem dksX0_hangs_0 : cX0_hangs.data.toList.drop 0 = dktX0_hangs_0 := by decide +kernel
theorem dksX0_hangs_1 : cX0_hangs.data.toList.drop 24 = dktX0_hangs_1 := dk_seg dksX0_hangs_0 24 rfl rfl
theorem dX0_hangs_0 : decode cX0_hangs 0 = .ok (.aload_n 2, 1) := dk_44 (dk_at dksX0_hangs_0 0 rfl rfl)
theorem dX0_hangs_1 : decode cX0_hangs 1 = .ok (.iconst 0, 1) := dk_3 (dk_at dksX0_hangs_0 1 rfl rfl)
theorem dX0_hangs_2 : decode cX0_hangs 2 = .ok (.aload_n 0, 1) := dk_42 (dk_at dksX0_hangs_0 2 rfl rfl)
theorem dX0_hangs_3 : decode cX0_hangs 3 = .ok (.iload_n 1, 1) := dk_27 (dk_at dksX0_hangs_0 3 rfl rfl)
theorem dX0_hangs_4 : decode cX0_hangs 4 = .ok (.invokevirtual 32, 3) := dk_182 0 32 (dk_at dksX0_hangs_0 4 rfl rfl)
theorem dX0_hangs_7 : decode cX0_hangs 7 = .ok (.ifCond .eq 7, 3) := dk_153 0 7 (dk_at dksX0_hangs_0 7 rfl rfl)
theorem dX0_hangs_10 : decode cX0_hangs 10 = .ok (.lconst 1, 1) := dk_10 (dk_at dksX0_hangs_0 10 rfl rfl)
theorem dX0_hangs_11 : decode cX0_hangs 11 = .ok (.goto 4, 3) := dk_167 0 4 (dk_at dksX0_hangs_0 11 rfl rfl)
theorem dX0_hangs_14 : decode cX0_hangs 14 = .ok (.lconst 0, 1) := dk_9 (dk_at dksX0_hangs_0 14 rfl rfl)
theorem dX0_hangs_15 : decode cX0_hangs 15 = .ok (.lastore, 1) := dk_80 (dk_at dksX0_hangs_0 15 rfl rfl)
theorem dX0_hangs_16 : decode cX0_hangs 16 = .ok (.goto 9, 3) := dk_167 0 9 (dk_at dksX0_hangs_0 16 rfl rfl)
theorem dX0_hangs_19 : decode cX0_hangs 19 = .ok (.astore_n 3, 1) := dk_78 (dk_at dksX0_hangs_0 19 rfl rfl)
theorem dX0_hangs_20 : decode cX0_hangs 20 = .ok (.iconst 1, 1) := dk_4 (dk_at dksX0_hangs_0 20 rfl rfl)
theorem dX0_hangs_21 : decode cX0_hangs 21 = .ok (.ireturn, 1) := dk_172 (dk_at dksX0_hangs_0 21 rfl rfl)
theorem dX0_hangs_22 : decode cX0_hangs 22 = .ok (.astore_n 3, 1) := dk_78 (dk_at dksX0_hangs_0 22 rfl rfl)
theorem dX0_hangs_23 : decode cX0_hangs 23 = .ok (.iconst 2, 1) := dk_5 (dk_at dksX0_hangs_0 23 rfl rfl)
theorem dX0_hangs_24 : decode cX0_hangs 24 = .ok (.ireturn, 1) := dk_172 (dk_at dksX0_hangs_1 0 rfl rfl)
theorem dX0_hangs_25 : decode cX0_hangs 25 = .ok (.iconst 0, 1) := dk_3 (dk_at dksX0_hangs_1 1 rfl rfl)
theorem dX0_hangs_26 : decode cX0_hangs 26 = .ok (.ireturn, 1) := dk_172 (dk_at dksX0_hangs_1 2 rfl rfl)
abbrev cX0_highest : ByteArray := method_9_code
def yX0_highest : MethodName := ⟨RX0, "highest", "(LPingEye;Z[J)I"⟩
def dkwX0_highest_0 : List UInt8 := [44, 3, 42, 27, 182, 0, 35, 133, 80, 167, 0, 6, 78, 4, 172, 3, 172]
abbrev dktX0_highest_0 : List UInt8 := dkwX0_highest_0 ++ []
theorem dksX0_highest_0 : cX0_highest.data.toList.drop 0 = dktX0_highest_0 := by decide +kernel
theorem dX0_highest_0 : decode cX0_highest 0 = .ok (.aload_n 2, 1) := dk_44 (dk_at dksX0_highest_0 0 rfl rfl)
theorem dX0_highest_1 : decode cX0_highest 1 = .ok (.iconst 0, 1) := dk_3 (dk_at dksX0_highest_0 1 rfl rfl)
theorem dX0_highest_2 : decode cX0_highest 2 = .ok (.aload_n 0, 1) := dk_42 (dk_at dksX0_highest_0 2 rfl rfl)
theorem dX0_highest_3 : decode cX0_highest 3 = .ok (.iload_n 1, 1) := dk_27 (dk_at dksX0_highest_0 3 rfl rfl)
theorem dX0_highest_4 : decode cX0_highest 4 = .ok (.invokevirtual 35, 3) := dk_182 0 35 (dk_at dksX0_highest_0 4 rfl rfl)
theorem dX0_highest_7 : decode cX0_highest 7 = .ok (.i2l, 1) := dk_133 (dk_at dksX0_highest_0 7 rfl rfl)
theorem dX0_highest_8 : decode cX0_highest 8 = .ok (.lastore, 1) := dk_80 (dk_at dksX0_highest_0 8 rfl rfl)
theorem dX0_highest_9 : decode cX0_highest 9 = .ok (.goto 6, 3) := dk_167 0 6 (dk_at dksX0_highest_0 9 rfl rfl)
theorem dX0_highest_12 : decode cX0_highest 12 = .ok (.astore_n 3, 1) := dk_78 (dk_at dksX0_highest_0 12 rfl rfl)
theorem dX0_highest_13 : decode cX0_highest 13 = .ok (.iconst 1, 1) := dk_4 (dk_at dksX0_highest_0 13 rfl rfl)
theorem dX0_highest_14 : decode cX0_highest 14 = .ok (.ireturn, 1) := dk_172 (dk_at dksX0_highest_0 14 rfl rfl)
theorem dX0_highest_15 : decode cX0_highest 15 = .ok (.iconst 0, 1) := dk_3 (dk_at dksX0_highest_0 15 rfl rfl)
theorem dX0_highest_16 : decode cX0_highest 16 = .ok (.ireturn, 1) := dk_172 (dk_at dksX0_highest_0 16 rfl rfl)
abbrev cX0_steepest : ByteArray := method_10_code
def yX0_steepest : MethodName := ⟨RX0, "steepest", "(LPingEye;[J)I"⟩
def dkwX0_steepest_0 : List UInt8 := [43, 3, 42, 182, 0, 39, 133, 80, 167, 0, 6, 77, 4, 172, 3, 172]
abbrev dktX0_steepest_0 : List UInt8 := dkwX0_steepest_0 ++ []
theorem dksX0_steepest_0 : cX0_steepest.data.toList.drop 0 = dktX0_steepest_0 := by decide +kernel
theorem dX0_steepest_0 : decode cX0_steepest 0 = .ok (.aload_n 1, 1) := dk_43 (dk_at dksX0_steepest_0 0 rfl rfl)
theorem dX0_steepest_1 : decode cX0_steepest 1 = .ok (.iconst 0, 1) := dk_3 (dk_at dksX0_steepest_0 1 rfl rfl)
theorem dX0_steepest_2 : decode cX0_steepest 2 = .ok (.aload_n 0, 1) := dk_42 (dk_at dksX0_steepest_0 2 rfl rfl)
theorem dX0_steepest_3 : decode cX0_steepest 3 = .ok (.invokevirtual 39, 3) := dk_182 0 39 (dk_at dksX0_steepest_0 3 rfl rfl)
theorem dX0_steepest_6 : decode cX0_steepest 6 = .ok (.i2l, 1) := dk_133 (dk_at dksX0_steepest_0 6 rfl rfl)
theorem dX0_steepest_7 : decode cX0_steepest 7 = .ok (.lastore, 1) := dk_80 (dk_at dksX0_steepest_0 7 rfl rfl)
theorem dX0_steepest_8 : decode cX0_steepest 8 = .ok (.goto 6, 3) := dk_167 0 6 (dk_at dksX0_steepest_0 8 rfl rfl)
theorem dX0_steepest_11 : decode cX0_steepest 11 = .ok (.astore_n 2, 1) := dk_77 (dk_at dksX0_steepest_0 11 rfl rfl)
theorem dX0_steepest_12 : decode cX0_steepest 12 = .ok (.iconst 1, 1) := dk_4 (dk_at dksX0_steepest_0 12 rfl rfl)
theorem dX0_steepest_13 : decode cX0_steepest 13 = .ok (.ireturn, 1) := dk_172 (dk_at dksX0_steepest_0 13 rfl rfl)
theorem dX0_steepest_14 : decode cX0_steepest 14 = .ok (.iconst 0, 1) := dk_3 (dk_at dksX0_steepest_0 14 rfl rfl)
theorem dX0_steepest_15 : decode cX0_steepest 15 = .ok (.ireturn, 1) := dk_172 (dk_at dksX0_steepest_0 15 rfl rfl)
abbrev cX0_slideTo : ByteArray := method_11_code
def yX0_slideTo : MethodName := ⟨RX0, "slideTo", "(LPingEye;I[J)I"⟩
def dkwX0_slideTo_0 : List UInt8 := [44, 3, 42, 27, 182, 0, 43, 133, 80, 167, 0, 9, 78, 4, 172, 78, 5, 172, 3, 172]
abbrev dktX0_slideTo_0 : List UInt8 := dkwX0_slideTo_0 ++ []
theorem dksX0_slideTo_0 : cX0_slideTo.data.toList.drop 0 = dktX0_slideTo_0 := by decide +kernel
theorem dX0_slideTo_0 : decode cX0_slideTo 0 = .ok (.aload_n 2, 1) := dk_44 (dk_at dksX0_slideTo_0 0 rfl rfl)
theorem dX0_slideTo_1 : decode cX0_slideTo 1 = .ok (.iconst 0, 1) := dk_3 (dk_at dksX0_slideTo_0 1 rfl rfl)
theorem dX0_slideTo_2 : decode cX0_slideTo 2 = .ok (.aload_n 0, 1) := dk_42 (dk_at dksX0_slideTo_0 2 rfl rfl)
theorem dX0_slideTo_3 : decode cX0_slideTo 3 = .ok (.iload_n 1, 1) := dk_27 (dk_at dksX0_slideTo_0 3 rfl rfl)
theorem dX0_slideTo_4 : decode cX0_slideTo 4 = .ok (.invokevirtual 43, 3) := dk_182 0 43 (dk_at dksX0_slideTo_0 4 rfl rfl)
theorem dX0_slideTo_7 : decode cX0_slideTo 7 = .ok (.i2l, 1) := dk_133 (dk_at dksX0_slideTo_0 7 rfl rfl)
theorem dX0_slideTo_8 : decode cX0_slideTo 8 = .ok (.lastore, 1) := dk_80 (dk_at dksX0_slideTo_0 8 rfl rfl)
theorem dX0_slideTo_9 : decode cX0_slideTo 9 = .ok (.goto 9, 3) := dk_167 0 9 (dk_at dksX0_slideTo_0 9 rfl rfl)
theorem dX0_slideTo_12 : decode cX0_slideTo 12 = .ok (.astore_n 3, 1) := dk_78 (dk_at dksX0_slideTo_0 12 rfl rfl)
theorem dX0_slideTo_13 : decode cX0_slideTo 13 = .ok (.iconst 1, 1) := dk_4 (dk_at dksX0_slideTo_0 13 rfl rfl)
theorem dX0_slideTo_14 : decode cX0_slideTo 14 = .ok (.ireturn, 1) := dk_172 (dk_at dksX0_slideTo_0 14 rfl rfl)
theorem dX0_slideTo_15 : decode cX0_slideTo 15 = .ok (.astore_n 3, 1) := dk_78 (dk_at dksX0_slideTo_0 15 rfl rfl)
theorem dX0_slideTo_16 : decode cX0_slideTo 16 = .ok (.iconst 2, 1) := dk_5 (dk_at dksX0_slideTo_0 16 rfl rfl)
theorem dX0_slideTo_17 : decode cX0_slideTo 17 = .ok (.ireturn, 1) := dk_172 (dk_at dksX0_slideTo_0 17 rfl rfl)
theorem dX0_slideTo_18 : decode cX0_slideTo 18 = .ok (.iconst 0, 1) := dk_3 (dk_at dksX0_slideTo_0 18 rfl rfl)
theorem dX0_slideTo_19 : decode cX0_slideTo 19 = .ok (.ireturn, 1) := dk_172 (dk_at dksX0_slideTo_0 19 rfl rfl)
abbrev cX0_roomIn : ByteArray := method_12_code
def yX0_roomIn : MethodName := ⟨RX0, "roomIn", "(LPingEye;I[J)I"⟩
def dkwX0_roomIn_0 : List UInt8 := [44, 3, 42, 27, 182, 0, 46, 133, 80, 167, 0, 9, 78, 4, 172, 78, 5, 172, 3, 172]
abbrev dktX0_roomIn_0 : List UInt8 := dkwX0_roomIn_0 ++ []
theorem dksX0_roomIn_0 : cX0_roomIn.data.toList.drop 0 = dktX0_roomIn_0 := by decide +kernel
theorem dX0_roomIn_0 : decode cX0_roomIn 0 = .ok (.aload_n 2, 1) := dk_44 (dk_at dksX0_roomIn_0 0 rfl rfl)
theorem dX0_roomIn_1 : decode cX0_roomIn 1 = .ok (.iconst 0, 1) := dk_3 (dk_at dksX0_roomIn_0 1 rfl rfl)
theorem dX0_roomIn_2 : decode cX0_roomIn 2 = .ok (.aload_n 0, 1) := dk_42 (dk_at dksX0_roomIn_0 2 rfl rfl)
theorem dX0_roomIn_3 : decode cX0_roomIn 3 = .ok (.iload_n 1, 1) := dk_27 (dk_at dksX0_roomIn_0 3 rfl rfl)
theorem dX0_roomIn_4 : decode cX0_roomIn 4 = .ok (.invokevirtual 46, 3) := dk_182 0 46 (dk_at dksX0_roomIn_0 4 rfl rfl)
theorem dX0_roomIn_7 : decode cX0_roomIn 7 = .ok (.i2l, 1) := dk_133 (dk_at dksX0_roomIn_0 7 rfl rfl)
theorem dX0_roomIn_8 : decode cX0_roomIn 8 = .ok (.lastore, 1) := dk_80 (dk_at dksX0_roomIn_0 8 rfl rfl)
theorem dX0_roomIn_9 : decode cX0_roomIn 9 = .ok (.goto 9, 3) := dk_167 0 9 (dk_at dksX0_roomIn_0 9 rfl rfl)
theorem dX0_roomIn_12 : decode cX0_roomIn 12 = .ok (.astore_n 3, 1) := dk_78 (dk_at dksX0_roomIn_0 12 rfl rfl)
theorem dX0_roomIn_13 : decode cX0_roomIn 13 = .ok (.iconst 1, 1) := dk_4 (dk_at dksX0_roomIn_0 13 rfl rfl)
theorem dX0_roomIn_14 : decode cX0_roomIn 14 = .ok (.ireturn, 1) := dk_172 (dk_at dksX0_roomIn_0 14 rfl rfl)
theorem dX0_roomIn_15 : decode cX0_roomIn 15 = .ok (.astore_n 3, 1) := dk_78 (dk_at dksX0_roomIn_0 15 rfl rfl)
theorem dX0_roomIn_16 : decode cX0_roomIn 16 = .ok (.iconst 2, 1) := dk_5 (dk_at dksX0_roomIn_0 16 rfl rfl)
theorem dX0_roomIn_17 : decode cX0_roomIn 17 = .ok (.ireturn, 1) := dk_172 (dk_at dksX0_roomIn_0 17 rfl rfl)
theorem dX0_roomIn_18 : decode cX0_roomIn 18 = .ok (.iconst 0, 1) := dk_3 (dk_at dksX0_roomIn_0 18 rfl rfl)
theorem dX0_roomIn_19 : decode cX0_roomIn 19 = .ok (.ireturn, 1) := dk_172 (dk_at dksX0_roomIn_0 19 rfl rfl)
abbrev cX0_peak : ByteArray := method_13_code
def yX0_peak : MethodName := ⟨RX0, "peak", "(LPingEye;II[J)I"⟩
def dkwX0_peak_0 : List UInt8 := [45, 3, 42, 27, 28, 182, 0, 49, 133, 80, 167, 0, 11, 58, 4, 4, 172, 58, 4, 5, 172, 3, 172]
abbrev dktX0_peak_0 : List UInt8 := dkwX0_peak_0 ++ []
theorem dksX0_peak_0 : cX0_peak.data.toList.drop 0 = dktX0_peak_0 := by decide +kernel
theorem dX0_peak_0 : decode cX0_peak 0 = .ok (.aload_n 3, 1) := dk_45 (dk_at dksX0_peak_0 0 rfl rfl)
theorem dX0_peak_1 : decode cX0_peak 1 = .ok (.iconst 0, 1) := dk_3 (dk_at dksX0_peak_0 1 rfl rfl)
theorem dX0_peak_2 : decode cX0_peak 2 = .ok (.aload_n 0, 1) := dk_42 (dk_at dksX0_peak_0 2 rfl rfl)
theorem dX0_peak_3 : decode cX0_peak 3 = .ok (.iload_n 1, 1) := dk_27 (dk_at dksX0_peak_0 3 rfl rfl)
theorem dX0_peak_4 : decode cX0_peak 4 = .ok (.iload_n 2, 1) := dk_28 (dk_at dksX0_peak_0 4 rfl rfl)
theorem dX0_peak_5 : decode cX0_peak 5 = .ok (.invokevirtual 49, 3) := dk_182 0 49 (dk_at dksX0_peak_0 5 rfl rfl)
theorem dX0_peak_8 : decode cX0_peak 8 = .ok (.i2l, 1) := dk_133 (dk_at dksX0_peak_0 8 rfl rfl)
theorem dX0_peak_9 : decode cX0_peak 9 = .ok (.lastore, 1) := dk_80 (dk_at dksX0_peak_0 9 rfl rfl)
theorem dX0_peak_10 : decode cX0_peak 10 = .ok (.goto 11, 3) := dk_167 0 11 (dk_at dksX0_peak_0 10 rfl rfl)
theorem dX0_peak_13 : decode cX0_peak 13 = .ok (.astore 4, 2) := dk_58 4 (dk_at dksX0_peak_0 13 rfl rfl)
theorem dX0_peak_15 : decode cX0_peak 15 = .ok (.iconst 1, 1) := dk_4 (dk_at dksX0_peak_0 15 rfl rfl)
theorem dX0_peak_16 : decode cX0_peak 16 = .ok (.ireturn, 1) := dk_172 (dk_at dksX0_peak_0 16 rfl rfl)
theorem dX0_peak_17 : decode cX0_peak 17 = .ok (.astore 4, 2) := dk_58 4 (dk_at dksX0_peak_0 17 rfl rfl)
theorem dX0_peak_19 : decode cX0_peak 19 = .ok (.iconst 2, 1) := dk_5 (dk_at dksX0_peak_0 19 rfl rfl)
theorem dX0_peak_20 : decode cX0_peak 20 = .ok (.ireturn, 1) := dk_172 (dk_at dksX0_peak_0 20 rfl rfl)
theorem dX0_peak_21 : decode cX0_peak 21 = .ok (.iconst 0, 1) := dk_3 (dk_at dksX0_peak_0 21 rfl rfl)
theorem dX0_peak_22 : decode cX0_peak 22 = .ok (.ireturn, 1) := dk_172 (dk_at dksX0_peak_0 22 rfl rfl)
abbrev cX0_gap : ByteArray := method_14_code
def yX0_gap : MethodName := ⟨RX0, "gap", "(LPingEye;[J)I"⟩
def dkwX0_gap_0 : List UInt8 := [43, 3, 42, 182, 0, 53, 133, 80, 167, 0, 6, 77, 4, 172, 3, 172]
abbrev dktX0_gap_0 : List UInt8 := dkwX0_gap_0 ++ []
theorem dksX0_gap_0 : cX0_gap.data.toList.drop 0 = dktX0_gap_0 := by decide +kernel
theorem dX0_gap_0 : decode cX0_gap 0 = .ok (.aload_n 1, 1) := dk_43 (dk_at dksX0_gap_0 0 rfl rfl)
theorem dX0_gap_1 : decode cX0_gap 1 = .ok (.iconst 0, 1) := dk_3 (dk_at dksX0_gap_0 1 rfl rfl)
theorem dX0_gap_2 : decode cX0_gap 2 = .ok (.aload_n 0, 1) := dk_42 (dk_at dksX0_gap_0 2 rfl rfl)
theorem dX0_gap_3 : decode cX0_gap 3 = .ok (.invokevirtual 53, 3) := dk_182 0 53 (dk_at dksX0_gap_0 3 rfl rfl)
theorem dX0_gap_6 : decode cX0_gap 6 = .ok (.i2l, 1) := dk_133 (dk_at dksX0_gap_0 6 rfl rfl)
theorem dX0_gap_7 : decode cX0_gap 7 = .ok (.lastore, 1) := dk_80 (dk_at dksX0_gap_0 7 rfl rfl)
theorem dX0_gap_8 : decode cX0_gap 8 = .ok (.goto 6, 3) := dk_167 0 6 (dk_at dksX0_gap_0 8 rfl rfl)
theorem dX0_gap_11 : decode cX0_gap 11 = .ok (.astore_n 2, 1) := dk_77 (dk_at dksX0_gap_0 11 rfl rfl)
theorem dX0_gap_12 : decode cX0_gap 12 = .ok (.iconst 1, 1) := dk_4 (dk_at dksX0_gap_0 12 rfl rfl)
theorem dX0_gap_13 : decode cX0_gap 13 = .ok (.ireturn, 1) := dk_172 (dk_at dksX0_gap_0 13 rfl rfl)
theorem dX0_gap_14 : decode cX0_gap 14 = .ok (.iconst 0, 1) := dk_3 (dk_at dksX0_gap_0 14 rfl rfl)
theorem dX0_gap_15 : decode cX0_gap 15 = .ok (.ireturn, 1) := dk_172 (dk_at dksX0_gap_0 15 rfl rfl)
abbrev cX0_bar : ByteArray := method_15_code
def yX0_bar : MethodName := ⟨RX0, "bar", "(LPingEye;II[J)I"⟩
def dkwX0_bar_1 : List UInt8 := [172, 3, 172]
abbrev dktX0_bar_1 : List UInt8 := dkwX0_bar_1 ++ []
def dkwX0_bar_0 : List UInt8 := [45, 3, 42, 27, 28, 182, 0, 56, 133, 80, 167, 0, 15, 58, 4, 4, 172, 58, 4, 5, 172, 58, 4, 6]
abbrev dktX0_bar_0 : List UInt8 := dkwX0_bar_0 ++ dktX0_bar_1
theorem dksX0_bar_0 : cX0_bar.data.toList.drop 0 = dktX0_bar_0 := by decide +kernel
theorem dksX0_bar_1 : cX0_bar.data.toList.drop 24 = dktX0_bar_1 := dk_seg dksX0_bar_0 24 rfl rfl
theorem dX0_bar_0 : decode cX0_bar 0 = .ok (.aload_n 3, 1) := dk_45 (dk_at dksX0_bar_0 0 rfl rfl)
theorem dX0_bar_1 : decode cX0_bar 1 = .ok (.iconst 0, 1) := dk_3 (dk_at dksX0_bar_0 1 rfl rfl)
theorem dX0_bar_2 : decode cX0_bar 2 = .ok (.aload_n 0, 1) := dk_42 (dk_at dksX0_bar_0 2 rfl rfl)
theorem dX0_bar_3 : decode cX0_bar 3 = .ok (.iload_n 1, 1) := dk_27 (dk_at dksX0_bar_0 3 rfl rfl)
theorem dX0_bar_4 : decode cX0_bar 4 = .ok (.iload_n 2, 1) := dk_28 (dk_at dksX0_bar_0 4 rfl rfl)
theorem dX0_bar_5 : decode cX0_bar 5 = .ok (.invokevirtual 56, 3) := dk_182 0 56 (dk_at dksX0_bar_0 5 rfl rfl)
theorem dX0_bar_8 : decode cX0_bar 8 = .ok (.i2l, 1) := dk_133 (dk_at dksX0_bar_0 8 rfl rfl)
theorem dX0_bar_9 : decode cX0_bar 9 = .ok (.lastore, 1) := dk_80 (dk_at dksX0_bar_0 9 rfl rfl)
theorem dX0_bar_10 : decode cX0_bar 10 = .ok (.goto 15, 3) := dk_167 0 15 (dk_at dksX0_bar_0 10 rfl rfl)
theorem dX0_bar_13 : decode cX0_bar 13 = .ok (.astore 4, 2) := dk_58 4 (dk_at dksX0_bar_0 13 rfl rfl)
theorem dX0_bar_15 : decode cX0_bar 15 = .ok (.iconst 1, 1) := dk_4 (dk_at dksX0_bar_0 15 rfl rfl)
theorem dX0_bar_16 : decode cX0_bar 16 = .ok (.ireturn, 1) := dk_172 (dk_at dksX0_bar_0 16 rfl rfl)
theorem dX0_bar_17 : decode cX0_bar 17 = .ok (.astore 4, 2) := dk_58 4 (dk_at dksX0_bar_0 17 rfl rfl)
theorem dX0_bar_19 : decode cX0_bar 19 = .ok (.iconst 2, 1) := dk_5 (dk_at dksX0_bar_0 19 rfl rfl)
theorem dX0_bar_20 : decode cX0_bar 20 = .ok (.ireturn, 1) := dk_172 (dk_at dksX0_bar_0 20 rfl rfl)
theorem dX0_bar_21 : decode cX0_bar 21 = .ok (.astore 4, 2) := dk_58 4 (dk_at dksX0_bar_0 21 rfl rfl)
theorem dX0_bar_23 : decode cX0_bar 23 = .ok (.iconst 3, 1) := dk_6 (dk_at dksX0_bar_0 23 rfl rfl)
theorem dX0_bar_24 : decode cX0_bar 24 = .ok (.ireturn, 1) := dk_172 (dk_at dksX0_bar_1 0 rfl rfl)
theorem dX0_bar_25 : decode cX0_bar 25 = .ok (.iconst 0, 1) := dk_3 (dk_at dksX0_bar_1 1 rfl rfl)
theorem dX0_bar_26 : decode cX0_bar 26 = .ok (.ireturn, 1) := dk_172 (dk_at dksX0_bar_1 2 rfl rfl)
abbrev cX0_heap : ByteArray := method_16_code
def yX0_heap : MethodName := ⟨RX0, "heap", "(LPingEye;I[J)I"⟩
def dkwX0_heap_0 : List UInt8 := [44, 3, 42, 27, 182, 0, 59, 133, 80, 167, 0, 9, 78, 4, 172, 78, 5, 172, 3, 172]
abbrev dktX0_heap_0 : List UInt8 := dkwX0_heap_0 ++ []
theorem dksX0_heap_0 : cX0_heap.data.toList.drop 0 = dktX0_heap_0 := by decide +kernel
theorem dX0_heap_0 : decode cX0_heap 0 = .ok (.aload_n 2, 1) := dk_44 (dk_at dksX0_heap_0 0 rfl rfl)
theorem dX0_heap_1 : decode cX0_heap 1 = .ok (.iconst 0, 1) := dk_3 (dk_at dksX0_heap_0 1 rfl rfl)
theorem dX0_heap_2 : decode cX0_heap 2 = .ok (.aload_n 0, 1) := dk_42 (dk_at dksX0_heap_0 2 rfl rfl)
theorem dX0_heap_3 : decode cX0_heap 3 = .ok (.iload_n 1, 1) := dk_27 (dk_at dksX0_heap_0 3 rfl rfl)
theorem dX0_heap_4 : decode cX0_heap 4 = .ok (.invokevirtual 59, 3) := dk_182 0 59 (dk_at dksX0_heap_0 4 rfl rfl)
theorem dX0_heap_7 : decode cX0_heap 7 = .ok (.i2l, 1) := dk_133 (dk_at dksX0_heap_0 7 rfl rfl)
theorem dX0_heap_8 : decode cX0_heap 8 = .ok (.lastore, 1) := dk_80 (dk_at dksX0_heap_0 8 rfl rfl)
theorem dX0_heap_9 : decode cX0_heap 9 = .ok (.goto 9, 3) := dk_167 0 9 (dk_at dksX0_heap_0 9 rfl rfl)
theorem dX0_heap_12 : decode cX0_heap 12 = .ok (.astore_n 3, 1) := dk_78 (dk_at dksX0_heap_0 12 rfl rfl)
theorem dX0_heap_13 : decode cX0_heap 13 = .ok (.iconst 1, 1) := dk_4 (dk_at dksX0_heap_0 13 rfl rfl)
theorem dX0_heap_14 : decode cX0_heap 14 = .ok (.ireturn, 1) := dk_172 (dk_at dksX0_heap_0 14 rfl rfl)
theorem dX0_heap_15 : decode cX0_heap 15 = .ok (.astore_n 3, 1) := dk_78 (dk_at dksX0_heap_0 15 rfl rfl)
theorem dX0_heap_16 : decode cX0_heap 16 = .ok (.iconst 2, 1) := dk_5 (dk_at dksX0_heap_0 16 rfl rfl)
theorem dX0_heap_17 : decode cX0_heap 17 = .ok (.ireturn, 1) := dk_172 (dk_at dksX0_heap_0 17 rfl rfl)
theorem dX0_heap_18 : decode cX0_heap 18 = .ok (.iconst 0, 1) := dk_3 (dk_at dksX0_heap_0 18 rfl rfl)
theorem dX0_heap_19 : decode cX0_heap 19 = .ok (.ireturn, 1) := dk_172 (dk_at dksX0_heap_0 19 rfl rfl)
abbrev cX0_mask : ByteArray := method_17_code
def yX0_mask : MethodName := ⟨RX0, "mask", "(LPingEye;I[J)I"⟩
def dkwX0_mask_0 : List UInt8 := [44, 3, 42, 27, 182, 0, 62, 133, 80, 167, 0, 9, 78, 4, 172, 78, 5, 172, 3, 172]
abbrev dktX0_mask_0 : List UInt8 := dkwX0_mask_0 ++ []
theorem dksX0_mask_0 : cX0_mask.data.toList.drop 0 = dktX0_mask_0 := by decide +kernel
theorem dX0_mask_0 : decode cX0_mask 0 = .ok (.aload_n 2, 1) := dk_44 (dk_at dksX0_mask_0 0 rfl rfl)
theorem dX0_mask_1 : decode cX0_mask 1 = .ok (.iconst 0, 1) := dk_3 (dk_at dksX0_mask_0 1 rfl rfl)
theorem dX0_mask_2 : decode cX0_mask 2 = .ok (.aload_n 0, 1) := dk_42 (dk_at dksX0_mask_0 2 rfl rfl)
theorem dX0_mask_3 : decode cX0_mask 3 = .ok (.iload_n 1, 1) := dk_27 (dk_at dksX0_mask_0 3 rfl rfl)
theorem dX0_mask_4 : decode cX0_mask 4 = .ok (.invokevirtual 62, 3) := dk_182 0 62 (dk_at dksX0_mask_0 4 rfl rfl)
theorem dX0_mask_7 : decode cX0_mask 7 = .ok (.i2l, 1) := dk_133 (dk_at dksX0_mask_0 7 rfl rfl)
theorem dX0_mask_8 : decode cX0_mask 8 = .ok (.lastore, 1) := dk_80 (dk_at dksX0_mask_0 8 rfl rfl)
theorem dX0_mask_9 : decode cX0_mask 9 = .ok (.goto 9, 3) := dk_167 0 9 (dk_at dksX0_mask_0 9 rfl rfl)
theorem dX0_mask_12 : decode cX0_mask 12 = .ok (.astore_n 3, 1) := dk_78 (dk_at dksX0_mask_0 12 rfl rfl)
theorem dX0_mask_13 : decode cX0_mask 13 = .ok (.iconst 1, 1) := dk_4 (dk_at dksX0_mask_0 13 rfl rfl)
theorem dX0_mask_14 : decode cX0_mask 14 = .ok (.ireturn, 1) := dk_172 (dk_at dksX0_mask_0 14 rfl rfl)
theorem dX0_mask_15 : decode cX0_mask 15 = .ok (.astore_n 3, 1) := dk_78 (dk_at dksX0_mask_0 15 rfl rfl)
theorem dX0_mask_16 : decode cX0_mask 16 = .ok (.iconst 2, 1) := dk_5 (dk_at dksX0_mask_0 16 rfl rfl)
theorem dX0_mask_17 : decode cX0_mask 17 = .ok (.ireturn, 1) := dk_172 (dk_at dksX0_mask_0 17 rfl rfl)
theorem dX0_mask_18 : decode cX0_mask 18 = .ok (.iconst 0, 1) := dk_3 (dk_at dksX0_mask_0 18 rfl rfl)
theorem dX0_mask_19 : decode cX0_mask 19 = .ok (.ireturn, 1) := dk_172 (dk_at dksX0_mask_0 19 rfl rfl)
abbrev cX0_echo : ByteArray := method_18_code
def yX0_echo : MethodName := ⟨RX0, "echo", "(LPingEye;IZ[J)I"⟩
def dkwX0_echo_0 : List UInt8 := [45, 3, 42, 27, 28, 182, 0, 65, 133, 80, 167, 0, 7, 58, 4, 4, 172, 3, 172]
abbrev dktX0_echo_0 : List UInt8 := dkwX0_echo_0 ++ []
theorem dksX0_echo_0 : cX0_echo.data.toList.drop 0 = dktX0_echo_0 := by decide +kernel
theorem dX0_echo_0 : decode cX0_echo 0 = .ok (.aload_n 3, 1) := dk_45 (dk_at dksX0_echo_0 0 rfl rfl)
theorem dX0_echo_1 : decode cX0_echo 1 = .ok (.iconst 0, 1) := dk_3 (dk_at dksX0_echo_0 1 rfl rfl)
theorem dX0_echo_2 : decode cX0_echo 2 = .ok (.aload_n 0, 1) := dk_42 (dk_at dksX0_echo_0 2 rfl rfl)
theorem dX0_echo_3 : decode cX0_echo 3 = .ok (.iload_n 1, 1) := dk_27 (dk_at dksX0_echo_0 3 rfl rfl)
theorem dX0_echo_4 : decode cX0_echo 4 = .ok (.iload_n 2, 1) := dk_28 (dk_at dksX0_echo_0 4 rfl rfl)
theorem dX0_echo_5 : decode cX0_echo 5 = .ok (.invokevirtual 65, 3) := dk_182 0 65 (dk_at dksX0_echo_0 5 rfl rfl)
theorem dX0_echo_8 : decode cX0_echo 8 = .ok (.i2l, 1) := dk_133 (dk_at dksX0_echo_0 8 rfl rfl)
theorem dX0_echo_9 : decode cX0_echo 9 = .ok (.lastore, 1) := dk_80 (dk_at dksX0_echo_0 9 rfl rfl)
theorem dX0_echo_10 : decode cX0_echo 10 = .ok (.goto 7, 3) := dk_167 0 7 (dk_at dksX0_echo_0 10 rfl rfl)
theorem dX0_echo_13 : decode cX0_echo 13 = .ok (.astore 4, 2) := dk_58 4 (dk_at dksX0_echo_0 13 rfl rfl)
theorem dX0_echo_15 : decode cX0_echo 15 = .ok (.iconst 1, 1) := dk_4 (dk_at dksX0_echo_0 15 rfl rfl)
theorem dX0_echo_16 : decode cX0_echo 16 = .ok (.ireturn, 1) := dk_172 (dk_at dksX0_echo_0 16 rfl rfl)
theorem dX0_echo_17 : decode cX0_echo 17 = .ok (.iconst 0, 1) := dk_3 (dk_at dksX0_echo_0 17 rfl rfl)
theorem dX0_echo_18 : decode cX0_echo 18 = .ok (.ireturn, 1) := dk_172 (dk_at dksX0_echo_0 18 rfl rfl)
abbrev cX0_chosen : ByteArray := method_19_code
def yX0_chosen : MethodName := ⟨RX0, "chosen", "(LPingEye;[J)I"⟩
def dkwX0_chosen_0 : List UInt8 := [43, 3, 42, 182, 0, 69, 133, 80, 167, 0, 6, 77, 4, 172, 3, 172]
abbrev dktX0_chosen_0 : List UInt8 := dkwX0_chosen_0 ++ []
theorem dksX0_chosen_0 : cX0_chosen.data.toList.drop 0 = dktX0_chosen_0 := by decide +kernel
theorem dX0_chosen_0 : decode cX0_chosen 0 = .ok (.aload_n 1, 1) := dk_43 (dk_at dksX0_chosen_0 0 rfl rfl)
theorem dX0_chosen_1 : decode cX0_chosen 1 = .ok (.iconst 0, 1) := dk_3 (dk_at dksX0_chosen_0 1 rfl rfl)
theorem dX0_chosen_2 : decode cX0_chosen 2 = .ok (.aload_n 0, 1) := dk_42 (dk_at dksX0_chosen_0 2 rfl rfl)
theorem dX0_chosen_3 : decode cX0_chosen 3 = .ok (.invokevirtual 69, 3) := dk_182 0 69 (dk_at dksX0_chosen_0 3 rfl rfl)
theorem dX0_chosen_6 : decode cX0_chosen 6 = .ok (.i2l, 1) := dk_133 (dk_at dksX0_chosen_0 6 rfl rfl)
theorem dX0_chosen_7 : decode cX0_chosen 7 = .ok (.lastore, 1) := dk_80 (dk_at dksX0_chosen_0 7 rfl rfl)
theorem dX0_chosen_8 : decode cX0_chosen 8 = .ok (.goto 6, 3) := dk_167 0 6 (dk_at dksX0_chosen_0 8 rfl rfl)
theorem dX0_chosen_11 : decode cX0_chosen 11 = .ok (.astore_n 2, 1) := dk_77 (dk_at dksX0_chosen_0 11 rfl rfl)
theorem dX0_chosen_12 : decode cX0_chosen 12 = .ok (.iconst 1, 1) := dk_4 (dk_at dksX0_chosen_0 12 rfl rfl)
theorem dX0_chosen_13 : decode cX0_chosen 13 = .ok (.ireturn, 1) := dk_172 (dk_at dksX0_chosen_0 13 rfl rfl)
theorem dX0_chosen_14 : decode cX0_chosen 14 = .ok (.iconst 0, 1) := dk_3 (dk_at dksX0_chosen_0 14 rfl rfl)
theorem dX0_chosen_15 : decode cX0_chosen 15 = .ok (.ireturn, 1) := dk_172 (dk_at dksX0_chosen_0 15 rfl rfl)
abbrev cX0_whyNotHeap : ByteArray := method_20_code
def yX0_whyNotHeap : MethodName := ⟨RX0, "whyNotHeap", "(LPingEye;[J)I"⟩
def dkwX0_whyNotHeap_0 : List UInt8 := [43, 3, 42, 182, 0, 72, 133, 80, 167, 0, 6, 77, 4, 172, 3, 172]
abbrev dktX0_whyNotHeap_0 : List UInt8 := dkwX0_whyNotHeap_0 ++ []
theorem dksX0_whyNotHeap_0 : cX0_whyNotHeap.data.toList.drop 0 = dktX0_whyNotHeap_0 := by decide +kernel
theorem dX0_whyNotHeap_0 : decode cX0_whyNotHeap 0 = .ok (.aload_n 1, 1) := dk_43 (dk_at dksX0_whyNotHeap_0 0 rfl rfl)
theorem dX0_whyNotHeap_1 : decode cX0_whyNotHeap 1 = .ok (.iconst 0, 1) := dk_3 (dk_at dksX0_whyNotHeap_0 1 rfl rfl)
theorem dX0_whyNotHeap_2 : decode cX0_whyNotHeap 2 = .ok (.aload_n 0, 1) := dk_42 (dk_at dksX0_whyNotHeap_0 2 rfl rfl)
theorem dX0_whyNotHeap_3 : decode cX0_whyNotHeap 3 = .ok (.invokevirtual 72, 3) := dk_182 0 72 (dk_at dksX0_whyNotHeap_0 3 rfl rfl)
theorem dX0_whyNotHeap_6 : decode cX0_whyNotHeap 6 = .ok (.i2l, 1) := dk_133 (dk_at dksX0_whyNotHeap_0 6 rfl rfl)
theorem dX0_whyNotHeap_7 : decode cX0_whyNotHeap 7 = .ok (.lastore, 1) := dk_80 (dk_at dksX0_whyNotHeap_0 7 rfl rfl)
theorem dX0_whyNotHeap_8 : decode cX0_whyNotHeap 8 = .ok (.goto 6, 3) := dk_167 0 6 (dk_at dksX0_whyNotHeap_0 8 rfl rfl)
theorem dX0_whyNotHeap_11 : decode cX0_whyNotHeap 11 = .ok (.astore_n 2, 1) := dk_77 (dk_at dksX0_whyNotHeap_0 11 rfl rfl)
theorem dX0_whyNotHeap_12 : decode cX0_whyNotHeap 12 = .ok (.iconst 1, 1) := dk_4 (dk_at dksX0_whyNotHeap_0 12 rfl rfl)
theorem dX0_whyNotHeap_13 : decode cX0_whyNotHeap 13 = .ok (.ireturn, 1) := dk_172 (dk_at dksX0_whyNotHeap_0 13 rfl rfl)
theorem dX0_whyNotHeap_14 : decode cX0_whyNotHeap 14 = .ok (.iconst 0, 1) := dk_3 (dk_at dksX0_whyNotHeap_0 14 rfl rfl)
theorem dX0_whyNotHeap_15 : decode cX0_whyNotHeap 15 = .ok (.ireturn, 1) := dk_172 (dk_at dksX0_whyNotHeap_0 15 rfl rfl)
abbrev cX0_echoMany : ByteArray := method_21_code
def yX0_echoMany : MethodName := ⟨RX0, "echoMany", "(LPingEye;Z[J)I"⟩
def dkwX0_echoMany_0 : List UInt8 := [44, 3, 42, 27, 182, 0, 75, 133, 80, 167, 0, 6, 78, 4, 172, 3, 172]
abbrev dktX0_echoMany_0 : List UInt8 := dkwX0_echoMany_0 ++ []
theorem dksX0_echoMany_0 : cX0_echoMany.data.toList.drop 0 = dktX0_echoMany_0 := by decide +kernel
theorem dX0_echoMany_0 : decode cX0_echoMany 0 = .ok (.aload_n 2, 1) := dk_44 (dk_at dksX0_echoMany_0 0 rfl rfl)
theorem dX0_echoMany_1 : decode cX0_echoMany 1 = .ok (.iconst 0, 1) := dk_3 (dk_at dksX0_echoMany_0 1 rfl rfl)
theorem dX0_echoMany_2 : decode cX0_echoMany 2 = .ok (.aload_n 0, 1) := dk_42 (dk_at dksX0_echoMany_0 2 rfl rfl)
theorem dX0_echoMany_3 : decode cX0_echoMany 3 = .ok (.iload_n 1, 1) := dk_27 (dk_at dksX0_echoMany_0 3 rfl rfl)
theorem dX0_echoMany_4 : decode cX0_echoMany 4 = .ok (.invokevirtual 75, 3) := dk_182 0 75 (dk_at dksX0_echoMany_0 4 rfl rfl)
theorem dX0_echoMany_7 : decode cX0_echoMany 7 = .ok (.i2l, 1) := dk_133 (dk_at dksX0_echoMany_0 7 rfl rfl)
theorem dX0_echoMany_8 : decode cX0_echoMany 8 = .ok (.lastore, 1) := dk_80 (dk_at dksX0_echoMany_0 8 rfl rfl)
theorem dX0_echoMany_9 : decode cX0_echoMany 9 = .ok (.goto 6, 3) := dk_167 0 6 (dk_at dksX0_echoMany_0 9 rfl rfl)
theorem dX0_echoMany_12 : decode cX0_echoMany 12 = .ok (.astore_n 3, 1) := dk_78 (dk_at dksX0_echoMany_0 12 rfl rfl)
theorem dX0_echoMany_13 : decode cX0_echoMany 13 = .ok (.iconst 1, 1) := dk_4 (dk_at dksX0_echoMany_0 13 rfl rfl)
theorem dX0_echoMany_14 : decode cX0_echoMany 14 = .ok (.ireturn, 1) := dk_172 (dk_at dksX0_echoMany_0 14 rfl rfl)
theorem dX0_echoMany_15 : decode cX0_echoMany 15 = .ok (.iconst 0, 1) := dk_3 (dk_at dksX0_echoMany_0 15 rfl rfl)
theorem dX0_echoMany_16 : decode cX0_echoMany 16 = .ok (.ireturn, 1) := dk_172 (dk_at dksX0_echoMany_0 16 rfl rfl)
abbrev cX0_second : ByteArray := method_22_code
def yX0_second : MethodName := ⟨RX0, "second", "(LPingEye;[J)I"⟩
def dkwX0_second_0 : List UInt8 := [43, 3, 42, 182, 0, 78, 133, 80, 167, 0, 6, 77, 4, 172, 3, 172]
abbrev dktX0_second_0 : List UInt8 := dkwX0_second_0 ++ []
theorem dksX0_second_0 : cX0_second.data.toList.drop 0 = dktX0_second_0 := by decide +kernel
theorem dX0_second_0 : decode cX0_second 0 = .ok (.aload_n 1, 1) := dk_43 (dk_at dksX0_second_0 0 rfl rfl)
theorem dX0_second_1 : decode cX0_second 1 = .ok (.iconst 0, 1) := dk_3 (dk_at dksX0_second_0 1 rfl rfl)
theorem dX0_second_2 : decode cX0_second 2 = .ok (.aload_n 0, 1) := dk_42 (dk_at dksX0_second_0 2 rfl rfl)
theorem dX0_second_3 : decode cX0_second 3 = .ok (.invokevirtual 78, 3) := dk_182 0 78 (dk_at dksX0_second_0 3 rfl rfl)
theorem dX0_second_6 : decode cX0_second 6 = .ok (.i2l, 1) := dk_133 (dk_at dksX0_second_0 6 rfl rfl)
theorem dX0_second_7 : decode cX0_second 7 = .ok (.lastore, 1) := dk_80 (dk_at dksX0_second_0 7 rfl rfl)
theorem dX0_second_8 : decode cX0_second 8 = .ok (.goto 6, 3) := dk_167 0 6 (dk_at dksX0_second_0 8 rfl rfl)
theorem dX0_second_11 : decode cX0_second 11 = .ok (.astore_n 2, 1) := dk_77 (dk_at dksX0_second_0 11 rfl rfl)
theorem dX0_second_12 : decode cX0_second 12 = .ok (.iconst 1, 1) := dk_4 (dk_at dksX0_second_0 12 rfl rfl)
theorem dX0_second_13 : decode cX0_second 13 = .ok (.ireturn, 1) := dk_172 (dk_at dksX0_second_0 13 rfl rfl)
theorem dX0_second_14 : decode cX0_second 14 = .ok (.iconst 0, 1) := dk_3 (dk_at dksX0_second_0 14 rfl rfl)
theorem dX0_second_15 : decode cX0_second 15 = .ok (.ireturn, 1) := dk_172 (dk_at dksX0_second_0 15 rfl rfl)
abbrev cX0_error : ByteArray := method_23_code
def yX0_error : MethodName := ⟨RX0, "error", "(LPingEye;[J)I"⟩
def dkwX0_error_0 : List UInt8 := [43, 3, 42, 182, 0, 81, 133, 80, 167, 0, 6, 77, 4, 172, 3, 172]
abbrev dktX0_error_0 : List UInt8 := dkwX0_error_0 ++ []
theorem dksX0_error_0 : cX0_error.data.toList.drop 0 = dktX0_error_0 := by decide +kernel
theorem dX0_error_0 : decode cX0_error 0 = .ok (.aload_n 1, 1) := dk_43 (dk_at dksX0_error_0 0 rfl rfl)
theorem dX0_error_1 : decode cX0_error 1 = .ok (.iconst 0, 1) := dk_3 (dk_at dksX0_error_0 1 rfl rfl)
theorem dX0_error_2 : decode cX0_error 2 = .ok (.aload_n 0, 1) := dk_42 (dk_at dksX0_error_0 2 rfl rfl)
theorem dX0_error_3 : decode cX0_error 3 = .ok (.invokevirtual 81, 3) := dk_182 0 81 (dk_at dksX0_error_0 3 rfl rfl)
theorem dX0_error_6 : decode cX0_error 6 = .ok (.i2l, 1) := dk_133 (dk_at dksX0_error_0 6 rfl rfl)
theorem dX0_error_7 : decode cX0_error 7 = .ok (.lastore, 1) := dk_80 (dk_at dksX0_error_0 7 rfl rfl)
theorem dX0_error_8 : decode cX0_error 8 = .ok (.goto 6, 3) := dk_167 0 6 (dk_at dksX0_error_0 8 rfl rfl)
theorem dX0_error_11 : decode cX0_error 11 = .ok (.astore_n 2, 1) := dk_77 (dk_at dksX0_error_0 11 rfl rfl)
theorem dX0_error_12 : decode cX0_error 12 = .ok (.iconst 1, 1) := dk_4 (dk_at dksX0_error_0 12 rfl rfl)
theorem dX0_error_13 : decode cX0_error 13 = .ok (.ireturn, 1) := dk_172 (dk_at dksX0_error_0 13 rfl rfl)
theorem dX0_error_14 : decode cX0_error 14 = .ok (.iconst 0, 1) := dk_3 (dk_at dksX0_error_0 14 rfl rfl)
theorem dX0_error_15 : decode cX0_error 15 = .ok (.ireturn, 1) := dk_172 (dk_at dksX0_error_0 15 rfl rfl)
abbrev cX0_whyNotBelieved : ByteArray := method_24_code
def yX0_whyNotBelieved : MethodName := ⟨RX0, "whyNotBelieved", "(LPingEye;[J)I"⟩
def dkwX0_whyNotBelieved_0 : List UInt8 := [43, 3, 42, 182, 0, 84, 133, 80, 167, 0, 6, 77, 4, 172, 3, 172]
abbrev dktX0_whyNotBelieved_0 : List UInt8 := dkwX0_whyNotBelieved_0 ++ []
theorem dksX0_whyNotBelieved_0 : cX0_whyNotBelieved.data.toList.drop 0 = dktX0_whyNotBelieved_0 := by decide +kernel
theorem dX0_whyNotBelieved_0 : decode cX0_whyNotBelieved 0 = .ok (.aload_n 1, 1) := dk_43 (dk_at dksX0_whyNotBelieved_0 0 rfl rfl)
theorem dX0_whyNotBelieved_1 : decode cX0_whyNotBelieved 1 = .ok (.iconst 0, 1) := dk_3 (dk_at dksX0_whyNotBelieved_0 1 rfl rfl)
theorem dX0_whyNotBelieved_2 : decode cX0_whyNotBelieved 2 = .ok (.aload_n 0, 1) := dk_42 (dk_at dksX0_whyNotBelieved_0 2 rfl rfl)
theorem dX0_whyNotBelieved_3 : decode cX0_whyNotBelieved 3 = .ok (.invokevirtual 84, 3) := dk_182 0 84 (dk_at dksX0_whyNotBelieved_0 3 rfl rfl)
theorem dX0_whyNotBelieved_6 : decode cX0_whyNotBelieved 6 = .ok (.i2l, 1) := dk_133 (dk_at dksX0_whyNotBelieved_0 6 rfl rfl)
theorem dX0_whyNotBelieved_7 : decode cX0_whyNotBelieved 7 = .ok (.lastore, 1) := dk_80 (dk_at dksX0_whyNotBelieved_0 7 rfl rfl)
theorem dX0_whyNotBelieved_8 : decode cX0_whyNotBelieved 8 = .ok (.goto 6, 3) := dk_167 0 6 (dk_at dksX0_whyNotBelieved_0 8 rfl rfl)
theorem dX0_whyNotBelieved_11 : decode cX0_whyNotBelieved 11 = .ok (.astore_n 2, 1) := dk_77 (dk_at dksX0_whyNotBelieved_0 11 rfl rfl)
theorem dX0_whyNotBelieved_12 : decode cX0_whyNotBelieved 12 = .ok (.iconst 1, 1) := dk_4 (dk_at dksX0_whyNotBelieved_0 12 rfl rfl)
theorem dX0_whyNotBelieved_13 : decode cX0_whyNotBelieved 13 = .ok (.ireturn, 1) := dk_172 (dk_at dksX0_whyNotBelieved_0 13 rfl rfl)
theorem dX0_whyNotBelieved_14 : decode cX0_whyNotBelieved 14 = .ok (.iconst 0, 1) := dk_3 (dk_at dksX0_whyNotBelieved_0 14 rfl rfl)
theorem dX0_whyNotBelieved_15 : decode cX0_whyNotBelieved 15 = .ok (.ireturn, 1) := dk_172 (dk_at dksX0_whyNotBelieved_0 15 rfl rfl)
abbrev cX0_levelAfter : ByteArray := method_25_code
def yX0_levelAfter : MethodName := ⟨RX0, "levelAfter", "(LPingEye;I[J)I"⟩
def dkwX0_levelAfter_0 : List UInt8 := [44, 3, 42, 27, 182, 0, 87, 133, 80, 167, 0, 9, 78, 4, 172, 78, 5, 172, 3, 172]
abbrev dktX0_levelAfter_0 : List UInt8 := dkwX0_levelAfter_0 ++ []
theorem dksX0_levelAfter_0 : cX0_levelAfter.data.toList.drop 0 = dktX0_levelAfter_0 := by decide +kernel
theorem dX0_levelAfter_0 : decode cX0_levelAfter 0 = .ok (.aload_n 2, 1) := dk_44 (dk_at dksX0_levelAfter_0 0 rfl rfl)
theorem dX0_levelAfter_1 : decode cX0_levelAfter 1 = .ok (.iconst 0, 1) := dk_3 (dk_at dksX0_levelAfter_0 1 rfl rfl)
theorem dX0_levelAfter_2 : decode cX0_levelAfter 2 = .ok (.aload_n 0, 1) := dk_42 (dk_at dksX0_levelAfter_0 2 rfl rfl)
theorem dX0_levelAfter_3 : decode cX0_levelAfter 3 = .ok (.iload_n 1, 1) := dk_27 (dk_at dksX0_levelAfter_0 3 rfl rfl)
theorem dX0_levelAfter_4 : decode cX0_levelAfter 4 = .ok (.invokevirtual 87, 3) := dk_182 0 87 (dk_at dksX0_levelAfter_0 4 rfl rfl)
theorem dX0_levelAfter_7 : decode cX0_levelAfter 7 = .ok (.i2l, 1) := dk_133 (dk_at dksX0_levelAfter_0 7 rfl rfl)
theorem dX0_levelAfter_8 : decode cX0_levelAfter 8 = .ok (.lastore, 1) := dk_80 (dk_at dksX0_levelAfter_0 8 rfl rfl)
theorem dX0_levelAfter_9 : decode cX0_levelAfter 9 = .ok (.goto 9, 3) := dk_167 0 9 (dk_at dksX0_levelAfter_0 9 rfl rfl)
theorem dX0_levelAfter_12 : decode cX0_levelAfter 12 = .ok (.astore_n 3, 1) := dk_78 (dk_at dksX0_levelAfter_0 12 rfl rfl)
theorem dX0_levelAfter_13 : decode cX0_levelAfter 13 = .ok (.iconst 1, 1) := dk_4 (dk_at dksX0_levelAfter_0 13 rfl rfl)
theorem dX0_levelAfter_14 : decode cX0_levelAfter 14 = .ok (.ireturn, 1) := dk_172 (dk_at dksX0_levelAfter_0 14 rfl rfl)
theorem dX0_levelAfter_15 : decode cX0_levelAfter 15 = .ok (.astore_n 3, 1) := dk_78 (dk_at dksX0_levelAfter_0 15 rfl rfl)
theorem dX0_levelAfter_16 : decode cX0_levelAfter 16 = .ok (.iconst 2, 1) := dk_5 (dk_at dksX0_levelAfter_0 16 rfl rfl)
theorem dX0_levelAfter_17 : decode cX0_levelAfter 17 = .ok (.ireturn, 1) := dk_172 (dk_at dksX0_levelAfter_0 17 rfl rfl)
theorem dX0_levelAfter_18 : decode cX0_levelAfter 18 = .ok (.iconst 0, 1) := dk_3 (dk_at dksX0_levelAfter_0 18 rfl rfl)
theorem dX0_levelAfter_19 : decode cX0_levelAfter 19 = .ok (.ireturn, 1) := dk_172 (dk_at dksX0_levelAfter_0 19 rfl rfl)
abbrev cX0_pingsToTrue : ByteArray := method_26_code
def yX0_pingsToTrue : MethodName := ⟨RX0, "pingsToTrue", "(LPingEye;[J)I"⟩
def dkwX0_pingsToTrue_0 : List UInt8 := [43, 3, 42, 182, 0, 90, 133, 80, 167, 0, 6, 77, 4, 172, 3, 172]
abbrev dktX0_pingsToTrue_0 : List UInt8 := dkwX0_pingsToTrue_0 ++ []
theorem dksX0_pingsToTrue_0 : cX0_pingsToTrue.data.toList.drop 0 = dktX0_pingsToTrue_0 := by decide +kernel
theorem dX0_pingsToTrue_0 : decode cX0_pingsToTrue 0 = .ok (.aload_n 1, 1) := dk_43 (dk_at dksX0_pingsToTrue_0 0 rfl rfl)
theorem dX0_pingsToTrue_1 : decode cX0_pingsToTrue 1 = .ok (.iconst 0, 1) := dk_3 (dk_at dksX0_pingsToTrue_0 1 rfl rfl)
theorem dX0_pingsToTrue_2 : decode cX0_pingsToTrue 2 = .ok (.aload_n 0, 1) := dk_42 (dk_at dksX0_pingsToTrue_0 2 rfl rfl)
theorem dX0_pingsToTrue_3 : decode cX0_pingsToTrue 3 = .ok (.invokevirtual 90, 3) := dk_182 0 90 (dk_at dksX0_pingsToTrue_0 3 rfl rfl)
theorem dX0_pingsToTrue_6 : decode cX0_pingsToTrue 6 = .ok (.i2l, 1) := dk_133 (dk_at dksX0_pingsToTrue_0 6 rfl rfl)
theorem dX0_pingsToTrue_7 : decode cX0_pingsToTrue 7 = .ok (.lastore, 1) := dk_80 (dk_at dksX0_pingsToTrue_0 7 rfl rfl)
theorem dX0_pingsToTrue_8 : decode cX0_pingsToTrue 8 = .ok (.goto 6, 3) := dk_167 0 6 (dk_at dksX0_pingsToTrue_0 8 rfl rfl)
theorem dX0_pingsToTrue_11 : decode cX0_pingsToTrue 11 = .ok (.astore_n 2, 1) := dk_77 (dk_at dksX0_pingsToTrue_0 11 rfl rfl)
theorem dX0_pingsToTrue_12 : decode cX0_pingsToTrue 12 = .ok (.iconst 1, 1) := dk_4 (dk_at dksX0_pingsToTrue_0 12 rfl rfl)
theorem dX0_pingsToTrue_13 : decode cX0_pingsToTrue 13 = .ok (.ireturn, 1) := dk_172 (dk_at dksX0_pingsToTrue_0 13 rfl rfl)
theorem dX0_pingsToTrue_14 : decode cX0_pingsToTrue 14 = .ok (.iconst 0, 1) := dk_3 (dk_at dksX0_pingsToTrue_0 14 rfl rfl)
theorem dX0_pingsToTrue_15 : decode cX0_pingsToTrue 15 = .ok (.ireturn, 1) := dk_172 (dk_at dksX0_pingsToTrue_0 15 rfl rfl)
abbrev cX0_deafFrom : ByteArray := method_27_code
def yX0_deafFrom : MethodName := ⟨RX0, "deafFrom", "(LPingEye;[J)I"⟩
def dkwX0_deafFrom_0 : List UInt8 := [43, 3, 42, 182, 0, 93, 133, 80, 167, 0, 6, 77, 4, 172, 3, 172]
abbrev dktX0_deafFrom_0 : List UInt8 := dkwX0_deafFrom_0 ++ []
theorem dksX0_deafFrom_0 : cX0_deafFrom.data.toList.drop 0 = dktX0_deafFrom_0 := by decide +kernel
theorem dX0_deafFrom_0 : decode cX0_deafFrom 0 = .ok (.aload_n 1, 1) := dk_43 (dk_at dksX0_deafFrom_0 0 rfl rfl)
theorem dX0_deafFrom_1 : decode cX0_deafFrom 1 = .ok (.iconst 0, 1) := dk_3 (dk_at dksX0_deafFrom_0 1 rfl rfl)
theorem dX0_deafFrom_2 : decode cX0_deafFrom 2 = .ok (.aload_n 0, 1) := dk_42 (dk_at dksX0_deafFrom_0 2 rfl rfl)
theorem dX0_deafFrom_3 : decode cX0_deafFrom 3 = .ok (.invokevirtual 93, 3) := dk_182 0 93 (dk_at dksX0_deafFrom_0 3 rfl rfl)
theorem dX0_deafFrom_6 : decode cX0_deafFrom 6 = .ok (.i2l, 1) := dk_133 (dk_at dksX0_deafFrom_0 6 rfl rfl)
theorem dX0_deafFrom_7 : decode cX0_deafFrom 7 = .ok (.lastore, 1) := dk_80 (dk_at dksX0_deafFrom_0 7 rfl rfl)
theorem dX0_deafFrom_8 : decode cX0_deafFrom 8 = .ok (.goto 6, 3) := dk_167 0 6 (dk_at dksX0_deafFrom_0 8 rfl rfl)
theorem dX0_deafFrom_11 : decode cX0_deafFrom 11 = .ok (.astore_n 2, 1) := dk_77 (dk_at dksX0_deafFrom_0 11 rfl rfl)
theorem dX0_deafFrom_12 : decode cX0_deafFrom 12 = .ok (.iconst 1, 1) := dk_4 (dk_at dksX0_deafFrom_0 12 rfl rfl)
theorem dX0_deafFrom_13 : decode cX0_deafFrom 13 = .ok (.ireturn, 1) := dk_172 (dk_at dksX0_deafFrom_0 13 rfl rfl)
theorem dX0_deafFrom_14 : decode cX0_deafFrom 14 = .ok (.iconst 0, 1) := dk_3 (dk_at dksX0_deafFrom_0 14 rfl rfl)
theorem dX0_deafFrom_15 : decode cX0_deafFrom 15 = .ok (.ireturn, 1) := dk_172 (dk_at dksX0_deafFrom_0 15 rfl rfl)
abbrev cX0_heightIf : ByteArray := method_28_code
def yX0_heightIf : MethodName := ⟨RX0, "heightIf", "(LPingEye;III[J)I"⟩
def dkwX0_heightIf_1 : List UInt8 := [58, 5, 6, 172, 3, 172]
abbrev dktX0_heightIf_1 : List UInt8 := dkwX0_heightIf_1 ++ []
def dkwX0_heightIf_0 : List UInt8 := [25, 4, 3, 42, 27, 28, 29, 182, 0, 96, 133, 80, 167, 0, 15, 58, 5, 4, 172, 58, 5, 5, 172]
abbrev dktX0_heightIf_0 : List UInt8 := dkwX0_heightIf_0 ++ dktX0_heightIf_1
theorem dksX0_heightIf_0 : cX0_heightIf.data.toList.drop 0 = dktX0_heightIf_0 := by decide +kernel
theorem dksX0_heightIf_1 : cX0_heightIf.data.toList.drop 23 = dktX0_heightIf_1 := dk_seg dksX0_heightIf_0 23 rfl rfl
theorem dX0_heightIf_0 : decode cX0_heightIf 0 = .ok (.aload 4, 2) := dk_25 4 (dk_at dksX0_heightIf_0 0 rfl rfl)
theorem dX0_heightIf_2 : decode cX0_heightIf 2 = .ok (.iconst 0, 1) := dk_3 (dk_at dksX0_heightIf_0 2 rfl rfl)
theorem dX0_heightIf_3 : decode cX0_heightIf 3 = .ok (.aload_n 0, 1) := dk_42 (dk_at dksX0_heightIf_0 3 rfl rfl)
theorem dX0_heightIf_4 : decode cX0_heightIf 4 = .ok (.iload_n 1, 1) := dk_27 (dk_at dksX0_heightIf_0 4 rfl rfl)
theorem dX0_heightIf_5 : decode cX0_heightIf 5 = .ok (.iload_n 2, 1) := dk_28 (dk_at dksX0_heightIf_0 5 rfl rfl)
theorem dX0_heightIf_6 : decode cX0_heightIf 6 = .ok (.iload_n 3, 1) := dk_29 (dk_at dksX0_heightIf_0 6 rfl rfl)
theorem dX0_heightIf_7 : decode cX0_heightIf 7 = .ok (.invokevirtual 96, 3) := dk_182 0 96 (dk_at dksX0_heightIf_0 7 rfl rfl)
theorem dX0_heightIf_10 : decode cX0_heightIf 10 = .ok (.i2l, 1) := dk_133 (dk_at dksX0_heightIf_0 10 rfl rfl)
theorem dX0_heightIf_11 : decode cX0_heightIf 11 = .ok (.lastore, 1) := dk_80 (dk_at dksX0_heightIf_0 11 rfl rfl)
theorem dX0_heightIf_12 : decode cX0_heightIf 12 = .ok (.goto 15, 3) := dk_167 0 15 (dk_at dksX0_heightIf_0 12 rfl rfl)
theorem dX0_heightIf_15 : decode cX0_heightIf 15 = .ok (.astore 5, 2) := dk_58 5 (dk_at dksX0_heightIf_0 15 rfl rfl)
theorem dX0_heightIf_17 : decode cX0_heightIf 17 = .ok (.iconst 1, 1) := dk_4 (dk_at dksX0_heightIf_0 17 rfl rfl)
theorem dX0_heightIf_18 : decode cX0_heightIf 18 = .ok (.ireturn, 1) := dk_172 (dk_at dksX0_heightIf_0 18 rfl rfl)
theorem dX0_heightIf_19 : decode cX0_heightIf 19 = .ok (.astore 5, 2) := dk_58 5 (dk_at dksX0_heightIf_0 19 rfl rfl)
theorem dX0_heightIf_21 : decode cX0_heightIf 21 = .ok (.iconst 2, 1) := dk_5 (dk_at dksX0_heightIf_0 21 rfl rfl)
theorem dX0_heightIf_22 : decode cX0_heightIf 22 = .ok (.ireturn, 1) := dk_172 (dk_at dksX0_heightIf_0 22 rfl rfl)
theorem dX0_heightIf_23 : decode cX0_heightIf 23 = .ok (.astore 5, 2) := dk_58 5 (dk_at dksX0_heightIf_1 0 rfl rfl)
theorem dX0_heightIf_25 : decode cX0_heightIf 25 = .ok (.iconst 3, 1) := dk_6 (dk_at dksX0_heightIf_1 2 rfl rfl)
theorem dX0_heightIf_26 : decode cX0_heightIf 26 = .ok (.ireturn, 1) := dk_172 (dk_at dksX0_heightIf_1 3 rfl rfl)
theorem dX0_heightIf_27 : decode cX0_heightIf 27 = .ok (.iconst 0, 1) := dk_3 (dk_at dksX0_heightIf_1 4 rfl rfl)
theorem dX0_heightIf_28 : decode cX0_heightIf 28 = .ok (.ireturn, 1) := dk_172 (dk_at dksX0_heightIf_1 5 rfl rfl)
abbrev cX0_spilledIf : ByteArray := method_29_code
def yX0_spilledIf : MethodName := ⟨RX0, "spilledIf", "(LPingEye;II[J)I"⟩
def dkwX0_spilledIf_1 : List UInt8 := [172, 3, 172]
abbrev dktX0_spilledIf_1 : List UInt8 := dkwX0_spilledIf_1 ++ []
def dkwX0_spilledIf_0 : List UInt8 := [45, 3, 42, 27, 28, 182, 0, 100, 133, 80, 167, 0, 15, 58, 4, 4, 172, 58, 4, 5, 172, 58, 4, 6]
abbrev dktX0_spilledIf_0 : List UInt8 := dkwX0_spilledIf_0 ++ dktX0_spilledIf_1
theorem dksX0_spilledIf_0 : cX0_spilledIf.data.toList.drop 0 = dktX0_spilledIf_0 := by decide +kernel
theorem dksX0_spilledIf_1 : cX0_spilledIf.data.toList.drop 24 = dktX0_spilledIf_1 := dk_seg dksX0_spilledIf_0 24 rfl rfl
theorem dX0_spilledIf_0 : decode cX0_spilledIf 0 = .ok (.aload_n 3, 1) := dk_45 (dk_at dksX0_spilledIf_0 0 rfl rfl)
theorem dX0_spilledIf_1 : decode cX0_spilledIf 1 = .ok (.iconst 0, 1) := dk_3 (dk_at dksX0_spilledIf_0 1 rfl rfl)
theorem dX0_spilledIf_2 : decode cX0_spilledIf 2 = .ok (.aload_n 0, 1) := dk_42 (dk_at dksX0_spilledIf_0 2 rfl rfl)
theorem dX0_spilledIf_3 : decode cX0_spilledIf 3 = .ok (.iload_n 1, 1) := dk_27 (dk_at dksX0_spilledIf_0 3 rfl rfl)
theorem dX0_spilledIf_4 : decode cX0_spilledIf 4 = .ok (.iload_n 2, 1) := dk_28 (dk_at dksX0_spilledIf_0 4 rfl rfl)
theorem dX0_spilledIf_5 : decode cX0_spilledIf 5 = .ok (.invokevirtual 100, 3) := dk_182 0 100 (dk_at dksX0_spilledIf_0 5 rfl rfl)
theorem dX0_spilledIf_8 : decode cX0_spilledIf 8 = .ok (.i2l, 1) := dk_133 (dk_at dksX0_spilledIf_0 8 rfl rfl)
theorem dX0_spilledIf_9 : decode cX0_spilledIf 9 = .ok (.lastore, 1) := dk_80 (dk_at dksX0_spilledIf_0 9 rfl rfl)
theorem dX0_spilledIf_10 : decode cX0_spilledIf 10 = .ok (.goto 15, 3) := dk_167 0 15 (dk_at dksX0_spilledIf_0 10 rfl rfl)
theorem dX0_spilledIf_13 : decode cX0_spilledIf 13 = .ok (.astore 4, 2) := dk_58 4 (dk_at dksX0_spilledIf_0 13 rfl rfl)
theorem dX0_spilledIf_15 : decode cX0_spilledIf 15 = .ok (.iconst 1, 1) := dk_4 (dk_at dksX0_spilledIf_0 15 rfl rfl)
theorem dX0_spilledIf_16 : decode cX0_spilledIf 16 = .ok (.ireturn, 1) := dk_172 (dk_at dksX0_spilledIf_0 16 rfl rfl)
theorem dX0_spilledIf_17 : decode cX0_spilledIf 17 = .ok (.astore 4, 2) := dk_58 4 (dk_at dksX0_spilledIf_0 17 rfl rfl)
theorem dX0_spilledIf_19 : decode cX0_spilledIf 19 = .ok (.iconst 2, 1) := dk_5 (dk_at dksX0_spilledIf_0 19 rfl rfl)
theorem dX0_spilledIf_20 : decode cX0_spilledIf 20 = .ok (.ireturn, 1) := dk_172 (dk_at dksX0_spilledIf_0 20 rfl rfl)
theorem dX0_spilledIf_21 : decode cX0_spilledIf 21 = .ok (.astore 4, 2) := dk_58 4 (dk_at dksX0_spilledIf_0 21 rfl rfl)
theorem dX0_spilledIf_23 : decode cX0_spilledIf 23 = .ok (.iconst 3, 1) := dk_6 (dk_at dksX0_spilledIf_0 23 rfl rfl)
theorem dX0_spilledIf_24 : decode cX0_spilledIf 24 = .ok (.ireturn, 1) := dk_172 (dk_at dksX0_spilledIf_1 0 rfl rfl)
theorem dX0_spilledIf_25 : decode cX0_spilledIf 25 = .ok (.iconst 0, 1) := dk_3 (dk_at dksX0_spilledIf_1 1 rfl rfl)
theorem dX0_spilledIf_26 : decode cX0_spilledIf 26 = .ok (.ireturn, 1) := dk_172 (dk_at dksX0_spilledIf_1 2 rfl rfl)
abbrev cX0_fillTo : ByteArray := method_30_code
def yX0_fillTo : MethodName := ⟨RX0, "fillTo", "(LPingEye;II[J)I"⟩
def dkwX0_fillTo_1 : List UInt8 := [172, 3, 172]
abbrev dktX0_fillTo_1 : List UInt8 := dkwX0_fillTo_1 ++ []
def dkwX0_fillTo_0 : List UInt8 := [45, 3, 42, 27, 28, 182, 0, 103, 133, 80, 167, 0, 15, 58, 4, 4, 172, 58, 4, 5, 172, 58, 4, 6]
abbrev dktX0_fillTo_0 : List UInt8 := dkwX0_fillTo_0 ++ dktX0_fillTo_1
theorem dksX0_fillTo_0 : cX0_fillTo.data.toList.drop 0 = dktX0_fillTo_0 := by decide +kernel
theorem dksX0_fillTo_1 : cX0_fillTo.data.toList.drop 24 = dktX0_fillTo_1 := dk_seg dksX0_fillTo_0 24 rfl rfl
theorem dX0_fillTo_0 : decode cX0_fillTo 0 = .ok (.aload_n 3, 1) := dk_45 (dk_at dksX0_fillTo_0 0 rfl rfl)
theorem dX0_fillTo_1 : decode cX0_fillTo 1 = .ok (.iconst 0, 1) := dk_3 (dk_at dksX0_fillTo_0 1 rfl rfl)
theorem dX0_fillTo_2 : decode cX0_fillTo 2 = .ok (.aload_n 0, 1) := dk_42 (dk_at dksX0_fillTo_0 2 rfl rfl)
theorem dX0_fillTo_3 : decode cX0_fillTo 3 = .ok (.iload_n 1, 1) := dk_27 (dk_at dksX0_fillTo_0 3 rfl rfl)
theorem dX0_fillTo_4 : decode cX0_fillTo 4 = .ok (.iload_n 2, 1) := dk_28 (dk_at dksX0_fillTo_0 4 rfl rfl)
theorem dX0_fillTo_5 : decode cX0_fillTo 5 = .ok (.invokevirtual 103, 3) := dk_182 0 103 (dk_at dksX0_fillTo_0 5 rfl rfl)
theorem dX0_fillTo_8 : decode cX0_fillTo 8 = .ok (.i2l, 1) := dk_133 (dk_at dksX0_fillTo_0 8 rfl rfl)
theorem dX0_fillTo_9 : decode cX0_fillTo 9 = .ok (.lastore, 1) := dk_80 (dk_at dksX0_fillTo_0 9 rfl rfl)
theorem dX0_fillTo_10 : decode cX0_fillTo 10 = .ok (.goto 15, 3) := dk_167 0 15 (dk_at dksX0_fillTo_0 10 rfl rfl)
theorem dX0_fillTo_13 : decode cX0_fillTo 13 = .ok (.astore 4, 2) := dk_58 4 (dk_at dksX0_fillTo_0 13 rfl rfl)
theorem dX0_fillTo_15 : decode cX0_fillTo 15 = .ok (.iconst 1, 1) := dk_4 (dk_at dksX0_fillTo_0 15 rfl rfl)
theorem dX0_fillTo_16 : decode cX0_fillTo 16 = .ok (.ireturn, 1) := dk_172 (dk_at dksX0_fillTo_0 16 rfl rfl)
theorem dX0_fillTo_17 : decode cX0_fillTo 17 = .ok (.astore 4, 2) := dk_58 4 (dk_at dksX0_fillTo_0 17 rfl rfl)
theorem dX0_fillTo_19 : decode cX0_fillTo 19 = .ok (.iconst 2, 1) := dk_5 (dk_at dksX0_fillTo_0 19 rfl rfl)
theorem dX0_fillTo_20 : decode cX0_fillTo 20 = .ok (.ireturn, 1) := dk_172 (dk_at dksX0_fillTo_0 20 rfl rfl)
theorem dX0_fillTo_21 : decode cX0_fillTo 21 = .ok (.astore 4, 2) := dk_58 4 (dk_at dksX0_fillTo_0 21 rfl rfl)
theorem dX0_fillTo_23 : decode cX0_fillTo 23 = .ok (.iconst 3, 1) := dk_6 (dk_at dksX0_fillTo_0 23 rfl rfl)
theorem dX0_fillTo_24 : decode cX0_fillTo 24 = .ok (.ireturn, 1) := dk_172 (dk_at dksX0_fillTo_1 0 rfl rfl)
theorem dX0_fillTo_25 : decode cX0_fillTo 25 = .ok (.iconst 0, 1) := dk_3 (dk_at dksX0_fillTo_1 1 rfl rfl)
theorem dX0_fillTo_26 : decode cX0_fillTo 26 = .ok (.ireturn, 1) := dk_172 (dk_at dksX0_fillTo_1 2 rfl rfl)
abbrev cX0_drawable : ByteArray := method_31_code
def yX0_drawable : MethodName := ⟨RX0, "drawable", "(LPingEye;[J)I"⟩
def dkwX0_drawable_0 : List UInt8 := [43, 3, 42, 182, 0, 106, 133, 80, 167, 0, 6, 77, 4, 172, 3, 172]
abbrev dktX0_drawable_0 : List UInt8 := dkwX0_drawable_0 ++ []
theorem dksX0_drawable_0 : cX0_drawable.data.toList.drop 0 = dktX0_drawable_0 := by decide +kernel
theorem dX0_drawable_0 : decode cX0_drawable 0 = .ok (.aload_n 1, 1) := dk_43 (dk_at dksX0_drawable_0 0 rfl rfl)
theorem dX0_drawable_1 : decode cX0_drawable 1 = .ok (.iconst 0, 1) := dk_3 (dk_at dksX0_drawable_0 1 rfl rfl)
theorem dX0_drawable_2 : decode cX0_drawable 2 = .ok (.aload_n 0, 1) := dk_42 (dk_at dksX0_drawable_0 2 rfl rfl)
theorem dX0_drawable_3 : decode cX0_drawable 3 = .ok (.invokevirtual 106, 3) := dk_182 0 106 (dk_at dksX0_drawable_0 3 rfl rfl)
theorem dX0_drawable_6 : decode cX0_drawable 6 = .ok (.i2l, 1) := dk_133 (dk_at dksX0_drawable_0 6 rfl rfl)
theorem dX0_drawable_7 : decode cX0_drawable 7 = .ok (.lastore, 1) := dk_80 (dk_at dksX0_drawable_0 7 rfl rfl)
theorem dX0_drawable_8 : decode cX0_drawable 8 = .ok (.goto 6, 3) := dk_167 0 6 (dk_at dksX0_drawable_0 8 rfl rfl)
theorem dX0_drawable_11 : decode cX0_drawable 11 = .ok (.astore_n 2, 1) := dk_77 (dk_at dksX0_drawable_0 11 rfl rfl)
theorem dX0_drawable_12 : decode cX0_drawable 12 = .ok (.iconst 1, 1) := dk_4 (dk_at dksX0_drawable_0 12 rfl rfl)
theorem dX0_drawable_13 : decode cX0_drawable 13 = .ok (.ireturn, 1) := dk_172 (dk_at dksX0_drawable_0 13 rfl rfl)
theorem dX0_drawable_14 : decode cX0_drawable 14 = .ok (.iconst 0, 1) := dk_3 (dk_at dksX0_drawable_0 14 rfl rfl)
theorem dX0_drawable_15 : decode cX0_drawable 15 = .ok (.ireturn, 1) := dk_172 (dk_at dksX0_drawable_0 15 rfl rfl)
abbrev cX0_drawableIf : ByteArray := method_32_code
def yX0_drawableIf : MethodName := ⟨RX0, "drawableIf", "(LPingEye;I[J)I"⟩
def dkwX0_drawableIf_0 : List UInt8 := [44, 3, 42, 27, 182, 0, 109, 133, 80, 167, 0, 9, 78, 4, 172, 78, 5, 172, 3, 172]
abbrev dktX0_drawableIf_0 : List UInt8 := dkwX0_drawableIf_0 ++ []
theorem dksX0_drawableIf_0 : cX0_drawableIf.data.toList.drop 0 = dktX0_drawableIf_0 := by decide +kernel
theorem dX0_drawableIf_0 : decode cX0_drawableIf 0 = .ok (.aload_n 2, 1) := dk_44 (dk_at dksX0_drawableIf_0 0 rfl rfl)
theorem dX0_drawableIf_1 : decode cX0_drawableIf 1 = .ok (.iconst 0, 1) := dk_3 (dk_at dksX0_drawableIf_0 1 rfl rfl)
theorem dX0_drawableIf_2 : decode cX0_drawableIf 2 = .ok (.aload_n 0, 1) := dk_42 (dk_at dksX0_drawableIf_0 2 rfl rfl)
theorem dX0_drawableIf_3 : decode cX0_drawableIf 3 = .ok (.iload_n 1, 1) := dk_27 (dk_at dksX0_drawableIf_0 3 rfl rfl)
theorem dX0_drawableIf_4 : decode cX0_drawableIf 4 = .ok (.invokevirtual 109, 3) := dk_182 0 109 (dk_at dksX0_drawableIf_0 4 rfl rfl)
theorem dX0_drawableIf_7 : decode cX0_drawableIf 7 = .ok (.i2l, 1) := dk_133 (dk_at dksX0_drawableIf_0 7 rfl rfl)
theorem dX0_drawableIf_8 : decode cX0_drawableIf 8 = .ok (.lastore, 1) := dk_80 (dk_at dksX0_drawableIf_0 8 rfl rfl)
theorem dX0_drawableIf_9 : decode cX0_drawableIf 9 = .ok (.goto 9, 3) := dk_167 0 9 (dk_at dksX0_drawableIf_0 9 rfl rfl)
theorem dX0_drawableIf_12 : decode cX0_drawableIf 12 = .ok (.astore_n 3, 1) := dk_78 (dk_at dksX0_drawableIf_0 12 rfl rfl)
theorem dX0_drawableIf_13 : decode cX0_drawableIf 13 = .ok (.iconst 1, 1) := dk_4 (dk_at dksX0_drawableIf_0 13 rfl rfl)
theorem dX0_drawableIf_14 : decode cX0_drawableIf 14 = .ok (.ireturn, 1) := dk_172 (dk_at dksX0_drawableIf_0 14 rfl rfl)
theorem dX0_drawableIf_15 : decode cX0_drawableIf 15 = .ok (.astore_n 3, 1) := dk_78 (dk_at dksX0_drawableIf_0 15 rfl rfl)
theorem dX0_drawableIf_16 : decode cX0_drawableIf 16 = .ok (.iconst 2, 1) := dk_5 (dk_at dksX0_drawableIf_0 16 rfl rfl)
theorem dX0_drawableIf_17 : decode cX0_drawableIf 17 = .ok (.ireturn, 1) := dk_172 (dk_at dksX0_drawableIf_0 17 rfl rfl)
theorem dX0_drawableIf_18 : decode cX0_drawableIf 18 = .ok (.iconst 0, 1) := dk_3 (dk_at dksX0_drawableIf_0 18 rfl rfl)
theorem dX0_drawableIf_19 : decode cX0_drawableIf 19 = .ok (.ireturn, 1) := dk_172 (dk_at dksX0_drawableIf_0 19 rfl rfl)
abbrev cX0_bestLoosened : ByteArray := method_33_code
def yX0_bestLoosened : MethodName := ⟨RX0, "bestLoosened", "(LPingEye;[J)I"⟩
def dkwX0_bestLoosened_0 : List UInt8 := [43, 3, 42, 182, 0, 112, 133, 80, 167, 0, 6, 77, 4, 172, 3, 172]
abbrev dktX0_bestLoosened_0 : List UInt8 := dkwX0_bestLoosened_0 ++ []
theorem dksX0_bestLoosened_0 : cX0_bestLoosened.data.toList.drop 0 = dktX0_bestLoosened_0 := by decide +kernel
theorem dX0_bestLoosened_0 : decode cX0_bestLoosened 0 = .ok (.aload_n 1, 1) := dk_43 (dk_at dksX0_bestLoosened_0 0 rfl rfl)
theorem dX0_bestLoosened_1 : decode cX0_bestLoosened 1 = .ok (.iconst 0, 1) := dk_3 (dk_at dksX0_bestLoosened_0 1 rfl rfl)
theorem dX0_bestLoosened_2 : decode cX0_bestLoosened 2 = .ok (.aload_n 0, 1) := dk_42 (dk_at dksX0_bestLoosened_0 2 rfl rfl)
theorem dX0_bestLoosened_3 : decode cX0_bestLoosened 3 = .ok (.invokevirtual 112, 3) := dk_182 0 112 (dk_at dksX0_bestLoosened_0 3 rfl rfl)
theorem dX0_bestLoosened_6 : decode cX0_bestLoosened 6 = .ok (.i2l, 1) := dk_133 (dk_at dksX0_bestLoosened_0 6 rfl rfl)
theorem dX0_bestLoosened_7 : decode cX0_bestLoosened 7 = .ok (.lastore, 1) := dk_80 (dk_at dksX0_bestLoosened_0 7 rfl rfl)
theorem dX0_bestLoosened_8 : decode cX0_bestLoosened 8 = .ok (.goto 6, 3) := dk_167 0 6 (dk_at dksX0_bestLoosened_0 8 rfl rfl)
theorem dX0_bestLoosened_11 : decode cX0_bestLoosened 11 = .ok (.astore_n 2, 1) := dk_77 (dk_at dksX0_bestLoosened_0 11 rfl rfl)
theorem dX0_bestLoosened_12 : decode cX0_bestLoosened 12 = .ok (.iconst 1, 1) := dk_4 (dk_at dksX0_bestLoosened_0 12 rfl rfl)
theorem dX0_bestLoosened_13 : decode cX0_bestLoosened 13 = .ok (.ireturn, 1) := dk_172 (dk_at dksX0_bestLoosened_0 13 rfl rfl)
theorem dX0_bestLoosened_14 : decode cX0_bestLoosened 14 = .ok (.iconst 0, 1) := dk_3 (dk_at dksX0_bestLoosened_0 14 rfl rfl)
theorem dX0_bestLoosened_15 : decode cX0_bestLoosened 15 = .ok (.ireturn, 1) := dk_172 (dk_at dksX0_bestLoosened_0 15 rfl rfl)
abbrev cX0_hangingUnits : ByteArray := method_34_code
def yX0_hangingUnits : MethodName := ⟨RX0, "hangingUnits", "(LPingEye;[J)I"⟩
def dkwX0_hangingUnits_0 : List UInt8 := [43, 3, 42, 182, 0, 115, 133, 80, 167, 0, 6, 77, 4, 172, 3, 172]
abbrev dktX0_hangingUnits_0 : List UInt8 := dkwX0_hangingUnits_0 ++ []
theorem dksX0_hangingUnits_0 : cX0_hangingUnits.data.toList.drop 0 = dktX0_hangingUnits_0 := by decide +kernel
theorem dX0_hangingUnits_0 : decode cX0_hangingUnits 0 = .ok (.aload_n 1, 1) := dk_43 (dk_at dksX0_hangingUnits_0 0 rfl rfl)
theorem dX0_hangingUnits_1 : decode cX0_hangingUnits 1 = .ok (.iconst 0, 1) := dk_3 (dk_at dksX0_hangingUnits_0 1 rfl rfl)
theorem dX0_hangingUnits_2 : decode cX0_hangingUnits 2 = .ok (.aload_n 0, 1) := dk_42 (dk_at dksX0_hangingUnits_0 2 rfl rfl)
theorem dX0_hangingUnits_3 : decode cX0_hangingUnits 3 = .ok (.invokevirtual 115, 3) := dk_182 0 115 (dk_at dksX0_hangingUnits_0 3 rfl rfl)
theorem dX0_hangingUnits_6 : decode cX0_hangingUnits 6 = .ok (.i2l, 1) := dk_133 (dk_at dksX0_hangingUnits_0 6 rfl rfl)
theorem dX0_hangingUnits_7 : decode cX0_hangingUnits 7 = .ok (.lastore, 1) := dk_80 (dk_at dksX0_hangingUnits_0 7 rfl rfl)
theorem dX0_hangingUnits_8 : decode cX0_hangingUnits 8 = .ok (.goto 6, 3) := dk_167 0 6 (dk_at dksX0_hangingUnits_0 8 rfl rfl)
theorem dX0_hangingUnits_11 : decode cX0_hangingUnits 11 = .ok (.astore_n 2, 1) := dk_77 (dk_at dksX0_hangingUnits_0 11 rfl rfl)
theorem dX0_hangingUnits_12 : decode cX0_hangingUnits 12 = .ok (.iconst 1, 1) := dk_4 (dk_at dksX0_hangingUnits_0 12 rfl rfl)
theorem dX0_hangingUnits_13 : decode cX0_hangingUnits 13 = .ok (.ireturn, 1) := dk_172 (dk_at dksX0_hangingUnits_0 13 rfl rfl)
theorem dX0_hangingUnits_14 : decode cX0_hangingUnits 14 = .ok (.iconst 0, 1) := dk_3 (dk_at dksX0_hangingUnits_0 14 rfl rfl)
theorem dX0_hangingUnits_15 : decode cX0_hangingUnits 15 = .ok (.ireturn, 1) := dk_172 (dk_at dksX0_hangingUnits_0 15 rfl rfl)
abbrev cX0_heightDrawn : ByteArray := method_35_code
def yX0_heightDrawn : MethodName := ⟨RX0, "heightDrawn", "(LPingEye;II[J)I"⟩
def dkwX0_heightDrawn_1 : List UInt8 := [172, 3, 172]
abbrev dktX0_heightDrawn_1 : List UInt8 := dkwX0_heightDrawn_1 ++ []
def dkwX0_heightDrawn_0 : List UInt8 := [45, 3, 42, 27, 28, 182, 0, 118, 133, 80, 167, 0, 15, 58, 4, 4, 172, 58, 4, 5, 172, 58, 4, 6]
abbrev dktX0_heightDrawn_0 : List UInt8 := dkwX0_heightDrawn_0 ++ dktX0_heightDrawn_1
theorem dksX0_heightDrawn_0 : cX0_heightDrawn.data.toList.drop 0 = dktX0_heightDrawn_0 := by decide +kernel
theorem dksX0_heightDrawn_1 : cX0_heightDrawn.data.toList.drop 24 = dktX0_heightDrawn_1 := dk_seg dksX0_heightDrawn_0 24 rfl rfl
theorem dX0_heightDrawn_0 : decode cX0_heightDrawn 0 = .ok (.aload_n 3, 1) := dk_45 (dk_at dksX0_heightDrawn_0 0 rfl rfl)
theorem dX0_heightDrawn_1 : decode cX0_heightDrawn 1 = .ok (.iconst 0, 1) := dk_3 (dk_at dksX0_heightDrawn_0 1 rfl rfl)
theorem dX0_heightDrawn_2 : decode cX0_heightDrawn 2 = .ok (.aload_n 0, 1) := dk_42 (dk_at dksX0_heightDrawn_0 2 rfl rfl)
theorem dX0_heightDrawn_3 : decode cX0_heightDrawn 3 = .ok (.iload_n 1, 1) := dk_27 (dk_at dksX0_heightDrawn_0 3 rfl rfl)
theorem dX0_heightDrawn_4 : decode cX0_heightDrawn 4 = .ok (.iload_n 2, 1) := dk_28 (dk_at dksX0_heightDrawn_0 4 rfl rfl)
theorem dX0_heightDrawn_5 : decode cX0_heightDrawn 5 = .ok (.invokevirtual 118, 3) := dk_182 0 118 (dk_at dksX0_heightDrawn_0 5 rfl rfl)
theorem dX0_heightDrawn_8 : decode cX0_heightDrawn 8 = .ok (.i2l, 1) := dk_133 (dk_at dksX0_heightDrawn_0 8 rfl rfl)
theorem dX0_heightDrawn_9 : decode cX0_heightDrawn 9 = .ok (.lastore, 1) := dk_80 (dk_at dksX0_heightDrawn_0 9 rfl rfl)
theorem dX0_heightDrawn_10 : decode cX0_heightDrawn 10 = .ok (.goto 15, 3) := dk_167 0 15 (dk_at dksX0_heightDrawn_0 10 rfl rfl)
theorem dX0_heightDrawn_13 : decode cX0_heightDrawn 13 = .ok (.astore 4, 2) := dk_58 4 (dk_at dksX0_heightDrawn_0 13 rfl rfl)
theorem dX0_heightDrawn_15 : decode cX0_heightDrawn 15 = .ok (.iconst 1, 1) := dk_4 (dk_at dksX0_heightDrawn_0 15 rfl rfl)
theorem dX0_heightDrawn_16 : decode cX0_heightDrawn 16 = .ok (.ireturn, 1) := dk_172 (dk_at dksX0_heightDrawn_0 16 rfl rfl)
theorem dX0_heightDrawn_17 : decode cX0_heightDrawn 17 = .ok (.astore 4, 2) := dk_58 4 (dk_at dksX0_heightDrawn_0 17 rfl rfl)
theorem dX0_heightDrawn_19 : decode cX0_heightDrawn 19 = .ok (.iconst 2, 1) := dk_5 (dk_at dksX0_heightDrawn_0 19 rfl rfl)
theorem dX0_heightDrawn_20 : decode cX0_heightDrawn 20 = .ok (.ireturn, 1) := dk_172 (dk_at dksX0_heightDrawn_0 20 rfl rfl)
theorem dX0_heightDrawn_21 : decode cX0_heightDrawn 21 = .ok (.astore 4, 2) := dk_58 4 (dk_at dksX0_heightDrawn_0 21 rfl rfl)
theorem dX0_heightDrawn_23 : decode cX0_heightDrawn 23 = .ok (.iconst 3, 1) := dk_6 (dk_at dksX0_heightDrawn_0 23 rfl rfl)
theorem dX0_heightDrawn_24 : decode cX0_heightDrawn 24 = .ok (.ireturn, 1) := dk_172 (dk_at dksX0_heightDrawn_1 0 rfl rfl)
theorem dX0_heightDrawn_25 : decode cX0_heightDrawn 25 = .ok (.iconst 0, 1) := dk_3 (dk_at dksX0_heightDrawn_1 1 rfl rfl)
theorem dX0_heightDrawn_26 : decode cX0_heightDrawn 26 = .ok (.ireturn, 1) := dk_172 (dk_at dksX0_heightDrawn_1 2 rfl rfl)
abbrev cX0_levelIfFilled : ByteArray := method_36_code
def yX0_levelIfFilled : MethodName := ⟨RX0, "levelIfFilled", "(LPingEye;II[J)I"⟩
def dkwX0_levelIfFilled_1 : List UInt8 := [172, 3, 172]
abbrev dktX0_levelIfFilled_1 : List UInt8 := dkwX0_levelIfFilled_1 ++ []
def dkwX0_levelIfFilled_0 : List UInt8 := [45, 3, 42, 27, 28, 182, 0, 121, 133, 80, 167, 0, 15, 58, 4, 4, 172, 58, 4, 5, 172, 58, 4, 6]
abbrev dktX0_levelIfFilled_0 : List UInt8 := dkwX0_levelIfFilled_0 ++ dktX0_levelIfFilled_1
theorem dksX0_levelIfFilled_0 : cX0_levelIfFilled.data.toList.drop 0 = dktX0_levelIfFilled_0 := by decide +kernel
theorem dksX0_levelIfFilled_1 : cX0_levelIfFilled.data.toList.drop 24 = dktX0_levelIfFilled_1 := dk_seg dksX0_levelIfFilled_0 24 rfl rfl
theorem dX0_levelIfFilled_0 : decode cX0_levelIfFilled 0 = .ok (.aload_n 3, 1) := dk_45 (dk_at dksX0_levelIfFilled_0 0 rfl rfl)
theorem dX0_levelIfFilled_1 : decode cX0_levelIfFilled 1 = .ok (.iconst 0, 1) := dk_3 (dk_at dksX0_levelIfFilled_0 1 rfl rfl)
theorem dX0_levelIfFilled_2 : decode cX0_levelIfFilled 2 = .ok (.aload_n 0, 1) := dk_42 (dk_at dksX0_levelIfFilled_0 2 rfl rfl)
theorem dX0_levelIfFilled_3 : decode cX0_levelIfFilled 3 = .ok (.iload_n 1, 1) := dk_27 (dk_at dksX0_levelIfFilled_0 3 rfl rfl)
theorem dX0_levelIfFilled_4 : decode cX0_levelIfFilled 4 = .ok (.iload_n 2, 1) := dk_28 (dk_at dksX0_levelIfFilled_0 4 rfl rfl)
theorem dX0_levelIfFilled_5 : decode cX0_levelIfFilled 5 = .ok (.invokevirtual 121, 3) := dk_182 0 121 (dk_at dksX0_levelIfFilled_0 5 rfl rfl)
theorem dX0_levelIfFilled_8 : decode cX0_levelIfFilled 8 = .ok (.i2l, 1) := dk_133 (dk_at dksX0_levelIfFilled_0 8 rfl rfl)
theorem dX0_levelIfFilled_9 : decode cX0_levelIfFilled 9 = .ok (.lastore, 1) := dk_80 (dk_at dksX0_levelIfFilled_0 9 rfl rfl)
theorem dX0_levelIfFilled_10 : decode cX0_levelIfFilled 10 = .ok (.goto 15, 3) := dk_167 0 15 (dk_at dksX0_levelIfFilled_0 10 rfl rfl)
theorem dX0_levelIfFilled_13 : decode cX0_levelIfFilled 13 = .ok (.astore 4, 2) := dk_58 4 (dk_at dksX0_levelIfFilled_0 13 rfl rfl)
theorem dX0_levelIfFilled_15 : decode cX0_levelIfFilled 15 = .ok (.iconst 1, 1) := dk_4 (dk_at dksX0_levelIfFilled_0 15 rfl rfl)
theorem dX0_levelIfFilled_16 : decode cX0_levelIfFilled 16 = .ok (.ireturn, 1) := dk_172 (dk_at dksX0_levelIfFilled_0 16 rfl rfl)
theorem dX0_levelIfFilled_17 : decode cX0_levelIfFilled 17 = .ok (.astore 4, 2) := dk_58 4 (dk_at dksX0_levelIfFilled_0 17 rfl rfl)
theorem dX0_levelIfFilled_19 : decode cX0_levelIfFilled 19 = .ok (.iconst 2, 1) := dk_5 (dk_at dksX0_levelIfFilled_0 19 rfl rfl)
theorem dX0_levelIfFilled_20 : decode cX0_levelIfFilled 20 = .ok (.ireturn, 1) := dk_172 (dk_at dksX0_levelIfFilled_0 20 rfl rfl)
theorem dX0_levelIfFilled_21 : decode cX0_levelIfFilled 21 = .ok (.astore 4, 2) := dk_58 4 (dk_at dksX0_levelIfFilled_0 21 rfl rfl)
theorem dX0_levelIfFilled_23 : decode cX0_levelIfFilled 23 = .ok (.iconst 3, 1) := dk_6 (dk_at dksX0_levelIfFilled_0 23 rfl rfl)
theorem dX0_levelIfFilled_24 : decode cX0_levelIfFilled 24 = .ok (.ireturn, 1) := dk_172 (dk_at dksX0_levelIfFilled_1 0 rfl rfl)
theorem dX0_levelIfFilled_25 : decode cX0_levelIfFilled 25 = .ok (.iconst 0, 1) := dk_3 (dk_at dksX0_levelIfFilled_1 1 rfl rfl)
theorem dX0_levelIfFilled_26 : decode cX0_levelIfFilled 26 = .ok (.ireturn, 1) := dk_172 (dk_at dksX0_levelIfFilled_1 2 rfl rfl)
abbrev cX0_deafTo : ByteArray := method_37_code
def yX0_deafTo : MethodName := ⟨RX0, "deafTo", "(LPingEye;[J)I"⟩
def dkwX0_deafTo_0 : List UInt8 := [43, 3, 42, 182, 0, 124, 133, 80, 167, 0, 6, 77, 4, 172, 3, 172]
abbrev dktX0_deafTo_0 : List UInt8 := dkwX0_deafTo_0 ++ []
theorem dksX0_deafTo_0 : cX0_deafTo.data.toList.drop 0 = dktX0_deafTo_0 := by decide +kernel
theorem dX0_deafTo_0 : decode cX0_deafTo 0 = .ok (.aload_n 1, 1) := dk_43 (dk_at dksX0_deafTo_0 0 rfl rfl)
theorem dX0_deafTo_1 : decode cX0_deafTo 1 = .ok (.iconst 0, 1) := dk_3 (dk_at dksX0_deafTo_0 1 rfl rfl)
theorem dX0_deafTo_2 : decode cX0_deafTo 2 = .ok (.aload_n 0, 1) := dk_42 (dk_at dksX0_deafTo_0 2 rfl rfl)
theorem dX0_deafTo_3 : decode cX0_deafTo 3 = .ok (.invokevirtual 124, 3) := dk_182 0 124 (dk_at dksX0_deafTo_0 3 rfl rfl)
theorem dX0_deafTo_6 : decode cX0_deafTo 6 = .ok (.i2l, 1) := dk_133 (dk_at dksX0_deafTo_0 6 rfl rfl)
theorem dX0_deafTo_7 : decode cX0_deafTo 7 = .ok (.lastore, 1) := dk_80 (dk_at dksX0_deafTo_0 7 rfl rfl)
theorem dX0_deafTo_8 : decode cX0_deafTo 8 = .ok (.goto 6, 3) := dk_167 0 6 (dk_at dksX0_deafTo_0 8 rfl rfl)
theorem dX0_deafTo_11 : decode cX0_deafTo 11 = .ok (.astore_n 2, 1) := dk_77 (dk_at dksX0_deafTo_0 11 rfl rfl)
theorem dX0_deafTo_12 : decode cX0_deafTo 12 = .ok (.iconst 1, 1) := dk_4 (dk_at dksX0_deafTo_0 12 rfl rfl)
theorem dX0_deafTo_13 : decode cX0_deafTo 13 = .ok (.ireturn, 1) := dk_172 (dk_at dksX0_deafTo_0 13 rfl rfl)
theorem dX0_deafTo_14 : decode cX0_deafTo 14 = .ok (.iconst 0, 1) := dk_3 (dk_at dksX0_deafTo_0 14 rfl rfl)
theorem dX0_deafTo_15 : decode cX0_deafTo 15 = .ok (.ireturn, 1) := dk_172 (dk_at dksX0_deafTo_0 15 rfl rfl)
abbrev cX0_slidIf : ByteArray := method_38_code
def yX0_slidIf : MethodName := ⟨RX0, "slidIf", "(LPingEye;II[J)I"⟩
def dkwX0_slidIf_1 : List UInt8 := [172, 3, 172]
abbrev dktX0_slidIf_1 : List UInt8 := dkwX0_slidIf_1 ++ []
def dkwX0_slidIf_0 : List UInt8 := [45, 3, 42, 27, 28, 182, 0, 127, 133, 80, 167, 0, 15, 58, 4, 4, 172, 58, 4, 5, 172, 58, 4, 6]
abbrev dktX0_slidIf_0 : List UInt8 := dkwX0_slidIf_0 ++ dktX0_slidIf_1
theorem dksX0_slidIf_0 : cX0_slidIf.data.toList.drop 0 = dktX0_slidIf_0 := by decide +kernel
theorem dksX0_slidIf_1 : cX0_slidIf.data.toList.drop 24 = dktX0_slidIf_1 := dk_seg dksX0_slidIf_0 24 rfl rfl
theorem dX0_slidIf_0 : decode cX0_slidIf 0 = .ok (.aload_n 3, 1) := dk_45 (dk_at dksX0_slidIf_0 0 rfl rfl)
theorem dX0_slidIf_1 : decode cX0_slidIf 1 = .ok (.iconst 0, 1) := dk_3 (dk_at dksX0_slidIf_0 1 rfl rfl)
theorem dX0_slidIf_2 : decode cX0_slidIf 2 = .ok (.aload_n 0, 1) := dk_42 (dk_at dksX0_slidIf_0 2 rfl rfl)
theorem dX0_slidIf_3 : decode cX0_slidIf 3 = .ok (.iload_n 1, 1) := dk_27 (dk_at dksX0_slidIf_0 3 rfl rfl)
theorem dX0_slidIf_4 : decode cX0_slidIf 4 = .ok (.iload_n 2, 1) := dk_28 (dk_at dksX0_slidIf_0 4 rfl rfl)
theorem dX0_slidIf_5 : decode cX0_slidIf 5 = .ok (.invokevirtual 127, 3) := dk_182 0 127 (dk_at dksX0_slidIf_0 5 rfl rfl)
theorem dX0_slidIf_8 : decode cX0_slidIf 8 = .ok (.i2l, 1) := dk_133 (dk_at dksX0_slidIf_0 8 rfl rfl)
theorem dX0_slidIf_9 : decode cX0_slidIf 9 = .ok (.lastore, 1) := dk_80 (dk_at dksX0_slidIf_0 9 rfl rfl)
theorem dX0_slidIf_10 : decode cX0_slidIf 10 = .ok (.goto 15, 3) := dk_167 0 15 (dk_at dksX0_slidIf_0 10 rfl rfl)
theorem dX0_slidIf_13 : decode cX0_slidIf 13 = .ok (.astore 4, 2) := dk_58 4 (dk_at dksX0_slidIf_0 13 rfl rfl)
theorem dX0_slidIf_15 : decode cX0_slidIf 15 = .ok (.iconst 1, 1) := dk_4 (dk_at dksX0_slidIf_0 15 rfl rfl)
theorem dX0_slidIf_16 : decode cX0_slidIf 16 = .ok (.ireturn, 1) := dk_172 (dk_at dksX0_slidIf_0 16 rfl rfl)
theorem dX0_slidIf_17 : decode cX0_slidIf 17 = .ok (.astore 4, 2) := dk_58 4 (dk_at dksX0_slidIf_0 17 rfl rfl)
theorem dX0_slidIf_19 : decode cX0_slidIf 19 = .ok (.iconst 2, 1) := dk_5 (dk_at dksX0_slidIf_0 19 rfl rfl)
theorem dX0_slidIf_20 : decode cX0_slidIf 20 = .ok (.ireturn, 1) := dk_172 (dk_at dksX0_slidIf_0 20 rfl rfl)
theorem dX0_slidIf_21 : decode cX0_slidIf 21 = .ok (.astore 4, 2) := dk_58 4 (dk_at dksX0_slidIf_0 21 rfl rfl)
theorem dX0_slidIf_23 : decode cX0_slidIf 23 = .ok (.iconst 3, 1) := dk_6 (dk_at dksX0_slidIf_0 23 rfl rfl)
theorem dX0_slidIf_24 : decode cX0_slidIf 24 = .ok (.ireturn, 1) := dk_172 (dk_at dksX0_slidIf_1 0 rfl rfl)
theorem dX0_slidIf_25 : decode cX0_slidIf 25 = .ok (.iconst 0, 1) := dk_3 (dk_at dksX0_slidIf_1 1 rfl rfl)
theorem dX0_slidIf_26 : decode cX0_slidIf 26 = .ok (.ireturn, 1) := dk_172 (dk_at dksX0_slidIf_1 2 rfl rfl)
abbrev cX0_bestFill : ByteArray := method_39_code
def yX0_bestFill : MethodName := ⟨RX0, "bestFill", "(LPingEye;I[J)I"⟩
def dkwX0_bestFill_0 : List UInt8 := [44, 3, 42, 27, 182, 0, 130, 133, 80, 167, 0, 9, 78, 4, 172, 78, 5, 172, 3, 172]
abbrev dktX0_bestFill_0 : List UInt8 := dkwX0_bestFill_0 ++ []
theorem dksX0_bestFill_0 : cX0_bestFill.data.toList.drop 0 = dktX0_bestFill_0 := by decide +kernel
theorem dX0_bestFill_0 : decode cX0_bestFill 0 = .ok (.aload_n 2, 1) := dk_44 (dk_at dksX0_bestFill_0 0 rfl rfl)
theorem dX0_bestFill_1 : decode cX0_bestFill 1 = .ok (.iconst 0, 1) := dk_3 (dk_at dksX0_bestFill_0 1 rfl rfl)
theorem dX0_bestFill_2 : decode cX0_bestFill 2 = .ok (.aload_n 0, 1) := dk_42 (dk_at dksX0_bestFill_0 2 rfl rfl)
theorem dX0_bestFill_3 : decode cX0_bestFill 3 = .ok (.iload_n 1, 1) := dk_27 (dk_at dksX0_bestFill_0 3 rfl rfl)
theorem dX0_bestFill_4 : decode cX0_bestFill 4 = .ok (.invokevirtual 130, 3) := dk_182 0 130 (dk_at dksX0_bestFill_0 4 rfl rfl)
theorem dX0_bestFill_7 : decode cX0_bestFill 7 = .ok (.i2l, 1) := dk_133 (dk_at dksX0_bestFill_0 7 rfl rfl)
theorem dX0_bestFill_8 : decode cX0_bestFill 8 = .ok (.lastore, 1) := dk_80 (dk_at dksX0_bestFill_0 8 rfl rfl)
theorem dX0_bestFill_9 : decode cX0_bestFill 9 = .ok (.goto 9, 3) := dk_167 0 9 (dk_at dksX0_bestFill_0 9 rfl rfl)
theorem dX0_bestFill_12 : decode cX0_bestFill 12 = .ok (.astore_n 3, 1) := dk_78 (dk_at dksX0_bestFill_0 12 rfl rfl)
theorem dX0_bestFill_13 : decode cX0_bestFill 13 = .ok (.iconst 1, 1) := dk_4 (dk_at dksX0_bestFill_0 13 rfl rfl)
theorem dX0_bestFill_14 : decode cX0_bestFill 14 = .ok (.ireturn, 1) := dk_172 (dk_at dksX0_bestFill_0 14 rfl rfl)
theorem dX0_bestFill_15 : decode cX0_bestFill 15 = .ok (.astore_n 3, 1) := dk_78 (dk_at dksX0_bestFill_0 15 rfl rfl)
theorem dX0_bestFill_16 : decode cX0_bestFill 16 = .ok (.iconst 2, 1) := dk_5 (dk_at dksX0_bestFill_0 16 rfl rfl)
theorem dX0_bestFill_17 : decode cX0_bestFill 17 = .ok (.ireturn, 1) := dk_172 (dk_at dksX0_bestFill_0 17 rfl rfl)
theorem dX0_bestFill_18 : decode cX0_bestFill 18 = .ok (.iconst 0, 1) := dk_3 (dk_at dksX0_bestFill_0 18 rfl rfl)
theorem dX0_bestFill_19 : decode cX0_bestFill 19 = .ok (.ireturn, 1) := dk_172 (dk_at dksX0_bestFill_0 19 rfl rfl)
abbrev cX0_learntFalse : ByteArray := method_40_code
def yX0_learntFalse : MethodName := ⟨RX0, "learntFalse", "(LPingEye;I[J)I"⟩
def dkwX0_learntFalse_0 : List UInt8 := [44, 3, 42, 27, 182, 0, 133, 133, 80, 167, 0, 9, 78, 4, 172, 78, 5, 172, 3, 172]
abbrev dktX0_learntFalse_0 : List UInt8 := dkwX0_learntFalse_0 ++ []
theorem dksX0_learntFalse_0 : cX0_learntFalse.data.toList.drop 0 = dktX0_learntFalse_0 := by decide +kernel
theorem dX0_learntFalse_0 : decode cX0_learntFalse 0 = .ok (.aload_n 2, 1) := dk_44 (dk_at dksX0_learntFalse_0 0 rfl rfl)
theorem dX0_learntFalse_1 : decode cX0_learntFalse 1 = .ok (.iconst 0, 1) := dk_3 (dk_at dksX0_learntFalse_0 1 rfl rfl)
theorem dX0_learntFalse_2 : decode cX0_learntFalse 2 = .ok (.aload_n 0, 1) := dk_42 (dk_at dksX0_learntFalse_0 2 rfl rfl)
theorem dX0_learntFalse_3 : decode cX0_learntFalse 3 = .ok (.iload_n 1, 1) := dk_27 (dk_at dksX0_learntFalse_0 3 rfl rfl)
theorem dX0_learntFalse_4 : decode cX0_learntFalse 4 = .ok (.invokevirtual 133, 3) := dk_182 0 133 (dk_at dksX0_learntFalse_0 4 rfl rfl)
theorem dX0_learntFalse_7 : decode cX0_learntFalse 7 = .ok (.i2l, 1) := dk_133 (dk_at dksX0_learntFalse_0 7 rfl rfl)
theorem dX0_learntFalse_8 : decode cX0_learntFalse 8 = .ok (.lastore, 1) := dk_80 (dk_at dksX0_learntFalse_0 8 rfl rfl)
theorem dX0_learntFalse_9 : decode cX0_learntFalse 9 = .ok (.goto 9, 3) := dk_167 0 9 (dk_at dksX0_learntFalse_0 9 rfl rfl)
theorem dX0_learntFalse_12 : decode cX0_learntFalse 12 = .ok (.astore_n 3, 1) := dk_78 (dk_at dksX0_learntFalse_0 12 rfl rfl)
theorem dX0_learntFalse_13 : decode cX0_learntFalse 13 = .ok (.iconst 1, 1) := dk_4 (dk_at dksX0_learntFalse_0 13 rfl rfl)
theorem dX0_learntFalse_14 : decode cX0_learntFalse 14 = .ok (.ireturn, 1) := dk_172 (dk_at dksX0_learntFalse_0 14 rfl rfl)
theorem dX0_learntFalse_15 : decode cX0_learntFalse 15 = .ok (.astore_n 3, 1) := dk_78 (dk_at dksX0_learntFalse_0 15 rfl rfl)
theorem dX0_learntFalse_16 : decode cX0_learntFalse 16 = .ok (.iconst 2, 1) := dk_5 (dk_at dksX0_learntFalse_0 16 rfl rfl)
theorem dX0_learntFalse_17 : decode cX0_learntFalse 17 = .ok (.ireturn, 1) := dk_172 (dk_at dksX0_learntFalse_0 17 rfl rfl)
theorem dX0_learntFalse_18 : decode cX0_learntFalse 18 = .ok (.iconst 0, 1) := dk_3 (dk_at dksX0_learntFalse_0 18 rfl rfl)
theorem dX0_learntFalse_19 : decode cX0_learntFalse 19 = .ok (.ireturn, 1) := dk_172 (dk_at dksX0_learntFalse_0 19 rfl rfl)
abbrev cX0_bestLearn : ByteArray := method_41_code
def yX0_bestLearn : MethodName := ⟨RX0, "bestLearn", "(LPingEye;[J)I"⟩
def dkwX0_bestLearn_0 : List UInt8 := [43, 3, 42, 182, 0, 136, 133, 80, 167, 0, 6, 77, 4, 172, 3, 172]
abbrev dktX0_bestLearn_0 : List UInt8 := dkwX0_bestLearn_0 ++ []
theorem dksX0_bestLearn_0 : cX0_bestLearn.data.toList.drop 0 = dktX0_bestLearn_0 := by decide +kernel
theorem dX0_bestLearn_0 : decode cX0_bestLearn 0 = .ok (.aload_n 1, 1) := dk_43 (dk_at dksX0_bestLearn_0 0 rfl rfl)
theorem dX0_bestLearn_1 : decode cX0_bestLearn 1 = .ok (.iconst 0, 1) := dk_3 (dk_at dksX0_bestLearn_0 1 rfl rfl)
theorem dX0_bestLearn_2 : decode cX0_bestLearn 2 = .ok (.aload_n 0, 1) := dk_42 (dk_at dksX0_bestLearn_0 2 rfl rfl)
theorem dX0_bestLearn_3 : decode cX0_bestLearn 3 = .ok (.invokevirtual 136, 3) := dk_182 0 136 (dk_at dksX0_bestLearn_0 3 rfl rfl)
theorem dX0_bestLearn_6 : decode cX0_bestLearn 6 = .ok (.i2l, 1) := dk_133 (dk_at dksX0_bestLearn_0 6 rfl rfl)
theorem dX0_bestLearn_7 : decode cX0_bestLearn 7 = .ok (.lastore, 1) := dk_80 (dk_at dksX0_bestLearn_0 7 rfl rfl)
theorem dX0_bestLearn_8 : decode cX0_bestLearn 8 = .ok (.goto 6, 3) := dk_167 0 6 (dk_at dksX0_bestLearn_0 8 rfl rfl)
theorem dX0_bestLearn_11 : decode cX0_bestLearn 11 = .ok (.astore_n 2, 1) := dk_77 (dk_at dksX0_bestLearn_0 11 rfl rfl)
theorem dX0_bestLearn_12 : decode cX0_bestLearn 12 = .ok (.iconst 1, 1) := dk_4 (dk_at dksX0_bestLearn_0 12 rfl rfl)
theorem dX0_bestLearn_13 : decode cX0_bestLearn 13 = .ok (.ireturn, 1) := dk_172 (dk_at dksX0_bestLearn_0 13 rfl rfl)
theorem dX0_bestLearn_14 : decode cX0_bestLearn 14 = .ok (.iconst 0, 1) := dk_3 (dk_at dksX0_bestLearn_0 14 rfl rfl)
theorem dX0_bestLearn_15 : decode cX0_bestLearn 15 = .ok (.ireturn, 1) := dk_172 (dk_at dksX0_bestLearn_0 15 rfl rfl)
abbrev cX0_share : ByteArray := method_42_code
def yX0_share : MethodName := ⟨RX0, "share", "(LPingEye;[D)I"⟩
def dkwX0_share_0 : List UInt8 := [43, 3, 42, 182, 0, 139, 141, 82, 167, 0, 6, 77, 4, 172, 3, 172]
abbrev dktX0_share_0 : List UInt8 := dkwX0_share_0 ++ []
theorem dksX0_share_0 : cX0_share.data.toList.drop 0 = dktX0_share_0 := by decide +kernel
theorem dX0_share_0 : decode cX0_share 0 = .ok (.aload_n 1, 1) := dk_43 (dk_at dksX0_share_0 0 rfl rfl)
theorem dX0_share_1 : decode cX0_share 1 = .ok (.iconst 0, 1) := dk_3 (dk_at dksX0_share_0 1 rfl rfl)
theorem dX0_share_2 : decode cX0_share 2 = .ok (.aload_n 0, 1) := dk_42 (dk_at dksX0_share_0 2 rfl rfl)
theorem dX0_share_3 : decode cX0_share 3 = .ok (.invokevirtual 139, 3) := dk_182 0 139 (dk_at dksX0_share_0 3 rfl rfl)
theorem dX0_share_6 : decode cX0_share 6 = .ok (.f2d, 1) := dk_141 (dk_at dksX0_share_0 6 rfl rfl)
theorem dX0_share_7 : decode cX0_share 7 = .ok (.dastore, 1) := dk_82 (dk_at dksX0_share_0 7 rfl rfl)
theorem dX0_share_8 : decode cX0_share 8 = .ok (.goto 6, 3) := dk_167 0 6 (dk_at dksX0_share_0 8 rfl rfl)
theorem dX0_share_11 : decode cX0_share 11 = .ok (.astore_n 2, 1) := dk_77 (dk_at dksX0_share_0 11 rfl rfl)
theorem dX0_share_12 : decode cX0_share 12 = .ok (.iconst 1, 1) := dk_4 (dk_at dksX0_share_0 12 rfl rfl)
theorem dX0_share_13 : decode cX0_share 13 = .ok (.ireturn, 1) := dk_172 (dk_at dksX0_share_0 13 rfl rfl)
theorem dX0_share_14 : decode cX0_share 14 = .ok (.iconst 0, 1) := dk_3 (dk_at dksX0_share_0 14 rfl rfl)
theorem dX0_share_15 : decode cX0_share 15 = .ok (.ireturn, 1) := dk_172 (dk_at dksX0_share_0 15 rfl rfl)
abbrev cX0_meanHeight : ByteArray := method_43_code
def yX0_meanHeight : MethodName := ⟨RX0, "meanHeight", "(LPingEye;[D)I"⟩
def dkwX0_meanHeight_0 : List UInt8 := [43, 3, 42, 182, 0, 143, 82, 167, 0, 6, 77, 4, 172, 3, 172]
abbrev dktX0_meanHeight_0 : List UInt8 := dkwX0_meanHeight_0 ++ []
theorem dksX0_meanHeight_0 : cX0_meanHeight.data.toList.drop 0 = dktX0_meanHeight_0 := by decide +kernel
theorem dX0_meanHeight_0 : decode cX0_meanHeight 0 = .ok (.aload_n 1, 1) := dk_43 (dk_at dksX0_meanHeight_0 0 rfl rfl)
theorem dX0_meanHeight_1 : decode cX0_meanHeight 1 = .ok (.iconst 0, 1) := dk_3 (dk_at dksX0_meanHeight_0 1 rfl rfl)
theorem dX0_meanHeight_2 : decode cX0_meanHeight 2 = .ok (.aload_n 0, 1) := dk_42 (dk_at dksX0_meanHeight_0 2 rfl rfl)
theorem dX0_meanHeight_3 : decode cX0_meanHeight 3 = .ok (.invokevirtual 143, 3) := dk_182 0 143 (dk_at dksX0_meanHeight_0 3 rfl rfl)
theorem dX0_meanHeight_6 : decode cX0_meanHeight 6 = .ok (.dastore, 1) := dk_82 (dk_at dksX0_meanHeight_0 6 rfl rfl)
theorem dX0_meanHeight_7 : decode cX0_meanHeight 7 = .ok (.goto 6, 3) := dk_167 0 6 (dk_at dksX0_meanHeight_0 7 rfl rfl)
theorem dX0_meanHeight_10 : decode cX0_meanHeight 10 = .ok (.astore_n 2, 1) := dk_77 (dk_at dksX0_meanHeight_0 10 rfl rfl)
theorem dX0_meanHeight_11 : decode cX0_meanHeight 11 = .ok (.iconst 1, 1) := dk_4 (dk_at dksX0_meanHeight_0 11 rfl rfl)
theorem dX0_meanHeight_12 : decode cX0_meanHeight 12 = .ok (.ireturn, 1) := dk_172 (dk_at dksX0_meanHeight_0 12 rfl rfl)
theorem dX0_meanHeight_13 : decode cX0_meanHeight 13 = .ok (.iconst 0, 1) := dk_3 (dk_at dksX0_meanHeight_0 13 rfl rfl)
theorem dX0_meanHeight_14 : decode cX0_meanHeight 14 = .ok (.ireturn, 1) := dk_172 (dk_at dksX0_meanHeight_0 14 rfl rfl)
abbrev cX0_writeSilo : ByteArray := method_44_code
def yX0_writeSilo : MethodName := ⟨RX0, "writeSilo", "(LPingEye;[J)I"⟩
def dkwX0_writeSilo_0 : List UInt8 := [43, 3, 42, 182, 0, 147, 133, 80, 167, 0, 6, 77, 4, 172, 3, 172]
abbrev dktX0_writeSilo_0 : List UInt8 := dkwX0_writeSilo_0 ++ []
theorem dksX0_writeSilo_0 : cX0_writeSilo.data.toList.drop 0 = dktX0_writeSilo_0 := by decide +kernel
theorem dX0_writeSilo_0 : decode cX0_writeSilo 0 = .ok (.aload_n 1, 1) := dk_43 (dk_at dksX0_writeSilo_0 0 rfl rfl)
theorem dX0_writeSilo_1 : decode cX0_writeSilo 1 = .ok (.iconst 0, 1) := dk_3 (dk_at dksX0_writeSilo_0 1 rfl rfl)
theorem dX0_writeSilo_2 : decode cX0_writeSilo 2 = .ok (.aload_n 0, 1) := dk_42 (dk_at dksX0_writeSilo_0 2 rfl rfl)
theorem dX0_writeSilo_3 : decode cX0_writeSilo 3 = .ok (.invokevirtual 147, 3) := dk_182 0 147 (dk_at dksX0_writeSilo_0 3 rfl rfl)
theorem dX0_writeSilo_6 : decode cX0_writeSilo 6 = .ok (.i2l, 1) := dk_133 (dk_at dksX0_writeSilo_0 6 rfl rfl)
theorem dX0_writeSilo_7 : decode cX0_writeSilo 7 = .ok (.lastore, 1) := dk_80 (dk_at dksX0_writeSilo_0 7 rfl rfl)
theorem dX0_writeSilo_8 : decode cX0_writeSilo 8 = .ok (.goto 6, 3) := dk_167 0 6 (dk_at dksX0_writeSilo_0 8 rfl rfl)
theorem dX0_writeSilo_11 : decode cX0_writeSilo 11 = .ok (.astore_n 2, 1) := dk_77 (dk_at dksX0_writeSilo_0 11 rfl rfl)
theorem dX0_writeSilo_12 : decode cX0_writeSilo 12 = .ok (.iconst 1, 1) := dk_4 (dk_at dksX0_writeSilo_0 12 rfl rfl)
theorem dX0_writeSilo_13 : decode cX0_writeSilo 13 = .ok (.ireturn, 1) := dk_172 (dk_at dksX0_writeSilo_0 13 rfl rfl)
theorem dX0_writeSilo_14 : decode cX0_writeSilo 14 = .ok (.iconst 0, 1) := dk_3 (dk_at dksX0_writeSilo_0 14 rfl rfl)
theorem dX0_writeSilo_15 : decode cX0_writeSilo 15 = .ok (.ireturn, 1) := dk_172 (dk_at dksX0_writeSilo_0 15 rfl rfl)
abbrev cX0_writeEchoes : ByteArray := method_45_code
def yX0_writeEchoes : MethodName := ⟨RX0, "writeEchoes", "(LPingEye;[J)I"⟩
def dkwX0_writeEchoes_0 : List UInt8 := [43, 3, 42, 182, 0, 150, 133, 80, 167, 0, 6, 77, 4, 172, 3, 172]
abbrev dktX0_writeEchoes_0 : List UInt8 := dkwX0_writeEchoes_0 ++ []
theorem dksX0_writeEchoes_0 : cX0_writeEchoes.data.toList.drop 0 = dktX0_writeEchoes_0 := by decide +kernel
theorem dX0_writeEchoes_0 : decode cX0_writeEchoes 0 = .ok (.aload_n 1, 1) := dk_43 (dk_at dksX0_writeEchoes_0 0 rfl rfl)
theorem dX0_writeEchoes_1 : decode cX0_writeEchoes 1 = .ok (.iconst 0, 1) := dk_3 (dk_at dksX0_writeEchoes_0 1 rfl rfl)
theorem dX0_writeEchoes_2 : decode cX0_writeEchoes 2 = .ok (.aload_n 0, 1) := dk_42 (dk_at dksX0_writeEchoes_0 2 rfl rfl)
theorem dX0_writeEchoes_3 : decode cX0_writeEchoes 3 = .ok (.invokevirtual 150, 3) := dk_182 0 150 (dk_at dksX0_writeEchoes_0 3 rfl rfl)
theorem dX0_writeEchoes_6 : decode cX0_writeEchoes 6 = .ok (.i2l, 1) := dk_133 (dk_at dksX0_writeEchoes_0 6 rfl rfl)
theorem dX0_writeEchoes_7 : decode cX0_writeEchoes 7 = .ok (.lastore, 1) := dk_80 (dk_at dksX0_writeEchoes_0 7 rfl rfl)
theorem dX0_writeEchoes_8 : decode cX0_writeEchoes 8 = .ok (.goto 6, 3) := dk_167 0 6 (dk_at dksX0_writeEchoes_0 8 rfl rfl)
theorem dX0_writeEchoes_11 : decode cX0_writeEchoes 11 = .ok (.astore_n 2, 1) := dk_77 (dk_at dksX0_writeEchoes_0 11 rfl rfl)
theorem dX0_writeEchoes_12 : decode cX0_writeEchoes 12 = .ok (.iconst 1, 1) := dk_4 (dk_at dksX0_writeEchoes_0 12 rfl rfl)
theorem dX0_writeEchoes_13 : decode cX0_writeEchoes 13 = .ok (.ireturn, 1) := dk_172 (dk_at dksX0_writeEchoes_0 13 rfl rfl)
theorem dX0_writeEchoes_14 : decode cX0_writeEchoes 14 = .ok (.iconst 0, 1) := dk_3 (dk_at dksX0_writeEchoes_0 14 rfl rfl)
theorem dX0_writeEchoes_15 : decode cX0_writeEchoes 15 = .ok (.ireturn, 1) := dk_172 (dk_at dksX0_writeEchoes_0 15 rfl rfl)
abbrev cX0_writeRow : ByteArray := method_46_code
def yX0_writeRow : MethodName := ⟨RX0, "writeRow", "(LPingEye;I[J)I"⟩
def dkwX0_writeRow_0 : List UInt8 := [44, 3, 42, 27, 182, 0, 153, 133, 80, 167, 0, 9, 78, 4, 172, 78, 5, 172, 3, 172]
abbrev dktX0_writeRow_0 : List UInt8 := dkwX0_writeRow_0 ++ []
theorem dksX0_writeRow_0 : cX0_writeRow.data.toList.drop 0 = dktX0_writeRow_0 := by decide +kernel
theorem dX0_writeRow_0 : decode cX0_writeRow 0 = .ok (.aload_n 2, 1) := dk_44 (dk_at dksX0_writeRow_0 0 rfl rfl)
theorem dX0_writeRow_1 : decode cX0_writeRow 1 = .ok (.iconst 0, 1) := dk_3 (dk_at dksX0_writeRow_0 1 rfl rfl)
theorem dX0_writeRow_2 : decode cX0_writeRow 2 = .ok (.aload_n 0, 1) := dk_42 (dk_at dksX0_writeRow_0 2 rfl rfl)
theorem dX0_writeRow_3 : decode cX0_writeRow 3 = .ok (.iload_n 1, 1) := dk_27 (dk_at dksX0_writeRow_0 3 rfl rfl)
theorem dX0_writeRow_4 : decode cX0_writeRow 4 = .ok (.invokevirtual 153, 3) := dk_182 0 153 (dk_at dksX0_writeRow_0 4 rfl rfl)
theorem dX0_writeRow_7 : decode cX0_writeRow 7 = .ok (.i2l, 1) := dk_133 (dk_at dksX0_writeRow_0 7 rfl rfl)
theorem dX0_writeRow_8 : decode cX0_writeRow 8 = .ok (.lastore, 1) := dk_80 (dk_at dksX0_writeRow_0 8 rfl rfl)
theorem dX0_writeRow_9 : decode cX0_writeRow 9 = .ok (.goto 9, 3) := dk_167 0 9 (dk_at dksX0_writeRow_0 9 rfl rfl)
theorem dX0_writeRow_12 : decode cX0_writeRow 12 = .ok (.astore_n 3, 1) := dk_78 (dk_at dksX0_writeRow_0 12 rfl rfl)
theorem dX0_writeRow_13 : decode cX0_writeRow 13 = .ok (.iconst 1, 1) := dk_4 (dk_at dksX0_writeRow_0 13 rfl rfl)
theorem dX0_writeRow_14 : decode cX0_writeRow 14 = .ok (.ireturn, 1) := dk_172 (dk_at dksX0_writeRow_0 14 rfl rfl)
theorem dX0_writeRow_15 : decode cX0_writeRow 15 = .ok (.astore_n 3, 1) := dk_78 (dk_at dksX0_writeRow_0 15 rfl rfl)
theorem dX0_writeRow_16 : decode cX0_writeRow 16 = .ok (.iconst 2, 1) := dk_5 (dk_at dksX0_writeRow_0 16 rfl rfl)
theorem dX0_writeRow_17 : decode cX0_writeRow 17 = .ok (.ireturn, 1) := dk_172 (dk_at dksX0_writeRow_0 17 rfl rfl)
theorem dX0_writeRow_18 : decode cX0_writeRow 18 = .ok (.iconst 0, 1) := dk_3 (dk_at dksX0_writeRow_0 18 rfl rfl)
theorem dX0_writeRow_19 : decode cX0_writeRow 19 = .ok (.ireturn, 1) := dk_172 (dk_at dksX0_writeRow_0 19 rfl rfl)
abbrev cX0_textByte : ByteArray := method_47_code
def yX0_textByte : MethodName := ⟨RX0, "textByte", "(LPingEye;I[J)I"⟩
def dkwX0_textByte_0 : List UInt8 := [44, 3, 42, 27, 182, 0, 156, 133, 80, 167, 0, 6, 78, 4, 172, 3, 172]
abbrev dktX0_textByte_0 : List UInt8 := dkwX0_textByte_0 ++ []
theorem dksX0_textByte_0 : cX0_textByte.data.toList.drop 0 = dktX0_textByte_0 := by decide +kernel
theorem dX0_textByte_0 : decode cX0_textByte 0 = .ok (.aload_n 2, 1) := dk_44 (dk_at dksX0_textByte_0 0 rfl rfl)
theorem dX0_textByte_1 : decode cX0_textByte 1 = .ok (.iconst 0, 1) := dk_3 (dk_at dksX0_textByte_0 1 rfl rfl)
theorem dX0_textByte_2 : decode cX0_textByte 2 = .ok (.aload_n 0, 1) := dk_42 (dk_at dksX0_textByte_0 2 rfl rfl)
theorem dX0_textByte_3 : decode cX0_textByte 3 = .ok (.iload_n 1, 1) := dk_27 (dk_at dksX0_textByte_0 3 rfl rfl)
theorem dX0_textByte_4 : decode cX0_textByte 4 = .ok (.invokevirtual 156, 3) := dk_182 0 156 (dk_at dksX0_textByte_0 4 rfl rfl)
theorem dX0_textByte_7 : decode cX0_textByte 7 = .ok (.i2l, 1) := dk_133 (dk_at dksX0_textByte_0 7 rfl rfl)
theorem dX0_textByte_8 : decode cX0_textByte 8 = .ok (.lastore, 1) := dk_80 (dk_at dksX0_textByte_0 8 rfl rfl)
theorem dX0_textByte_9 : decode cX0_textByte 9 = .ok (.goto 6, 3) := dk_167 0 6 (dk_at dksX0_textByte_0 9 rfl rfl)
theorem dX0_textByte_12 : decode cX0_textByte 12 = .ok (.astore_n 3, 1) := dk_78 (dk_at dksX0_textByte_0 12 rfl rfl)
theorem dX0_textByte_13 : decode cX0_textByte 13 = .ok (.iconst 1, 1) := dk_4 (dk_at dksX0_textByte_0 13 rfl rfl)
theorem dX0_textByte_14 : decode cX0_textByte 14 = .ok (.ireturn, 1) := dk_172 (dk_at dksX0_textByte_0 14 rfl rfl)
theorem dX0_textByte_15 : decode cX0_textByte 15 = .ok (.iconst 0, 1) := dk_3 (dk_at dksX0_textByte_0 15 rfl rfl)
theorem dX0_textByte_16 : decode cX0_textByte 16 = .ok (.ireturn, 1) := dk_172 (dk_at dksX0_textByte_0 16 rfl rfl)
abbrev cX0_fill : ByteArray := method_48_code
def yX0_fill : MethodName := ⟨RX0, "fill", "(LPingEye;II[J)I"⟩
def dkwX0_fill_1 : List UInt8 := [172, 3, 172]
abbrev dktX0_fill_1 : List UInt8 := dkwX0_fill_1 ++ []
def dkwX0_fill_0 : List UInt8 := [45, 3, 42, 27, 28, 182, 0, 159, 133, 80, 167, 0, 15, 58, 4, 4, 172, 58, 4, 5, 172, 58, 4, 6]
abbrev dktX0_fill_0 : List UInt8 := dkwX0_fill_0 ++ dktX0_fill_1
theorem dksX0_fill_0 : cX0_fill.data.toList.drop 0 = dktX0_fill_0 := by decide +kernel
theorem dksX0_fill_1 : cX0_fill.data.toList.drop 24 = dktX0_fill_1 := dk_seg dksX0_fill_0 24 rfl rfl
theorem dX0_fill_0 : decode cX0_fill 0 = .ok (.aload_n 3, 1) := dk_45 (dk_at dksX0_fill_0 0 rfl rfl)
theorem dX0_fill_1 : decode cX0_fill 1 = .ok (.iconst 0, 1) := dk_3 (dk_at dksX0_fill_0 1 rfl rfl)
theorem dX0_fill_2 : decode cX0_fill 2 = .ok (.aload_n 0, 1) := dk_42 (dk_at dksX0_fill_0 2 rfl rfl)
theorem dX0_fill_3 : decode cX0_fill 3 = .ok (.iload_n 1, 1) := dk_27 (dk_at dksX0_fill_0 3 rfl rfl)
theorem dX0_fill_4 : decode cX0_fill 4 = .ok (.iload_n 2, 1) := dk_28 (dk_at dksX0_fill_0 4 rfl rfl)
theorem dX0_fill_5 : decode cX0_fill 5 = .ok (.invokevirtual 159, 3) := dk_182 0 159 (dk_at dksX0_fill_0 5 rfl rfl)
theorem dX0_fill_8 : decode cX0_fill 8 = .ok (.i2l, 1) := dk_133 (dk_at dksX0_fill_0 8 rfl rfl)
theorem dX0_fill_9 : decode cX0_fill 9 = .ok (.lastore, 1) := dk_80 (dk_at dksX0_fill_0 9 rfl rfl)
theorem dX0_fill_10 : decode cX0_fill 10 = .ok (.goto 15, 3) := dk_167 0 15 (dk_at dksX0_fill_0 10 rfl rfl)
theorem dX0_fill_13 : decode cX0_fill 13 = .ok (.astore 4, 2) := dk_58 4 (dk_at dksX0_fill_0 13 rfl rfl)
theorem dX0_fill_15 : decode cX0_fill 15 = .ok (.iconst 1, 1) := dk_4 (dk_at dksX0_fill_0 15 rfl rfl)
theorem dX0_fill_16 : decode cX0_fill 16 = .ok (.ireturn, 1) := dk_172 (dk_at dksX0_fill_0 16 rfl rfl)
theorem dX0_fill_17 : decode cX0_fill 17 = .ok (.astore 4, 2) := dk_58 4 (dk_at dksX0_fill_0 17 rfl rfl)
theorem dX0_fill_19 : decode cX0_fill 19 = .ok (.iconst 2, 1) := dk_5 (dk_at dksX0_fill_0 19 rfl rfl)
theorem dX0_fill_20 : decode cX0_fill 20 = .ok (.ireturn, 1) := dk_172 (dk_at dksX0_fill_0 20 rfl rfl)
theorem dX0_fill_21 : decode cX0_fill 21 = .ok (.astore 4, 2) := dk_58 4 (dk_at dksX0_fill_0 21 rfl rfl)
theorem dX0_fill_23 : decode cX0_fill 23 = .ok (.iconst 3, 1) := dk_6 (dk_at dksX0_fill_0 23 rfl rfl)
theorem dX0_fill_24 : decode cX0_fill 24 = .ok (.ireturn, 1) := dk_172 (dk_at dksX0_fill_1 0 rfl rfl)
theorem dX0_fill_25 : decode cX0_fill 25 = .ok (.iconst 0, 1) := dk_3 (dk_at dksX0_fill_1 1 rfl rfl)
theorem dX0_fill_26 : decode cX0_fill 26 = .ok (.ireturn, 1) := dk_172 (dk_at dksX0_fill_1 2 rfl rfl)
abbrev cX0_draw : ByteArray := method_49_code
def yX0_draw : MethodName := ⟨RX0, "draw", "(LPingEye;I[J)I"⟩
def dkwX0_draw_0 : List UInt8 := [44, 3, 42, 27, 182, 0, 162, 133, 80, 167, 0, 9, 78, 4, 172, 78, 5, 172, 3, 172]
abbrev dktX0_draw_0 : List UInt8 := dkwX0_draw_0 ++ []
theorem dksX0_draw_0 : cX0_draw.data.toList.drop 0 = dktX0_draw_0 := by decide +kernel
theorem dX0_draw_0 : decode cX0_draw 0 = .ok (.aload_n 2, 1) := dk_44 (dk_at dksX0_draw_0 0 rfl rfl)
theorem dX0_draw_1 : decode cX0_draw 1 = .ok (.iconst 0, 1) := dk_3 (dk_at dksX0_draw_0 1 rfl rfl)
theorem dX0_draw_2 : decode cX0_draw 2 = .ok (.aload_n 0, 1) := dk_42 (dk_at dksX0_draw_0 2 rfl rfl)
theorem dX0_draw_3 : decode cX0_draw 3 = .ok (.iload_n 1, 1) := dk_27 (dk_at dksX0_draw_0 3 rfl rfl)
theorem dX0_draw_4 : decode cX0_draw 4 = .ok (.invokevirtual 162, 3) := dk_182 0 162 (dk_at dksX0_draw_0 4 rfl rfl)
theorem dX0_draw_7 : decode cX0_draw 7 = .ok (.i2l, 1) := dk_133 (dk_at dksX0_draw_0 7 rfl rfl)
theorem dX0_draw_8 : decode cX0_draw 8 = .ok (.lastore, 1) := dk_80 (dk_at dksX0_draw_0 8 rfl rfl)
theorem dX0_draw_9 : decode cX0_draw 9 = .ok (.goto 9, 3) := dk_167 0 9 (dk_at dksX0_draw_0 9 rfl rfl)
theorem dX0_draw_12 : decode cX0_draw 12 = .ok (.astore_n 3, 1) := dk_78 (dk_at dksX0_draw_0 12 rfl rfl)
theorem dX0_draw_13 : decode cX0_draw 13 = .ok (.iconst 1, 1) := dk_4 (dk_at dksX0_draw_0 13 rfl rfl)
theorem dX0_draw_14 : decode cX0_draw 14 = .ok (.ireturn, 1) := dk_172 (dk_at dksX0_draw_0 14 rfl rfl)
theorem dX0_draw_15 : decode cX0_draw 15 = .ok (.astore_n 3, 1) := dk_78 (dk_at dksX0_draw_0 15 rfl rfl)
theorem dX0_draw_16 : decode cX0_draw 16 = .ok (.iconst 2, 1) := dk_5 (dk_at dksX0_draw_0 16 rfl rfl)
theorem dX0_draw_17 : decode cX0_draw 17 = .ok (.ireturn, 1) := dk_172 (dk_at dksX0_draw_0 17 rfl rfl)
theorem dX0_draw_18 : decode cX0_draw 18 = .ok (.iconst 0, 1) := dk_3 (dk_at dksX0_draw_0 18 rfl rfl)
theorem dX0_draw_19 : decode cX0_draw 19 = .ok (.ireturn, 1) := dk_172 (dk_at dksX0_draw_0 19 rfl rfl)
abbrev cX0_ping : ByteArray := method_50_code
def yX0_ping : MethodName := ⟨RX0, "ping", "(LPingEye;[J)I"⟩
def dkwX0_ping_0 : List UInt8 := [43, 3, 42, 182, 0, 165, 133, 80, 167, 0, 6, 77, 4, 172, 3, 172]
abbrev dktX0_ping_0 : List UInt8 := dkwX0_ping_0 ++ []
theorem dksX0_ping_0 : cX0_ping.data.toList.drop 0 = dktX0_ping_0 := by decide +kernel
theorem dX0_ping_0 : decode cX0_ping 0 = .ok (.aload_n 1, 1) := dk_43 (dk_at dksX0_ping_0 0 rfl rfl)
theorem dX0_ping_1 : decode cX0_ping 1 = .ok (.iconst 0, 1) := dk_3 (dk_at dksX0_ping_0 1 rfl rfl)
theorem dX0_ping_2 : decode cX0_ping 2 = .ok (.aload_n 0, 1) := dk_42 (dk_at dksX0_ping_0 2 rfl rfl)
theorem dX0_ping_3 : decode cX0_ping 3 = .ok (.invokevirtual 165, 3) := dk_182 0 165 (dk_at dksX0_ping_0 3 rfl rfl)
theorem dX0_ping_6 : decode cX0_ping 6 = .ok (.i2l, 1) := dk_133 (dk_at dksX0_ping_0 6 rfl rfl)
theorem dX0_ping_7 : decode cX0_ping 7 = .ok (.lastore, 1) := dk_80 (dk_at dksX0_ping_0 7 rfl rfl)
theorem dX0_ping_8 : decode cX0_ping 8 = .ok (.goto 6, 3) := dk_167 0 6 (dk_at dksX0_ping_0 8 rfl rfl)
theorem dX0_ping_11 : decode cX0_ping 11 = .ok (.astore_n 2, 1) := dk_77 (dk_at dksX0_ping_0 11 rfl rfl)
theorem dX0_ping_12 : decode cX0_ping 12 = .ok (.iconst 1, 1) := dk_4 (dk_at dksX0_ping_0 12 rfl rfl)
theorem dX0_ping_13 : decode cX0_ping 13 = .ok (.ireturn, 1) := dk_172 (dk_at dksX0_ping_0 13 rfl rfl)
theorem dX0_ping_14 : decode cX0_ping 14 = .ok (.iconst 0, 1) := dk_3 (dk_at dksX0_ping_0 14 rfl rfl)
theorem dX0_ping_15 : decode cX0_ping 15 = .ok (.ireturn, 1) := dk_172 (dk_at dksX0_ping_0 15 rfl rfl)
abbrev cX0_empty : ByteArray := method_51_code
def yX0_empty : MethodName := ⟨RX0, "empty", "(LPingEye;[J)I"⟩
def dkwX0_empty_0 : List UInt8 := [43, 3, 42, 182, 0, 168, 133, 80, 167, 0, 6, 77, 4, 172, 3, 172]
abbrev dktX0_empty_0 : List UInt8 := dkwX0_empty_0 ++ []
theorem dksX0_empty_0 : cX0_empty.data.toList.drop 0 = dktX0_empty_0 := by decide +kernel
theorem dX0_empty_0 : decode cX0_empty 0 = .ok (.aload_n 1, 1) := dk_43 (dk_at dksX0_empty_0 0 rfl rfl)
theorem dX0_empty_1 : decode cX0_empty 1 = .ok (.iconst 0, 1) := dk_3 (dk_at dksX0_empty_0 1 rfl rfl)
theorem dX0_empty_2 : decode cX0_empty 2 = .ok (.aload_n 0, 1) := dk_42 (dk_at dksX0_empty_0 2 rfl rfl)
theorem dX0_empty_3 : decode cX0_empty 3 = .ok (.invokevirtual 168, 3) := dk_182 0 168 (dk_at dksX0_empty_0 3 rfl rfl)
theorem dX0_empty_6 : decode cX0_empty 6 = .ok (.i2l, 1) := dk_133 (dk_at dksX0_empty_0 6 rfl rfl)
theorem dX0_empty_7 : decode cX0_empty 7 = .ok (.lastore, 1) := dk_80 (dk_at dksX0_empty_0 7 rfl rfl)
theorem dX0_empty_8 : decode cX0_empty 8 = .ok (.goto 6, 3) := dk_167 0 6 (dk_at dksX0_empty_0 8 rfl rfl)
theorem dX0_empty_11 : decode cX0_empty 11 = .ok (.astore_n 2, 1) := dk_77 (dk_at dksX0_empty_0 11 rfl rfl)
theorem dX0_empty_12 : decode cX0_empty 12 = .ok (.iconst 1, 1) := dk_4 (dk_at dksX0_empty_0 12 rfl rfl)
theorem dX0_empty_13 : decode cX0_empty 13 = .ok (.ireturn, 1) := dk_172 (dk_at dksX0_empty_0 13 rfl rfl)
theorem dX0_empty_14 : decode cX0_empty 14 = .ok (.iconst 0, 1) := dk_3 (dk_at dksX0_empty_0 14 rfl rfl)
theorem dX0_empty_15 : decode cX0_empty 15 = .ok (.ireturn, 1) := dk_172 (dk_at dksX0_empty_0 15 rfl rfl)
abbrev cX0_level : ByteArray := method_52_code
def yX0_level : MethodName := ⟨RX0, "level", "(LPingEye;Z[J)I"⟩
def dkwX0_level_0 : List UInt8 := [44, 3, 42, 27, 182, 0, 171, 133, 80, 167, 0, 6, 78, 4, 172, 3, 172]
abbrev dktX0_level_0 : List UInt8 := dkwX0_level_0 ++ []
theorem dksX0_level_0 : cX0_level.data.toList.drop 0 = dktX0_level_0 := by decide +kernel
theorem dX0_level_0 : decode cX0_level 0 = .ok (.aload_n 2, 1) := dk_44 (dk_at dksX0_level_0 0 rfl rfl)
theorem dX0_level_1 : decode cX0_level 1 = .ok (.iconst 0, 1) := dk_3 (dk_at dksX0_level_0 1 rfl rfl)
theorem dX0_level_2 : decode cX0_level 2 = .ok (.aload_n 0, 1) := dk_42 (dk_at dksX0_level_0 2 rfl rfl)
theorem dX0_level_3 : decode cX0_level 3 = .ok (.iload_n 1, 1) := dk_27 (dk_at dksX0_level_0 3 rfl rfl)
theorem dX0_level_4 : decode cX0_level 4 = .ok (.invokevirtual 171, 3) := dk_182 0 171 (dk_at dksX0_level_0 4 rfl rfl)
theorem dX0_level_7 : decode cX0_level 7 = .ok (.i2l, 1) := dk_133 (dk_at dksX0_level_0 7 rfl rfl)
theorem dX0_level_8 : decode cX0_level 8 = .ok (.lastore, 1) := dk_80 (dk_at dksX0_level_0 8 rfl rfl)
theorem dX0_level_9 : decode cX0_level 9 = .ok (.goto 6, 3) := dk_167 0 6 (dk_at dksX0_level_0 9 rfl rfl)
theorem dX0_level_12 : decode cX0_level 12 = .ok (.astore_n 3, 1) := dk_78 (dk_at dksX0_level_0 12 rfl rfl)
theorem dX0_level_13 : decode cX0_level 13 = .ok (.iconst 1, 1) := dk_4 (dk_at dksX0_level_0 13 rfl rfl)
theorem dX0_level_14 : decode cX0_level 14 = .ok (.ireturn, 1) := dk_172 (dk_at dksX0_level_0 14 rfl rfl)
theorem dX0_level_15 : decode cX0_level 15 = .ok (.iconst 0, 1) := dk_3 (dk_at dksX0_level_0 15 rfl rfl)
theorem dX0_level_16 : decode cX0_level 16 = .ok (.ireturn, 1) := dk_172 (dk_at dksX0_level_0 16 rfl rfl)
abbrev cX0_learn : ByteArray := method_53_code
def yX0_learn : MethodName := ⟨RX0, "learn", "(LPingEye;I[J)I"⟩
def dkwX0_learn_0 : List UInt8 := [44, 3, 42, 27, 182, 0, 174, 133, 80, 167, 0, 9, 78, 4, 172, 78, 5, 172, 3, 172]
abbrev dktX0_learn_0 : List UInt8 := dkwX0_learn_0 ++ []
theorem dksX0_learn_0 : cX0_learn.data.toList.drop 0 = dktX0_learn_0 := by decide +kernel
theorem dX0_learn_0 : decode cX0_learn 0 = .ok (.aload_n 2, 1) := dk_44 (dk_at dksX0_learn_0 0 rfl rfl)
theorem dX0_learn_1 : decode cX0_learn 1 = .ok (.iconst 0, 1) := dk_3 (dk_at dksX0_learn_0 1 rfl rfl)
theorem dX0_learn_2 : decode cX0_learn 2 = .ok (.aload_n 0, 1) := dk_42 (dk_at dksX0_learn_0 2 rfl rfl)
theorem dX0_learn_3 : decode cX0_learn 3 = .ok (.iload_n 1, 1) := dk_27 (dk_at dksX0_learn_0 3 rfl rfl)
theorem dX0_learn_4 : decode cX0_learn 4 = .ok (.invokevirtual 174, 3) := dk_182 0 174 (dk_at dksX0_learn_0 4 rfl rfl)
theorem dX0_learn_7 : decode cX0_learn 7 = .ok (.i2l, 1) := dk_133 (dk_at dksX0_learn_0 7 rfl rfl)
theorem dX0_learn_8 : decode cX0_learn 8 = .ok (.lastore, 1) := dk_80 (dk_at dksX0_learn_0 8 rfl rfl)
theorem dX0_learn_9 : decode cX0_learn 9 = .ok (.goto 9, 3) := dk_167 0 9 (dk_at dksX0_learn_0 9 rfl rfl)
theorem dX0_learn_12 : decode cX0_learn 12 = .ok (.astore_n 3, 1) := dk_78 (dk_at dksX0_learn_0 12 rfl rfl)
theorem dX0_learn_13 : decode cX0_learn 13 = .ok (.iconst 1, 1) := dk_4 (dk_at dksX0_learn_0 13 rfl rfl)
theorem dX0_learn_14 : decode cX0_learn 14 = .ok (.ireturn, 1) := dk_172 (dk_at dksX0_learn_0 14 rfl rfl)
theorem dX0_learn_15 : decode cX0_learn 15 = .ok (.astore_n 3, 1) := dk_78 (dk_at dksX0_learn_0 15 rfl rfl)
theorem dX0_learn_16 : decode cX0_learn 16 = .ok (.iconst 2, 1) := dk_5 (dk_at dksX0_learn_0 16 rfl rfl)
theorem dX0_learn_17 : decode cX0_learn 17 = .ok (.ireturn, 1) := dk_172 (dk_at dksX0_learn_0 17 rfl rfl)
theorem dX0_learn_18 : decode cX0_learn 18 = .ok (.iconst 0, 1) := dk_3 (dk_at dksX0_learn_0 18 rfl rfl)
theorem dX0_learn_19 : decode cX0_learn 19 = .ok (.ireturn, 1) := dk_172 (dk_at dksX0_learn_0 19 rfl rfl)
abbrev cX0_forget : ByteArray := method_54_code
def yX0_forget : MethodName := ⟨RX0, "forget", "(LPingEye;[J)I"⟩
def dkwX0_forget_0 : List UInt8 := [43, 3, 42, 182, 0, 177, 133, 80, 167, 0, 6, 77, 4, 172, 3, 172]
abbrev dktX0_forget_0 : List UInt8 := dkwX0_forget_0 ++ []
theorem dksX0_forget_0 : cX0_forget.data.toList.drop 0 = dktX0_forget_0 := by decide +kernel
theorem dX0_forget_0 : decode cX0_forget 0 = .ok (.aload_n 1, 1) := dk_43 (dk_at dksX0_forget_0 0 rfl rfl)
theorem dX0_forget_1 : decode cX0_forget 1 = .ok (.iconst 0, 1) := dk_3 (dk_at dksX0_forget_0 1 rfl rfl)
theorem dX0_forget_2 : decode cX0_forget 2 = .ok (.aload_n 0, 1) := dk_42 (dk_at dksX0_forget_0 2 rfl rfl)
theorem dX0_forget_3 : decode cX0_forget 3 = .ok (.invokevirtual 177, 3) := dk_182 0 177 (dk_at dksX0_forget_0 3 rfl rfl)
theorem dX0_forget_6 : decode cX0_forget 6 = .ok (.i2l, 1) := dk_133 (dk_at dksX0_forget_0 6 rfl rfl)
theorem dX0_forget_7 : decode cX0_forget 7 = .ok (.lastore, 1) := dk_80 (dk_at dksX0_forget_0 7 rfl rfl)
theorem dX0_forget_8 : decode cX0_forget 8 = .ok (.goto 6, 3) := dk_167 0 6 (dk_at dksX0_forget_0 8 rfl rfl)
theorem dX0_forget_11 : decode cX0_forget 11 = .ok (.astore_n 2, 1) := dk_77 (dk_at dksX0_forget_0 11 rfl rfl)
theorem dX0_forget_12 : decode cX0_forget 12 = .ok (.iconst 1, 1) := dk_4 (dk_at dksX0_forget_0 12 rfl rfl)
theorem dX0_forget_13 : decode cX0_forget 13 = .ok (.ireturn, 1) := dk_172 (dk_at dksX0_forget_0 13 rfl rfl)
theorem dX0_forget_14 : decode cX0_forget 14 = .ok (.iconst 0, 1) := dk_3 (dk_at dksX0_forget_0 14 rfl rfl)
theorem dX0_forget_15 : decode cX0_forget 15 = .ok (.ireturn, 1) := dk_172 (dk_at dksX0_forget_0 15 rfl rfl)
abbrev cX0_waits : ByteArray := method_55_code
def yX0_waits : MethodName := ⟨RX0, "waits", "(LPingEye;I[J)I"⟩
def dkwX0_waits_0 : List UInt8 := [44, 3, 42, 27, 182, 0, 180, 133, 80, 167, 0, 9, 78, 4, 172, 78, 5, 172, 3, 172]
abbrev dktX0_waits_0 : List UInt8 := dkwX0_waits_0 ++ []
theorem dksX0_waits_0 : cX0_waits.data.toList.drop 0 = dktX0_waits_0 := by decide +kernel
theorem dX0_waits_0 : decode cX0_waits 0 = .ok (.aload_n 2, 1) := dk_44 (dk_at dksX0_waits_0 0 rfl rfl)
theorem dX0_waits_1 : decode cX0_waits 1 = .ok (.iconst 0, 1) := dk_3 (dk_at dksX0_waits_0 1 rfl rfl)
theorem dX0_waits_2 : decode cX0_waits 2 = .ok (.aload_n 0, 1) := dk_42 (dk_at dksX0_waits_0 2 rfl rfl)
theorem dX0_waits_3 : decode cX0_waits 3 = .ok (.iload_n 1, 1) := dk_27 (dk_at dksX0_waits_0 3 rfl rfl)
theorem dX0_waits_4 : decode cX0_waits 4 = .ok (.invokevirtual 180, 3) := dk_182 0 180 (dk_at dksX0_waits_0 4 rfl rfl)
theorem dX0_waits_7 : decode cX0_waits 7 = .ok (.i2l, 1) := dk_133 (dk_at dksX0_waits_0 7 rfl rfl)
theorem dX0_waits_8 : decode cX0_waits 8 = .ok (.lastore, 1) := dk_80 (dk_at dksX0_waits_0 8 rfl rfl)
theorem dX0_waits_9 : decode cX0_waits 9 = .ok (.goto 9, 3) := dk_167 0 9 (dk_at dksX0_waits_0 9 rfl rfl)
theorem dX0_waits_12 : decode cX0_waits 12 = .ok (.astore_n 3, 1) := dk_78 (dk_at dksX0_waits_0 12 rfl rfl)
theorem dX0_waits_13 : decode cX0_waits 13 = .ok (.iconst 1, 1) := dk_4 (dk_at dksX0_waits_0 13 rfl rfl)
theorem dX0_waits_14 : decode cX0_waits 14 = .ok (.ireturn, 1) := dk_172 (dk_at dksX0_waits_0 14 rfl rfl)
theorem dX0_waits_15 : decode cX0_waits 15 = .ok (.astore_n 3, 1) := dk_78 (dk_at dksX0_waits_0 15 rfl rfl)
theorem dX0_waits_16 : decode cX0_waits 16 = .ok (.iconst 2, 1) := dk_5 (dk_at dksX0_waits_0 16 rfl rfl)
theorem dX0_waits_17 : decode cX0_waits 17 = .ok (.ireturn, 1) := dk_172 (dk_at dksX0_waits_0 17 rfl rfl)
theorem dX0_waits_18 : decode cX0_waits 18 = .ok (.iconst 0, 1) := dk_3 (dk_at dksX0_waits_0 18 rfl rfl)
theorem dX0_waits_19 : decode cX0_waits 19 = .ok (.ireturn, 1) := dk_172 (dk_at dksX0_waits_0 19 rfl rfl)
abbrev cX0_turnStuck : ByteArray := method_56_code
def yX0_turnStuck : MethodName := ⟨RX0, "turnStuck", "(LPingEye;I[J)I"⟩
def dkwX0_turnStuck_0 : List UInt8 := [44, 3, 42, 27, 182, 0, 183, 133, 80, 167, 0, 9, 78, 4, 172, 78, 5, 172, 3, 172]
abbrev dktX0_turnStuck_0 : List UInt8 := dkwX0_turnStuck_0 ++ []
theorem dksX0_turnStuck_0 : cX0_turnStuck.data.toList.drop 0 = dktX0_turnStuck_0 := by decide +kernel
theorem dX0_turnStuck_0 : decode cX0_turnStuck 0 = .ok (.aload_n 2, 1) := dk_44 (dk_at dksX0_turnStuck_0 0 rfl rfl)
theorem dX0_turnStuck_1 : decode cX0_turnStuck 1 = .ok (.iconst 0, 1) := dk_3 (dk_at dksX0_turnStuck_0 1 rfl rfl)
theorem dX0_turnStuck_2 : decode cX0_turnStuck 2 = .ok (.aload_n 0, 1) := dk_42 (dk_at dksX0_turnStuck_0 2 rfl rfl)
theorem dX0_turnStuck_3 : decode cX0_turnStuck 3 = .ok (.iload_n 1, 1) := dk_27 (dk_at dksX0_turnStuck_0 3 rfl rfl)
theorem dX0_turnStuck_4 : decode cX0_turnStuck 4 = .ok (.invokevirtual 183, 3) := dk_182 0 183 (dk_at dksX0_turnStuck_0 4 rfl rfl)
theorem dX0_turnStuck_7 : decode cX0_turnStuck 7 = .ok (.i2l, 1) := dk_133 (dk_at dksX0_turnStuck_0 7 rfl rfl)
theorem dX0_turnStuck_8 : decode cX0_turnStuck 8 = .ok (.lastore, 1) := dk_80 (dk_at dksX0_turnStuck_0 8 rfl rfl)
theorem dX0_turnStuck_9 : decode cX0_turnStuck 9 = .ok (.goto 9, 3) := dk_167 0 9 (dk_at dksX0_turnStuck_0 9 rfl rfl)
theorem dX0_turnStuck_12 : decode cX0_turnStuck 12 = .ok (.astore_n 3, 1) := dk_78 (dk_at dksX0_turnStuck_0 12 rfl rfl)
theorem dX0_turnStuck_13 : decode cX0_turnStuck 13 = .ok (.iconst 1, 1) := dk_4 (dk_at dksX0_turnStuck_0 13 rfl rfl)
theorem dX0_turnStuck_14 : decode cX0_turnStuck 14 = .ok (.ireturn, 1) := dk_172 (dk_at dksX0_turnStuck_0 14 rfl rfl)
theorem dX0_turnStuck_15 : decode cX0_turnStuck 15 = .ok (.astore_n 3, 1) := dk_78 (dk_at dksX0_turnStuck_0 15 rfl rfl)
theorem dX0_turnStuck_16 : decode cX0_turnStuck 16 = .ok (.iconst 2, 1) := dk_5 (dk_at dksX0_turnStuck_0 16 rfl rfl)
theorem dX0_turnStuck_17 : decode cX0_turnStuck 17 = .ok (.ireturn, 1) := dk_172 (dk_at dksX0_turnStuck_0 17 rfl rfl)
theorem dX0_turnStuck_18 : decode cX0_turnStuck 18 = .ok (.iconst 0, 1) := dk_3 (dk_at dksX0_turnStuck_0 18 rfl rfl)
theorem dX0_turnStuck_19 : decode cX0_turnStuck 19 = .ok (.ireturn, 1) := dk_172 (dk_at dksX0_turnStuck_0 19 rfl rfl)
abbrev cX0_setEye : ByteArray := method_57_code
def yX0_setEye : MethodName := ⟨RX0, "setEye", "(LPingEye;I[J)I"⟩
def dkwX0_setEye_0 : List UInt8 := [44, 3, 42, 27, 182, 0, 186, 133, 80, 167, 0, 9, 78, 4, 172, 78, 5, 172, 3, 172]
abbrev dktX0_setEye_0 : List UInt8 := dkwX0_setEye_0 ++ []
theorem dksX0_setEye_0 : cX0_setEye.data.toList.drop 0 = dktX0_setEye_0 := by decide +kernel
theorem dX0_setEye_0 : decode cX0_setEye 0 = .ok (.aload_n 2, 1) := dk_44 (dk_at dksX0_setEye_0 0 rfl rfl)
theorem dX0_setEye_1 : decode cX0_setEye 1 = .ok (.iconst 0, 1) := dk_3 (dk_at dksX0_setEye_0 1 rfl rfl)
theorem dX0_setEye_2 : decode cX0_setEye 2 = .ok (.aload_n 0, 1) := dk_42 (dk_at dksX0_setEye_0 2 rfl rfl)
theorem dX0_setEye_3 : decode cX0_setEye 3 = .ok (.iload_n 1, 1) := dk_27 (dk_at dksX0_setEye_0 3 rfl rfl)
theorem dX0_setEye_4 : decode cX0_setEye 4 = .ok (.invokevirtual 186, 3) := dk_182 0 186 (dk_at dksX0_setEye_0 4 rfl rfl)
theorem dX0_setEye_7 : decode cX0_setEye 7 = .ok (.i2l, 1) := dk_133 (dk_at dksX0_setEye_0 7 rfl rfl)
theorem dX0_setEye_8 : decode cX0_setEye 8 = .ok (.lastore, 1) := dk_80 (dk_at dksX0_setEye_0 8 rfl rfl)
theorem dX0_setEye_9 : decode cX0_setEye 9 = .ok (.goto 9, 3) := dk_167 0 9 (dk_at dksX0_setEye_0 9 rfl rfl)
theorem dX0_setEye_12 : decode cX0_setEye 12 = .ok (.astore_n 3, 1) := dk_78 (dk_at dksX0_setEye_0 12 rfl rfl)
theorem dX0_setEye_13 : decode cX0_setEye 13 = .ok (.iconst 1, 1) := dk_4 (dk_at dksX0_setEye_0 13 rfl rfl)
theorem dX0_setEye_14 : decode cX0_setEye 14 = .ok (.ireturn, 1) := dk_172 (dk_at dksX0_setEye_0 14 rfl rfl)
theorem dX0_setEye_15 : decode cX0_setEye 15 = .ok (.astore_n 3, 1) := dk_78 (dk_at dksX0_setEye_0 15 rfl rfl)
theorem dX0_setEye_16 : decode cX0_setEye 16 = .ok (.iconst 2, 1) := dk_5 (dk_at dksX0_setEye_0 16 rfl rfl)
theorem dX0_setEye_17 : decode cX0_setEye 17 = .ok (.ireturn, 1) := dk_172 (dk_at dksX0_setEye_0 17 rfl rfl)
theorem dX0_setEye_18 : decode cX0_setEye 18 = .ok (.iconst 0, 1) := dk_3 (dk_at dksX0_setEye_0 18 rfl rfl)
theorem dX0_setEye_19 : decode cX0_setEye 19 = .ok (.ireturn, 1) := dk_172 (dk_at dksX0_setEye_0 19 rfl rfl)
abbrev cX0_set : ByteArray := method_58_code
def yX0_set : MethodName := ⟨RX0, "set", "(LPingEye;II[J)I"⟩
def dkwX0_set_0 : List UInt8 := [45, 3, 42, 27, 28, 182, 0, 189, 133, 80, 167, 0, 11, 58, 4, 4, 172, 58, 4, 5, 172, 3, 172]
abbrev dktX0_set_0 : List UInt8 := dkwX0_set_0 ++ []
theorem dksX0_set_0 : cX0_set.data.toList.drop 0 = dktX0_set_0 := by decide +kernel
theorem dX0_set_0 : decode cX0_set 0 = .ok (.aload_n 3, 1) := dk_45 (dk_at dksX0_set_0 0 rfl rfl)
theorem dX0_set_1 : decode cX0_set 1 = .ok (.iconst 0, 1) := dk_3 (dk_at dksX0_set_0 1 rfl rfl)
theorem dX0_set_2 : decode cX0_set 2 = .ok (.aload_n 0, 1) := dk_42 (dk_at dksX0_set_0 2 rfl rfl)
theorem dX0_set_3 : decode cX0_set 3 = .ok (.iload_n 1, 1) := dk_27 (dk_at dksX0_set_0 3 rfl rfl)
theorem dX0_set_4 : decode cX0_set 4 = .ok (.iload_n 2, 1) := dk_28 (dk_at dksX0_set_0 4 rfl rfl)
theorem dX0_set_5 : decode cX0_set 5 = .ok (.invokevirtual 189, 3) := dk_182 0 189 (dk_at dksX0_set_0 5 rfl rfl)
theorem dX0_set_8 : decode cX0_set 8 = .ok (.i2l, 1) := dk_133 (dk_at dksX0_set_0 8 rfl rfl)
theorem dX0_set_9 : decode cX0_set 9 = .ok (.lastore, 1) := dk_80 (dk_at dksX0_set_0 9 rfl rfl)
theorem dX0_set_10 : decode cX0_set 10 = .ok (.goto 11, 3) := dk_167 0 11 (dk_at dksX0_set_0 10 rfl rfl)
theorem dX0_set_13 : decode cX0_set 13 = .ok (.astore 4, 2) := dk_58 4 (dk_at dksX0_set_0 13 rfl rfl)
theorem dX0_set_15 : decode cX0_set 15 = .ok (.iconst 1, 1) := dk_4 (dk_at dksX0_set_0 15 rfl rfl)
theorem dX0_set_16 : decode cX0_set 16 = .ok (.ireturn, 1) := dk_172 (dk_at dksX0_set_0 16 rfl rfl)
theorem dX0_set_17 : decode cX0_set 17 = .ok (.astore 4, 2) := dk_58 4 (dk_at dksX0_set_0 17 rfl rfl)
theorem dX0_set_19 : decode cX0_set 19 = .ok (.iconst 2, 1) := dk_5 (dk_at dksX0_set_0 19 rfl rfl)
theorem dX0_set_20 : decode cX0_set 20 = .ok (.ireturn, 1) := dk_172 (dk_at dksX0_set_0 20 rfl rfl)
theorem dX0_set_21 : decode cX0_set 21 = .ok (.iconst 0, 1) := dk_3 (dk_at dksX0_set_0 21 rfl rfl)
theorem dX0_set_22 : decode cX0_set 22 = .ok (.ireturn, 1) := dk_172 (dk_at dksX0_set_0 22 rfl rfl)
abbrev cX0_undo : ByteArray := method_59_code
def yX0_undo : MethodName := ⟨RX0, "undo", "(LPingEye;[J)I"⟩
def dkwX0_undo_0 : List UInt8 := [43, 3, 42, 182, 0, 192, 133, 80, 167, 0, 6, 77, 4, 172, 3, 172]
abbrev dktX0_undo_0 : List UInt8 := dkwX0_undo_0 ++ []
theorem dksX0_undo_0 : cX0_undo.data.toList.drop 0 = dktX0_undo_0 := by decide +kernel
theorem dX0_undo_0 : decode cX0_undo 0 = .ok (.aload_n 1, 1) := dk_43 (dk_at dksX0_undo_0 0 rfl rfl)
theorem dX0_undo_1 : decode cX0_undo 1 = .ok (.iconst 0, 1) := dk_3 (dk_at dksX0_undo_0 1 rfl rfl)
theorem dX0_undo_2 : decode cX0_undo 2 = .ok (.aload_n 0, 1) := dk_42 (dk_at dksX0_undo_0 2 rfl rfl)
theorem dX0_undo_3 : decode cX0_undo 3 = .ok (.invokevirtual 192, 3) := dk_182 0 192 (dk_at dksX0_undo_0 3 rfl rfl)
theorem dX0_undo_6 : decode cX0_undo 6 = .ok (.i2l, 1) := dk_133 (dk_at dksX0_undo_0 6 rfl rfl)
theorem dX0_undo_7 : decode cX0_undo 7 = .ok (.lastore, 1) := dk_80 (dk_at dksX0_undo_0 7 rfl rfl)
theorem dX0_undo_8 : decode cX0_undo 8 = .ok (.goto 6, 3) := dk_167 0 6 (dk_at dksX0_undo_0 8 rfl rfl)
theorem dX0_undo_11 : decode cX0_undo 11 = .ok (.astore_n 2, 1) := dk_77 (dk_at dksX0_undo_0 11 rfl rfl)
theorem dX0_undo_12 : decode cX0_undo 12 = .ok (.iconst 1, 1) := dk_4 (dk_at dksX0_undo_0 12 rfl rfl)
theorem dX0_undo_13 : decode cX0_undo 13 = .ok (.ireturn, 1) := dk_172 (dk_at dksX0_undo_0 13 rfl rfl)
theorem dX0_undo_14 : decode cX0_undo 14 = .ok (.iconst 0, 1) := dk_3 (dk_at dksX0_undo_0 14 rfl rfl)
theorem dX0_undo_15 : decode cX0_undo 15 = .ok (.ireturn, 1) := dk_172 (dk_at dksX0_undo_0 15 rfl rfl)
abbrev cX0_save : ByteArray := method_60_code
def yX0_save : MethodName := ⟨RX0, "save", "(LPingEye;I[J)I"⟩
def dkwX0_save_0 : List UInt8 := [44, 3, 42, 27, 182, 0, 195, 133, 80, 167, 0, 9, 78, 4, 172, 78, 5, 172, 3, 172]
abbrev dktX0_save_0 : List UInt8 := dkwX0_save_0 ++ []
theorem dksX0_save_0 : cX0_save.data.toList.drop 0 = dktX0_save_0 := by decide +kernel
theorem dX0_save_0 : decode cX0_save 0 = .ok (.aload_n 2, 1) := dk_44 (dk_at dksX0_save_0 0 rfl rfl)
theorem dX0_save_1 : decode cX0_save 1 = .ok (.iconst 0, 1) := dk_3 (dk_at dksX0_save_0 1 rfl rfl)
theorem dX0_save_2 : decode cX0_save 2 = .ok (.aload_n 0, 1) := dk_42 (dk_at dksX0_save_0 2 rfl rfl)
theorem dX0_save_3 : decode cX0_save 3 = .ok (.iload_n 1, 1) := dk_27 (dk_at dksX0_save_0 3 rfl rfl)
theorem dX0_save_4 : decode cX0_save 4 = .ok (.invokevirtual 195, 3) := dk_182 0 195 (dk_at dksX0_save_0 4 rfl rfl)
theorem dX0_save_7 : decode cX0_save 7 = .ok (.i2l, 1) := dk_133 (dk_at dksX0_save_0 7 rfl rfl)
theorem dX0_save_8 : decode cX0_save 8 = .ok (.lastore, 1) := dk_80 (dk_at dksX0_save_0 8 rfl rfl)
theorem dX0_save_9 : decode cX0_save 9 = .ok (.goto 9, 3) := dk_167 0 9 (dk_at dksX0_save_0 9 rfl rfl)
theorem dX0_save_12 : decode cX0_save 12 = .ok (.astore_n 3, 1) := dk_78 (dk_at dksX0_save_0 12 rfl rfl)
theorem dX0_save_13 : decode cX0_save 13 = .ok (.iconst 1, 1) := dk_4 (dk_at dksX0_save_0 13 rfl rfl)
theorem dX0_save_14 : decode cX0_save 14 = .ok (.ireturn, 1) := dk_172 (dk_at dksX0_save_0 14 rfl rfl)
theorem dX0_save_15 : decode cX0_save 15 = .ok (.astore_n 3, 1) := dk_78 (dk_at dksX0_save_0 15 rfl rfl)
theorem dX0_save_16 : decode cX0_save 16 = .ok (.iconst 2, 1) := dk_5 (dk_at dksX0_save_0 16 rfl rfl)
theorem dX0_save_17 : decode cX0_save 17 = .ok (.ireturn, 1) := dk_172 (dk_at dksX0_save_0 17 rfl rfl)
theorem dX0_save_18 : decode cX0_save 18 = .ok (.iconst 0, 1) := dk_3 (dk_at dksX0_save_0 18 rfl rfl)
theorem dX0_save_19 : decode cX0_save 19 = .ok (.ireturn, 1) := dk_172 (dk_at dksX0_save_0 19 rfl rfl)
abbrev cX0_restore : ByteArray := method_61_code
def yX0_restore : MethodName := ⟨RX0, "restore", "(LPingEye;I[J)I"⟩
def dkwX0_restore_0 : List UInt8 := [44, 3, 42, 27, 182, 0, 198, 133, 80, 167, 0, 9, 78, 4, 172, 78, 5, 172, 3, 172]
abbrev dktX0_restore_0 : List UInt8 := dkwX0_restore_0 ++ []
theorem dksX0_restore_0 : cX0_restore.data.toList.drop 0 = dktX0_restore_0 := by decide +kernel
theorem dX0_restore_0 : decode cX0_restore 0 = .ok (.aload_n 2, 1) := dk_44 (dk_at dksX0_restore_0 0 rfl rfl)
theorem dX0_restore_1 : decode cX0_restore 1 = .ok (.iconst 0, 1) := dk_3 (dk_at dksX0_restore_0 1 rfl rfl)
theorem dX0_restore_2 : decode cX0_restore 2 = .ok (.aload_n 0, 1) := dk_42 (dk_at dksX0_restore_0 2 rfl rfl)
theorem dX0_restore_3 : decode cX0_restore 3 = .ok (.iload_n 1, 1) := dk_27 (dk_at dksX0_restore_0 3 rfl rfl)
theorem dX0_restore_4 : decode cX0_restore 4 = .ok (.invokevirtual 198, 3) := dk_182 0 198 (dk_at dksX0_restore_0 4 rfl rfl)
theorem dX0_restore_7 : decode cX0_restore 7 = .ok (.i2l, 1) := dk_133 (dk_at dksX0_restore_0 7 rfl rfl)
theorem dX0_restore_8 : decode cX0_restore 8 = .ok (.lastore, 1) := dk_80 (dk_at dksX0_restore_0 8 rfl rfl)
theorem dX0_restore_9 : decode cX0_restore 9 = .ok (.goto 9, 3) := dk_167 0 9 (dk_at dksX0_restore_0 9 rfl rfl)
theorem dX0_restore_12 : decode cX0_restore 12 = .ok (.astore_n 3, 1) := dk_78 (dk_at dksX0_restore_0 12 rfl rfl)
theorem dX0_restore_13 : decode cX0_restore 13 = .ok (.iconst 1, 1) := dk_4 (dk_at dksX0_restore_0 13 rfl rfl)
theorem dX0_restore_14 : decode cX0_restore 14 = .ok (.ireturn, 1) := dk_172 (dk_at dksX0_restore_0 14 rfl rfl)
theorem dX0_restore_15 : decode cX0_restore 15 = .ok (.astore_n 3, 1) := dk_78 (dk_at dksX0_restore_0 15 rfl rfl)
theorem dX0_restore_16 : decode cX0_restore 16 = .ok (.iconst 2, 1) := dk_5 (dk_at dksX0_restore_0 16 rfl rfl)
theorem dX0_restore_17 : decode cX0_restore 17 = .ok (.ireturn, 1) := dk_172 (dk_at dksX0_restore_0 17 rfl rfl)
theorem dX0_restore_18 : decode cX0_restore 18 = .ok (.iconst 0, 1) := dk_3 (dk_at dksX0_restore_0 18 rfl rfl)
theorem dX0_restore_19 : decode cX0_restore 19 = .ok (.ireturn, 1) := dk_172 (dk_at dksX0_restore_0 19 rfl rfl)
theorem q94 : (Jvm.Cond.initialized "PingEyeLaw") ∈ lw_all := lw_g (lw_at lw_m1 0 rfl) rfl
theorem q130 : (Jvm.Cond.classLink "PingEyeLaw" (8 : Nat) "PingEye") ∈ lw_all := lw_g (lw_at lw_m1 36 rfl) rfl
theorem q132 : (Jvm.Cond.methodLink "PingEyeLaw" (201 : Nat) ({ cls := "PingEye", name := "<init>", desc := "()V" } : Jvm.MethodName)) ∈ lw_all := lw_g (lw_at lw_m1 38 rfl) rfl
theorem q193 : (Jvm.Cond.methodLink "PingEyeLaw" (205 : Nat) ({ cls := "PingEye", name := "append", desc := "(IIIII)I" } : Jvm.MethodName)) ∈ lw_all := lw_g (lw_at lw_m1 99 rfl) rfl
theorem q202 : (Jvm.Cond.methodLink "PingEyeLaw" (219 : Nat) ({ cls := "PingEye", name := "parseError", desc := "()I" } : Jvm.MethodName)) ∈ lw_all := lw_g (lw_at lw_m1 108 rfl) rfl
theorem q206 : (Jvm.Cond.methodLink "PingEyeLaw" (223 : Nat) ({ cls := "PingEye", name := "errorPosition", desc := "()I" } : Jvm.MethodName)) ∈ lw_all := lw_g (lw_at lw_m1 112 rfl) rfl
theorem q210 : (Jvm.Cond.methodLink "PingEyeLaw" (227 : Nat) ({ cls := "PingEye", name := "buffered", desc := "()I" } : Jvm.MethodName)) ∈ lw_all := lw_g (lw_at lw_m1 116 rfl) rfl
theorem q214 : (Jvm.Cond.methodLink "PingEyeLaw" (405 : Nat) ({ cls := "PingEye", name := "undoable", desc := "()I" } : Jvm.MethodName)) ∈ lw_all := lw_g (lw_at lw_m1 120 rfl) rfl
theorem q231 : (Jvm.Cond.methodLink "PingEyeLaw" (210 : Nat) ({ cls := "PingEyeLaw", name := "load", desc := "(LPingEye;I[J)I" } : Jvm.MethodName)) ∈ lw_all := lw_g (lw_at lw_m1 137 rfl) rfl
theorem q232 : (Jvm.Cond.static ({ cls := "PingEyeLaw", name := "load", desc := "(LPingEye;I[J)I" } : Jvm.MethodName)) ∈ lw_all := lw_g (lw_at lw_m1 138 rfl) rfl
theorem q233 : (Jvm.Cond.codeWith ({ cls := "PingEyeLaw", name := "load", desc := "(LPingEye;I[J)I" } : Jvm.MethodName) method_3_code (4 : Nat) (Option.some Jvm.ClassFile.FieldType.int) [((0 : Nat), (9 : Nat), (12 : Nat), (13 : Nat)), ((0 : Nat), (9 : Nat), (15 : Nat), (15 : Nat))]) ∈ lw_all := lw_g (lw_at lw_m1 139 rfl) rfl
theorem q234 : (Jvm.Cond.classLink "PingEyeLaw" (13 : Nat) "java/lang/IndexOutOfBoundsException") ∈ lw_all := lw_g (lw_at lw_m1 140 rfl) rfl
theorem q311 : (Jvm.Cond.classLink "PingEyeLaw" (15 : Nat) "java/lang/IllegalArgumentException") ∈ lw_all := lw_g (lw_at lw_m1 217 rfl) rfl
theorem q312 : (Jvm.Cond.methodLink "PingEyeLaw" (7 : Nat) ({ cls := "PingEye", name := "load", desc := "(I)I" } : Jvm.MethodName)) ∈ lw_all := lw_g (lw_at lw_m1 218 rfl) rfl
theorem q1301 : (Jvm.Cond.methodLink "PingEyeLaw" (231 : Nat) ({ cls := "PingEyeLaw", name := "number", desc := "(LPingEye;I[J)I" } : Jvm.MethodName)) ∈ lw_all := lw_g (lw_at lw_m6 7 rfl) rfl
theorem q1302 : (Jvm.Cond.static ({ cls := "PingEyeLaw", name := "number", desc := "(LPingEye;I[J)I" } : Jvm.MethodName)) ∈ lw_all := lw_g (lw_at lw_m6 8 rfl) rfl
theorem q1303 : (Jvm.Cond.codeWith ({ cls := "PingEyeLaw", name := "number", desc := "(LPingEye;I[J)I" } : Jvm.MethodName) method_4_code (4 : Nat) (Option.some Jvm.ClassFile.FieldType.int) [((0 : Nat), (9 : Nat), (12 : Nat), (20 : Nat)), ((0 : Nat), (9 : Nat), (15 : Nat), (15 : Nat))]) ∈ lw_all := lw_g (lw_at lw_m6 9 rfl) rfl
theorem q1304 : (Jvm.Cond.classLink "PingEyeLaw" (20 : Nat) "java/lang/IllegalStateException") ∈ lw_all := lw_g (lw_at lw_m6 10 rfl) rfl
theorem q1305 : (Jvm.Cond.methodLink "PingEyeLaw" (17 : Nat) ({ cls := "PingEye", name := "number", desc := "(I)I" } : Jvm.MethodName)) ∈ lw_all := lw_g (lw_at lw_m6 11 rfl) rfl
theorem q1331 : (Jvm.Cond.methodLink "PingEyeLaw" (234 : Nat) ({ cls := "PingEyeLaw", name := "count", desc := "(LPingEye;I[J)I" } : Jvm.MethodName)) ∈ lw_all := lw_g (lw_at lw_m6 37 rfl) rfl
theorem q1332 : (Jvm.Cond.static ({ cls := "PingEyeLaw", name := "count", desc := "(LPingEye;I[J)I" } : Jvm.MethodName)) ∈ lw_all := lw_g (lw_at lw_m6 38 rfl) rfl
theorem q1333 : (Jvm.Cond.codeWith ({ cls := "PingEyeLaw", name := "count", desc := "(LPingEye;I[J)I" } : Jvm.MethodName) method_5_code (4 : Nat) (Option.some Jvm.ClassFile.FieldType.int) [((0 : Nat), (9 : Nat), (12 : Nat), (20 : Nat)), ((0 : Nat), (9 : Nat), (15 : Nat), (15 : Nat))]) ∈ lw_all := lw_g (lw_at lw_m6 39 rfl) rfl
theorem q1334 : (Jvm.Cond.methodLink "PingEyeLaw" (22 : Nat) ({ cls := "PingEye", name := "count", desc := "(I)I" } : Jvm.MethodName)) ∈ lw_all := lw_g (lw_at lw_m6 40 rfl) rfl
theorem q1353 : (Jvm.Cond.methodLink "PingEyeLaw" (237 : Nat) ({ cls := "PingEyeLaw", name := "height", desc := "(LPingEye;I[J)I" } : Jvm.MethodName)) ∈ lw_all := lw_g (lw_at lw_m6 59 rfl) rfl
theorem q1354 : (Jvm.Cond.static ({ cls := "PingEyeLaw", name := "height", desc := "(LPingEye;I[J)I" } : Jvm.MethodName)) ∈ lw_all := lw_g (lw_at lw_m6 60 rfl) rfl
theorem q1355 : (Jvm.Cond.codeWith ({ cls := "PingEyeLaw", name := "height", desc := "(LPingEye;I[J)I" } : Jvm.MethodName) method_6_code (4 : Nat) (Option.some Jvm.ClassFile.FieldType.int) [((0 : Nat), (9 : Nat), (12 : Nat), (20 : Nat)), ((0 : Nat), (9 : Nat), (15 : Nat), (13 : Nat))]) ∈ lw_all := lw_g (lw_at lw_m6 61 rfl) rfl
theorem q1356 : (Jvm.Cond.methodLink "PingEyeLaw" (25 : Nat) ({ cls := "PingEye", name := "height", desc := "(I)I" } : Jvm.MethodName)) ∈ lw_all := lw_g (lw_at lw_m6 62 rfl) rfl
theorem q1364 : (Jvm.Cond.methodLink "PingEyeLaw" (240 : Nat) ({ cls := "PingEyeLaw", name := "isStuck", desc := "(LPingEye;I[J)I" } : Jvm.MethodName)) ∈ lw_all := lw_g (lw_at lw_m6 70 rfl) rfl
theorem q1365 : (Jvm.Cond.static ({ cls := "PingEyeLaw", name := "isStuck", desc := "(LPingEye;I[J)I" } : Jvm.MethodName)) ∈ lw_all := lw_g (lw_at lw_m6 71 rfl) rfl
theorem q1366 : (Jvm.Cond.codeWith ({ cls := "PingEyeLaw", name := "isStuck", desc := "(LPingEye;I[J)I" } : Jvm.MethodName) method_7_code (4 : Nat) (Option.some Jvm.ClassFile.FieldType.int) [((0 : Nat), (16 : Nat), (19 : Nat), (20 : Nat)), ((0 : Nat), (16 : Nat), (22 : Nat), (13 : Nat))]) ∈ lw_all := lw_g (lw_at lw_m6 72 rfl) rfl
theorem q1367 : (Jvm.Cond.methodLink "PingEyeLaw" (28 : Nat) ({ cls := "PingEye", name := "isStuck", desc := "(I)Z" } : Jvm.MethodName)) ∈ lw_all := lw_g (lw_at lw_m6 73 rfl) rfl
theorem q1371 : (Jvm.Cond.methodLink "PingEyeLaw" (243 : Nat) ({ cls := "PingEyeLaw", name := "hangs", desc := "(LPingEye;I[J)I" } : Jvm.MethodName)) ∈ lw_all := lw_g (lw_at lw_m6 77 rfl) rfl
theorem q1372 : (Jvm.Cond.static ({ cls := "PingEyeLaw", name := "hangs", desc := "(LPingEye;I[J)I" } : Jvm.MethodName)) ∈ lw_all := lw_g (lw_at lw_m6 78 rfl) rfl
theorem q1373 : (Jvm.Cond.codeWith ({ cls := "PingEyeLaw", name := "hangs", desc := "(LPingEye;I[J)I" } : Jvm.MethodName) method_8_code (4 : Nat) (Option.some Jvm.ClassFile.FieldType.int) [((0 : Nat), (16 : Nat), (19 : Nat), (20 : Nat)), ((0 : Nat), (16 : Nat), (22 : Nat), (13 : Nat))]) ∈ lw_all := lw_g (lw_at lw_m6 79 rfl) rfl
theorem q1374 : (Jvm.Cond.methodLink "PingEyeLaw" (32 : Nat) ({ cls := "PingEye", name := "hangs", desc := "(I)Z" } : Jvm.MethodName)) ∈ lw_all := lw_g (lw_at lw_m6 80 rfl) rfl
theorem q1378 : (Jvm.Cond.methodLink "PingEyeLaw" (246 : Nat) ({ cls := "PingEyeLaw", name := "highest", desc := "(LPingEye;Z[J)I" } : Jvm.MethodName)) ∈ lw_all := lw_g (lw_at lw_m6 84 rfl) rfl
theorem q1379 : (Jvm.Cond.static ({ cls := "PingEyeLaw", name := "highest", desc := "(LPingEye;Z[J)I" } : Jvm.MethodName)) ∈ lw_all := lw_g (lw_at lw_m6 85 rfl) rfl
theorem q1380 : (Jvm.Cond.codeWith ({ cls := "PingEyeLaw", name := "highest", desc := "(LPingEye;Z[J)I" } : Jvm.MethodName) method_9_code (4 : Nat) (Option.some Jvm.ClassFile.FieldType.int) [((0 : Nat), (9 : Nat), (12 : Nat), (20 : Nat))]) ∈ lw_all := lw_g (lw_at lw_m6 86 rfl) rfl
theorem q1381 : (Jvm.Cond.methodLink "PingEyeLaw" (35 : Nat) ({ cls := "PingEye", name := "highest", desc := "(Z)I" } : Jvm.MethodName)) ∈ lw_all := lw_g (lw_at lw_m6 87 rfl) rfl
theorem q1385 : (Jvm.Cond.methodLink "PingEyeLaw" (250 : Nat) ({ cls := "PingEyeLaw", name := "steepest", desc := "(LPingEye;[J)I" } : Jvm.MethodName)) ∈ lw_all := lw_g (lw_at lw_m6 91 rfl) rfl
theorem q1386 : (Jvm.Cond.static ({ cls := "PingEyeLaw", name := "steepest", desc := "(LPingEye;[J)I" } : Jvm.MethodName)) ∈ lw_all := lw_g (lw_at lw_m6 92 rfl) rfl
theorem q1387 : (Jvm.Cond.codeWith ({ cls := "PingEyeLaw", name := "steepest", desc := "(LPingEye;[J)I" } : Jvm.MethodName) method_10_code (3 : Nat) (Option.some Jvm.ClassFile.FieldType.int) [((0 : Nat), (8 : Nat), (11 : Nat), (20 : Nat))]) ∈ lw_all := lw_g (lw_at lw_m6 93 rfl) rfl
theorem q1388 : (Jvm.Cond.methodLink "PingEyeLaw" (39 : Nat) ({ cls := "PingEye", name := "steepest", desc := "()I" } : Jvm.MethodName)) ∈ lw_all := lw_g (lw_at lw_m6 94 rfl) rfl
theorem q1394 : (Jvm.Cond.methodLink "PingEyeLaw" (254 : Nat) ({ cls := "PingEyeLaw", name := "slideTo", desc := "(LPingEye;I[J)I" } : Jvm.MethodName)) ∈ lw_all := lw_g (lw_at lw_m6 100 rfl) rfl
theorem q1395 : (Jvm.Cond.static ({ cls := "PingEyeLaw", name := "slideTo", desc := "(LPingEye;I[J)I" } : Jvm.MethodName)) ∈ lw_all := lw_g (lw_at lw_m6 101 rfl) rfl
theorem q1396 : (Jvm.Cond.codeWith ({ cls := "PingEyeLaw", name := "slideTo", desc := "(LPingEye;I[J)I" } : Jvm.MethodName) method_11_code (4 : Nat) (Option.some Jvm.ClassFile.FieldType.int) [((0 : Nat), (9 : Nat), (12 : Nat), (20 : Nat)), ((0 : Nat), (9 : Nat), (15 : Nat), (13 : Nat))]) ∈ lw_all := lw_g (lw_at lw_m6 102 rfl) rfl
theorem q1397 : (Jvm.Cond.methodLink "PingEyeLaw" (43 : Nat) ({ cls := "PingEye", name := "slideTo", desc := "(I)I" } : Jvm.MethodName)) ∈ lw_all := lw_g (lw_at lw_m6 103 rfl) rfl
theorem q1402 : (Jvm.Cond.methodLink "PingEyeLaw" (257 : Nat) ({ cls := "PingEyeLaw", name := "roomIn", desc := "(LPingEye;I[J)I" } : Jvm.MethodName)) ∈ lw_all := lw_g (lw_at lw_m6 108 rfl) rfl
theorem q1403 : (Jvm.Cond.static ({ cls := "PingEyeLaw", name := "roomIn", desc := "(LPingEye;I[J)I" } : Jvm.MethodName)) ∈ lw_all := lw_g (lw_at lw_m6 109 rfl) rfl
theorem q1404 : (Jvm.Cond.codeWith ({ cls := "PingEyeLaw", name := "roomIn", desc := "(LPingEye;I[J)I" } : Jvm.MethodName) method_12_code (4 : Nat) (Option.some Jvm.ClassFile.FieldType.int) [((0 : Nat), (9 : Nat), (12 : Nat), (20 : Nat)), ((0 : Nat), (9 : Nat), (15 : Nat), (13 : Nat))]) ∈ lw_all := lw_g (lw_at lw_m6 110 rfl) rfl
theorem q1405 : (Jvm.Cond.methodLink "PingEyeLaw" (46 : Nat) ({ cls := "PingEye", name := "roomIn", desc := "(I)I" } : Jvm.MethodName)) ∈ lw_all := lw_g (lw_at lw_m6 111 rfl) rfl
theorem q1423 : (Jvm.Cond.methodLink "PingEyeLaw" (260 : Nat) ({ cls := "PingEyeLaw", name := "peak", desc := "(LPingEye;II[J)I" } : Jvm.MethodName)) ∈ lw_all := lw_g (lw_at lw_m6 129 rfl) rfl
theorem q1424 : (Jvm.Cond.static ({ cls := "PingEyeLaw", name := "peak", desc := "(LPingEye;II[J)I" } : Jvm.MethodName)) ∈ lw_all := lw_g (lw_at lw_m6 130 rfl) rfl
theorem q1425 : (Jvm.Cond.codeWith ({ cls := "PingEyeLaw", name := "peak", desc := "(LPingEye;II[J)I" } : Jvm.MethodName) method_13_code (5 : Nat) (Option.some Jvm.ClassFile.FieldType.int) [((0 : Nat), (10 : Nat), (13 : Nat), (20 : Nat)), ((0 : Nat), (10 : Nat), (17 : Nat), (13 : Nat))]) ∈ lw_all := lw_g (lw_at lw_m6 131 rfl) rfl
theorem q1426 : (Jvm.Cond.methodLink "PingEyeLaw" (49 : Nat) ({ cls := "PingEye", name := "peak", desc := "(II)I" } : Jvm.MethodName)) ∈ lw_all := lw_g (lw_at lw_m6 132 rfl) rfl
theorem q1431 : (Jvm.Cond.methodLink "PingEyeLaw" (264 : Nat) ({ cls := "PingEyeLaw", name := "gap", desc := "(LPingEye;[J)I" } : Jvm.MethodName)) ∈ lw_all := lw_g (lw_at lw_m6 137 rfl) rfl
theorem q1432 : (Jvm.Cond.static ({ cls := "PingEyeLaw", name := "gap", desc := "(LPingEye;[J)I" } : Jvm.MethodName)) ∈ lw_all := lw_g (lw_at lw_m6 138 rfl) rfl
theorem q1433 : (Jvm.Cond.codeWith ({ cls := "PingEyeLaw", name := "gap", desc := "(LPingEye;[J)I" } : Jvm.MethodName) method_14_code (3 : Nat) (Option.some Jvm.ClassFile.FieldType.int) [((0 : Nat), (8 : Nat), (11 : Nat), (20 : Nat))]) ∈ lw_all := lw_g (lw_at lw_m6 139 rfl) rfl
theorem q1434 : (Jvm.Cond.methodLink "PingEyeLaw" (53 : Nat) ({ cls := "PingEye", name := "gap", desc := "()I" } : Jvm.MethodName)) ∈ lw_all := lw_g (lw_at lw_m6 140 rfl) rfl
theorem q1438 : (Jvm.Cond.methodLink "PingEyeLaw" (267 : Nat) ({ cls := "PingEyeLaw", name := "bar", desc := "(LPingEye;II[J)I" } : Jvm.MethodName)) ∈ lw_all := lw_g (lw_at lw_m6 144 rfl) rfl
theorem q1439 : (Jvm.Cond.static ({ cls := "PingEyeLaw", name := "bar", desc := "(LPingEye;II[J)I" } : Jvm.MethodName)) ∈ lw_all := lw_g (lw_at lw_m6 145 rfl) rfl
theorem q1440 : (Jvm.Cond.codeWith ({ cls := "PingEyeLaw", name := "bar", desc := "(LPingEye;II[J)I" } : Jvm.MethodName) method_15_code (5 : Nat) (Option.some Jvm.ClassFile.FieldType.int) [((0 : Nat), (10 : Nat), (13 : Nat), (20 : Nat)), ((0 : Nat), (10 : Nat), (17 : Nat), (13 : Nat)), ((0 : Nat), (10 : Nat), (21 : Nat), (15 : Nat))]) ∈ lw_all := lw_g (lw_at lw_m6 146 rfl) rfl
theorem q1441 : (Jvm.Cond.methodLink "PingEyeLaw" (56 : Nat) ({ cls := "PingEye", name := "bar", desc := "(II)I" } : Jvm.MethodName)) ∈ lw_all := lw_g (lw_at lw_m6 147 rfl) rfl
theorem q1453 : (Jvm.Cond.methodLink "PingEyeLaw" (270 : Nat) ({ cls := "PingEyeLaw", name := "heap", desc := "(LPingEye;I[J)I" } : Jvm.MethodName)) ∈ lw_all := lw_g (lw_at lw_m6 159 rfl) rfl
theorem q1454 : (Jvm.Cond.static ({ cls := "PingEyeLaw", name := "heap", desc := "(LPingEye;I[J)I" } : Jvm.MethodName)) ∈ lw_all := lw_g (lw_at lw_m6 160 rfl) rfl
theorem q1455 : (Jvm.Cond.codeWith ({ cls := "PingEyeLaw", name := "heap", desc := "(LPingEye;I[J)I" } : Jvm.MethodName) method_16_code (4 : Nat) (Option.some Jvm.ClassFile.FieldType.int) [((0 : Nat), (9 : Nat), (12 : Nat), (20 : Nat)), ((0 : Nat), (9 : Nat), (15 : Nat), (15 : Nat))]) ∈ lw_all := lw_g (lw_at lw_m6 161 rfl) rfl
theorem q1456 : (Jvm.Cond.methodLink "PingEyeLaw" (59 : Nat) ({ cls := "PingEye", name := "heap", desc := "(I)I" } : Jvm.MethodName)) ∈ lw_all := lw_g (lw_at lw_m6 162 rfl) rfl
theorem q1465 : (Jvm.Cond.methodLink "PingEyeLaw" (273 : Nat) ({ cls := "PingEyeLaw", name := "mask", desc := "(LPingEye;I[J)I" } : Jvm.MethodName)) ∈ lw_all := lw_g (lw_at lw_m6 171 rfl) rfl
theorem q1466 : (Jvm.Cond.static ({ cls := "PingEyeLaw", name := "mask", desc := "(LPingEye;I[J)I" } : Jvm.MethodName)) ∈ lw_all := lw_g (lw_at lw_m6 172 rfl) rfl
theorem q1467 : (Jvm.Cond.codeWith ({ cls := "PingEyeLaw", name := "mask", desc := "(LPingEye;I[J)I" } : Jvm.MethodName) method_17_code (4 : Nat) (Option.some Jvm.ClassFile.FieldType.int) [((0 : Nat), (9 : Nat), (12 : Nat), (20 : Nat)), ((0 : Nat), (9 : Nat), (15 : Nat), (15 : Nat))]) ∈ lw_all := lw_g (lw_at lw_m6 173 rfl) rfl
theorem q1468 : (Jvm.Cond.methodLink "PingEyeLaw" (62 : Nat) ({ cls := "PingEye", name := "mask", desc := "(I)I" } : Jvm.MethodName)) ∈ lw_all := lw_g (lw_at lw_m6 174 rfl) rfl
theorem q1473 : (Jvm.Cond.methodLink "PingEyeLaw" (276 : Nat) ({ cls := "PingEyeLaw", name := "echo", desc := "(LPingEye;IZ[J)I" } : Jvm.MethodName)) ∈ lw_all := lw_g (lw_at lw_m6 179 rfl) rfl
theorem q1474 : (Jvm.Cond.static ({ cls := "PingEyeLaw", name := "echo", desc := "(LPingEye;IZ[J)I" } : Jvm.MethodName)) ∈ lw_all := lw_g (lw_at lw_m6 180 rfl) rfl
theorem q1475 : (Jvm.Cond.codeWith ({ cls := "PingEyeLaw", name := "echo", desc := "(LPingEye;IZ[J)I" } : Jvm.MethodName) method_18_code (5 : Nat) (Option.some Jvm.ClassFile.FieldType.int) [((0 : Nat), (10 : Nat), (13 : Nat), (20 : Nat))]) ∈ lw_all := lw_g (lw_at lw_m6 181 rfl) rfl
theorem q1476 : (Jvm.Cond.methodLink "PingEyeLaw" (65 : Nat) ({ cls := "PingEye", name := "echo", desc := "(IZ)I" } : Jvm.MethodName)) ∈ lw_all := lw_g (lw_at lw_m6 182 rfl) rfl
theorem q1482 : (Jvm.Cond.methodLink "PingEyeLaw" (280 : Nat) ({ cls := "PingEyeLaw", name := "chosen", desc := "(LPingEye;[J)I" } : Jvm.MethodName)) ∈ lw_all := lw_g (lw_at lw_m6 188 rfl) rfl
theorem q1483 : (Jvm.Cond.static ({ cls := "PingEyeLaw", name := "chosen", desc := "(LPingEye;[J)I" } : Jvm.MethodName)) ∈ lw_all := lw_g (lw_at lw_m6 189 rfl) rfl
theorem q1484 : (Jvm.Cond.codeWith ({ cls := "PingEyeLaw", name := "chosen", desc := "(LPingEye;[J)I" } : Jvm.MethodName) method_19_code (3 : Nat) (Option.some Jvm.ClassFile.FieldType.int) [((0 : Nat), (8 : Nat), (11 : Nat), (20 : Nat))]) ∈ lw_all := lw_g (lw_at lw_m6 190 rfl) rfl
theorem q1485 : (Jvm.Cond.methodLink "PingEyeLaw" (69 : Nat) ({ cls := "PingEye", name := "chosen", desc := "()I" } : Jvm.MethodName)) ∈ lw_all := lw_g (lw_at lw_m6 191 rfl) rfl
theorem q1490 : (Jvm.Cond.methodLink "PingEyeLaw" (283 : Nat) ({ cls := "PingEyeLaw", name := "whyNotHeap", desc := "(LPingEye;[J)I" } : Jvm.MethodName)) ∈ lw_all := lw_g (lw_at lw_m6 196 rfl) rfl
theorem q1491 : (Jvm.Cond.static ({ cls := "PingEyeLaw", name := "whyNotHeap", desc := "(LPingEye;[J)I" } : Jvm.MethodName)) ∈ lw_all := lw_g (lw_at lw_m6 197 rfl) rfl
theorem q1492 : (Jvm.Cond.codeWith ({ cls := "PingEyeLaw", name := "whyNotHeap", desc := "(LPingEye;[J)I" } : Jvm.MethodName) method_20_code (3 : Nat) (Option.some Jvm.ClassFile.FieldType.int) [((0 : Nat), (8 : Nat), (11 : Nat), (20 : Nat))]) ∈ lw_all := lw_g (lw_at lw_m6 198 rfl) rfl
theorem q1493 : (Jvm.Cond.methodLink "PingEyeLaw" (72 : Nat) ({ cls := "PingEye", name := "whyNotHeap", desc := "()I" } : Jvm.MethodName)) ∈ lw_all := lw_g (lw_at lw_m6 199 rfl) rfl
theorem q1497 : (Jvm.Cond.methodLink "PingEyeLaw" (286 : Nat) ({ cls := "PingEyeLaw", name := "echoMany", desc := "(LPingEye;Z[J)I" } : Jvm.MethodName)) ∈ lw_all := lw_g (lw_at lw_m6 203 rfl) rfl
theorem q1498 : (Jvm.Cond.static ({ cls := "PingEyeLaw", name := "echoMany", desc := "(LPingEye;Z[J)I" } : Jvm.MethodName)) ∈ lw_all := lw_g (lw_at lw_m6 204 rfl) rfl
theorem q1499 : (Jvm.Cond.codeWith ({ cls := "PingEyeLaw", name := "echoMany", desc := "(LPingEye;Z[J)I" } : Jvm.MethodName) method_21_code (4 : Nat) (Option.some Jvm.ClassFile.FieldType.int) [((0 : Nat), (9 : Nat), (12 : Nat), (20 : Nat))]) ∈ lw_all := lw_g (lw_at lw_m6 205 rfl) rfl
theorem q1500 : (Jvm.Cond.methodLink "PingEyeLaw" (75 : Nat) ({ cls := "PingEye", name := "echoMany", desc := "(Z)I" } : Jvm.MethodName)) ∈ lw_all := lw_g (lw_at lw_m6 206 rfl) rfl
theorem q1510 : (Jvm.Cond.methodLink "PingEyeLaw" (289 : Nat) ({ cls := "PingEyeLaw", name := "second", desc := "(LPingEye;[J)I" } : Jvm.MethodName)) ∈ lw_all := lw_g (lw_at lw_m6 216 rfl) rfl
theorem q1511 : (Jvm.Cond.static ({ cls := "PingEyeLaw", name := "second", desc := "(LPingEye;[J)I" } : Jvm.MethodName)) ∈ lw_all := lw_g (lw_at lw_m6 217 rfl) rfl
theorem q1512 : (Jvm.Cond.codeWith ({ cls := "PingEyeLaw", name := "second", desc := "(LPingEye;[J)I" } : Jvm.MethodName) method_22_code (3 : Nat) (Option.some Jvm.ClassFile.FieldType.int) [((0 : Nat), (8 : Nat), (11 : Nat), (20 : Nat))]) ∈ lw_all := lw_g (lw_at lw_m6 218 rfl) rfl
theorem q1513 : (Jvm.Cond.methodLink "PingEyeLaw" (78 : Nat) ({ cls := "PingEye", name := "second", desc := "()I" } : Jvm.MethodName)) ∈ lw_all := lw_g (lw_at lw_m6 219 rfl) rfl
theorem q1518 : (Jvm.Cond.methodLink "PingEyeLaw" (292 : Nat) ({ cls := "PingEyeLaw", name := "error", desc := "(LPingEye;[J)I" } : Jvm.MethodName)) ∈ lw_all := lw_g (lw_at lw_m6 224 rfl) rfl
theorem q1519 : (Jvm.Cond.static ({ cls := "PingEyeLaw", name := "error", desc := "(LPingEye;[J)I" } : Jvm.MethodName)) ∈ lw_all := lw_g (lw_at lw_m6 225 rfl) rfl
theorem q1520 : (Jvm.Cond.codeWith ({ cls := "PingEyeLaw", name := "error", desc := "(LPingEye;[J)I" } : Jvm.MethodName) method_23_code (3 : Nat) (Option.some Jvm.ClassFile.FieldType.int) [((0 : Nat), (8 : Nat), (11 : Nat), (20 : Nat))]) ∈ lw_all := lw_g (lw_at lw_m6 226 rfl) rfl
theorem q1521 : (Jvm.Cond.methodLink "PingEyeLaw" (81 : Nat) ({ cls := "PingEye", name := "error", desc := "()I" } : Jvm.MethodName)) ∈ lw_all := lw_g (lw_at lw_m6 227 rfl) rfl
theorem q1525 : (Jvm.Cond.methodLink "PingEyeLaw" (295 : Nat) ({ cls := "PingEyeLaw", name := "whyNotBelieved", desc := "(LPingEye;[J)I" } : Jvm.MethodName)) ∈ lw_all := lw_g (lw_at lw_m6 231 rfl) rfl
theorem q1526 : (Jvm.Cond.static ({ cls := "PingEyeLaw", name := "whyNotBelieved", desc := "(LPingEye;[J)I" } : Jvm.MethodName)) ∈ lw_all := lw_g (lw_at lw_m6 232 rfl) rfl
theorem q1527 : (Jvm.Cond.codeWith ({ cls := "PingEyeLaw", name := "whyNotBelieved", desc := "(LPingEye;[J)I" } : Jvm.MethodName) method_24_code (3 : Nat) (Option.some Jvm.ClassFile.FieldType.int) [((0 : Nat), (8 : Nat), (11 : Nat), (20 : Nat))]) ∈ lw_all := lw_g (lw_at lw_m6 233 rfl) rfl
theorem q1528 : (Jvm.Cond.methodLink "PingEyeLaw" (84 : Nat) ({ cls := "PingEye", name := "whyNotBelieved", desc := "()I" } : Jvm.MethodName)) ∈ lw_all := lw_g (lw_at lw_m6 234 rfl) rfl
theorem q1534 : (Jvm.Cond.methodLink "PingEyeLaw" (298 : Nat) ({ cls := "PingEyeLaw", name := "levelAfter", desc := "(LPingEye;I[J)I" } : Jvm.MethodName)) ∈ lw_all := lw_g (lw_at lw_m7 0 rfl) rfl
theorem q1535 : (Jvm.Cond.static ({ cls := "PingEyeLaw", name := "levelAfter", desc := "(LPingEye;I[J)I" } : Jvm.MethodName)) ∈ lw_all := lw_g (lw_at lw_m7 1 rfl) rfl
theorem q1536 : (Jvm.Cond.codeWith ({ cls := "PingEyeLaw", name := "levelAfter", desc := "(LPingEye;I[J)I" } : Jvm.MethodName) method_25_code (4 : Nat) (Option.some Jvm.ClassFile.FieldType.int) [((0 : Nat), (9 : Nat), (12 : Nat), (20 : Nat)), ((0 : Nat), (9 : Nat), (15 : Nat), (15 : Nat))]) ∈ lw_all := lw_g (lw_at lw_m7 2 rfl) rfl
theorem q1537 : (Jvm.Cond.methodLink "PingEyeLaw" (87 : Nat) ({ cls := "PingEye", name := "levelAfter", desc := "(I)I" } : Jvm.MethodName)) ∈ lw_all := lw_g (lw_at lw_m7 3 rfl) rfl
theorem q1541 : (Jvm.Cond.methodLink "PingEyeLaw" (301 : Nat) ({ cls := "PingEyeLaw", name := "pingsToTrue", desc := "(LPingEye;[J)I" } : Jvm.MethodName)) ∈ lw_all := lw_g (lw_at lw_m7 7 rfl) rfl
theorem q1542 : (Jvm.Cond.static ({ cls := "PingEyeLaw", name := "pingsToTrue", desc := "(LPingEye;[J)I" } : Jvm.MethodName)) ∈ lw_all := lw_g (lw_at lw_m7 8 rfl) rfl
theorem q1543 : (Jvm.Cond.codeWith ({ cls := "PingEyeLaw", name := "pingsToTrue", desc := "(LPingEye;[J)I" } : Jvm.MethodName) method_26_code (3 : Nat) (Option.some Jvm.ClassFile.FieldType.int) [((0 : Nat), (8 : Nat), (11 : Nat), (20 : Nat))]) ∈ lw_all := lw_g (lw_at lw_m7 9 rfl) rfl
theorem q1544 : (Jvm.Cond.methodLink "PingEyeLaw" (90 : Nat) ({ cls := "PingEye", name := "pingsToTrue", desc := "()I" } : Jvm.MethodName)) ∈ lw_all := lw_g (lw_at lw_m7 10 rfl) rfl
theorem q1548 : (Jvm.Cond.methodLink "PingEyeLaw" (304 : Nat) ({ cls := "PingEyeLaw", name := "deafFrom", desc := "(LPingEye;[J)I" } : Jvm.MethodName)) ∈ lw_all := lw_g (lw_at lw_m7 14 rfl) rfl
theorem q1549 : (Jvm.Cond.static ({ cls := "PingEyeLaw", name := "deafFrom", desc := "(LPingEye;[J)I" } : Jvm.MethodName)) ∈ lw_all := lw_g (lw_at lw_m7 15 rfl) rfl
theorem q1550 : (Jvm.Cond.codeWith ({ cls := "PingEyeLaw", name := "deafFrom", desc := "(LPingEye;[J)I" } : Jvm.MethodName) method_27_code (3 : Nat) (Option.some Jvm.ClassFile.FieldType.int) [((0 : Nat), (8 : Nat), (11 : Nat), (20 : Nat))]) ∈ lw_all := lw_g (lw_at lw_m7 16 rfl) rfl
theorem q1551 : (Jvm.Cond.methodLink "PingEyeLaw" (93 : Nat) ({ cls := "PingEye", name := "deafFrom", desc := "()I" } : Jvm.MethodName)) ∈ lw_all := lw_g (lw_at lw_m7 17 rfl) rfl
theorem q1555 : (Jvm.Cond.methodLink "PingEyeLaw" (307 : Nat) ({ cls := "PingEyeLaw", name := "heightIf", desc := "(LPingEye;III[J)I" } : Jvm.MethodName)) ∈ lw_all := lw_g (lw_at lw_m7 21 rfl) rfl
theorem q1556 : (Jvm.Cond.static ({ cls := "PingEyeLaw", name := "heightIf", desc := "(LPingEye;III[J)I" } : Jvm.MethodName)) ∈ lw_all := lw_g (lw_at lw_m7 22 rfl) rfl
theorem q1557 : (Jvm.Cond.codeWith ({ cls := "PingEyeLaw", name := "heightIf", desc := "(LPingEye;III[J)I" } : Jvm.MethodName) method_28_code (6 : Nat) (Option.some Jvm.ClassFile.FieldType.int) [((0 : Nat), (12 : Nat), (15 : Nat), (20 : Nat)), ((0 : Nat), (12 : Nat), (19 : Nat), (13 : Nat)), ((0 : Nat), (12 : Nat), (23 : Nat), (15 : Nat))]) ∈ lw_all := lw_g (lw_at lw_m7 23 rfl) rfl
theorem q1558 : (Jvm.Cond.methodLink "PingEyeLaw" (96 : Nat) ({ cls := "PingEye", name := "heightIf", desc := "(III)I" } : Jvm.MethodName)) ∈ lw_all := lw_g (lw_at lw_m7 24 rfl) rfl
theorem q1570 : (Jvm.Cond.methodLink "PingEyeLaw" (311 : Nat) ({ cls := "PingEyeLaw", name := "spilledIf", desc := "(LPingEye;II[J)I" } : Jvm.MethodName)) ∈ lw_all := lw_g (lw_at lw_m7 36 rfl) rfl
theorem q1571 : (Jvm.Cond.static ({ cls := "PingEyeLaw", name := "spilledIf", desc := "(LPingEye;II[J)I" } : Jvm.MethodName)) ∈ lw_all := lw_g (lw_at lw_m7 37 rfl) rfl
theorem q1572 : (Jvm.Cond.codeWith ({ cls := "PingEyeLaw", name := "spilledIf", desc := "(LPingEye;II[J)I" } : Jvm.MethodName) method_29_code (5 : Nat) (Option.some Jvm.ClassFile.FieldType.int) [((0 : Nat), (10 : Nat), (13 : Nat), (20 : Nat)), ((0 : Nat), (10 : Nat), (17 : Nat), (13 : Nat)), ((0 : Nat), (10 : Nat), (21 : Nat), (15 : Nat))]) ∈ lw_all := lw_g (lw_at lw_m7 38 rfl) rfl
theorem q1573 : (Jvm.Cond.methodLink "PingEyeLaw" (100 : Nat) ({ cls := "PingEye", name := "spilledIf", desc := "(II)I" } : Jvm.MethodName)) ∈ lw_all := lw_g (lw_at lw_m7 39 rfl) rfl
theorem q1577 : (Jvm.Cond.methodLink "PingEyeLaw" (314 : Nat) ({ cls := "PingEyeLaw", name := "fillTo", desc := "(LPingEye;II[J)I" } : Jvm.MethodName)) ∈ lw_all := lw_g (lw_at lw_m7 43 rfl) rfl
theorem q1578 : (Jvm.Cond.static ({ cls := "PingEyeLaw", name := "fillTo", desc := "(LPingEye;II[J)I" } : Jvm.MethodName)) ∈ lw_all := lw_g (lw_at lw_m7 44 rfl) rfl
theorem q1579 : (Jvm.Cond.codeWith ({ cls := "PingEyeLaw", name := "fillTo", desc := "(LPingEye;II[J)I" } : Jvm.MethodName) method_30_code (5 : Nat) (Option.some Jvm.ClassFile.FieldType.int) [((0 : Nat), (10 : Nat), (13 : Nat), (20 : Nat)), ((0 : Nat), (10 : Nat), (17 : Nat), (13 : Nat)), ((0 : Nat), (10 : Nat), (21 : Nat), (15 : Nat))]) ∈ lw_all := lw_g (lw_at lw_m7 45 rfl) rfl
theorem q1580 : (Jvm.Cond.methodLink "PingEyeLaw" (103 : Nat) ({ cls := "PingEye", name := "fillTo", desc := "(II)I" } : Jvm.MethodName)) ∈ lw_all := lw_g (lw_at lw_m7 46 rfl) rfl
theorem q1584 : (Jvm.Cond.methodLink "PingEyeLaw" (317 : Nat) ({ cls := "PingEyeLaw", name := "drawable", desc := "(LPingEye;[J)I" } : Jvm.MethodName)) ∈ lw_all := lw_g (lw_at lw_m7 50 rfl) rfl
theorem q1585 : (Jvm.Cond.static ({ cls := "PingEyeLaw", name := "drawable", desc := "(LPingEye;[J)I" } : Jvm.MethodName)) ∈ lw_all := lw_g (lw_at lw_m7 51 rfl) rfl
theorem q1586 : (Jvm.Cond.codeWith ({ cls := "PingEyeLaw", name := "drawable", desc := "(LPingEye;[J)I" } : Jvm.MethodName) method_31_code (3 : Nat) (Option.some Jvm.ClassFile.FieldType.int) [((0 : Nat), (8 : Nat), (11 : Nat), (20 : Nat))]) ∈ lw_all := lw_g (lw_at lw_m7 52 rfl) rfl
theorem q1587 : (Jvm.Cond.methodLink "PingEyeLaw" (106 : Nat) ({ cls := "PingEye", name := "drawable", desc := "()I" } : Jvm.MethodName)) ∈ lw_all := lw_g (lw_at lw_m7 53 rfl) rfl
theorem q1595 : (Jvm.Cond.methodLink "PingEyeLaw" (320 : Nat) ({ cls := "PingEyeLaw", name := "drawableIf", desc := "(LPingEye;I[J)I" } : Jvm.MethodName)) ∈ lw_all := lw_g (lw_at lw_m7 61 rfl) rfl
theorem q1596 : (Jvm.Cond.static ({ cls := "PingEyeLaw", name := "drawableIf", desc := "(LPingEye;I[J)I" } : Jvm.MethodName)) ∈ lw_all := lw_g (lw_at lw_m7 62 rfl) rfl
theorem q1597 : (Jvm.Cond.codeWith ({ cls := "PingEyeLaw", name := "drawableIf", desc := "(LPingEye;I[J)I" } : Jvm.MethodName) method_32_code (4 : Nat) (Option.some Jvm.ClassFile.FieldType.int) [((0 : Nat), (9 : Nat), (12 : Nat), (20 : Nat)), ((0 : Nat), (9 : Nat), (15 : Nat), (13 : Nat))]) ∈ lw_all := lw_g (lw_at lw_m7 63 rfl) rfl
theorem q1598 : (Jvm.Cond.methodLink "PingEyeLaw" (109 : Nat) ({ cls := "PingEye", name := "drawableIf", desc := "(I)I" } : Jvm.MethodName)) ∈ lw_all := lw_g (lw_at lw_m7 64 rfl) rfl
theorem q1607 : (Jvm.Cond.methodLink "PingEyeLaw" (323 : Nat) ({ cls := "PingEyeLaw", name := "bestLoosened", desc := "(LPingEye;[J)I" } : Jvm.MethodName)) ∈ lw_all := lw_g (lw_at lw_m7 73 rfl) rfl
theorem q1608 : (Jvm.Cond.static ({ cls := "PingEyeLaw", name := "bestLoosened", desc := "(LPingEye;[J)I" } : Jvm.MethodName)) ∈ lw_all := lw_g (lw_at lw_m7 74 rfl) rfl
theorem q1609 : (Jvm.Cond.codeWith ({ cls := "PingEyeLaw", name := "bestLoosened", desc := "(LPingEye;[J)I" } : Jvm.MethodName) method_33_code (3 : Nat) (Option.some Jvm.ClassFile.FieldType.int) [((0 : Nat), (8 : Nat), (11 : Nat), (20 : Nat))]) ∈ lw_all := lw_g (lw_at lw_m7 75 rfl) rfl
theorem q1610 : (Jvm.Cond.methodLink "PingEyeLaw" (112 : Nat) ({ cls := "PingEye", name := "bestLoosened", desc := "()I" } : Jvm.MethodName)) ∈ lw_all := lw_g (lw_at lw_m7 76 rfl) rfl
theorem q1614 : (Jvm.Cond.methodLink "PingEyeLaw" (326 : Nat) ({ cls := "PingEyeLaw", name := "hangingUnits", desc := "(LPingEye;[J)I" } : Jvm.MethodName)) ∈ lw_all := lw_g (lw_at lw_m7 80 rfl) rfl
theorem q1615 : (Jvm.Cond.static ({ cls := "PingEyeLaw", name := "hangingUnits", desc := "(LPingEye;[J)I" } : Jvm.MethodName)) ∈ lw_all := lw_g (lw_at lw_m7 81 rfl) rfl
theorem q1616 : (Jvm.Cond.codeWith ({ cls := "PingEyeLaw", name := "hangingUnits", desc := "(LPingEye;[J)I" } : Jvm.MethodName) method_34_code (3 : Nat) (Option.some Jvm.ClassFile.FieldType.int) [((0 : Nat), (8 : Nat), (11 : Nat), (20 : Nat))]) ∈ lw_all := lw_g (lw_at lw_m7 82 rfl) rfl
theorem q1617 : (Jvm.Cond.methodLink "PingEyeLaw" (115 : Nat) ({ cls := "PingEye", name := "hangingUnits", desc := "()I" } : Jvm.MethodName)) ∈ lw_all := lw_g (lw_at lw_m7 83 rfl) rfl
theorem q1622 : (Jvm.Cond.methodLink "PingEyeLaw" (329 : Nat) ({ cls := "PingEyeLaw", name := "heightDrawn", desc := "(LPingEye;II[J)I" } : Jvm.MethodName)) ∈ lw_all := lw_g (lw_at lw_m7 88 rfl) rfl
theorem q1623 : (Jvm.Cond.static ({ cls := "PingEyeLaw", name := "heightDrawn", desc := "(LPingEye;II[J)I" } : Jvm.MethodName)) ∈ lw_all := lw_g (lw_at lw_m7 89 rfl) rfl
theorem q1624 : (Jvm.Cond.codeWith ({ cls := "PingEyeLaw", name := "heightDrawn", desc := "(LPingEye;II[J)I" } : Jvm.MethodName) method_35_code (5 : Nat) (Option.some Jvm.ClassFile.FieldType.int) [((0 : Nat), (10 : Nat), (13 : Nat), (20 : Nat)), ((0 : Nat), (10 : Nat), (17 : Nat), (13 : Nat)), ((0 : Nat), (10 : Nat), (21 : Nat), (15 : Nat))]) ∈ lw_all := lw_g (lw_at lw_m7 90 rfl) rfl
theorem q1625 : (Jvm.Cond.methodLink "PingEyeLaw" (118 : Nat) ({ cls := "PingEye", name := "heightDrawn", desc := "(II)I" } : Jvm.MethodName)) ∈ lw_all := lw_g (lw_at lw_m7 91 rfl) rfl
theorem q1630 : (Jvm.Cond.methodLink "PingEyeLaw" (332 : Nat) ({ cls := "PingEyeLaw", name := "levelIfFilled", desc := "(LPingEye;II[J)I" } : Jvm.MethodName)) ∈ lw_all := lw_g (lw_at lw_m7 96 rfl) rfl
theorem q1631 : (Jvm.Cond.static ({ cls := "PingEyeLaw", name := "levelIfFilled", desc := "(LPingEye;II[J)I" } : Jvm.MethodName)) ∈ lw_all := lw_g (lw_at lw_m7 97 rfl) rfl
theorem q1632 : (Jvm.Cond.codeWith ({ cls := "PingEyeLaw", name := "levelIfFilled", desc := "(LPingEye;II[J)I" } : Jvm.MethodName) method_36_code (5 : Nat) (Option.some Jvm.ClassFile.FieldType.int) [((0 : Nat), (10 : Nat), (13 : Nat), (20 : Nat)), ((0 : Nat), (10 : Nat), (17 : Nat), (13 : Nat)), ((0 : Nat), (10 : Nat), (21 : Nat), (15 : Nat))]) ∈ lw_all := lw_g (lw_at lw_m7 98 rfl) rfl
theorem q1633 : (Jvm.Cond.methodLink "PingEyeLaw" (121 : Nat) ({ cls := "PingEye", name := "levelIfFilled", desc := "(II)I" } : Jvm.MethodName)) ∈ lw_all := lw_g (lw_at lw_m7 99 rfl) rfl
theorem q1637 : (Jvm.Cond.methodLink "PingEyeLaw" (335 : Nat) ({ cls := "PingEyeLaw", name := "deafTo", desc := "(LPingEye;[J)I" } : Jvm.MethodName)) ∈ lw_all := lw_g (lw_at lw_m7 103 rfl) rfl
theorem q1638 : (Jvm.Cond.static ({ cls := "PingEyeLaw", name := "deafTo", desc := "(LPingEye;[J)I" } : Jvm.MethodName)) ∈ lw_all := lw_g (lw_at lw_m7 104 rfl) rfl
theorem q1639 : (Jvm.Cond.codeWith ({ cls := "PingEyeLaw", name := "deafTo", desc := "(LPingEye;[J)I" } : Jvm.MethodName) method_37_code (3 : Nat) (Option.some Jvm.ClassFile.FieldType.int) [((0 : Nat), (8 : Nat), (11 : Nat), (20 : Nat))]) ∈ lw_all := lw_g (lw_at lw_m7 105 rfl) rfl
theorem q1640 : (Jvm.Cond.methodLink "PingEyeLaw" (124 : Nat) ({ cls := "PingEye", name := "deafTo", desc := "()I" } : Jvm.MethodName)) ∈ lw_all := lw_g (lw_at lw_m7 106 rfl) rfl
theorem q1644 : (Jvm.Cond.methodLink "PingEyeLaw" (338 : Nat) ({ cls := "PingEyeLaw", name := "slidIf", desc := "(LPingEye;II[J)I" } : Jvm.MethodName)) ∈ lw_all := lw_g (lw_at lw_m7 110 rfl) rfl
theorem q1645 : (Jvm.Cond.static ({ cls := "PingEyeLaw", name := "slidIf", desc := "(LPingEye;II[J)I" } : Jvm.MethodName)) ∈ lw_all := lw_g (lw_at lw_m7 111 rfl) rfl
theorem q1646 : (Jvm.Cond.codeWith ({ cls := "PingEyeLaw", name := "slidIf", desc := "(LPingEye;II[J)I" } : Jvm.MethodName) method_38_code (5 : Nat) (Option.some Jvm.ClassFile.FieldType.int) [((0 : Nat), (10 : Nat), (13 : Nat), (20 : Nat)), ((0 : Nat), (10 : Nat), (17 : Nat), (13 : Nat)), ((0 : Nat), (10 : Nat), (21 : Nat), (15 : Nat))]) ∈ lw_all := lw_g (lw_at lw_m7 112 rfl) rfl
theorem q1647 : (Jvm.Cond.methodLink "PingEyeLaw" (127 : Nat) ({ cls := "PingEye", name := "slidIf", desc := "(II)I" } : Jvm.MethodName)) ∈ lw_all := lw_g (lw_at lw_m7 113 rfl) rfl
theorem q1651 : (Jvm.Cond.methodLink "PingEyeLaw" (341 : Nat) ({ cls := "PingEyeLaw", name := "bestFill", desc := "(LPingEye;I[J)I" } : Jvm.MethodName)) ∈ lw_all := lw_g (lw_at lw_m7 117 rfl) rfl
theorem q1652 : (Jvm.Cond.static ({ cls := "PingEyeLaw", name := "bestFill", desc := "(LPingEye;I[J)I" } : Jvm.MethodName)) ∈ lw_all := lw_g (lw_at lw_m7 118 rfl) rfl
theorem q1653 : (Jvm.Cond.codeWith ({ cls := "PingEyeLaw", name := "bestFill", desc := "(LPingEye;I[J)I" } : Jvm.MethodName) method_39_code (4 : Nat) (Option.some Jvm.ClassFile.FieldType.int) [((0 : Nat), (9 : Nat), (12 : Nat), (20 : Nat)), ((0 : Nat), (9 : Nat), (15 : Nat), (15 : Nat))]) ∈ lw_all := lw_g (lw_at lw_m7 119 rfl) rfl
theorem q1654 : (Jvm.Cond.methodLink "PingEyeLaw" (130 : Nat) ({ cls := "PingEye", name := "bestFill", desc := "(I)I" } : Jvm.MethodName)) ∈ lw_all := lw_g (lw_at lw_m7 120 rfl) rfl
theorem q1661 : (Jvm.Cond.methodLink "PingEyeLaw" (344 : Nat) ({ cls := "PingEyeLaw", name := "learntFalse", desc := "(LPingEye;I[J)I" } : Jvm.MethodName)) ∈ lw_all := lw_g (lw_at lw_m7 127 rfl) rfl
theorem q1662 : (Jvm.Cond.static ({ cls := "PingEyeLaw", name := "learntFalse", desc := "(LPingEye;I[J)I" } : Jvm.MethodName)) ∈ lw_all := lw_g (lw_at lw_m7 128 rfl) rfl
theorem q1663 : (Jvm.Cond.codeWith ({ cls := "PingEyeLaw", name := "learntFalse", desc := "(LPingEye;I[J)I" } : Jvm.MethodName) method_40_code (4 : Nat) (Option.some Jvm.ClassFile.FieldType.int) [((0 : Nat), (9 : Nat), (12 : Nat), (20 : Nat)), ((0 : Nat), (9 : Nat), (15 : Nat), (15 : Nat))]) ∈ lw_all := lw_g (lw_at lw_m7 129 rfl) rfl
theorem q1664 : (Jvm.Cond.methodLink "PingEyeLaw" (133 : Nat) ({ cls := "PingEye", name := "learntFalse", desc := "(I)I" } : Jvm.MethodName)) ∈ lw_all := lw_g (lw_at lw_m7 130 rfl) rfl
theorem q1677 : (Jvm.Cond.methodLink "PingEyeLaw" (347 : Nat) ({ cls := "PingEyeLaw", name := "bestLearn", desc := "(LPingEye;[J)I" } : Jvm.MethodName)) ∈ lw_all := lw_g (lw_at lw_m7 143 rfl) rfl
theorem q1678 : (Jvm.Cond.static ({ cls := "PingEyeLaw", name := "bestLearn", desc := "(LPingEye;[J)I" } : Jvm.MethodName)) ∈ lw_all := lw_g (lw_at lw_m7 144 rfl) rfl
theorem q1679 : (Jvm.Cond.codeWith ({ cls := "PingEyeLaw", name := "bestLearn", desc := "(LPingEye;[J)I" } : Jvm.MethodName) method_41_code (3 : Nat) (Option.some Jvm.ClassFile.FieldType.int) [((0 : Nat), (8 : Nat), (11 : Nat), (20 : Nat))]) ∈ lw_all := lw_g (lw_at lw_m7 145 rfl) rfl
theorem q1680 : (Jvm.Cond.methodLink "PingEyeLaw" (136 : Nat) ({ cls := "PingEye", name := "bestLearn", desc := "()I" } : Jvm.MethodName)) ∈ lw_all := lw_g (lw_at lw_m7 146 rfl) rfl
theorem q1684 : (Jvm.Cond.methodLink "PingEyeLaw" (350 : Nat) ({ cls := "PingEyeLaw", name := "share", desc := "(LPingEye;[D)I" } : Jvm.MethodName)) ∈ lw_all := lw_g (lw_at lw_m7 150 rfl) rfl
theorem q1685 : (Jvm.Cond.static ({ cls := "PingEyeLaw", name := "share", desc := "(LPingEye;[D)I" } : Jvm.MethodName)) ∈ lw_all := lw_g (lw_at lw_m7 151 rfl) rfl
theorem q1686 : (Jvm.Cond.codeWith ({ cls := "PingEyeLaw", name := "share", desc := "(LPingEye;[D)I" } : Jvm.MethodName) method_42_code (3 : Nat) (Option.some Jvm.ClassFile.FieldType.int) [((0 : Nat), (8 : Nat), (11 : Nat), (20 : Nat))]) ∈ lw_all := lw_g (lw_at lw_m7 152 rfl) rfl
theorem q1687 : (Jvm.Cond.methodLink "PingEyeLaw" (139 : Nat) ({ cls := "PingEye", name := "share", desc := "()F" } : Jvm.MethodName)) ∈ lw_all := lw_g (lw_at lw_m7 153 rfl) rfl
theorem q1691 : (Jvm.Cond.methodLink "PingEyeLaw" (354 : Nat) ({ cls := "PingEyeLaw", name := "meanHeight", desc := "(LPingEye;[D)I" } : Jvm.MethodName)) ∈ lw_all := lw_g (lw_at lw_m7 157 rfl) rfl
theorem q1692 : (Jvm.Cond.static ({ cls := "PingEyeLaw", name := "meanHeight", desc := "(LPingEye;[D)I" } : Jvm.MethodName)) ∈ lw_all := lw_g (lw_at lw_m7 158 rfl) rfl
theorem q1693 : (Jvm.Cond.codeWith ({ cls := "PingEyeLaw", name := "meanHeight", desc := "(LPingEye;[D)I" } : Jvm.MethodName) method_43_code (3 : Nat) (Option.some Jvm.ClassFile.FieldType.int) [((0 : Nat), (7 : Nat), (10 : Nat), (20 : Nat))]) ∈ lw_all := lw_g (lw_at lw_m7 159 rfl) rfl
theorem q1694 : (Jvm.Cond.methodLink "PingEyeLaw" (143 : Nat) ({ cls := "PingEye", name := "meanHeight", desc := "()D" } : Jvm.MethodName)) ∈ lw_all := lw_g (lw_at lw_m7 160 rfl) rfl
theorem q1698 : (Jvm.Cond.methodLink "PingEyeLaw" (357 : Nat) ({ cls := "PingEyeLaw", name := "writeSilo", desc := "(LPingEye;[J)I" } : Jvm.MethodName)) ∈ lw_all := lw_g (lw_at lw_m7 164 rfl) rfl
theorem q1699 : (Jvm.Cond.static ({ cls := "PingEyeLaw", name := "writeSilo", desc := "(LPingEye;[J)I" } : Jvm.MethodName)) ∈ lw_all := lw_g (lw_at lw_m7 165 rfl) rfl
theorem q1700 : (Jvm.Cond.codeWith ({ cls := "PingEyeLaw", name := "writeSilo", desc := "(LPingEye;[J)I" } : Jvm.MethodName) method_44_code (3 : Nat) (Option.some Jvm.ClassFile.FieldType.int) [((0 : Nat), (8 : Nat), (11 : Nat), (20 : Nat))]) ∈ lw_all := lw_g (lw_at lw_m7 166 rfl) rfl
theorem q1701 : (Jvm.Cond.methodLink "PingEyeLaw" (147 : Nat) ({ cls := "PingEye", name := "writeSilo", desc := "()I" } : Jvm.MethodName)) ∈ lw_all := lw_g (lw_at lw_m7 167 rfl) rfl
theorem q1717 : (Jvm.Cond.methodLink "PingEyeLaw" (360 : Nat) ({ cls := "PingEyeLaw", name := "writeEchoes", desc := "(LPingEye;[J)I" } : Jvm.MethodName)) ∈ lw_all := lw_g (lw_at lw_m7 183 rfl) rfl
theorem q1718 : (Jvm.Cond.static ({ cls := "PingEyeLaw", name := "writeEchoes", desc := "(LPingEye;[J)I" } : Jvm.MethodName)) ∈ lw_all := lw_g (lw_at lw_m7 184 rfl) rfl
theorem q1719 : (Jvm.Cond.codeWith ({ cls := "PingEyeLaw", name := "writeEchoes", desc := "(LPingEye;[J)I" } : Jvm.MethodName) method_45_code (3 : Nat) (Option.some Jvm.ClassFile.FieldType.int) [((0 : Nat), (8 : Nat), (11 : Nat), (20 : Nat))]) ∈ lw_all := lw_g (lw_at lw_m7 185 rfl) rfl
theorem q1720 : (Jvm.Cond.methodLink "PingEyeLaw" (150 : Nat) ({ cls := "PingEye", name := "writeEchoes", desc := "()I" } : Jvm.MethodName)) ∈ lw_all := lw_g (lw_at lw_m7 186 rfl) rfl
theorem q1725 : (Jvm.Cond.methodLink "PingEyeLaw" (363 : Nat) ({ cls := "PingEyeLaw", name := "writeRow", desc := "(LPingEye;I[J)I" } : Jvm.MethodName)) ∈ lw_all := lw_g (lw_at lw_m7 191 rfl) rfl
theorem q1726 : (Jvm.Cond.static ({ cls := "PingEyeLaw", name := "writeRow", desc := "(LPingEye;I[J)I" } : Jvm.MethodName)) ∈ lw_all := lw_g (lw_at lw_m7 192 rfl) rfl
theorem q1727 : (Jvm.Cond.codeWith ({ cls := "PingEyeLaw", name := "writeRow", desc := "(LPingEye;I[J)I" } : Jvm.MethodName) method_46_code (4 : Nat) (Option.some Jvm.ClassFile.FieldType.int) [((0 : Nat), (9 : Nat), (12 : Nat), (20 : Nat)), ((0 : Nat), (9 : Nat), (15 : Nat), (15 : Nat))]) ∈ lw_all := lw_g (lw_at lw_m7 193 rfl) rfl
theorem q1728 : (Jvm.Cond.methodLink "PingEyeLaw" (153 : Nat) ({ cls := "PingEye", name := "writeRow", desc := "(I)I" } : Jvm.MethodName)) ∈ lw_all := lw_g (lw_at lw_m7 194 rfl) rfl
theorem q1735 : (Jvm.Cond.methodLink "PingEyeLaw" (366 : Nat) ({ cls := "PingEyeLaw", name := "textByte", desc := "(LPingEye;I[J)I" } : Jvm.MethodName)) ∈ lw_all := lw_g (lw_at lw_m7 201 rfl) rfl
theorem q1736 : (Jvm.Cond.static ({ cls := "PingEyeLaw", name := "textByte", desc := "(LPingEye;I[J)I" } : Jvm.MethodName)) ∈ lw_all := lw_g (lw_at lw_m7 202 rfl) rfl
theorem q1737 : (Jvm.Cond.codeWith ({ cls := "PingEyeLaw", name := "textByte", desc := "(LPingEye;I[J)I" } : Jvm.MethodName) method_47_code (4 : Nat) (Option.some Jvm.ClassFile.FieldType.int) [((0 : Nat), (9 : Nat), (12 : Nat), (13 : Nat))]) ∈ lw_all := lw_g (lw_at lw_m7 203 rfl) rfl
theorem q1738 : (Jvm.Cond.methodLink "PingEyeLaw" (156 : Nat) ({ cls := "PingEye", name := "textByte", desc := "(I)I" } : Jvm.MethodName)) ∈ lw_all := lw_g (lw_at lw_m7 204 rfl) rfl
theorem q1753 : (Jvm.Cond.methodLink "PingEyeLaw" (369 : Nat) ({ cls := "PingEyeLaw", name := "fill", desc := "(LPingEye;II[J)I" } : Jvm.MethodName)) ∈ lw_all := lw_g (lw_at lw_m7 219 rfl) rfl
theorem q1754 : (Jvm.Cond.static ({ cls := "PingEyeLaw", name := "fill", desc := "(LPingEye;II[J)I" } : Jvm.MethodName)) ∈ lw_all := lw_g (lw_at lw_m7 220 rfl) rfl
theorem q1755 : (Jvm.Cond.codeWith ({ cls := "PingEyeLaw", name := "fill", desc := "(LPingEye;II[J)I" } : Jvm.MethodName) method_48_code (5 : Nat) (Option.some Jvm.ClassFile.FieldType.int) [((0 : Nat), (10 : Nat), (13 : Nat), (20 : Nat)), ((0 : Nat), (10 : Nat), (17 : Nat), (13 : Nat)), ((0 : Nat), (10 : Nat), (21 : Nat), (15 : Nat))]) ∈ lw_all := lw_g (lw_at lw_m7 221 rfl) rfl
theorem q1756 : (Jvm.Cond.methodLink "PingEyeLaw" (159 : Nat) ({ cls := "PingEye", name := "fill", desc := "(II)I" } : Jvm.MethodName)) ∈ lw_all := lw_g (lw_at lw_m7 222 rfl) rfl
theorem q1809 : (Jvm.Cond.methodLink "PingEyeLaw" (372 : Nat) ({ cls := "PingEyeLaw", name := "draw", desc := "(LPingEye;I[J)I" } : Jvm.MethodName)) ∈ lw_all := lw_g (lw_at lw_m8 35 rfl) rfl
theorem q1810 : (Jvm.Cond.static ({ cls := "PingEyeLaw", name := "draw", desc := "(LPingEye;I[J)I" } : Jvm.MethodName)) ∈ lw_all := lw_g (lw_at lw_m8 36 rfl) rfl
theorem q1811 : (Jvm.Cond.codeWith ({ cls := "PingEyeLaw", name := "draw", desc := "(LPingEye;I[J)I" } : Jvm.MethodName) method_49_code (4 : Nat) (Option.some Jvm.ClassFile.FieldType.int) [((0 : Nat), (9 : Nat), (12 : Nat), (20 : Nat)), ((0 : Nat), (9 : Nat), (15 : Nat), (15 : Nat))]) ∈ lw_all := lw_g (lw_at lw_m8 37 rfl) rfl
theorem q1812 : (Jvm.Cond.methodLink "PingEyeLaw" (162 : Nat) ({ cls := "PingEye", name := "draw", desc := "(I)I" } : Jvm.MethodName)) ∈ lw_all := lw_g (lw_at lw_m8 38 rfl) rfl
theorem q1816 : (Jvm.Cond.methodLink "PingEyeLaw" (375 : Nat) ({ cls := "PingEyeLaw", name := "ping", desc := "(LPingEye;[J)I" } : Jvm.MethodName)) ∈ lw_all := lw_g (lw_at lw_m8 42 rfl) rfl
theorem q1817 : (Jvm.Cond.static ({ cls := "PingEyeLaw", name := "ping", desc := "(LPingEye;[J)I" } : Jvm.MethodName)) ∈ lw_all := lw_g (lw_at lw_m8 43 rfl) rfl
theorem q1818 : (Jvm.Cond.codeWith ({ cls := "PingEyeLaw", name := "ping", desc := "(LPingEye;[J)I" } : Jvm.MethodName) method_50_code (3 : Nat) (Option.some Jvm.ClassFile.FieldType.int) [((0 : Nat), (8 : Nat), (11 : Nat), (20 : Nat))]) ∈ lw_all := lw_g (lw_at lw_m8 44 rfl) rfl
theorem q1819 : (Jvm.Cond.methodLink "PingEyeLaw" (165 : Nat) ({ cls := "PingEye", name := "ping", desc := "()I" } : Jvm.MethodName)) ∈ lw_all := lw_g (lw_at lw_m8 45 rfl) rfl
theorem q1823 : (Jvm.Cond.methodLink "PingEyeLaw" (378 : Nat) ({ cls := "PingEyeLaw", name := "empty", desc := "(LPingEye;[J)I" } : Jvm.MethodName)) ∈ lw_all := lw_g (lw_at lw_m8 49 rfl) rfl
theorem q1824 : (Jvm.Cond.static ({ cls := "PingEyeLaw", name := "empty", desc := "(LPingEye;[J)I" } : Jvm.MethodName)) ∈ lw_all := lw_g (lw_at lw_m8 50 rfl) rfl
theorem q1825 : (Jvm.Cond.codeWith ({ cls := "PingEyeLaw", name := "empty", desc := "(LPingEye;[J)I" } : Jvm.MethodName) method_51_code (3 : Nat) (Option.some Jvm.ClassFile.FieldType.int) [((0 : Nat), (8 : Nat), (11 : Nat), (20 : Nat))]) ∈ lw_all := lw_g (lw_at lw_m8 51 rfl) rfl
theorem q1826 : (Jvm.Cond.methodLink "PingEyeLaw" (168 : Nat) ({ cls := "PingEye", name := "empty", desc := "()I" } : Jvm.MethodName)) ∈ lw_all := lw_g (lw_at lw_m8 52 rfl) rfl
theorem q1830 : (Jvm.Cond.methodLink "PingEyeLaw" (381 : Nat) ({ cls := "PingEyeLaw", name := "level", desc := "(LPingEye;Z[J)I" } : Jvm.MethodName)) ∈ lw_all := lw_g (lw_at lw_m8 56 rfl) rfl
theorem q1831 : (Jvm.Cond.static ({ cls := "PingEyeLaw", name := "level", desc := "(LPingEye;Z[J)I" } : Jvm.MethodName)) ∈ lw_all := lw_g (lw_at lw_m8 57 rfl) rfl
theorem q1832 : (Jvm.Cond.codeWith ({ cls := "PingEyeLaw", name := "level", desc := "(LPingEye;Z[J)I" } : Jvm.MethodName) method_52_code (4 : Nat) (Option.some Jvm.ClassFile.FieldType.int) [((0 : Nat), (9 : Nat), (12 : Nat), (20 : Nat))]) ∈ lw_all := lw_g (lw_at lw_m8 58 rfl) rfl
theorem q1833 : (Jvm.Cond.methodLink "PingEyeLaw" (171 : Nat) ({ cls := "PingEye", name := "level", desc := "(Z)I" } : Jvm.MethodName)) ∈ lw_all := lw_g (lw_at lw_m8 59 rfl) rfl
theorem q1837 : (Jvm.Cond.methodLink "PingEyeLaw" (384 : Nat) ({ cls := "PingEyeLaw", name := "learn", desc := "(LPingEye;I[J)I" } : Jvm.MethodName)) ∈ lw_all := lw_g (lw_at lw_m8 63 rfl) rfl
theorem q1838 : (Jvm.Cond.static ({ cls := "PingEyeLaw", name := "learn", desc := "(LPingEye;I[J)I" } : Jvm.MethodName)) ∈ lw_all := lw_g (lw_at lw_m8 64 rfl) rfl
theorem q1839 : (Jvm.Cond.codeWith ({ cls := "PingEyeLaw", name := "learn", desc := "(LPingEye;I[J)I" } : Jvm.MethodName) method_53_code (4 : Nat) (Option.some Jvm.ClassFile.FieldType.int) [((0 : Nat), (9 : Nat), (12 : Nat), (20 : Nat)), ((0 : Nat), (9 : Nat), (15 : Nat), (15 : Nat))]) ∈ lw_all := lw_g (lw_at lw_m8 65 rfl) rfl
theorem q1840 : (Jvm.Cond.methodLink "PingEyeLaw" (174 : Nat) ({ cls := "PingEye", name := "learn", desc := "(I)I" } : Jvm.MethodName)) ∈ lw_all := lw_g (lw_at lw_m8 66 rfl) rfl
theorem q1844 : (Jvm.Cond.methodLink "PingEyeLaw" (387 : Nat) ({ cls := "PingEyeLaw", name := "forget", desc := "(LPingEye;[J)I" } : Jvm.MethodName)) ∈ lw_all := lw_g (lw_at lw_m8 70 rfl) rfl
theorem q1845 : (Jvm.Cond.static ({ cls := "PingEyeLaw", name := "forget", desc := "(LPingEye;[J)I" } : Jvm.MethodName)) ∈ lw_all := lw_g (lw_at lw_m8 71 rfl) rfl
theorem q1846 : (Jvm.Cond.codeWith ({ cls := "PingEyeLaw", name := "forget", desc := "(LPingEye;[J)I" } : Jvm.MethodName) method_54_code (3 : Nat) (Option.some Jvm.ClassFile.FieldType.int) [((0 : Nat), (8 : Nat), (11 : Nat), (20 : Nat))]) ∈ lw_all := lw_g (lw_at lw_m8 72 rfl) rfl
theorem q1847 : (Jvm.Cond.methodLink "PingEyeLaw" (177 : Nat) ({ cls := "PingEye", name := "forget", desc := "()I" } : Jvm.MethodName)) ∈ lw_all := lw_g (lw_at lw_m8 73 rfl) rfl
theorem q1854 : (Jvm.Cond.methodLink "PingEyeLaw" (390 : Nat) ({ cls := "PingEyeLaw", name := "waits", desc := "(LPingEye;I[J)I" } : Jvm.MethodName)) ∈ lw_all := lw_g (lw_at lw_m8 80 rfl) rfl
theorem q1855 : (Jvm.Cond.static ({ cls := "PingEyeLaw", name := "waits", desc := "(LPingEye;I[J)I" } : Jvm.MethodName)) ∈ lw_all := lw_g (lw_at lw_m8 81 rfl) rfl
theorem q1856 : (Jvm.Cond.codeWith ({ cls := "PingEyeLaw", name := "waits", desc := "(LPingEye;I[J)I" } : Jvm.MethodName) method_55_code (4 : Nat) (Option.some Jvm.ClassFile.FieldType.int) [((0 : Nat), (9 : Nat), (12 : Nat), (20 : Nat)), ((0 : Nat), (9 : Nat), (15 : Nat), (15 : Nat))]) ∈ lw_all := lw_g (lw_at lw_m8 82 rfl) rfl
theorem q1857 : (Jvm.Cond.methodLink "PingEyeLaw" (180 : Nat) ({ cls := "PingEye", name := "waits", desc := "(I)I" } : Jvm.MethodName)) ∈ lw_all := lw_g (lw_at lw_m8 83 rfl) rfl
theorem q1861 : (Jvm.Cond.methodLink "PingEyeLaw" (393 : Nat) ({ cls := "PingEyeLaw", name := "turnStuck", desc := "(LPingEye;I[J)I" } : Jvm.MethodName)) ∈ lw_all := lw_g (lw_at lw_m8 87 rfl) rfl
theorem q1862 : (Jvm.Cond.static ({ cls := "PingEyeLaw", name := "turnStuck", desc := "(LPingEye;I[J)I" } : Jvm.MethodName)) ∈ lw_all := lw_g (lw_at lw_m8 88 rfl) rfl
theorem q1863 : (Jvm.Cond.codeWith ({ cls := "PingEyeLaw", name := "turnStuck", desc := "(LPingEye;I[J)I" } : Jvm.MethodName) method_56_code (4 : Nat) (Option.some Jvm.ClassFile.FieldType.int) [((0 : Nat), (9 : Nat), (12 : Nat), (20 : Nat)), ((0 : Nat), (9 : Nat), (15 : Nat), (13 : Nat))]) ∈ lw_all := lw_g (lw_at lw_m8 89 rfl) rfl
theorem q1864 : (Jvm.Cond.methodLink "PingEyeLaw" (183 : Nat) ({ cls := "PingEye", name := "turnStuck", desc := "(I)I" } : Jvm.MethodName)) ∈ lw_all := lw_g (lw_at lw_m8 90 rfl) rfl
theorem q1872 : (Jvm.Cond.methodLink "PingEyeLaw" (396 : Nat) ({ cls := "PingEyeLaw", name := "setEye", desc := "(LPingEye;I[J)I" } : Jvm.MethodName)) ∈ lw_all := lw_g (lw_at lw_m8 98 rfl) rfl
theorem q1873 : (Jvm.Cond.static ({ cls := "PingEyeLaw", name := "setEye", desc := "(LPingEye;I[J)I" } : Jvm.MethodName)) ∈ lw_all := lw_g (lw_at lw_m8 99 rfl) rfl
theorem q1874 : (Jvm.Cond.codeWith ({ cls := "PingEyeLaw", name := "setEye", desc := "(LPingEye;I[J)I" } : Jvm.MethodName) method_57_code (4 : Nat) (Option.some Jvm.ClassFile.FieldType.int) [((0 : Nat), (9 : Nat), (12 : Nat), (20 : Nat)), ((0 : Nat), (9 : Nat), (15 : Nat), (13 : Nat))]) ∈ lw_all := lw_g (lw_at lw_m8 100 rfl) rfl
theorem q1875 : (Jvm.Cond.methodLink "PingEyeLaw" (186 : Nat) ({ cls := "PingEye", name := "setEye", desc := "(I)I" } : Jvm.MethodName)) ∈ lw_all := lw_g (lw_at lw_m8 101 rfl) rfl
theorem q1879 : (Jvm.Cond.methodLink "PingEyeLaw" (399 : Nat) ({ cls := "PingEyeLaw", name := "set", desc := "(LPingEye;II[J)I" } : Jvm.MethodName)) ∈ lw_all := lw_g (lw_at lw_m8 105 rfl) rfl
theorem q1880 : (Jvm.Cond.static ({ cls := "PingEyeLaw", name := "set", desc := "(LPingEye;II[J)I" } : Jvm.MethodName)) ∈ lw_all := lw_g (lw_at lw_m8 106 rfl) rfl
theorem q1881 : (Jvm.Cond.codeWith ({ cls := "PingEyeLaw", name := "set", desc := "(LPingEye;II[J)I" } : Jvm.MethodName) method_58_code (5 : Nat) (Option.some Jvm.ClassFile.FieldType.int) [((0 : Nat), (10 : Nat), (13 : Nat), (20 : Nat)), ((0 : Nat), (10 : Nat), (17 : Nat), (15 : Nat))]) ∈ lw_all := lw_g (lw_at lw_m8 107 rfl) rfl
theorem q1882 : (Jvm.Cond.methodLink "PingEyeLaw" (189 : Nat) ({ cls := "PingEye", name := "set", desc := "(II)I" } : Jvm.MethodName)) ∈ lw_all := lw_g (lw_at lw_m8 108 rfl) rfl
theorem q1888 : (Jvm.Cond.methodLink "PingEyeLaw" (402 : Nat) ({ cls := "PingEyeLaw", name := "undo", desc := "(LPingEye;[J)I" } : Jvm.MethodName)) ∈ lw_all := lw_g (lw_at lw_m8 114 rfl) rfl
theorem q1889 : (Jvm.Cond.static ({ cls := "PingEyeLaw", name := "undo", desc := "(LPingEye;[J)I" } : Jvm.MethodName)) ∈ lw_all := lw_g (lw_at lw_m8 115 rfl) rfl
theorem q1890 : (Jvm.Cond.codeWith ({ cls := "PingEyeLaw", name := "undo", desc := "(LPingEye;[J)I" } : Jvm.MethodName) method_59_code (3 : Nat) (Option.some Jvm.ClassFile.FieldType.int) [((0 : Nat), (8 : Nat), (11 : Nat), (20 : Nat))]) ∈ lw_all := lw_g (lw_at lw_m8 116 rfl) rfl
theorem q1891 : (Jvm.Cond.methodLink "PingEyeLaw" (192 : Nat) ({ cls := "PingEye", name := "undo", desc := "()I" } : Jvm.MethodName)) ∈ lw_all := lw_g (lw_at lw_m8 117 rfl) rfl
theorem q1919 : (Jvm.Cond.methodLink "PingEyeLaw" (409 : Nat) ({ cls := "PingEyeLaw", name := "save", desc := "(LPingEye;I[J)I" } : Jvm.MethodName)) ∈ lw_all := lw_g (lw_at lw_m8 145 rfl) rfl
theorem q1920 : (Jvm.Cond.static ({ cls := "PingEyeLaw", name := "save", desc := "(LPingEye;I[J)I" } : Jvm.MethodName)) ∈ lw_all := lw_g (lw_at lw_m8 146 rfl) rfl
theorem q1921 : (Jvm.Cond.codeWith ({ cls := "PingEyeLaw", name := "save", desc := "(LPingEye;I[J)I" } : Jvm.MethodName) method_60_code (4 : Nat) (Option.some Jvm.ClassFile.FieldType.int) [((0 : Nat), (9 : Nat), (12 : Nat), (20 : Nat)), ((0 : Nat), (9 : Nat), (15 : Nat), (13 : Nat))]) ∈ lw_all := lw_g (lw_at lw_m8 147 rfl) rfl
theorem q1922 : (Jvm.Cond.methodLink "PingEyeLaw" (195 : Nat) ({ cls := "PingEye", name := "save", desc := "(I)I" } : Jvm.MethodName)) ∈ lw_all := lw_g (lw_at lw_m8 148 rfl) rfl
theorem q1926 : (Jvm.Cond.methodLink "PingEyeLaw" (412 : Nat) ({ cls := "PingEyeLaw", name := "restore", desc := "(LPingEye;I[J)I" } : Jvm.MethodName)) ∈ lw_all := lw_g (lw_at lw_m8 152 rfl) rfl
theorem q1927 : (Jvm.Cond.static ({ cls := "PingEyeLaw", name := "restore", desc := "(LPingEye;I[J)I" } : Jvm.MethodName)) ∈ lw_all := lw_g (lw_at lw_m8 153 rfl) rfl
theorem q1928 : (Jvm.Cond.codeWith ({ cls := "PingEyeLaw", name := "restore", desc := "(LPingEye;I[J)I" } : Jvm.MethodName) method_61_code (4 : Nat) (Option.some Jvm.ClassFile.FieldType.int) [((0 : Nat), (9 : Nat), (12 : Nat), (13 : Nat)), ((0 : Nat), (9 : Nat), (15 : Nat), (20 : Nat))]) ∈ lw_all := lw_g (lw_at lw_m8 154 rfl) rfl
theorem q1929 : (Jvm.Cond.methodLink "PingEyeLaw" (198 : Nat) ({ cls := "PingEye", name := "restore", desc := "(I)I" } : Jvm.MethodName)) ∈ lw_all := lw_g (lw_at lw_m8 155 rfl) rfl
theorem q1933 : (Jvm.Cond.classLink "PingEyeLaw" (202 : Nat) "PingEyeModel") ∈ lw_all := lw_g (lw_at lw_m8 159 rfl) rfl
theorem q1935 : (Jvm.Cond.methodLink "PingEyeLaw" (204 : Nat) ({ cls := "PingEyeModel", name := "<init>", desc := "()V" } : Jvm.MethodName)) ∈ lw_all := lw_g (lw_at lw_m8 161 rfl) rfl
theorem q1997 : (Jvm.Cond.methodLink "PingEyeLaw" (216 : Nat) ({ cls := "PingEyeModel", name := "thrown", desc := "()I" } : Jvm.MethodName)) ∈ lw_all := lw_g (lw_at lw_m8 223 rfl) rfl
theorem q2001 : (Jvm.Cond.methodLink "PingEyeLaw" (209 : Nat) ({ cls := "PingEyeModel", name := "append", desc := "(IIIII)I" } : Jvm.MethodName)) ∈ lw_all := lw_g (lw_at lw_m8 227 rfl) rfl
theorem q2005 : (Jvm.Cond.methodLink "PingEyeLaw" (230 : Nat) ({ cls := "PingEyeModel", name := "buffered", desc := "()I" } : Jvm.MethodName)) ∈ lw_all := lw_g (lw_at lw_m8 231 rfl) rfl
theorem q2009 : (Jvm.Cond.methodLink "PingEyeLaw" (222 : Nat) ({ cls := "PingEyeModel", name := "parseError", desc := "()I" } : Jvm.MethodName)) ∈ lw_all := lw_g (lw_at lw_m8 235 rfl) rfl
theorem q2013 : (Jvm.Cond.methodLink "PingEyeLaw" (226 : Nat) ({ cls := "PingEyeModel", name := "errorPosition", desc := "()I" } : Jvm.MethodName)) ∈ lw_all := lw_g (lw_at lw_m8 239 rfl) rfl
theorem q2017 : (Jvm.Cond.methodLink "PingEyeLaw" (215 : Nat) ({ cls := "PingEyeModel", name := "load", desc := "(I)I" } : Jvm.MethodName)) ∈ lw_all := lw_g (lw_at lw_m9 3 rfl) rfl
theorem q2215 : (Jvm.Cond.methodLink "PingEyeLaw" (233 : Nat) ({ cls := "PingEyeModel", name := "number", desc := "(I)I" } : Jvm.MethodName)) ∈ lw_all := lw_g (lw_at lw_m9 201 rfl) rfl
theorem q2224 : (Jvm.Cond.methodLink "PingEyeLaw" (236 : Nat) ({ cls := "PingEyeModel", name := "count", desc := "(I)I" } : Jvm.MethodName)) ∈ lw_all := lw_g (lw_at lw_m9 210 rfl) rfl
theorem q2241 : (Jvm.Cond.methodLink "PingEyeLaw" (239 : Nat) ({ cls := "PingEyeModel", name := "height", desc := "(I)I" } : Jvm.MethodName)) ∈ lw_all := lw_g (lw_at lw_m9 227 rfl) rfl
theorem q2253 : (Jvm.Cond.methodLink "PingEyeLaw" (242 : Nat) ({ cls := "PingEyeModel", name := "isStuck", desc := "(I)Z" } : Jvm.MethodName)) ∈ lw_all := lw_g (lw_at lw_m9 239 rfl) rfl
theorem q2257 : (Jvm.Cond.methodLink "PingEyeLaw" (245 : Nat) ({ cls := "PingEyeModel", name := "hangs", desc := "(I)Z" } : Jvm.MethodName)) ∈ lw_all := lw_g (lw_at lw_m10 3 rfl) rfl
theorem q2261 : (Jvm.Cond.methodLink "PingEyeLaw" (249 : Nat) ({ cls := "PingEyeModel", name := "highest", desc := "(Z)I" } : Jvm.MethodName)) ∈ lw_all := lw_g (lw_at lw_m10 7 rfl) rfl
theorem q2265 : (Jvm.Cond.methodLink "PingEyeLaw" (253 : Nat) ({ cls := "PingEyeModel", name := "steepest", desc := "()I" } : Jvm.MethodName)) ∈ lw_all := lw_g (lw_at lw_m10 11 rfl) rfl
theorem q2269 : (Jvm.Cond.methodLink "PingEyeLaw" (263 : Nat) ({ cls := "PingEyeModel", name := "peak", desc := "(II)I" } : Jvm.MethodName)) ∈ lw_all := lw_g (lw_at lw_m10 15 rfl) rfl
theorem q2273 : (Jvm.Cond.methodLink "PingEyeLaw" (256 : Nat) ({ cls := "PingEyeModel", name := "slideTo", desc := "(I)I" } : Jvm.MethodName)) ∈ lw_all := lw_g (lw_at lw_m10 19 rfl) rfl
theorem q2277 : (Jvm.Cond.methodLink "PingEyeLaw" (266 : Nat) ({ cls := "PingEyeModel", name := "gap", desc := "()I" } : Jvm.MethodName)) ∈ lw_all := lw_g (lw_at lw_m10 23 rfl) rfl
theorem q2281 : (Jvm.Cond.methodLink "PingEyeLaw" (269 : Nat) ({ cls := "PingEyeModel", name := "bar", desc := "(II)I" } : Jvm.MethodName)) ∈ lw_all := lw_g (lw_at lw_m10 27 rfl) rfl
theorem q2286 : (Jvm.Cond.methodLink "PingEyeLaw" (272 : Nat) ({ cls := "PingEyeModel", name := "heap", desc := "(I)I" } : Jvm.MethodName)) ∈ lw_all := lw_g (lw_at lw_m10 32 rfl) rfl
theorem q2295 : (Jvm.Cond.methodLink "PingEyeLaw" (275 : Nat) ({ cls := "PingEyeModel", name := "mask", desc := "(I)I" } : Jvm.MethodName)) ∈ lw_all := lw_g (lw_at lw_m10 41 rfl) rfl
theorem q2299 : (Jvm.Cond.methodLink "PingEyeLaw" (279 : Nat) ({ cls := "PingEyeModel", name := "echo", desc := "(IZ)I" } : Jvm.MethodName)) ∈ lw_all := lw_g (lw_at lw_m10 45 rfl) rfl
theorem q2303 : (Jvm.Cond.methodLink "PingEyeLaw" (282 : Nat) ({ cls := "PingEyeModel", name := "chosen", desc := "()I" } : Jvm.MethodName)) ∈ lw_all := lw_g (lw_at lw_m10 49 rfl) rfl
theorem q2307 : (Jvm.Cond.methodLink "PingEyeLaw" (291 : Nat) ({ cls := "PingEyeModel", name := "second", desc := "()I" } : Jvm.MethodName)) ∈ lw_all := lw_g (lw_at lw_m10 53 rfl) rfl
theorem q2311 : (Jvm.Cond.methodLink "PingEyeLaw" (288 : Nat) ({ cls := "PingEyeModel", name := "echoMany", desc := "(Z)I" } : Jvm.MethodName)) ∈ lw_all := lw_g (lw_at lw_m10 57 rfl) rfl
theorem q2315 : (Jvm.Cond.methodLink "PingEyeLaw" (337 : Nat) ({ cls := "PingEyeModel", name := "deafTo", desc := "()I" } : Jvm.MethodName)) ∈ lw_all := lw_g (lw_at lw_m10 61 rfl) rfl
theorem q2319 : (Jvm.Cond.methodLink "PingEyeLaw" (285 : Nat) ({ cls := "PingEyeModel", name := "whyNotHeap", desc := "()I" } : Jvm.MethodName)) ∈ lw_all := lw_g (lw_at lw_m10 65 rfl) rfl
theorem q2323 : (Jvm.Cond.methodLink "PingEyeLaw" (294 : Nat) ({ cls := "PingEyeModel", name := "error", desc := "()I" } : Jvm.MethodName)) ∈ lw_all := lw_g (lw_at lw_m10 69 rfl) rfl
theorem q2327 : (Jvm.Cond.methodLink "PingEyeLaw" (297 : Nat) ({ cls := "PingEyeModel", name := "whyNotBelieved", desc := "()I" } : Jvm.MethodName)) ∈ lw_all := lw_g (lw_at lw_m10 73 rfl) rfl
theorem q2331 : (Jvm.Cond.methodLink "PingEyeLaw" (300 : Nat) ({ cls := "PingEyeModel", name := "levelAfter", desc := "(I)I" } : Jvm.MethodName)) ∈ lw_all := lw_g (lw_at lw_m10 77 rfl) rfl
theorem q2339 : (Jvm.Cond.methodLink "PingEyeLaw" (303 : Nat) ({ cls := "PingEyeModel", name := "pingsToTrue", desc := "()I" } : Jvm.MethodName)) ∈ lw_all := lw_g (lw_at lw_m10 85 rfl) rfl
theorem q2343 : (Jvm.Cond.methodLink "PingEyeLaw" (306 : Nat) ({ cls := "PingEyeModel", name := "deafFrom", desc := "()I" } : Jvm.MethodName)) ∈ lw_all := lw_g (lw_at lw_m10 89 rfl) rfl
theorem q2347 : (Jvm.Cond.methodLink "PingEyeLaw" (310 : Nat) ({ cls := "PingEyeModel", name := "heightIf", desc := "(III)I" } : Jvm.MethodName)) ∈ lw_all := lw_g (lw_at lw_m10 93 rfl) rfl
theorem q2351 : (Jvm.Cond.methodLink "PingEyeLaw" (313 : Nat) ({ cls := "PingEyeModel", name := "spilledIf", desc := "(II)I" } : Jvm.MethodName)) ∈ lw_all := lw_g (lw_at lw_m10 97 rfl) rfl
theorem q2359 : (Jvm.Cond.methodLink "PingEyeLaw" (340 : Nat) ({ cls := "PingEyeModel", name := "slidIf", desc := "(II)I" } : Jvm.MethodName)) ∈ lw_all := lw_g (lw_at lw_m10 105 rfl) rfl
theorem q2363 : (Jvm.Cond.methodLink "PingEyeLaw" (259 : Nat) ({ cls := "PingEyeModel", name := "roomIn", desc := "(I)I" } : Jvm.MethodName)) ∈ lw_all := lw_g (lw_at lw_m10 109 rfl) rfl
theorem q2367 : (Jvm.Cond.methodLink "PingEyeLaw" (343 : Nat) ({ cls := "PingEyeModel", name := "bestFill", desc := "(I)I" } : Jvm.MethodName)) ∈ lw_all := lw_g (lw_at lw_m10 113 rfl) rfl
theorem q2371 : (Jvm.Cond.methodLink "PingEyeLaw" (316 : Nat) ({ cls := "PingEyeModel", name := "fillTo", desc := "(II)I" } : Jvm.MethodName)) ∈ lw_all := lw_g (lw_at lw_m10 117 rfl) rfl
theorem q2375 : (Jvm.Cond.methodLink "PingEyeLaw" (319 : Nat) ({ cls := "PingEyeModel", name := "drawable", desc := "()I" } : Jvm.MethodName)) ∈ lw_all := lw_g (lw_at lw_m10 121 rfl) rfl
theorem q2383 : (Jvm.Cond.methodLink "PingEyeLaw" (322 : Nat) ({ cls := "PingEyeModel", name := "drawableIf", desc := "(I)I" } : Jvm.MethodName)) ∈ lw_all := lw_g (lw_at lw_m10 129 rfl) rfl
theorem q2391 : (Jvm.Cond.methodLink "PingEyeLaw" (325 : Nat) ({ cls := "PingEyeModel", name := "bestLoosened", desc := "()I" } : Jvm.MethodName)) ∈ lw_all := lw_g (lw_at lw_m10 137 rfl) rfl
theorem q2395 : (Jvm.Cond.methodLink "PingEyeLaw" (328 : Nat) ({ cls := "PingEyeModel", name := "hangingUnits", desc := "()I" } : Jvm.MethodName)) ∈ lw_all := lw_g (lw_at lw_m10 141 rfl) rfl
theorem q2399 : (Jvm.Cond.methodLink "PingEyeLaw" (331 : Nat) ({ cls := "PingEyeModel", name := "heightDrawn", desc := "(II)I" } : Jvm.MethodName)) ∈ lw_all := lw_g (lw_at lw_m10 145 rfl) rfl
theorem q2403 : (Jvm.Cond.methodLink "PingEyeLaw" (334 : Nat) ({ cls := "PingEyeModel", name := "levelIfFilled", desc := "(II)I" } : Jvm.MethodName)) ∈ lw_all := lw_g (lw_at lw_m10 149 rfl) rfl
theorem q2407 : (Jvm.Cond.methodLink "PingEyeLaw" (346 : Nat) ({ cls := "PingEyeModel", name := "learntFalse", desc := "(I)I" } : Jvm.MethodName)) ∈ lw_all := lw_g (lw_at lw_m10 153 rfl) rfl
theorem q2419 : (Jvm.Cond.methodLink "PingEyeLaw" (349 : Nat) ({ cls := "PingEyeModel", name := "bestLearn", desc := "()I" } : Jvm.MethodName)) ∈ lw_all := lw_g (lw_at lw_m10 165 rfl) rfl
theorem q2423 : (Jvm.Cond.methodLink "PingEyeLaw" (353 : Nat) ({ cls := "PingEyeModel", name := "share", desc := "()F" } : Jvm.MethodName)) ∈ lw_all := lw_g (lw_at lw_m10 169 rfl) rfl
theorem q2427 : (Jvm.Cond.methodLink "PingEyeLaw" (356 : Nat) ({ cls := "PingEyeModel", name := "meanHeight", desc := "()D" } : Jvm.MethodName)) ∈ lw_all := lw_g (lw_at lw_m10 173 rfl) rfl
theorem q2431 : (Jvm.Cond.methodLink "PingEyeLaw" (359 : Nat) ({ cls := "PingEyeModel", name := "writeSilo", desc := "()I" } : Jvm.MethodName)) ∈ lw_all := lw_g (lw_at lw_m10 177 rfl) rfl
theorem q2443 : (Jvm.Cond.methodLink "PingEyeLaw" (362 : Nat) ({ cls := "PingEyeModel", name := "writeEchoes", desc := "()I" } : Jvm.MethodName)) ∈ lw_all := lw_g (lw_at lw_m10 189 rfl) rfl
theorem q2447 : (Jvm.Cond.methodLink "PingEyeLaw" (365 : Nat) ({ cls := "PingEyeModel", name := "writeRow", desc := "(I)I" } : Jvm.MethodName)) ∈ lw_all := lw_g (lw_at lw_m10 193 rfl) rfl
theorem q2455 : (Jvm.Cond.methodLink "PingEyeLaw" (368 : Nat) ({ cls := "PingEyeModel", name := "textByte", desc := "(I)I" } : Jvm.MethodName)) ∈ lw_all := lw_g (lw_at lw_m10 201 rfl) rfl
theorem q2459 : (Jvm.Cond.methodLink "PingEyeLaw" (371 : Nat) ({ cls := "PingEyeModel", name := "fill", desc := "(II)I" } : Jvm.MethodName)) ∈ lw_all := lw_g (lw_at lw_m10 205 rfl) rfl
theorem q2467 : (Jvm.Cond.methodLink "PingEyeLaw" (374 : Nat) ({ cls := "PingEyeModel", name := "draw", desc := "(I)I" } : Jvm.MethodName)) ∈ lw_all := lw_g (lw_at lw_m10 213 rfl) rfl
theorem q2471 : (Jvm.Cond.methodLink "PingEyeLaw" (380 : Nat) ({ cls := "PingEyeModel", name := "empty", desc := "()I" } : Jvm.MethodName)) ∈ lw_all := lw_g (lw_at lw_m10 217 rfl) rfl
theorem q2475 : (Jvm.Cond.methodLink "PingEyeLaw" (383 : Nat) ({ cls := "PingEyeModel", name := "level", desc := "(Z)I" } : Jvm.MethodName)) ∈ lw_all := lw_g (lw_at lw_m10 221 rfl) rfl
theorem q2479 : (Jvm.Cond.methodLink "PingEyeLaw" (377 : Nat) ({ cls := "PingEyeModel", name := "ping", desc := "()I" } : Jvm.MethodName)) ∈ lw_all := lw_g (lw_at lw_m10 225 rfl) rfl
theorem q2483 : (Jvm.Cond.methodLink "PingEyeLaw" (386 : Nat) ({ cls := "PingEyeModel", name := "learn", desc := "(I)I" } : Jvm.MethodName)) ∈ lw_all := lw_g (lw_at lw_m10 229 rfl) rfl
theorem q2487 : (Jvm.Cond.methodLink "PingEyeLaw" (389 : Nat) ({ cls := "PingEyeModel", name := "forget", desc := "()I" } : Jvm.MethodName)) ∈ lw_all := lw_g (lw_at lw_m10 233 rfl) rfl
theorem q2491 : (Jvm.Cond.methodLink "PingEyeLaw" (392 : Nat) ({ cls := "PingEyeModel", name := "waits", desc := "(I)I" } : Jvm.MethodName)) ∈ lw_all := lw_g (lw_at lw_m10 237 rfl) rfl
theorem q2495 : (Jvm.Cond.methodLink "PingEyeLaw" (395 : Nat) ({ cls := "PingEyeModel", name := "turnStuck", desc := "(I)I" } : Jvm.MethodName)) ∈ lw_all := lw_g (lw_at lw_m11 1 rfl) rfl
theorem q2499 : (Jvm.Cond.methodLink "PingEyeLaw" (398 : Nat) ({ cls := "PingEyeModel", name := "setEye", desc := "(I)I" } : Jvm.MethodName)) ∈ lw_all := lw_g (lw_at lw_m11 5 rfl) rfl
theorem q2503 : (Jvm.Cond.methodLink "PingEyeLaw" (401 : Nat) ({ cls := "PingEyeModel", name := "set", desc := "(II)I" } : Jvm.MethodName)) ∈ lw_all := lw_g (lw_at lw_m11 9 rfl) rfl
theorem q2512 : (Jvm.Cond.methodLink "PingEyeLaw" (404 : Nat) ({ cls := "PingEyeModel", name := "undo", desc := "()I" } : Jvm.MethodName)) ∈ lw_all := lw_g (lw_at lw_m11 18 rfl) rfl
theorem q2516 : (Jvm.Cond.methodLink "PingEyeLaw" (408 : Nat) ({ cls := "PingEyeModel", name := "undoable", desc := "()I" } : Jvm.MethodName)) ∈ lw_all := lw_g (lw_at lw_m11 22 rfl) rfl
theorem q2520 : (Jvm.Cond.methodLink "PingEyeLaw" (411 : Nat) ({ cls := "PingEyeModel", name := "save", desc := "(I)I" } : Jvm.MethodName)) ∈ lw_all := lw_g (lw_at lw_m11 26 rfl) rfl
theorem q2524 : (Jvm.Cond.methodLink "PingEyeLaw" (414 : Nat) ({ cls := "PingEyeModel", name := "restore", desc := "(I)I" } : Jvm.MethodName)) ∈ lw_all := lw_g (lw_at lw_m11 30 rfl) rfl

/-! the law's own entry -/
set_option maxRecDepth 100000
abbrev cL_law : ByteArray := code
def dkwL_law_150 : List UInt8 := [167, 241, 119, 4, 172]
abbrev dktL_law_150 : List UInt8 := dkwL_law_150 ++ []
def dkwL_law_149 : List UInt8 := [172, 21, 6, 154, 0, 15, 45, 3, 47, 21, 7, 133, 148, 153, 0, 5, 3, 172, 167, 0, 3, 132, 5, 6]
abbrev dktL_law_149 : List UInt8 := dkwL_law_149 ++ dktL_law_150
def dkwL_law_148 : List UInt8 := [54, 6, 44, 42, 21, 5, 4, 96, 46, 182, 1, 158, 54, 7, 44, 182, 0, 216, 21, 6, 159, 0, 5, 3]
abbrev dktL_law_148 : List UInt8 := dkwL_law_148 ++ dktL_law_149
def dkwL_law_147 : List UInt8 := [47, 21, 7, 133, 148, 153, 0, 5, 3, 172, 167, 0, 59, 43, 42, 21, 5, 4, 96, 46, 45, 184, 1, 156]
abbrev dktL_law_147 : List UInt8 := dkwL_law_147 ++ dktL_law_148
def dkwL_law_146 : List UInt8 := [46, 182, 1, 155, 54, 7, 44, 182, 0, 216, 21, 6, 159, 0, 5, 3, 172, 21, 6, 154, 0, 15, 45, 3]
abbrev dktL_law_146 : List UInt8 := dkwL_law_146 ++ dktL_law_147
def dkwL_law_145 : List UInt8 := [159, 0, 117, 3, 172, 43, 42, 21, 5, 4, 96, 46, 45, 184, 1, 153, 54, 6, 44, 42, 21, 5, 4, 96]
abbrev dktL_law_145 : List UInt8 := dkwL_law_145 ++ dktL_law_146
def dkwL_law_144 : List UInt8 := [45, 3, 47, 21, 7, 133, 148, 153, 0, 5, 3, 172, 167, 0, 128, 43, 182, 1, 149, 44, 182, 1, 152]
abbrev dktL_law_144 : List UInt8 := dkwL_law_144 ++ dktL_law_145
def dkwL_law_143 : List UInt8 := [54, 6, 44, 182, 1, 148, 54, 7, 44, 182, 0, 216, 21, 6, 159, 0, 5, 3, 172, 21, 6, 154, 0, 15]
abbrev dktL_law_143 : List UInt8 := dkwL_law_143 ++ dktL_law_144
def dkwL_law_142 : List UInt8 := [154, 0, 15, 45, 3, 47, 21, 7, 133, 148, 153, 0, 5, 3, 172, 167, 0, 172, 43, 45, 184, 1, 146]
abbrev dktL_law_142 : List UInt8 := dkwL_law_142 ++ dktL_law_143
def dkwL_law_141 : List UInt8 := [42, 21, 5, 5, 96, 46, 182, 1, 145, 54, 7, 44, 182, 0, 216, 21, 6, 159, 0, 5, 3, 172, 21, 6]
abbrev dktL_law_141 : List UInt8 := dkwL_law_141 ++ dktL_law_142
def dkwL_law_140 : List UInt8 := [21, 5, 4, 96, 46, 42, 21, 5, 5, 96, 46, 45, 184, 1, 143, 54, 6, 44, 42, 21, 5, 4, 96, 46]
abbrev dktL_law_140 : List UInt8 := dkwL_law_140 ++ dktL_law_141
def dkwL_law_139 : List UInt8 := [172, 21, 6, 154, 0, 15, 45, 3, 47, 21, 7, 133, 148, 153, 0, 5, 3, 172, 167, 0, 240, 43, 42]
abbrev dktL_law_139 : List UInt8 := dkwL_law_139 ++ dktL_law_140
def dkwL_law_138 : List UInt8 := [54, 6, 44, 42, 21, 5, 4, 96, 46, 182, 1, 142, 54, 7, 44, 182, 0, 216, 21, 6, 159, 0, 5, 3]
abbrev dktL_law_138 : List UInt8 := dkwL_law_138 ++ dktL_law_139
def dkwL_law_137 : List UInt8 := [21, 7, 133, 148, 153, 0, 5, 3, 172, 167, 1, 40, 43, 42, 21, 5, 4, 96, 46, 45, 184, 1, 140]
abbrev dktL_law_137 : List UInt8 := dkwL_law_137 ++ dktL_law_138
def dkwL_law_136 : List UInt8 := [182, 1, 139, 54, 7, 44, 182, 0, 216, 21, 6, 159, 0, 5, 3, 172, 21, 6, 154, 0, 15, 45, 3, 47]
abbrev dktL_law_136 : List UInt8 := dkwL_law_136 ++ dktL_law_137
def dkwL_law_135 : List UInt8 := [167, 1, 96, 43, 42, 21, 5, 4, 96, 46, 45, 184, 1, 137, 54, 6, 44, 42, 21, 5, 4, 96, 46]
abbrev dktL_law_135 : List UInt8 := dkwL_law_135 ++ dktL_law_136
def dkwL_law_134 : List UInt8 := [159, 0, 5, 3, 172, 21, 6, 154, 0, 15, 45, 3, 47, 21, 7, 133, 148, 153, 0, 5, 3, 172]
abbrev dktL_law_134 : List UInt8 := dkwL_law_134 ++ dktL_law_135
def dkwL_law_133 : List UInt8 := [184, 1, 134, 54, 6, 44, 42, 21, 5, 4, 96, 46, 182, 1, 136, 54, 7, 44, 182, 0, 216, 21, 6]
abbrev dktL_law_133 : List UInt8 := dkwL_law_133 ++ dktL_law_134
def dkwL_law_132 : List UInt8 := [45, 3, 47, 21, 7, 133, 148, 153, 0, 5, 3, 172, 167, 1, 152, 43, 42, 21, 5, 4, 96, 46, 45]
abbrev dktL_law_132 : List UInt8 := dkwL_law_132 ++ dktL_law_133
def dkwL_law_131 : List UInt8 := [54, 6, 44, 182, 1, 133, 54, 7, 44, 182, 0, 216, 21, 6, 159, 0, 5, 3, 172, 21, 6, 154, 0, 15]
abbrev dktL_law_131 : List UInt8 := dkwL_law_131 ++ dktL_law_132
def dkwL_law_130 : List UInt8 := [154, 0, 15, 45, 3, 47, 21, 7, 133, 148, 153, 0, 5, 3, 172, 167, 1, 196, 43, 45, 184, 1, 131]
abbrev dktL_law_130 : List UInt8 := dkwL_law_130 ++ dktL_law_131
def dkwL_law_129 : List UInt8 := [21, 5, 4, 96, 46, 182, 1, 130, 54, 7, 44, 182, 0, 216, 21, 6, 159, 0, 5, 3, 172, 21, 6]
abbrev dktL_law_129 : List UInt8 := dkwL_law_129 ++ dktL_law_130
def dkwL_law_128 : List UInt8 := [148, 153, 0, 5, 3, 172, 167, 1, 252, 43, 42, 21, 5, 4, 96, 46, 45, 184, 1, 128, 54, 6, 44, 42]
abbrev dktL_law_128 : List UInt8 := dkwL_law_128 ++ dktL_law_129
def dkwL_law_127 : List UInt8 := [54, 7, 44, 182, 0, 216, 21, 6, 159, 0, 5, 3, 172, 21, 6, 154, 0, 15, 45, 3, 47, 21, 7, 133]
abbrev dktL_law_127 : List UInt8 := dkwL_law_127 ++ dktL_law_128
def dkwL_law_126 : List UInt8 := [184, 1, 125, 54, 6, 44, 42, 21, 5, 4, 96, 46, 153, 0, 7, 4, 167, 0, 4, 3, 182, 1, 127]
abbrev dktL_law_126 : List UInt8 := dkwL_law_126 ++ dktL_law_127
def dkwL_law_125 : List UInt8 := [153, 0, 5, 3, 172, 167, 2, 68, 43, 42, 21, 5, 4, 96, 46, 153, 0, 7, 4, 167, 0, 4, 3, 45]
abbrev dktL_law_125 : List UInt8 := dkwL_law_125 ++ dktL_law_126
def dkwL_law_124 : List UInt8 := [182, 0, 216, 21, 6, 159, 0, 5, 3, 172, 21, 6, 154, 0, 15, 45, 3, 47, 21, 7, 133, 148]
abbrev dktL_law_124 : List UInt8 := dkwL_law_124 ++ dktL_law_125
def dkwL_law_123 : List UInt8 := [148, 153, 0, 5, 3, 172, 167, 2, 112, 43, 45, 184, 1, 122, 54, 6, 44, 182, 1, 124, 54, 7, 44]
abbrev dktL_law_123 : List UInt8 := dkwL_law_123 ++ dktL_law_124
def dkwL_law_122 : List UInt8 := [54, 7, 44, 182, 0, 216, 21, 6, 159, 0, 5, 3, 172, 21, 6, 154, 0, 15, 45, 3, 47, 21, 7, 133]
abbrev dktL_law_122 : List UInt8 := dkwL_law_122 ++ dktL_law_123
def dkwL_law_121 : List UInt8 := [21, 7, 133, 148, 153, 0, 5, 3, 172, 167, 2, 156, 43, 45, 184, 1, 119, 54, 6, 44, 182, 1, 121]
abbrev dktL_law_121 : List UInt8 := dkwL_law_121 ++ dktL_law_122
def dkwL_law_120 : List UInt8 := [182, 1, 118, 54, 7, 44, 182, 0, 216, 21, 6, 159, 0, 5, 3, 172, 21, 6, 154, 0, 15, 45, 3, 47]
abbrev dktL_law_120 : List UInt8 := dkwL_law_120 ++ dktL_law_121
def dkwL_law_119 : List UInt8 := [167, 2, 212, 43, 42, 21, 5, 4, 96, 46, 45, 184, 1, 116, 54, 6, 44, 42, 21, 5, 4, 96, 46]
abbrev dktL_law_119 : List UInt8 := dkwL_law_119 ++ dktL_law_120
def dkwL_law_118 : List UInt8 := [159, 0, 5, 3, 172, 21, 6, 154, 0, 15, 45, 3, 47, 21, 7, 133, 148, 153, 0, 5, 3, 172]
abbrev dktL_law_118 : List UInt8 := dkwL_law_118 ++ dktL_law_119
def dkwL_law_117 : List UInt8 := [21, 5, 4, 96, 46, 42, 21, 5, 5, 96, 46, 182, 1, 115, 54, 7, 44, 182, 0, 216, 21, 6]
abbrev dktL_law_117 : List UInt8 := dkwL_law_117 ++ dktL_law_118
def dkwL_law_116 : List UInt8 := [167, 3, 24, 43, 42, 21, 5, 4, 96, 46, 42, 21, 5, 5, 96, 46, 45, 184, 1, 113, 54, 6, 44, 42]
abbrev dktL_law_116 : List UInt8 := dkwL_law_116 ++ dktL_law_117
def dkwL_law_115 : List UInt8 := [21, 6, 159, 0, 5, 3, 172, 21, 6, 154, 0, 15, 45, 3, 47, 21, 7, 133, 148, 153, 0, 5, 3, 172]
abbrev dktL_law_115 : List UInt8 := dkwL_law_115 ++ dktL_law_116
def dkwL_law_114 : List UInt8 := [46, 45, 184, 1, 110, 54, 6, 44, 42, 21, 5, 4, 96, 46, 182, 1, 112, 54, 7, 44, 182, 0, 216]
abbrev dktL_law_114 : List UInt8 := dkwL_law_114 ++ dktL_law_115
def dkwL_law_113 : List UInt8 := [154, 0, 15, 45, 3, 47, 21, 7, 133, 148, 153, 0, 5, 3, 172, 167, 3, 80, 43, 42, 21, 5, 4, 96]
abbrev dktL_law_113 : List UInt8 := dkwL_law_113 ++ dktL_law_114
def dkwL_law_112 : List UInt8 := [21, 5, 4, 96, 46, 182, 1, 109, 54, 7, 44, 182, 0, 216, 21, 6, 159, 0, 5, 3, 172, 21, 6]
abbrev dktL_law_112 : List UInt8 := dkwL_law_112 ++ dktL_law_113
def dkwL_law_111 : List UInt8 := [148, 153, 0, 5, 3, 172, 167, 3, 136, 43, 42, 21, 5, 4, 96, 46, 45, 184, 1, 107, 54, 6, 44, 42]
abbrev dktL_law_111 : List UInt8 := dkwL_law_111 ++ dktL_law_112
def dkwL_law_110 : List UInt8 := [54, 7, 44, 182, 0, 216, 21, 6, 159, 0, 5, 3, 172, 21, 6, 154, 0, 15, 45, 3, 47, 21, 7, 133]
abbrev dktL_law_110 : List UInt8 := dkwL_law_110 ++ dktL_law_111
def dkwL_law_109 : List UInt8 := [21, 7, 133, 148, 153, 0, 5, 3, 172, 167, 3, 180, 43, 45, 184, 1, 104, 54, 6, 44, 182, 1, 106]
abbrev dktL_law_109 : List UInt8 := dkwL_law_109 ++ dktL_law_110
def dkwL_law_108 : List UInt8 := [182, 1, 103, 54, 7, 44, 182, 0, 216, 21, 6, 159, 0, 5, 3, 172, 21, 6, 154, 0, 15, 45, 3, 47]
abbrev dktL_law_108 : List UInt8 := dkwL_law_108 ++ dktL_law_109
def dkwL_law_107 : List UInt8 := [153, 0, 11, 24, 7, 24, 7, 151, 154, 0, 5, 3, 172, 167, 3, 224, 43, 45, 184, 1, 101, 54, 6, 44]
abbrev dktL_law_107 : List UInt8 := dkwL_law_107 ++ dktL_law_108
def dkwL_law_106 : List UInt8 := [21, 6, 154, 0, 35, 25, 4, 3, 49, 24, 7, 151, 153, 0, 25, 25, 4, 3, 49, 25, 4, 3, 49, 151]
abbrev dktL_law_106 : List UInt8 := dkwL_law_106 ++ dktL_law_107
def dkwL_law_105 : List UInt8 := [25, 4, 184, 1, 98, 54, 6, 44, 182, 1, 100, 57, 7, 44, 182, 0, 216, 21, 6, 159, 0, 5, 3, 172]
abbrev dktL_law_105 : List UInt8 := dkwL_law_105 ++ dktL_law_106
def dkwL_law_104 : List UInt8 := [49, 25, 4, 3, 49, 151, 153, 0, 11, 23, 7, 23, 7, 149, 154, 0, 5, 3, 172, 167, 4, 33, 43]
abbrev dktL_law_104 : List UInt8 := dkwL_law_104 ++ dktL_law_105
def dkwL_law_103 : List UInt8 := [159, 0, 5, 3, 172, 21, 6, 154, 0, 36, 25, 4, 3, 49, 23, 7, 141, 151, 153, 0, 25, 25, 4, 3]
abbrev dktL_law_103 : List UInt8 := dkwL_law_103 ++ dktL_law_104
def dkwL_law_102 : List UInt8 := [167, 4, 99, 43, 25, 4, 184, 1, 94, 54, 6, 44, 182, 1, 97, 56, 7, 44, 182, 0, 216, 21, 6]
abbrev dktL_law_102 : List UInt8 := dkwL_law_102 ++ dktL_law_103
def dkwL_law_101 : List UInt8 := [159, 0, 5, 3, 172, 21, 6, 154, 0, 15, 45, 3, 47, 21, 7, 133, 148, 153, 0, 5, 3, 172]
abbrev dktL_law_101 : List UInt8 := dkwL_law_101 ++ dktL_law_102
def dkwL_law_100 : List UInt8 := [167, 4, 143, 43, 45, 184, 1, 91, 54, 6, 44, 182, 1, 93, 54, 7, 44, 182, 0, 216, 21, 6]
abbrev dktL_law_100 : List UInt8 := dkwL_law_100 ++ dktL_law_101
def dkwL_law_99 : List UInt8 := [21, 6, 159, 0, 5, 3, 172, 21, 6, 154, 0, 15, 45, 3, 47, 21, 7, 133, 148, 153, 0, 5, 3, 172]
abbrev dktL_law_99 : List UInt8 := dkwL_law_99 ++ dktL_law_100
def dkwL_law_98 : List UInt8 := [46, 45, 184, 1, 88, 54, 6, 44, 42, 21, 5, 4, 96, 46, 182, 1, 90, 54, 7, 44, 182, 0, 216]
abbrev dktL_law_98 : List UInt8 := dkwL_law_98 ++ dktL_law_99
def dkwL_law_97 : List UInt8 := [154, 0, 15, 45, 3, 47, 21, 7, 133, 148, 153, 0, 5, 3, 172, 167, 4, 199, 43, 42, 21, 5, 4, 96]
abbrev dktL_law_97 : List UInt8 := dkwL_law_97 ++ dktL_law_98
def dkwL_law_96 : List UInt8 := [21, 5, 4, 96, 46, 182, 1, 87, 54, 7, 44, 182, 0, 216, 21, 6, 159, 0, 5, 3, 172, 21, 6]
abbrev dktL_law_96 : List UInt8 := dkwL_law_96 ++ dktL_law_97
def dkwL_law_95 : List UInt8 := [153, 0, 5, 3, 172, 167, 4, 255, 43, 42, 21, 5, 4, 96, 46, 45, 184, 1, 85, 54, 6, 44, 42]
abbrev dktL_law_95 : List UInt8 := dkwL_law_95 ++ dktL_law_96
def dkwL_law_94 : List UInt8 := [182, 0, 216, 21, 6, 159, 0, 5, 3, 172, 21, 6, 154, 0, 15, 45, 3, 47, 21, 7, 133, 148]
abbrev dktL_law_94 : List UInt8 := dkwL_law_94 ++ dktL_law_95
def dkwL_law_93 : List UInt8 := [184, 1, 82, 54, 6, 44, 42, 21, 5, 4, 96, 46, 42, 21, 5, 5, 96, 46, 182, 1, 84, 54, 7, 44]
abbrev dktL_law_93 : List UInt8 := dkwL_law_93 ++ dktL_law_94
def dkwL_law_92 : List UInt8 := [153, 0, 5, 3, 172, 167, 5, 67, 43, 42, 21, 5, 4, 96, 46, 42, 21, 5, 5, 96, 46, 45]
abbrev dktL_law_92 : List UInt8 := dkwL_law_92 ++ dktL_law_93
def dkwL_law_91 : List UInt8 := [182, 0, 216, 21, 6, 159, 0, 5, 3, 172, 21, 6, 154, 0, 15, 45, 3, 47, 21, 7, 133, 148]
abbrev dktL_law_91 : List UInt8 := dkwL_law_91 ++ dktL_law_92
def dkwL_law_90 : List UInt8 := [148, 153, 0, 5, 3, 172, 167, 5, 111, 43, 45, 184, 1, 79, 54, 6, 44, 182, 1, 81, 54, 7, 44]
abbrev dktL_law_90 : List UInt8 := dkwL_law_90 ++ dktL_law_91
def dkwL_law_89 : List UInt8 := [54, 7, 44, 182, 0, 216, 21, 6, 159, 0, 5, 3, 172, 21, 6, 154, 0, 15, 45, 3, 47, 21, 7, 133]
abbrev dktL_law_89 : List UInt8 := dkwL_law_89 ++ dktL_law_90
def dkwL_law_88 : List UInt8 := [46, 45, 184, 1, 76, 54, 6, 44, 42, 21, 5, 4, 96, 46, 42, 21, 5, 5, 96, 46, 182, 1, 78]
abbrev dktL_law_88 : List UInt8 := dkwL_law_88 ++ dktL_law_89
def dkwL_law_87 : List UInt8 := [21, 7, 133, 148, 153, 0, 5, 3, 172, 167, 5, 179, 43, 42, 21, 5, 4, 96, 46, 42, 21, 5, 5, 96]
abbrev dktL_law_87 : List UInt8 := dkwL_law_87 ++ dktL_law_88
def dkwL_law_86 : List UInt8 := [182, 1, 75, 54, 7, 44, 182, 0, 216, 21, 6, 159, 0, 5, 3, 172, 21, 6, 154, 0, 15, 45, 3, 47]
abbrev dktL_law_86 : List UInt8 := dkwL_law_86 ++ dktL_law_87
def dkwL_law_85 : List UInt8 := [21, 5, 5, 96, 46, 45, 184, 1, 73, 54, 6, 44, 42, 21, 5, 4, 96, 46, 42, 21, 5, 5, 96, 46]
abbrev dktL_law_85 : List UInt8 := dkwL_law_85 ++ dktL_law_86
def dkwL_law_84 : List UInt8 := [45, 3, 47, 21, 7, 133, 148, 153, 0, 5, 3, 172, 167, 5, 247, 43, 42, 21, 5, 4, 96, 46, 42]
abbrev dktL_law_84 : List UInt8 := dkwL_law_84 ++ dktL_law_85
def dkwL_law_83 : List UInt8 := [54, 6, 44, 182, 1, 72, 54, 7, 44, 182, 0, 216, 21, 6, 159, 0, 5, 3, 172, 21, 6, 154, 0, 15]
abbrev dktL_law_83 : List UInt8 := dkwL_law_83 ++ dktL_law_84
def dkwL_law_82 : List UInt8 := [154, 0, 15, 45, 3, 47, 21, 7, 133, 148, 153, 0, 5, 3, 172, 167, 6, 35, 43, 45, 184, 1, 70]
abbrev dktL_law_82 : List UInt8 := dkwL_law_82 ++ dktL_law_83
def dkwL_law_81 : List UInt8 := [184, 1, 67, 54, 6, 44, 182, 1, 69, 54, 7, 44, 182, 0, 216, 21, 6, 159, 0, 5, 3, 172, 21, 6]
abbrev dktL_law_81 : List UInt8 := dkwL_law_81 ++ dktL_law_82
def dkwL_law_80 : List UInt8 := [172, 21, 6, 154, 0, 15, 45, 3, 47, 21, 7, 133, 148, 153, 0, 5, 3, 172, 167, 6, 79, 43, 45]
abbrev dktL_law_80 : List UInt8 := dkwL_law_80 ++ dktL_law_81
def dkwL_law_79 : List UInt8 := [54, 6, 44, 42, 21, 5, 4, 96, 46, 182, 1, 66, 54, 7, 44, 182, 0, 216, 21, 6, 159, 0, 5, 3]
abbrev dktL_law_79 : List UInt8 := dkwL_law_79 ++ dktL_law_80
def dkwL_law_78 : List UInt8 := [21, 7, 133, 148, 153, 0, 5, 3, 172, 167, 6, 135, 43, 42, 21, 5, 4, 96, 46, 45, 184, 1, 64]
abbrev dktL_law_78 : List UInt8 := dkwL_law_78 ++ dktL_law_79
def dkwL_law_77 : List UInt8 := [182, 1, 63, 54, 7, 44, 182, 0, 216, 21, 6, 159, 0, 5, 3, 172, 21, 6, 154, 0, 15, 45, 3, 47]
abbrev dktL_law_77 : List UInt8 := dkwL_law_77 ++ dktL_law_78
def dkwL_law_76 : List UInt8 := [3, 47, 21, 7, 133, 148, 153, 0, 5, 3, 172, 167, 6, 179, 43, 45, 184, 1, 61, 54, 6, 44]
abbrev dktL_law_76 : List UInt8 := dkwL_law_76 ++ dktL_law_77
def dkwL_law_75 : List UInt8 := [96, 46, 182, 1, 60, 54, 7, 44, 182, 0, 216, 21, 6, 159, 0, 5, 3, 172, 21, 6, 154, 0, 15, 45]
abbrev dktL_law_75 : List UInt8 := dkwL_law_75 ++ dktL_law_76
def dkwL_law_74 : List UInt8 := [46, 42, 21, 5, 5, 96, 46, 45, 184, 1, 58, 54, 6, 44, 42, 21, 5, 4, 96, 46, 42, 21, 5, 5]
abbrev dktL_law_74 : List UInt8 := dkwL_law_74 ++ dktL_law_75
def dkwL_law_73 : List UInt8 := [154, 0, 15, 45, 3, 47, 21, 7, 133, 148, 153, 0, 5, 3, 172, 167, 6, 247, 43, 42, 21, 5, 4, 96]
abbrev dktL_law_73 : List UInt8 := dkwL_law_73 ++ dktL_law_74
def dkwL_law_72 : List UInt8 := [21, 5, 5, 96, 46, 182, 1, 57, 54, 7, 44, 182, 0, 216, 21, 6, 159, 0, 5, 3, 172, 21, 6]
abbrev dktL_law_72 : List UInt8 := dkwL_law_72 ++ dktL_law_73
def dkwL_law_71 : List UInt8 := [4, 96, 46, 42, 21, 5, 5, 96, 46, 45, 184, 1, 55, 54, 6, 44, 42, 21, 5, 4, 96, 46, 42]
abbrev dktL_law_71 : List UInt8 := dkwL_law_71 ++ dktL_law_72
def dkwL_law_70 : List UInt8 := [21, 6, 154, 0, 15, 45, 3, 47, 21, 7, 133, 148, 153, 0, 5, 3, 172, 167, 7, 59, 43, 42, 21, 5]
abbrev dktL_law_70 : List UInt8 := dkwL_law_70 ++ dktL_law_71
def dkwL_law_69 : List UInt8 := [96, 46, 42, 21, 5, 6, 96, 46, 182, 1, 54, 54, 7, 44, 182, 0, 216, 21, 6, 159, 0, 5, 3, 172]
abbrev dktL_law_69 : List UInt8 := dkwL_law_69 ++ dktL_law_70
def dkwL_law_68 : List UInt8 := [46, 42, 21, 5, 6, 96, 46, 45, 184, 1, 51, 54, 6, 44, 42, 21, 5, 4, 96, 46, 42, 21, 5, 5]
abbrev dktL_law_68 : List UInt8 := dkwL_law_68 ++ dktL_law_69
def dkwL_law_67 : List UInt8 := [21, 7, 133, 148, 153, 0, 5, 3, 172, 167, 7, 139, 43, 42, 21, 5, 4, 96, 46, 42, 21, 5, 5, 96]
abbrev dktL_law_67 : List UInt8 := dkwL_law_67 ++ dktL_law_68
def dkwL_law_66 : List UInt8 := [182, 1, 50, 54, 7, 44, 182, 0, 216, 21, 6, 159, 0, 5, 3, 172, 21, 6, 154, 0, 15, 45, 3, 47]
abbrev dktL_law_66 : List UInt8 := dkwL_law_66 ++ dktL_law_67
def dkwL_law_65 : List UInt8 := [45, 3, 47, 21, 7, 133, 148, 153, 0, 5, 3, 172, 167, 7, 183, 43, 45, 184, 1, 48, 54, 6, 44]
abbrev dktL_law_65 : List UInt8 := dkwL_law_65 ++ dktL_law_66
def dkwL_law_64 : List UInt8 := [54, 6, 44, 182, 1, 47, 54, 7, 44, 182, 0, 216, 21, 6, 159, 0, 5, 3, 172, 21, 6, 154, 0, 15]
abbrev dktL_law_64 : List UInt8 := dkwL_law_64 ++ dktL_law_65
def dkwL_law_63 : List UInt8 := [154, 0, 15, 45, 3, 47, 21, 7, 133, 148, 153, 0, 5, 3, 172, 167, 7, 227, 43, 45, 184, 1, 45]
abbrev dktL_law_63 : List UInt8 := dkwL_law_63 ++ dktL_law_64
def dkwL_law_62 : List UInt8 := [21, 5, 4, 96, 46, 182, 1, 44, 54, 7, 44, 182, 0, 216, 21, 6, 159, 0, 5, 3, 172, 21, 6]
abbrev dktL_law_62 : List UInt8 := dkwL_law_62 ++ dktL_law_63
def dkwL_law_61 : List UInt8 := [153, 0, 5, 3, 172, 167, 8, 27, 43, 42, 21, 5, 4, 96, 46, 45, 184, 1, 42, 54, 6, 44, 42]
abbrev dktL_law_61 : List UInt8 := dkwL_law_61 ++ dktL_law_62
def dkwL_law_60 : List UInt8 := [182, 0, 216, 21, 6, 159, 0, 5, 3, 172, 21, 6, 154, 0, 15, 45, 3, 47, 21, 7, 133, 148]
abbrev dktL_law_60 : List UInt8 := dkwL_law_60 ++ dktL_law_61
def dkwL_law_59 : List UInt8 := [153, 0, 5, 3, 172, 167, 8, 71, 43, 45, 184, 1, 39, 54, 6, 44, 182, 1, 41, 54, 7, 44]
abbrev dktL_law_59 : List UInt8 := dkwL_law_59 ++ dktL_law_60
def dkwL_law_58 : List UInt8 := [182, 0, 216, 21, 6, 159, 0, 5, 3, 172, 21, 6, 154, 0, 15, 45, 3, 47, 21, 7, 133, 148]
abbrev dktL_law_58 : List UInt8 := dkwL_law_58 ++ dktL_law_59
def dkwL_law_57 : List UInt8 := [153, 0, 5, 3, 172, 167, 8, 115, 43, 45, 184, 1, 36, 54, 6, 44, 182, 1, 38, 54, 7, 44]
abbrev dktL_law_57 : List UInt8 := dkwL_law_57 ++ dktL_law_58
def dkwL_law_56 : List UInt8 := [182, 0, 216, 21, 6, 159, 0, 5, 3, 172, 21, 6, 154, 0, 15, 45, 3, 47, 21, 7, 133, 148]
abbrev dktL_law_56 : List UInt8 := dkwL_law_56 ++ dktL_law_57
def dkwL_law_55 : List UInt8 := [148, 153, 0, 5, 3, 172, 167, 8, 159, 43, 45, 184, 1, 33, 54, 6, 44, 182, 1, 35, 54, 7, 44]
abbrev dktL_law_55 : List UInt8 := dkwL_law_55 ++ dktL_law_56
def dkwL_law_54 : List UInt8 := [54, 7, 44, 182, 0, 216, 21, 6, 159, 0, 5, 3, 172, 21, 6, 154, 0, 15, 45, 3, 47, 21, 7, 133]
abbrev dktL_law_54 : List UInt8 := dkwL_law_54 ++ dktL_law_55
def dkwL_law_53 : List UInt8 := [184, 1, 30, 54, 6, 44, 42, 21, 5, 4, 96, 46, 153, 0, 7, 4, 167, 0, 4, 3, 182, 1, 32]
abbrev dktL_law_53 : List UInt8 := dkwL_law_53 ++ dktL_law_54
def dkwL_law_52 : List UInt8 := [153, 0, 5, 3, 172, 167, 8, 231, 43, 42, 21, 5, 4, 96, 46, 153, 0, 7, 4, 167, 0, 4, 3, 45]
abbrev dktL_law_52 : List UInt8 := dkwL_law_52 ++ dktL_law_53
def dkwL_law_51 : List UInt8 := [182, 0, 216, 21, 6, 159, 0, 5, 3, 172, 21, 6, 154, 0, 15, 45, 3, 47, 21, 7, 133, 148]
abbrev dktL_law_51 : List UInt8 := dkwL_law_51 ++ dktL_law_52
def dkwL_law_50 : List UInt8 := [148, 153, 0, 5, 3, 172, 167, 9, 19, 43, 45, 184, 1, 27, 54, 6, 44, 182, 1, 29, 54, 7, 44]
abbrev dktL_law_50 : List UInt8 := dkwL_law_50 ++ dktL_law_51
def dkwL_law_49 : List UInt8 := [54, 7, 44, 182, 0, 216, 21, 6, 159, 0, 5, 3, 172, 21, 6, 154, 0, 15, 45, 3, 47, 21, 7, 133]
abbrev dktL_law_49 : List UInt8 := dkwL_law_49 ++ dktL_law_50
def dkwL_law_48 : List UInt8 := [21, 7, 133, 148, 153, 0, 5, 3, 172, 167, 9, 63, 43, 45, 184, 1, 24, 54, 6, 44, 182, 1, 26]
abbrev dktL_law_48 : List UInt8 := dkwL_law_48 ++ dktL_law_49
def dkwL_law_47 : List UInt8 := [182, 1, 23, 54, 7, 44, 182, 0, 216, 21, 6, 159, 0, 5, 3, 172, 21, 6, 154, 0, 15, 45, 3, 47]
abbrev dktL_law_47 : List UInt8 := dkwL_law_47 ++ dktL_law_48
def dkwL_law_46 : List UInt8 := [54, 6, 44, 42, 21, 5, 4, 96, 46, 42, 21, 5, 5, 96, 46, 153, 0, 7, 4, 167, 0, 4, 3]
abbrev dktL_law_46 : List UInt8 := dkwL_law_46 ++ dktL_law_47
def dkwL_law_45 : List UInt8 := [21, 5, 4, 96, 46, 42, 21, 5, 5, 96, 46, 153, 0, 7, 4, 167, 0, 4, 3, 45, 184, 1, 20]
abbrev dktL_law_45 : List UInt8 := dkwL_law_45 ++ dktL_law_46
def dkwL_law_44 : List UInt8 := [172, 21, 6, 154, 0, 15, 45, 3, 47, 21, 7, 133, 148, 153, 0, 5, 3, 172, 167, 9, 147, 43, 42]
abbrev dktL_law_44 : List UInt8 := dkwL_law_44 ++ dktL_law_45
def dkwL_law_43 : List UInt8 := [54, 6, 44, 42, 21, 5, 4, 96, 46, 182, 1, 19, 54, 7, 44, 182, 0, 216, 21, 6, 159, 0, 5, 3]
abbrev dktL_law_43 : List UInt8 := dkwL_law_43 ++ dktL_law_44
def dkwL_law_42 : List UInt8 := [21, 7, 133, 148, 153, 0, 5, 3, 172, 167, 9, 203, 43, 42, 21, 5, 4, 96, 46, 45, 184, 1, 17]
abbrev dktL_law_42 : List UInt8 := dkwL_law_42 ++ dktL_law_43
def dkwL_law_41 : List UInt8 := [182, 1, 16, 54, 7, 44, 182, 0, 216, 21, 6, 159, 0, 5, 3, 172, 21, 6, 154, 0, 15, 45, 3, 47]
abbrev dktL_law_41 : List UInt8 := dkwL_law_41 ++ dktL_law_42
def dkwL_law_40 : List UInt8 := [167, 10, 3, 43, 42, 21, 5, 4, 96, 46, 45, 184, 1, 14, 54, 6, 44, 42, 21, 5, 4, 96, 46]
abbrev dktL_law_40 : List UInt8 := dkwL_law_40 ++ dktL_law_41
def dkwL_law_39 : List UInt8 := [159, 0, 5, 3, 172, 21, 6, 154, 0, 15, 45, 3, 47, 21, 7, 133, 148, 153, 0, 5, 3, 172]
abbrev dktL_law_39 : List UInt8 := dkwL_law_39 ++ dktL_law_40
def dkwL_law_38 : List UInt8 := [21, 5, 4, 96, 46, 42, 21, 5, 5, 96, 46, 182, 1, 13, 54, 7, 44, 182, 0, 216, 21, 6]
abbrev dktL_law_38 : List UInt8 := dkwL_law_38 ++ dktL_law_39
def dkwL_law_37 : List UInt8 := [167, 10, 71, 43, 42, 21, 5, 4, 96, 46, 42, 21, 5, 5, 96, 46, 45, 184, 1, 11, 54, 6, 44, 42]
abbrev dktL_law_37 : List UInt8 := dkwL_law_37 ++ dktL_law_38
def dkwL_law_36 : List UInt8 := [159, 0, 5, 3, 172, 21, 6, 154, 0, 15, 45, 3, 47, 21, 7, 133, 148, 153, 0, 5, 3, 172]
abbrev dktL_law_36 : List UInt8 := dkwL_law_36 ++ dktL_law_37
def dkwL_law_35 : List UInt8 := [167, 10, 115, 43, 45, 184, 1, 8, 54, 6, 44, 182, 1, 10, 54, 7, 44, 182, 0, 216, 21, 6]
abbrev dktL_law_35 : List UInt8 := dkwL_law_35 ++ dktL_law_36
def dkwL_law_34 : List UInt8 := [159, 0, 5, 3, 172, 21, 6, 154, 0, 15, 45, 3, 47, 21, 7, 133, 148, 153, 0, 5, 3, 172]
abbrev dktL_law_34 : List UInt8 := dkwL_law_34 ++ dktL_law_35
def dkwL_law_33 : List UInt8 := [21, 5, 4, 96, 46, 42, 21, 5, 5, 96, 46, 182, 1, 7, 54, 7, 44, 182, 0, 216, 21, 6]
abbrev dktL_law_33 : List UInt8 := dkwL_law_33 ++ dktL_law_34
def dkwL_law_32 : List UInt8 := [167, 10, 183, 43, 42, 21, 5, 4, 96, 46, 42, 21, 5, 5, 96, 46, 45, 184, 1, 4, 54, 6, 44, 42]
abbrev dktL_law_32 : List UInt8 := dkwL_law_32 ++ dktL_law_33
def dkwL_law_31 : List UInt8 := [21, 6, 159, 0, 5, 3, 172, 21, 6, 154, 0, 15, 45, 3, 47, 21, 7, 133, 148, 153, 0, 5, 3, 172]
abbrev dktL_law_31 : List UInt8 := dkwL_law_31 ++ dktL_law_32
def dkwL_law_30 : List UInt8 := [46, 45, 184, 1, 1, 54, 6, 44, 42, 21, 5, 4, 96, 46, 182, 1, 3, 54, 7, 44, 182, 0, 216]
abbrev dktL_law_30 : List UInt8 := dkwL_law_30 ++ dktL_law_31
def dkwL_law_29 : List UInt8 := [154, 0, 15, 45, 3, 47, 21, 7, 133, 148, 153, 0, 5, 3, 172, 167, 10, 239, 43, 42, 21, 5, 4, 96]
abbrev dktL_law_29 : List UInt8 := dkwL_law_29 ++ dktL_law_30
def dkwL_law_28 : List UInt8 := [21, 5, 4, 96, 46, 182, 1, 0, 54, 7, 44, 182, 0, 216, 21, 6, 159, 0, 5, 3, 172, 21, 6]
abbrev dktL_law_28 : List UInt8 := dkwL_law_28 ++ dktL_law_29
def dkwL_law_27 : List UInt8 := [148, 153, 0, 5, 3, 172, 167, 11, 39, 43, 42, 21, 5, 4, 96, 46, 45, 184, 0, 254, 54, 6, 44, 42]
abbrev dktL_law_27 : List UInt8 := dkwL_law_27 ++ dktL_law_28
def dkwL_law_26 : List UInt8 := [54, 7, 44, 182, 0, 216, 21, 6, 159, 0, 5, 3, 172, 21, 6, 154, 0, 15, 45, 3, 47, 21, 7, 133]
abbrev dktL_law_26 : List UInt8 := dkwL_law_26 ++ dktL_law_27
def dkwL_law_25 : List UInt8 := [21, 7, 133, 148, 153, 0, 5, 3, 172, 167, 11, 83, 43, 45, 184, 0, 250, 54, 6, 44, 182, 0, 253]
abbrev dktL_law_25 : List UInt8 := dkwL_law_25 ++ dktL_law_26
def dkwL_law_24 : List UInt8 := [182, 0, 249, 54, 7, 44, 182, 0, 216, 21, 6, 159, 0, 5, 3, 172, 21, 6, 154, 0, 15, 45, 3, 47]
abbrev dktL_law_24 : List UInt8 := dkwL_law_24 ++ dktL_law_25
def dkwL_law_23 : List UInt8 := [3, 45, 184, 0, 246, 54, 6, 44, 42, 21, 5, 4, 96, 46, 153, 0, 7, 4, 167, 0, 4, 3]
abbrev dktL_law_23 : List UInt8 := dkwL_law_23 ++ dktL_law_24
def dkwL_law_22 : List UInt8 := [9, 148, 153, 0, 5, 3, 172, 167, 11, 155, 43, 42, 21, 5, 4, 96, 46, 153, 0, 7, 4, 167, 0, 4]
abbrev dktL_law_22 : List UInt8 := dkwL_law_22 ++ dktL_law_23
def dkwL_law_21 : List UInt8 := [21, 6, 159, 0, 5, 3, 172, 21, 6, 154, 0, 22, 45, 3, 47, 21, 7, 153, 0, 7, 10, 167, 0, 4]
abbrev dktL_law_21 : List UInt8 := dkwL_law_21 ++ dktL_law_22
def dkwL_law_20 : List UInt8 := [96, 46, 45, 184, 0, 243, 54, 6, 44, 42, 21, 5, 4, 96, 46, 182, 0, 245, 54, 7, 44, 182, 0, 216]
abbrev dktL_law_20 : List UInt8 := dkwL_law_20 ++ dktL_law_21
def dkwL_law_19 : List UInt8 := [21, 7, 153, 0, 7, 10, 167, 0, 4, 9, 148, 153, 0, 5, 3, 172, 167, 11, 218, 43, 42, 21, 5, 4]
abbrev dktL_law_19 : List UInt8 := dkwL_law_19 ++ dktL_law_20
def dkwL_law_18 : List UInt8 := [182, 0, 242, 54, 7, 44, 182, 0, 216, 21, 6, 159, 0, 5, 3, 172, 21, 6, 154, 0, 22, 45, 3, 47]
abbrev dktL_law_18 : List UInt8 := dkwL_law_18 ++ dktL_law_19
def dkwL_law_17 : List UInt8 := [167, 12, 25, 43, 42, 21, 5, 4, 96, 46, 45, 184, 0, 240, 54, 6, 44, 42, 21, 5, 4, 96, 46]
abbrev dktL_law_17 : List UInt8 := dkwL_law_17 ++ dktL_law_18
def dkwL_law_16 : List UInt8 := [21, 6, 159, 0, 5, 3, 172, 21, 6, 154, 0, 15, 45, 3, 47, 21, 7, 133, 148, 153, 0, 5, 3, 172]
abbrev dktL_law_16 : List UInt8 := dkwL_law_16 ++ dktL_law_17
def dkwL_law_15 : List UInt8 := [46, 45, 184, 0, 237, 54, 6, 44, 42, 21, 5, 4, 96, 46, 182, 0, 239, 54, 7, 44, 182, 0, 216]
abbrev dktL_law_15 : List UInt8 := dkwL_law_15 ++ dktL_law_16
def dkwL_law_14 : List UInt8 := [154, 0, 15, 45, 3, 47, 21, 7, 133, 148, 153, 0, 5, 3, 172, 167, 12, 81, 43, 42, 21, 5, 4, 96]
abbrev dktL_law_14 : List UInt8 := dkwL_law_14 ++ dktL_law_15
def dkwL_law_13 : List UInt8 := [21, 5, 4, 96, 46, 182, 0, 236, 54, 7, 44, 182, 0, 216, 21, 6, 159, 0, 5, 3, 172, 21, 6]
abbrev dktL_law_13 : List UInt8 := dkwL_law_13 ++ dktL_law_14
def dkwL_law_12 : List UInt8 := [148, 153, 0, 5, 3, 172, 167, 12, 137, 43, 42, 21, 5, 4, 96, 46, 45, 184, 0, 234, 54, 6, 44, 42]
abbrev dktL_law_12 : List UInt8 := dkwL_law_12 ++ dktL_law_13
def dkwL_law_11 : List UInt8 := [54, 7, 44, 182, 0, 216, 21, 6, 159, 0, 5, 3, 172, 21, 6, 154, 0, 15, 45, 3, 47, 21, 7, 133]
abbrev dktL_law_11 : List UInt8 := dkwL_law_11 ++ dktL_law_12
def dkwL_law_10 : List UInt8 := [172, 43, 42, 21, 5, 4, 96, 46, 45, 184, 0, 231, 54, 6, 44, 42, 21, 5, 4, 96, 46, 182, 0, 233]
abbrev dktL_law_10 : List UInt8 := dkwL_law_10 ++ dktL_law_11
def dkwL_law_9 : List UInt8 := [182, 0, 223, 44, 182, 0, 226, 159, 12, 208, 3, 172, 43, 182, 0, 227, 44, 182, 0, 230, 159, 12, 195, 3]
abbrev dktL_law_9 : List UInt8 := dkwL_law_9 ++ dktL_law_10
def dkwL_law_8 : List UInt8 := [148, 153, 0, 5, 3, 172, 167, 12, 232, 43, 182, 0, 219, 44, 182, 0, 222, 159, 12, 221, 3, 172, 43]
abbrev dktL_law_8 : List UInt8 := dkwL_law_8 ++ dktL_law_9
def dkwL_law_7 : List UInt8 := [54, 7, 44, 182, 0, 216, 21, 6, 159, 0, 5, 3, 172, 21, 6, 154, 0, 15, 45, 3, 47, 21, 7, 133]
abbrev dktL_law_7 : List UInt8 := dkwL_law_7 ++ dktL_law_8
def dkwL_law_6 : List UInt8 := [172, 43, 42, 21, 5, 4, 96, 46, 45, 184, 0, 210, 54, 6, 44, 42, 21, 5, 4, 96, 46, 182, 0, 215]
abbrev dktL_law_6 : List UInt8 := dkwL_law_6 ++ dktL_law_7
def dkwL_law_5 : List UInt8 := [21, 5, 6, 96, 46, 42, 21, 5, 7, 96, 46, 42, 21, 5, 8, 96, 46, 182, 0, 209, 159, 13, 34, 3]
abbrev dktL_law_5 : List UInt8 := dkwL_law_5 ++ dktL_law_6
def dkwL_law_4 : List UInt8 := [46, 42, 21, 5, 8, 96, 46, 182, 0, 205, 44, 42, 21, 5, 4, 96, 46, 42, 21, 5, 5, 96, 46, 42]
abbrev dktL_law_4 : List UInt8 := dkwL_law_4 ++ dktL_law_5
def dkwL_law_3 : List UInt8 := [43, 42, 21, 5, 4, 96, 46, 42, 21, 5, 5, 96, 46, 42, 21, 5, 6, 96, 46, 42, 21, 5, 7, 96]
abbrev dktL_law_3 : List UInt8 := dkwL_law_3 ++ dktL_law_4
def dkwL_law_2 : List UInt8 := [170, 0, 0, 0, 0, 14, 117, 0, 0, 0, 0, 0, 0, 0, 63, 0, 0, 1, 15, 0, 0, 1, 88, 0, 0, 1, 144, 0, 0, 1, 157, 0, 0, 1, 170, 0, 0, 1, 183, 0, 0, 1, 239, 0, 0, 2, 39, 0, 0, 2, 95, 0, 0, 2, 158, 0, 0, 2, 221, 0, 0, 3, 37, 0, 0, 3, 81, 0, 0, 3, 137, 0, 0, 3, 193, 0, 0, 4, 5, 0, 0, 4, 49, 0, 0, 4, 117, 0, 0, 4, 173, 0, 0, 4, 229, 0, 0, 5, 57, 0, 0, 5, 101, 0, 0, 5, 145, 0, 0, 5, 217, 0, 0, 6, 5, 0, 0, 6, 49, 0, 0, 6, 93, 0, 0, 6, 149, 0, 0, 6, 193, 0, 0, 6, 237, 0, 0, 7, 61, 0, 0, 7, 129, 0, 0, 7, 197, 0, 0, 7, 241, 0, 0, 8, 41, 0, 0, 8, 85, 0, 0, 8, 129, 0, 0, 8, 197, 0, 0, 9, 9, 0, 0, 9, 53, 0, 0, 9, 121, 0, 0, 9, 177, 0, 0, 9, 233, 0, 0, 10, 21, 0, 0, 10, 87, 0, 0, 10, 152, 0, 0, 10, 196, 0, 0, 10, 240, 0, 0, 11, 40, 0, 0, 11, 96, 0, 0, 11, 164, 0, 0, 11, 220, 0, 0, 12, 8, 0, 0, 12, 52, 0, 0, 12, 124, 0, 0, 12, 180, 0, 0, 12, 224, 0, 0, 13, 24, 0, 0, 13, 80, 0, 0, 13, 136, 0, 0, 13, 204, 0, 0, 13, 248, 0, 0, 14, 5, 0, 0, 14, 61]
abbrev dktL_law_2 : List UInt8 := dkwL_law_2 ++ dktL_law_3
def dkwL_law_1 : List UInt8 := [58, 4, 3, 54, 5, 21, 5, 42, 190, 16, 6, 100, 163, 14, 133, 42, 21, 5, 46, 16, 63, 126]
abbrev dktL_law_1 : List UInt8 := dkwL_law_1 ++ dktL_law_2
def dkwL_law_0 : List UInt8 := [187, 0, 8, 89, 183, 0, 201, 76, 187, 0, 202, 89, 183, 0, 204, 77, 4, 188, 11, 78, 4, 188, 7]
abbrev dktL_law_0 : List UInt8 := dkwL_law_0 ++ dktL_law_1
theorem dksL_law_0 : cL_law.data.toList.drop 0 = dktL_law_0 := by decide +kernel
theorem dksL_law_1 : cL_law.data.toList.drop 23 = dktL_law_1 := dk_seg dksL_law_0 23 rfl rfl
theorem dksL_law_2 : cL_law.data.toList.drop 45 = dktL_law_2 := dk_seg dksL_law_1 22 rfl rfl
theorem dksL_law_3 : cL_law.data.toList.drop 316 = dktL_law_3 := dk_seg dksL_law_2 271 rfl rfl
theorem dksL_law_4 : cL_law.data.toList.drop 340 = dktL_law_4 := dk_seg dksL_law_3 24 rfl rfl
theorem dksL_law_5 : cL_law.data.toList.drop 364 = dktL_law_5 := dk_seg dksL_law_4 24 rfl rfl
theorem dksL_law_6 : cL_law.data.toList.drop 388 = dktL_law_6 := dk_seg dksL_law_5 24 rfl rfl
theorem dksL_law_7 : cL_law.data.toList.drop 412 = dktL_law_7 := dk_seg dksL_law_6 24 rfl rfl
theorem dksL_law_8 : cL_law.data.toList.drop 436 = dktL_law_8 := dk_seg dksL_law_7 24 rfl rfl
theorem dksL_law_9 : cL_law.data.toList.drop 459 = dktL_law_9 := dk_seg dksL_law_8 23 rfl rfl
theorem dksL_law_10 : cL_law.data.toList.drop 483 = dktL_law_10 := dk_seg dksL_law_9 24 rfl rfl
theorem dksL_law_11 : cL_law.data.toList.drop 507 = dktL_law_11 := dk_seg dksL_law_10 24 rfl rfl
theorem dksL_law_12 : cL_law.data.toList.drop 531 = dktL_law_12 := dk_seg dksL_law_11 24 rfl rfl
theorem dksL_law_13 : cL_law.data.toList.drop 555 = dktL_law_13 := dk_seg dksL_law_12 24 rfl rfl
theorem dksL_law_14 : cL_law.data.toList.drop 578 = dktL_law_14 := dk_seg dksL_law_13 23 rfl rfl
theorem dksL_law_15 : cL_law.data.toList.drop 602 = dktL_law_15 := dk_seg dksL_law_14 24 rfl rfl
theorem dksL_law_16 : cL_law.data.toList.drop 625 = dktL_law_16 := dk_seg dksL_law_15 23 rfl rfl
theorem dksL_law_17 : cL_law.data.toList.drop 649 = dktL_law_17 := dk_seg dksL_law_16 24 rfl rfl
theorem dksL_law_18 : cL_law.data.toList.drop 672 = dktL_law_18 := dk_seg dksL_law_17 23 rfl rfl
theorem dksL_law_19 : cL_law.data.toList.drop 696 = dktL_law_19 := dk_seg dksL_law_18 24 rfl rfl
theorem dksL_law_20 : cL_law.data.toList.drop 720 = dktL_law_20 := dk_seg dksL_law_19 24 rfl rfl
theorem dksL_law_21 : cL_law.data.toList.drop 744 = dktL_law_21 := dk_seg dksL_law_20 24 rfl rfl
theorem dksL_law_22 : cL_law.data.toList.drop 768 = dktL_law_22 := dk_seg dksL_law_21 24 rfl rfl
theorem dksL_law_23 : cL_law.data.toList.drop 792 = dktL_law_23 := dk_seg dksL_law_22 24 rfl rfl
theorem dksL_law_24 : cL_law.data.toList.drop 814 = dktL_law_24 := dk_seg dksL_law_23 22 rfl rfl
theorem dksL_law_25 : cL_law.data.toList.drop 838 = dktL_law_25 := dk_seg dksL_law_24 24 rfl rfl
theorem dksL_law_26 : cL_law.data.toList.drop 861 = dktL_law_26 := dk_seg dksL_law_25 23 rfl rfl
theorem dksL_law_27 : cL_law.data.toList.drop 885 = dktL_law_27 := dk_seg dksL_law_26 24 rfl rfl
theorem dksL_law_28 : cL_law.data.toList.drop 909 = dktL_law_28 := dk_seg dksL_law_27 24 rfl rfl
theorem dksL_law_29 : cL_law.data.toList.drop 932 = dktL_law_29 := dk_seg dksL_law_28 23 rfl rfl
theorem dksL_law_30 : cL_law.data.toList.drop 956 = dktL_law_30 := dk_seg dksL_law_29 24 rfl rfl
theorem dksL_law_31 : cL_law.data.toList.drop 979 = dktL_law_31 := dk_seg dksL_law_30 23 rfl rfl
theorem dksL_law_32 : cL_law.data.toList.drop 1003 = dktL_law_32 := dk_seg dksL_law_31 24 rfl rfl
theorem dksL_law_33 : cL_law.data.toList.drop 1027 = dktL_law_33 := dk_seg dksL_law_32 24 rfl rfl
theorem dksL_law_34 : cL_law.data.toList.drop 1049 = dktL_law_34 := dk_seg dksL_law_33 22 rfl rfl
theorem dksL_law_35 : cL_law.data.toList.drop 1071 = dktL_law_35 := dk_seg dksL_law_34 22 rfl rfl
theorem dksL_law_36 : cL_law.data.toList.drop 1093 = dktL_law_36 := dk_seg dksL_law_35 22 rfl rfl
theorem dksL_law_37 : cL_law.data.toList.drop 1115 = dktL_law_37 := dk_seg dksL_law_36 22 rfl rfl
theorem dksL_law_38 : cL_law.data.toList.drop 1139 = dktL_law_38 := dk_seg dksL_law_37 24 rfl rfl
theorem dksL_law_39 : cL_law.data.toList.drop 1161 = dktL_law_39 := dk_seg dksL_law_38 22 rfl rfl
theorem dksL_law_40 : cL_law.data.toList.drop 1183 = dktL_law_40 := dk_seg dksL_law_39 22 rfl rfl
theorem dksL_law_41 : cL_law.data.toList.drop 1206 = dktL_law_41 := dk_seg dksL_law_40 23 rfl rfl
theorem dksL_law_42 : cL_law.data.toList.drop 1230 = dktL_law_42 := dk_seg dksL_law_41 24 rfl rfl
theorem dksL_law_43 : cL_law.data.toList.drop 1253 = dktL_law_43 := dk_seg dksL_law_42 23 rfl rfl
theorem dksL_law_44 : cL_law.data.toList.drop 1277 = dktL_law_44 := dk_seg dksL_law_43 24 rfl rfl
theorem dksL_law_45 : cL_law.data.toList.drop 1300 = dktL_law_45 := dk_seg dksL_law_44 23 rfl rfl
theorem dksL_law_46 : cL_law.data.toList.drop 1323 = dktL_law_46 := dk_seg dksL_law_45 23 rfl rfl
theorem dksL_law_47 : cL_law.data.toList.drop 1346 = dktL_law_47 := dk_seg dksL_law_46 23 rfl rfl
theorem dksL_law_48 : cL_law.data.toList.drop 1370 = dktL_law_48 := dk_seg dksL_law_47 24 rfl rfl
theorem dksL_law_49 : cL_law.data.toList.drop 1393 = dktL_law_49 := dk_seg dksL_law_48 23 rfl rfl
theorem dksL_law_50 : cL_law.data.toList.drop 1417 = dktL_law_50 := dk_seg dksL_law_49 24 rfl rfl
theorem dksL_law_51 : cL_law.data.toList.drop 1440 = dktL_law_51 := dk_seg dksL_law_50 23 rfl rfl
theorem dksL_law_52 : cL_law.data.toList.drop 1462 = dktL_law_52 := dk_seg dksL_law_51 22 rfl rfl
theorem dksL_law_53 : cL_law.data.toList.drop 1486 = dktL_law_53 := dk_seg dksL_law_52 24 rfl rfl
theorem dksL_law_54 : cL_law.data.toList.drop 1509 = dktL_law_54 := dk_seg dksL_law_53 23 rfl rfl
theorem dksL_law_55 : cL_law.data.toList.drop 1533 = dktL_law_55 := dk_seg dksL_law_54 24 rfl rfl
theorem dksL_law_56 : cL_law.data.toList.drop 1556 = dktL_law_56 := dk_seg dksL_law_55 23 rfl rfl
theorem dksL_law_57 : cL_law.data.toList.drop 1578 = dktL_law_57 := dk_seg dksL_law_56 22 rfl rfl
theorem dksL_law_58 : cL_law.data.toList.drop 1600 = dktL_law_58 := dk_seg dksL_law_57 22 rfl rfl
theorem dksL_law_59 : cL_law.data.toList.drop 1622 = dktL_law_59 := dk_seg dksL_law_58 22 rfl rfl
theorem dksL_law_60 : cL_law.data.toList.drop 1644 = dktL_law_60 := dk_seg dksL_law_59 22 rfl rfl
theorem dksL_law_61 : cL_law.data.toList.drop 1666 = dktL_law_61 := dk_seg dksL_law_60 22 rfl rfl
theorem dksL_law_62 : cL_law.data.toList.drop 1689 = dktL_law_62 := dk_seg dksL_law_61 23 rfl rfl
theorem dksL_law_63 : cL_law.data.toList.drop 1712 = dktL_law_63 := dk_seg dksL_law_62 23 rfl rfl
theorem dksL_law_64 : cL_law.data.toList.drop 1735 = dktL_law_64 := dk_seg dksL_law_63 23 rfl rfl
theorem dksL_law_65 : cL_law.data.toList.drop 1759 = dktL_law_65 := dk_seg dksL_law_64 24 rfl rfl
theorem dksL_law_66 : cL_law.data.toList.drop 1782 = dktL_law_66 := dk_seg dksL_law_65 23 rfl rfl
theorem dksL_law_67 : cL_law.data.toList.drop 1806 = dktL_law_67 := dk_seg dksL_law_66 24 rfl rfl
theorem dksL_law_68 : cL_law.data.toList.drop 1830 = dktL_law_68 := dk_seg dksL_law_67 24 rfl rfl
theorem dksL_law_69 : cL_law.data.toList.drop 1854 = dktL_law_69 := dk_seg dksL_law_68 24 rfl rfl
theorem dksL_law_70 : cL_law.data.toList.drop 1878 = dktL_law_70 := dk_seg dksL_law_69 24 rfl rfl
theorem dksL_law_71 : cL_law.data.toList.drop 1902 = dktL_law_71 := dk_seg dksL_law_70 24 rfl rfl
theorem dksL_law_72 : cL_law.data.toList.drop 1925 = dktL_law_72 := dk_seg dksL_law_71 23 rfl rfl
theorem dksL_law_73 : cL_law.data.toList.drop 1948 = dktL_law_73 := dk_seg dksL_law_72 23 rfl rfl
theorem dksL_law_74 : cL_law.data.toList.drop 1972 = dktL_law_74 := dk_seg dksL_law_73 24 rfl rfl
theorem dksL_law_75 : cL_law.data.toList.drop 1996 = dktL_law_75 := dk_seg dksL_law_74 24 rfl rfl
theorem dksL_law_76 : cL_law.data.toList.drop 2020 = dktL_law_76 := dk_seg dksL_law_75 24 rfl rfl
theorem dksL_law_77 : cL_law.data.toList.drop 2042 = dktL_law_77 := dk_seg dksL_law_76 22 rfl rfl
theorem dksL_law_78 : cL_law.data.toList.drop 2066 = dktL_law_78 := dk_seg dksL_law_77 24 rfl rfl
theorem dksL_law_79 : cL_law.data.toList.drop 2089 = dktL_law_79 := dk_seg dksL_law_78 23 rfl rfl
theorem dksL_law_80 : cL_law.data.toList.drop 2113 = dktL_law_80 := dk_seg dksL_law_79 24 rfl rfl
theorem dksL_law_81 : cL_law.data.toList.drop 2136 = dktL_law_81 := dk_seg dksL_law_80 23 rfl rfl
theorem dksL_law_82 : cL_law.data.toList.drop 2160 = dktL_law_82 := dk_seg dksL_law_81 24 rfl rfl
theorem dksL_law_83 : cL_law.data.toList.drop 2183 = dktL_law_83 := dk_seg dksL_law_82 23 rfl rfl
theorem dksL_law_84 : cL_law.data.toList.drop 2207 = dktL_law_84 := dk_seg dksL_law_83 24 rfl rfl
theorem dksL_law_85 : cL_law.data.toList.drop 2230 = dktL_law_85 := dk_seg dksL_law_84 23 rfl rfl
theorem dksL_law_86 : cL_law.data.toList.drop 2254 = dktL_law_86 := dk_seg dksL_law_85 24 rfl rfl
theorem dksL_law_87 : cL_law.data.toList.drop 2278 = dktL_law_87 := dk_seg dksL_law_86 24 rfl rfl
theorem dksL_law_88 : cL_law.data.toList.drop 2302 = dktL_law_88 := dk_seg dksL_law_87 24 rfl rfl
theorem dksL_law_89 : cL_law.data.toList.drop 2325 = dktL_law_89 := dk_seg dksL_law_88 23 rfl rfl
theorem dksL_law_90 : cL_law.data.toList.drop 2349 = dktL_law_90 := dk_seg dksL_law_89 24 rfl rfl
theorem dksL_law_91 : cL_law.data.toList.drop 2372 = dktL_law_91 := dk_seg dksL_law_90 23 rfl rfl
theorem dksL_law_92 : cL_law.data.toList.drop 2394 = dktL_law_92 := dk_seg dksL_law_91 22 rfl rfl
theorem dksL_law_93 : cL_law.data.toList.drop 2416 = dktL_law_93 := dk_seg dksL_law_92 22 rfl rfl
theorem dksL_law_94 : cL_law.data.toList.drop 2440 = dktL_law_94 := dk_seg dksL_law_93 24 rfl rfl
theorem dksL_law_95 : cL_law.data.toList.drop 2462 = dktL_law_95 := dk_seg dksL_law_94 22 rfl rfl
theorem dksL_law_96 : cL_law.data.toList.drop 2485 = dktL_law_96 := dk_seg dksL_law_95 23 rfl rfl
theorem dksL_law_97 : cL_law.data.toList.drop 2508 = dktL_law_97 := dk_seg dksL_law_96 23 rfl rfl
theorem dksL_law_98 : cL_law.data.toList.drop 2532 = dktL_law_98 := dk_seg dksL_law_97 24 rfl rfl
theorem dksL_law_99 : cL_law.data.toList.drop 2555 = dktL_law_99 := dk_seg dksL_law_98 23 rfl rfl
theorem dksL_law_100 : cL_law.data.toList.drop 2579 = dktL_law_100 := dk_seg dksL_law_99 24 rfl rfl
theorem dksL_law_101 : cL_law.data.toList.drop 2601 = dktL_law_101 := dk_seg dksL_law_100 22 rfl rfl
theorem dksL_law_102 : cL_law.data.toList.drop 2623 = dktL_law_102 := dk_seg dksL_law_101 22 rfl rfl
theorem dksL_law_103 : cL_law.data.toList.drop 2646 = dktL_law_103 := dk_seg dksL_law_102 23 rfl rfl
theorem dksL_law_104 : cL_law.data.toList.drop 2670 = dktL_law_104 := dk_seg dksL_law_103 24 rfl rfl
theorem dksL_law_105 : cL_law.data.toList.drop 2693 = dktL_law_105 := dk_seg dksL_law_104 23 rfl rfl
theorem dksL_law_106 : cL_law.data.toList.drop 2717 = dktL_law_106 := dk_seg dksL_law_105 24 rfl rfl
theorem dksL_law_107 : cL_law.data.toList.drop 2741 = dktL_law_107 := dk_seg dksL_law_106 24 rfl rfl
theorem dksL_law_108 : cL_law.data.toList.drop 2765 = dktL_law_108 := dk_seg dksL_law_107 24 rfl rfl
theorem dksL_law_109 : cL_law.data.toList.drop 2789 = dktL_law_109 := dk_seg dksL_law_108 24 rfl rfl
theorem dksL_law_110 : cL_law.data.toList.drop 2812 = dktL_law_110 := dk_seg dksL_law_109 23 rfl rfl
theorem dksL_law_111 : cL_law.data.toList.drop 2836 = dktL_law_111 := dk_seg dksL_law_110 24 rfl rfl
theorem dksL_law_112 : cL_law.data.toList.drop 2860 = dktL_law_112 := dk_seg dksL_law_111 24 rfl rfl
theorem dksL_law_113 : cL_law.data.toList.drop 2883 = dktL_law_113 := dk_seg dksL_law_112 23 rfl rfl
theorem dksL_law_114 : cL_law.data.toList.drop 2907 = dktL_law_114 := dk_seg dksL_law_113 24 rfl rfl
theorem dksL_law_115 : cL_law.data.toList.drop 2930 = dktL_law_115 := dk_seg dksL_law_114 23 rfl rfl
theorem dksL_law_116 : cL_law.data.toList.drop 2954 = dktL_law_116 := dk_seg dksL_law_115 24 rfl rfl
theorem dksL_law_117 : cL_law.data.toList.drop 2978 = dktL_law_117 := dk_seg dksL_law_116 24 rfl rfl
theorem dksL_law_118 : cL_law.data.toList.drop 3000 = dktL_law_118 := dk_seg dksL_law_117 22 rfl rfl
theorem dksL_law_119 : cL_law.data.toList.drop 3022 = dktL_law_119 := dk_seg dksL_law_118 22 rfl rfl
theorem dksL_law_120 : cL_law.data.toList.drop 3045 = dktL_law_120 := dk_seg dksL_law_119 23 rfl rfl
theorem dksL_law_121 : cL_law.data.toList.drop 3069 = dktL_law_121 := dk_seg dksL_law_120 24 rfl rfl
theorem dksL_law_122 : cL_law.data.toList.drop 3092 = dktL_law_122 := dk_seg dksL_law_121 23 rfl rfl
theorem dksL_law_123 : cL_law.data.toList.drop 3116 = dktL_law_123 := dk_seg dksL_law_122 24 rfl rfl
theorem dksL_law_124 : cL_law.data.toList.drop 3139 = dktL_law_124 := dk_seg dksL_law_123 23 rfl rfl
theorem dksL_law_125 : cL_law.data.toList.drop 3161 = dktL_law_125 := dk_seg dksL_law_124 22 rfl rfl
theorem dksL_law_126 : cL_law.data.toList.drop 3185 = dktL_law_126 := dk_seg dksL_law_125 24 rfl rfl
theorem dksL_law_127 : cL_law.data.toList.drop 3208 = dktL_law_127 := dk_seg dksL_law_126 23 rfl rfl
theorem dksL_law_128 : cL_law.data.toList.drop 3232 = dktL_law_128 := dk_seg dksL_law_127 24 rfl rfl
theorem dksL_law_129 : cL_law.data.toList.drop 3256 = dktL_law_129 := dk_seg dksL_law_128 24 rfl rfl
theorem dksL_law_130 : cL_law.data.toList.drop 3279 = dktL_law_130 := dk_seg dksL_law_129 23 rfl rfl
theorem dksL_law_131 : cL_law.data.toList.drop 3302 = dktL_law_131 := dk_seg dksL_law_130 23 rfl rfl
theorem dksL_law_132 : cL_law.data.toList.drop 3326 = dktL_law_132 := dk_seg dksL_law_131 24 rfl rfl
theorem dksL_law_133 : cL_law.data.toList.drop 3349 = dktL_law_133 := dk_seg dksL_law_132 23 rfl rfl
theorem dksL_law_134 : cL_law.data.toList.drop 3372 = dktL_law_134 := dk_seg dksL_law_133 23 rfl rfl
theorem dksL_law_135 : cL_law.data.toList.drop 3394 = dktL_law_135 := dk_seg dksL_law_134 22 rfl rfl
theorem dksL_law_136 : cL_law.data.toList.drop 3417 = dktL_law_136 := dk_seg dksL_law_135 23 rfl rfl
theorem dksL_law_137 : cL_law.data.toList.drop 3441 = dktL_law_137 := dk_seg dksL_law_136 24 rfl rfl
theorem dksL_law_138 : cL_law.data.toList.drop 3464 = dktL_law_138 := dk_seg dksL_law_137 23 rfl rfl
theorem dksL_law_139 : cL_law.data.toList.drop 3488 = dktL_law_139 := dk_seg dksL_law_138 24 rfl rfl
theorem dksL_law_140 : cL_law.data.toList.drop 3511 = dktL_law_140 := dk_seg dksL_law_139 23 rfl rfl
theorem dksL_law_141 : cL_law.data.toList.drop 3535 = dktL_law_141 := dk_seg dksL_law_140 24 rfl rfl
theorem dksL_law_142 : cL_law.data.toList.drop 3559 = dktL_law_142 := dk_seg dksL_law_141 24 rfl rfl
theorem dksL_law_143 : cL_law.data.toList.drop 3582 = dktL_law_143 := dk_seg dksL_law_142 23 rfl rfl
theorem dksL_law_144 : cL_law.data.toList.drop 3606 = dktL_law_144 := dk_seg dksL_law_143 24 rfl rfl
theorem dksL_law_145 : cL_law.data.toList.drop 3629 = dktL_law_145 := dk_seg dksL_law_144 23 rfl rfl
theorem dksL_law_146 : cL_law.data.toList.drop 3653 = dktL_law_146 := dk_seg dksL_law_145 24 rfl rfl
theorem dksL_law_147 : cL_law.data.toList.drop 3677 = dktL_law_147 := dk_seg dksL_law_146 24 rfl rfl
theorem dksL_law_148 : cL_law.data.toList.drop 3701 = dktL_law_148 := dk_seg dksL_law_147 24 rfl rfl
theorem dksL_law_149 : cL_law.data.toList.drop 3725 = dktL_law_149 := dk_seg dksL_law_148 24 rfl rfl
theorem dksL_law_150 : cL_law.data.toList.drop 3749 = dktL_law_150 := dk_seg dksL_law_149 24 rfl rfl
theorem dL_law_0 : decode cL_law 0 = .ok (.new 8, 3) := dk_187 0 8 (dk_at dksL_law_0 0 rfl rfl)
theorem dL_law_3 : decode cL_law 3 = .ok (.dup, 1) := dk_89 (dk_at dksL_law_0 3 rfl rfl)
theorem dL_law_4 : decode cL_law 4 = .ok (.invokespecial 201, 3) := dk_183 0 201 (dk_at dksL_law_0 4 rfl rfl)
theorem dL_law_7 : decode cL_law 7 = .ok (.astore_n 1, 1) := dk_76 (dk_at dksL_law_0 7 rfl rfl)
theorem dL_law_8 : decode cL_law 8 = .ok (.new 202, 3) := dk_187 0 202 (dk_at dksL_law_0 8 rfl rfl)
theorem dL_law_11 : decode cL_law 11 = .ok (.dup, 1) := dk_89 (dk_at dksL_law_0 11 rfl rfl)
theorem dL_law_12 : decode cL_law 12 = .ok (.invokespecial 204, 3) := dk_183 0 204 (dk_at dksL_law_0 12 rfl rfl)
theorem dL_law_15 : decode cL_law 15 = .ok (.astore_n 2, 1) := dk_77 (dk_at dksL_law_0 15 rfl rfl)
theorem dL_law_16 : decode cL_law 16 = .ok (.iconst 1, 1) := dk_4 (dk_at dksL_law_0 16 rfl rfl)
theorem dL_law_17 : decode cL_law 17 = .ok (.newarray .long, 2) := dk_188_11 (dk_at dksL_law_0 17 rfl rfl)
theorem dL_law_19 : decode cL_law 19 = .ok (.astore_n 3, 1) := dk_78 (dk_at dksL_law_0 19 rfl rfl)
theorem dL_law_20 : decode cL_law 20 = .ok (.iconst 1, 1) := dk_4 (dk_at dksL_law_0 20 rfl rfl)
theorem dL_law_21 : decode cL_law 21 = .ok (.newarray .double, 2) := dk_188_7 (dk_at dksL_law_0 21 rfl rfl)
theorem dL_law_23 : decode cL_law 23 = .ok (.astore 4, 2) := dk_58 4 (dk_at dksL_law_1 0 rfl rfl)
theorem dL_law_25 : decode cL_law 25 = .ok (.iconst 0, 1) := dk_3 (dk_at dksL_law_1 2 rfl rfl)
theorem dL_law_26 : decode cL_law 26 = .ok (.istore 5, 2) := dk_54 5 (dk_at dksL_law_1 3 rfl rfl)
theorem dL_law_28 : decode cL_law 28 = .ok (.iload 5, 2) := dk_21 5 (dk_at dksL_law_1 5 rfl rfl)
theorem dL_law_30 : decode cL_law 30 = .ok (.aload_n 0, 1) := dk_42 (dk_at dksL_law_1 7 rfl rfl)
theorem dL_law_31 : decode cL_law 31 = .ok (.arraylength, 1) := dk_190 (dk_at dksL_law_1 8 rfl rfl)
theorem dL_law_32 : decode cL_law 32 = .ok (.bipush 6, 2) := dk_16 6 (dk_at dksL_law_1 9 rfl rfl)
theorem dL_law_34 : decode cL_law 34 = .ok (.isub, 1) := dk_100 (dk_at dksL_law_1 11 rfl rfl)
theorem dL_law_35 : decode cL_law 35 = .ok (.if_icmp .gt 3717, 3) := dk_163 14 133 (dk_at dksL_law_1 12 rfl rfl)
theorem dL_law_38 : decode cL_law 38 = .ok (.aload_n 0, 1) := dk_42 (dk_at dksL_law_1 15 rfl rfl)
theorem dL_law_39 : decode cL_law 39 = .ok (.iload 5, 2) := dk_21 5 (dk_at dksL_law_1 16 rfl rfl)
theorem dL_law_41 : decode cL_law 41 = .ok (.iaload, 1) := dk_46 (dk_at dksL_law_1 18 rfl rfl)
theorem dL_law_42 : decode cL_law 42 = .ok (.bipush 63, 2) := dk_16 63 (dk_at dksL_law_1 19 rfl rfl)
theorem dL_law_44 : decode cL_law 44 = .ok (.iand, 1) := dk_126 (dk_at dksL_law_1 21 rfl rfl)
theorem dL_law_45 : decode cL_law 45 = .ok (.tableswitch 3701 0 63 #[271, 344, 400, 413, 426, 439, 495, 551, 607, 670, 733, 805, 849, 905, 961, 1029, 1073, 1141, 1197, 1253, 1337, 1381, 1425, 1497, 1541, 1585, 1629, 1685, 1729, 1773, 1853, 1921, 1989, 2033, 2089, 2133, 2177, 2245, 2313, 2357, 2425, 2481, 2537, 2581, 2647, 2712, 2756, 2800, 2856, 2912, 2980, 3036, 3080, 3124, 3196, 3252, 3296, 3352, 3408, 3464, 3532, 3576, 3589, 3645], 271) := by decide +kernel
theorem dL_law_316 : decode cL_law 316 = .ok (.aload_n 1, 1) := dk_43 (dk_at dksL_law_3 0 rfl rfl)
theorem dL_law_317 : decode cL_law 317 = .ok (.aload_n 0, 1) := dk_42 (dk_at dksL_law_3 1 rfl rfl)
theorem dL_law_318 : decode cL_law 318 = .ok (.iload 5, 2) := dk_21 5 (dk_at dksL_law_3 2 rfl rfl)
theorem dL_law_320 : decode cL_law 320 = .ok (.iconst 1, 1) := dk_4 (dk_at dksL_law_3 4 rfl rfl)
theorem dL_law_321 : decode cL_law 321 = .ok (.iadd, 1) := dk_96 (dk_at dksL_law_3 5 rfl rfl)
theorem dL_law_322 : decode cL_law 322 = .ok (.iaload, 1) := dk_46 (dk_at dksL_law_3 6 rfl rfl)
theorem dL_law_323 : decode cL_law 323 = .ok (.aload_n 0, 1) := dk_42 (dk_at dksL_law_3 7 rfl rfl)
theorem dL_law_324 : decode cL_law 324 = .ok (.iload 5, 2) := dk_21 5 (dk_at dksL_law_3 8 rfl rfl)
theorem dL_law_326 : decode cL_law 326 = .ok (.iconst 2, 1) := dk_5 (dk_at dksL_law_3 10 rfl rfl)
theorem dL_law_327 : decode cL_law 327 = .ok (.iadd, 1) := dk_96 (dk_at dksL_law_3 11 rfl rfl)
theorem dL_law_328 : decode cL_law 328 = .ok (.iaload, 1) := dk_46 (dk_at dksL_law_3 12 rfl rfl)
theorem dL_law_329 : decode cL_law 329 = .ok (.aload_n 0, 1) := dk_42 (dk_at dksL_law_3 13 rfl rfl)
theorem dL_law_330 : decode cL_law 330 = .ok (.iload 5, 2) := dk_21 5 (dk_at dksL_law_3 14 rfl rfl)
theorem dL_law_332 : decode cL_law 332 = .ok (.iconst 3, 1) := dk_6 (dk_at dksL_law_3 16 rfl rfl)
theorem dL_law_333 : decode cL_law 333 = .ok (.iadd, 1) := dk_96 (dk_at dksL_law_3 17 rfl rfl)
theorem dL_law_334 : decode cL_law 334 = .ok (.iaload, 1) := dk_46 (dk_at dksL_law_3 18 rfl rfl)
theorem dL_law_335 : decode cL_law 335 = .ok (.aload_n 0, 1) := dk_42 (dk_at dksL_law_3 19 rfl rfl)
theorem dL_law_336 : decode cL_law 336 = .ok (.iload 5, 2) := dk_21 5 (dk_at dksL_law_3 20 rfl rfl)
theorem dL_law_338 : decode cL_law 338 = .ok (.iconst 4, 1) := dk_7 (dk_at dksL_law_3 22 rfl rfl)
theorem dL_law_339 : decode cL_law 339 = .ok (.iadd, 1) := dk_96 (dk_at dksL_law_3 23 rfl rfl)
theorem dL_law_340 : decode cL_law 340 = .ok (.iaload, 1) := dk_46 (dk_at dksL_law_4 0 rfl rfl)
theorem dL_law_341 : decode cL_law 341 = .ok (.aload_n 0, 1) := dk_42 (dk_at dksL_law_4 1 rfl rfl)
theorem dL_law_342 : decode cL_law 342 = .ok (.iload 5, 2) := dk_21 5 (dk_at dksL_law_4 2 rfl rfl)
theorem dL_law_344 : decode cL_law 344 = .ok (.iconst 5, 1) := dk_8 (dk_at dksL_law_4 4 rfl rfl)
theorem dL_law_345 : decode cL_law 345 = .ok (.iadd, 1) := dk_96 (dk_at dksL_law_4 5 rfl rfl)
theorem dL_law_346 : decode cL_law 346 = .ok (.iaload, 1) := dk_46 (dk_at dksL_law_4 6 rfl rfl)
theorem dL_law_347 : decode cL_law 347 = .ok (.invokevirtual 205, 3) := dk_182 0 205 (dk_at dksL_law_4 7 rfl rfl)
theorem dL_law_350 : decode cL_law 350 = .ok (.aload_n 2, 1) := dk_44 (dk_at dksL_law_4 10 rfl rfl)
theorem dL_law_351 : decode cL_law 351 = .ok (.aload_n 0, 1) := dk_42 (dk_at dksL_law_4 11 rfl rfl)
theorem dL_law_352 : decode cL_law 352 = .ok (.iload 5, 2) := dk_21 5 (dk_at dksL_law_4 12 rfl rfl)
theorem dL_law_354 : decode cL_law 354 = .ok (.iconst 1, 1) := dk_4 (dk_at dksL_law_4 14 rfl rfl)
theorem dL_law_355 : decode cL_law 355 = .ok (.iadd, 1) := dk_96 (dk_at dksL_law_4 15 rfl rfl)
theorem dL_law_356 : decode cL_law 356 = .ok (.iaload, 1) := dk_46 (dk_at dksL_law_4 16 rfl rfl)
theorem dL_law_357 : decode cL_law 357 = .ok (.aload_n 0, 1) := dk_42 (dk_at dksL_law_4 17 rfl rfl)
theorem dL_law_358 : decode cL_law 358 = .ok (.iload 5, 2) := dk_21 5 (dk_at dksL_law_4 18 rfl rfl)
theorem dL_law_360 : decode cL_law 360 = .ok (.iconst 2, 1) := dk_5 (dk_at dksL_law_4 20 rfl rfl)
theorem dL_law_361 : decode cL_law 361 = .ok (.iadd, 1) := dk_96 (dk_at dksL_law_4 21 rfl rfl)
theorem dL_law_362 : decode cL_law 362 = .ok (.iaload, 1) := dk_46 (dk_at dksL_law_4 22 rfl rfl)
theorem dL_law_363 : decode cL_law 363 = .ok (.aload_n 0, 1) := dk_42 (dk_at dksL_law_4 23 rfl rfl)
theorem dL_law_364 : decode cL_law 364 = .ok (.iload 5, 2) := dk_21 5 (dk_at dksL_law_5 0 rfl rfl)
theorem dL_law_366 : decode cL_law 366 = .ok (.iconst 3, 1) := dk_6 (dk_at dksL_law_5 2 rfl rfl)
theorem dL_law_367 : decode cL_law 367 = .ok (.iadd, 1) := dk_96 (dk_at dksL_law_5 3 rfl rfl)
theorem dL_law_368 : decode cL_law 368 = .ok (.iaload, 1) := dk_46 (dk_at dksL_law_5 4 rfl rfl)
theorem dL_law_369 : decode cL_law 369 = .ok (.aload_n 0, 1) := dk_42 (dk_at dksL_law_5 5 rfl rfl)
theorem dL_law_370 : decode cL_law 370 = .ok (.iload 5, 2) := dk_21 5 (dk_at dksL_law_5 6 rfl rfl)
theorem dL_law_372 : decode cL_law 372 = .ok (.iconst 4, 1) := dk_7 (dk_at dksL_law_5 8 rfl rfl)
theorem dL_law_373 : decode cL_law 373 = .ok (.iadd, 1) := dk_96 (dk_at dksL_law_5 9 rfl rfl)
theorem dL_law_374 : decode cL_law 374 = .ok (.iaload, 1) := dk_46 (dk_at dksL_law_5 10 rfl rfl)
theorem dL_law_375 : decode cL_law 375 = .ok (.aload_n 0, 1) := dk_42 (dk_at dksL_law_5 11 rfl rfl)
theorem dL_law_376 : decode cL_law 376 = .ok (.iload 5, 2) := dk_21 5 (dk_at dksL_law_5 12 rfl rfl)
theorem dL_law_378 : decode cL_law 378 = .ok (.iconst 5, 1) := dk_8 (dk_at dksL_law_5 14 rfl rfl)
theorem dL_law_379 : decode cL_law 379 = .ok (.iadd, 1) := dk_96 (dk_at dksL_law_5 15 rfl rfl)
theorem dL_law_380 : decode cL_law 380 = .ok (.iaload, 1) := dk_46 (dk_at dksL_law_5 16 rfl rfl)
theorem dL_law_381 : decode cL_law 381 = .ok (.invokevirtual 209, 3) := dk_182 0 209 (dk_at dksL_law_5 17 rfl rfl)
theorem dL_law_384 : decode cL_law 384 = .ok (.if_icmp .eq 3362, 3) := dk_159 13 34 (dk_at dksL_law_5 20 rfl rfl)
theorem dL_law_387 : decode cL_law 387 = .ok (.iconst 0, 1) := dk_3 (dk_at dksL_law_5 23 rfl rfl)
theorem dL_law_388 : decode cL_law 388 = .ok (.ireturn, 1) := dk_172 (dk_at dksL_law_6 0 rfl rfl)
theorem dL_law_389 : decode cL_law 389 = .ok (.aload_n 1, 1) := dk_43 (dk_at dksL_law_6 1 rfl rfl)
theorem dL_law_390 : decode cL_law 390 = .ok (.aload_n 0, 1) := dk_42 (dk_at dksL_law_6 2 rfl rfl)
theorem dL_law_391 : decode cL_law 391 = .ok (.iload 5, 2) := dk_21 5 (dk_at dksL_law_6 3 rfl rfl)
theorem dL_law_393 : decode cL_law 393 = .ok (.iconst 1, 1) := dk_4 (dk_at dksL_law_6 5 rfl rfl)
theorem dL_law_394 : decode cL_law 394 = .ok (.iadd, 1) := dk_96 (dk_at dksL_law_6 6 rfl rfl)
theorem dL_law_395 : decode cL_law 395 = .ok (.iaload, 1) := dk_46 (dk_at dksL_law_6 7 rfl rfl)
theorem dL_law_396 : decode cL_law 396 = .ok (.aload_n 3, 1) := dk_45 (dk_at dksL_law_6 8 rfl rfl)
theorem dL_law_397 : decode cL_law 397 = .ok (.invokestatic 210, 3) := dk_184 0 210 (dk_at dksL_law_6 9 rfl rfl)
theorem dL_law_400 : decode cL_law 400 = .ok (.istore 6, 2) := dk_54 6 (dk_at dksL_law_6 12 rfl rfl)
theorem dL_law_402 : decode cL_law 402 = .ok (.aload_n 2, 1) := dk_44 (dk_at dksL_law_6 14 rfl rfl)
theorem dL_law_403 : decode cL_law 403 = .ok (.aload_n 0, 1) := dk_42 (dk_at dksL_law_6 15 rfl rfl)
theorem dL_law_404 : decode cL_law 404 = .ok (.iload 5, 2) := dk_21 5 (dk_at dksL_law_6 16 rfl rfl)
theorem dL_law_406 : decode cL_law 406 = .ok (.iconst 1, 1) := dk_4 (dk_at dksL_law_6 18 rfl rfl)
theorem dL_law_407 : decode cL_law 407 = .ok (.iadd, 1) := dk_96 (dk_at dksL_law_6 19 rfl rfl)
theorem dL_law_408 : decode cL_law 408 = .ok (.iaload, 1) := dk_46 (dk_at dksL_law_6 20 rfl rfl)
theorem dL_law_409 : decode cL_law 409 = .ok (.invokevirtual 215, 3) := dk_182 0 215 (dk_at dksL_law_6 21 rfl rfl)
theorem dL_law_412 : decode cL_law 412 = .ok (.istore 7, 2) := dk_54 7 (dk_at dksL_law_7 0 rfl rfl)
theorem dL_law_414 : decode cL_law 414 = .ok (.aload_n 2, 1) := dk_44 (dk_at dksL_law_7 2 rfl rfl)
theorem dL_law_415 : decode cL_law 415 = .ok (.invokevirtual 216, 3) := dk_182 0 216 (dk_at dksL_law_7 3 rfl rfl)
theorem dL_law_418 : decode cL_law 418 = .ok (.iload 6, 2) := dk_21 6 (dk_at dksL_law_7 6 rfl rfl)
theorem dL_law_420 : decode cL_law 420 = .ok (.if_icmp .eq 5, 3) := dk_159 0 5 (dk_at dksL_law_7 8 rfl rfl)
theorem dL_law_423 : decode cL_law 423 = .ok (.iconst 0, 1) := dk_3 (dk_at dksL_law_7 11 rfl rfl)
theorem dL_law_424 : decode cL_law 424 = .ok (.ireturn, 1) := dk_172 (dk_at dksL_law_7 12 rfl rfl)
theorem dL_law_425 : decode cL_law 425 = .ok (.iload 6, 2) := dk_21 6 (dk_at dksL_law_7 13 rfl rfl)
theorem dL_law_427 : decode cL_law 427 = .ok (.ifCond .ne 15, 3) := dk_154 0 15 (dk_at dksL_law_7 15 rfl rfl)
theorem dL_law_430 : decode cL_law 430 = .ok (.aload_n 3, 1) := dk_45 (dk_at dksL_law_7 18 rfl rfl)
theorem dL_law_431 : decode cL_law 431 = .ok (.iconst 0, 1) := dk_3 (dk_at dksL_law_7 19 rfl rfl)
theorem dL_law_432 : decode cL_law 432 = .ok (.laload, 1) := dk_47 (dk_at dksL_law_7 20 rfl rfl)
theorem dL_law_433 : decode cL_law 433 = .ok (.iload 7, 2) := dk_21 7 (dk_at dksL_law_7 21 rfl rfl)
theorem dL_law_435 : decode cL_law 435 = .ok (.i2l, 1) := dk_133 (dk_at dksL_law_7 23 rfl rfl)
theorem dL_law_436 : decode cL_law 436 = .ok (.lcmp, 1) := dk_148 (dk_at dksL_law_8 0 rfl rfl)
theorem dL_law_437 : decode cL_law 437 = .ok (.ifCond .eq 5, 3) := dk_153 0 5 (dk_at dksL_law_8 1 rfl rfl)
theorem dL_law_440 : decode cL_law 440 = .ok (.iconst 0, 1) := dk_3 (dk_at dksL_law_8 4 rfl rfl)
theorem dL_law_441 : decode cL_law 441 = .ok (.ireturn, 1) := dk_172 (dk_at dksL_law_8 5 rfl rfl)
theorem dL_law_442 : decode cL_law 442 = .ok (.goto 3304, 3) := dk_167 12 232 (dk_at dksL_law_8 6 rfl rfl)
theorem dL_law_445 : decode cL_law 445 = .ok (.aload_n 1, 1) := dk_43 (dk_at dksL_law_8 9 rfl rfl)
theorem dL_law_446 : decode cL_law 446 = .ok (.invokevirtual 219, 3) := dk_182 0 219 (dk_at dksL_law_8 10 rfl rfl)
theorem dL_law_449 : decode cL_law 449 = .ok (.aload_n 2, 1) := dk_44 (dk_at dksL_law_8 13 rfl rfl)
theorem dL_law_450 : decode cL_law 450 = .ok (.invokevirtual 222, 3) := dk_182 0 222 (dk_at dksL_law_8 14 rfl rfl)
theorem dL_law_453 : decode cL_law 453 = .ok (.if_icmp .eq 3293, 3) := dk_159 12 221 (dk_at dksL_law_8 17 rfl rfl)
theorem dL_law_456 : decode cL_law 456 = .ok (.iconst 0, 1) := dk_3 (dk_at dksL_law_8 20 rfl rfl)
theorem dL_law_457 : decode cL_law 457 = .ok (.ireturn, 1) := dk_172 (dk_at dksL_law_8 21 rfl rfl)
theorem dL_law_458 : decode cL_law 458 = .ok (.aload_n 1, 1) := dk_43 (dk_at dksL_law_8 22 rfl rfl)
theorem dL_law_459 : decode cL_law 459 = .ok (.invokevirtual 223, 3) := dk_182 0 223 (dk_at dksL_law_9 0 rfl rfl)
theorem dL_law_462 : decode cL_law 462 = .ok (.aload_n 2, 1) := dk_44 (dk_at dksL_law_9 3 rfl rfl)
theorem dL_law_463 : decode cL_law 463 = .ok (.invokevirtual 226, 3) := dk_182 0 226 (dk_at dksL_law_9 4 rfl rfl)
theorem dL_law_466 : decode cL_law 466 = .ok (.if_icmp .eq 3280, 3) := dk_159 12 208 (dk_at dksL_law_9 7 rfl rfl)
theorem dL_law_469 : decode cL_law 469 = .ok (.iconst 0, 1) := dk_3 (dk_at dksL_law_9 10 rfl rfl)
theorem dL_law_470 : decode cL_law 470 = .ok (.ireturn, 1) := dk_172 (dk_at dksL_law_9 11 rfl rfl)
theorem dL_law_471 : decode cL_law 471 = .ok (.aload_n 1, 1) := dk_43 (dk_at dksL_law_9 12 rfl rfl)
theorem dL_law_472 : decode cL_law 472 = .ok (.invokevirtual 227, 3) := dk_182 0 227 (dk_at dksL_law_9 13 rfl rfl)
theorem dL_law_475 : decode cL_law 475 = .ok (.aload_n 2, 1) := dk_44 (dk_at dksL_law_9 16 rfl rfl)
theorem dL_law_476 : decode cL_law 476 = .ok (.invokevirtual 230, 3) := dk_182 0 230 (dk_at dksL_law_9 17 rfl rfl)
theorem dL_law_479 : decode cL_law 479 = .ok (.if_icmp .eq 3267, 3) := dk_159 12 195 (dk_at dksL_law_9 20 rfl rfl)
theorem dL_law_482 : decode cL_law 482 = .ok (.iconst 0, 1) := dk_3 (dk_at dksL_law_9 23 rfl rfl)
theorem dL_law_483 : decode cL_law 483 = .ok (.ireturn, 1) := dk_172 (dk_at dksL_law_10 0 rfl rfl)
theorem dL_law_484 : decode cL_law 484 = .ok (.aload_n 1, 1) := dk_43 (dk_at dksL_law_10 1 rfl rfl)
theorem dL_law_485 : decode cL_law 485 = .ok (.aload_n 0, 1) := dk_42 (dk_at dksL_law_10 2 rfl rfl)
theorem dL_law_486 : decode cL_law 486 = .ok (.iload 5, 2) := dk_21 5 (dk_at dksL_law_10 3 rfl rfl)
theorem dL_law_488 : decode cL_law 488 = .ok (.iconst 1, 1) := dk_4 (dk_at dksL_law_10 5 rfl rfl)
theorem dL_law_489 : decode cL_law 489 = .ok (.iadd, 1) := dk_96 (dk_at dksL_law_10 6 rfl rfl)
theorem dL_law_490 : decode cL_law 490 = .ok (.iaload, 1) := dk_46 (dk_at dksL_law_10 7 rfl rfl)
theorem dL_law_491 : decode cL_law 491 = .ok (.aload_n 3, 1) := dk_45 (dk_at dksL_law_10 8 rfl rfl)
theorem dL_law_492 : decode cL_law 492 = .ok (.invokestatic 231, 3) := dk_184 0 231 (dk_at dksL_law_10 9 rfl rfl)
theorem dL_law_495 : decode cL_law 495 = .ok (.istore 6, 2) := dk_54 6 (dk_at dksL_law_10 12 rfl rfl)
theorem dL_law_497 : decode cL_law 497 = .ok (.aload_n 2, 1) := dk_44 (dk_at dksL_law_10 14 rfl rfl)
theorem dL_law_498 : decode cL_law 498 = .ok (.aload_n 0, 1) := dk_42 (dk_at dksL_law_10 15 rfl rfl)
theorem dL_law_499 : decode cL_law 499 = .ok (.iload 5, 2) := dk_21 5 (dk_at dksL_law_10 16 rfl rfl)
theorem dL_law_501 : decode cL_law 501 = .ok (.iconst 1, 1) := dk_4 (dk_at dksL_law_10 18 rfl rfl)
theorem dL_law_502 : decode cL_law 502 = .ok (.iadd, 1) := dk_96 (dk_at dksL_law_10 19 rfl rfl)
theorem dL_law_503 : decode cL_law 503 = .ok (.iaload, 1) := dk_46 (dk_at dksL_law_10 20 rfl rfl)
theorem dL_law_504 : decode cL_law 504 = .ok (.invokevirtual 233, 3) := dk_182 0 233 (dk_at dksL_law_10 21 rfl rfl)
theorem dL_law_507 : decode cL_law 507 = .ok (.istore 7, 2) := dk_54 7 (dk_at dksL_law_11 0 rfl rfl)
theorem dL_law_509 : decode cL_law 509 = .ok (.aload_n 2, 1) := dk_44 (dk_at dksL_law_11 2 rfl rfl)
theorem dL_law_510 : decode cL_law 510 = .ok (.invokevirtual 216, 3) := dk_182 0 216 (dk_at dksL_law_11 3 rfl rfl)
theorem dL_law_513 : decode cL_law 513 = .ok (.iload 6, 2) := dk_21 6 (dk_at dksL_law_11 6 rfl rfl)
theorem dL_law_515 : decode cL_law 515 = .ok (.if_icmp .eq 5, 3) := dk_159 0 5 (dk_at dksL_law_11 8 rfl rfl)
theorem dL_law_518 : decode cL_law 518 = .ok (.iconst 0, 1) := dk_3 (dk_at dksL_law_11 11 rfl rfl)
theorem dL_law_519 : decode cL_law 519 = .ok (.ireturn, 1) := dk_172 (dk_at dksL_law_11 12 rfl rfl)
theorem dL_law_520 : decode cL_law 520 = .ok (.iload 6, 2) := dk_21 6 (dk_at dksL_law_11 13 rfl rfl)
theorem dL_law_522 : decode cL_law 522 = .ok (.ifCond .ne 15, 3) := dk_154 0 15 (dk_at dksL_law_11 15 rfl rfl)
theorem dL_law_525 : decode cL_law 525 = .ok (.aload_n 3, 1) := dk_45 (dk_at dksL_law_11 18 rfl rfl)
theorem dL_law_526 : decode cL_law 526 = .ok (.iconst 0, 1) := dk_3 (dk_at dksL_law_11 19 rfl rfl)
theorem dL_law_527 : decode cL_law 527 = .ok (.laload, 1) := dk_47 (dk_at dksL_law_11 20 rfl rfl)
theorem dL_law_528 : decode cL_law 528 = .ok (.iload 7, 2) := dk_21 7 (dk_at dksL_law_11 21 rfl rfl)
theorem dL_law_530 : decode cL_law 530 = .ok (.i2l, 1) := dk_133 (dk_at dksL_law_11 23 rfl rfl)
theorem dL_law_531 : decode cL_law 531 = .ok (.lcmp, 1) := dk_148 (dk_at dksL_law_12 0 rfl rfl)
theorem dL_law_532 : decode cL_law 532 = .ok (.ifCond .eq 5, 3) := dk_153 0 5 (dk_at dksL_law_12 1 rfl rfl)
theorem dL_law_535 : decode cL_law 535 = .ok (.iconst 0, 1) := dk_3 (dk_at dksL_law_12 4 rfl rfl)
theorem dL_law_536 : decode cL_law 536 = .ok (.ireturn, 1) := dk_172 (dk_at dksL_law_12 5 rfl rfl)
theorem dL_law_537 : decode cL_law 537 = .ok (.goto 3209, 3) := dk_167 12 137 (dk_at dksL_law_12 6 rfl rfl)
theorem dL_law_540 : decode cL_law 540 = .ok (.aload_n 1, 1) := dk_43 (dk_at dksL_law_12 9 rfl rfl)
theorem dL_law_541 : decode cL_law 541 = .ok (.aload_n 0, 1) := dk_42 (dk_at dksL_law_12 10 rfl rfl)
theorem dL_law_542 : decode cL_law 542 = .ok (.iload 5, 2) := dk_21 5 (dk_at dksL_law_12 11 rfl rfl)
theorem dL_law_544 : decode cL_law 544 = .ok (.iconst 1, 1) := dk_4 (dk_at dksL_law_12 13 rfl rfl)
theorem dL_law_545 : decode cL_law 545 = .ok (.iadd, 1) := dk_96 (dk_at dksL_law_12 14 rfl rfl)
theorem dL_law_546 : decode cL_law 546 = .ok (.iaload, 1) := dk_46 (dk_at dksL_law_12 15 rfl rfl)
theorem dL_law_547 : decode cL_law 547 = .ok (.aload_n 3, 1) := dk_45 (dk_at dksL_law_12 16 rfl rfl)
theorem dL_law_548 : decode cL_law 548 = .ok (.invokestatic 234, 3) := dk_184 0 234 (dk_at dksL_law_12 17 rfl rfl)
theorem dL_law_551 : decode cL_law 551 = .ok (.istore 6, 2) := dk_54 6 (dk_at dksL_law_12 20 rfl rfl)
theorem dL_law_553 : decode cL_law 553 = .ok (.aload_n 2, 1) := dk_44 (dk_at dksL_law_12 22 rfl rfl)
theorem dL_law_554 : decode cL_law 554 = .ok (.aload_n 0, 1) := dk_42 (dk_at dksL_law_12 23 rfl rfl)
theorem dL_law_555 : decode cL_law 555 = .ok (.iload 5, 2) := dk_21 5 (dk_at dksL_law_13 0 rfl rfl)
theorem dL_law_557 : decode cL_law 557 = .ok (.iconst 1, 1) := dk_4 (dk_at dksL_law_13 2 rfl rfl)
theorem dL_law_558 : decode cL_law 558 = .ok (.iadd, 1) := dk_96 (dk_at dksL_law_13 3 rfl rfl)
theorem dL_law_559 : decode cL_law 559 = .ok (.iaload, 1) := dk_46 (dk_at dksL_law_13 4 rfl rfl)
theorem dL_law_560 : decode cL_law 560 = .ok (.invokevirtual 236, 3) := dk_182 0 236 (dk_at dksL_law_13 5 rfl rfl)
theorem dL_law_563 : decode cL_law 563 = .ok (.istore 7, 2) := dk_54 7 (dk_at dksL_law_13 8 rfl rfl)
theorem dL_law_565 : decode cL_law 565 = .ok (.aload_n 2, 1) := dk_44 (dk_at dksL_law_13 10 rfl rfl)
theorem dL_law_566 : decode cL_law 566 = .ok (.invokevirtual 216, 3) := dk_182 0 216 (dk_at dksL_law_13 11 rfl rfl)
theorem dL_law_569 : decode cL_law 569 = .ok (.iload 6, 2) := dk_21 6 (dk_at dksL_law_13 14 rfl rfl)
theorem dL_law_571 : decode cL_law 571 = .ok (.if_icmp .eq 5, 3) := dk_159 0 5 (dk_at dksL_law_13 16 rfl rfl)
theorem dL_law_574 : decode cL_law 574 = .ok (.iconst 0, 1) := dk_3 (dk_at dksL_law_13 19 rfl rfl)
theorem dL_law_575 : decode cL_law 575 = .ok (.ireturn, 1) := dk_172 (dk_at dksL_law_13 20 rfl rfl)
theorem dL_law_576 : decode cL_law 576 = .ok (.iload 6, 2) := dk_21 6 (dk_at dksL_law_13 21 rfl rfl)
theorem dL_law_578 : decode cL_law 578 = .ok (.ifCond .ne 15, 3) := dk_154 0 15 (dk_at dksL_law_14 0 rfl rfl)
theorem dL_law_581 : decode cL_law 581 = .ok (.aload_n 3, 1) := dk_45 (dk_at dksL_law_14 3 rfl rfl)
theorem dL_law_582 : decode cL_law 582 = .ok (.iconst 0, 1) := dk_3 (dk_at dksL_law_14 4 rfl rfl)
theorem dL_law_583 : decode cL_law 583 = .ok (.laload, 1) := dk_47 (dk_at dksL_law_14 5 rfl rfl)
theorem dL_law_584 : decode cL_law 584 = .ok (.iload 7, 2) := dk_21 7 (dk_at dksL_law_14 6 rfl rfl)
theorem dL_law_586 : decode cL_law 586 = .ok (.i2l, 1) := dk_133 (dk_at dksL_law_14 8 rfl rfl)
theorem dL_law_587 : decode cL_law 587 = .ok (.lcmp, 1) := dk_148 (dk_at dksL_law_14 9 rfl rfl)
theorem dL_law_588 : decode cL_law 588 = .ok (.ifCond .eq 5, 3) := dk_153 0 5 (dk_at dksL_law_14 10 rfl rfl)
theorem dL_law_591 : decode cL_law 591 = .ok (.iconst 0, 1) := dk_3 (dk_at dksL_law_14 13 rfl rfl)
theorem dL_law_592 : decode cL_law 592 = .ok (.ireturn, 1) := dk_172 (dk_at dksL_law_14 14 rfl rfl)
theorem dL_law_593 : decode cL_law 593 = .ok (.goto 3153, 3) := dk_167 12 81 (dk_at dksL_law_14 15 rfl rfl)
theorem dL_law_596 : decode cL_law 596 = .ok (.aload_n 1, 1) := dk_43 (dk_at dksL_law_14 18 rfl rfl)
theorem dL_law_597 : decode cL_law 597 = .ok (.aload_n 0, 1) := dk_42 (dk_at dksL_law_14 19 rfl rfl)
theorem dL_law_598 : decode cL_law 598 = .ok (.iload 5, 2) := dk_21 5 (dk_at dksL_law_14 20 rfl rfl)
theorem dL_law_600 : decode cL_law 600 = .ok (.iconst 1, 1) := dk_4 (dk_at dksL_law_14 22 rfl rfl)
theorem dL_law_601 : decode cL_law 601 = .ok (.iadd, 1) := dk_96 (dk_at dksL_law_14 23 rfl rfl)
theorem dL_law_602 : decode cL_law 602 = .ok (.iaload, 1) := dk_46 (dk_at dksL_law_15 0 rfl rfl)
theorem dL_law_603 : decode cL_law 603 = .ok (.aload_n 3, 1) := dk_45 (dk_at dksL_law_15 1 rfl rfl)
theorem dL_law_604 : decode cL_law 604 = .ok (.invokestatic 237, 3) := dk_184 0 237 (dk_at dksL_law_15 2 rfl rfl)
theorem dL_law_607 : decode cL_law 607 = .ok (.istore 6, 2) := dk_54 6 (dk_at dksL_law_15 5 rfl rfl)
theorem dL_law_609 : decode cL_law 609 = .ok (.aload_n 2, 1) := dk_44 (dk_at dksL_law_15 7 rfl rfl)
theorem dL_law_610 : decode cL_law 610 = .ok (.aload_n 0, 1) := dk_42 (dk_at dksL_law_15 8 rfl rfl)
theorem dL_law_611 : decode cL_law 611 = .ok (.iload 5, 2) := dk_21 5 (dk_at dksL_law_15 9 rfl rfl)
theorem dL_law_613 : decode cL_law 613 = .ok (.iconst 1, 1) := dk_4 (dk_at dksL_law_15 11 rfl rfl)
theorem dL_law_614 : decode cL_law 614 = .ok (.iadd, 1) := dk_96 (dk_at dksL_law_15 12 rfl rfl)
theorem dL_law_615 : decode cL_law 615 = .ok (.iaload, 1) := dk_46 (dk_at dksL_law_15 13 rfl rfl)
theorem dL_law_616 : decode cL_law 616 = .ok (.invokevirtual 239, 3) := dk_182 0 239 (dk_at dksL_law_15 14 rfl rfl)
theorem dL_law_619 : decode cL_law 619 = .ok (.istore 7, 2) := dk_54 7 (dk_at dksL_law_15 17 rfl rfl)
theorem dL_law_621 : decode cL_law 621 = .ok (.aload_n 2, 1) := dk_44 (dk_at dksL_law_15 19 rfl rfl)
theorem dL_law_622 : decode cL_law 622 = .ok (.invokevirtual 216, 3) := dk_182 0 216 (dk_at dksL_law_15 20 rfl rfl)
theorem dL_law_625 : decode cL_law 625 = .ok (.iload 6, 2) := dk_21 6 (dk_at dksL_law_16 0 rfl rfl)
theorem dL_law_627 : decode cL_law 627 = .ok (.if_icmp .eq 5, 3) := dk_159 0 5 (dk_at dksL_law_16 2 rfl rfl)
theorem dL_law_630 : decode cL_law 630 = .ok (.iconst 0, 1) := dk_3 (dk_at dksL_law_16 5 rfl rfl)
theorem dL_law_631 : decode cL_law 631 = .ok (.ireturn, 1) := dk_172 (dk_at dksL_law_16 6 rfl rfl)
theorem dL_law_632 : decode cL_law 632 = .ok (.iload 6, 2) := dk_21 6 (dk_at dksL_law_16 7 rfl rfl)
theorem dL_law_634 : decode cL_law 634 = .ok (.ifCond .ne 15, 3) := dk_154 0 15 (dk_at dksL_law_16 9 rfl rfl)
theorem dL_law_637 : decode cL_law 637 = .ok (.aload_n 3, 1) := dk_45 (dk_at dksL_law_16 12 rfl rfl)
theorem dL_law_638 : decode cL_law 638 = .ok (.iconst 0, 1) := dk_3 (dk_at dksL_law_16 13 rfl rfl)
theorem dL_law_639 : decode cL_law 639 = .ok (.laload, 1) := dk_47 (dk_at dksL_law_16 14 rfl rfl)
theorem dL_law_640 : decode cL_law 640 = .ok (.iload 7, 2) := dk_21 7 (dk_at dksL_law_16 15 rfl rfl)
theorem dL_law_642 : decode cL_law 642 = .ok (.i2l, 1) := dk_133 (dk_at dksL_law_16 17 rfl rfl)
theorem dL_law_643 : decode cL_law 643 = .ok (.lcmp, 1) := dk_148 (dk_at dksL_law_16 18 rfl rfl)
theorem dL_law_644 : decode cL_law 644 = .ok (.ifCond .eq 5, 3) := dk_153 0 5 (dk_at dksL_law_16 19 rfl rfl)
theorem dL_law_647 : decode cL_law 647 = .ok (.iconst 0, 1) := dk_3 (dk_at dksL_law_16 22 rfl rfl)
theorem dL_law_648 : decode cL_law 648 = .ok (.ireturn, 1) := dk_172 (dk_at dksL_law_16 23 rfl rfl)
theorem dL_law_649 : decode cL_law 649 = .ok (.goto 3097, 3) := dk_167 12 25 (dk_at dksL_law_17 0 rfl rfl)
theorem dL_law_652 : decode cL_law 652 = .ok (.aload_n 1, 1) := dk_43 (dk_at dksL_law_17 3 rfl rfl)
theorem dL_law_653 : decode cL_law 653 = .ok (.aload_n 0, 1) := dk_42 (dk_at dksL_law_17 4 rfl rfl)
theorem dL_law_654 : decode cL_law 654 = .ok (.iload 5, 2) := dk_21 5 (dk_at dksL_law_17 5 rfl rfl)
theorem dL_law_656 : decode cL_law 656 = .ok (.iconst 1, 1) := dk_4 (dk_at dksL_law_17 7 rfl rfl)
theorem dL_law_657 : decode cL_law 657 = .ok (.iadd, 1) := dk_96 (dk_at dksL_law_17 8 rfl rfl)
theorem dL_law_658 : decode cL_law 658 = .ok (.iaload, 1) := dk_46 (dk_at dksL_law_17 9 rfl rfl)
theorem dL_law_659 : decode cL_law 659 = .ok (.aload_n 3, 1) := dk_45 (dk_at dksL_law_17 10 rfl rfl)
theorem dL_law_660 : decode cL_law 660 = .ok (.invokestatic 240, 3) := dk_184 0 240 (dk_at dksL_law_17 11 rfl rfl)
theorem dL_law_663 : decode cL_law 663 = .ok (.istore 6, 2) := dk_54 6 (dk_at dksL_law_17 14 rfl rfl)
theorem dL_law_665 : decode cL_law 665 = .ok (.aload_n 2, 1) := dk_44 (dk_at dksL_law_17 16 rfl rfl)
theorem dL_law_666 : decode cL_law 666 = .ok (.aload_n 0, 1) := dk_42 (dk_at dksL_law_17 17 rfl rfl)
theorem dL_law_667 : decode cL_law 667 = .ok (.iload 5, 2) := dk_21 5 (dk_at dksL_law_17 18 rfl rfl)
theorem dL_law_669 : decode cL_law 669 = .ok (.iconst 1, 1) := dk_4 (dk_at dksL_law_17 20 rfl rfl)
theorem dL_law_670 : decode cL_law 670 = .ok (.iadd, 1) := dk_96 (dk_at dksL_law_17 21 rfl rfl)
theorem dL_law_671 : decode cL_law 671 = .ok (.iaload, 1) := dk_46 (dk_at dksL_law_17 22 rfl rfl)
theorem dL_law_672 : decode cL_law 672 = .ok (.invokevirtual 242, 3) := dk_182 0 242 (dk_at dksL_law_18 0 rfl rfl)
theorem dL_law_675 : decode cL_law 675 = .ok (.istore 7, 2) := dk_54 7 (dk_at dksL_law_18 3 rfl rfl)
theorem dL_law_677 : decode cL_law 677 = .ok (.aload_n 2, 1) := dk_44 (dk_at dksL_law_18 5 rfl rfl)
theorem dL_law_678 : decode cL_law 678 = .ok (.invokevirtual 216, 3) := dk_182 0 216 (dk_at dksL_law_18 6 rfl rfl)
theorem dL_law_681 : decode cL_law 681 = .ok (.iload 6, 2) := dk_21 6 (dk_at dksL_law_18 9 rfl rfl)
theorem dL_law_683 : decode cL_law 683 = .ok (.if_icmp .eq 5, 3) := dk_159 0 5 (dk_at dksL_law_18 11 rfl rfl)
theorem dL_law_686 : decode cL_law 686 = .ok (.iconst 0, 1) := dk_3 (dk_at dksL_law_18 14 rfl rfl)
theorem dL_law_687 : decode cL_law 687 = .ok (.ireturn, 1) := dk_172 (dk_at dksL_law_18 15 rfl rfl)
theorem dL_law_688 : decode cL_law 688 = .ok (.iload 6, 2) := dk_21 6 (dk_at dksL_law_18 16 rfl rfl)
theorem dL_law_690 : decode cL_law 690 = .ok (.ifCond .ne 22, 3) := dk_154 0 22 (dk_at dksL_law_18 18 rfl rfl)
theorem dL_law_693 : decode cL_law 693 = .ok (.aload_n 3, 1) := dk_45 (dk_at dksL_law_18 21 rfl rfl)
theorem dL_law_694 : decode cL_law 694 = .ok (.iconst 0, 1) := dk_3 (dk_at dksL_law_18 22 rfl rfl)
theorem dL_law_695 : decode cL_law 695 = .ok (.laload, 1) := dk_47 (dk_at dksL_law_18 23 rfl rfl)
theorem dL_law_696 : decode cL_law 696 = .ok (.iload 7, 2) := dk_21 7 (dk_at dksL_law_19 0 rfl rfl)
theorem dL_law_698 : decode cL_law 698 = .ok (.ifCond .eq 7, 3) := dk_153 0 7 (dk_at dksL_law_19 2 rfl rfl)
theorem dL_law_701 : decode cL_law 701 = .ok (.lconst 1, 1) := dk_10 (dk_at dksL_law_19 5 rfl rfl)
theorem dL_law_702 : decode cL_law 702 = .ok (.goto 4, 3) := dk_167 0 4 (dk_at dksL_law_19 6 rfl rfl)
theorem dL_law_705 : decode cL_law 705 = .ok (.lconst 0, 1) := dk_9 (dk_at dksL_law_19 9 rfl rfl)
theorem dL_law_706 : decode cL_law 706 = .ok (.lcmp, 1) := dk_148 (dk_at dksL_law_19 10 rfl rfl)
theorem dL_law_707 : decode cL_law 707 = .ok (.ifCond .eq 5, 3) := dk_153 0 5 (dk_at dksL_law_19 11 rfl rfl)
theorem dL_law_710 : decode cL_law 710 = .ok (.iconst 0, 1) := dk_3 (dk_at dksL_law_19 14 rfl rfl)
theorem dL_law_711 : decode cL_law 711 = .ok (.ireturn, 1) := dk_172 (dk_at dksL_law_19 15 rfl rfl)
theorem dL_law_712 : decode cL_law 712 = .ok (.goto 3034, 3) := dk_167 11 218 (dk_at dksL_law_19 16 rfl rfl)
theorem dL_law_715 : decode cL_law 715 = .ok (.aload_n 1, 1) := dk_43 (dk_at dksL_law_19 19 rfl rfl)
theorem dL_law_716 : decode cL_law 716 = .ok (.aload_n 0, 1) := dk_42 (dk_at dksL_law_19 20 rfl rfl)
theorem dL_law_717 : decode cL_law 717 = .ok (.iload 5, 2) := dk_21 5 (dk_at dksL_law_19 21 rfl rfl)
theorem dL_law_719 : decode cL_law 719 = .ok (.iconst 1, 1) := dk_4 (dk_at dksL_law_19 23 rfl rfl)
theorem dL_law_720 : decode cL_law 720 = .ok (.iadd, 1) := dk_96 (dk_at dksL_law_20 0 rfl rfl)
theorem dL_law_721 : decode cL_law 721 = .ok (.iaload, 1) := dk_46 (dk_at dksL_law_20 1 rfl rfl)
theorem dL_law_722 : decode cL_law 722 = .ok (.aload_n 3, 1) := dk_45 (dk_at dksL_law_20 2 rfl rfl)
theorem dL_law_723 : decode cL_law 723 = .ok (.invokestatic 243, 3) := dk_184 0 243 (dk_at dksL_law_20 3 rfl rfl)
theorem dL_law_726 : decode cL_law 726 = .ok (.istore 6, 2) := dk_54 6 (dk_at dksL_law_20 6 rfl rfl)
theorem dL_law_728 : decode cL_law 728 = .ok (.aload_n 2, 1) := dk_44 (dk_at dksL_law_20 8 rfl rfl)
theorem dL_law_729 : decode cL_law 729 = .ok (.aload_n 0, 1) := dk_42 (dk_at dksL_law_20 9 rfl rfl)
theorem dL_law_730 : decode cL_law 730 = .ok (.iload 5, 2) := dk_21 5 (dk_at dksL_law_20 10 rfl rfl)
theorem dL_law_732 : decode cL_law 732 = .ok (.iconst 1, 1) := dk_4 (dk_at dksL_law_20 12 rfl rfl)
theorem dL_law_733 : decode cL_law 733 = .ok (.iadd, 1) := dk_96 (dk_at dksL_law_20 13 rfl rfl)
theorem dL_law_734 : decode cL_law 734 = .ok (.iaload, 1) := dk_46 (dk_at dksL_law_20 14 rfl rfl)
theorem dL_law_735 : decode cL_law 735 = .ok (.invokevirtual 245, 3) := dk_182 0 245 (dk_at dksL_law_20 15 rfl rfl)
theorem dL_law_738 : decode cL_law 738 = .ok (.istore 7, 2) := dk_54 7 (dk_at dksL_law_20 18 rfl rfl)
theorem dL_law_740 : decode cL_law 740 = .ok (.aload_n 2, 1) := dk_44 (dk_at dksL_law_20 20 rfl rfl)
theorem dL_law_741 : decode cL_law 741 = .ok (.invokevirtual 216, 3) := dk_182 0 216 (dk_at dksL_law_20 21 rfl rfl)
theorem dL_law_744 : decode cL_law 744 = .ok (.iload 6, 2) := dk_21 6 (dk_at dksL_law_21 0 rfl rfl)
theorem dL_law_746 : decode cL_law 746 = .ok (.if_icmp .eq 5, 3) := dk_159 0 5 (dk_at dksL_law_21 2 rfl rfl)
theorem dL_law_749 : decode cL_law 749 = .ok (.iconst 0, 1) := dk_3 (dk_at dksL_law_21 5 rfl rfl)
theorem dL_law_750 : decode cL_law 750 = .ok (.ireturn, 1) := dk_172 (dk_at dksL_law_21 6 rfl rfl)
theorem dL_law_751 : decode cL_law 751 = .ok (.iload 6, 2) := dk_21 6 (dk_at dksL_law_21 7 rfl rfl)
theorem dL_law_753 : decode cL_law 753 = .ok (.ifCond .ne 22, 3) := dk_154 0 22 (dk_at dksL_law_21 9 rfl rfl)
theorem dL_law_756 : decode cL_law 756 = .ok (.aload_n 3, 1) := dk_45 (dk_at dksL_law_21 12 rfl rfl)
theorem dL_law_757 : decode cL_law 757 = .ok (.iconst 0, 1) := dk_3 (dk_at dksL_law_21 13 rfl rfl)
theorem dL_law_758 : decode cL_law 758 = .ok (.laload, 1) := dk_47 (dk_at dksL_law_21 14 rfl rfl)
theorem dL_law_759 : decode cL_law 759 = .ok (.iload 7, 2) := dk_21 7 (dk_at dksL_law_21 15 rfl rfl)
theorem dL_law_761 : decode cL_law 761 = .ok (.ifCond .eq 7, 3) := dk_153 0 7 (dk_at dksL_law_21 17 rfl rfl)
theorem dL_law_764 : decode cL_law 764 = .ok (.lconst 1, 1) := dk_10 (dk_at dksL_law_21 20 rfl rfl)
theorem dL_law_765 : decode cL_law 765 = .ok (.goto 4, 3) := dk_167 0 4 (dk_at dksL_law_21 21 rfl rfl)
theorem dL_law_768 : decode cL_law 768 = .ok (.lconst 0, 1) := dk_9 (dk_at dksL_law_22 0 rfl rfl)
theorem dL_law_769 : decode cL_law 769 = .ok (.lcmp, 1) := dk_148 (dk_at dksL_law_22 1 rfl rfl)
theorem dL_law_770 : decode cL_law 770 = .ok (.ifCond .eq 5, 3) := dk_153 0 5 (dk_at dksL_law_22 2 rfl rfl)
theorem dL_law_773 : decode cL_law 773 = .ok (.iconst 0, 1) := dk_3 (dk_at dksL_law_22 5 rfl rfl)
theorem dL_law_774 : decode cL_law 774 = .ok (.ireturn, 1) := dk_172 (dk_at dksL_law_22 6 rfl rfl)
theorem dL_law_775 : decode cL_law 775 = .ok (.goto 2971, 3) := dk_167 11 155 (dk_at dksL_law_22 7 rfl rfl)
theorem dL_law_778 : decode cL_law 778 = .ok (.aload_n 1, 1) := dk_43 (dk_at dksL_law_22 10 rfl rfl)
theorem dL_law_779 : decode cL_law 779 = .ok (.aload_n 0, 1) := dk_42 (dk_at dksL_law_22 11 rfl rfl)
theorem dL_law_780 : decode cL_law 780 = .ok (.iload 5, 2) := dk_21 5 (dk_at dksL_law_22 12 rfl rfl)
theorem dL_law_782 : decode cL_law 782 = .ok (.iconst 1, 1) := dk_4 (dk_at dksL_law_22 14 rfl rfl)
theorem dL_law_783 : decode cL_law 783 = .ok (.iadd, 1) := dk_96 (dk_at dksL_law_22 15 rfl rfl)
theorem dL_law_784 : decode cL_law 784 = .ok (.iaload, 1) := dk_46 (dk_at dksL_law_22 16 rfl rfl)
theorem dL_law_785 : decode cL_law 785 = .ok (.ifCond .eq 7, 3) := dk_153 0 7 (dk_at dksL_law_22 17 rfl rfl)
theorem dL_law_788 : decode cL_law 788 = .ok (.iconst 1, 1) := dk_4 (dk_at dksL_law_22 20 rfl rfl)
theorem dL_law_789 : decode cL_law 789 = .ok (.goto 4, 3) := dk_167 0 4 (dk_at dksL_law_22 21 rfl rfl)
theorem dL_law_792 : decode cL_law 792 = .ok (.iconst 0, 1) := dk_3 (dk_at dksL_law_23 0 rfl rfl)
theorem dL_law_793 : decode cL_law 793 = .ok (.aload_n 3, 1) := dk_45 (dk_at dksL_law_23 1 rfl rfl)
theorem dL_law_794 : decode cL_law 794 = .ok (.invokestatic 246, 3) := dk_184 0 246 (dk_at dksL_law_23 2 rfl rfl)
theorem dL_law_797 : decode cL_law 797 = .ok (.istore 6, 2) := dk_54 6 (dk_at dksL_law_23 5 rfl rfl)
theorem dL_law_799 : decode cL_law 799 = .ok (.aload_n 2, 1) := dk_44 (dk_at dksL_law_23 7 rfl rfl)
theorem dL_law_800 : decode cL_law 800 = .ok (.aload_n 0, 1) := dk_42 (dk_at dksL_law_23 8 rfl rfl)
theorem dL_law_801 : decode cL_law 801 = .ok (.iload 5, 2) := dk_21 5 (dk_at dksL_law_23 9 rfl rfl)
theorem dL_law_803 : decode cL_law 803 = .ok (.iconst 1, 1) := dk_4 (dk_at dksL_law_23 11 rfl rfl)
theorem dL_law_804 : decode cL_law 804 = .ok (.iadd, 1) := dk_96 (dk_at dksL_law_23 12 rfl rfl)
theorem dL_law_805 : decode cL_law 805 = .ok (.iaload, 1) := dk_46 (dk_at dksL_law_23 13 rfl rfl)
theorem dL_law_806 : decode cL_law 806 = .ok (.ifCond .eq 7, 3) := dk_153 0 7 (dk_at dksL_law_23 14 rfl rfl)
theorem dL_law_809 : decode cL_law 809 = .ok (.iconst 1, 1) := dk_4 (dk_at dksL_law_23 17 rfl rfl)
theorem dL_law_810 : decode cL_law 810 = .ok (.goto 4, 3) := dk_167 0 4 (dk_at dksL_law_23 18 rfl rfl)
theorem dL_law_813 : decode cL_law 813 = .ok (.iconst 0, 1) := dk_3 (dk_at dksL_law_23 21 rfl rfl)
theorem dL_law_814 : decode cL_law 814 = .ok (.invokevirtual 249, 3) := dk_182 0 249 (dk_at dksL_law_24 0 rfl rfl)
theorem dL_law_817 : decode cL_law 817 = .ok (.istore 7, 2) := dk_54 7 (dk_at dksL_law_24 3 rfl rfl)
theorem dL_law_819 : decode cL_law 819 = .ok (.aload_n 2, 1) := dk_44 (dk_at dksL_law_24 5 rfl rfl)
theorem dL_law_820 : decode cL_law 820 = .ok (.invokevirtual 216, 3) := dk_182 0 216 (dk_at dksL_law_24 6 rfl rfl)
theorem dL_law_823 : decode cL_law 823 = .ok (.iload 6, 2) := dk_21 6 (dk_at dksL_law_24 9 rfl rfl)
theorem dL_law_825 : decode cL_law 825 = .ok (.if_icmp .eq 5, 3) := dk_159 0 5 (dk_at dksL_law_24 11 rfl rfl)
theorem dL_law_828 : decode cL_law 828 = .ok (.iconst 0, 1) := dk_3 (dk_at dksL_law_24 14 rfl rfl)
theorem dL_law_829 : decode cL_law 829 = .ok (.ireturn, 1) := dk_172 (dk_at dksL_law_24 15 rfl rfl)
theorem dL_law_830 : decode cL_law 830 = .ok (.iload 6, 2) := dk_21 6 (dk_at dksL_law_24 16 rfl rfl)
theorem dL_law_832 : decode cL_law 832 = .ok (.ifCond .ne 15, 3) := dk_154 0 15 (dk_at dksL_law_24 18 rfl rfl)
theorem dL_law_835 : decode cL_law 835 = .ok (.aload_n 3, 1) := dk_45 (dk_at dksL_law_24 21 rfl rfl)
theorem dL_law_836 : decode cL_law 836 = .ok (.iconst 0, 1) := dk_3 (dk_at dksL_law_24 22 rfl rfl)
theorem dL_law_837 : decode cL_law 837 = .ok (.laload, 1) := dk_47 (dk_at dksL_law_24 23 rfl rfl)
theorem dL_law_838 : decode cL_law 838 = .ok (.iload 7, 2) := dk_21 7 (dk_at dksL_law_25 0 rfl rfl)
theorem dL_law_840 : decode cL_law 840 = .ok (.i2l, 1) := dk_133 (dk_at dksL_law_25 2 rfl rfl)
theorem dL_law_841 : decode cL_law 841 = .ok (.lcmp, 1) := dk_148 (dk_at dksL_law_25 3 rfl rfl)
theorem dL_law_842 : decode cL_law 842 = .ok (.ifCond .eq 5, 3) := dk_153 0 5 (dk_at dksL_law_25 4 rfl rfl)
theorem dL_law_845 : decode cL_law 845 = .ok (.iconst 0, 1) := dk_3 (dk_at dksL_law_25 7 rfl rfl)
theorem dL_law_846 : decode cL_law 846 = .ok (.ireturn, 1) := dk_172 (dk_at dksL_law_25 8 rfl rfl)
theorem dL_law_847 : decode cL_law 847 = .ok (.goto 2899, 3) := dk_167 11 83 (dk_at dksL_law_25 9 rfl rfl)
theorem dL_law_850 : decode cL_law 850 = .ok (.aload_n 1, 1) := dk_43 (dk_at dksL_law_25 12 rfl rfl)
theorem dL_law_851 : decode cL_law 851 = .ok (.aload_n 3, 1) := dk_45 (dk_at dksL_law_25 13 rfl rfl)
theorem dL_law_852 : decode cL_law 852 = .ok (.invokestatic 250, 3) := dk_184 0 250 (dk_at dksL_law_25 14 rfl rfl)
theorem dL_law_855 : decode cL_law 855 = .ok (.istore 6, 2) := dk_54 6 (dk_at dksL_law_25 17 rfl rfl)
theorem dL_law_857 : decode cL_law 857 = .ok (.aload_n 2, 1) := dk_44 (dk_at dksL_law_25 19 rfl rfl)
theorem dL_law_858 : decode cL_law 858 = .ok (.invokevirtual 253, 3) := dk_182 0 253 (dk_at dksL_law_25 20 rfl rfl)
theorem dL_law_861 : decode cL_law 861 = .ok (.istore 7, 2) := dk_54 7 (dk_at dksL_law_26 0 rfl rfl)
theorem dL_law_863 : decode cL_law 863 = .ok (.aload_n 2, 1) := dk_44 (dk_at dksL_law_26 2 rfl rfl)
theorem dL_law_864 : decode cL_law 864 = .ok (.invokevirtual 216, 3) := dk_182 0 216 (dk_at dksL_law_26 3 rfl rfl)
theorem dL_law_867 : decode cL_law 867 = .ok (.iload 6, 2) := dk_21 6 (dk_at dksL_law_26 6 rfl rfl)
theorem dL_law_869 : decode cL_law 869 = .ok (.if_icmp .eq 5, 3) := dk_159 0 5 (dk_at dksL_law_26 8 rfl rfl)
theorem dL_law_872 : decode cL_law 872 = .ok (.iconst 0, 1) := dk_3 (dk_at dksL_law_26 11 rfl rfl)
theorem dL_law_873 : decode cL_law 873 = .ok (.ireturn, 1) := dk_172 (dk_at dksL_law_26 12 rfl rfl)
theorem dL_law_874 : decode cL_law 874 = .ok (.iload 6, 2) := dk_21 6 (dk_at dksL_law_26 13 rfl rfl)
theorem dL_law_876 : decode cL_law 876 = .ok (.ifCond .ne 15, 3) := dk_154 0 15 (dk_at dksL_law_26 15 rfl rfl)
theorem dL_law_879 : decode cL_law 879 = .ok (.aload_n 3, 1) := dk_45 (dk_at dksL_law_26 18 rfl rfl)
theorem dL_law_880 : decode cL_law 880 = .ok (.iconst 0, 1) := dk_3 (dk_at dksL_law_26 19 rfl rfl)
theorem dL_law_881 : decode cL_law 881 = .ok (.laload, 1) := dk_47 (dk_at dksL_law_26 20 rfl rfl)
theorem dL_law_882 : decode cL_law 882 = .ok (.iload 7, 2) := dk_21 7 (dk_at dksL_law_26 21 rfl rfl)
theorem dL_law_884 : decode cL_law 884 = .ok (.i2l, 1) := dk_133 (dk_at dksL_law_26 23 rfl rfl)
theorem dL_law_885 : decode cL_law 885 = .ok (.lcmp, 1) := dk_148 (dk_at dksL_law_27 0 rfl rfl)
theorem dL_law_886 : decode cL_law 886 = .ok (.ifCond .eq 5, 3) := dk_153 0 5 (dk_at dksL_law_27 1 rfl rfl)
theorem dL_law_889 : decode cL_law 889 = .ok (.iconst 0, 1) := dk_3 (dk_at dksL_law_27 4 rfl rfl)
theorem dL_law_890 : decode cL_law 890 = .ok (.ireturn, 1) := dk_172 (dk_at dksL_law_27 5 rfl rfl)
theorem dL_law_891 : decode cL_law 891 = .ok (.goto 2855, 3) := dk_167 11 39 (dk_at dksL_law_27 6 rfl rfl)
theorem dL_law_894 : decode cL_law 894 = .ok (.aload_n 1, 1) := dk_43 (dk_at dksL_law_27 9 rfl rfl)
theorem dL_law_895 : decode cL_law 895 = .ok (.aload_n 0, 1) := dk_42 (dk_at dksL_law_27 10 rfl rfl)
theorem dL_law_896 : decode cL_law 896 = .ok (.iload 5, 2) := dk_21 5 (dk_at dksL_law_27 11 rfl rfl)
theorem dL_law_898 : decode cL_law 898 = .ok (.iconst 1, 1) := dk_4 (dk_at dksL_law_27 13 rfl rfl)
theorem dL_law_899 : decode cL_law 899 = .ok (.iadd, 1) := dk_96 (dk_at dksL_law_27 14 rfl rfl)
theorem dL_law_900 : decode cL_law 900 = .ok (.iaload, 1) := dk_46 (dk_at dksL_law_27 15 rfl rfl)
theorem dL_law_901 : decode cL_law 901 = .ok (.aload_n 3, 1) := dk_45 (dk_at dksL_law_27 16 rfl rfl)
theorem dL_law_902 : decode cL_law 902 = .ok (.invokestatic 254, 3) := dk_184 0 254 (dk_at dksL_law_27 17 rfl rfl)
theorem dL_law_905 : decode cL_law 905 = .ok (.istore 6, 2) := dk_54 6 (dk_at dksL_law_27 20 rfl rfl)
theorem dL_law_907 : decode cL_law 907 = .ok (.aload_n 2, 1) := dk_44 (dk_at dksL_law_27 22 rfl rfl)
theorem dL_law_908 : decode cL_law 908 = .ok (.aload_n 0, 1) := dk_42 (dk_at dksL_law_27 23 rfl rfl)
theorem dL_law_909 : decode cL_law 909 = .ok (.iload 5, 2) := dk_21 5 (dk_at dksL_law_28 0 rfl rfl)
theorem dL_law_911 : decode cL_law 911 = .ok (.iconst 1, 1) := dk_4 (dk_at dksL_law_28 2 rfl rfl)
theorem dL_law_912 : decode cL_law 912 = .ok (.iadd, 1) := dk_96 (dk_at dksL_law_28 3 rfl rfl)
theorem dL_law_913 : decode cL_law 913 = .ok (.iaload, 1) := dk_46 (dk_at dksL_law_28 4 rfl rfl)
theorem dL_law_914 : decode cL_law 914 = .ok (.invokevirtual 256, 3) := dk_182 1 0 (dk_at dksL_law_28 5 rfl rfl)
theorem dL_law_917 : decode cL_law 917 = .ok (.istore 7, 2) := dk_54 7 (dk_at dksL_law_28 8 rfl rfl)
theorem dL_law_919 : decode cL_law 919 = .ok (.aload_n 2, 1) := dk_44 (dk_at dksL_law_28 10 rfl rfl)
theorem dL_law_920 : decode cL_law 920 = .ok (.invokevirtual 216, 3) := dk_182 0 216 (dk_at dksL_law_28 11 rfl rfl)
theorem dL_law_923 : decode cL_law 923 = .ok (.iload 6, 2) := dk_21 6 (dk_at dksL_law_28 14 rfl rfl)
theorem dL_law_925 : decode cL_law 925 = .ok (.if_icmp .eq 5, 3) := dk_159 0 5 (dk_at dksL_law_28 16 rfl rfl)
theorem dL_law_928 : decode cL_law 928 = .ok (.iconst 0, 1) := dk_3 (dk_at dksL_law_28 19 rfl rfl)
theorem dL_law_929 : decode cL_law 929 = .ok (.ireturn, 1) := dk_172 (dk_at dksL_law_28 20 rfl rfl)
theorem dL_law_930 : decode cL_law 930 = .ok (.iload 6, 2) := dk_21 6 (dk_at dksL_law_28 21 rfl rfl)
theorem dL_law_932 : decode cL_law 932 = .ok (.ifCond .ne 15, 3) := dk_154 0 15 (dk_at dksL_law_29 0 rfl rfl)
theorem dL_law_935 : decode cL_law 935 = .ok (.aload_n 3, 1) := dk_45 (dk_at dksL_law_29 3 rfl rfl)
theorem dL_law_936 : decode cL_law 936 = .ok (.iconst 0, 1) := dk_3 (dk_at dksL_law_29 4 rfl rfl)
theorem dL_law_937 : decode cL_law 937 = .ok (.laload, 1) := dk_47 (dk_at dksL_law_29 5 rfl rfl)
theorem dL_law_938 : decode cL_law 938 = .ok (.iload 7, 2) := dk_21 7 (dk_at dksL_law_29 6 rfl rfl)
theorem dL_law_940 : decode cL_law 940 = .ok (.i2l, 1) := dk_133 (dk_at dksL_law_29 8 rfl rfl)
theorem dL_law_941 : decode cL_law 941 = .ok (.lcmp, 1) := dk_148 (dk_at dksL_law_29 9 rfl rfl)
theorem dL_law_942 : decode cL_law 942 = .ok (.ifCond .eq 5, 3) := dk_153 0 5 (dk_at dksL_law_29 10 rfl rfl)
theorem dL_law_945 : decode cL_law 945 = .ok (.iconst 0, 1) := dk_3 (dk_at dksL_law_29 13 rfl rfl)
theorem dL_law_946 : decode cL_law 946 = .ok (.ireturn, 1) := dk_172 (dk_at dksL_law_29 14 rfl rfl)
theorem dL_law_947 : decode cL_law 947 = .ok (.goto 2799, 3) := dk_167 10 239 (dk_at dksL_law_29 15 rfl rfl)
theorem dL_law_950 : decode cL_law 950 = .ok (.aload_n 1, 1) := dk_43 (dk_at dksL_law_29 18 rfl rfl)
theorem dL_law_951 : decode cL_law 951 = .ok (.aload_n 0, 1) := dk_42 (dk_at dksL_law_29 19 rfl rfl)
theorem dL_law_952 : decode cL_law 952 = .ok (.iload 5, 2) := dk_21 5 (dk_at dksL_law_29 20 rfl rfl)
theorem dL_law_954 : decode cL_law 954 = .ok (.iconst 1, 1) := dk_4 (dk_at dksL_law_29 22 rfl rfl)
theorem dL_law_955 : decode cL_law 955 = .ok (.iadd, 1) := dk_96 (dk_at dksL_law_29 23 rfl rfl)
theorem dL_law_956 : decode cL_law 956 = .ok (.iaload, 1) := dk_46 (dk_at dksL_law_30 0 rfl rfl)
theorem dL_law_957 : decode cL_law 957 = .ok (.aload_n 3, 1) := dk_45 (dk_at dksL_law_30 1 rfl rfl)
theorem dL_law_958 : decode cL_law 958 = .ok (.invokestatic 257, 3) := dk_184 1 1 (dk_at dksL_law_30 2 rfl rfl)
theorem dL_law_961 : decode cL_law 961 = .ok (.istore 6, 2) := dk_54 6 (dk_at dksL_law_30 5 rfl rfl)
theorem dL_law_963 : decode cL_law 963 = .ok (.aload_n 2, 1) := dk_44 (dk_at dksL_law_30 7 rfl rfl)
theorem dL_law_964 : decode cL_law 964 = .ok (.aload_n 0, 1) := dk_42 (dk_at dksL_law_30 8 rfl rfl)
theorem dL_law_965 : decode cL_law 965 = .ok (.iload 5, 2) := dk_21 5 (dk_at dksL_law_30 9 rfl rfl)
theorem dL_law_967 : decode cL_law 967 = .ok (.iconst 1, 1) := dk_4 (dk_at dksL_law_30 11 rfl rfl)
theorem dL_law_968 : decode cL_law 968 = .ok (.iadd, 1) := dk_96 (dk_at dksL_law_30 12 rfl rfl)
theorem dL_law_969 : decode cL_law 969 = .ok (.iaload, 1) := dk_46 (dk_at dksL_law_30 13 rfl rfl)
theorem dL_law_970 : decode cL_law 970 = .ok (.invokevirtual 259, 3) := dk_182 1 3 (dk_at dksL_law_30 14 rfl rfl)
theorem dL_law_973 : decode cL_law 973 = .ok (.istore 7, 2) := dk_54 7 (dk_at dksL_law_30 17 rfl rfl)
theorem dL_law_975 : decode cL_law 975 = .ok (.aload_n 2, 1) := dk_44 (dk_at dksL_law_30 19 rfl rfl)
theorem dL_law_976 : decode cL_law 976 = .ok (.invokevirtual 216, 3) := dk_182 0 216 (dk_at dksL_law_30 20 rfl rfl)
theorem dL_law_979 : decode cL_law 979 = .ok (.iload 6, 2) := dk_21 6 (dk_at dksL_law_31 0 rfl rfl)
theorem dL_law_981 : decode cL_law 981 = .ok (.if_icmp .eq 5, 3) := dk_159 0 5 (dk_at dksL_law_31 2 rfl rfl)
theorem dL_law_984 : decode cL_law 984 = .ok (.iconst 0, 1) := dk_3 (dk_at dksL_law_31 5 rfl rfl)
theorem dL_law_985 : decode cL_law 985 = .ok (.ireturn, 1) := dk_172 (dk_at dksL_law_31 6 rfl rfl)
theorem dL_law_986 : decode cL_law 986 = .ok (.iload 6, 2) := dk_21 6 (dk_at dksL_law_31 7 rfl rfl)
theorem dL_law_988 : decode cL_law 988 = .ok (.ifCond .ne 15, 3) := dk_154 0 15 (dk_at dksL_law_31 9 rfl rfl)
theorem dL_law_991 : decode cL_law 991 = .ok (.aload_n 3, 1) := dk_45 (dk_at dksL_law_31 12 rfl rfl)
theorem dL_law_992 : decode cL_law 992 = .ok (.iconst 0, 1) := dk_3 (dk_at dksL_law_31 13 rfl rfl)
theorem dL_law_993 : decode cL_law 993 = .ok (.laload, 1) := dk_47 (dk_at dksL_law_31 14 rfl rfl)
theorem dL_law_994 : decode cL_law 994 = .ok (.iload 7, 2) := dk_21 7 (dk_at dksL_law_31 15 rfl rfl)
theorem dL_law_996 : decode cL_law 996 = .ok (.i2l, 1) := dk_133 (dk_at dksL_law_31 17 rfl rfl)
theorem dL_law_997 : decode cL_law 997 = .ok (.lcmp, 1) := dk_148 (dk_at dksL_law_31 18 rfl rfl)
theorem dL_law_998 : decode cL_law 998 = .ok (.ifCond .eq 5, 3) := dk_153 0 5 (dk_at dksL_law_31 19 rfl rfl)
theorem dL_law_1001 : decode cL_law 1001 = .ok (.iconst 0, 1) := dk_3 (dk_at dksL_law_31 22 rfl rfl)
theorem dL_law_1002 : decode cL_law 1002 = .ok (.ireturn, 1) := dk_172 (dk_at dksL_law_31 23 rfl rfl)
theorem dL_law_1003 : decode cL_law 1003 = .ok (.goto 2743, 3) := dk_167 10 183 (dk_at dksL_law_32 0 rfl rfl)
theorem dL_law_1006 : decode cL_law 1006 = .ok (.aload_n 1, 1) := dk_43 (dk_at dksL_law_32 3 rfl rfl)
theorem dL_law_1007 : decode cL_law 1007 = .ok (.aload_n 0, 1) := dk_42 (dk_at dksL_law_32 4 rfl rfl)
theorem dL_law_1008 : decode cL_law 1008 = .ok (.iload 5, 2) := dk_21 5 (dk_at dksL_law_32 5 rfl rfl)
theorem dL_law_1010 : decode cL_law 1010 = .ok (.iconst 1, 1) := dk_4 (dk_at dksL_law_32 7 rfl rfl)
theorem dL_law_1011 : decode cL_law 1011 = .ok (.iadd, 1) := dk_96 (dk_at dksL_law_32 8 rfl rfl)
theorem dL_law_1012 : decode cL_law 1012 = .ok (.iaload, 1) := dk_46 (dk_at dksL_law_32 9 rfl rfl)
theorem dL_law_1013 : decode cL_law 1013 = .ok (.aload_n 0, 1) := dk_42 (dk_at dksL_law_32 10 rfl rfl)
theorem dL_law_1014 : decode cL_law 1014 = .ok (.iload 5, 2) := dk_21 5 (dk_at dksL_law_32 11 rfl rfl)
theorem dL_law_1016 : decode cL_law 1016 = .ok (.iconst 2, 1) := dk_5 (dk_at dksL_law_32 13 rfl rfl)
theorem dL_law_1017 : decode cL_law 1017 = .ok (.iadd, 1) := dk_96 (dk_at dksL_law_32 14 rfl rfl)
theorem dL_law_1018 : decode cL_law 1018 = .ok (.iaload, 1) := dk_46 (dk_at dksL_law_32 15 rfl rfl)
theorem dL_law_1019 : decode cL_law 1019 = .ok (.aload_n 3, 1) := dk_45 (dk_at dksL_law_32 16 rfl rfl)
theorem dL_law_1020 : decode cL_law 1020 = .ok (.invokestatic 260, 3) := dk_184 1 4 (dk_at dksL_law_32 17 rfl rfl)
theorem dL_law_1023 : decode cL_law 1023 = .ok (.istore 6, 2) := dk_54 6 (dk_at dksL_law_32 20 rfl rfl)
theorem dL_law_1025 : decode cL_law 1025 = .ok (.aload_n 2, 1) := dk_44 (dk_at dksL_law_32 22 rfl rfl)
theorem dL_law_1026 : decode cL_law 1026 = .ok (.aload_n 0, 1) := dk_42 (dk_at dksL_law_32 23 rfl rfl)
theorem dL_law_1027 : decode cL_law 1027 = .ok (.iload 5, 2) := dk_21 5 (dk_at dksL_law_33 0 rfl rfl)
theorem dL_law_1029 : decode cL_law 1029 = .ok (.iconst 1, 1) := dk_4 (dk_at dksL_law_33 2 rfl rfl)
theorem dL_law_1030 : decode cL_law 1030 = .ok (.iadd, 1) := dk_96 (dk_at dksL_law_33 3 rfl rfl)
theorem dL_law_1031 : decode cL_law 1031 = .ok (.iaload, 1) := dk_46 (dk_at dksL_law_33 4 rfl rfl)
theorem dL_law_1032 : decode cL_law 1032 = .ok (.aload_n 0, 1) := dk_42 (dk_at dksL_law_33 5 rfl rfl)
theorem dL_law_1033 : decode cL_law 1033 = .ok (.iload 5, 2) := dk_21 5 (dk_at dksL_law_33 6 rfl rfl)
theorem dL_law_1035 : decode cL_law 1035 = .ok (.iconst 2, 1) := dk_5 (dk_at dksL_law_33 8 rfl rfl)
theorem dL_law_1036 : decode cL_law 1036 = .ok (.iadd, 1) := dk_96 (dk_at dksL_law_33 9 rfl rfl)
theorem dL_law_1037 : decode cL_law 1037 = .ok (.iaload, 1) := dk_46 (dk_at dksL_law_33 10 rfl rfl)
theorem dL_law_1038 : decode cL_law 1038 = .ok (.invokevirtual 263, 3) := dk_182 1 7 (dk_at dksL_law_33 11 rfl rfl)
theorem dL_law_1041 : decode cL_law 1041 = .ok (.istore 7, 2) := dk_54 7 (dk_at dksL_law_33 14 rfl rfl)
theorem dL_law_1043 : decode cL_law 1043 = .ok (.aload_n 2, 1) := dk_44 (dk_at dksL_law_33 16 rfl rfl)
theorem dL_law_1044 : decode cL_law 1044 = .ok (.invokevirtual 216, 3) := dk_182 0 216 (dk_at dksL_law_33 17 rfl rfl)
theorem dL_law_1047 : decode cL_law 1047 = .ok (.iload 6, 2) := dk_21 6 (dk_at dksL_law_33 20 rfl rfl)
theorem dL_law_1049 : decode cL_law 1049 = .ok (.if_icmp .eq 5, 3) := dk_159 0 5 (dk_at dksL_law_34 0 rfl rfl)
theorem dL_law_1052 : decode cL_law 1052 = .ok (.iconst 0, 1) := dk_3 (dk_at dksL_law_34 3 rfl rfl)
theorem dL_law_1053 : decode cL_law 1053 = .ok (.ireturn, 1) := dk_172 (dk_at dksL_law_34 4 rfl rfl)
theorem dL_law_1054 : decode cL_law 1054 = .ok (.iload 6, 2) := dk_21 6 (dk_at dksL_law_34 5 rfl rfl)
theorem dL_law_1056 : decode cL_law 1056 = .ok (.ifCond .ne 15, 3) := dk_154 0 15 (dk_at dksL_law_34 7 rfl rfl)
theorem dL_law_1059 : decode cL_law 1059 = .ok (.aload_n 3, 1) := dk_45 (dk_at dksL_law_34 10 rfl rfl)
theorem dL_law_1060 : decode cL_law 1060 = .ok (.iconst 0, 1) := dk_3 (dk_at dksL_law_34 11 rfl rfl)
theorem dL_law_1061 : decode cL_law 1061 = .ok (.laload, 1) := dk_47 (dk_at dksL_law_34 12 rfl rfl)
theorem dL_law_1062 : decode cL_law 1062 = .ok (.iload 7, 2) := dk_21 7 (dk_at dksL_law_34 13 rfl rfl)
theorem dL_law_1064 : decode cL_law 1064 = .ok (.i2l, 1) := dk_133 (dk_at dksL_law_34 15 rfl rfl)
theorem dL_law_1065 : decode cL_law 1065 = .ok (.lcmp, 1) := dk_148 (dk_at dksL_law_34 16 rfl rfl)
theorem dL_law_1066 : decode cL_law 1066 = .ok (.ifCond .eq 5, 3) := dk_153 0 5 (dk_at dksL_law_34 17 rfl rfl)
theorem dL_law_1069 : decode cL_law 1069 = .ok (.iconst 0, 1) := dk_3 (dk_at dksL_law_34 20 rfl rfl)
theorem dL_law_1070 : decode cL_law 1070 = .ok (.ireturn, 1) := dk_172 (dk_at dksL_law_34 21 rfl rfl)
theorem dL_law_1071 : decode cL_law 1071 = .ok (.goto 2675, 3) := dk_167 10 115 (dk_at dksL_law_35 0 rfl rfl)
theorem dL_law_1074 : decode cL_law 1074 = .ok (.aload_n 1, 1) := dk_43 (dk_at dksL_law_35 3 rfl rfl)
theorem dL_law_1075 : decode cL_law 1075 = .ok (.aload_n 3, 1) := dk_45 (dk_at dksL_law_35 4 rfl rfl)
theorem dL_law_1076 : decode cL_law 1076 = .ok (.invokestatic 264, 3) := dk_184 1 8 (dk_at dksL_law_35 5 rfl rfl)
theorem dL_law_1079 : decode cL_law 1079 = .ok (.istore 6, 2) := dk_54 6 (dk_at dksL_law_35 8 rfl rfl)
theorem dL_law_1081 : decode cL_law 1081 = .ok (.aload_n 2, 1) := dk_44 (dk_at dksL_law_35 10 rfl rfl)
theorem dL_law_1082 : decode cL_law 1082 = .ok (.invokevirtual 266, 3) := dk_182 1 10 (dk_at dksL_law_35 11 rfl rfl)
theorem dL_law_1085 : decode cL_law 1085 = .ok (.istore 7, 2) := dk_54 7 (dk_at dksL_law_35 14 rfl rfl)
theorem dL_law_1087 : decode cL_law 1087 = .ok (.aload_n 2, 1) := dk_44 (dk_at dksL_law_35 16 rfl rfl)
theorem dL_law_1088 : decode cL_law 1088 = .ok (.invokevirtual 216, 3) := dk_182 0 216 (dk_at dksL_law_35 17 rfl rfl)
theorem dL_law_1091 : decode cL_law 1091 = .ok (.iload 6, 2) := dk_21 6 (dk_at dksL_law_35 20 rfl rfl)
theorem dL_law_1093 : decode cL_law 1093 = .ok (.if_icmp .eq 5, 3) := dk_159 0 5 (dk_at dksL_law_36 0 rfl rfl)
theorem dL_law_1096 : decode cL_law 1096 = .ok (.iconst 0, 1) := dk_3 (dk_at dksL_law_36 3 rfl rfl)
theorem dL_law_1097 : decode cL_law 1097 = .ok (.ireturn, 1) := dk_172 (dk_at dksL_law_36 4 rfl rfl)
theorem dL_law_1098 : decode cL_law 1098 = .ok (.iload 6, 2) := dk_21 6 (dk_at dksL_law_36 5 rfl rfl)
theorem dL_law_1100 : decode cL_law 1100 = .ok (.ifCond .ne 15, 3) := dk_154 0 15 (dk_at dksL_law_36 7 rfl rfl)
theorem dL_law_1103 : decode cL_law 1103 = .ok (.aload_n 3, 1) := dk_45 (dk_at dksL_law_36 10 rfl rfl)
theorem dL_law_1104 : decode cL_law 1104 = .ok (.iconst 0, 1) := dk_3 (dk_at dksL_law_36 11 rfl rfl)
theorem dL_law_1105 : decode cL_law 1105 = .ok (.laload, 1) := dk_47 (dk_at dksL_law_36 12 rfl rfl)
theorem dL_law_1106 : decode cL_law 1106 = .ok (.iload 7, 2) := dk_21 7 (dk_at dksL_law_36 13 rfl rfl)
theorem dL_law_1108 : decode cL_law 1108 = .ok (.i2l, 1) := dk_133 (dk_at dksL_law_36 15 rfl rfl)
theorem dL_law_1109 : decode cL_law 1109 = .ok (.lcmp, 1) := dk_148 (dk_at dksL_law_36 16 rfl rfl)
theorem dL_law_1110 : decode cL_law 1110 = .ok (.ifCond .eq 5, 3) := dk_153 0 5 (dk_at dksL_law_36 17 rfl rfl)
theorem dL_law_1113 : decode cL_law 1113 = .ok (.iconst 0, 1) := dk_3 (dk_at dksL_law_36 20 rfl rfl)
theorem dL_law_1114 : decode cL_law 1114 = .ok (.ireturn, 1) := dk_172 (dk_at dksL_law_36 21 rfl rfl)
theorem dL_law_1115 : decode cL_law 1115 = .ok (.goto 2631, 3) := dk_167 10 71 (dk_at dksL_law_37 0 rfl rfl)
theorem dL_law_1118 : decode cL_law 1118 = .ok (.aload_n 1, 1) := dk_43 (dk_at dksL_law_37 3 rfl rfl)
theorem dL_law_1119 : decode cL_law 1119 = .ok (.aload_n 0, 1) := dk_42 (dk_at dksL_law_37 4 rfl rfl)
theorem dL_law_1120 : decode cL_law 1120 = .ok (.iload 5, 2) := dk_21 5 (dk_at dksL_law_37 5 rfl rfl)
theorem dL_law_1122 : decode cL_law 1122 = .ok (.iconst 1, 1) := dk_4 (dk_at dksL_law_37 7 rfl rfl)
theorem dL_law_1123 : decode cL_law 1123 = .ok (.iadd, 1) := dk_96 (dk_at dksL_law_37 8 rfl rfl)
theorem dL_law_1124 : decode cL_law 1124 = .ok (.iaload, 1) := dk_46 (dk_at dksL_law_37 9 rfl rfl)
theorem dL_law_1125 : decode cL_law 1125 = .ok (.aload_n 0, 1) := dk_42 (dk_at dksL_law_37 10 rfl rfl)
theorem dL_law_1126 : decode cL_law 1126 = .ok (.iload 5, 2) := dk_21 5 (dk_at dksL_law_37 11 rfl rfl)
theorem dL_law_1128 : decode cL_law 1128 = .ok (.iconst 2, 1) := dk_5 (dk_at dksL_law_37 13 rfl rfl)
theorem dL_law_1129 : decode cL_law 1129 = .ok (.iadd, 1) := dk_96 (dk_at dksL_law_37 14 rfl rfl)
theorem dL_law_1130 : decode cL_law 1130 = .ok (.iaload, 1) := dk_46 (dk_at dksL_law_37 15 rfl rfl)
theorem dL_law_1131 : decode cL_law 1131 = .ok (.aload_n 3, 1) := dk_45 (dk_at dksL_law_37 16 rfl rfl)
theorem dL_law_1132 : decode cL_law 1132 = .ok (.invokestatic 267, 3) := dk_184 1 11 (dk_at dksL_law_37 17 rfl rfl)
theorem dL_law_1135 : decode cL_law 1135 = .ok (.istore 6, 2) := dk_54 6 (dk_at dksL_law_37 20 rfl rfl)
theorem dL_law_1137 : decode cL_law 1137 = .ok (.aload_n 2, 1) := dk_44 (dk_at dksL_law_37 22 rfl rfl)
theorem dL_law_1138 : decode cL_law 1138 = .ok (.aload_n 0, 1) := dk_42 (dk_at dksL_law_37 23 rfl rfl)
theorem dL_law_1139 : decode cL_law 1139 = .ok (.iload 5, 2) := dk_21 5 (dk_at dksL_law_38 0 rfl rfl)
theorem dL_law_1141 : decode cL_law 1141 = .ok (.iconst 1, 1) := dk_4 (dk_at dksL_law_38 2 rfl rfl)
theorem dL_law_1142 : decode cL_law 1142 = .ok (.iadd, 1) := dk_96 (dk_at dksL_law_38 3 rfl rfl)
theorem dL_law_1143 : decode cL_law 1143 = .ok (.iaload, 1) := dk_46 (dk_at dksL_law_38 4 rfl rfl)
theorem dL_law_1144 : decode cL_law 1144 = .ok (.aload_n 0, 1) := dk_42 (dk_at dksL_law_38 5 rfl rfl)
theorem dL_law_1145 : decode cL_law 1145 = .ok (.iload 5, 2) := dk_21 5 (dk_at dksL_law_38 6 rfl rfl)
theorem dL_law_1147 : decode cL_law 1147 = .ok (.iconst 2, 1) := dk_5 (dk_at dksL_law_38 8 rfl rfl)
theorem dL_law_1148 : decode cL_law 1148 = .ok (.iadd, 1) := dk_96 (dk_at dksL_law_38 9 rfl rfl)
theorem dL_law_1149 : decode cL_law 1149 = .ok (.iaload, 1) := dk_46 (dk_at dksL_law_38 10 rfl rfl)
theorem dL_law_1150 : decode cL_law 1150 = .ok (.invokevirtual 269, 3) := dk_182 1 13 (dk_at dksL_law_38 11 rfl rfl)
theorem dL_law_1153 : decode cL_law 1153 = .ok (.istore 7, 2) := dk_54 7 (dk_at dksL_law_38 14 rfl rfl)
theorem dL_law_1155 : decode cL_law 1155 = .ok (.aload_n 2, 1) := dk_44 (dk_at dksL_law_38 16 rfl rfl)
theorem dL_law_1156 : decode cL_law 1156 = .ok (.invokevirtual 216, 3) := dk_182 0 216 (dk_at dksL_law_38 17 rfl rfl)
theorem dL_law_1159 : decode cL_law 1159 = .ok (.iload 6, 2) := dk_21 6 (dk_at dksL_law_38 20 rfl rfl)
theorem dL_law_1161 : decode cL_law 1161 = .ok (.if_icmp .eq 5, 3) := dk_159 0 5 (dk_at dksL_law_39 0 rfl rfl)
theorem dL_law_1164 : decode cL_law 1164 = .ok (.iconst 0, 1) := dk_3 (dk_at dksL_law_39 3 rfl rfl)
theorem dL_law_1165 : decode cL_law 1165 = .ok (.ireturn, 1) := dk_172 (dk_at dksL_law_39 4 rfl rfl)
theorem dL_law_1166 : decode cL_law 1166 = .ok (.iload 6, 2) := dk_21 6 (dk_at dksL_law_39 5 rfl rfl)
theorem dL_law_1168 : decode cL_law 1168 = .ok (.ifCond .ne 15, 3) := dk_154 0 15 (dk_at dksL_law_39 7 rfl rfl)
theorem dL_law_1171 : decode cL_law 1171 = .ok (.aload_n 3, 1) := dk_45 (dk_at dksL_law_39 10 rfl rfl)
theorem dL_law_1172 : decode cL_law 1172 = .ok (.iconst 0, 1) := dk_3 (dk_at dksL_law_39 11 rfl rfl)
theorem dL_law_1173 : decode cL_law 1173 = .ok (.laload, 1) := dk_47 (dk_at dksL_law_39 12 rfl rfl)
theorem dL_law_1174 : decode cL_law 1174 = .ok (.iload 7, 2) := dk_21 7 (dk_at dksL_law_39 13 rfl rfl)
theorem dL_law_1176 : decode cL_law 1176 = .ok (.i2l, 1) := dk_133 (dk_at dksL_law_39 15 rfl rfl)
theorem dL_law_1177 : decode cL_law 1177 = .ok (.lcmp, 1) := dk_148 (dk_at dksL_law_39 16 rfl rfl)
theorem dL_law_1178 : decode cL_law 1178 = .ok (.ifCond .eq 5, 3) := dk_153 0 5 (dk_at dksL_law_39 17 rfl rfl)
theorem dL_law_1181 : decode cL_law 1181 = .ok (.iconst 0, 1) := dk_3 (dk_at dksL_law_39 20 rfl rfl)
theorem dL_law_1182 : decode cL_law 1182 = .ok (.ireturn, 1) := dk_172 (dk_at dksL_law_39 21 rfl rfl)
theorem dL_law_1183 : decode cL_law 1183 = .ok (.goto 2563, 3) := dk_167 10 3 (dk_at dksL_law_40 0 rfl rfl)
theorem dL_law_1186 : decode cL_law 1186 = .ok (.aload_n 1, 1) := dk_43 (dk_at dksL_law_40 3 rfl rfl)
theorem dL_law_1187 : decode cL_law 1187 = .ok (.aload_n 0, 1) := dk_42 (dk_at dksL_law_40 4 rfl rfl)
theorem dL_law_1188 : decode cL_law 1188 = .ok (.iload 5, 2) := dk_21 5 (dk_at dksL_law_40 5 rfl rfl)
theorem dL_law_1190 : decode cL_law 1190 = .ok (.iconst 1, 1) := dk_4 (dk_at dksL_law_40 7 rfl rfl)
theorem dL_law_1191 : decode cL_law 1191 = .ok (.iadd, 1) := dk_96 (dk_at dksL_law_40 8 rfl rfl)
theorem dL_law_1192 : decode cL_law 1192 = .ok (.iaload, 1) := dk_46 (dk_at dksL_law_40 9 rfl rfl)
theorem dL_law_1193 : decode cL_law 1193 = .ok (.aload_n 3, 1) := dk_45 (dk_at dksL_law_40 10 rfl rfl)
theorem dL_law_1194 : decode cL_law 1194 = .ok (.invokestatic 270, 3) := dk_184 1 14 (dk_at dksL_law_40 11 rfl rfl)
theorem dL_law_1197 : decode cL_law 1197 = .ok (.istore 6, 2) := dk_54 6 (dk_at dksL_law_40 14 rfl rfl)
theorem dL_law_1199 : decode cL_law 1199 = .ok (.aload_n 2, 1) := dk_44 (dk_at dksL_law_40 16 rfl rfl)
theorem dL_law_1200 : decode cL_law 1200 = .ok (.aload_n 0, 1) := dk_42 (dk_at dksL_law_40 17 rfl rfl)
theorem dL_law_1201 : decode cL_law 1201 = .ok (.iload 5, 2) := dk_21 5 (dk_at dksL_law_40 18 rfl rfl)
theorem dL_law_1203 : decode cL_law 1203 = .ok (.iconst 1, 1) := dk_4 (dk_at dksL_law_40 20 rfl rfl)
theorem dL_law_1204 : decode cL_law 1204 = .ok (.iadd, 1) := dk_96 (dk_at dksL_law_40 21 rfl rfl)
theorem dL_law_1205 : decode cL_law 1205 = .ok (.iaload, 1) := dk_46 (dk_at dksL_law_40 22 rfl rfl)
theorem dL_law_1206 : decode cL_law 1206 = .ok (.invokevirtual 272, 3) := dk_182 1 16 (dk_at dksL_law_41 0 rfl rfl)
theorem dL_law_1209 : decode cL_law 1209 = .ok (.istore 7, 2) := dk_54 7 (dk_at dksL_law_41 3 rfl rfl)
theorem dL_law_1211 : decode cL_law 1211 = .ok (.aload_n 2, 1) := dk_44 (dk_at dksL_law_41 5 rfl rfl)
theorem dL_law_1212 : decode cL_law 1212 = .ok (.invokevirtual 216, 3) := dk_182 0 216 (dk_at dksL_law_41 6 rfl rfl)
theorem dL_law_1215 : decode cL_law 1215 = .ok (.iload 6, 2) := dk_21 6 (dk_at dksL_law_41 9 rfl rfl)
theorem dL_law_1217 : decode cL_law 1217 = .ok (.if_icmp .eq 5, 3) := dk_159 0 5 (dk_at dksL_law_41 11 rfl rfl)
theorem dL_law_1220 : decode cL_law 1220 = .ok (.iconst 0, 1) := dk_3 (dk_at dksL_law_41 14 rfl rfl)
theorem dL_law_1221 : decode cL_law 1221 = .ok (.ireturn, 1) := dk_172 (dk_at dksL_law_41 15 rfl rfl)
theorem dL_law_1222 : decode cL_law 1222 = .ok (.iload 6, 2) := dk_21 6 (dk_at dksL_law_41 16 rfl rfl)
theorem dL_law_1224 : decode cL_law 1224 = .ok (.ifCond .ne 15, 3) := dk_154 0 15 (dk_at dksL_law_41 18 rfl rfl)
theorem dL_law_1227 : decode cL_law 1227 = .ok (.aload_n 3, 1) := dk_45 (dk_at dksL_law_41 21 rfl rfl)
theorem dL_law_1228 : decode cL_law 1228 = .ok (.iconst 0, 1) := dk_3 (dk_at dksL_law_41 22 rfl rfl)
theorem dL_law_1229 : decode cL_law 1229 = .ok (.laload, 1) := dk_47 (dk_at dksL_law_41 23 rfl rfl)
theorem dL_law_1230 : decode cL_law 1230 = .ok (.iload 7, 2) := dk_21 7 (dk_at dksL_law_42 0 rfl rfl)
theorem dL_law_1232 : decode cL_law 1232 = .ok (.i2l, 1) := dk_133 (dk_at dksL_law_42 2 rfl rfl)
theorem dL_law_1233 : decode cL_law 1233 = .ok (.lcmp, 1) := dk_148 (dk_at dksL_law_42 3 rfl rfl)
theorem dL_law_1234 : decode cL_law 1234 = .ok (.ifCond .eq 5, 3) := dk_153 0 5 (dk_at dksL_law_42 4 rfl rfl)
theorem dL_law_1237 : decode cL_law 1237 = .ok (.iconst 0, 1) := dk_3 (dk_at dksL_law_42 7 rfl rfl)
theorem dL_law_1238 : decode cL_law 1238 = .ok (.ireturn, 1) := dk_172 (dk_at dksL_law_42 8 rfl rfl)
theorem dL_law_1239 : decode cL_law 1239 = .ok (.goto 2507, 3) := dk_167 9 203 (dk_at dksL_law_42 9 rfl rfl)
theorem dL_law_1242 : decode cL_law 1242 = .ok (.aload_n 1, 1) := dk_43 (dk_at dksL_law_42 12 rfl rfl)
theorem dL_law_1243 : decode cL_law 1243 = .ok (.aload_n 0, 1) := dk_42 (dk_at dksL_law_42 13 rfl rfl)
theorem dL_law_1244 : decode cL_law 1244 = .ok (.iload 5, 2) := dk_21 5 (dk_at dksL_law_42 14 rfl rfl)
theorem dL_law_1246 : decode cL_law 1246 = .ok (.iconst 1, 1) := dk_4 (dk_at dksL_law_42 16 rfl rfl)
theorem dL_law_1247 : decode cL_law 1247 = .ok (.iadd, 1) := dk_96 (dk_at dksL_law_42 17 rfl rfl)
theorem dL_law_1248 : decode cL_law 1248 = .ok (.iaload, 1) := dk_46 (dk_at dksL_law_42 18 rfl rfl)
theorem dL_law_1249 : decode cL_law 1249 = .ok (.aload_n 3, 1) := dk_45 (dk_at dksL_law_42 19 rfl rfl)
theorem dL_law_1250 : decode cL_law 1250 = .ok (.invokestatic 273, 3) := dk_184 1 17 (dk_at dksL_law_42 20 rfl rfl)
theorem dL_law_1253 : decode cL_law 1253 = .ok (.istore 6, 2) := dk_54 6 (dk_at dksL_law_43 0 rfl rfl)
theorem dL_law_1255 : decode cL_law 1255 = .ok (.aload_n 2, 1) := dk_44 (dk_at dksL_law_43 2 rfl rfl)
theorem dL_law_1256 : decode cL_law 1256 = .ok (.aload_n 0, 1) := dk_42 (dk_at dksL_law_43 3 rfl rfl)
theorem dL_law_1257 : decode cL_law 1257 = .ok (.iload 5, 2) := dk_21 5 (dk_at dksL_law_43 4 rfl rfl)
theorem dL_law_1259 : decode cL_law 1259 = .ok (.iconst 1, 1) := dk_4 (dk_at dksL_law_43 6 rfl rfl)
theorem dL_law_1260 : decode cL_law 1260 = .ok (.iadd, 1) := dk_96 (dk_at dksL_law_43 7 rfl rfl)
theorem dL_law_1261 : decode cL_law 1261 = .ok (.iaload, 1) := dk_46 (dk_at dksL_law_43 8 rfl rfl)
theorem dL_law_1262 : decode cL_law 1262 = .ok (.invokevirtual 275, 3) := dk_182 1 19 (dk_at dksL_law_43 9 rfl rfl)
theorem dL_law_1265 : decode cL_law 1265 = .ok (.istore 7, 2) := dk_54 7 (dk_at dksL_law_43 12 rfl rfl)
theorem dL_law_1267 : decode cL_law 1267 = .ok (.aload_n 2, 1) := dk_44 (dk_at dksL_law_43 14 rfl rfl)
theorem dL_law_1268 : decode cL_law 1268 = .ok (.invokevirtual 216, 3) := dk_182 0 216 (dk_at dksL_law_43 15 rfl rfl)
theorem dL_law_1271 : decode cL_law 1271 = .ok (.iload 6, 2) := dk_21 6 (dk_at dksL_law_43 18 rfl rfl)
theorem dL_law_1273 : decode cL_law 1273 = .ok (.if_icmp .eq 5, 3) := dk_159 0 5 (dk_at dksL_law_43 20 rfl rfl)
theorem dL_law_1276 : decode cL_law 1276 = .ok (.iconst 0, 1) := dk_3 (dk_at dksL_law_43 23 rfl rfl)
theorem dL_law_1277 : decode cL_law 1277 = .ok (.ireturn, 1) := dk_172 (dk_at dksL_law_44 0 rfl rfl)
theorem dL_law_1278 : decode cL_law 1278 = .ok (.iload 6, 2) := dk_21 6 (dk_at dksL_law_44 1 rfl rfl)
theorem dL_law_1280 : decode cL_law 1280 = .ok (.ifCond .ne 15, 3) := dk_154 0 15 (dk_at dksL_law_44 3 rfl rfl)
theorem dL_law_1283 : decode cL_law 1283 = .ok (.aload_n 3, 1) := dk_45 (dk_at dksL_law_44 6 rfl rfl)
theorem dL_law_1284 : decode cL_law 1284 = .ok (.iconst 0, 1) := dk_3 (dk_at dksL_law_44 7 rfl rfl)
theorem dL_law_1285 : decode cL_law 1285 = .ok (.laload, 1) := dk_47 (dk_at dksL_law_44 8 rfl rfl)
theorem dL_law_1286 : decode cL_law 1286 = .ok (.iload 7, 2) := dk_21 7 (dk_at dksL_law_44 9 rfl rfl)
theorem dL_law_1288 : decode cL_law 1288 = .ok (.i2l, 1) := dk_133 (dk_at dksL_law_44 11 rfl rfl)
theorem dL_law_1289 : decode cL_law 1289 = .ok (.lcmp, 1) := dk_148 (dk_at dksL_law_44 12 rfl rfl)
theorem dL_law_1290 : decode cL_law 1290 = .ok (.ifCond .eq 5, 3) := dk_153 0 5 (dk_at dksL_law_44 13 rfl rfl)
theorem dL_law_1293 : decode cL_law 1293 = .ok (.iconst 0, 1) := dk_3 (dk_at dksL_law_44 16 rfl rfl)
theorem dL_law_1294 : decode cL_law 1294 = .ok (.ireturn, 1) := dk_172 (dk_at dksL_law_44 17 rfl rfl)
theorem dL_law_1295 : decode cL_law 1295 = .ok (.goto 2451, 3) := dk_167 9 147 (dk_at dksL_law_44 18 rfl rfl)
theorem dL_law_1298 : decode cL_law 1298 = .ok (.aload_n 1, 1) := dk_43 (dk_at dksL_law_44 21 rfl rfl)
theorem dL_law_1299 : decode cL_law 1299 = .ok (.aload_n 0, 1) := dk_42 (dk_at dksL_law_44 22 rfl rfl)
theorem dL_law_1300 : decode cL_law 1300 = .ok (.iload 5, 2) := dk_21 5 (dk_at dksL_law_45 0 rfl rfl)
theorem dL_law_1302 : decode cL_law 1302 = .ok (.iconst 1, 1) := dk_4 (dk_at dksL_law_45 2 rfl rfl)
theorem dL_law_1303 : decode cL_law 1303 = .ok (.iadd, 1) := dk_96 (dk_at dksL_law_45 3 rfl rfl)
theorem dL_law_1304 : decode cL_law 1304 = .ok (.iaload, 1) := dk_46 (dk_at dksL_law_45 4 rfl rfl)
theorem dL_law_1305 : decode cL_law 1305 = .ok (.aload_n 0, 1) := dk_42 (dk_at dksL_law_45 5 rfl rfl)
theorem dL_law_1306 : decode cL_law 1306 = .ok (.iload 5, 2) := dk_21 5 (dk_at dksL_law_45 6 rfl rfl)
theorem dL_law_1308 : decode cL_law 1308 = .ok (.iconst 2, 1) := dk_5 (dk_at dksL_law_45 8 rfl rfl)
theorem dL_law_1309 : decode cL_law 1309 = .ok (.iadd, 1) := dk_96 (dk_at dksL_law_45 9 rfl rfl)
theorem dL_law_1310 : decode cL_law 1310 = .ok (.iaload, 1) := dk_46 (dk_at dksL_law_45 10 rfl rfl)
theorem dL_law_1311 : decode cL_law 1311 = .ok (.ifCond .eq 7, 3) := dk_153 0 7 (dk_at dksL_law_45 11 rfl rfl)
theorem dL_law_1314 : decode cL_law 1314 = .ok (.iconst 1, 1) := dk_4 (dk_at dksL_law_45 14 rfl rfl)
theorem dL_law_1315 : decode cL_law 1315 = .ok (.goto 4, 3) := dk_167 0 4 (dk_at dksL_law_45 15 rfl rfl)
theorem dL_law_1318 : decode cL_law 1318 = .ok (.iconst 0, 1) := dk_3 (dk_at dksL_law_45 18 rfl rfl)
theorem dL_law_1319 : decode cL_law 1319 = .ok (.aload_n 3, 1) := dk_45 (dk_at dksL_law_45 19 rfl rfl)
theorem dL_law_1320 : decode cL_law 1320 = .ok (.invokestatic 276, 3) := dk_184 1 20 (dk_at dksL_law_45 20 rfl rfl)
theorem dL_law_1323 : decode cL_law 1323 = .ok (.istore 6, 2) := dk_54 6 (dk_at dksL_law_46 0 rfl rfl)
theorem dL_law_1325 : decode cL_law 1325 = .ok (.aload_n 2, 1) := dk_44 (dk_at dksL_law_46 2 rfl rfl)
theorem dL_law_1326 : decode cL_law 1326 = .ok (.aload_n 0, 1) := dk_42 (dk_at dksL_law_46 3 rfl rfl)
theorem dL_law_1327 : decode cL_law 1327 = .ok (.iload 5, 2) := dk_21 5 (dk_at dksL_law_46 4 rfl rfl)
theorem dL_law_1329 : decode cL_law 1329 = .ok (.iconst 1, 1) := dk_4 (dk_at dksL_law_46 6 rfl rfl)
theorem dL_law_1330 : decode cL_law 1330 = .ok (.iadd, 1) := dk_96 (dk_at dksL_law_46 7 rfl rfl)
theorem dL_law_1331 : decode cL_law 1331 = .ok (.iaload, 1) := dk_46 (dk_at dksL_law_46 8 rfl rfl)
theorem dL_law_1332 : decode cL_law 1332 = .ok (.aload_n 0, 1) := dk_42 (dk_at dksL_law_46 9 rfl rfl)
theorem dL_law_1333 : decode cL_law 1333 = .ok (.iload 5, 2) := dk_21 5 (dk_at dksL_law_46 10 rfl rfl)
theorem dL_law_1335 : decode cL_law 1335 = .ok (.iconst 2, 1) := dk_5 (dk_at dksL_law_46 12 rfl rfl)
theorem dL_law_1336 : decode cL_law 1336 = .ok (.iadd, 1) := dk_96 (dk_at dksL_law_46 13 rfl rfl)
theorem dL_law_1337 : decode cL_law 1337 = .ok (.iaload, 1) := dk_46 (dk_at dksL_law_46 14 rfl rfl)
theorem dL_law_1338 : decode cL_law 1338 = .ok (.ifCond .eq 7, 3) := dk_153 0 7 (dk_at dksL_law_46 15 rfl rfl)
theorem dL_law_1341 : decode cL_law 1341 = .ok (.iconst 1, 1) := dk_4 (dk_at dksL_law_46 18 rfl rfl)
theorem dL_law_1342 : decode cL_law 1342 = .ok (.goto 4, 3) := dk_167 0 4 (dk_at dksL_law_46 19 rfl rfl)
theorem dL_law_1345 : decode cL_law 1345 = .ok (.iconst 0, 1) := dk_3 (dk_at dksL_law_46 22 rfl rfl)
theorem dL_law_1346 : decode cL_law 1346 = .ok (.invokevirtual 279, 3) := dk_182 1 23 (dk_at dksL_law_47 0 rfl rfl)
theorem dL_law_1349 : decode cL_law 1349 = .ok (.istore 7, 2) := dk_54 7 (dk_at dksL_law_47 3 rfl rfl)
theorem dL_law_1351 : decode cL_law 1351 = .ok (.aload_n 2, 1) := dk_44 (dk_at dksL_law_47 5 rfl rfl)
theorem dL_law_1352 : decode cL_law 1352 = .ok (.invokevirtual 216, 3) := dk_182 0 216 (dk_at dksL_law_47 6 rfl rfl)
theorem dL_law_1355 : decode cL_law 1355 = .ok (.iload 6, 2) := dk_21 6 (dk_at dksL_law_47 9 rfl rfl)
theorem dL_law_1357 : decode cL_law 1357 = .ok (.if_icmp .eq 5, 3) := dk_159 0 5 (dk_at dksL_law_47 11 rfl rfl)
theorem dL_law_1360 : decode cL_law 1360 = .ok (.iconst 0, 1) := dk_3 (dk_at dksL_law_47 14 rfl rfl)
theorem dL_law_1361 : decode cL_law 1361 = .ok (.ireturn, 1) := dk_172 (dk_at dksL_law_47 15 rfl rfl)
theorem dL_law_1362 : decode cL_law 1362 = .ok (.iload 6, 2) := dk_21 6 (dk_at dksL_law_47 16 rfl rfl)
theorem dL_law_1364 : decode cL_law 1364 = .ok (.ifCond .ne 15, 3) := dk_154 0 15 (dk_at dksL_law_47 18 rfl rfl)
theorem dL_law_1367 : decode cL_law 1367 = .ok (.aload_n 3, 1) := dk_45 (dk_at dksL_law_47 21 rfl rfl)
theorem dL_law_1368 : decode cL_law 1368 = .ok (.iconst 0, 1) := dk_3 (dk_at dksL_law_47 22 rfl rfl)
theorem dL_law_1369 : decode cL_law 1369 = .ok (.laload, 1) := dk_47 (dk_at dksL_law_47 23 rfl rfl)
theorem dL_law_1370 : decode cL_law 1370 = .ok (.iload 7, 2) := dk_21 7 (dk_at dksL_law_48 0 rfl rfl)
theorem dL_law_1372 : decode cL_law 1372 = .ok (.i2l, 1) := dk_133 (dk_at dksL_law_48 2 rfl rfl)
theorem dL_law_1373 : decode cL_law 1373 = .ok (.lcmp, 1) := dk_148 (dk_at dksL_law_48 3 rfl rfl)
theorem dL_law_1374 : decode cL_law 1374 = .ok (.ifCond .eq 5, 3) := dk_153 0 5 (dk_at dksL_law_48 4 rfl rfl)
theorem dL_law_1377 : decode cL_law 1377 = .ok (.iconst 0, 1) := dk_3 (dk_at dksL_law_48 7 rfl rfl)
theorem dL_law_1378 : decode cL_law 1378 = .ok (.ireturn, 1) := dk_172 (dk_at dksL_law_48 8 rfl rfl)
theorem dL_law_1379 : decode cL_law 1379 = .ok (.goto 2367, 3) := dk_167 9 63 (dk_at dksL_law_48 9 rfl rfl)
theorem dL_law_1382 : decode cL_law 1382 = .ok (.aload_n 1, 1) := dk_43 (dk_at dksL_law_48 12 rfl rfl)
theorem dL_law_1383 : decode cL_law 1383 = .ok (.aload_n 3, 1) := dk_45 (dk_at dksL_law_48 13 rfl rfl)
theorem dL_law_1384 : decode cL_law 1384 = .ok (.invokestatic 280, 3) := dk_184 1 24 (dk_at dksL_law_48 14 rfl rfl)
theorem dL_law_1387 : decode cL_law 1387 = .ok (.istore 6, 2) := dk_54 6 (dk_at dksL_law_48 17 rfl rfl)
theorem dL_law_1389 : decode cL_law 1389 = .ok (.aload_n 2, 1) := dk_44 (dk_at dksL_law_48 19 rfl rfl)
theorem dL_law_1390 : decode cL_law 1390 = .ok (.invokevirtual 282, 3) := dk_182 1 26 (dk_at dksL_law_48 20 rfl rfl)
theorem dL_law_1393 : decode cL_law 1393 = .ok (.istore 7, 2) := dk_54 7 (dk_at dksL_law_49 0 rfl rfl)
theorem dL_law_1395 : decode cL_law 1395 = .ok (.aload_n 2, 1) := dk_44 (dk_at dksL_law_49 2 rfl rfl)
theorem dL_law_1396 : decode cL_law 1396 = .ok (.invokevirtual 216, 3) := dk_182 0 216 (dk_at dksL_law_49 3 rfl rfl)
theorem dL_law_1399 : decode cL_law 1399 = .ok (.iload 6, 2) := dk_21 6 (dk_at dksL_law_49 6 rfl rfl)
theorem dL_law_1401 : decode cL_law 1401 = .ok (.if_icmp .eq 5, 3) := dk_159 0 5 (dk_at dksL_law_49 8 rfl rfl)
theorem dL_law_1404 : decode cL_law 1404 = .ok (.iconst 0, 1) := dk_3 (dk_at dksL_law_49 11 rfl rfl)
theorem dL_law_1405 : decode cL_law 1405 = .ok (.ireturn, 1) := dk_172 (dk_at dksL_law_49 12 rfl rfl)
theorem dL_law_1406 : decode cL_law 1406 = .ok (.iload 6, 2) := dk_21 6 (dk_at dksL_law_49 13 rfl rfl)
theorem dL_law_1408 : decode cL_law 1408 = .ok (.ifCond .ne 15, 3) := dk_154 0 15 (dk_at dksL_law_49 15 rfl rfl)
theorem dL_law_1411 : decode cL_law 1411 = .ok (.aload_n 3, 1) := dk_45 (dk_at dksL_law_49 18 rfl rfl)
theorem dL_law_1412 : decode cL_law 1412 = .ok (.iconst 0, 1) := dk_3 (dk_at dksL_law_49 19 rfl rfl)
theorem dL_law_1413 : decode cL_law 1413 = .ok (.laload, 1) := dk_47 (dk_at dksL_law_49 20 rfl rfl)
theorem dL_law_1414 : decode cL_law 1414 = .ok (.iload 7, 2) := dk_21 7 (dk_at dksL_law_49 21 rfl rfl)
theorem dL_law_1416 : decode cL_law 1416 = .ok (.i2l, 1) := dk_133 (dk_at dksL_law_49 23 rfl rfl)
theorem dL_law_1417 : decode cL_law 1417 = .ok (.lcmp, 1) := dk_148 (dk_at dksL_law_50 0 rfl rfl)
theorem dL_law_1418 : decode cL_law 1418 = .ok (.ifCond .eq 5, 3) := dk_153 0 5 (dk_at dksL_law_50 1 rfl rfl)
theorem dL_law_1421 : decode cL_law 1421 = .ok (.iconst 0, 1) := dk_3 (dk_at dksL_law_50 4 rfl rfl)
theorem dL_law_1422 : decode cL_law 1422 = .ok (.ireturn, 1) := dk_172 (dk_at dksL_law_50 5 rfl rfl)
theorem dL_law_1423 : decode cL_law 1423 = .ok (.goto 2323, 3) := dk_167 9 19 (dk_at dksL_law_50 6 rfl rfl)
theorem dL_law_1426 : decode cL_law 1426 = .ok (.aload_n 1, 1) := dk_43 (dk_at dksL_law_50 9 rfl rfl)
theorem dL_law_1427 : decode cL_law 1427 = .ok (.aload_n 3, 1) := dk_45 (dk_at dksL_law_50 10 rfl rfl)
theorem dL_law_1428 : decode cL_law 1428 = .ok (.invokestatic 283, 3) := dk_184 1 27 (dk_at dksL_law_50 11 rfl rfl)
theorem dL_law_1431 : decode cL_law 1431 = .ok (.istore 6, 2) := dk_54 6 (dk_at dksL_law_50 14 rfl rfl)
theorem dL_law_1433 : decode cL_law 1433 = .ok (.aload_n 2, 1) := dk_44 (dk_at dksL_law_50 16 rfl rfl)
theorem dL_law_1434 : decode cL_law 1434 = .ok (.invokevirtual 285, 3) := dk_182 1 29 (dk_at dksL_law_50 17 rfl rfl)
theorem dL_law_1437 : decode cL_law 1437 = .ok (.istore 7, 2) := dk_54 7 (dk_at dksL_law_50 20 rfl rfl)
theorem dL_law_1439 : decode cL_law 1439 = .ok (.aload_n 2, 1) := dk_44 (dk_at dksL_law_50 22 rfl rfl)
theorem dL_law_1440 : decode cL_law 1440 = .ok (.invokevirtual 216, 3) := dk_182 0 216 (dk_at dksL_law_51 0 rfl rfl)
theorem dL_law_1443 : decode cL_law 1443 = .ok (.iload 6, 2) := dk_21 6 (dk_at dksL_law_51 3 rfl rfl)
theorem dL_law_1445 : decode cL_law 1445 = .ok (.if_icmp .eq 5, 3) := dk_159 0 5 (dk_at dksL_law_51 5 rfl rfl)
theorem dL_law_1448 : decode cL_law 1448 = .ok (.iconst 0, 1) := dk_3 (dk_at dksL_law_51 8 rfl rfl)
theorem dL_law_1449 : decode cL_law 1449 = .ok (.ireturn, 1) := dk_172 (dk_at dksL_law_51 9 rfl rfl)
theorem dL_law_1450 : decode cL_law 1450 = .ok (.iload 6, 2) := dk_21 6 (dk_at dksL_law_51 10 rfl rfl)
theorem dL_law_1452 : decode cL_law 1452 = .ok (.ifCond .ne 15, 3) := dk_154 0 15 (dk_at dksL_law_51 12 rfl rfl)
theorem dL_law_1455 : decode cL_law 1455 = .ok (.aload_n 3, 1) := dk_45 (dk_at dksL_law_51 15 rfl rfl)
theorem dL_law_1456 : decode cL_law 1456 = .ok (.iconst 0, 1) := dk_3 (dk_at dksL_law_51 16 rfl rfl)
theorem dL_law_1457 : decode cL_law 1457 = .ok (.laload, 1) := dk_47 (dk_at dksL_law_51 17 rfl rfl)
theorem dL_law_1458 : decode cL_law 1458 = .ok (.iload 7, 2) := dk_21 7 (dk_at dksL_law_51 18 rfl rfl)
theorem dL_law_1460 : decode cL_law 1460 = .ok (.i2l, 1) := dk_133 (dk_at dksL_law_51 20 rfl rfl)
theorem dL_law_1461 : decode cL_law 1461 = .ok (.lcmp, 1) := dk_148 (dk_at dksL_law_51 21 rfl rfl)
theorem dL_law_1462 : decode cL_law 1462 = .ok (.ifCond .eq 5, 3) := dk_153 0 5 (dk_at dksL_law_52 0 rfl rfl)
theorem dL_law_1465 : decode cL_law 1465 = .ok (.iconst 0, 1) := dk_3 (dk_at dksL_law_52 3 rfl rfl)
theorem dL_law_1466 : decode cL_law 1466 = .ok (.ireturn, 1) := dk_172 (dk_at dksL_law_52 4 rfl rfl)
theorem dL_law_1467 : decode cL_law 1467 = .ok (.goto 2279, 3) := dk_167 8 231 (dk_at dksL_law_52 5 rfl rfl)
theorem dL_law_1470 : decode cL_law 1470 = .ok (.aload_n 1, 1) := dk_43 (dk_at dksL_law_52 8 rfl rfl)
theorem dL_law_1471 : decode cL_law 1471 = .ok (.aload_n 0, 1) := dk_42 (dk_at dksL_law_52 9 rfl rfl)
theorem dL_law_1472 : decode cL_law 1472 = .ok (.iload 5, 2) := dk_21 5 (dk_at dksL_law_52 10 rfl rfl)
theorem dL_law_1474 : decode cL_law 1474 = .ok (.iconst 1, 1) := dk_4 (dk_at dksL_law_52 12 rfl rfl)
theorem dL_law_1475 : decode cL_law 1475 = .ok (.iadd, 1) := dk_96 (dk_at dksL_law_52 13 rfl rfl)
theorem dL_law_1476 : decode cL_law 1476 = .ok (.iaload, 1) := dk_46 (dk_at dksL_law_52 14 rfl rfl)
theorem dL_law_1477 : decode cL_law 1477 = .ok (.ifCond .eq 7, 3) := dk_153 0 7 (dk_at dksL_law_52 15 rfl rfl)
theorem dL_law_1480 : decode cL_law 1480 = .ok (.iconst 1, 1) := dk_4 (dk_at dksL_law_52 18 rfl rfl)
theorem dL_law_1481 : decode cL_law 1481 = .ok (.goto 4, 3) := dk_167 0 4 (dk_at dksL_law_52 19 rfl rfl)
theorem dL_law_1484 : decode cL_law 1484 = .ok (.iconst 0, 1) := dk_3 (dk_at dksL_law_52 22 rfl rfl)
theorem dL_law_1485 : decode cL_law 1485 = .ok (.aload_n 3, 1) := dk_45 (dk_at dksL_law_52 23 rfl rfl)
theorem dL_law_1486 : decode cL_law 1486 = .ok (.invokestatic 286, 3) := dk_184 1 30 (dk_at dksL_law_53 0 rfl rfl)
theorem dL_law_1489 : decode cL_law 1489 = .ok (.istore 6, 2) := dk_54 6 (dk_at dksL_law_53 3 rfl rfl)
theorem dL_law_1491 : decode cL_law 1491 = .ok (.aload_n 2, 1) := dk_44 (dk_at dksL_law_53 5 rfl rfl)
theorem dL_law_1492 : decode cL_law 1492 = .ok (.aload_n 0, 1) := dk_42 (dk_at dksL_law_53 6 rfl rfl)
theorem dL_law_1493 : decode cL_law 1493 = .ok (.iload 5, 2) := dk_21 5 (dk_at dksL_law_53 7 rfl rfl)
theorem dL_law_1495 : decode cL_law 1495 = .ok (.iconst 1, 1) := dk_4 (dk_at dksL_law_53 9 rfl rfl)
theorem dL_law_1496 : decode cL_law 1496 = .ok (.iadd, 1) := dk_96 (dk_at dksL_law_53 10 rfl rfl)
theorem dL_law_1497 : decode cL_law 1497 = .ok (.iaload, 1) := dk_46 (dk_at dksL_law_53 11 rfl rfl)
theorem dL_law_1498 : decode cL_law 1498 = .ok (.ifCond .eq 7, 3) := dk_153 0 7 (dk_at dksL_law_53 12 rfl rfl)
theorem dL_law_1501 : decode cL_law 1501 = .ok (.iconst 1, 1) := dk_4 (dk_at dksL_law_53 15 rfl rfl)
theorem dL_law_1502 : decode cL_law 1502 = .ok (.goto 4, 3) := dk_167 0 4 (dk_at dksL_law_53 16 rfl rfl)
theorem dL_law_1505 : decode cL_law 1505 = .ok (.iconst 0, 1) := dk_3 (dk_at dksL_law_53 19 rfl rfl)
theorem dL_law_1506 : decode cL_law 1506 = .ok (.invokevirtual 288, 3) := dk_182 1 32 (dk_at dksL_law_53 20 rfl rfl)
theorem dL_law_1509 : decode cL_law 1509 = .ok (.istore 7, 2) := dk_54 7 (dk_at dksL_law_54 0 rfl rfl)
theorem dL_law_1511 : decode cL_law 1511 = .ok (.aload_n 2, 1) := dk_44 (dk_at dksL_law_54 2 rfl rfl)
theorem dL_law_1512 : decode cL_law 1512 = .ok (.invokevirtual 216, 3) := dk_182 0 216 (dk_at dksL_law_54 3 rfl rfl)
theorem dL_law_1515 : decode cL_law 1515 = .ok (.iload 6, 2) := dk_21 6 (dk_at dksL_law_54 6 rfl rfl)
theorem dL_law_1517 : decode cL_law 1517 = .ok (.if_icmp .eq 5, 3) := dk_159 0 5 (dk_at dksL_law_54 8 rfl rfl)
theorem dL_law_1520 : decode cL_law 1520 = .ok (.iconst 0, 1) := dk_3 (dk_at dksL_law_54 11 rfl rfl)
theorem dL_law_1521 : decode cL_law 1521 = .ok (.ireturn, 1) := dk_172 (dk_at dksL_law_54 12 rfl rfl)
theorem dL_law_1522 : decode cL_law 1522 = .ok (.iload 6, 2) := dk_21 6 (dk_at dksL_law_54 13 rfl rfl)
theorem dL_law_1524 : decode cL_law 1524 = .ok (.ifCond .ne 15, 3) := dk_154 0 15 (dk_at dksL_law_54 15 rfl rfl)
theorem dL_law_1527 : decode cL_law 1527 = .ok (.aload_n 3, 1) := dk_45 (dk_at dksL_law_54 18 rfl rfl)
theorem dL_law_1528 : decode cL_law 1528 = .ok (.iconst 0, 1) := dk_3 (dk_at dksL_law_54 19 rfl rfl)
theorem dL_law_1529 : decode cL_law 1529 = .ok (.laload, 1) := dk_47 (dk_at dksL_law_54 20 rfl rfl)
theorem dL_law_1530 : decode cL_law 1530 = .ok (.iload 7, 2) := dk_21 7 (dk_at dksL_law_54 21 rfl rfl)
theorem dL_law_1532 : decode cL_law 1532 = .ok (.i2l, 1) := dk_133 (dk_at dksL_law_54 23 rfl rfl)
theorem dL_law_1533 : decode cL_law 1533 = .ok (.lcmp, 1) := dk_148 (dk_at dksL_law_55 0 rfl rfl)
theorem dL_law_1534 : decode cL_law 1534 = .ok (.ifCond .eq 5, 3) := dk_153 0 5 (dk_at dksL_law_55 1 rfl rfl)
theorem dL_law_1537 : decode cL_law 1537 = .ok (.iconst 0, 1) := dk_3 (dk_at dksL_law_55 4 rfl rfl)
theorem dL_law_1538 : decode cL_law 1538 = .ok (.ireturn, 1) := dk_172 (dk_at dksL_law_55 5 rfl rfl)
theorem dL_law_1539 : decode cL_law 1539 = .ok (.goto 2207, 3) := dk_167 8 159 (dk_at dksL_law_55 6 rfl rfl)
theorem dL_law_1542 : decode cL_law 1542 = .ok (.aload_n 1, 1) := dk_43 (dk_at dksL_law_55 9 rfl rfl)
theorem dL_law_1543 : decode cL_law 1543 = .ok (.aload_n 3, 1) := dk_45 (dk_at dksL_law_55 10 rfl rfl)
theorem dL_law_1544 : decode cL_law 1544 = .ok (.invokestatic 289, 3) := dk_184 1 33 (dk_at dksL_law_55 11 rfl rfl)
theorem dL_law_1547 : decode cL_law 1547 = .ok (.istore 6, 2) := dk_54 6 (dk_at dksL_law_55 14 rfl rfl)
theorem dL_law_1549 : decode cL_law 1549 = .ok (.aload_n 2, 1) := dk_44 (dk_at dksL_law_55 16 rfl rfl)
theorem dL_law_1550 : decode cL_law 1550 = .ok (.invokevirtual 291, 3) := dk_182 1 35 (dk_at dksL_law_55 17 rfl rfl)
theorem dL_law_1553 : decode cL_law 1553 = .ok (.istore 7, 2) := dk_54 7 (dk_at dksL_law_55 20 rfl rfl)
theorem dL_law_1555 : decode cL_law 1555 = .ok (.aload_n 2, 1) := dk_44 (dk_at dksL_law_55 22 rfl rfl)
theorem dL_law_1556 : decode cL_law 1556 = .ok (.invokevirtual 216, 3) := dk_182 0 216 (dk_at dksL_law_56 0 rfl rfl)
theorem dL_law_1559 : decode cL_law 1559 = .ok (.iload 6, 2) := dk_21 6 (dk_at dksL_law_56 3 rfl rfl)
theorem dL_law_1561 : decode cL_law 1561 = .ok (.if_icmp .eq 5, 3) := dk_159 0 5 (dk_at dksL_law_56 5 rfl rfl)
theorem dL_law_1564 : decode cL_law 1564 = .ok (.iconst 0, 1) := dk_3 (dk_at dksL_law_56 8 rfl rfl)
theorem dL_law_1565 : decode cL_law 1565 = .ok (.ireturn, 1) := dk_172 (dk_at dksL_law_56 9 rfl rfl)
theorem dL_law_1566 : decode cL_law 1566 = .ok (.iload 6, 2) := dk_21 6 (dk_at dksL_law_56 10 rfl rfl)
theorem dL_law_1568 : decode cL_law 1568 = .ok (.ifCond .ne 15, 3) := dk_154 0 15 (dk_at dksL_law_56 12 rfl rfl)
theorem dL_law_1571 : decode cL_law 1571 = .ok (.aload_n 3, 1) := dk_45 (dk_at dksL_law_56 15 rfl rfl)
theorem dL_law_1572 : decode cL_law 1572 = .ok (.iconst 0, 1) := dk_3 (dk_at dksL_law_56 16 rfl rfl)
theorem dL_law_1573 : decode cL_law 1573 = .ok (.laload, 1) := dk_47 (dk_at dksL_law_56 17 rfl rfl)
theorem dL_law_1574 : decode cL_law 1574 = .ok (.iload 7, 2) := dk_21 7 (dk_at dksL_law_56 18 rfl rfl)
theorem dL_law_1576 : decode cL_law 1576 = .ok (.i2l, 1) := dk_133 (dk_at dksL_law_56 20 rfl rfl)
theorem dL_law_1577 : decode cL_law 1577 = .ok (.lcmp, 1) := dk_148 (dk_at dksL_law_56 21 rfl rfl)
theorem dL_law_1578 : decode cL_law 1578 = .ok (.ifCond .eq 5, 3) := dk_153 0 5 (dk_at dksL_law_57 0 rfl rfl)
theorem dL_law_1581 : decode cL_law 1581 = .ok (.iconst 0, 1) := dk_3 (dk_at dksL_law_57 3 rfl rfl)
theorem dL_law_1582 : decode cL_law 1582 = .ok (.ireturn, 1) := dk_172 (dk_at dksL_law_57 4 rfl rfl)
theorem dL_law_1583 : decode cL_law 1583 = .ok (.goto 2163, 3) := dk_167 8 115 (dk_at dksL_law_57 5 rfl rfl)
theorem dL_law_1586 : decode cL_law 1586 = .ok (.aload_n 1, 1) := dk_43 (dk_at dksL_law_57 8 rfl rfl)
theorem dL_law_1587 : decode cL_law 1587 = .ok (.aload_n 3, 1) := dk_45 (dk_at dksL_law_57 9 rfl rfl)
theorem dL_law_1588 : decode cL_law 1588 = .ok (.invokestatic 292, 3) := dk_184 1 36 (dk_at dksL_law_57 10 rfl rfl)
theorem dL_law_1591 : decode cL_law 1591 = .ok (.istore 6, 2) := dk_54 6 (dk_at dksL_law_57 13 rfl rfl)
theorem dL_law_1593 : decode cL_law 1593 = .ok (.aload_n 2, 1) := dk_44 (dk_at dksL_law_57 15 rfl rfl)
theorem dL_law_1594 : decode cL_law 1594 = .ok (.invokevirtual 294, 3) := dk_182 1 38 (dk_at dksL_law_57 16 rfl rfl)
theorem dL_law_1597 : decode cL_law 1597 = .ok (.istore 7, 2) := dk_54 7 (dk_at dksL_law_57 19 rfl rfl)
theorem dL_law_1599 : decode cL_law 1599 = .ok (.aload_n 2, 1) := dk_44 (dk_at dksL_law_57 21 rfl rfl)
theorem dL_law_1600 : decode cL_law 1600 = .ok (.invokevirtual 216, 3) := dk_182 0 216 (dk_at dksL_law_58 0 rfl rfl)
theorem dL_law_1603 : decode cL_law 1603 = .ok (.iload 6, 2) := dk_21 6 (dk_at dksL_law_58 3 rfl rfl)
theorem dL_law_1605 : decode cL_law 1605 = .ok (.if_icmp .eq 5, 3) := dk_159 0 5 (dk_at dksL_law_58 5 rfl rfl)
theorem dL_law_1608 : decode cL_law 1608 = .ok (.iconst 0, 1) := dk_3 (dk_at dksL_law_58 8 rfl rfl)
theorem dL_law_1609 : decode cL_law 1609 = .ok (.ireturn, 1) := dk_172 (dk_at dksL_law_58 9 rfl rfl)
theorem dL_law_1610 : decode cL_law 1610 = .ok (.iload 6, 2) := dk_21 6 (dk_at dksL_law_58 10 rfl rfl)
theorem dL_law_1612 : decode cL_law 1612 = .ok (.ifCond .ne 15, 3) := dk_154 0 15 (dk_at dksL_law_58 12 rfl rfl)
theorem dL_law_1615 : decode cL_law 1615 = .ok (.aload_n 3, 1) := dk_45 (dk_at dksL_law_58 15 rfl rfl)
theorem dL_law_1616 : decode cL_law 1616 = .ok (.iconst 0, 1) := dk_3 (dk_at dksL_law_58 16 rfl rfl)
theorem dL_law_1617 : decode cL_law 1617 = .ok (.laload, 1) := dk_47 (dk_at dksL_law_58 17 rfl rfl)
theorem dL_law_1618 : decode cL_law 1618 = .ok (.iload 7, 2) := dk_21 7 (dk_at dksL_law_58 18 rfl rfl)
theorem dL_law_1620 : decode cL_law 1620 = .ok (.i2l, 1) := dk_133 (dk_at dksL_law_58 20 rfl rfl)
theorem dL_law_1621 : decode cL_law 1621 = .ok (.lcmp, 1) := dk_148 (dk_at dksL_law_58 21 rfl rfl)
theorem dL_law_1622 : decode cL_law 1622 = .ok (.ifCond .eq 5, 3) := dk_153 0 5 (dk_at dksL_law_59 0 rfl rfl)
theorem dL_law_1625 : decode cL_law 1625 = .ok (.iconst 0, 1) := dk_3 (dk_at dksL_law_59 3 rfl rfl)
theorem dL_law_1626 : decode cL_law 1626 = .ok (.ireturn, 1) := dk_172 (dk_at dksL_law_59 4 rfl rfl)
theorem dL_law_1627 : decode cL_law 1627 = .ok (.goto 2119, 3) := dk_167 8 71 (dk_at dksL_law_59 5 rfl rfl)
theorem dL_law_1630 : decode cL_law 1630 = .ok (.aload_n 1, 1) := dk_43 (dk_at dksL_law_59 8 rfl rfl)
theorem dL_law_1631 : decode cL_law 1631 = .ok (.aload_n 3, 1) := dk_45 (dk_at dksL_law_59 9 rfl rfl)
theorem dL_law_1632 : decode cL_law 1632 = .ok (.invokestatic 295, 3) := dk_184 1 39 (dk_at dksL_law_59 10 rfl rfl)
theorem dL_law_1635 : decode cL_law 1635 = .ok (.istore 6, 2) := dk_54 6 (dk_at dksL_law_59 13 rfl rfl)
theorem dL_law_1637 : decode cL_law 1637 = .ok (.aload_n 2, 1) := dk_44 (dk_at dksL_law_59 15 rfl rfl)
theorem dL_law_1638 : decode cL_law 1638 = .ok (.invokevirtual 297, 3) := dk_182 1 41 (dk_at dksL_law_59 16 rfl rfl)
theorem dL_law_1641 : decode cL_law 1641 = .ok (.istore 7, 2) := dk_54 7 (dk_at dksL_law_59 19 rfl rfl)
theorem dL_law_1643 : decode cL_law 1643 = .ok (.aload_n 2, 1) := dk_44 (dk_at dksL_law_59 21 rfl rfl)
theorem dL_law_1644 : decode cL_law 1644 = .ok (.invokevirtual 216, 3) := dk_182 0 216 (dk_at dksL_law_60 0 rfl rfl)
theorem dL_law_1647 : decode cL_law 1647 = .ok (.iload 6, 2) := dk_21 6 (dk_at dksL_law_60 3 rfl rfl)
theorem dL_law_1649 : decode cL_law 1649 = .ok (.if_icmp .eq 5, 3) := dk_159 0 5 (dk_at dksL_law_60 5 rfl rfl)
theorem dL_law_1652 : decode cL_law 1652 = .ok (.iconst 0, 1) := dk_3 (dk_at dksL_law_60 8 rfl rfl)
theorem dL_law_1653 : decode cL_law 1653 = .ok (.ireturn, 1) := dk_172 (dk_at dksL_law_60 9 rfl rfl)
theorem dL_law_1654 : decode cL_law 1654 = .ok (.iload 6, 2) := dk_21 6 (dk_at dksL_law_60 10 rfl rfl)
theorem dL_law_1656 : decode cL_law 1656 = .ok (.ifCond .ne 15, 3) := dk_154 0 15 (dk_at dksL_law_60 12 rfl rfl)
theorem dL_law_1659 : decode cL_law 1659 = .ok (.aload_n 3, 1) := dk_45 (dk_at dksL_law_60 15 rfl rfl)
theorem dL_law_1660 : decode cL_law 1660 = .ok (.iconst 0, 1) := dk_3 (dk_at dksL_law_60 16 rfl rfl)
theorem dL_law_1661 : decode cL_law 1661 = .ok (.laload, 1) := dk_47 (dk_at dksL_law_60 17 rfl rfl)
theorem dL_law_1662 : decode cL_law 1662 = .ok (.iload 7, 2) := dk_21 7 (dk_at dksL_law_60 18 rfl rfl)
theorem dL_law_1664 : decode cL_law 1664 = .ok (.i2l, 1) := dk_133 (dk_at dksL_law_60 20 rfl rfl)
theorem dL_law_1665 : decode cL_law 1665 = .ok (.lcmp, 1) := dk_148 (dk_at dksL_law_60 21 rfl rfl)
theorem dL_law_1666 : decode cL_law 1666 = .ok (.ifCond .eq 5, 3) := dk_153 0 5 (dk_at dksL_law_61 0 rfl rfl)
theorem dL_law_1669 : decode cL_law 1669 = .ok (.iconst 0, 1) := dk_3 (dk_at dksL_law_61 3 rfl rfl)
theorem dL_law_1670 : decode cL_law 1670 = .ok (.ireturn, 1) := dk_172 (dk_at dksL_law_61 4 rfl rfl)
theorem dL_law_1671 : decode cL_law 1671 = .ok (.goto 2075, 3) := dk_167 8 27 (dk_at dksL_law_61 5 rfl rfl)
theorem dL_law_1674 : decode cL_law 1674 = .ok (.aload_n 1, 1) := dk_43 (dk_at dksL_law_61 8 rfl rfl)
theorem dL_law_1675 : decode cL_law 1675 = .ok (.aload_n 0, 1) := dk_42 (dk_at dksL_law_61 9 rfl rfl)
theorem dL_law_1676 : decode cL_law 1676 = .ok (.iload 5, 2) := dk_21 5 (dk_at dksL_law_61 10 rfl rfl)
theorem dL_law_1678 : decode cL_law 1678 = .ok (.iconst 1, 1) := dk_4 (dk_at dksL_law_61 12 rfl rfl)
theorem dL_law_1679 : decode cL_law 1679 = .ok (.iadd, 1) := dk_96 (dk_at dksL_law_61 13 rfl rfl)
theorem dL_law_1680 : decode cL_law 1680 = .ok (.iaload, 1) := dk_46 (dk_at dksL_law_61 14 rfl rfl)
theorem dL_law_1681 : decode cL_law 1681 = .ok (.aload_n 3, 1) := dk_45 (dk_at dksL_law_61 15 rfl rfl)
theorem dL_law_1682 : decode cL_law 1682 = .ok (.invokestatic 298, 3) := dk_184 1 42 (dk_at dksL_law_61 16 rfl rfl)
theorem dL_law_1685 : decode cL_law 1685 = .ok (.istore 6, 2) := dk_54 6 (dk_at dksL_law_61 19 rfl rfl)
theorem dL_law_1687 : decode cL_law 1687 = .ok (.aload_n 2, 1) := dk_44 (dk_at dksL_law_61 21 rfl rfl)
theorem dL_law_1688 : decode cL_law 1688 = .ok (.aload_n 0, 1) := dk_42 (dk_at dksL_law_61 22 rfl rfl)
theorem dL_law_1689 : decode cL_law 1689 = .ok (.iload 5, 2) := dk_21 5 (dk_at dksL_law_62 0 rfl rfl)
theorem dL_law_1691 : decode cL_law 1691 = .ok (.iconst 1, 1) := dk_4 (dk_at dksL_law_62 2 rfl rfl)
theorem dL_law_1692 : decode cL_law 1692 = .ok (.iadd, 1) := dk_96 (dk_at dksL_law_62 3 rfl rfl)
theorem dL_law_1693 : decode cL_law 1693 = .ok (.iaload, 1) := dk_46 (dk_at dksL_law_62 4 rfl rfl)
theorem dL_law_1694 : decode cL_law 1694 = .ok (.invokevirtual 300, 3) := dk_182 1 44 (dk_at dksL_law_62 5 rfl rfl)
theorem dL_law_1697 : decode cL_law 1697 = .ok (.istore 7, 2) := dk_54 7 (dk_at dksL_law_62 8 rfl rfl)
theorem dL_law_1699 : decode cL_law 1699 = .ok (.aload_n 2, 1) := dk_44 (dk_at dksL_law_62 10 rfl rfl)
theorem dL_law_1700 : decode cL_law 1700 = .ok (.invokevirtual 216, 3) := dk_182 0 216 (dk_at dksL_law_62 11 rfl rfl)
theorem dL_law_1703 : decode cL_law 1703 = .ok (.iload 6, 2) := dk_21 6 (dk_at dksL_law_62 14 rfl rfl)
theorem dL_law_1705 : decode cL_law 1705 = .ok (.if_icmp .eq 5, 3) := dk_159 0 5 (dk_at dksL_law_62 16 rfl rfl)
theorem dL_law_1708 : decode cL_law 1708 = .ok (.iconst 0, 1) := dk_3 (dk_at dksL_law_62 19 rfl rfl)
theorem dL_law_1709 : decode cL_law 1709 = .ok (.ireturn, 1) := dk_172 (dk_at dksL_law_62 20 rfl rfl)
theorem dL_law_1710 : decode cL_law 1710 = .ok (.iload 6, 2) := dk_21 6 (dk_at dksL_law_62 21 rfl rfl)
theorem dL_law_1712 : decode cL_law 1712 = .ok (.ifCond .ne 15, 3) := dk_154 0 15 (dk_at dksL_law_63 0 rfl rfl)
theorem dL_law_1715 : decode cL_law 1715 = .ok (.aload_n 3, 1) := dk_45 (dk_at dksL_law_63 3 rfl rfl)
theorem dL_law_1716 : decode cL_law 1716 = .ok (.iconst 0, 1) := dk_3 (dk_at dksL_law_63 4 rfl rfl)
theorem dL_law_1717 : decode cL_law 1717 = .ok (.laload, 1) := dk_47 (dk_at dksL_law_63 5 rfl rfl)
theorem dL_law_1718 : decode cL_law 1718 = .ok (.iload 7, 2) := dk_21 7 (dk_at dksL_law_63 6 rfl rfl)
theorem dL_law_1720 : decode cL_law 1720 = .ok (.i2l, 1) := dk_133 (dk_at dksL_law_63 8 rfl rfl)
theorem dL_law_1721 : decode cL_law 1721 = .ok (.lcmp, 1) := dk_148 (dk_at dksL_law_63 9 rfl rfl)
theorem dL_law_1722 : decode cL_law 1722 = .ok (.ifCond .eq 5, 3) := dk_153 0 5 (dk_at dksL_law_63 10 rfl rfl)
theorem dL_law_1725 : decode cL_law 1725 = .ok (.iconst 0, 1) := dk_3 (dk_at dksL_law_63 13 rfl rfl)
theorem dL_law_1726 : decode cL_law 1726 = .ok (.ireturn, 1) := dk_172 (dk_at dksL_law_63 14 rfl rfl)
theorem dL_law_1727 : decode cL_law 1727 = .ok (.goto 2019, 3) := dk_167 7 227 (dk_at dksL_law_63 15 rfl rfl)
theorem dL_law_1730 : decode cL_law 1730 = .ok (.aload_n 1, 1) := dk_43 (dk_at dksL_law_63 18 rfl rfl)
theorem dL_law_1731 : decode cL_law 1731 = .ok (.aload_n 3, 1) := dk_45 (dk_at dksL_law_63 19 rfl rfl)
theorem dL_law_1732 : decode cL_law 1732 = .ok (.invokestatic 301, 3) := dk_184 1 45 (dk_at dksL_law_63 20 rfl rfl)
theorem dL_law_1735 : decode cL_law 1735 = .ok (.istore 6, 2) := dk_54 6 (dk_at dksL_law_64 0 rfl rfl)
theorem dL_law_1737 : decode cL_law 1737 = .ok (.aload_n 2, 1) := dk_44 (dk_at dksL_law_64 2 rfl rfl)
theorem dL_law_1738 : decode cL_law 1738 = .ok (.invokevirtual 303, 3) := dk_182 1 47 (dk_at dksL_law_64 3 rfl rfl)
theorem dL_law_1741 : decode cL_law 1741 = .ok (.istore 7, 2) := dk_54 7 (dk_at dksL_law_64 6 rfl rfl)
theorem dL_law_1743 : decode cL_law 1743 = .ok (.aload_n 2, 1) := dk_44 (dk_at dksL_law_64 8 rfl rfl)
theorem dL_law_1744 : decode cL_law 1744 = .ok (.invokevirtual 216, 3) := dk_182 0 216 (dk_at dksL_law_64 9 rfl rfl)
theorem dL_law_1747 : decode cL_law 1747 = .ok (.iload 6, 2) := dk_21 6 (dk_at dksL_law_64 12 rfl rfl)
theorem dL_law_1749 : decode cL_law 1749 = .ok (.if_icmp .eq 5, 3) := dk_159 0 5 (dk_at dksL_law_64 14 rfl rfl)
theorem dL_law_1752 : decode cL_law 1752 = .ok (.iconst 0, 1) := dk_3 (dk_at dksL_law_64 17 rfl rfl)
theorem dL_law_1753 : decode cL_law 1753 = .ok (.ireturn, 1) := dk_172 (dk_at dksL_law_64 18 rfl rfl)
theorem dL_law_1754 : decode cL_law 1754 = .ok (.iload 6, 2) := dk_21 6 (dk_at dksL_law_64 19 rfl rfl)
theorem dL_law_1756 : decode cL_law 1756 = .ok (.ifCond .ne 15, 3) := dk_154 0 15 (dk_at dksL_law_64 21 rfl rfl)
theorem dL_law_1759 : decode cL_law 1759 = .ok (.aload_n 3, 1) := dk_45 (dk_at dksL_law_65 0 rfl rfl)
theorem dL_law_1760 : decode cL_law 1760 = .ok (.iconst 0, 1) := dk_3 (dk_at dksL_law_65 1 rfl rfl)
theorem dL_law_1761 : decode cL_law 1761 = .ok (.laload, 1) := dk_47 (dk_at dksL_law_65 2 rfl rfl)
theorem dL_law_1762 : decode cL_law 1762 = .ok (.iload 7, 2) := dk_21 7 (dk_at dksL_law_65 3 rfl rfl)
theorem dL_law_1764 : decode cL_law 1764 = .ok (.i2l, 1) := dk_133 (dk_at dksL_law_65 5 rfl rfl)
theorem dL_law_1765 : decode cL_law 1765 = .ok (.lcmp, 1) := dk_148 (dk_at dksL_law_65 6 rfl rfl)
theorem dL_law_1766 : decode cL_law 1766 = .ok (.ifCond .eq 5, 3) := dk_153 0 5 (dk_at dksL_law_65 7 rfl rfl)
theorem dL_law_1769 : decode cL_law 1769 = .ok (.iconst 0, 1) := dk_3 (dk_at dksL_law_65 10 rfl rfl)
theorem dL_law_1770 : decode cL_law 1770 = .ok (.ireturn, 1) := dk_172 (dk_at dksL_law_65 11 rfl rfl)
theorem dL_law_1771 : decode cL_law 1771 = .ok (.goto 1975, 3) := dk_167 7 183 (dk_at dksL_law_65 12 rfl rfl)
theorem dL_law_1774 : decode cL_law 1774 = .ok (.aload_n 1, 1) := dk_43 (dk_at dksL_law_65 15 rfl rfl)
theorem dL_law_1775 : decode cL_law 1775 = .ok (.aload_n 3, 1) := dk_45 (dk_at dksL_law_65 16 rfl rfl)
theorem dL_law_1776 : decode cL_law 1776 = .ok (.invokestatic 304, 3) := dk_184 1 48 (dk_at dksL_law_65 17 rfl rfl)
theorem dL_law_1779 : decode cL_law 1779 = .ok (.istore 6, 2) := dk_54 6 (dk_at dksL_law_65 20 rfl rfl)
theorem dL_law_1781 : decode cL_law 1781 = .ok (.aload_n 2, 1) := dk_44 (dk_at dksL_law_65 22 rfl rfl)
theorem dL_law_1782 : decode cL_law 1782 = .ok (.invokevirtual 306, 3) := dk_182 1 50 (dk_at dksL_law_66 0 rfl rfl)
theorem dL_law_1785 : decode cL_law 1785 = .ok (.istore 7, 2) := dk_54 7 (dk_at dksL_law_66 3 rfl rfl)
theorem dL_law_1787 : decode cL_law 1787 = .ok (.aload_n 2, 1) := dk_44 (dk_at dksL_law_66 5 rfl rfl)
theorem dL_law_1788 : decode cL_law 1788 = .ok (.invokevirtual 216, 3) := dk_182 0 216 (dk_at dksL_law_66 6 rfl rfl)
theorem dL_law_1791 : decode cL_law 1791 = .ok (.iload 6, 2) := dk_21 6 (dk_at dksL_law_66 9 rfl rfl)
theorem dL_law_1793 : decode cL_law 1793 = .ok (.if_icmp .eq 5, 3) := dk_159 0 5 (dk_at dksL_law_66 11 rfl rfl)
theorem dL_law_1796 : decode cL_law 1796 = .ok (.iconst 0, 1) := dk_3 (dk_at dksL_law_66 14 rfl rfl)
theorem dL_law_1797 : decode cL_law 1797 = .ok (.ireturn, 1) := dk_172 (dk_at dksL_law_66 15 rfl rfl)
theorem dL_law_1798 : decode cL_law 1798 = .ok (.iload 6, 2) := dk_21 6 (dk_at dksL_law_66 16 rfl rfl)
theorem dL_law_1800 : decode cL_law 1800 = .ok (.ifCond .ne 15, 3) := dk_154 0 15 (dk_at dksL_law_66 18 rfl rfl)
theorem dL_law_1803 : decode cL_law 1803 = .ok (.aload_n 3, 1) := dk_45 (dk_at dksL_law_66 21 rfl rfl)
theorem dL_law_1804 : decode cL_law 1804 = .ok (.iconst 0, 1) := dk_3 (dk_at dksL_law_66 22 rfl rfl)
theorem dL_law_1805 : decode cL_law 1805 = .ok (.laload, 1) := dk_47 (dk_at dksL_law_66 23 rfl rfl)
theorem dL_law_1806 : decode cL_law 1806 = .ok (.iload 7, 2) := dk_21 7 (dk_at dksL_law_67 0 rfl rfl)
theorem dL_law_1808 : decode cL_law 1808 = .ok (.i2l, 1) := dk_133 (dk_at dksL_law_67 2 rfl rfl)
theorem dL_law_1809 : decode cL_law 1809 = .ok (.lcmp, 1) := dk_148 (dk_at dksL_law_67 3 rfl rfl)
theorem dL_law_1810 : decode cL_law 1810 = .ok (.ifCond .eq 5, 3) := dk_153 0 5 (dk_at dksL_law_67 4 rfl rfl)
theorem dL_law_1813 : decode cL_law 1813 = .ok (.iconst 0, 1) := dk_3 (dk_at dksL_law_67 7 rfl rfl)
theorem dL_law_1814 : decode cL_law 1814 = .ok (.ireturn, 1) := dk_172 (dk_at dksL_law_67 8 rfl rfl)
theorem dL_law_1815 : decode cL_law 1815 = .ok (.goto 1931, 3) := dk_167 7 139 (dk_at dksL_law_67 9 rfl rfl)
theorem dL_law_1818 : decode cL_law 1818 = .ok (.aload_n 1, 1) := dk_43 (dk_at dksL_law_67 12 rfl rfl)
theorem dL_law_1819 : decode cL_law 1819 = .ok (.aload_n 0, 1) := dk_42 (dk_at dksL_law_67 13 rfl rfl)
theorem dL_law_1820 : decode cL_law 1820 = .ok (.iload 5, 2) := dk_21 5 (dk_at dksL_law_67 14 rfl rfl)
theorem dL_law_1822 : decode cL_law 1822 = .ok (.iconst 1, 1) := dk_4 (dk_at dksL_law_67 16 rfl rfl)
theorem dL_law_1823 : decode cL_law 1823 = .ok (.iadd, 1) := dk_96 (dk_at dksL_law_67 17 rfl rfl)
theorem dL_law_1824 : decode cL_law 1824 = .ok (.iaload, 1) := dk_46 (dk_at dksL_law_67 18 rfl rfl)
theorem dL_law_1825 : decode cL_law 1825 = .ok (.aload_n 0, 1) := dk_42 (dk_at dksL_law_67 19 rfl rfl)
theorem dL_law_1826 : decode cL_law 1826 = .ok (.iload 5, 2) := dk_21 5 (dk_at dksL_law_67 20 rfl rfl)
theorem dL_law_1828 : decode cL_law 1828 = .ok (.iconst 2, 1) := dk_5 (dk_at dksL_law_67 22 rfl rfl)
theorem dL_law_1829 : decode cL_law 1829 = .ok (.iadd, 1) := dk_96 (dk_at dksL_law_67 23 rfl rfl)
theorem dL_law_1830 : decode cL_law 1830 = .ok (.iaload, 1) := dk_46 (dk_at dksL_law_68 0 rfl rfl)
theorem dL_law_1831 : decode cL_law 1831 = .ok (.aload_n 0, 1) := dk_42 (dk_at dksL_law_68 1 rfl rfl)
theorem dL_law_1832 : decode cL_law 1832 = .ok (.iload 5, 2) := dk_21 5 (dk_at dksL_law_68 2 rfl rfl)
theorem dL_law_1834 : decode cL_law 1834 = .ok (.iconst 3, 1) := dk_6 (dk_at dksL_law_68 4 rfl rfl)
theorem dL_law_1835 : decode cL_law 1835 = .ok (.iadd, 1) := dk_96 (dk_at dksL_law_68 5 rfl rfl)
theorem dL_law_1836 : decode cL_law 1836 = .ok (.iaload, 1) := dk_46 (dk_at dksL_law_68 6 rfl rfl)
theorem dL_law_1837 : decode cL_law 1837 = .ok (.aload_n 3, 1) := dk_45 (dk_at dksL_law_68 7 rfl rfl)
theorem dL_law_1838 : decode cL_law 1838 = .ok (.invokestatic 307, 3) := dk_184 1 51 (dk_at dksL_law_68 8 rfl rfl)
theorem dL_law_1841 : decode cL_law 1841 = .ok (.istore 6, 2) := dk_54 6 (dk_at dksL_law_68 11 rfl rfl)
theorem dL_law_1843 : decode cL_law 1843 = .ok (.aload_n 2, 1) := dk_44 (dk_at dksL_law_68 13 rfl rfl)
theorem dL_law_1844 : decode cL_law 1844 = .ok (.aload_n 0, 1) := dk_42 (dk_at dksL_law_68 14 rfl rfl)
theorem dL_law_1845 : decode cL_law 1845 = .ok (.iload 5, 2) := dk_21 5 (dk_at dksL_law_68 15 rfl rfl)
theorem dL_law_1847 : decode cL_law 1847 = .ok (.iconst 1, 1) := dk_4 (dk_at dksL_law_68 17 rfl rfl)
theorem dL_law_1848 : decode cL_law 1848 = .ok (.iadd, 1) := dk_96 (dk_at dksL_law_68 18 rfl rfl)
theorem dL_law_1849 : decode cL_law 1849 = .ok (.iaload, 1) := dk_46 (dk_at dksL_law_68 19 rfl rfl)
theorem dL_law_1850 : decode cL_law 1850 = .ok (.aload_n 0, 1) := dk_42 (dk_at dksL_law_68 20 rfl rfl)
theorem dL_law_1851 : decode cL_law 1851 = .ok (.iload 5, 2) := dk_21 5 (dk_at dksL_law_68 21 rfl rfl)
theorem dL_law_1853 : decode cL_law 1853 = .ok (.iconst 2, 1) := dk_5 (dk_at dksL_law_68 23 rfl rfl)
theorem dL_law_1854 : decode cL_law 1854 = .ok (.iadd, 1) := dk_96 (dk_at dksL_law_69 0 rfl rfl)
theorem dL_law_1855 : decode cL_law 1855 = .ok (.iaload, 1) := dk_46 (dk_at dksL_law_69 1 rfl rfl)
theorem dL_law_1856 : decode cL_law 1856 = .ok (.aload_n 0, 1) := dk_42 (dk_at dksL_law_69 2 rfl rfl)
theorem dL_law_1857 : decode cL_law 1857 = .ok (.iload 5, 2) := dk_21 5 (dk_at dksL_law_69 3 rfl rfl)
theorem dL_law_1859 : decode cL_law 1859 = .ok (.iconst 3, 1) := dk_6 (dk_at dksL_law_69 5 rfl rfl)
theorem dL_law_1860 : decode cL_law 1860 = .ok (.iadd, 1) := dk_96 (dk_at dksL_law_69 6 rfl rfl)
theorem dL_law_1861 : decode cL_law 1861 = .ok (.iaload, 1) := dk_46 (dk_at dksL_law_69 7 rfl rfl)
theorem dL_law_1862 : decode cL_law 1862 = .ok (.invokevirtual 310, 3) := dk_182 1 54 (dk_at dksL_law_69 8 rfl rfl)
theorem dL_law_1865 : decode cL_law 1865 = .ok (.istore 7, 2) := dk_54 7 (dk_at dksL_law_69 11 rfl rfl)
theorem dL_law_1867 : decode cL_law 1867 = .ok (.aload_n 2, 1) := dk_44 (dk_at dksL_law_69 13 rfl rfl)
theorem dL_law_1868 : decode cL_law 1868 = .ok (.invokevirtual 216, 3) := dk_182 0 216 (dk_at dksL_law_69 14 rfl rfl)
theorem dL_law_1871 : decode cL_law 1871 = .ok (.iload 6, 2) := dk_21 6 (dk_at dksL_law_69 17 rfl rfl)
theorem dL_law_1873 : decode cL_law 1873 = .ok (.if_icmp .eq 5, 3) := dk_159 0 5 (dk_at dksL_law_69 19 rfl rfl)
theorem dL_law_1876 : decode cL_law 1876 = .ok (.iconst 0, 1) := dk_3 (dk_at dksL_law_69 22 rfl rfl)
theorem dL_law_1877 : decode cL_law 1877 = .ok (.ireturn, 1) := dk_172 (dk_at dksL_law_69 23 rfl rfl)
theorem dL_law_1878 : decode cL_law 1878 = .ok (.iload 6, 2) := dk_21 6 (dk_at dksL_law_70 0 rfl rfl)
theorem dL_law_1880 : decode cL_law 1880 = .ok (.ifCond .ne 15, 3) := dk_154 0 15 (dk_at dksL_law_70 2 rfl rfl)
theorem dL_law_1883 : decode cL_law 1883 = .ok (.aload_n 3, 1) := dk_45 (dk_at dksL_law_70 5 rfl rfl)
theorem dL_law_1884 : decode cL_law 1884 = .ok (.iconst 0, 1) := dk_3 (dk_at dksL_law_70 6 rfl rfl)
theorem dL_law_1885 : decode cL_law 1885 = .ok (.laload, 1) := dk_47 (dk_at dksL_law_70 7 rfl rfl)
theorem dL_law_1886 : decode cL_law 1886 = .ok (.iload 7, 2) := dk_21 7 (dk_at dksL_law_70 8 rfl rfl)
theorem dL_law_1888 : decode cL_law 1888 = .ok (.i2l, 1) := dk_133 (dk_at dksL_law_70 10 rfl rfl)
theorem dL_law_1889 : decode cL_law 1889 = .ok (.lcmp, 1) := dk_148 (dk_at dksL_law_70 11 rfl rfl)
theorem dL_law_1890 : decode cL_law 1890 = .ok (.ifCond .eq 5, 3) := dk_153 0 5 (dk_at dksL_law_70 12 rfl rfl)
theorem dL_law_1893 : decode cL_law 1893 = .ok (.iconst 0, 1) := dk_3 (dk_at dksL_law_70 15 rfl rfl)
theorem dL_law_1894 : decode cL_law 1894 = .ok (.ireturn, 1) := dk_172 (dk_at dksL_law_70 16 rfl rfl)
theorem dL_law_1895 : decode cL_law 1895 = .ok (.goto 1851, 3) := dk_167 7 59 (dk_at dksL_law_70 17 rfl rfl)
theorem dL_law_1898 : decode cL_law 1898 = .ok (.aload_n 1, 1) := dk_43 (dk_at dksL_law_70 20 rfl rfl)
theorem dL_law_1899 : decode cL_law 1899 = .ok (.aload_n 0, 1) := dk_42 (dk_at dksL_law_70 21 rfl rfl)
theorem dL_law_1900 : decode cL_law 1900 = .ok (.iload 5, 2) := dk_21 5 (dk_at dksL_law_70 22 rfl rfl)
theorem dL_law_1902 : decode cL_law 1902 = .ok (.iconst 1, 1) := dk_4 (dk_at dksL_law_71 0 rfl rfl)
theorem dL_law_1903 : decode cL_law 1903 = .ok (.iadd, 1) := dk_96 (dk_at dksL_law_71 1 rfl rfl)
theorem dL_law_1904 : decode cL_law 1904 = .ok (.iaload, 1) := dk_46 (dk_at dksL_law_71 2 rfl rfl)
theorem dL_law_1905 : decode cL_law 1905 = .ok (.aload_n 0, 1) := dk_42 (dk_at dksL_law_71 3 rfl rfl)
theorem dL_law_1906 : decode cL_law 1906 = .ok (.iload 5, 2) := dk_21 5 (dk_at dksL_law_71 4 rfl rfl)
theorem dL_law_1908 : decode cL_law 1908 = .ok (.iconst 2, 1) := dk_5 (dk_at dksL_law_71 6 rfl rfl)
theorem dL_law_1909 : decode cL_law 1909 = .ok (.iadd, 1) := dk_96 (dk_at dksL_law_71 7 rfl rfl)
theorem dL_law_1910 : decode cL_law 1910 = .ok (.iaload, 1) := dk_46 (dk_at dksL_law_71 8 rfl rfl)
theorem dL_law_1911 : decode cL_law 1911 = .ok (.aload_n 3, 1) := dk_45 (dk_at dksL_law_71 9 rfl rfl)
theorem dL_law_1912 : decode cL_law 1912 = .ok (.invokestatic 311, 3) := dk_184 1 55 (dk_at dksL_law_71 10 rfl rfl)
theorem dL_law_1915 : decode cL_law 1915 = .ok (.istore 6, 2) := dk_54 6 (dk_at dksL_law_71 13 rfl rfl)
theorem dL_law_1917 : decode cL_law 1917 = .ok (.aload_n 2, 1) := dk_44 (dk_at dksL_law_71 15 rfl rfl)
theorem dL_law_1918 : decode cL_law 1918 = .ok (.aload_n 0, 1) := dk_42 (dk_at dksL_law_71 16 rfl rfl)
theorem dL_law_1919 : decode cL_law 1919 = .ok (.iload 5, 2) := dk_21 5 (dk_at dksL_law_71 17 rfl rfl)
theorem dL_law_1921 : decode cL_law 1921 = .ok (.iconst 1, 1) := dk_4 (dk_at dksL_law_71 19 rfl rfl)
theorem dL_law_1922 : decode cL_law 1922 = .ok (.iadd, 1) := dk_96 (dk_at dksL_law_71 20 rfl rfl)
theorem dL_law_1923 : decode cL_law 1923 = .ok (.iaload, 1) := dk_46 (dk_at dksL_law_71 21 rfl rfl)
theorem dL_law_1924 : decode cL_law 1924 = .ok (.aload_n 0, 1) := dk_42 (dk_at dksL_law_71 22 rfl rfl)
theorem dL_law_1925 : decode cL_law 1925 = .ok (.iload 5, 2) := dk_21 5 (dk_at dksL_law_72 0 rfl rfl)
theorem dL_law_1927 : decode cL_law 1927 = .ok (.iconst 2, 1) := dk_5 (dk_at dksL_law_72 2 rfl rfl)
theorem dL_law_1928 : decode cL_law 1928 = .ok (.iadd, 1) := dk_96 (dk_at dksL_law_72 3 rfl rfl)
theorem dL_law_1929 : decode cL_law 1929 = .ok (.iaload, 1) := dk_46 (dk_at dksL_law_72 4 rfl rfl)
theorem dL_law_1930 : decode cL_law 1930 = .ok (.invokevirtual 313, 3) := dk_182 1 57 (dk_at dksL_law_72 5 rfl rfl)
theorem dL_law_1933 : decode cL_law 1933 = .ok (.istore 7, 2) := dk_54 7 (dk_at dksL_law_72 8 rfl rfl)
theorem dL_law_1935 : decode cL_law 1935 = .ok (.aload_n 2, 1) := dk_44 (dk_at dksL_law_72 10 rfl rfl)
theorem dL_law_1936 : decode cL_law 1936 = .ok (.invokevirtual 216, 3) := dk_182 0 216 (dk_at dksL_law_72 11 rfl rfl)
theorem dL_law_1939 : decode cL_law 1939 = .ok (.iload 6, 2) := dk_21 6 (dk_at dksL_law_72 14 rfl rfl)
theorem dL_law_1941 : decode cL_law 1941 = .ok (.if_icmp .eq 5, 3) := dk_159 0 5 (dk_at dksL_law_72 16 rfl rfl)
theorem dL_law_1944 : decode cL_law 1944 = .ok (.iconst 0, 1) := dk_3 (dk_at dksL_law_72 19 rfl rfl)
theorem dL_law_1945 : decode cL_law 1945 = .ok (.ireturn, 1) := dk_172 (dk_at dksL_law_72 20 rfl rfl)
theorem dL_law_1946 : decode cL_law 1946 = .ok (.iload 6, 2) := dk_21 6 (dk_at dksL_law_72 21 rfl rfl)
theorem dL_law_1948 : decode cL_law 1948 = .ok (.ifCond .ne 15, 3) := dk_154 0 15 (dk_at dksL_law_73 0 rfl rfl)
theorem dL_law_1951 : decode cL_law 1951 = .ok (.aload_n 3, 1) := dk_45 (dk_at dksL_law_73 3 rfl rfl)
theorem dL_law_1952 : decode cL_law 1952 = .ok (.iconst 0, 1) := dk_3 (dk_at dksL_law_73 4 rfl rfl)
theorem dL_law_1953 : decode cL_law 1953 = .ok (.laload, 1) := dk_47 (dk_at dksL_law_73 5 rfl rfl)
theorem dL_law_1954 : decode cL_law 1954 = .ok (.iload 7, 2) := dk_21 7 (dk_at dksL_law_73 6 rfl rfl)
theorem dL_law_1956 : decode cL_law 1956 = .ok (.i2l, 1) := dk_133 (dk_at dksL_law_73 8 rfl rfl)
theorem dL_law_1957 : decode cL_law 1957 = .ok (.lcmp, 1) := dk_148 (dk_at dksL_law_73 9 rfl rfl)
theorem dL_law_1958 : decode cL_law 1958 = .ok (.ifCond .eq 5, 3) := dk_153 0 5 (dk_at dksL_law_73 10 rfl rfl)
theorem dL_law_1961 : decode cL_law 1961 = .ok (.iconst 0, 1) := dk_3 (dk_at dksL_law_73 13 rfl rfl)
theorem dL_law_1962 : decode cL_law 1962 = .ok (.ireturn, 1) := dk_172 (dk_at dksL_law_73 14 rfl rfl)
theorem dL_law_1963 : decode cL_law 1963 = .ok (.goto 1783, 3) := dk_167 6 247 (dk_at dksL_law_73 15 rfl rfl)
theorem dL_law_1966 : decode cL_law 1966 = .ok (.aload_n 1, 1) := dk_43 (dk_at dksL_law_73 18 rfl rfl)
theorem dL_law_1967 : decode cL_law 1967 = .ok (.aload_n 0, 1) := dk_42 (dk_at dksL_law_73 19 rfl rfl)
theorem dL_law_1968 : decode cL_law 1968 = .ok (.iload 5, 2) := dk_21 5 (dk_at dksL_law_73 20 rfl rfl)
theorem dL_law_1970 : decode cL_law 1970 = .ok (.iconst 1, 1) := dk_4 (dk_at dksL_law_73 22 rfl rfl)
theorem dL_law_1971 : decode cL_law 1971 = .ok (.iadd, 1) := dk_96 (dk_at dksL_law_73 23 rfl rfl)
theorem dL_law_1972 : decode cL_law 1972 = .ok (.iaload, 1) := dk_46 (dk_at dksL_law_74 0 rfl rfl)
theorem dL_law_1973 : decode cL_law 1973 = .ok (.aload_n 0, 1) := dk_42 (dk_at dksL_law_74 1 rfl rfl)
theorem dL_law_1974 : decode cL_law 1974 = .ok (.iload 5, 2) := dk_21 5 (dk_at dksL_law_74 2 rfl rfl)
theorem dL_law_1976 : decode cL_law 1976 = .ok (.iconst 2, 1) := dk_5 (dk_at dksL_law_74 4 rfl rfl)
theorem dL_law_1977 : decode cL_law 1977 = .ok (.iadd, 1) := dk_96 (dk_at dksL_law_74 5 rfl rfl)
theorem dL_law_1978 : decode cL_law 1978 = .ok (.iaload, 1) := dk_46 (dk_at dksL_law_74 6 rfl rfl)
theorem dL_law_1979 : decode cL_law 1979 = .ok (.aload_n 3, 1) := dk_45 (dk_at dksL_law_74 7 rfl rfl)
theorem dL_law_1980 : decode cL_law 1980 = .ok (.invokestatic 314, 3) := dk_184 1 58 (dk_at dksL_law_74 8 rfl rfl)
theorem dL_law_1983 : decode cL_law 1983 = .ok (.istore 6, 2) := dk_54 6 (dk_at dksL_law_74 11 rfl rfl)
theorem dL_law_1985 : decode cL_law 1985 = .ok (.aload_n 2, 1) := dk_44 (dk_at dksL_law_74 13 rfl rfl)
theorem dL_law_1986 : decode cL_law 1986 = .ok (.aload_n 0, 1) := dk_42 (dk_at dksL_law_74 14 rfl rfl)
theorem dL_law_1987 : decode cL_law 1987 = .ok (.iload 5, 2) := dk_21 5 (dk_at dksL_law_74 15 rfl rfl)
theorem dL_law_1989 : decode cL_law 1989 = .ok (.iconst 1, 1) := dk_4 (dk_at dksL_law_74 17 rfl rfl)
theorem dL_law_1990 : decode cL_law 1990 = .ok (.iadd, 1) := dk_96 (dk_at dksL_law_74 18 rfl rfl)
theorem dL_law_1991 : decode cL_law 1991 = .ok (.iaload, 1) := dk_46 (dk_at dksL_law_74 19 rfl rfl)
theorem dL_law_1992 : decode cL_law 1992 = .ok (.aload_n 0, 1) := dk_42 (dk_at dksL_law_74 20 rfl rfl)
theorem dL_law_1993 : decode cL_law 1993 = .ok (.iload 5, 2) := dk_21 5 (dk_at dksL_law_74 21 rfl rfl)
theorem dL_law_1995 : decode cL_law 1995 = .ok (.iconst 2, 1) := dk_5 (dk_at dksL_law_74 23 rfl rfl)
theorem dL_law_1996 : decode cL_law 1996 = .ok (.iadd, 1) := dk_96 (dk_at dksL_law_75 0 rfl rfl)
theorem dL_law_1997 : decode cL_law 1997 = .ok (.iaload, 1) := dk_46 (dk_at dksL_law_75 1 rfl rfl)
theorem dL_law_1998 : decode cL_law 1998 = .ok (.invokevirtual 316, 3) := dk_182 1 60 (dk_at dksL_law_75 2 rfl rfl)
theorem dL_law_2001 : decode cL_law 2001 = .ok (.istore 7, 2) := dk_54 7 (dk_at dksL_law_75 5 rfl rfl)
theorem dL_law_2003 : decode cL_law 2003 = .ok (.aload_n 2, 1) := dk_44 (dk_at dksL_law_75 7 rfl rfl)
theorem dL_law_2004 : decode cL_law 2004 = .ok (.invokevirtual 216, 3) := dk_182 0 216 (dk_at dksL_law_75 8 rfl rfl)
theorem dL_law_2007 : decode cL_law 2007 = .ok (.iload 6, 2) := dk_21 6 (dk_at dksL_law_75 11 rfl rfl)
theorem dL_law_2009 : decode cL_law 2009 = .ok (.if_icmp .eq 5, 3) := dk_159 0 5 (dk_at dksL_law_75 13 rfl rfl)
theorem dL_law_2012 : decode cL_law 2012 = .ok (.iconst 0, 1) := dk_3 (dk_at dksL_law_75 16 rfl rfl)
theorem dL_law_2013 : decode cL_law 2013 = .ok (.ireturn, 1) := dk_172 (dk_at dksL_law_75 17 rfl rfl)
theorem dL_law_2014 : decode cL_law 2014 = .ok (.iload 6, 2) := dk_21 6 (dk_at dksL_law_75 18 rfl rfl)
theorem dL_law_2016 : decode cL_law 2016 = .ok (.ifCond .ne 15, 3) := dk_154 0 15 (dk_at dksL_law_75 20 rfl rfl)
theorem dL_law_2019 : decode cL_law 2019 = .ok (.aload_n 3, 1) := dk_45 (dk_at dksL_law_75 23 rfl rfl)
theorem dL_law_2020 : decode cL_law 2020 = .ok (.iconst 0, 1) := dk_3 (dk_at dksL_law_76 0 rfl rfl)
theorem dL_law_2021 : decode cL_law 2021 = .ok (.laload, 1) := dk_47 (dk_at dksL_law_76 1 rfl rfl)
theorem dL_law_2022 : decode cL_law 2022 = .ok (.iload 7, 2) := dk_21 7 (dk_at dksL_law_76 2 rfl rfl)
theorem dL_law_2024 : decode cL_law 2024 = .ok (.i2l, 1) := dk_133 (dk_at dksL_law_76 4 rfl rfl)
theorem dL_law_2025 : decode cL_law 2025 = .ok (.lcmp, 1) := dk_148 (dk_at dksL_law_76 5 rfl rfl)
theorem dL_law_2026 : decode cL_law 2026 = .ok (.ifCond .eq 5, 3) := dk_153 0 5 (dk_at dksL_law_76 6 rfl rfl)
theorem dL_law_2029 : decode cL_law 2029 = .ok (.iconst 0, 1) := dk_3 (dk_at dksL_law_76 9 rfl rfl)
theorem dL_law_2030 : decode cL_law 2030 = .ok (.ireturn, 1) := dk_172 (dk_at dksL_law_76 10 rfl rfl)
theorem dL_law_2031 : decode cL_law 2031 = .ok (.goto 1715, 3) := dk_167 6 179 (dk_at dksL_law_76 11 rfl rfl)
theorem dL_law_2034 : decode cL_law 2034 = .ok (.aload_n 1, 1) := dk_43 (dk_at dksL_law_76 14 rfl rfl)
theorem dL_law_2035 : decode cL_law 2035 = .ok (.aload_n 3, 1) := dk_45 (dk_at dksL_law_76 15 rfl rfl)
theorem dL_law_2036 : decode cL_law 2036 = .ok (.invokestatic 317, 3) := dk_184 1 61 (dk_at dksL_law_76 16 rfl rfl)
theorem dL_law_2039 : decode cL_law 2039 = .ok (.istore 6, 2) := dk_54 6 (dk_at dksL_law_76 19 rfl rfl)
theorem dL_law_2041 : decode cL_law 2041 = .ok (.aload_n 2, 1) := dk_44 (dk_at dksL_law_76 21 rfl rfl)
theorem dL_law_2042 : decode cL_law 2042 = .ok (.invokevirtual 319, 3) := dk_182 1 63 (dk_at dksL_law_77 0 rfl rfl)
theorem dL_law_2045 : decode cL_law 2045 = .ok (.istore 7, 2) := dk_54 7 (dk_at dksL_law_77 3 rfl rfl)
theorem dL_law_2047 : decode cL_law 2047 = .ok (.aload_n 2, 1) := dk_44 (dk_at dksL_law_77 5 rfl rfl)
theorem dL_law_2048 : decode cL_law 2048 = .ok (.invokevirtual 216, 3) := dk_182 0 216 (dk_at dksL_law_77 6 rfl rfl)
theorem dL_law_2051 : decode cL_law 2051 = .ok (.iload 6, 2) := dk_21 6 (dk_at dksL_law_77 9 rfl rfl)
theorem dL_law_2053 : decode cL_law 2053 = .ok (.if_icmp .eq 5, 3) := dk_159 0 5 (dk_at dksL_law_77 11 rfl rfl)
theorem dL_law_2056 : decode cL_law 2056 = .ok (.iconst 0, 1) := dk_3 (dk_at dksL_law_77 14 rfl rfl)
theorem dL_law_2057 : decode cL_law 2057 = .ok (.ireturn, 1) := dk_172 (dk_at dksL_law_77 15 rfl rfl)
theorem dL_law_2058 : decode cL_law 2058 = .ok (.iload 6, 2) := dk_21 6 (dk_at dksL_law_77 16 rfl rfl)
theorem dL_law_2060 : decode cL_law 2060 = .ok (.ifCond .ne 15, 3) := dk_154 0 15 (dk_at dksL_law_77 18 rfl rfl)
theorem dL_law_2063 : decode cL_law 2063 = .ok (.aload_n 3, 1) := dk_45 (dk_at dksL_law_77 21 rfl rfl)
theorem dL_law_2064 : decode cL_law 2064 = .ok (.iconst 0, 1) := dk_3 (dk_at dksL_law_77 22 rfl rfl)
theorem dL_law_2065 : decode cL_law 2065 = .ok (.laload, 1) := dk_47 (dk_at dksL_law_77 23 rfl rfl)
theorem dL_law_2066 : decode cL_law 2066 = .ok (.iload 7, 2) := dk_21 7 (dk_at dksL_law_78 0 rfl rfl)
theorem dL_law_2068 : decode cL_law 2068 = .ok (.i2l, 1) := dk_133 (dk_at dksL_law_78 2 rfl rfl)
theorem dL_law_2069 : decode cL_law 2069 = .ok (.lcmp, 1) := dk_148 (dk_at dksL_law_78 3 rfl rfl)
theorem dL_law_2070 : decode cL_law 2070 = .ok (.ifCond .eq 5, 3) := dk_153 0 5 (dk_at dksL_law_78 4 rfl rfl)
theorem dL_law_2073 : decode cL_law 2073 = .ok (.iconst 0, 1) := dk_3 (dk_at dksL_law_78 7 rfl rfl)
theorem dL_law_2074 : decode cL_law 2074 = .ok (.ireturn, 1) := dk_172 (dk_at dksL_law_78 8 rfl rfl)
theorem dL_law_2075 : decode cL_law 2075 = .ok (.goto 1671, 3) := dk_167 6 135 (dk_at dksL_law_78 9 rfl rfl)
theorem dL_law_2078 : decode cL_law 2078 = .ok (.aload_n 1, 1) := dk_43 (dk_at dksL_law_78 12 rfl rfl)
theorem dL_law_2079 : decode cL_law 2079 = .ok (.aload_n 0, 1) := dk_42 (dk_at dksL_law_78 13 rfl rfl)
theorem dL_law_2080 : decode cL_law 2080 = .ok (.iload 5, 2) := dk_21 5 (dk_at dksL_law_78 14 rfl rfl)
theorem dL_law_2082 : decode cL_law 2082 = .ok (.iconst 1, 1) := dk_4 (dk_at dksL_law_78 16 rfl rfl)
theorem dL_law_2083 : decode cL_law 2083 = .ok (.iadd, 1) := dk_96 (dk_at dksL_law_78 17 rfl rfl)
theorem dL_law_2084 : decode cL_law 2084 = .ok (.iaload, 1) := dk_46 (dk_at dksL_law_78 18 rfl rfl)
theorem dL_law_2085 : decode cL_law 2085 = .ok (.aload_n 3, 1) := dk_45 (dk_at dksL_law_78 19 rfl rfl)
theorem dL_law_2086 : decode cL_law 2086 = .ok (.invokestatic 320, 3) := dk_184 1 64 (dk_at dksL_law_78 20 rfl rfl)
theorem dL_law_2089 : decode cL_law 2089 = .ok (.istore 6, 2) := dk_54 6 (dk_at dksL_law_79 0 rfl rfl)
theorem dL_law_2091 : decode cL_law 2091 = .ok (.aload_n 2, 1) := dk_44 (dk_at dksL_law_79 2 rfl rfl)
theorem dL_law_2092 : decode cL_law 2092 = .ok (.aload_n 0, 1) := dk_42 (dk_at dksL_law_79 3 rfl rfl)
theorem dL_law_2093 : decode cL_law 2093 = .ok (.iload 5, 2) := dk_21 5 (dk_at dksL_law_79 4 rfl rfl)
theorem dL_law_2095 : decode cL_law 2095 = .ok (.iconst 1, 1) := dk_4 (dk_at dksL_law_79 6 rfl rfl)
theorem dL_law_2096 : decode cL_law 2096 = .ok (.iadd, 1) := dk_96 (dk_at dksL_law_79 7 rfl rfl)
theorem dL_law_2097 : decode cL_law 2097 = .ok (.iaload, 1) := dk_46 (dk_at dksL_law_79 8 rfl rfl)
theorem dL_law_2098 : decode cL_law 2098 = .ok (.invokevirtual 322, 3) := dk_182 1 66 (dk_at dksL_law_79 9 rfl rfl)
theorem dL_law_2101 : decode cL_law 2101 = .ok (.istore 7, 2) := dk_54 7 (dk_at dksL_law_79 12 rfl rfl)
theorem dL_law_2103 : decode cL_law 2103 = .ok (.aload_n 2, 1) := dk_44 (dk_at dksL_law_79 14 rfl rfl)
theorem dL_law_2104 : decode cL_law 2104 = .ok (.invokevirtual 216, 3) := dk_182 0 216 (dk_at dksL_law_79 15 rfl rfl)
theorem dL_law_2107 : decode cL_law 2107 = .ok (.iload 6, 2) := dk_21 6 (dk_at dksL_law_79 18 rfl rfl)
theorem dL_law_2109 : decode cL_law 2109 = .ok (.if_icmp .eq 5, 3) := dk_159 0 5 (dk_at dksL_law_79 20 rfl rfl)
theorem dL_law_2112 : decode cL_law 2112 = .ok (.iconst 0, 1) := dk_3 (dk_at dksL_law_79 23 rfl rfl)
theorem dL_law_2113 : decode cL_law 2113 = .ok (.ireturn, 1) := dk_172 (dk_at dksL_law_80 0 rfl rfl)
theorem dL_law_2114 : decode cL_law 2114 = .ok (.iload 6, 2) := dk_21 6 (dk_at dksL_law_80 1 rfl rfl)
theorem dL_law_2116 : decode cL_law 2116 = .ok (.ifCond .ne 15, 3) := dk_154 0 15 (dk_at dksL_law_80 3 rfl rfl)
theorem dL_law_2119 : decode cL_law 2119 = .ok (.aload_n 3, 1) := dk_45 (dk_at dksL_law_80 6 rfl rfl)
theorem dL_law_2120 : decode cL_law 2120 = .ok (.iconst 0, 1) := dk_3 (dk_at dksL_law_80 7 rfl rfl)
theorem dL_law_2121 : decode cL_law 2121 = .ok (.laload, 1) := dk_47 (dk_at dksL_law_80 8 rfl rfl)
theorem dL_law_2122 : decode cL_law 2122 = .ok (.iload 7, 2) := dk_21 7 (dk_at dksL_law_80 9 rfl rfl)
theorem dL_law_2124 : decode cL_law 2124 = .ok (.i2l, 1) := dk_133 (dk_at dksL_law_80 11 rfl rfl)
theorem dL_law_2125 : decode cL_law 2125 = .ok (.lcmp, 1) := dk_148 (dk_at dksL_law_80 12 rfl rfl)
theorem dL_law_2126 : decode cL_law 2126 = .ok (.ifCond .eq 5, 3) := dk_153 0 5 (dk_at dksL_law_80 13 rfl rfl)
theorem dL_law_2129 : decode cL_law 2129 = .ok (.iconst 0, 1) := dk_3 (dk_at dksL_law_80 16 rfl rfl)
theorem dL_law_2130 : decode cL_law 2130 = .ok (.ireturn, 1) := dk_172 (dk_at dksL_law_80 17 rfl rfl)
theorem dL_law_2131 : decode cL_law 2131 = .ok (.goto 1615, 3) := dk_167 6 79 (dk_at dksL_law_80 18 rfl rfl)
theorem dL_law_2134 : decode cL_law 2134 = .ok (.aload_n 1, 1) := dk_43 (dk_at dksL_law_80 21 rfl rfl)
theorem dL_law_2135 : decode cL_law 2135 = .ok (.aload_n 3, 1) := dk_45 (dk_at dksL_law_80 22 rfl rfl)
theorem dL_law_2136 : decode cL_law 2136 = .ok (.invokestatic 323, 3) := dk_184 1 67 (dk_at dksL_law_81 0 rfl rfl)
theorem dL_law_2139 : decode cL_law 2139 = .ok (.istore 6, 2) := dk_54 6 (dk_at dksL_law_81 3 rfl rfl)
theorem dL_law_2141 : decode cL_law 2141 = .ok (.aload_n 2, 1) := dk_44 (dk_at dksL_law_81 5 rfl rfl)
theorem dL_law_2142 : decode cL_law 2142 = .ok (.invokevirtual 325, 3) := dk_182 1 69 (dk_at dksL_law_81 6 rfl rfl)
theorem dL_law_2145 : decode cL_law 2145 = .ok (.istore 7, 2) := dk_54 7 (dk_at dksL_law_81 9 rfl rfl)
theorem dL_law_2147 : decode cL_law 2147 = .ok (.aload_n 2, 1) := dk_44 (dk_at dksL_law_81 11 rfl rfl)
theorem dL_law_2148 : decode cL_law 2148 = .ok (.invokevirtual 216, 3) := dk_182 0 216 (dk_at dksL_law_81 12 rfl rfl)
theorem dL_law_2151 : decode cL_law 2151 = .ok (.iload 6, 2) := dk_21 6 (dk_at dksL_law_81 15 rfl rfl)
theorem dL_law_2153 : decode cL_law 2153 = .ok (.if_icmp .eq 5, 3) := dk_159 0 5 (dk_at dksL_law_81 17 rfl rfl)
theorem dL_law_2156 : decode cL_law 2156 = .ok (.iconst 0, 1) := dk_3 (dk_at dksL_law_81 20 rfl rfl)
theorem dL_law_2157 : decode cL_law 2157 = .ok (.ireturn, 1) := dk_172 (dk_at dksL_law_81 21 rfl rfl)
theorem dL_law_2158 : decode cL_law 2158 = .ok (.iload 6, 2) := dk_21 6 (dk_at dksL_law_81 22 rfl rfl)
theorem dL_law_2160 : decode cL_law 2160 = .ok (.ifCond .ne 15, 3) := dk_154 0 15 (dk_at dksL_law_82 0 rfl rfl)
theorem dL_law_2163 : decode cL_law 2163 = .ok (.aload_n 3, 1) := dk_45 (dk_at dksL_law_82 3 rfl rfl)
theorem dL_law_2164 : decode cL_law 2164 = .ok (.iconst 0, 1) := dk_3 (dk_at dksL_law_82 4 rfl rfl)
theorem dL_law_2165 : decode cL_law 2165 = .ok (.laload, 1) := dk_47 (dk_at dksL_law_82 5 rfl rfl)
theorem dL_law_2166 : decode cL_law 2166 = .ok (.iload 7, 2) := dk_21 7 (dk_at dksL_law_82 6 rfl rfl)
theorem dL_law_2168 : decode cL_law 2168 = .ok (.i2l, 1) := dk_133 (dk_at dksL_law_82 8 rfl rfl)
theorem dL_law_2169 : decode cL_law 2169 = .ok (.lcmp, 1) := dk_148 (dk_at dksL_law_82 9 rfl rfl)
theorem dL_law_2170 : decode cL_law 2170 = .ok (.ifCond .eq 5, 3) := dk_153 0 5 (dk_at dksL_law_82 10 rfl rfl)
theorem dL_law_2173 : decode cL_law 2173 = .ok (.iconst 0, 1) := dk_3 (dk_at dksL_law_82 13 rfl rfl)
theorem dL_law_2174 : decode cL_law 2174 = .ok (.ireturn, 1) := dk_172 (dk_at dksL_law_82 14 rfl rfl)
theorem dL_law_2175 : decode cL_law 2175 = .ok (.goto 1571, 3) := dk_167 6 35 (dk_at dksL_law_82 15 rfl rfl)
theorem dL_law_2178 : decode cL_law 2178 = .ok (.aload_n 1, 1) := dk_43 (dk_at dksL_law_82 18 rfl rfl)
theorem dL_law_2179 : decode cL_law 2179 = .ok (.aload_n 3, 1) := dk_45 (dk_at dksL_law_82 19 rfl rfl)
theorem dL_law_2180 : decode cL_law 2180 = .ok (.invokestatic 326, 3) := dk_184 1 70 (dk_at dksL_law_82 20 rfl rfl)
theorem dL_law_2183 : decode cL_law 2183 = .ok (.istore 6, 2) := dk_54 6 (dk_at dksL_law_83 0 rfl rfl)
theorem dL_law_2185 : decode cL_law 2185 = .ok (.aload_n 2, 1) := dk_44 (dk_at dksL_law_83 2 rfl rfl)
theorem dL_law_2186 : decode cL_law 2186 = .ok (.invokevirtual 328, 3) := dk_182 1 72 (dk_at dksL_law_83 3 rfl rfl)
theorem dL_law_2189 : decode cL_law 2189 = .ok (.istore 7, 2) := dk_54 7 (dk_at dksL_law_83 6 rfl rfl)
theorem dL_law_2191 : decode cL_law 2191 = .ok (.aload_n 2, 1) := dk_44 (dk_at dksL_law_83 8 rfl rfl)
theorem dL_law_2192 : decode cL_law 2192 = .ok (.invokevirtual 216, 3) := dk_182 0 216 (dk_at dksL_law_83 9 rfl rfl)
theorem dL_law_2195 : decode cL_law 2195 = .ok (.iload 6, 2) := dk_21 6 (dk_at dksL_law_83 12 rfl rfl)
theorem dL_law_2197 : decode cL_law 2197 = .ok (.if_icmp .eq 5, 3) := dk_159 0 5 (dk_at dksL_law_83 14 rfl rfl)
theorem dL_law_2200 : decode cL_law 2200 = .ok (.iconst 0, 1) := dk_3 (dk_at dksL_law_83 17 rfl rfl)
theorem dL_law_2201 : decode cL_law 2201 = .ok (.ireturn, 1) := dk_172 (dk_at dksL_law_83 18 rfl rfl)
theorem dL_law_2202 : decode cL_law 2202 = .ok (.iload 6, 2) := dk_21 6 (dk_at dksL_law_83 19 rfl rfl)
theorem dL_law_2204 : decode cL_law 2204 = .ok (.ifCond .ne 15, 3) := dk_154 0 15 (dk_at dksL_law_83 21 rfl rfl)
theorem dL_law_2207 : decode cL_law 2207 = .ok (.aload_n 3, 1) := dk_45 (dk_at dksL_law_84 0 rfl rfl)
theorem dL_law_2208 : decode cL_law 2208 = .ok (.iconst 0, 1) := dk_3 (dk_at dksL_law_84 1 rfl rfl)
theorem dL_law_2209 : decode cL_law 2209 = .ok (.laload, 1) := dk_47 (dk_at dksL_law_84 2 rfl rfl)
theorem dL_law_2210 : decode cL_law 2210 = .ok (.iload 7, 2) := dk_21 7 (dk_at dksL_law_84 3 rfl rfl)
theorem dL_law_2212 : decode cL_law 2212 = .ok (.i2l, 1) := dk_133 (dk_at dksL_law_84 5 rfl rfl)
theorem dL_law_2213 : decode cL_law 2213 = .ok (.lcmp, 1) := dk_148 (dk_at dksL_law_84 6 rfl rfl)
theorem dL_law_2214 : decode cL_law 2214 = .ok (.ifCond .eq 5, 3) := dk_153 0 5 (dk_at dksL_law_84 7 rfl rfl)
theorem dL_law_2217 : decode cL_law 2217 = .ok (.iconst 0, 1) := dk_3 (dk_at dksL_law_84 10 rfl rfl)
theorem dL_law_2218 : decode cL_law 2218 = .ok (.ireturn, 1) := dk_172 (dk_at dksL_law_84 11 rfl rfl)
theorem dL_law_2219 : decode cL_law 2219 = .ok (.goto 1527, 3) := dk_167 5 247 (dk_at dksL_law_84 12 rfl rfl)
theorem dL_law_2222 : decode cL_law 2222 = .ok (.aload_n 1, 1) := dk_43 (dk_at dksL_law_84 15 rfl rfl)
theorem dL_law_2223 : decode cL_law 2223 = .ok (.aload_n 0, 1) := dk_42 (dk_at dksL_law_84 16 rfl rfl)
theorem dL_law_2224 : decode cL_law 2224 = .ok (.iload 5, 2) := dk_21 5 (dk_at dksL_law_84 17 rfl rfl)
theorem dL_law_2226 : decode cL_law 2226 = .ok (.iconst 1, 1) := dk_4 (dk_at dksL_law_84 19 rfl rfl)
theorem dL_law_2227 : decode cL_law 2227 = .ok (.iadd, 1) := dk_96 (dk_at dksL_law_84 20 rfl rfl)
theorem dL_law_2228 : decode cL_law 2228 = .ok (.iaload, 1) := dk_46 (dk_at dksL_law_84 21 rfl rfl)
theorem dL_law_2229 : decode cL_law 2229 = .ok (.aload_n 0, 1) := dk_42 (dk_at dksL_law_84 22 rfl rfl)
theorem dL_law_2230 : decode cL_law 2230 = .ok (.iload 5, 2) := dk_21 5 (dk_at dksL_law_85 0 rfl rfl)
theorem dL_law_2232 : decode cL_law 2232 = .ok (.iconst 2, 1) := dk_5 (dk_at dksL_law_85 2 rfl rfl)
theorem dL_law_2233 : decode cL_law 2233 = .ok (.iadd, 1) := dk_96 (dk_at dksL_law_85 3 rfl rfl)
theorem dL_law_2234 : decode cL_law 2234 = .ok (.iaload, 1) := dk_46 (dk_at dksL_law_85 4 rfl rfl)
theorem dL_law_2235 : decode cL_law 2235 = .ok (.aload_n 3, 1) := dk_45 (dk_at dksL_law_85 5 rfl rfl)
theorem dL_law_2236 : decode cL_law 2236 = .ok (.invokestatic 329, 3) := dk_184 1 73 (dk_at dksL_law_85 6 rfl rfl)
theorem dL_law_2239 : decode cL_law 2239 = .ok (.istore 6, 2) := dk_54 6 (dk_at dksL_law_85 9 rfl rfl)
theorem dL_law_2241 : decode cL_law 2241 = .ok (.aload_n 2, 1) := dk_44 (dk_at dksL_law_85 11 rfl rfl)
theorem dL_law_2242 : decode cL_law 2242 = .ok (.aload_n 0, 1) := dk_42 (dk_at dksL_law_85 12 rfl rfl)
theorem dL_law_2243 : decode cL_law 2243 = .ok (.iload 5, 2) := dk_21 5 (dk_at dksL_law_85 13 rfl rfl)
theorem dL_law_2245 : decode cL_law 2245 = .ok (.iconst 1, 1) := dk_4 (dk_at dksL_law_85 15 rfl rfl)
theorem dL_law_2246 : decode cL_law 2246 = .ok (.iadd, 1) := dk_96 (dk_at dksL_law_85 16 rfl rfl)
theorem dL_law_2247 : decode cL_law 2247 = .ok (.iaload, 1) := dk_46 (dk_at dksL_law_85 17 rfl rfl)
theorem dL_law_2248 : decode cL_law 2248 = .ok (.aload_n 0, 1) := dk_42 (dk_at dksL_law_85 18 rfl rfl)
theorem dL_law_2249 : decode cL_law 2249 = .ok (.iload 5, 2) := dk_21 5 (dk_at dksL_law_85 19 rfl rfl)
theorem dL_law_2251 : decode cL_law 2251 = .ok (.iconst 2, 1) := dk_5 (dk_at dksL_law_85 21 rfl rfl)
theorem dL_law_2252 : decode cL_law 2252 = .ok (.iadd, 1) := dk_96 (dk_at dksL_law_85 22 rfl rfl)
theorem dL_law_2253 : decode cL_law 2253 = .ok (.iaload, 1) := dk_46 (dk_at dksL_law_85 23 rfl rfl)
theorem dL_law_2254 : decode cL_law 2254 = .ok (.invokevirtual 331, 3) := dk_182 1 75 (dk_at dksL_law_86 0 rfl rfl)
theorem dL_law_2257 : decode cL_law 2257 = .ok (.istore 7, 2) := dk_54 7 (dk_at dksL_law_86 3 rfl rfl)
theorem dL_law_2259 : decode cL_law 2259 = .ok (.aload_n 2, 1) := dk_44 (dk_at dksL_law_86 5 rfl rfl)
theorem dL_law_2260 : decode cL_law 2260 = .ok (.invokevirtual 216, 3) := dk_182 0 216 (dk_at dksL_law_86 6 rfl rfl)
theorem dL_law_2263 : decode cL_law 2263 = .ok (.iload 6, 2) := dk_21 6 (dk_at dksL_law_86 9 rfl rfl)
theorem dL_law_2265 : decode cL_law 2265 = .ok (.if_icmp .eq 5, 3) := dk_159 0 5 (dk_at dksL_law_86 11 rfl rfl)
theorem dL_law_2268 : decode cL_law 2268 = .ok (.iconst 0, 1) := dk_3 (dk_at dksL_law_86 14 rfl rfl)
theorem dL_law_2269 : decode cL_law 2269 = .ok (.ireturn, 1) := dk_172 (dk_at dksL_law_86 15 rfl rfl)
theorem dL_law_2270 : decode cL_law 2270 = .ok (.iload 6, 2) := dk_21 6 (dk_at dksL_law_86 16 rfl rfl)
theorem dL_law_2272 : decode cL_law 2272 = .ok (.ifCond .ne 15, 3) := dk_154 0 15 (dk_at dksL_law_86 18 rfl rfl)
theorem dL_law_2275 : decode cL_law 2275 = .ok (.aload_n 3, 1) := dk_45 (dk_at dksL_law_86 21 rfl rfl)
theorem dL_law_2276 : decode cL_law 2276 = .ok (.iconst 0, 1) := dk_3 (dk_at dksL_law_86 22 rfl rfl)
theorem dL_law_2277 : decode cL_law 2277 = .ok (.laload, 1) := dk_47 (dk_at dksL_law_86 23 rfl rfl)
theorem dL_law_2278 : decode cL_law 2278 = .ok (.iload 7, 2) := dk_21 7 (dk_at dksL_law_87 0 rfl rfl)
theorem dL_law_2280 : decode cL_law 2280 = .ok (.i2l, 1) := dk_133 (dk_at dksL_law_87 2 rfl rfl)
theorem dL_law_2281 : decode cL_law 2281 = .ok (.lcmp, 1) := dk_148 (dk_at dksL_law_87 3 rfl rfl)
theorem dL_law_2282 : decode cL_law 2282 = .ok (.ifCond .eq 5, 3) := dk_153 0 5 (dk_at dksL_law_87 4 rfl rfl)
theorem dL_law_2285 : decode cL_law 2285 = .ok (.iconst 0, 1) := dk_3 (dk_at dksL_law_87 7 rfl rfl)
theorem dL_law_2286 : decode cL_law 2286 = .ok (.ireturn, 1) := dk_172 (dk_at dksL_law_87 8 rfl rfl)
theorem dL_law_2287 : decode cL_law 2287 = .ok (.goto 1459, 3) := dk_167 5 179 (dk_at dksL_law_87 9 rfl rfl)
theorem dL_law_2290 : decode cL_law 2290 = .ok (.aload_n 1, 1) := dk_43 (dk_at dksL_law_87 12 rfl rfl)
theorem dL_law_2291 : decode cL_law 2291 = .ok (.aload_n 0, 1) := dk_42 (dk_at dksL_law_87 13 rfl rfl)
theorem dL_law_2292 : decode cL_law 2292 = .ok (.iload 5, 2) := dk_21 5 (dk_at dksL_law_87 14 rfl rfl)
theorem dL_law_2294 : decode cL_law 2294 = .ok (.iconst 1, 1) := dk_4 (dk_at dksL_law_87 16 rfl rfl)
theorem dL_law_2295 : decode cL_law 2295 = .ok (.iadd, 1) := dk_96 (dk_at dksL_law_87 17 rfl rfl)
theorem dL_law_2296 : decode cL_law 2296 = .ok (.iaload, 1) := dk_46 (dk_at dksL_law_87 18 rfl rfl)
theorem dL_law_2297 : decode cL_law 2297 = .ok (.aload_n 0, 1) := dk_42 (dk_at dksL_law_87 19 rfl rfl)
theorem dL_law_2298 : decode cL_law 2298 = .ok (.iload 5, 2) := dk_21 5 (dk_at dksL_law_87 20 rfl rfl)
theorem dL_law_2300 : decode cL_law 2300 = .ok (.iconst 2, 1) := dk_5 (dk_at dksL_law_87 22 rfl rfl)
theorem dL_law_2301 : decode cL_law 2301 = .ok (.iadd, 1) := dk_96 (dk_at dksL_law_87 23 rfl rfl)
theorem dL_law_2302 : decode cL_law 2302 = .ok (.iaload, 1) := dk_46 (dk_at dksL_law_88 0 rfl rfl)
theorem dL_law_2303 : decode cL_law 2303 = .ok (.aload_n 3, 1) := dk_45 (dk_at dksL_law_88 1 rfl rfl)
theorem dL_law_2304 : decode cL_law 2304 = .ok (.invokestatic 332, 3) := dk_184 1 76 (dk_at dksL_law_88 2 rfl rfl)
theorem dL_law_2307 : decode cL_law 2307 = .ok (.istore 6, 2) := dk_54 6 (dk_at dksL_law_88 5 rfl rfl)
theorem dL_law_2309 : decode cL_law 2309 = .ok (.aload_n 2, 1) := dk_44 (dk_at dksL_law_88 7 rfl rfl)
theorem dL_law_2310 : decode cL_law 2310 = .ok (.aload_n 0, 1) := dk_42 (dk_at dksL_law_88 8 rfl rfl)
theorem dL_law_2311 : decode cL_law 2311 = .ok (.iload 5, 2) := dk_21 5 (dk_at dksL_law_88 9 rfl rfl)
theorem dL_law_2313 : decode cL_law 2313 = .ok (.iconst 1, 1) := dk_4 (dk_at dksL_law_88 11 rfl rfl)
theorem dL_law_2314 : decode cL_law 2314 = .ok (.iadd, 1) := dk_96 (dk_at dksL_law_88 12 rfl rfl)
theorem dL_law_2315 : decode cL_law 2315 = .ok (.iaload, 1) := dk_46 (dk_at dksL_law_88 13 rfl rfl)
theorem dL_law_2316 : decode cL_law 2316 = .ok (.aload_n 0, 1) := dk_42 (dk_at dksL_law_88 14 rfl rfl)
theorem dL_law_2317 : decode cL_law 2317 = .ok (.iload 5, 2) := dk_21 5 (dk_at dksL_law_88 15 rfl rfl)
theorem dL_law_2319 : decode cL_law 2319 = .ok (.iconst 2, 1) := dk_5 (dk_at dksL_law_88 17 rfl rfl)
theorem dL_law_2320 : decode cL_law 2320 = .ok (.iadd, 1) := dk_96 (dk_at dksL_law_88 18 rfl rfl)
theorem dL_law_2321 : decode cL_law 2321 = .ok (.iaload, 1) := dk_46 (dk_at dksL_law_88 19 rfl rfl)
theorem dL_law_2322 : decode cL_law 2322 = .ok (.invokevirtual 334, 3) := dk_182 1 78 (dk_at dksL_law_88 20 rfl rfl)
theorem dL_law_2325 : decode cL_law 2325 = .ok (.istore 7, 2) := dk_54 7 (dk_at dksL_law_89 0 rfl rfl)
theorem dL_law_2327 : decode cL_law 2327 = .ok (.aload_n 2, 1) := dk_44 (dk_at dksL_law_89 2 rfl rfl)
theorem dL_law_2328 : decode cL_law 2328 = .ok (.invokevirtual 216, 3) := dk_182 0 216 (dk_at dksL_law_89 3 rfl rfl)
theorem dL_law_2331 : decode cL_law 2331 = .ok (.iload 6, 2) := dk_21 6 (dk_at dksL_law_89 6 rfl rfl)
theorem dL_law_2333 : decode cL_law 2333 = .ok (.if_icmp .eq 5, 3) := dk_159 0 5 (dk_at dksL_law_89 8 rfl rfl)
theorem dL_law_2336 : decode cL_law 2336 = .ok (.iconst 0, 1) := dk_3 (dk_at dksL_law_89 11 rfl rfl)
theorem dL_law_2337 : decode cL_law 2337 = .ok (.ireturn, 1) := dk_172 (dk_at dksL_law_89 12 rfl rfl)
theorem dL_law_2338 : decode cL_law 2338 = .ok (.iload 6, 2) := dk_21 6 (dk_at dksL_law_89 13 rfl rfl)
theorem dL_law_2340 : decode cL_law 2340 = .ok (.ifCond .ne 15, 3) := dk_154 0 15 (dk_at dksL_law_89 15 rfl rfl)
theorem dL_law_2343 : decode cL_law 2343 = .ok (.aload_n 3, 1) := dk_45 (dk_at dksL_law_89 18 rfl rfl)
theorem dL_law_2344 : decode cL_law 2344 = .ok (.iconst 0, 1) := dk_3 (dk_at dksL_law_89 19 rfl rfl)
theorem dL_law_2345 : decode cL_law 2345 = .ok (.laload, 1) := dk_47 (dk_at dksL_law_89 20 rfl rfl)
theorem dL_law_2346 : decode cL_law 2346 = .ok (.iload 7, 2) := dk_21 7 (dk_at dksL_law_89 21 rfl rfl)
theorem dL_law_2348 : decode cL_law 2348 = .ok (.i2l, 1) := dk_133 (dk_at dksL_law_89 23 rfl rfl)
theorem dL_law_2349 : decode cL_law 2349 = .ok (.lcmp, 1) := dk_148 (dk_at dksL_law_90 0 rfl rfl)
theorem dL_law_2350 : decode cL_law 2350 = .ok (.ifCond .eq 5, 3) := dk_153 0 5 (dk_at dksL_law_90 1 rfl rfl)
theorem dL_law_2353 : decode cL_law 2353 = .ok (.iconst 0, 1) := dk_3 (dk_at dksL_law_90 4 rfl rfl)
theorem dL_law_2354 : decode cL_law 2354 = .ok (.ireturn, 1) := dk_172 (dk_at dksL_law_90 5 rfl rfl)
theorem dL_law_2355 : decode cL_law 2355 = .ok (.goto 1391, 3) := dk_167 5 111 (dk_at dksL_law_90 6 rfl rfl)
theorem dL_law_2358 : decode cL_law 2358 = .ok (.aload_n 1, 1) := dk_43 (dk_at dksL_law_90 9 rfl rfl)
theorem dL_law_2359 : decode cL_law 2359 = .ok (.aload_n 3, 1) := dk_45 (dk_at dksL_law_90 10 rfl rfl)
theorem dL_law_2360 : decode cL_law 2360 = .ok (.invokestatic 335, 3) := dk_184 1 79 (dk_at dksL_law_90 11 rfl rfl)
theorem dL_law_2363 : decode cL_law 2363 = .ok (.istore 6, 2) := dk_54 6 (dk_at dksL_law_90 14 rfl rfl)
theorem dL_law_2365 : decode cL_law 2365 = .ok (.aload_n 2, 1) := dk_44 (dk_at dksL_law_90 16 rfl rfl)
theorem dL_law_2366 : decode cL_law 2366 = .ok (.invokevirtual 337, 3) := dk_182 1 81 (dk_at dksL_law_90 17 rfl rfl)
theorem dL_law_2369 : decode cL_law 2369 = .ok (.istore 7, 2) := dk_54 7 (dk_at dksL_law_90 20 rfl rfl)
theorem dL_law_2371 : decode cL_law 2371 = .ok (.aload_n 2, 1) := dk_44 (dk_at dksL_law_90 22 rfl rfl)
theorem dL_law_2372 : decode cL_law 2372 = .ok (.invokevirtual 216, 3) := dk_182 0 216 (dk_at dksL_law_91 0 rfl rfl)
theorem dL_law_2375 : decode cL_law 2375 = .ok (.iload 6, 2) := dk_21 6 (dk_at dksL_law_91 3 rfl rfl)
theorem dL_law_2377 : decode cL_law 2377 = .ok (.if_icmp .eq 5, 3) := dk_159 0 5 (dk_at dksL_law_91 5 rfl rfl)
theorem dL_law_2380 : decode cL_law 2380 = .ok (.iconst 0, 1) := dk_3 (dk_at dksL_law_91 8 rfl rfl)
theorem dL_law_2381 : decode cL_law 2381 = .ok (.ireturn, 1) := dk_172 (dk_at dksL_law_91 9 rfl rfl)
theorem dL_law_2382 : decode cL_law 2382 = .ok (.iload 6, 2) := dk_21 6 (dk_at dksL_law_91 10 rfl rfl)
theorem dL_law_2384 : decode cL_law 2384 = .ok (.ifCond .ne 15, 3) := dk_154 0 15 (dk_at dksL_law_91 12 rfl rfl)
theorem dL_law_2387 : decode cL_law 2387 = .ok (.aload_n 3, 1) := dk_45 (dk_at dksL_law_91 15 rfl rfl)
theorem dL_law_2388 : decode cL_law 2388 = .ok (.iconst 0, 1) := dk_3 (dk_at dksL_law_91 16 rfl rfl)
theorem dL_law_2389 : decode cL_law 2389 = .ok (.laload, 1) := dk_47 (dk_at dksL_law_91 17 rfl rfl)
theorem dL_law_2390 : decode cL_law 2390 = .ok (.iload 7, 2) := dk_21 7 (dk_at dksL_law_91 18 rfl rfl)
theorem dL_law_2392 : decode cL_law 2392 = .ok (.i2l, 1) := dk_133 (dk_at dksL_law_91 20 rfl rfl)
theorem dL_law_2393 : decode cL_law 2393 = .ok (.lcmp, 1) := dk_148 (dk_at dksL_law_91 21 rfl rfl)
theorem dL_law_2394 : decode cL_law 2394 = .ok (.ifCond .eq 5, 3) := dk_153 0 5 (dk_at dksL_law_92 0 rfl rfl)
theorem dL_law_2397 : decode cL_law 2397 = .ok (.iconst 0, 1) := dk_3 (dk_at dksL_law_92 3 rfl rfl)
theorem dL_law_2398 : decode cL_law 2398 = .ok (.ireturn, 1) := dk_172 (dk_at dksL_law_92 4 rfl rfl)
theorem dL_law_2399 : decode cL_law 2399 = .ok (.goto 1347, 3) := dk_167 5 67 (dk_at dksL_law_92 5 rfl rfl)
theorem dL_law_2402 : decode cL_law 2402 = .ok (.aload_n 1, 1) := dk_43 (dk_at dksL_law_92 8 rfl rfl)
theorem dL_law_2403 : decode cL_law 2403 = .ok (.aload_n 0, 1) := dk_42 (dk_at dksL_law_92 9 rfl rfl)
theorem dL_law_2404 : decode cL_law 2404 = .ok (.iload 5, 2) := dk_21 5 (dk_at dksL_law_92 10 rfl rfl)
theorem dL_law_2406 : decode cL_law 2406 = .ok (.iconst 1, 1) := dk_4 (dk_at dksL_law_92 12 rfl rfl)
theorem dL_law_2407 : decode cL_law 2407 = .ok (.iadd, 1) := dk_96 (dk_at dksL_law_92 13 rfl rfl)
theorem dL_law_2408 : decode cL_law 2408 = .ok (.iaload, 1) := dk_46 (dk_at dksL_law_92 14 rfl rfl)
theorem dL_law_2409 : decode cL_law 2409 = .ok (.aload_n 0, 1) := dk_42 (dk_at dksL_law_92 15 rfl rfl)
theorem dL_law_2410 : decode cL_law 2410 = .ok (.iload 5, 2) := dk_21 5 (dk_at dksL_law_92 16 rfl rfl)
theorem dL_law_2412 : decode cL_law 2412 = .ok (.iconst 2, 1) := dk_5 (dk_at dksL_law_92 18 rfl rfl)
theorem dL_law_2413 : decode cL_law 2413 = .ok (.iadd, 1) := dk_96 (dk_at dksL_law_92 19 rfl rfl)
theorem dL_law_2414 : decode cL_law 2414 = .ok (.iaload, 1) := dk_46 (dk_at dksL_law_92 20 rfl rfl)
theorem dL_law_2415 : decode cL_law 2415 = .ok (.aload_n 3, 1) := dk_45 (dk_at dksL_law_92 21 rfl rfl)
theorem dL_law_2416 : decode cL_law 2416 = .ok (.invokestatic 338, 3) := dk_184 1 82 (dk_at dksL_law_93 0 rfl rfl)
theorem dL_law_2419 : decode cL_law 2419 = .ok (.istore 6, 2) := dk_54 6 (dk_at dksL_law_93 3 rfl rfl)
theorem dL_law_2421 : decode cL_law 2421 = .ok (.aload_n 2, 1) := dk_44 (dk_at dksL_law_93 5 rfl rfl)
theorem dL_law_2422 : decode cL_law 2422 = .ok (.aload_n 0, 1) := dk_42 (dk_at dksL_law_93 6 rfl rfl)
theorem dL_law_2423 : decode cL_law 2423 = .ok (.iload 5, 2) := dk_21 5 (dk_at dksL_law_93 7 rfl rfl)
theorem dL_law_2425 : decode cL_law 2425 = .ok (.iconst 1, 1) := dk_4 (dk_at dksL_law_93 9 rfl rfl)
theorem dL_law_2426 : decode cL_law 2426 = .ok (.iadd, 1) := dk_96 (dk_at dksL_law_93 10 rfl rfl)
theorem dL_law_2427 : decode cL_law 2427 = .ok (.iaload, 1) := dk_46 (dk_at dksL_law_93 11 rfl rfl)
theorem dL_law_2428 : decode cL_law 2428 = .ok (.aload_n 0, 1) := dk_42 (dk_at dksL_law_93 12 rfl rfl)
theorem dL_law_2429 : decode cL_law 2429 = .ok (.iload 5, 2) := dk_21 5 (dk_at dksL_law_93 13 rfl rfl)
theorem dL_law_2431 : decode cL_law 2431 = .ok (.iconst 2, 1) := dk_5 (dk_at dksL_law_93 15 rfl rfl)
theorem dL_law_2432 : decode cL_law 2432 = .ok (.iadd, 1) := dk_96 (dk_at dksL_law_93 16 rfl rfl)
theorem dL_law_2433 : decode cL_law 2433 = .ok (.iaload, 1) := dk_46 (dk_at dksL_law_93 17 rfl rfl)
theorem dL_law_2434 : decode cL_law 2434 = .ok (.invokevirtual 340, 3) := dk_182 1 84 (dk_at dksL_law_93 18 rfl rfl)
theorem dL_law_2437 : decode cL_law 2437 = .ok (.istore 7, 2) := dk_54 7 (dk_at dksL_law_93 21 rfl rfl)
theorem dL_law_2439 : decode cL_law 2439 = .ok (.aload_n 2, 1) := dk_44 (dk_at dksL_law_93 23 rfl rfl)
theorem dL_law_2440 : decode cL_law 2440 = .ok (.invokevirtual 216, 3) := dk_182 0 216 (dk_at dksL_law_94 0 rfl rfl)
theorem dL_law_2443 : decode cL_law 2443 = .ok (.iload 6, 2) := dk_21 6 (dk_at dksL_law_94 3 rfl rfl)
theorem dL_law_2445 : decode cL_law 2445 = .ok (.if_icmp .eq 5, 3) := dk_159 0 5 (dk_at dksL_law_94 5 rfl rfl)
theorem dL_law_2448 : decode cL_law 2448 = .ok (.iconst 0, 1) := dk_3 (dk_at dksL_law_94 8 rfl rfl)
theorem dL_law_2449 : decode cL_law 2449 = .ok (.ireturn, 1) := dk_172 (dk_at dksL_law_94 9 rfl rfl)
theorem dL_law_2450 : decode cL_law 2450 = .ok (.iload 6, 2) := dk_21 6 (dk_at dksL_law_94 10 rfl rfl)
theorem dL_law_2452 : decode cL_law 2452 = .ok (.ifCond .ne 15, 3) := dk_154 0 15 (dk_at dksL_law_94 12 rfl rfl)
theorem dL_law_2455 : decode cL_law 2455 = .ok (.aload_n 3, 1) := dk_45 (dk_at dksL_law_94 15 rfl rfl)
theorem dL_law_2456 : decode cL_law 2456 = .ok (.iconst 0, 1) := dk_3 (dk_at dksL_law_94 16 rfl rfl)
theorem dL_law_2457 : decode cL_law 2457 = .ok (.laload, 1) := dk_47 (dk_at dksL_law_94 17 rfl rfl)
theorem dL_law_2458 : decode cL_law 2458 = .ok (.iload 7, 2) := dk_21 7 (dk_at dksL_law_94 18 rfl rfl)
theorem dL_law_2460 : decode cL_law 2460 = .ok (.i2l, 1) := dk_133 (dk_at dksL_law_94 20 rfl rfl)
theorem dL_law_2461 : decode cL_law 2461 = .ok (.lcmp, 1) := dk_148 (dk_at dksL_law_94 21 rfl rfl)
theorem dL_law_2462 : decode cL_law 2462 = .ok (.ifCond .eq 5, 3) := dk_153 0 5 (dk_at dksL_law_95 0 rfl rfl)
theorem dL_law_2465 : decode cL_law 2465 = .ok (.iconst 0, 1) := dk_3 (dk_at dksL_law_95 3 rfl rfl)
theorem dL_law_2466 : decode cL_law 2466 = .ok (.ireturn, 1) := dk_172 (dk_at dksL_law_95 4 rfl rfl)
theorem dL_law_2467 : decode cL_law 2467 = .ok (.goto 1279, 3) := dk_167 4 255 (dk_at dksL_law_95 5 rfl rfl)
theorem dL_law_2470 : decode cL_law 2470 = .ok (.aload_n 1, 1) := dk_43 (dk_at dksL_law_95 8 rfl rfl)
theorem dL_law_2471 : decode cL_law 2471 = .ok (.aload_n 0, 1) := dk_42 (dk_at dksL_law_95 9 rfl rfl)
theorem dL_law_2472 : decode cL_law 2472 = .ok (.iload 5, 2) := dk_21 5 (dk_at dksL_law_95 10 rfl rfl)
theorem dL_law_2474 : decode cL_law 2474 = .ok (.iconst 1, 1) := dk_4 (dk_at dksL_law_95 12 rfl rfl)
theorem dL_law_2475 : decode cL_law 2475 = .ok (.iadd, 1) := dk_96 (dk_at dksL_law_95 13 rfl rfl)
theorem dL_law_2476 : decode cL_law 2476 = .ok (.iaload, 1) := dk_46 (dk_at dksL_law_95 14 rfl rfl)
theorem dL_law_2477 : decode cL_law 2477 = .ok (.aload_n 3, 1) := dk_45 (dk_at dksL_law_95 15 rfl rfl)
theorem dL_law_2478 : decode cL_law 2478 = .ok (.invokestatic 341, 3) := dk_184 1 85 (dk_at dksL_law_95 16 rfl rfl)
theorem dL_law_2481 : decode cL_law 2481 = .ok (.istore 6, 2) := dk_54 6 (dk_at dksL_law_95 19 rfl rfl)
theorem dL_law_2483 : decode cL_law 2483 = .ok (.aload_n 2, 1) := dk_44 (dk_at dksL_law_95 21 rfl rfl)
theorem dL_law_2484 : decode cL_law 2484 = .ok (.aload_n 0, 1) := dk_42 (dk_at dksL_law_95 22 rfl rfl)
theorem dL_law_2485 : decode cL_law 2485 = .ok (.iload 5, 2) := dk_21 5 (dk_at dksL_law_96 0 rfl rfl)
theorem dL_law_2487 : decode cL_law 2487 = .ok (.iconst 1, 1) := dk_4 (dk_at dksL_law_96 2 rfl rfl)
theorem dL_law_2488 : decode cL_law 2488 = .ok (.iadd, 1) := dk_96 (dk_at dksL_law_96 3 rfl rfl)
theorem dL_law_2489 : decode cL_law 2489 = .ok (.iaload, 1) := dk_46 (dk_at dksL_law_96 4 rfl rfl)
theorem dL_law_2490 : decode cL_law 2490 = .ok (.invokevirtual 343, 3) := dk_182 1 87 (dk_at dksL_law_96 5 rfl rfl)
theorem dL_law_2493 : decode cL_law 2493 = .ok (.istore 7, 2) := dk_54 7 (dk_at dksL_law_96 8 rfl rfl)
theorem dL_law_2495 : decode cL_law 2495 = .ok (.aload_n 2, 1) := dk_44 (dk_at dksL_law_96 10 rfl rfl)
theorem dL_law_2496 : decode cL_law 2496 = .ok (.invokevirtual 216, 3) := dk_182 0 216 (dk_at dksL_law_96 11 rfl rfl)
theorem dL_law_2499 : decode cL_law 2499 = .ok (.iload 6, 2) := dk_21 6 (dk_at dksL_law_96 14 rfl rfl)
theorem dL_law_2501 : decode cL_law 2501 = .ok (.if_icmp .eq 5, 3) := dk_159 0 5 (dk_at dksL_law_96 16 rfl rfl)
theorem dL_law_2504 : decode cL_law 2504 = .ok (.iconst 0, 1) := dk_3 (dk_at dksL_law_96 19 rfl rfl)
theorem dL_law_2505 : decode cL_law 2505 = .ok (.ireturn, 1) := dk_172 (dk_at dksL_law_96 20 rfl rfl)
theorem dL_law_2506 : decode cL_law 2506 = .ok (.iload 6, 2) := dk_21 6 (dk_at dksL_law_96 21 rfl rfl)
theorem dL_law_2508 : decode cL_law 2508 = .ok (.ifCond .ne 15, 3) := dk_154 0 15 (dk_at dksL_law_97 0 rfl rfl)
theorem dL_law_2511 : decode cL_law 2511 = .ok (.aload_n 3, 1) := dk_45 (dk_at dksL_law_97 3 rfl rfl)
theorem dL_law_2512 : decode cL_law 2512 = .ok (.iconst 0, 1) := dk_3 (dk_at dksL_law_97 4 rfl rfl)
theorem dL_law_2513 : decode cL_law 2513 = .ok (.laload, 1) := dk_47 (dk_at dksL_law_97 5 rfl rfl)
theorem dL_law_2514 : decode cL_law 2514 = .ok (.iload 7, 2) := dk_21 7 (dk_at dksL_law_97 6 rfl rfl)
theorem dL_law_2516 : decode cL_law 2516 = .ok (.i2l, 1) := dk_133 (dk_at dksL_law_97 8 rfl rfl)
theorem dL_law_2517 : decode cL_law 2517 = .ok (.lcmp, 1) := dk_148 (dk_at dksL_law_97 9 rfl rfl)
theorem dL_law_2518 : decode cL_law 2518 = .ok (.ifCond .eq 5, 3) := dk_153 0 5 (dk_at dksL_law_97 10 rfl rfl)
theorem dL_law_2521 : decode cL_law 2521 = .ok (.iconst 0, 1) := dk_3 (dk_at dksL_law_97 13 rfl rfl)
theorem dL_law_2522 : decode cL_law 2522 = .ok (.ireturn, 1) := dk_172 (dk_at dksL_law_97 14 rfl rfl)
theorem dL_law_2523 : decode cL_law 2523 = .ok (.goto 1223, 3) := dk_167 4 199 (dk_at dksL_law_97 15 rfl rfl)
theorem dL_law_2526 : decode cL_law 2526 = .ok (.aload_n 1, 1) := dk_43 (dk_at dksL_law_97 18 rfl rfl)
theorem dL_law_2527 : decode cL_law 2527 = .ok (.aload_n 0, 1) := dk_42 (dk_at dksL_law_97 19 rfl rfl)
theorem dL_law_2528 : decode cL_law 2528 = .ok (.iload 5, 2) := dk_21 5 (dk_at dksL_law_97 20 rfl rfl)
theorem dL_law_2530 : decode cL_law 2530 = .ok (.iconst 1, 1) := dk_4 (dk_at dksL_law_97 22 rfl rfl)
theorem dL_law_2531 : decode cL_law 2531 = .ok (.iadd, 1) := dk_96 (dk_at dksL_law_97 23 rfl rfl)
theorem dL_law_2532 : decode cL_law 2532 = .ok (.iaload, 1) := dk_46 (dk_at dksL_law_98 0 rfl rfl)
theorem dL_law_2533 : decode cL_law 2533 = .ok (.aload_n 3, 1) := dk_45 (dk_at dksL_law_98 1 rfl rfl)
theorem dL_law_2534 : decode cL_law 2534 = .ok (.invokestatic 344, 3) := dk_184 1 88 (dk_at dksL_law_98 2 rfl rfl)
theorem dL_law_2537 : decode cL_law 2537 = .ok (.istore 6, 2) := dk_54 6 (dk_at dksL_law_98 5 rfl rfl)
theorem dL_law_2539 : decode cL_law 2539 = .ok (.aload_n 2, 1) := dk_44 (dk_at dksL_law_98 7 rfl rfl)
theorem dL_law_2540 : decode cL_law 2540 = .ok (.aload_n 0, 1) := dk_42 (dk_at dksL_law_98 8 rfl rfl)
theorem dL_law_2541 : decode cL_law 2541 = .ok (.iload 5, 2) := dk_21 5 (dk_at dksL_law_98 9 rfl rfl)
theorem dL_law_2543 : decode cL_law 2543 = .ok (.iconst 1, 1) := dk_4 (dk_at dksL_law_98 11 rfl rfl)
theorem dL_law_2544 : decode cL_law 2544 = .ok (.iadd, 1) := dk_96 (dk_at dksL_law_98 12 rfl rfl)
theorem dL_law_2545 : decode cL_law 2545 = .ok (.iaload, 1) := dk_46 (dk_at dksL_law_98 13 rfl rfl)
theorem dL_law_2546 : decode cL_law 2546 = .ok (.invokevirtual 346, 3) := dk_182 1 90 (dk_at dksL_law_98 14 rfl rfl)
theorem dL_law_2549 : decode cL_law 2549 = .ok (.istore 7, 2) := dk_54 7 (dk_at dksL_law_98 17 rfl rfl)
theorem dL_law_2551 : decode cL_law 2551 = .ok (.aload_n 2, 1) := dk_44 (dk_at dksL_law_98 19 rfl rfl)
theorem dL_law_2552 : decode cL_law 2552 = .ok (.invokevirtual 216, 3) := dk_182 0 216 (dk_at dksL_law_98 20 rfl rfl)
theorem dL_law_2555 : decode cL_law 2555 = .ok (.iload 6, 2) := dk_21 6 (dk_at dksL_law_99 0 rfl rfl)
theorem dL_law_2557 : decode cL_law 2557 = .ok (.if_icmp .eq 5, 3) := dk_159 0 5 (dk_at dksL_law_99 2 rfl rfl)
theorem dL_law_2560 : decode cL_law 2560 = .ok (.iconst 0, 1) := dk_3 (dk_at dksL_law_99 5 rfl rfl)
theorem dL_law_2561 : decode cL_law 2561 = .ok (.ireturn, 1) := dk_172 (dk_at dksL_law_99 6 rfl rfl)
theorem dL_law_2562 : decode cL_law 2562 = .ok (.iload 6, 2) := dk_21 6 (dk_at dksL_law_99 7 rfl rfl)
theorem dL_law_2564 : decode cL_law 2564 = .ok (.ifCond .ne 15, 3) := dk_154 0 15 (dk_at dksL_law_99 9 rfl rfl)
theorem dL_law_2567 : decode cL_law 2567 = .ok (.aload_n 3, 1) := dk_45 (dk_at dksL_law_99 12 rfl rfl)
theorem dL_law_2568 : decode cL_law 2568 = .ok (.iconst 0, 1) := dk_3 (dk_at dksL_law_99 13 rfl rfl)
theorem dL_law_2569 : decode cL_law 2569 = .ok (.laload, 1) := dk_47 (dk_at dksL_law_99 14 rfl rfl)
theorem dL_law_2570 : decode cL_law 2570 = .ok (.iload 7, 2) := dk_21 7 (dk_at dksL_law_99 15 rfl rfl)
theorem dL_law_2572 : decode cL_law 2572 = .ok (.i2l, 1) := dk_133 (dk_at dksL_law_99 17 rfl rfl)
theorem dL_law_2573 : decode cL_law 2573 = .ok (.lcmp, 1) := dk_148 (dk_at dksL_law_99 18 rfl rfl)
theorem dL_law_2574 : decode cL_law 2574 = .ok (.ifCond .eq 5, 3) := dk_153 0 5 (dk_at dksL_law_99 19 rfl rfl)
theorem dL_law_2577 : decode cL_law 2577 = .ok (.iconst 0, 1) := dk_3 (dk_at dksL_law_99 22 rfl rfl)
theorem dL_law_2578 : decode cL_law 2578 = .ok (.ireturn, 1) := dk_172 (dk_at dksL_law_99 23 rfl rfl)
theorem dL_law_2579 : decode cL_law 2579 = .ok (.goto 1167, 3) := dk_167 4 143 (dk_at dksL_law_100 0 rfl rfl)
theorem dL_law_2582 : decode cL_law 2582 = .ok (.aload_n 1, 1) := dk_43 (dk_at dksL_law_100 3 rfl rfl)
theorem dL_law_2583 : decode cL_law 2583 = .ok (.aload_n 3, 1) := dk_45 (dk_at dksL_law_100 4 rfl rfl)
theorem dL_law_2584 : decode cL_law 2584 = .ok (.invokestatic 347, 3) := dk_184 1 91 (dk_at dksL_law_100 5 rfl rfl)
theorem dL_law_2587 : decode cL_law 2587 = .ok (.istore 6, 2) := dk_54 6 (dk_at dksL_law_100 8 rfl rfl)
theorem dL_law_2589 : decode cL_law 2589 = .ok (.aload_n 2, 1) := dk_44 (dk_at dksL_law_100 10 rfl rfl)
theorem dL_law_2590 : decode cL_law 2590 = .ok (.invokevirtual 349, 3) := dk_182 1 93 (dk_at dksL_law_100 11 rfl rfl)
theorem dL_law_2593 : decode cL_law 2593 = .ok (.istore 7, 2) := dk_54 7 (dk_at dksL_law_100 14 rfl rfl)
theorem dL_law_2595 : decode cL_law 2595 = .ok (.aload_n 2, 1) := dk_44 (dk_at dksL_law_100 16 rfl rfl)
theorem dL_law_2596 : decode cL_law 2596 = .ok (.invokevirtual 216, 3) := dk_182 0 216 (dk_at dksL_law_100 17 rfl rfl)
theorem dL_law_2599 : decode cL_law 2599 = .ok (.iload 6, 2) := dk_21 6 (dk_at dksL_law_100 20 rfl rfl)
theorem dL_law_2601 : decode cL_law 2601 = .ok (.if_icmp .eq 5, 3) := dk_159 0 5 (dk_at dksL_law_101 0 rfl rfl)
theorem dL_law_2604 : decode cL_law 2604 = .ok (.iconst 0, 1) := dk_3 (dk_at dksL_law_101 3 rfl rfl)
theorem dL_law_2605 : decode cL_law 2605 = .ok (.ireturn, 1) := dk_172 (dk_at dksL_law_101 4 rfl rfl)
theorem dL_law_2606 : decode cL_law 2606 = .ok (.iload 6, 2) := dk_21 6 (dk_at dksL_law_101 5 rfl rfl)
theorem dL_law_2608 : decode cL_law 2608 = .ok (.ifCond .ne 15, 3) := dk_154 0 15 (dk_at dksL_law_101 7 rfl rfl)
theorem dL_law_2611 : decode cL_law 2611 = .ok (.aload_n 3, 1) := dk_45 (dk_at dksL_law_101 10 rfl rfl)
theorem dL_law_2612 : decode cL_law 2612 = .ok (.iconst 0, 1) := dk_3 (dk_at dksL_law_101 11 rfl rfl)
theorem dL_law_2613 : decode cL_law 2613 = .ok (.laload, 1) := dk_47 (dk_at dksL_law_101 12 rfl rfl)
theorem dL_law_2614 : decode cL_law 2614 = .ok (.iload 7, 2) := dk_21 7 (dk_at dksL_law_101 13 rfl rfl)
theorem dL_law_2616 : decode cL_law 2616 = .ok (.i2l, 1) := dk_133 (dk_at dksL_law_101 15 rfl rfl)
theorem dL_law_2617 : decode cL_law 2617 = .ok (.lcmp, 1) := dk_148 (dk_at dksL_law_101 16 rfl rfl)
theorem dL_law_2618 : decode cL_law 2618 = .ok (.ifCond .eq 5, 3) := dk_153 0 5 (dk_at dksL_law_101 17 rfl rfl)
theorem dL_law_2621 : decode cL_law 2621 = .ok (.iconst 0, 1) := dk_3 (dk_at dksL_law_101 20 rfl rfl)
theorem dL_law_2622 : decode cL_law 2622 = .ok (.ireturn, 1) := dk_172 (dk_at dksL_law_101 21 rfl rfl)
theorem dL_law_2623 : decode cL_law 2623 = .ok (.goto 1123, 3) := dk_167 4 99 (dk_at dksL_law_102 0 rfl rfl)
theorem dL_law_2626 : decode cL_law 2626 = .ok (.aload_n 1, 1) := dk_43 (dk_at dksL_law_102 3 rfl rfl)
theorem dL_law_2627 : decode cL_law 2627 = .ok (.aload 4, 2) := dk_25 4 (dk_at dksL_law_102 4 rfl rfl)
theorem dL_law_2629 : decode cL_law 2629 = .ok (.invokestatic 350, 3) := dk_184 1 94 (dk_at dksL_law_102 6 rfl rfl)
theorem dL_law_2632 : decode cL_law 2632 = .ok (.istore 6, 2) := dk_54 6 (dk_at dksL_law_102 9 rfl rfl)
theorem dL_law_2634 : decode cL_law 2634 = .ok (.aload_n 2, 1) := dk_44 (dk_at dksL_law_102 11 rfl rfl)
theorem dL_law_2635 : decode cL_law 2635 = .ok (.invokevirtual 353, 3) := dk_182 1 97 (dk_at dksL_law_102 12 rfl rfl)
theorem dL_law_2638 : decode cL_law 2638 = .ok (.fstore 7, 2) := dk_56 7 (dk_at dksL_law_102 15 rfl rfl)
theorem dL_law_2640 : decode cL_law 2640 = .ok (.aload_n 2, 1) := dk_44 (dk_at dksL_law_102 17 rfl rfl)
theorem dL_law_2641 : decode cL_law 2641 = .ok (.invokevirtual 216, 3) := dk_182 0 216 (dk_at dksL_law_102 18 rfl rfl)
theorem dL_law_2644 : decode cL_law 2644 = .ok (.iload 6, 2) := dk_21 6 (dk_at dksL_law_102 21 rfl rfl)
theorem dL_law_2646 : decode cL_law 2646 = .ok (.if_icmp .eq 5, 3) := dk_159 0 5 (dk_at dksL_law_103 0 rfl rfl)
theorem dL_law_2649 : decode cL_law 2649 = .ok (.iconst 0, 1) := dk_3 (dk_at dksL_law_103 3 rfl rfl)
theorem dL_law_2650 : decode cL_law 2650 = .ok (.ireturn, 1) := dk_172 (dk_at dksL_law_103 4 rfl rfl)
theorem dL_law_2651 : decode cL_law 2651 = .ok (.iload 6, 2) := dk_21 6 (dk_at dksL_law_103 5 rfl rfl)
theorem dL_law_2653 : decode cL_law 2653 = .ok (.ifCond .ne 36, 3) := dk_154 0 36 (dk_at dksL_law_103 7 rfl rfl)
theorem dL_law_2656 : decode cL_law 2656 = .ok (.aload 4, 2) := dk_25 4 (dk_at dksL_law_103 10 rfl rfl)
theorem dL_law_2658 : decode cL_law 2658 = .ok (.iconst 0, 1) := dk_3 (dk_at dksL_law_103 12 rfl rfl)
theorem dL_law_2659 : decode cL_law 2659 = .ok (.daload, 1) := dk_49 (dk_at dksL_law_103 13 rfl rfl)
theorem dL_law_2660 : decode cL_law 2660 = .ok (.fload 7, 2) := dk_23 7 (dk_at dksL_law_103 14 rfl rfl)
theorem dL_law_2662 : decode cL_law 2662 = .ok (.f2d, 1) := dk_141 (dk_at dksL_law_103 16 rfl rfl)
theorem dL_law_2663 : decode cL_law 2663 = .ok (.dcmp .l, 1) := dk_151 (dk_at dksL_law_103 17 rfl rfl)
theorem dL_law_2664 : decode cL_law 2664 = .ok (.ifCond .eq 25, 3) := dk_153 0 25 (dk_at dksL_law_103 18 rfl rfl)
theorem dL_law_2667 : decode cL_law 2667 = .ok (.aload 4, 2) := dk_25 4 (dk_at dksL_law_103 21 rfl rfl)
theorem dL_law_2669 : decode cL_law 2669 = .ok (.iconst 0, 1) := dk_3 (dk_at dksL_law_103 23 rfl rfl)
theorem dL_law_2670 : decode cL_law 2670 = .ok (.daload, 1) := dk_49 (dk_at dksL_law_104 0 rfl rfl)
theorem dL_law_2671 : decode cL_law 2671 = .ok (.aload 4, 2) := dk_25 4 (dk_at dksL_law_104 1 rfl rfl)
theorem dL_law_2673 : decode cL_law 2673 = .ok (.iconst 0, 1) := dk_3 (dk_at dksL_law_104 3 rfl rfl)
theorem dL_law_2674 : decode cL_law 2674 = .ok (.daload, 1) := dk_49 (dk_at dksL_law_104 4 rfl rfl)
theorem dL_law_2675 : decode cL_law 2675 = .ok (.dcmp .l, 1) := dk_151 (dk_at dksL_law_104 5 rfl rfl)
theorem dL_law_2676 : decode cL_law 2676 = .ok (.ifCond .eq 11, 3) := dk_153 0 11 (dk_at dksL_law_104 6 rfl rfl)
theorem dL_law_2679 : decode cL_law 2679 = .ok (.fload 7, 2) := dk_23 7 (dk_at dksL_law_104 9 rfl rfl)
theorem dL_law_2681 : decode cL_law 2681 = .ok (.fload 7, 2) := dk_23 7 (dk_at dksL_law_104 11 rfl rfl)
theorem dL_law_2683 : decode cL_law 2683 = .ok (.fcmp .l, 1) := dk_149 (dk_at dksL_law_104 13 rfl rfl)
theorem dL_law_2684 : decode cL_law 2684 = .ok (.ifCond .ne 5, 3) := dk_154 0 5 (dk_at dksL_law_104 14 rfl rfl)
theorem dL_law_2687 : decode cL_law 2687 = .ok (.iconst 0, 1) := dk_3 (dk_at dksL_law_104 17 rfl rfl)
theorem dL_law_2688 : decode cL_law 2688 = .ok (.ireturn, 1) := dk_172 (dk_at dksL_law_104 18 rfl rfl)
theorem dL_law_2689 : decode cL_law 2689 = .ok (.goto 1057, 3) := dk_167 4 33 (dk_at dksL_law_104 19 rfl rfl)
theorem dL_law_2692 : decode cL_law 2692 = .ok (.aload_n 1, 1) := dk_43 (dk_at dksL_law_104 22 rfl rfl)
theorem dL_law_2693 : decode cL_law 2693 = .ok (.aload 4, 2) := dk_25 4 (dk_at dksL_law_105 0 rfl rfl)
theorem dL_law_2695 : decode cL_law 2695 = .ok (.invokestatic 354, 3) := dk_184 1 98 (dk_at dksL_law_105 2 rfl rfl)
theorem dL_law_2698 : decode cL_law 2698 = .ok (.istore 6, 2) := dk_54 6 (dk_at dksL_law_105 5 rfl rfl)
theorem dL_law_2700 : decode cL_law 2700 = .ok (.aload_n 2, 1) := dk_44 (dk_at dksL_law_105 7 rfl rfl)
theorem dL_law_2701 : decode cL_law 2701 = .ok (.invokevirtual 356, 3) := dk_182 1 100 (dk_at dksL_law_105 8 rfl rfl)
theorem dL_law_2704 : decode cL_law 2704 = .ok (.dstore 7, 2) := dk_57 7 (dk_at dksL_law_105 11 rfl rfl)
theorem dL_law_2706 : decode cL_law 2706 = .ok (.aload_n 2, 1) := dk_44 (dk_at dksL_law_105 13 rfl rfl)
theorem dL_law_2707 : decode cL_law 2707 = .ok (.invokevirtual 216, 3) := dk_182 0 216 (dk_at dksL_law_105 14 rfl rfl)
theorem dL_law_2710 : decode cL_law 2710 = .ok (.iload 6, 2) := dk_21 6 (dk_at dksL_law_105 17 rfl rfl)
theorem dL_law_2712 : decode cL_law 2712 = .ok (.if_icmp .eq 5, 3) := dk_159 0 5 (dk_at dksL_law_105 19 rfl rfl)
theorem dL_law_2715 : decode cL_law 2715 = .ok (.iconst 0, 1) := dk_3 (dk_at dksL_law_105 22 rfl rfl)
theorem dL_law_2716 : decode cL_law 2716 = .ok (.ireturn, 1) := dk_172 (dk_at dksL_law_105 23 rfl rfl)
theorem dL_law_2717 : decode cL_law 2717 = .ok (.iload 6, 2) := dk_21 6 (dk_at dksL_law_106 0 rfl rfl)
theorem dL_law_2719 : decode cL_law 2719 = .ok (.ifCond .ne 35, 3) := dk_154 0 35 (dk_at dksL_law_106 2 rfl rfl)
theorem dL_law_2722 : decode cL_law 2722 = .ok (.aload 4, 2) := dk_25 4 (dk_at dksL_law_106 5 rfl rfl)
theorem dL_law_2724 : decode cL_law 2724 = .ok (.iconst 0, 1) := dk_3 (dk_at dksL_law_106 7 rfl rfl)
theorem dL_law_2725 : decode cL_law 2725 = .ok (.daload, 1) := dk_49 (dk_at dksL_law_106 8 rfl rfl)
theorem dL_law_2726 : decode cL_law 2726 = .ok (.dload 7, 2) := dk_24 7 (dk_at dksL_law_106 9 rfl rfl)
theorem dL_law_2728 : decode cL_law 2728 = .ok (.dcmp .l, 1) := dk_151 (dk_at dksL_law_106 11 rfl rfl)
theorem dL_law_2729 : decode cL_law 2729 = .ok (.ifCond .eq 25, 3) := dk_153 0 25 (dk_at dksL_law_106 12 rfl rfl)
theorem dL_law_2732 : decode cL_law 2732 = .ok (.aload 4, 2) := dk_25 4 (dk_at dksL_law_106 15 rfl rfl)
theorem dL_law_2734 : decode cL_law 2734 = .ok (.iconst 0, 1) := dk_3 (dk_at dksL_law_106 17 rfl rfl)
theorem dL_law_2735 : decode cL_law 2735 = .ok (.daload, 1) := dk_49 (dk_at dksL_law_106 18 rfl rfl)
theorem dL_law_2736 : decode cL_law 2736 = .ok (.aload 4, 2) := dk_25 4 (dk_at dksL_law_106 19 rfl rfl)
theorem dL_law_2738 : decode cL_law 2738 = .ok (.iconst 0, 1) := dk_3 (dk_at dksL_law_106 21 rfl rfl)
theorem dL_law_2739 : decode cL_law 2739 = .ok (.daload, 1) := dk_49 (dk_at dksL_law_106 22 rfl rfl)
theorem dL_law_2740 : decode cL_law 2740 = .ok (.dcmp .l, 1) := dk_151 (dk_at dksL_law_106 23 rfl rfl)
theorem dL_law_2741 : decode cL_law 2741 = .ok (.ifCond .eq 11, 3) := dk_153 0 11 (dk_at dksL_law_107 0 rfl rfl)
theorem dL_law_2744 : decode cL_law 2744 = .ok (.dload 7, 2) := dk_24 7 (dk_at dksL_law_107 3 rfl rfl)
theorem dL_law_2746 : decode cL_law 2746 = .ok (.dload 7, 2) := dk_24 7 (dk_at dksL_law_107 5 rfl rfl)
theorem dL_law_2748 : decode cL_law 2748 = .ok (.dcmp .l, 1) := dk_151 (dk_at dksL_law_107 7 rfl rfl)
theorem dL_law_2749 : decode cL_law 2749 = .ok (.ifCond .ne 5, 3) := dk_154 0 5 (dk_at dksL_law_107 8 rfl rfl)
theorem dL_law_2752 : decode cL_law 2752 = .ok (.iconst 0, 1) := dk_3 (dk_at dksL_law_107 11 rfl rfl)
theorem dL_law_2753 : decode cL_law 2753 = .ok (.ireturn, 1) := dk_172 (dk_at dksL_law_107 12 rfl rfl)
theorem dL_law_2754 : decode cL_law 2754 = .ok (.goto 992, 3) := dk_167 3 224 (dk_at dksL_law_107 13 rfl rfl)
theorem dL_law_2757 : decode cL_law 2757 = .ok (.aload_n 1, 1) := dk_43 (dk_at dksL_law_107 16 rfl rfl)
theorem dL_law_2758 : decode cL_law 2758 = .ok (.aload_n 3, 1) := dk_45 (dk_at dksL_law_107 17 rfl rfl)
theorem dL_law_2759 : decode cL_law 2759 = .ok (.invokestatic 357, 3) := dk_184 1 101 (dk_at dksL_law_107 18 rfl rfl)
theorem dL_law_2762 : decode cL_law 2762 = .ok (.istore 6, 2) := dk_54 6 (dk_at dksL_law_107 21 rfl rfl)
theorem dL_law_2764 : decode cL_law 2764 = .ok (.aload_n 2, 1) := dk_44 (dk_at dksL_law_107 23 rfl rfl)
theorem dL_law_2765 : decode cL_law 2765 = .ok (.invokevirtual 359, 3) := dk_182 1 103 (dk_at dksL_law_108 0 rfl rfl)
theorem dL_law_2768 : decode cL_law 2768 = .ok (.istore 7, 2) := dk_54 7 (dk_at dksL_law_108 3 rfl rfl)
theorem dL_law_2770 : decode cL_law 2770 = .ok (.aload_n 2, 1) := dk_44 (dk_at dksL_law_108 5 rfl rfl)
theorem dL_law_2771 : decode cL_law 2771 = .ok (.invokevirtual 216, 3) := dk_182 0 216 (dk_at dksL_law_108 6 rfl rfl)
theorem dL_law_2774 : decode cL_law 2774 = .ok (.iload 6, 2) := dk_21 6 (dk_at dksL_law_108 9 rfl rfl)
theorem dL_law_2776 : decode cL_law 2776 = .ok (.if_icmp .eq 5, 3) := dk_159 0 5 (dk_at dksL_law_108 11 rfl rfl)
theorem dL_law_2779 : decode cL_law 2779 = .ok (.iconst 0, 1) := dk_3 (dk_at dksL_law_108 14 rfl rfl)
theorem dL_law_2780 : decode cL_law 2780 = .ok (.ireturn, 1) := dk_172 (dk_at dksL_law_108 15 rfl rfl)
theorem dL_law_2781 : decode cL_law 2781 = .ok (.iload 6, 2) := dk_21 6 (dk_at dksL_law_108 16 rfl rfl)
theorem dL_law_2783 : decode cL_law 2783 = .ok (.ifCond .ne 15, 3) := dk_154 0 15 (dk_at dksL_law_108 18 rfl rfl)
theorem dL_law_2786 : decode cL_law 2786 = .ok (.aload_n 3, 1) := dk_45 (dk_at dksL_law_108 21 rfl rfl)
theorem dL_law_2787 : decode cL_law 2787 = .ok (.iconst 0, 1) := dk_3 (dk_at dksL_law_108 22 rfl rfl)
theorem dL_law_2788 : decode cL_law 2788 = .ok (.laload, 1) := dk_47 (dk_at dksL_law_108 23 rfl rfl)
theorem dL_law_2789 : decode cL_law 2789 = .ok (.iload 7, 2) := dk_21 7 (dk_at dksL_law_109 0 rfl rfl)
theorem dL_law_2791 : decode cL_law 2791 = .ok (.i2l, 1) := dk_133 (dk_at dksL_law_109 2 rfl rfl)
theorem dL_law_2792 : decode cL_law 2792 = .ok (.lcmp, 1) := dk_148 (dk_at dksL_law_109 3 rfl rfl)
theorem dL_law_2793 : decode cL_law 2793 = .ok (.ifCond .eq 5, 3) := dk_153 0 5 (dk_at dksL_law_109 4 rfl rfl)
theorem dL_law_2796 : decode cL_law 2796 = .ok (.iconst 0, 1) := dk_3 (dk_at dksL_law_109 7 rfl rfl)
theorem dL_law_2797 : decode cL_law 2797 = .ok (.ireturn, 1) := dk_172 (dk_at dksL_law_109 8 rfl rfl)
theorem dL_law_2798 : decode cL_law 2798 = .ok (.goto 948, 3) := dk_167 3 180 (dk_at dksL_law_109 9 rfl rfl)
theorem dL_law_2801 : decode cL_law 2801 = .ok (.aload_n 1, 1) := dk_43 (dk_at dksL_law_109 12 rfl rfl)
theorem dL_law_2802 : decode cL_law 2802 = .ok (.aload_n 3, 1) := dk_45 (dk_at dksL_law_109 13 rfl rfl)
theorem dL_law_2803 : decode cL_law 2803 = .ok (.invokestatic 360, 3) := dk_184 1 104 (dk_at dksL_law_109 14 rfl rfl)
theorem dL_law_2806 : decode cL_law 2806 = .ok (.istore 6, 2) := dk_54 6 (dk_at dksL_law_109 17 rfl rfl)
theorem dL_law_2808 : decode cL_law 2808 = .ok (.aload_n 2, 1) := dk_44 (dk_at dksL_law_109 19 rfl rfl)
theorem dL_law_2809 : decode cL_law 2809 = .ok (.invokevirtual 362, 3) := dk_182 1 106 (dk_at dksL_law_109 20 rfl rfl)
theorem dL_law_2812 : decode cL_law 2812 = .ok (.istore 7, 2) := dk_54 7 (dk_at dksL_law_110 0 rfl rfl)
theorem dL_law_2814 : decode cL_law 2814 = .ok (.aload_n 2, 1) := dk_44 (dk_at dksL_law_110 2 rfl rfl)
theorem dL_law_2815 : decode cL_law 2815 = .ok (.invokevirtual 216, 3) := dk_182 0 216 (dk_at dksL_law_110 3 rfl rfl)
theorem dL_law_2818 : decode cL_law 2818 = .ok (.iload 6, 2) := dk_21 6 (dk_at dksL_law_110 6 rfl rfl)
theorem dL_law_2820 : decode cL_law 2820 = .ok (.if_icmp .eq 5, 3) := dk_159 0 5 (dk_at dksL_law_110 8 rfl rfl)
theorem dL_law_2823 : decode cL_law 2823 = .ok (.iconst 0, 1) := dk_3 (dk_at dksL_law_110 11 rfl rfl)
theorem dL_law_2824 : decode cL_law 2824 = .ok (.ireturn, 1) := dk_172 (dk_at dksL_law_110 12 rfl rfl)
theorem dL_law_2825 : decode cL_law 2825 = .ok (.iload 6, 2) := dk_21 6 (dk_at dksL_law_110 13 rfl rfl)
theorem dL_law_2827 : decode cL_law 2827 = .ok (.ifCond .ne 15, 3) := dk_154 0 15 (dk_at dksL_law_110 15 rfl rfl)
theorem dL_law_2830 : decode cL_law 2830 = .ok (.aload_n 3, 1) := dk_45 (dk_at dksL_law_110 18 rfl rfl)
theorem dL_law_2831 : decode cL_law 2831 = .ok (.iconst 0, 1) := dk_3 (dk_at dksL_law_110 19 rfl rfl)
theorem dL_law_2832 : decode cL_law 2832 = .ok (.laload, 1) := dk_47 (dk_at dksL_law_110 20 rfl rfl)
theorem dL_law_2833 : decode cL_law 2833 = .ok (.iload 7, 2) := dk_21 7 (dk_at dksL_law_110 21 rfl rfl)
theorem dL_law_2835 : decode cL_law 2835 = .ok (.i2l, 1) := dk_133 (dk_at dksL_law_110 23 rfl rfl)
theorem dL_law_2836 : decode cL_law 2836 = .ok (.lcmp, 1) := dk_148 (dk_at dksL_law_111 0 rfl rfl)
theorem dL_law_2837 : decode cL_law 2837 = .ok (.ifCond .eq 5, 3) := dk_153 0 5 (dk_at dksL_law_111 1 rfl rfl)
theorem dL_law_2840 : decode cL_law 2840 = .ok (.iconst 0, 1) := dk_3 (dk_at dksL_law_111 4 rfl rfl)
theorem dL_law_2841 : decode cL_law 2841 = .ok (.ireturn, 1) := dk_172 (dk_at dksL_law_111 5 rfl rfl)
theorem dL_law_2842 : decode cL_law 2842 = .ok (.goto 904, 3) := dk_167 3 136 (dk_at dksL_law_111 6 rfl rfl)
theorem dL_law_2845 : decode cL_law 2845 = .ok (.aload_n 1, 1) := dk_43 (dk_at dksL_law_111 9 rfl rfl)
theorem dL_law_2846 : decode cL_law 2846 = .ok (.aload_n 0, 1) := dk_42 (dk_at dksL_law_111 10 rfl rfl)
theorem dL_law_2847 : decode cL_law 2847 = .ok (.iload 5, 2) := dk_21 5 (dk_at dksL_law_111 11 rfl rfl)
theorem dL_law_2849 : decode cL_law 2849 = .ok (.iconst 1, 1) := dk_4 (dk_at dksL_law_111 13 rfl rfl)
theorem dL_law_2850 : decode cL_law 2850 = .ok (.iadd, 1) := dk_96 (dk_at dksL_law_111 14 rfl rfl)
theorem dL_law_2851 : decode cL_law 2851 = .ok (.iaload, 1) := dk_46 (dk_at dksL_law_111 15 rfl rfl)
theorem dL_law_2852 : decode cL_law 2852 = .ok (.aload_n 3, 1) := dk_45 (dk_at dksL_law_111 16 rfl rfl)
theorem dL_law_2853 : decode cL_law 2853 = .ok (.invokestatic 363, 3) := dk_184 1 107 (dk_at dksL_law_111 17 rfl rfl)
theorem dL_law_2856 : decode cL_law 2856 = .ok (.istore 6, 2) := dk_54 6 (dk_at dksL_law_111 20 rfl rfl)
theorem dL_law_2858 : decode cL_law 2858 = .ok (.aload_n 2, 1) := dk_44 (dk_at dksL_law_111 22 rfl rfl)
theorem dL_law_2859 : decode cL_law 2859 = .ok (.aload_n 0, 1) := dk_42 (dk_at dksL_law_111 23 rfl rfl)
theorem dL_law_2860 : decode cL_law 2860 = .ok (.iload 5, 2) := dk_21 5 (dk_at dksL_law_112 0 rfl rfl)
theorem dL_law_2862 : decode cL_law 2862 = .ok (.iconst 1, 1) := dk_4 (dk_at dksL_law_112 2 rfl rfl)
theorem dL_law_2863 : decode cL_law 2863 = .ok (.iadd, 1) := dk_96 (dk_at dksL_law_112 3 rfl rfl)
theorem dL_law_2864 : decode cL_law 2864 = .ok (.iaload, 1) := dk_46 (dk_at dksL_law_112 4 rfl rfl)
theorem dL_law_2865 : decode cL_law 2865 = .ok (.invokevirtual 365, 3) := dk_182 1 109 (dk_at dksL_law_112 5 rfl rfl)
theorem dL_law_2868 : decode cL_law 2868 = .ok (.istore 7, 2) := dk_54 7 (dk_at dksL_law_112 8 rfl rfl)
theorem dL_law_2870 : decode cL_law 2870 = .ok (.aload_n 2, 1) := dk_44 (dk_at dksL_law_112 10 rfl rfl)
theorem dL_law_2871 : decode cL_law 2871 = .ok (.invokevirtual 216, 3) := dk_182 0 216 (dk_at dksL_law_112 11 rfl rfl)
theorem dL_law_2874 : decode cL_law 2874 = .ok (.iload 6, 2) := dk_21 6 (dk_at dksL_law_112 14 rfl rfl)
theorem dL_law_2876 : decode cL_law 2876 = .ok (.if_icmp .eq 5, 3) := dk_159 0 5 (dk_at dksL_law_112 16 rfl rfl)
theorem dL_law_2879 : decode cL_law 2879 = .ok (.iconst 0, 1) := dk_3 (dk_at dksL_law_112 19 rfl rfl)
theorem dL_law_2880 : decode cL_law 2880 = .ok (.ireturn, 1) := dk_172 (dk_at dksL_law_112 20 rfl rfl)
theorem dL_law_2881 : decode cL_law 2881 = .ok (.iload 6, 2) := dk_21 6 (dk_at dksL_law_112 21 rfl rfl)
theorem dL_law_2883 : decode cL_law 2883 = .ok (.ifCond .ne 15, 3) := dk_154 0 15 (dk_at dksL_law_113 0 rfl rfl)
theorem dL_law_2886 : decode cL_law 2886 = .ok (.aload_n 3, 1) := dk_45 (dk_at dksL_law_113 3 rfl rfl)
theorem dL_law_2887 : decode cL_law 2887 = .ok (.iconst 0, 1) := dk_3 (dk_at dksL_law_113 4 rfl rfl)
theorem dL_law_2888 : decode cL_law 2888 = .ok (.laload, 1) := dk_47 (dk_at dksL_law_113 5 rfl rfl)
theorem dL_law_2889 : decode cL_law 2889 = .ok (.iload 7, 2) := dk_21 7 (dk_at dksL_law_113 6 rfl rfl)
theorem dL_law_2891 : decode cL_law 2891 = .ok (.i2l, 1) := dk_133 (dk_at dksL_law_113 8 rfl rfl)
theorem dL_law_2892 : decode cL_law 2892 = .ok (.lcmp, 1) := dk_148 (dk_at dksL_law_113 9 rfl rfl)
theorem dL_law_2893 : decode cL_law 2893 = .ok (.ifCond .eq 5, 3) := dk_153 0 5 (dk_at dksL_law_113 10 rfl rfl)
theorem dL_law_2896 : decode cL_law 2896 = .ok (.iconst 0, 1) := dk_3 (dk_at dksL_law_113 13 rfl rfl)
theorem dL_law_2897 : decode cL_law 2897 = .ok (.ireturn, 1) := dk_172 (dk_at dksL_law_113 14 rfl rfl)
theorem dL_law_2898 : decode cL_law 2898 = .ok (.goto 848, 3) := dk_167 3 80 (dk_at dksL_law_113 15 rfl rfl)
theorem dL_law_2901 : decode cL_law 2901 = .ok (.aload_n 1, 1) := dk_43 (dk_at dksL_law_113 18 rfl rfl)
theorem dL_law_2902 : decode cL_law 2902 = .ok (.aload_n 0, 1) := dk_42 (dk_at dksL_law_113 19 rfl rfl)
theorem dL_law_2903 : decode cL_law 2903 = .ok (.iload 5, 2) := dk_21 5 (dk_at dksL_law_113 20 rfl rfl)
theorem dL_law_2905 : decode cL_law 2905 = .ok (.iconst 1, 1) := dk_4 (dk_at dksL_law_113 22 rfl rfl)
theorem dL_law_2906 : decode cL_law 2906 = .ok (.iadd, 1) := dk_96 (dk_at dksL_law_113 23 rfl rfl)
theorem dL_law_2907 : decode cL_law 2907 = .ok (.iaload, 1) := dk_46 (dk_at dksL_law_114 0 rfl rfl)
theorem dL_law_2908 : decode cL_law 2908 = .ok (.aload_n 3, 1) := dk_45 (dk_at dksL_law_114 1 rfl rfl)
theorem dL_law_2909 : decode cL_law 2909 = .ok (.invokestatic 366, 3) := dk_184 1 110 (dk_at dksL_law_114 2 rfl rfl)
theorem dL_law_2912 : decode cL_law 2912 = .ok (.istore 6, 2) := dk_54 6 (dk_at dksL_law_114 5 rfl rfl)
theorem dL_law_2914 : decode cL_law 2914 = .ok (.aload_n 2, 1) := dk_44 (dk_at dksL_law_114 7 rfl rfl)
theorem dL_law_2915 : decode cL_law 2915 = .ok (.aload_n 0, 1) := dk_42 (dk_at dksL_law_114 8 rfl rfl)
theorem dL_law_2916 : decode cL_law 2916 = .ok (.iload 5, 2) := dk_21 5 (dk_at dksL_law_114 9 rfl rfl)
theorem dL_law_2918 : decode cL_law 2918 = .ok (.iconst 1, 1) := dk_4 (dk_at dksL_law_114 11 rfl rfl)
theorem dL_law_2919 : decode cL_law 2919 = .ok (.iadd, 1) := dk_96 (dk_at dksL_law_114 12 rfl rfl)
theorem dL_law_2920 : decode cL_law 2920 = .ok (.iaload, 1) := dk_46 (dk_at dksL_law_114 13 rfl rfl)
theorem dL_law_2921 : decode cL_law 2921 = .ok (.invokevirtual 368, 3) := dk_182 1 112 (dk_at dksL_law_114 14 rfl rfl)
theorem dL_law_2924 : decode cL_law 2924 = .ok (.istore 7, 2) := dk_54 7 (dk_at dksL_law_114 17 rfl rfl)
theorem dL_law_2926 : decode cL_law 2926 = .ok (.aload_n 2, 1) := dk_44 (dk_at dksL_law_114 19 rfl rfl)
theorem dL_law_2927 : decode cL_law 2927 = .ok (.invokevirtual 216, 3) := dk_182 0 216 (dk_at dksL_law_114 20 rfl rfl)
theorem dL_law_2930 : decode cL_law 2930 = .ok (.iload 6, 2) := dk_21 6 (dk_at dksL_law_115 0 rfl rfl)
theorem dL_law_2932 : decode cL_law 2932 = .ok (.if_icmp .eq 5, 3) := dk_159 0 5 (dk_at dksL_law_115 2 rfl rfl)
theorem dL_law_2935 : decode cL_law 2935 = .ok (.iconst 0, 1) := dk_3 (dk_at dksL_law_115 5 rfl rfl)
theorem dL_law_2936 : decode cL_law 2936 = .ok (.ireturn, 1) := dk_172 (dk_at dksL_law_115 6 rfl rfl)
theorem dL_law_2937 : decode cL_law 2937 = .ok (.iload 6, 2) := dk_21 6 (dk_at dksL_law_115 7 rfl rfl)
theorem dL_law_2939 : decode cL_law 2939 = .ok (.ifCond .ne 15, 3) := dk_154 0 15 (dk_at dksL_law_115 9 rfl rfl)
theorem dL_law_2942 : decode cL_law 2942 = .ok (.aload_n 3, 1) := dk_45 (dk_at dksL_law_115 12 rfl rfl)
theorem dL_law_2943 : decode cL_law 2943 = .ok (.iconst 0, 1) := dk_3 (dk_at dksL_law_115 13 rfl rfl)
theorem dL_law_2944 : decode cL_law 2944 = .ok (.laload, 1) := dk_47 (dk_at dksL_law_115 14 rfl rfl)
theorem dL_law_2945 : decode cL_law 2945 = .ok (.iload 7, 2) := dk_21 7 (dk_at dksL_law_115 15 rfl rfl)
theorem dL_law_2947 : decode cL_law 2947 = .ok (.i2l, 1) := dk_133 (dk_at dksL_law_115 17 rfl rfl)
theorem dL_law_2948 : decode cL_law 2948 = .ok (.lcmp, 1) := dk_148 (dk_at dksL_law_115 18 rfl rfl)
theorem dL_law_2949 : decode cL_law 2949 = .ok (.ifCond .eq 5, 3) := dk_153 0 5 (dk_at dksL_law_115 19 rfl rfl)
theorem dL_law_2952 : decode cL_law 2952 = .ok (.iconst 0, 1) := dk_3 (dk_at dksL_law_115 22 rfl rfl)
theorem dL_law_2953 : decode cL_law 2953 = .ok (.ireturn, 1) := dk_172 (dk_at dksL_law_115 23 rfl rfl)
theorem dL_law_2954 : decode cL_law 2954 = .ok (.goto 792, 3) := dk_167 3 24 (dk_at dksL_law_116 0 rfl rfl)
theorem dL_law_2957 : decode cL_law 2957 = .ok (.aload_n 1, 1) := dk_43 (dk_at dksL_law_116 3 rfl rfl)
theorem dL_law_2958 : decode cL_law 2958 = .ok (.aload_n 0, 1) := dk_42 (dk_at dksL_law_116 4 rfl rfl)
theorem dL_law_2959 : decode cL_law 2959 = .ok (.iload 5, 2) := dk_21 5 (dk_at dksL_law_116 5 rfl rfl)
theorem dL_law_2961 : decode cL_law 2961 = .ok (.iconst 1, 1) := dk_4 (dk_at dksL_law_116 7 rfl rfl)
theorem dL_law_2962 : decode cL_law 2962 = .ok (.iadd, 1) := dk_96 (dk_at dksL_law_116 8 rfl rfl)
theorem dL_law_2963 : decode cL_law 2963 = .ok (.iaload, 1) := dk_46 (dk_at dksL_law_116 9 rfl rfl)
theorem dL_law_2964 : decode cL_law 2964 = .ok (.aload_n 0, 1) := dk_42 (dk_at dksL_law_116 10 rfl rfl)
theorem dL_law_2965 : decode cL_law 2965 = .ok (.iload 5, 2) := dk_21 5 (dk_at dksL_law_116 11 rfl rfl)
theorem dL_law_2967 : decode cL_law 2967 = .ok (.iconst 2, 1) := dk_5 (dk_at dksL_law_116 13 rfl rfl)
theorem dL_law_2968 : decode cL_law 2968 = .ok (.iadd, 1) := dk_96 (dk_at dksL_law_116 14 rfl rfl)
theorem dL_law_2969 : decode cL_law 2969 = .ok (.iaload, 1) := dk_46 (dk_at dksL_law_116 15 rfl rfl)
theorem dL_law_2970 : decode cL_law 2970 = .ok (.aload_n 3, 1) := dk_45 (dk_at dksL_law_116 16 rfl rfl)
theorem dL_law_2971 : decode cL_law 2971 = .ok (.invokestatic 369, 3) := dk_184 1 113 (dk_at dksL_law_116 17 rfl rfl)
theorem dL_law_2974 : decode cL_law 2974 = .ok (.istore 6, 2) := dk_54 6 (dk_at dksL_law_116 20 rfl rfl)
theorem dL_law_2976 : decode cL_law 2976 = .ok (.aload_n 2, 1) := dk_44 (dk_at dksL_law_116 22 rfl rfl)
theorem dL_law_2977 : decode cL_law 2977 = .ok (.aload_n 0, 1) := dk_42 (dk_at dksL_law_116 23 rfl rfl)
theorem dL_law_2978 : decode cL_law 2978 = .ok (.iload 5, 2) := dk_21 5 (dk_at dksL_law_117 0 rfl rfl)
theorem dL_law_2980 : decode cL_law 2980 = .ok (.iconst 1, 1) := dk_4 (dk_at dksL_law_117 2 rfl rfl)
theorem dL_law_2981 : decode cL_law 2981 = .ok (.iadd, 1) := dk_96 (dk_at dksL_law_117 3 rfl rfl)
theorem dL_law_2982 : decode cL_law 2982 = .ok (.iaload, 1) := dk_46 (dk_at dksL_law_117 4 rfl rfl)
theorem dL_law_2983 : decode cL_law 2983 = .ok (.aload_n 0, 1) := dk_42 (dk_at dksL_law_117 5 rfl rfl)
theorem dL_law_2984 : decode cL_law 2984 = .ok (.iload 5, 2) := dk_21 5 (dk_at dksL_law_117 6 rfl rfl)
theorem dL_law_2986 : decode cL_law 2986 = .ok (.iconst 2, 1) := dk_5 (dk_at dksL_law_117 8 rfl rfl)
theorem dL_law_2987 : decode cL_law 2987 = .ok (.iadd, 1) := dk_96 (dk_at dksL_law_117 9 rfl rfl)
theorem dL_law_2988 : decode cL_law 2988 = .ok (.iaload, 1) := dk_46 (dk_at dksL_law_117 10 rfl rfl)
theorem dL_law_2989 : decode cL_law 2989 = .ok (.invokevirtual 371, 3) := dk_182 1 115 (dk_at dksL_law_117 11 rfl rfl)
theorem dL_law_2992 : decode cL_law 2992 = .ok (.istore 7, 2) := dk_54 7 (dk_at dksL_law_117 14 rfl rfl)
theorem dL_law_2994 : decode cL_law 2994 = .ok (.aload_n 2, 1) := dk_44 (dk_at dksL_law_117 16 rfl rfl)
theorem dL_law_2995 : decode cL_law 2995 = .ok (.invokevirtual 216, 3) := dk_182 0 216 (dk_at dksL_law_117 17 rfl rfl)
theorem dL_law_2998 : decode cL_law 2998 = .ok (.iload 6, 2) := dk_21 6 (dk_at dksL_law_117 20 rfl rfl)
theorem dL_law_3000 : decode cL_law 3000 = .ok (.if_icmp .eq 5, 3) := dk_159 0 5 (dk_at dksL_law_118 0 rfl rfl)
theorem dL_law_3003 : decode cL_law 3003 = .ok (.iconst 0, 1) := dk_3 (dk_at dksL_law_118 3 rfl rfl)
theorem dL_law_3004 : decode cL_law 3004 = .ok (.ireturn, 1) := dk_172 (dk_at dksL_law_118 4 rfl rfl)
theorem dL_law_3005 : decode cL_law 3005 = .ok (.iload 6, 2) := dk_21 6 (dk_at dksL_law_118 5 rfl rfl)
theorem dL_law_3007 : decode cL_law 3007 = .ok (.ifCond .ne 15, 3) := dk_154 0 15 (dk_at dksL_law_118 7 rfl rfl)
theorem dL_law_3010 : decode cL_law 3010 = .ok (.aload_n 3, 1) := dk_45 (dk_at dksL_law_118 10 rfl rfl)
theorem dL_law_3011 : decode cL_law 3011 = .ok (.iconst 0, 1) := dk_3 (dk_at dksL_law_118 11 rfl rfl)
theorem dL_law_3012 : decode cL_law 3012 = .ok (.laload, 1) := dk_47 (dk_at dksL_law_118 12 rfl rfl)
theorem dL_law_3013 : decode cL_law 3013 = .ok (.iload 7, 2) := dk_21 7 (dk_at dksL_law_118 13 rfl rfl)
theorem dL_law_3015 : decode cL_law 3015 = .ok (.i2l, 1) := dk_133 (dk_at dksL_law_118 15 rfl rfl)
theorem dL_law_3016 : decode cL_law 3016 = .ok (.lcmp, 1) := dk_148 (dk_at dksL_law_118 16 rfl rfl)
theorem dL_law_3017 : decode cL_law 3017 = .ok (.ifCond .eq 5, 3) := dk_153 0 5 (dk_at dksL_law_118 17 rfl rfl)
theorem dL_law_3020 : decode cL_law 3020 = .ok (.iconst 0, 1) := dk_3 (dk_at dksL_law_118 20 rfl rfl)
theorem dL_law_3021 : decode cL_law 3021 = .ok (.ireturn, 1) := dk_172 (dk_at dksL_law_118 21 rfl rfl)
theorem dL_law_3022 : decode cL_law 3022 = .ok (.goto 724, 3) := dk_167 2 212 (dk_at dksL_law_119 0 rfl rfl)
theorem dL_law_3025 : decode cL_law 3025 = .ok (.aload_n 1, 1) := dk_43 (dk_at dksL_law_119 3 rfl rfl)
theorem dL_law_3026 : decode cL_law 3026 = .ok (.aload_n 0, 1) := dk_42 (dk_at dksL_law_119 4 rfl rfl)
theorem dL_law_3027 : decode cL_law 3027 = .ok (.iload 5, 2) := dk_21 5 (dk_at dksL_law_119 5 rfl rfl)
theorem dL_law_3029 : decode cL_law 3029 = .ok (.iconst 1, 1) := dk_4 (dk_at dksL_law_119 7 rfl rfl)
theorem dL_law_3030 : decode cL_law 3030 = .ok (.iadd, 1) := dk_96 (dk_at dksL_law_119 8 rfl rfl)
theorem dL_law_3031 : decode cL_law 3031 = .ok (.iaload, 1) := dk_46 (dk_at dksL_law_119 9 rfl rfl)
theorem dL_law_3032 : decode cL_law 3032 = .ok (.aload_n 3, 1) := dk_45 (dk_at dksL_law_119 10 rfl rfl)
theorem dL_law_3033 : decode cL_law 3033 = .ok (.invokestatic 372, 3) := dk_184 1 116 (dk_at dksL_law_119 11 rfl rfl)
theorem dL_law_3036 : decode cL_law 3036 = .ok (.istore 6, 2) := dk_54 6 (dk_at dksL_law_119 14 rfl rfl)
theorem dL_law_3038 : decode cL_law 3038 = .ok (.aload_n 2, 1) := dk_44 (dk_at dksL_law_119 16 rfl rfl)
theorem dL_law_3039 : decode cL_law 3039 = .ok (.aload_n 0, 1) := dk_42 (dk_at dksL_law_119 17 rfl rfl)
theorem dL_law_3040 : decode cL_law 3040 = .ok (.iload 5, 2) := dk_21 5 (dk_at dksL_law_119 18 rfl rfl)
theorem dL_law_3042 : decode cL_law 3042 = .ok (.iconst 1, 1) := dk_4 (dk_at dksL_law_119 20 rfl rfl)
theorem dL_law_3043 : decode cL_law 3043 = .ok (.iadd, 1) := dk_96 (dk_at dksL_law_119 21 rfl rfl)
theorem dL_law_3044 : decode cL_law 3044 = .ok (.iaload, 1) := dk_46 (dk_at dksL_law_119 22 rfl rfl)
theorem dL_law_3045 : decode cL_law 3045 = .ok (.invokevirtual 374, 3) := dk_182 1 118 (dk_at dksL_law_120 0 rfl rfl)
theorem dL_law_3048 : decode cL_law 3048 = .ok (.istore 7, 2) := dk_54 7 (dk_at dksL_law_120 3 rfl rfl)
theorem dL_law_3050 : decode cL_law 3050 = .ok (.aload_n 2, 1) := dk_44 (dk_at dksL_law_120 5 rfl rfl)
theorem dL_law_3051 : decode cL_law 3051 = .ok (.invokevirtual 216, 3) := dk_182 0 216 (dk_at dksL_law_120 6 rfl rfl)
theorem dL_law_3054 : decode cL_law 3054 = .ok (.iload 6, 2) := dk_21 6 (dk_at dksL_law_120 9 rfl rfl)
theorem dL_law_3056 : decode cL_law 3056 = .ok (.if_icmp .eq 5, 3) := dk_159 0 5 (dk_at dksL_law_120 11 rfl rfl)
theorem dL_law_3059 : decode cL_law 3059 = .ok (.iconst 0, 1) := dk_3 (dk_at dksL_law_120 14 rfl rfl)
theorem dL_law_3060 : decode cL_law 3060 = .ok (.ireturn, 1) := dk_172 (dk_at dksL_law_120 15 rfl rfl)
theorem dL_law_3061 : decode cL_law 3061 = .ok (.iload 6, 2) := dk_21 6 (dk_at dksL_law_120 16 rfl rfl)
theorem dL_law_3063 : decode cL_law 3063 = .ok (.ifCond .ne 15, 3) := dk_154 0 15 (dk_at dksL_law_120 18 rfl rfl)
theorem dL_law_3066 : decode cL_law 3066 = .ok (.aload_n 3, 1) := dk_45 (dk_at dksL_law_120 21 rfl rfl)
theorem dL_law_3067 : decode cL_law 3067 = .ok (.iconst 0, 1) := dk_3 (dk_at dksL_law_120 22 rfl rfl)
theorem dL_law_3068 : decode cL_law 3068 = .ok (.laload, 1) := dk_47 (dk_at dksL_law_120 23 rfl rfl)
theorem dL_law_3069 : decode cL_law 3069 = .ok (.iload 7, 2) := dk_21 7 (dk_at dksL_law_121 0 rfl rfl)
theorem dL_law_3071 : decode cL_law 3071 = .ok (.i2l, 1) := dk_133 (dk_at dksL_law_121 2 rfl rfl)
theorem dL_law_3072 : decode cL_law 3072 = .ok (.lcmp, 1) := dk_148 (dk_at dksL_law_121 3 rfl rfl)
theorem dL_law_3073 : decode cL_law 3073 = .ok (.ifCond .eq 5, 3) := dk_153 0 5 (dk_at dksL_law_121 4 rfl rfl)
theorem dL_law_3076 : decode cL_law 3076 = .ok (.iconst 0, 1) := dk_3 (dk_at dksL_law_121 7 rfl rfl)
theorem dL_law_3077 : decode cL_law 3077 = .ok (.ireturn, 1) := dk_172 (dk_at dksL_law_121 8 rfl rfl)
theorem dL_law_3078 : decode cL_law 3078 = .ok (.goto 668, 3) := dk_167 2 156 (dk_at dksL_law_121 9 rfl rfl)
theorem dL_law_3081 : decode cL_law 3081 = .ok (.aload_n 1, 1) := dk_43 (dk_at dksL_law_121 12 rfl rfl)
theorem dL_law_3082 : decode cL_law 3082 = .ok (.aload_n 3, 1) := dk_45 (dk_at dksL_law_121 13 rfl rfl)
theorem dL_law_3083 : decode cL_law 3083 = .ok (.invokestatic 375, 3) := dk_184 1 119 (dk_at dksL_law_121 14 rfl rfl)
theorem dL_law_3086 : decode cL_law 3086 = .ok (.istore 6, 2) := dk_54 6 (dk_at dksL_law_121 17 rfl rfl)
theorem dL_law_3088 : decode cL_law 3088 = .ok (.aload_n 2, 1) := dk_44 (dk_at dksL_law_121 19 rfl rfl)
theorem dL_law_3089 : decode cL_law 3089 = .ok (.invokevirtual 377, 3) := dk_182 1 121 (dk_at dksL_law_121 20 rfl rfl)
theorem dL_law_3092 : decode cL_law 3092 = .ok (.istore 7, 2) := dk_54 7 (dk_at dksL_law_122 0 rfl rfl)
theorem dL_law_3094 : decode cL_law 3094 = .ok (.aload_n 2, 1) := dk_44 (dk_at dksL_law_122 2 rfl rfl)
theorem dL_law_3095 : decode cL_law 3095 = .ok (.invokevirtual 216, 3) := dk_182 0 216 (dk_at dksL_law_122 3 rfl rfl)
theorem dL_law_3098 : decode cL_law 3098 = .ok (.iload 6, 2) := dk_21 6 (dk_at dksL_law_122 6 rfl rfl)
theorem dL_law_3100 : decode cL_law 3100 = .ok (.if_icmp .eq 5, 3) := dk_159 0 5 (dk_at dksL_law_122 8 rfl rfl)
theorem dL_law_3103 : decode cL_law 3103 = .ok (.iconst 0, 1) := dk_3 (dk_at dksL_law_122 11 rfl rfl)
theorem dL_law_3104 : decode cL_law 3104 = .ok (.ireturn, 1) := dk_172 (dk_at dksL_law_122 12 rfl rfl)
theorem dL_law_3105 : decode cL_law 3105 = .ok (.iload 6, 2) := dk_21 6 (dk_at dksL_law_122 13 rfl rfl)
theorem dL_law_3107 : decode cL_law 3107 = .ok (.ifCond .ne 15, 3) := dk_154 0 15 (dk_at dksL_law_122 15 rfl rfl)
theorem dL_law_3110 : decode cL_law 3110 = .ok (.aload_n 3, 1) := dk_45 (dk_at dksL_law_122 18 rfl rfl)
theorem dL_law_3111 : decode cL_law 3111 = .ok (.iconst 0, 1) := dk_3 (dk_at dksL_law_122 19 rfl rfl)
theorem dL_law_3112 : decode cL_law 3112 = .ok (.laload, 1) := dk_47 (dk_at dksL_law_122 20 rfl rfl)
theorem dL_law_3113 : decode cL_law 3113 = .ok (.iload 7, 2) := dk_21 7 (dk_at dksL_law_122 21 rfl rfl)
theorem dL_law_3115 : decode cL_law 3115 = .ok (.i2l, 1) := dk_133 (dk_at dksL_law_122 23 rfl rfl)
theorem dL_law_3116 : decode cL_law 3116 = .ok (.lcmp, 1) := dk_148 (dk_at dksL_law_123 0 rfl rfl)
theorem dL_law_3117 : decode cL_law 3117 = .ok (.ifCond .eq 5, 3) := dk_153 0 5 (dk_at dksL_law_123 1 rfl rfl)
theorem dL_law_3120 : decode cL_law 3120 = .ok (.iconst 0, 1) := dk_3 (dk_at dksL_law_123 4 rfl rfl)
theorem dL_law_3121 : decode cL_law 3121 = .ok (.ireturn, 1) := dk_172 (dk_at dksL_law_123 5 rfl rfl)
theorem dL_law_3122 : decode cL_law 3122 = .ok (.goto 624, 3) := dk_167 2 112 (dk_at dksL_law_123 6 rfl rfl)
theorem dL_law_3125 : decode cL_law 3125 = .ok (.aload_n 1, 1) := dk_43 (dk_at dksL_law_123 9 rfl rfl)
theorem dL_law_3126 : decode cL_law 3126 = .ok (.aload_n 3, 1) := dk_45 (dk_at dksL_law_123 10 rfl rfl)
theorem dL_law_3127 : decode cL_law 3127 = .ok (.invokestatic 378, 3) := dk_184 1 122 (dk_at dksL_law_123 11 rfl rfl)
theorem dL_law_3130 : decode cL_law 3130 = .ok (.istore 6, 2) := dk_54 6 (dk_at dksL_law_123 14 rfl rfl)
theorem dL_law_3132 : decode cL_law 3132 = .ok (.aload_n 2, 1) := dk_44 (dk_at dksL_law_123 16 rfl rfl)
theorem dL_law_3133 : decode cL_law 3133 = .ok (.invokevirtual 380, 3) := dk_182 1 124 (dk_at dksL_law_123 17 rfl rfl)
theorem dL_law_3136 : decode cL_law 3136 = .ok (.istore 7, 2) := dk_54 7 (dk_at dksL_law_123 20 rfl rfl)
theorem dL_law_3138 : decode cL_law 3138 = .ok (.aload_n 2, 1) := dk_44 (dk_at dksL_law_123 22 rfl rfl)
theorem dL_law_3139 : decode cL_law 3139 = .ok (.invokevirtual 216, 3) := dk_182 0 216 (dk_at dksL_law_124 0 rfl rfl)
theorem dL_law_3142 : decode cL_law 3142 = .ok (.iload 6, 2) := dk_21 6 (dk_at dksL_law_124 3 rfl rfl)
theorem dL_law_3144 : decode cL_law 3144 = .ok (.if_icmp .eq 5, 3) := dk_159 0 5 (dk_at dksL_law_124 5 rfl rfl)
theorem dL_law_3147 : decode cL_law 3147 = .ok (.iconst 0, 1) := dk_3 (dk_at dksL_law_124 8 rfl rfl)
theorem dL_law_3148 : decode cL_law 3148 = .ok (.ireturn, 1) := dk_172 (dk_at dksL_law_124 9 rfl rfl)
theorem dL_law_3149 : decode cL_law 3149 = .ok (.iload 6, 2) := dk_21 6 (dk_at dksL_law_124 10 rfl rfl)
theorem dL_law_3151 : decode cL_law 3151 = .ok (.ifCond .ne 15, 3) := dk_154 0 15 (dk_at dksL_law_124 12 rfl rfl)
theorem dL_law_3154 : decode cL_law 3154 = .ok (.aload_n 3, 1) := dk_45 (dk_at dksL_law_124 15 rfl rfl)
theorem dL_law_3155 : decode cL_law 3155 = .ok (.iconst 0, 1) := dk_3 (dk_at dksL_law_124 16 rfl rfl)
theorem dL_law_3156 : decode cL_law 3156 = .ok (.laload, 1) := dk_47 (dk_at dksL_law_124 17 rfl rfl)
theorem dL_law_3157 : decode cL_law 3157 = .ok (.iload 7, 2) := dk_21 7 (dk_at dksL_law_124 18 rfl rfl)
theorem dL_law_3159 : decode cL_law 3159 = .ok (.i2l, 1) := dk_133 (dk_at dksL_law_124 20 rfl rfl)
theorem dL_law_3160 : decode cL_law 3160 = .ok (.lcmp, 1) := dk_148 (dk_at dksL_law_124 21 rfl rfl)
theorem dL_law_3161 : decode cL_law 3161 = .ok (.ifCond .eq 5, 3) := dk_153 0 5 (dk_at dksL_law_125 0 rfl rfl)
theorem dL_law_3164 : decode cL_law 3164 = .ok (.iconst 0, 1) := dk_3 (dk_at dksL_law_125 3 rfl rfl)
theorem dL_law_3165 : decode cL_law 3165 = .ok (.ireturn, 1) := dk_172 (dk_at dksL_law_125 4 rfl rfl)
theorem dL_law_3166 : decode cL_law 3166 = .ok (.goto 580, 3) := dk_167 2 68 (dk_at dksL_law_125 5 rfl rfl)
theorem dL_law_3169 : decode cL_law 3169 = .ok (.aload_n 1, 1) := dk_43 (dk_at dksL_law_125 8 rfl rfl)
theorem dL_law_3170 : decode cL_law 3170 = .ok (.aload_n 0, 1) := dk_42 (dk_at dksL_law_125 9 rfl rfl)
theorem dL_law_3171 : decode cL_law 3171 = .ok (.iload 5, 2) := dk_21 5 (dk_at dksL_law_125 10 rfl rfl)
theorem dL_law_3173 : decode cL_law 3173 = .ok (.iconst 1, 1) := dk_4 (dk_at dksL_law_125 12 rfl rfl)
theorem dL_law_3174 : decode cL_law 3174 = .ok (.iadd, 1) := dk_96 (dk_at dksL_law_125 13 rfl rfl)
theorem dL_law_3175 : decode cL_law 3175 = .ok (.iaload, 1) := dk_46 (dk_at dksL_law_125 14 rfl rfl)
theorem dL_law_3176 : decode cL_law 3176 = .ok (.ifCond .eq 7, 3) := dk_153 0 7 (dk_at dksL_law_125 15 rfl rfl)
theorem dL_law_3179 : decode cL_law 3179 = .ok (.iconst 1, 1) := dk_4 (dk_at dksL_law_125 18 rfl rfl)
theorem dL_law_3180 : decode cL_law 3180 = .ok (.goto 4, 3) := dk_167 0 4 (dk_at dksL_law_125 19 rfl rfl)
theorem dL_law_3183 : decode cL_law 3183 = .ok (.iconst 0, 1) := dk_3 (dk_at dksL_law_125 22 rfl rfl)
theorem dL_law_3184 : decode cL_law 3184 = .ok (.aload_n 3, 1) := dk_45 (dk_at dksL_law_125 23 rfl rfl)
theorem dL_law_3185 : decode cL_law 3185 = .ok (.invokestatic 381, 3) := dk_184 1 125 (dk_at dksL_law_126 0 rfl rfl)
theorem dL_law_3188 : decode cL_law 3188 = .ok (.istore 6, 2) := dk_54 6 (dk_at dksL_law_126 3 rfl rfl)
theorem dL_law_3190 : decode cL_law 3190 = .ok (.aload_n 2, 1) := dk_44 (dk_at dksL_law_126 5 rfl rfl)
theorem dL_law_3191 : decode cL_law 3191 = .ok (.aload_n 0, 1) := dk_42 (dk_at dksL_law_126 6 rfl rfl)
theorem dL_law_3192 : decode cL_law 3192 = .ok (.iload 5, 2) := dk_21 5 (dk_at dksL_law_126 7 rfl rfl)
theorem dL_law_3194 : decode cL_law 3194 = .ok (.iconst 1, 1) := dk_4 (dk_at dksL_law_126 9 rfl rfl)
theorem dL_law_3195 : decode cL_law 3195 = .ok (.iadd, 1) := dk_96 (dk_at dksL_law_126 10 rfl rfl)
theorem dL_law_3196 : decode cL_law 3196 = .ok (.iaload, 1) := dk_46 (dk_at dksL_law_126 11 rfl rfl)
theorem dL_law_3197 : decode cL_law 3197 = .ok (.ifCond .eq 7, 3) := dk_153 0 7 (dk_at dksL_law_126 12 rfl rfl)
theorem dL_law_3200 : decode cL_law 3200 = .ok (.iconst 1, 1) := dk_4 (dk_at dksL_law_126 15 rfl rfl)
theorem dL_law_3201 : decode cL_law 3201 = .ok (.goto 4, 3) := dk_167 0 4 (dk_at dksL_law_126 16 rfl rfl)
theorem dL_law_3204 : decode cL_law 3204 = .ok (.iconst 0, 1) := dk_3 (dk_at dksL_law_126 19 rfl rfl)
theorem dL_law_3205 : decode cL_law 3205 = .ok (.invokevirtual 383, 3) := dk_182 1 127 (dk_at dksL_law_126 20 rfl rfl)
theorem dL_law_3208 : decode cL_law 3208 = .ok (.istore 7, 2) := dk_54 7 (dk_at dksL_law_127 0 rfl rfl)
theorem dL_law_3210 : decode cL_law 3210 = .ok (.aload_n 2, 1) := dk_44 (dk_at dksL_law_127 2 rfl rfl)
theorem dL_law_3211 : decode cL_law 3211 = .ok (.invokevirtual 216, 3) := dk_182 0 216 (dk_at dksL_law_127 3 rfl rfl)
theorem dL_law_3214 : decode cL_law 3214 = .ok (.iload 6, 2) := dk_21 6 (dk_at dksL_law_127 6 rfl rfl)
theorem dL_law_3216 : decode cL_law 3216 = .ok (.if_icmp .eq 5, 3) := dk_159 0 5 (dk_at dksL_law_127 8 rfl rfl)
theorem dL_law_3219 : decode cL_law 3219 = .ok (.iconst 0, 1) := dk_3 (dk_at dksL_law_127 11 rfl rfl)
theorem dL_law_3220 : decode cL_law 3220 = .ok (.ireturn, 1) := dk_172 (dk_at dksL_law_127 12 rfl rfl)
theorem dL_law_3221 : decode cL_law 3221 = .ok (.iload 6, 2) := dk_21 6 (dk_at dksL_law_127 13 rfl rfl)
theorem dL_law_3223 : decode cL_law 3223 = .ok (.ifCond .ne 15, 3) := dk_154 0 15 (dk_at dksL_law_127 15 rfl rfl)
theorem dL_law_3226 : decode cL_law 3226 = .ok (.aload_n 3, 1) := dk_45 (dk_at dksL_law_127 18 rfl rfl)
theorem dL_law_3227 : decode cL_law 3227 = .ok (.iconst 0, 1) := dk_3 (dk_at dksL_law_127 19 rfl rfl)
theorem dL_law_3228 : decode cL_law 3228 = .ok (.laload, 1) := dk_47 (dk_at dksL_law_127 20 rfl rfl)
theorem dL_law_3229 : decode cL_law 3229 = .ok (.iload 7, 2) := dk_21 7 (dk_at dksL_law_127 21 rfl rfl)
theorem dL_law_3231 : decode cL_law 3231 = .ok (.i2l, 1) := dk_133 (dk_at dksL_law_127 23 rfl rfl)
theorem dL_law_3232 : decode cL_law 3232 = .ok (.lcmp, 1) := dk_148 (dk_at dksL_law_128 0 rfl rfl)
theorem dL_law_3233 : decode cL_law 3233 = .ok (.ifCond .eq 5, 3) := dk_153 0 5 (dk_at dksL_law_128 1 rfl rfl)
theorem dL_law_3236 : decode cL_law 3236 = .ok (.iconst 0, 1) := dk_3 (dk_at dksL_law_128 4 rfl rfl)
theorem dL_law_3237 : decode cL_law 3237 = .ok (.ireturn, 1) := dk_172 (dk_at dksL_law_128 5 rfl rfl)
theorem dL_law_3238 : decode cL_law 3238 = .ok (.goto 508, 3) := dk_167 1 252 (dk_at dksL_law_128 6 rfl rfl)
theorem dL_law_3241 : decode cL_law 3241 = .ok (.aload_n 1, 1) := dk_43 (dk_at dksL_law_128 9 rfl rfl)
theorem dL_law_3242 : decode cL_law 3242 = .ok (.aload_n 0, 1) := dk_42 (dk_at dksL_law_128 10 rfl rfl)
theorem dL_law_3243 : decode cL_law 3243 = .ok (.iload 5, 2) := dk_21 5 (dk_at dksL_law_128 11 rfl rfl)
theorem dL_law_3245 : decode cL_law 3245 = .ok (.iconst 1, 1) := dk_4 (dk_at dksL_law_128 13 rfl rfl)
theorem dL_law_3246 : decode cL_law 3246 = .ok (.iadd, 1) := dk_96 (dk_at dksL_law_128 14 rfl rfl)
theorem dL_law_3247 : decode cL_law 3247 = .ok (.iaload, 1) := dk_46 (dk_at dksL_law_128 15 rfl rfl)
theorem dL_law_3248 : decode cL_law 3248 = .ok (.aload_n 3, 1) := dk_45 (dk_at dksL_law_128 16 rfl rfl)
theorem dL_law_3249 : decode cL_law 3249 = .ok (.invokestatic 384, 3) := dk_184 1 128 (dk_at dksL_law_128 17 rfl rfl)
theorem dL_law_3252 : decode cL_law 3252 = .ok (.istore 6, 2) := dk_54 6 (dk_at dksL_law_128 20 rfl rfl)
theorem dL_law_3254 : decode cL_law 3254 = .ok (.aload_n 2, 1) := dk_44 (dk_at dksL_law_128 22 rfl rfl)
theorem dL_law_3255 : decode cL_law 3255 = .ok (.aload_n 0, 1) := dk_42 (dk_at dksL_law_128 23 rfl rfl)
theorem dL_law_3256 : decode cL_law 3256 = .ok (.iload 5, 2) := dk_21 5 (dk_at dksL_law_129 0 rfl rfl)
theorem dL_law_3258 : decode cL_law 3258 = .ok (.iconst 1, 1) := dk_4 (dk_at dksL_law_129 2 rfl rfl)
theorem dL_law_3259 : decode cL_law 3259 = .ok (.iadd, 1) := dk_96 (dk_at dksL_law_129 3 rfl rfl)
theorem dL_law_3260 : decode cL_law 3260 = .ok (.iaload, 1) := dk_46 (dk_at dksL_law_129 4 rfl rfl)
theorem dL_law_3261 : decode cL_law 3261 = .ok (.invokevirtual 386, 3) := dk_182 1 130 (dk_at dksL_law_129 5 rfl rfl)
theorem dL_law_3264 : decode cL_law 3264 = .ok (.istore 7, 2) := dk_54 7 (dk_at dksL_law_129 8 rfl rfl)
theorem dL_law_3266 : decode cL_law 3266 = .ok (.aload_n 2, 1) := dk_44 (dk_at dksL_law_129 10 rfl rfl)
theorem dL_law_3267 : decode cL_law 3267 = .ok (.invokevirtual 216, 3) := dk_182 0 216 (dk_at dksL_law_129 11 rfl rfl)
theorem dL_law_3270 : decode cL_law 3270 = .ok (.iload 6, 2) := dk_21 6 (dk_at dksL_law_129 14 rfl rfl)
theorem dL_law_3272 : decode cL_law 3272 = .ok (.if_icmp .eq 5, 3) := dk_159 0 5 (dk_at dksL_law_129 16 rfl rfl)
theorem dL_law_3275 : decode cL_law 3275 = .ok (.iconst 0, 1) := dk_3 (dk_at dksL_law_129 19 rfl rfl)
theorem dL_law_3276 : decode cL_law 3276 = .ok (.ireturn, 1) := dk_172 (dk_at dksL_law_129 20 rfl rfl)
theorem dL_law_3277 : decode cL_law 3277 = .ok (.iload 6, 2) := dk_21 6 (dk_at dksL_law_129 21 rfl rfl)
theorem dL_law_3279 : decode cL_law 3279 = .ok (.ifCond .ne 15, 3) := dk_154 0 15 (dk_at dksL_law_130 0 rfl rfl)
theorem dL_law_3282 : decode cL_law 3282 = .ok (.aload_n 3, 1) := dk_45 (dk_at dksL_law_130 3 rfl rfl)
theorem dL_law_3283 : decode cL_law 3283 = .ok (.iconst 0, 1) := dk_3 (dk_at dksL_law_130 4 rfl rfl)
theorem dL_law_3284 : decode cL_law 3284 = .ok (.laload, 1) := dk_47 (dk_at dksL_law_130 5 rfl rfl)
theorem dL_law_3285 : decode cL_law 3285 = .ok (.iload 7, 2) := dk_21 7 (dk_at dksL_law_130 6 rfl rfl)
theorem dL_law_3287 : decode cL_law 3287 = .ok (.i2l, 1) := dk_133 (dk_at dksL_law_130 8 rfl rfl)
theorem dL_law_3288 : decode cL_law 3288 = .ok (.lcmp, 1) := dk_148 (dk_at dksL_law_130 9 rfl rfl)
theorem dL_law_3289 : decode cL_law 3289 = .ok (.ifCond .eq 5, 3) := dk_153 0 5 (dk_at dksL_law_130 10 rfl rfl)
theorem dL_law_3292 : decode cL_law 3292 = .ok (.iconst 0, 1) := dk_3 (dk_at dksL_law_130 13 rfl rfl)
theorem dL_law_3293 : decode cL_law 3293 = .ok (.ireturn, 1) := dk_172 (dk_at dksL_law_130 14 rfl rfl)
theorem dL_law_3294 : decode cL_law 3294 = .ok (.goto 452, 3) := dk_167 1 196 (dk_at dksL_law_130 15 rfl rfl)
theorem dL_law_3297 : decode cL_law 3297 = .ok (.aload_n 1, 1) := dk_43 (dk_at dksL_law_130 18 rfl rfl)
theorem dL_law_3298 : decode cL_law 3298 = .ok (.aload_n 3, 1) := dk_45 (dk_at dksL_law_130 19 rfl rfl)
theorem dL_law_3299 : decode cL_law 3299 = .ok (.invokestatic 387, 3) := dk_184 1 131 (dk_at dksL_law_130 20 rfl rfl)
theorem dL_law_3302 : decode cL_law 3302 = .ok (.istore 6, 2) := dk_54 6 (dk_at dksL_law_131 0 rfl rfl)
theorem dL_law_3304 : decode cL_law 3304 = .ok (.aload_n 2, 1) := dk_44 (dk_at dksL_law_131 2 rfl rfl)
theorem dL_law_3305 : decode cL_law 3305 = .ok (.invokevirtual 389, 3) := dk_182 1 133 (dk_at dksL_law_131 3 rfl rfl)
theorem dL_law_3308 : decode cL_law 3308 = .ok (.istore 7, 2) := dk_54 7 (dk_at dksL_law_131 6 rfl rfl)
theorem dL_law_3310 : decode cL_law 3310 = .ok (.aload_n 2, 1) := dk_44 (dk_at dksL_law_131 8 rfl rfl)
theorem dL_law_3311 : decode cL_law 3311 = .ok (.invokevirtual 216, 3) := dk_182 0 216 (dk_at dksL_law_131 9 rfl rfl)
theorem dL_law_3314 : decode cL_law 3314 = .ok (.iload 6, 2) := dk_21 6 (dk_at dksL_law_131 12 rfl rfl)
theorem dL_law_3316 : decode cL_law 3316 = .ok (.if_icmp .eq 5, 3) := dk_159 0 5 (dk_at dksL_law_131 14 rfl rfl)
theorem dL_law_3319 : decode cL_law 3319 = .ok (.iconst 0, 1) := dk_3 (dk_at dksL_law_131 17 rfl rfl)
theorem dL_law_3320 : decode cL_law 3320 = .ok (.ireturn, 1) := dk_172 (dk_at dksL_law_131 18 rfl rfl)
theorem dL_law_3321 : decode cL_law 3321 = .ok (.iload 6, 2) := dk_21 6 (dk_at dksL_law_131 19 rfl rfl)
theorem dL_law_3323 : decode cL_law 3323 = .ok (.ifCond .ne 15, 3) := dk_154 0 15 (dk_at dksL_law_131 21 rfl rfl)
theorem dL_law_3326 : decode cL_law 3326 = .ok (.aload_n 3, 1) := dk_45 (dk_at dksL_law_132 0 rfl rfl)
theorem dL_law_3327 : decode cL_law 3327 = .ok (.iconst 0, 1) := dk_3 (dk_at dksL_law_132 1 rfl rfl)
theorem dL_law_3328 : decode cL_law 3328 = .ok (.laload, 1) := dk_47 (dk_at dksL_law_132 2 rfl rfl)
theorem dL_law_3329 : decode cL_law 3329 = .ok (.iload 7, 2) := dk_21 7 (dk_at dksL_law_132 3 rfl rfl)
theorem dL_law_3331 : decode cL_law 3331 = .ok (.i2l, 1) := dk_133 (dk_at dksL_law_132 5 rfl rfl)
theorem dL_law_3332 : decode cL_law 3332 = .ok (.lcmp, 1) := dk_148 (dk_at dksL_law_132 6 rfl rfl)
theorem dL_law_3333 : decode cL_law 3333 = .ok (.ifCond .eq 5, 3) := dk_153 0 5 (dk_at dksL_law_132 7 rfl rfl)
theorem dL_law_3336 : decode cL_law 3336 = .ok (.iconst 0, 1) := dk_3 (dk_at dksL_law_132 10 rfl rfl)
theorem dL_law_3337 : decode cL_law 3337 = .ok (.ireturn, 1) := dk_172 (dk_at dksL_law_132 11 rfl rfl)
theorem dL_law_3338 : decode cL_law 3338 = .ok (.goto 408, 3) := dk_167 1 152 (dk_at dksL_law_132 12 rfl rfl)
theorem dL_law_3341 : decode cL_law 3341 = .ok (.aload_n 1, 1) := dk_43 (dk_at dksL_law_132 15 rfl rfl)
theorem dL_law_3342 : decode cL_law 3342 = .ok (.aload_n 0, 1) := dk_42 (dk_at dksL_law_132 16 rfl rfl)
theorem dL_law_3343 : decode cL_law 3343 = .ok (.iload 5, 2) := dk_21 5 (dk_at dksL_law_132 17 rfl rfl)
theorem dL_law_3345 : decode cL_law 3345 = .ok (.iconst 1, 1) := dk_4 (dk_at dksL_law_132 19 rfl rfl)
theorem dL_law_3346 : decode cL_law 3346 = .ok (.iadd, 1) := dk_96 (dk_at dksL_law_132 20 rfl rfl)
theorem dL_law_3347 : decode cL_law 3347 = .ok (.iaload, 1) := dk_46 (dk_at dksL_law_132 21 rfl rfl)
theorem dL_law_3348 : decode cL_law 3348 = .ok (.aload_n 3, 1) := dk_45 (dk_at dksL_law_132 22 rfl rfl)
theorem dL_law_3349 : decode cL_law 3349 = .ok (.invokestatic 390, 3) := dk_184 1 134 (dk_at dksL_law_133 0 rfl rfl)
theorem dL_law_3352 : decode cL_law 3352 = .ok (.istore 6, 2) := dk_54 6 (dk_at dksL_law_133 3 rfl rfl)
theorem dL_law_3354 : decode cL_law 3354 = .ok (.aload_n 2, 1) := dk_44 (dk_at dksL_law_133 5 rfl rfl)
theorem dL_law_3355 : decode cL_law 3355 = .ok (.aload_n 0, 1) := dk_42 (dk_at dksL_law_133 6 rfl rfl)
theorem dL_law_3356 : decode cL_law 3356 = .ok (.iload 5, 2) := dk_21 5 (dk_at dksL_law_133 7 rfl rfl)
theorem dL_law_3358 : decode cL_law 3358 = .ok (.iconst 1, 1) := dk_4 (dk_at dksL_law_133 9 rfl rfl)
theorem dL_law_3359 : decode cL_law 3359 = .ok (.iadd, 1) := dk_96 (dk_at dksL_law_133 10 rfl rfl)
theorem dL_law_3360 : decode cL_law 3360 = .ok (.iaload, 1) := dk_46 (dk_at dksL_law_133 11 rfl rfl)
theorem dL_law_3361 : decode cL_law 3361 = .ok (.invokevirtual 392, 3) := dk_182 1 136 (dk_at dksL_law_133 12 rfl rfl)
theorem dL_law_3364 : decode cL_law 3364 = .ok (.istore 7, 2) := dk_54 7 (dk_at dksL_law_133 15 rfl rfl)
theorem dL_law_3366 : decode cL_law 3366 = .ok (.aload_n 2, 1) := dk_44 (dk_at dksL_law_133 17 rfl rfl)
theorem dL_law_3367 : decode cL_law 3367 = .ok (.invokevirtual 216, 3) := dk_182 0 216 (dk_at dksL_law_133 18 rfl rfl)
theorem dL_law_3370 : decode cL_law 3370 = .ok (.iload 6, 2) := dk_21 6 (dk_at dksL_law_133 21 rfl rfl)
theorem dL_law_3372 : decode cL_law 3372 = .ok (.if_icmp .eq 5, 3) := dk_159 0 5 (dk_at dksL_law_134 0 rfl rfl)
theorem dL_law_3375 : decode cL_law 3375 = .ok (.iconst 0, 1) := dk_3 (dk_at dksL_law_134 3 rfl rfl)
theorem dL_law_3376 : decode cL_law 3376 = .ok (.ireturn, 1) := dk_172 (dk_at dksL_law_134 4 rfl rfl)
theorem dL_law_3377 : decode cL_law 3377 = .ok (.iload 6, 2) := dk_21 6 (dk_at dksL_law_134 5 rfl rfl)
theorem dL_law_3379 : decode cL_law 3379 = .ok (.ifCond .ne 15, 3) := dk_154 0 15 (dk_at dksL_law_134 7 rfl rfl)
theorem dL_law_3382 : decode cL_law 3382 = .ok (.aload_n 3, 1) := dk_45 (dk_at dksL_law_134 10 rfl rfl)
theorem dL_law_3383 : decode cL_law 3383 = .ok (.iconst 0, 1) := dk_3 (dk_at dksL_law_134 11 rfl rfl)
theorem dL_law_3384 : decode cL_law 3384 = .ok (.laload, 1) := dk_47 (dk_at dksL_law_134 12 rfl rfl)
theorem dL_law_3385 : decode cL_law 3385 = .ok (.iload 7, 2) := dk_21 7 (dk_at dksL_law_134 13 rfl rfl)
theorem dL_law_3387 : decode cL_law 3387 = .ok (.i2l, 1) := dk_133 (dk_at dksL_law_134 15 rfl rfl)
theorem dL_law_3388 : decode cL_law 3388 = .ok (.lcmp, 1) := dk_148 (dk_at dksL_law_134 16 rfl rfl)
theorem dL_law_3389 : decode cL_law 3389 = .ok (.ifCond .eq 5, 3) := dk_153 0 5 (dk_at dksL_law_134 17 rfl rfl)
theorem dL_law_3392 : decode cL_law 3392 = .ok (.iconst 0, 1) := dk_3 (dk_at dksL_law_134 20 rfl rfl)
theorem dL_law_3393 : decode cL_law 3393 = .ok (.ireturn, 1) := dk_172 (dk_at dksL_law_134 21 rfl rfl)
theorem dL_law_3394 : decode cL_law 3394 = .ok (.goto 352, 3) := dk_167 1 96 (dk_at dksL_law_135 0 rfl rfl)
theorem dL_law_3397 : decode cL_law 3397 = .ok (.aload_n 1, 1) := dk_43 (dk_at dksL_law_135 3 rfl rfl)
theorem dL_law_3398 : decode cL_law 3398 = .ok (.aload_n 0, 1) := dk_42 (dk_at dksL_law_135 4 rfl rfl)
theorem dL_law_3399 : decode cL_law 3399 = .ok (.iload 5, 2) := dk_21 5 (dk_at dksL_law_135 5 rfl rfl)
theorem dL_law_3401 : decode cL_law 3401 = .ok (.iconst 1, 1) := dk_4 (dk_at dksL_law_135 7 rfl rfl)
theorem dL_law_3402 : decode cL_law 3402 = .ok (.iadd, 1) := dk_96 (dk_at dksL_law_135 8 rfl rfl)
theorem dL_law_3403 : decode cL_law 3403 = .ok (.iaload, 1) := dk_46 (dk_at dksL_law_135 9 rfl rfl)
theorem dL_law_3404 : decode cL_law 3404 = .ok (.aload_n 3, 1) := dk_45 (dk_at dksL_law_135 10 rfl rfl)
theorem dL_law_3405 : decode cL_law 3405 = .ok (.invokestatic 393, 3) := dk_184 1 137 (dk_at dksL_law_135 11 rfl rfl)
theorem dL_law_3408 : decode cL_law 3408 = .ok (.istore 6, 2) := dk_54 6 (dk_at dksL_law_135 14 rfl rfl)
theorem dL_law_3410 : decode cL_law 3410 = .ok (.aload_n 2, 1) := dk_44 (dk_at dksL_law_135 16 rfl rfl)
theorem dL_law_3411 : decode cL_law 3411 = .ok (.aload_n 0, 1) := dk_42 (dk_at dksL_law_135 17 rfl rfl)
theorem dL_law_3412 : decode cL_law 3412 = .ok (.iload 5, 2) := dk_21 5 (dk_at dksL_law_135 18 rfl rfl)
theorem dL_law_3414 : decode cL_law 3414 = .ok (.iconst 1, 1) := dk_4 (dk_at dksL_law_135 20 rfl rfl)
theorem dL_law_3415 : decode cL_law 3415 = .ok (.iadd, 1) := dk_96 (dk_at dksL_law_135 21 rfl rfl)
theorem dL_law_3416 : decode cL_law 3416 = .ok (.iaload, 1) := dk_46 (dk_at dksL_law_135 22 rfl rfl)
theorem dL_law_3417 : decode cL_law 3417 = .ok (.invokevirtual 395, 3) := dk_182 1 139 (dk_at dksL_law_136 0 rfl rfl)
theorem dL_law_3420 : decode cL_law 3420 = .ok (.istore 7, 2) := dk_54 7 (dk_at dksL_law_136 3 rfl rfl)
theorem dL_law_3422 : decode cL_law 3422 = .ok (.aload_n 2, 1) := dk_44 (dk_at dksL_law_136 5 rfl rfl)
theorem dL_law_3423 : decode cL_law 3423 = .ok (.invokevirtual 216, 3) := dk_182 0 216 (dk_at dksL_law_136 6 rfl rfl)
theorem dL_law_3426 : decode cL_law 3426 = .ok (.iload 6, 2) := dk_21 6 (dk_at dksL_law_136 9 rfl rfl)
theorem dL_law_3428 : decode cL_law 3428 = .ok (.if_icmp .eq 5, 3) := dk_159 0 5 (dk_at dksL_law_136 11 rfl rfl)
theorem dL_law_3431 : decode cL_law 3431 = .ok (.iconst 0, 1) := dk_3 (dk_at dksL_law_136 14 rfl rfl)
theorem dL_law_3432 : decode cL_law 3432 = .ok (.ireturn, 1) := dk_172 (dk_at dksL_law_136 15 rfl rfl)
theorem dL_law_3433 : decode cL_law 3433 = .ok (.iload 6, 2) := dk_21 6 (dk_at dksL_law_136 16 rfl rfl)
theorem dL_law_3435 : decode cL_law 3435 = .ok (.ifCond .ne 15, 3) := dk_154 0 15 (dk_at dksL_law_136 18 rfl rfl)
theorem dL_law_3438 : decode cL_law 3438 = .ok (.aload_n 3, 1) := dk_45 (dk_at dksL_law_136 21 rfl rfl)
theorem dL_law_3439 : decode cL_law 3439 = .ok (.iconst 0, 1) := dk_3 (dk_at dksL_law_136 22 rfl rfl)
theorem dL_law_3440 : decode cL_law 3440 = .ok (.laload, 1) := dk_47 (dk_at dksL_law_136 23 rfl rfl)
theorem dL_law_3441 : decode cL_law 3441 = .ok (.iload 7, 2) := dk_21 7 (dk_at dksL_law_137 0 rfl rfl)
theorem dL_law_3443 : decode cL_law 3443 = .ok (.i2l, 1) := dk_133 (dk_at dksL_law_137 2 rfl rfl)
theorem dL_law_3444 : decode cL_law 3444 = .ok (.lcmp, 1) := dk_148 (dk_at dksL_law_137 3 rfl rfl)
theorem dL_law_3445 : decode cL_law 3445 = .ok (.ifCond .eq 5, 3) := dk_153 0 5 (dk_at dksL_law_137 4 rfl rfl)
theorem dL_law_3448 : decode cL_law 3448 = .ok (.iconst 0, 1) := dk_3 (dk_at dksL_law_137 7 rfl rfl)
theorem dL_law_3449 : decode cL_law 3449 = .ok (.ireturn, 1) := dk_172 (dk_at dksL_law_137 8 rfl rfl)
theorem dL_law_3450 : decode cL_law 3450 = .ok (.goto 296, 3) := dk_167 1 40 (dk_at dksL_law_137 9 rfl rfl)
theorem dL_law_3453 : decode cL_law 3453 = .ok (.aload_n 1, 1) := dk_43 (dk_at dksL_law_137 12 rfl rfl)
theorem dL_law_3454 : decode cL_law 3454 = .ok (.aload_n 0, 1) := dk_42 (dk_at dksL_law_137 13 rfl rfl)
theorem dL_law_3455 : decode cL_law 3455 = .ok (.iload 5, 2) := dk_21 5 (dk_at dksL_law_137 14 rfl rfl)
theorem dL_law_3457 : decode cL_law 3457 = .ok (.iconst 1, 1) := dk_4 (dk_at dksL_law_137 16 rfl rfl)
theorem dL_law_3458 : decode cL_law 3458 = .ok (.iadd, 1) := dk_96 (dk_at dksL_law_137 17 rfl rfl)
theorem dL_law_3459 : decode cL_law 3459 = .ok (.iaload, 1) := dk_46 (dk_at dksL_law_137 18 rfl rfl)
theorem dL_law_3460 : decode cL_law 3460 = .ok (.aload_n 3, 1) := dk_45 (dk_at dksL_law_137 19 rfl rfl)
theorem dL_law_3461 : decode cL_law 3461 = .ok (.invokestatic 396, 3) := dk_184 1 140 (dk_at dksL_law_137 20 rfl rfl)
theorem dL_law_3464 : decode cL_law 3464 = .ok (.istore 6, 2) := dk_54 6 (dk_at dksL_law_138 0 rfl rfl)
theorem dL_law_3466 : decode cL_law 3466 = .ok (.aload_n 2, 1) := dk_44 (dk_at dksL_law_138 2 rfl rfl)
theorem dL_law_3467 : decode cL_law 3467 = .ok (.aload_n 0, 1) := dk_42 (dk_at dksL_law_138 3 rfl rfl)
theorem dL_law_3468 : decode cL_law 3468 = .ok (.iload 5, 2) := dk_21 5 (dk_at dksL_law_138 4 rfl rfl)
theorem dL_law_3470 : decode cL_law 3470 = .ok (.iconst 1, 1) := dk_4 (dk_at dksL_law_138 6 rfl rfl)
theorem dL_law_3471 : decode cL_law 3471 = .ok (.iadd, 1) := dk_96 (dk_at dksL_law_138 7 rfl rfl)
theorem dL_law_3472 : decode cL_law 3472 = .ok (.iaload, 1) := dk_46 (dk_at dksL_law_138 8 rfl rfl)
theorem dL_law_3473 : decode cL_law 3473 = .ok (.invokevirtual 398, 3) := dk_182 1 142 (dk_at dksL_law_138 9 rfl rfl)
theorem dL_law_3476 : decode cL_law 3476 = .ok (.istore 7, 2) := dk_54 7 (dk_at dksL_law_138 12 rfl rfl)
theorem dL_law_3478 : decode cL_law 3478 = .ok (.aload_n 2, 1) := dk_44 (dk_at dksL_law_138 14 rfl rfl)
theorem dL_law_3479 : decode cL_law 3479 = .ok (.invokevirtual 216, 3) := dk_182 0 216 (dk_at dksL_law_138 15 rfl rfl)
theorem dL_law_3482 : decode cL_law 3482 = .ok (.iload 6, 2) := dk_21 6 (dk_at dksL_law_138 18 rfl rfl)
theorem dL_law_3484 : decode cL_law 3484 = .ok (.if_icmp .eq 5, 3) := dk_159 0 5 (dk_at dksL_law_138 20 rfl rfl)
theorem dL_law_3487 : decode cL_law 3487 = .ok (.iconst 0, 1) := dk_3 (dk_at dksL_law_138 23 rfl rfl)
theorem dL_law_3488 : decode cL_law 3488 = .ok (.ireturn, 1) := dk_172 (dk_at dksL_law_139 0 rfl rfl)
theorem dL_law_3489 : decode cL_law 3489 = .ok (.iload 6, 2) := dk_21 6 (dk_at dksL_law_139 1 rfl rfl)
theorem dL_law_3491 : decode cL_law 3491 = .ok (.ifCond .ne 15, 3) := dk_154 0 15 (dk_at dksL_law_139 3 rfl rfl)
theorem dL_law_3494 : decode cL_law 3494 = .ok (.aload_n 3, 1) := dk_45 (dk_at dksL_law_139 6 rfl rfl)
theorem dL_law_3495 : decode cL_law 3495 = .ok (.iconst 0, 1) := dk_3 (dk_at dksL_law_139 7 rfl rfl)
theorem dL_law_3496 : decode cL_law 3496 = .ok (.laload, 1) := dk_47 (dk_at dksL_law_139 8 rfl rfl)
theorem dL_law_3497 : decode cL_law 3497 = .ok (.iload 7, 2) := dk_21 7 (dk_at dksL_law_139 9 rfl rfl)
theorem dL_law_3499 : decode cL_law 3499 = .ok (.i2l, 1) := dk_133 (dk_at dksL_law_139 11 rfl rfl)
theorem dL_law_3500 : decode cL_law 3500 = .ok (.lcmp, 1) := dk_148 (dk_at dksL_law_139 12 rfl rfl)
theorem dL_law_3501 : decode cL_law 3501 = .ok (.ifCond .eq 5, 3) := dk_153 0 5 (dk_at dksL_law_139 13 rfl rfl)
theorem dL_law_3504 : decode cL_law 3504 = .ok (.iconst 0, 1) := dk_3 (dk_at dksL_law_139 16 rfl rfl)
theorem dL_law_3505 : decode cL_law 3505 = .ok (.ireturn, 1) := dk_172 (dk_at dksL_law_139 17 rfl rfl)
theorem dL_law_3506 : decode cL_law 3506 = .ok (.goto 240, 3) := dk_167 0 240 (dk_at dksL_law_139 18 rfl rfl)
theorem dL_law_3509 : decode cL_law 3509 = .ok (.aload_n 1, 1) := dk_43 (dk_at dksL_law_139 21 rfl rfl)
theorem dL_law_3510 : decode cL_law 3510 = .ok (.aload_n 0, 1) := dk_42 (dk_at dksL_law_139 22 rfl rfl)
theorem dL_law_3511 : decode cL_law 3511 = .ok (.iload 5, 2) := dk_21 5 (dk_at dksL_law_140 0 rfl rfl)
theorem dL_law_3513 : decode cL_law 3513 = .ok (.iconst 1, 1) := dk_4 (dk_at dksL_law_140 2 rfl rfl)
theorem dL_law_3514 : decode cL_law 3514 = .ok (.iadd, 1) := dk_96 (dk_at dksL_law_140 3 rfl rfl)
theorem dL_law_3515 : decode cL_law 3515 = .ok (.iaload, 1) := dk_46 (dk_at dksL_law_140 4 rfl rfl)
theorem dL_law_3516 : decode cL_law 3516 = .ok (.aload_n 0, 1) := dk_42 (dk_at dksL_law_140 5 rfl rfl)
theorem dL_law_3517 : decode cL_law 3517 = .ok (.iload 5, 2) := dk_21 5 (dk_at dksL_law_140 6 rfl rfl)
theorem dL_law_3519 : decode cL_law 3519 = .ok (.iconst 2, 1) := dk_5 (dk_at dksL_law_140 8 rfl rfl)
theorem dL_law_3520 : decode cL_law 3520 = .ok (.iadd, 1) := dk_96 (dk_at dksL_law_140 9 rfl rfl)
theorem dL_law_3521 : decode cL_law 3521 = .ok (.iaload, 1) := dk_46 (dk_at dksL_law_140 10 rfl rfl)
theorem dL_law_3522 : decode cL_law 3522 = .ok (.aload_n 3, 1) := dk_45 (dk_at dksL_law_140 11 rfl rfl)
theorem dL_law_3523 : decode cL_law 3523 = .ok (.invokestatic 399, 3) := dk_184 1 143 (dk_at dksL_law_140 12 rfl rfl)
theorem dL_law_3526 : decode cL_law 3526 = .ok (.istore 6, 2) := dk_54 6 (dk_at dksL_law_140 15 rfl rfl)
theorem dL_law_3528 : decode cL_law 3528 = .ok (.aload_n 2, 1) := dk_44 (dk_at dksL_law_140 17 rfl rfl)
theorem dL_law_3529 : decode cL_law 3529 = .ok (.aload_n 0, 1) := dk_42 (dk_at dksL_law_140 18 rfl rfl)
theorem dL_law_3530 : decode cL_law 3530 = .ok (.iload 5, 2) := dk_21 5 (dk_at dksL_law_140 19 rfl rfl)
theorem dL_law_3532 : decode cL_law 3532 = .ok (.iconst 1, 1) := dk_4 (dk_at dksL_law_140 21 rfl rfl)
theorem dL_law_3533 : decode cL_law 3533 = .ok (.iadd, 1) := dk_96 (dk_at dksL_law_140 22 rfl rfl)
theorem dL_law_3534 : decode cL_law 3534 = .ok (.iaload, 1) := dk_46 (dk_at dksL_law_140 23 rfl rfl)
theorem dL_law_3535 : decode cL_law 3535 = .ok (.aload_n 0, 1) := dk_42 (dk_at dksL_law_141 0 rfl rfl)
theorem dL_law_3536 : decode cL_law 3536 = .ok (.iload 5, 2) := dk_21 5 (dk_at dksL_law_141 1 rfl rfl)
theorem dL_law_3538 : decode cL_law 3538 = .ok (.iconst 2, 1) := dk_5 (dk_at dksL_law_141 3 rfl rfl)
theorem dL_law_3539 : decode cL_law 3539 = .ok (.iadd, 1) := dk_96 (dk_at dksL_law_141 4 rfl rfl)
theorem dL_law_3540 : decode cL_law 3540 = .ok (.iaload, 1) := dk_46 (dk_at dksL_law_141 5 rfl rfl)
theorem dL_law_3541 : decode cL_law 3541 = .ok (.invokevirtual 401, 3) := dk_182 1 145 (dk_at dksL_law_141 6 rfl rfl)
theorem dL_law_3544 : decode cL_law 3544 = .ok (.istore 7, 2) := dk_54 7 (dk_at dksL_law_141 9 rfl rfl)
theorem dL_law_3546 : decode cL_law 3546 = .ok (.aload_n 2, 1) := dk_44 (dk_at dksL_law_141 11 rfl rfl)
theorem dL_law_3547 : decode cL_law 3547 = .ok (.invokevirtual 216, 3) := dk_182 0 216 (dk_at dksL_law_141 12 rfl rfl)
theorem dL_law_3550 : decode cL_law 3550 = .ok (.iload 6, 2) := dk_21 6 (dk_at dksL_law_141 15 rfl rfl)
theorem dL_law_3552 : decode cL_law 3552 = .ok (.if_icmp .eq 5, 3) := dk_159 0 5 (dk_at dksL_law_141 17 rfl rfl)
theorem dL_law_3555 : decode cL_law 3555 = .ok (.iconst 0, 1) := dk_3 (dk_at dksL_law_141 20 rfl rfl)
theorem dL_law_3556 : decode cL_law 3556 = .ok (.ireturn, 1) := dk_172 (dk_at dksL_law_141 21 rfl rfl)
theorem dL_law_3557 : decode cL_law 3557 = .ok (.iload 6, 2) := dk_21 6 (dk_at dksL_law_141 22 rfl rfl)
theorem dL_law_3559 : decode cL_law 3559 = .ok (.ifCond .ne 15, 3) := dk_154 0 15 (dk_at dksL_law_142 0 rfl rfl)
theorem dL_law_3562 : decode cL_law 3562 = .ok (.aload_n 3, 1) := dk_45 (dk_at dksL_law_142 3 rfl rfl)
theorem dL_law_3563 : decode cL_law 3563 = .ok (.iconst 0, 1) := dk_3 (dk_at dksL_law_142 4 rfl rfl)
theorem dL_law_3564 : decode cL_law 3564 = .ok (.laload, 1) := dk_47 (dk_at dksL_law_142 5 rfl rfl)
theorem dL_law_3565 : decode cL_law 3565 = .ok (.iload 7, 2) := dk_21 7 (dk_at dksL_law_142 6 rfl rfl)
theorem dL_law_3567 : decode cL_law 3567 = .ok (.i2l, 1) := dk_133 (dk_at dksL_law_142 8 rfl rfl)
theorem dL_law_3568 : decode cL_law 3568 = .ok (.lcmp, 1) := dk_148 (dk_at dksL_law_142 9 rfl rfl)
theorem dL_law_3569 : decode cL_law 3569 = .ok (.ifCond .eq 5, 3) := dk_153 0 5 (dk_at dksL_law_142 10 rfl rfl)
theorem dL_law_3572 : decode cL_law 3572 = .ok (.iconst 0, 1) := dk_3 (dk_at dksL_law_142 13 rfl rfl)
theorem dL_law_3573 : decode cL_law 3573 = .ok (.ireturn, 1) := dk_172 (dk_at dksL_law_142 14 rfl rfl)
theorem dL_law_3574 : decode cL_law 3574 = .ok (.goto 172, 3) := dk_167 0 172 (dk_at dksL_law_142 15 rfl rfl)
theorem dL_law_3577 : decode cL_law 3577 = .ok (.aload_n 1, 1) := dk_43 (dk_at dksL_law_142 18 rfl rfl)
theorem dL_law_3578 : decode cL_law 3578 = .ok (.aload_n 3, 1) := dk_45 (dk_at dksL_law_142 19 rfl rfl)
theorem dL_law_3579 : decode cL_law 3579 = .ok (.invokestatic 402, 3) := dk_184 1 146 (dk_at dksL_law_142 20 rfl rfl)
theorem dL_law_3582 : decode cL_law 3582 = .ok (.istore 6, 2) := dk_54 6 (dk_at dksL_law_143 0 rfl rfl)
theorem dL_law_3584 : decode cL_law 3584 = .ok (.aload_n 2, 1) := dk_44 (dk_at dksL_law_143 2 rfl rfl)
theorem dL_law_3585 : decode cL_law 3585 = .ok (.invokevirtual 404, 3) := dk_182 1 148 (dk_at dksL_law_143 3 rfl rfl)
theorem dL_law_3588 : decode cL_law 3588 = .ok (.istore 7, 2) := dk_54 7 (dk_at dksL_law_143 6 rfl rfl)
theorem dL_law_3590 : decode cL_law 3590 = .ok (.aload_n 2, 1) := dk_44 (dk_at dksL_law_143 8 rfl rfl)
theorem dL_law_3591 : decode cL_law 3591 = .ok (.invokevirtual 216, 3) := dk_182 0 216 (dk_at dksL_law_143 9 rfl rfl)
theorem dL_law_3594 : decode cL_law 3594 = .ok (.iload 6, 2) := dk_21 6 (dk_at dksL_law_143 12 rfl rfl)
theorem dL_law_3596 : decode cL_law 3596 = .ok (.if_icmp .eq 5, 3) := dk_159 0 5 (dk_at dksL_law_143 14 rfl rfl)
theorem dL_law_3599 : decode cL_law 3599 = .ok (.iconst 0, 1) := dk_3 (dk_at dksL_law_143 17 rfl rfl)
theorem dL_law_3600 : decode cL_law 3600 = .ok (.ireturn, 1) := dk_172 (dk_at dksL_law_143 18 rfl rfl)
theorem dL_law_3601 : decode cL_law 3601 = .ok (.iload 6, 2) := dk_21 6 (dk_at dksL_law_143 19 rfl rfl)
theorem dL_law_3603 : decode cL_law 3603 = .ok (.ifCond .ne 15, 3) := dk_154 0 15 (dk_at dksL_law_143 21 rfl rfl)
theorem dL_law_3606 : decode cL_law 3606 = .ok (.aload_n 3, 1) := dk_45 (dk_at dksL_law_144 0 rfl rfl)
theorem dL_law_3607 : decode cL_law 3607 = .ok (.iconst 0, 1) := dk_3 (dk_at dksL_law_144 1 rfl rfl)
theorem dL_law_3608 : decode cL_law 3608 = .ok (.laload, 1) := dk_47 (dk_at dksL_law_144 2 rfl rfl)
theorem dL_law_3609 : decode cL_law 3609 = .ok (.iload 7, 2) := dk_21 7 (dk_at dksL_law_144 3 rfl rfl)
theorem dL_law_3611 : decode cL_law 3611 = .ok (.i2l, 1) := dk_133 (dk_at dksL_law_144 5 rfl rfl)
theorem dL_law_3612 : decode cL_law 3612 = .ok (.lcmp, 1) := dk_148 (dk_at dksL_law_144 6 rfl rfl)
theorem dL_law_3613 : decode cL_law 3613 = .ok (.ifCond .eq 5, 3) := dk_153 0 5 (dk_at dksL_law_144 7 rfl rfl)
theorem dL_law_3616 : decode cL_law 3616 = .ok (.iconst 0, 1) := dk_3 (dk_at dksL_law_144 10 rfl rfl)
theorem dL_law_3617 : decode cL_law 3617 = .ok (.ireturn, 1) := dk_172 (dk_at dksL_law_144 11 rfl rfl)
theorem dL_law_3618 : decode cL_law 3618 = .ok (.goto 128, 3) := dk_167 0 128 (dk_at dksL_law_144 12 rfl rfl)
theorem dL_law_3621 : decode cL_law 3621 = .ok (.aload_n 1, 1) := dk_43 (dk_at dksL_law_144 15 rfl rfl)
theorem dL_law_3622 : decode cL_law 3622 = .ok (.invokevirtual 405, 3) := dk_182 1 149 (dk_at dksL_law_144 16 rfl rfl)
theorem dL_law_3625 : decode cL_law 3625 = .ok (.aload_n 2, 1) := dk_44 (dk_at dksL_law_144 19 rfl rfl)
theorem dL_law_3626 : decode cL_law 3626 = .ok (.invokevirtual 408, 3) := dk_182 1 152 (dk_at dksL_law_144 20 rfl rfl)
theorem dL_law_3629 : decode cL_law 3629 = .ok (.if_icmp .eq 117, 3) := dk_159 0 117 (dk_at dksL_law_145 0 rfl rfl)
theorem dL_law_3632 : decode cL_law 3632 = .ok (.iconst 0, 1) := dk_3 (dk_at dksL_law_145 3 rfl rfl)
theorem dL_law_3633 : decode cL_law 3633 = .ok (.ireturn, 1) := dk_172 (dk_at dksL_law_145 4 rfl rfl)
theorem dL_law_3634 : decode cL_law 3634 = .ok (.aload_n 1, 1) := dk_43 (dk_at dksL_law_145 5 rfl rfl)
theorem dL_law_3635 : decode cL_law 3635 = .ok (.aload_n 0, 1) := dk_42 (dk_at dksL_law_145 6 rfl rfl)
theorem dL_law_3636 : decode cL_law 3636 = .ok (.iload 5, 2) := dk_21 5 (dk_at dksL_law_145 7 rfl rfl)
theorem dL_law_3638 : decode cL_law 3638 = .ok (.iconst 1, 1) := dk_4 (dk_at dksL_law_145 9 rfl rfl)
theorem dL_law_3639 : decode cL_law 3639 = .ok (.iadd, 1) := dk_96 (dk_at dksL_law_145 10 rfl rfl)
theorem dL_law_3640 : decode cL_law 3640 = .ok (.iaload, 1) := dk_46 (dk_at dksL_law_145 11 rfl rfl)
theorem dL_law_3641 : decode cL_law 3641 = .ok (.aload_n 3, 1) := dk_45 (dk_at dksL_law_145 12 rfl rfl)
theorem dL_law_3642 : decode cL_law 3642 = .ok (.invokestatic 409, 3) := dk_184 1 153 (dk_at dksL_law_145 13 rfl rfl)
theorem dL_law_3645 : decode cL_law 3645 = .ok (.istore 6, 2) := dk_54 6 (dk_at dksL_law_145 16 rfl rfl)
theorem dL_law_3647 : decode cL_law 3647 = .ok (.aload_n 2, 1) := dk_44 (dk_at dksL_law_145 18 rfl rfl)
theorem dL_law_3648 : decode cL_law 3648 = .ok (.aload_n 0, 1) := dk_42 (dk_at dksL_law_145 19 rfl rfl)
theorem dL_law_3649 : decode cL_law 3649 = .ok (.iload 5, 2) := dk_21 5 (dk_at dksL_law_145 20 rfl rfl)
theorem dL_law_3651 : decode cL_law 3651 = .ok (.iconst 1, 1) := dk_4 (dk_at dksL_law_145 22 rfl rfl)
theorem dL_law_3652 : decode cL_law 3652 = .ok (.iadd, 1) := dk_96 (dk_at dksL_law_145 23 rfl rfl)
theorem dL_law_3653 : decode cL_law 3653 = .ok (.iaload, 1) := dk_46 (dk_at dksL_law_146 0 rfl rfl)
theorem dL_law_3654 : decode cL_law 3654 = .ok (.invokevirtual 411, 3) := dk_182 1 155 (dk_at dksL_law_146 1 rfl rfl)
theorem dL_law_3657 : decode cL_law 3657 = .ok (.istore 7, 2) := dk_54 7 (dk_at dksL_law_146 4 rfl rfl)
theorem dL_law_3659 : decode cL_law 3659 = .ok (.aload_n 2, 1) := dk_44 (dk_at dksL_law_146 6 rfl rfl)
theorem dL_law_3660 : decode cL_law 3660 = .ok (.invokevirtual 216, 3) := dk_182 0 216 (dk_at dksL_law_146 7 rfl rfl)
theorem dL_law_3663 : decode cL_law 3663 = .ok (.iload 6, 2) := dk_21 6 (dk_at dksL_law_146 10 rfl rfl)
theorem dL_law_3665 : decode cL_law 3665 = .ok (.if_icmp .eq 5, 3) := dk_159 0 5 (dk_at dksL_law_146 12 rfl rfl)
theorem dL_law_3668 : decode cL_law 3668 = .ok (.iconst 0, 1) := dk_3 (dk_at dksL_law_146 15 rfl rfl)
theorem dL_law_3669 : decode cL_law 3669 = .ok (.ireturn, 1) := dk_172 (dk_at dksL_law_146 16 rfl rfl)
theorem dL_law_3670 : decode cL_law 3670 = .ok (.iload 6, 2) := dk_21 6 (dk_at dksL_law_146 17 rfl rfl)
theorem dL_law_3672 : decode cL_law 3672 = .ok (.ifCond .ne 15, 3) := dk_154 0 15 (dk_at dksL_law_146 19 rfl rfl)
theorem dL_law_3675 : decode cL_law 3675 = .ok (.aload_n 3, 1) := dk_45 (dk_at dksL_law_146 22 rfl rfl)
theorem dL_law_3676 : decode cL_law 3676 = .ok (.iconst 0, 1) := dk_3 (dk_at dksL_law_146 23 rfl rfl)
theorem dL_law_3677 : decode cL_law 3677 = .ok (.laload, 1) := dk_47 (dk_at dksL_law_147 0 rfl rfl)
theorem dL_law_3678 : decode cL_law 3678 = .ok (.iload 7, 2) := dk_21 7 (dk_at dksL_law_147 1 rfl rfl)
theorem dL_law_3680 : decode cL_law 3680 = .ok (.i2l, 1) := dk_133 (dk_at dksL_law_147 3 rfl rfl)
theorem dL_law_3681 : decode cL_law 3681 = .ok (.lcmp, 1) := dk_148 (dk_at dksL_law_147 4 rfl rfl)
theorem dL_law_3682 : decode cL_law 3682 = .ok (.ifCond .eq 5, 3) := dk_153 0 5 (dk_at dksL_law_147 5 rfl rfl)
theorem dL_law_3685 : decode cL_law 3685 = .ok (.iconst 0, 1) := dk_3 (dk_at dksL_law_147 8 rfl rfl)
theorem dL_law_3686 : decode cL_law 3686 = .ok (.ireturn, 1) := dk_172 (dk_at dksL_law_147 9 rfl rfl)
theorem dL_law_3687 : decode cL_law 3687 = .ok (.goto 59, 3) := dk_167 0 59 (dk_at dksL_law_147 10 rfl rfl)
theorem dL_law_3690 : decode cL_law 3690 = .ok (.aload_n 1, 1) := dk_43 (dk_at dksL_law_147 13 rfl rfl)
theorem dL_law_3691 : decode cL_law 3691 = .ok (.aload_n 0, 1) := dk_42 (dk_at dksL_law_147 14 rfl rfl)
theorem dL_law_3692 : decode cL_law 3692 = .ok (.iload 5, 2) := dk_21 5 (dk_at dksL_law_147 15 rfl rfl)
theorem dL_law_3694 : decode cL_law 3694 = .ok (.iconst 1, 1) := dk_4 (dk_at dksL_law_147 17 rfl rfl)
theorem dL_law_3695 : decode cL_law 3695 = .ok (.iadd, 1) := dk_96 (dk_at dksL_law_147 18 rfl rfl)
theorem dL_law_3696 : decode cL_law 3696 = .ok (.iaload, 1) := dk_46 (dk_at dksL_law_147 19 rfl rfl)
theorem dL_law_3697 : decode cL_law 3697 = .ok (.aload_n 3, 1) := dk_45 (dk_at dksL_law_147 20 rfl rfl)
theorem dL_law_3698 : decode cL_law 3698 = .ok (.invokestatic 412, 3) := dk_184 1 156 (dk_at dksL_law_147 21 rfl rfl)
theorem dL_law_3701 : decode cL_law 3701 = .ok (.istore 6, 2) := dk_54 6 (dk_at dksL_law_148 0 rfl rfl)
theorem dL_law_3703 : decode cL_law 3703 = .ok (.aload_n 2, 1) := dk_44 (dk_at dksL_law_148 2 rfl rfl)
theorem dL_law_3704 : decode cL_law 3704 = .ok (.aload_n 0, 1) := dk_42 (dk_at dksL_law_148 3 rfl rfl)
theorem dL_law_3705 : decode cL_law 3705 = .ok (.iload 5, 2) := dk_21 5 (dk_at dksL_law_148 4 rfl rfl)
theorem dL_law_3707 : decode cL_law 3707 = .ok (.iconst 1, 1) := dk_4 (dk_at dksL_law_148 6 rfl rfl)
theorem dL_law_3708 : decode cL_law 3708 = .ok (.iadd, 1) := dk_96 (dk_at dksL_law_148 7 rfl rfl)
theorem dL_law_3709 : decode cL_law 3709 = .ok (.iaload, 1) := dk_46 (dk_at dksL_law_148 8 rfl rfl)
theorem dL_law_3710 : decode cL_law 3710 = .ok (.invokevirtual 414, 3) := dk_182 1 158 (dk_at dksL_law_148 9 rfl rfl)
theorem dL_law_3713 : decode cL_law 3713 = .ok (.istore 7, 2) := dk_54 7 (dk_at dksL_law_148 12 rfl rfl)
theorem dL_law_3715 : decode cL_law 3715 = .ok (.aload_n 2, 1) := dk_44 (dk_at dksL_law_148 14 rfl rfl)
theorem dL_law_3716 : decode cL_law 3716 = .ok (.invokevirtual 216, 3) := dk_182 0 216 (dk_at dksL_law_148 15 rfl rfl)
theorem dL_law_3719 : decode cL_law 3719 = .ok (.iload 6, 2) := dk_21 6 (dk_at dksL_law_148 18 rfl rfl)
theorem dL_law_3721 : decode cL_law 3721 = .ok (.if_icmp .eq 5, 3) := dk_159 0 5 (dk_at dksL_law_148 20 rfl rfl)
theorem dL_law_3724 : decode cL_law 3724 = .ok (.iconst 0, 1) := dk_3 (dk_at dksL_law_148 23 rfl rfl)
theorem dL_law_3725 : decode cL_law 3725 = .ok (.ireturn, 1) := dk_172 (dk_at dksL_law_149 0 rfl rfl)
theorem dL_law_3726 : decode cL_law 3726 = .ok (.iload 6, 2) := dk_21 6 (dk_at dksL_law_149 1 rfl rfl)
theorem dL_law_3728 : decode cL_law 3728 = .ok (.ifCond .ne 15, 3) := dk_154 0 15 (dk_at dksL_law_149 3 rfl rfl)
theorem dL_law_3731 : decode cL_law 3731 = .ok (.aload_n 3, 1) := dk_45 (dk_at dksL_law_149 6 rfl rfl)
theorem dL_law_3732 : decode cL_law 3732 = .ok (.iconst 0, 1) := dk_3 (dk_at dksL_law_149 7 rfl rfl)
theorem dL_law_3733 : decode cL_law 3733 = .ok (.laload, 1) := dk_47 (dk_at dksL_law_149 8 rfl rfl)
theorem dL_law_3734 : decode cL_law 3734 = .ok (.iload 7, 2) := dk_21 7 (dk_at dksL_law_149 9 rfl rfl)
theorem dL_law_3736 : decode cL_law 3736 = .ok (.i2l, 1) := dk_133 (dk_at dksL_law_149 11 rfl rfl)
theorem dL_law_3737 : decode cL_law 3737 = .ok (.lcmp, 1) := dk_148 (dk_at dksL_law_149 12 rfl rfl)
theorem dL_law_3738 : decode cL_law 3738 = .ok (.ifCond .eq 5, 3) := dk_153 0 5 (dk_at dksL_law_149 13 rfl rfl)
theorem dL_law_3741 : decode cL_law 3741 = .ok (.iconst 0, 1) := dk_3 (dk_at dksL_law_149 16 rfl rfl)
theorem dL_law_3742 : decode cL_law 3742 = .ok (.ireturn, 1) := dk_172 (dk_at dksL_law_149 17 rfl rfl)
theorem dL_law_3743 : decode cL_law 3743 = .ok (.goto 3, 3) := dk_167 0 3 (dk_at dksL_law_149 18 rfl rfl)
theorem dL_law_3746 : decode cL_law 3746 = .ok (.iinc 5 6, 3) := dk_132 5 6 (dk_at dksL_law_149 21 rfl rfl)
theorem dL_law_3749 : decode cL_law 3749 = .ok (.goto (-3721), 3) := dk_167 241 119 (dk_at dksL_law_150 0 rfl rfl)
theorem dL_law_3752 : decode cL_law 3752 = .ok (.iconst 1, 1) := dk_4 (dk_at dksL_law_150 3 rfl rfl)
theorem dL_law_3753 : decode cL_law 3753 = .ok (.ireturn, 1) := dk_172 (dk_at dksL_law_150 4 rfl rfl)
