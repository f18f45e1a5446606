/-! PingEye -/
set_option maxRecDepth 100000
def RX1 : String := "PingEye"
def TX1 : u_T := fun k => match k with
  | 0 => ("PingEye", "buffer", "[B", true)
  | 1 => ("PingEye", "buffered", "I", false)
  | 2 => ("PingEye", "parseError", "I", false)
  | 3 => ("PingEye", "errorPosition", "I", false)
  | 4 => ("PingEye", "now", "LPingEye$Silo;", false)
  | 5 => ("PingEye", "undos", "Ljava/util/Deque;", true)
  | 6 => ("PingEye", "saved", "[LPingEye$Silo;", true)
  | _ => ("PingEye", "written", "Ljava/lang/String;", false)
def tyX1 : Nat → FieldType := fun k => match k with
  | 0 => .array .byte
  | 1 => .int
  | 2 => .int
  | 3 => .int
  | 4 => .object "PingEye$Silo"
  | 5 => .object "java/util/Deque"
  | 6 => .array (.object "PingEye$Silo")
  | _ => .object "java/lang/String"
abbrev wsX10 : List Cond := u_ws RX1 TX1 8
theorem nmX1 : ∀ a, a < 8 → ∀ b, b < 8 → a ≠ b → (TX1 a).2.1 ≠ (TX1 b).2.1 := by decide +kernel
theorem tyX1_ok : ∀ k, k < 8 → parseFieldDescriptor (TX1 k).2.2.1 = some (tyX1 k) := by decide +kernel
abbrev cX1_init : ByteArray := prog_1_method_5_code
def yX1_init : MethodName := ⟨RX1, "<init>", "()V"⟩
def dkwX1_init_1 : List UInt8 := [16, 16, 183, 0, 25, 181, 0, 28, 42, 5, 189, 0, 4, 181, 0, 32, 42, 18, 36, 181, 0, 38, 177]
abbrev dktX1_init_1 : List UInt8 := dkwX1_init_1 ++ []
def dkwX1_init_0 : List UInt8 := [42, 183, 0, 9, 42, 17, 2, 88, 188, 8, 181, 0, 15, 42, 2, 181, 0, 19, 42, 187, 0, 23, 89]
abbrev dktX1_init_0 : List UInt8 := dkwX1_init_0 ++ dktX1_init_1
theorem dksX1_init_0 : cX1_init.data.toList.drop 0 = dktX1_init_0 := by decide +kernel
theorem dksX1_init_1 : cX1_init.data.toList.drop 23 = dktX1_init_1 := dk_seg dksX1_init_0 23 rfl rfl
theorem dX1_init_0 : decode cX1_init 0 = .ok (.aload_n 0, 1) := dk_42 (dk_at dksX1_init_0 0 rfl rfl)
theorem dX1_init_1 : decode cX1_init 1 = .ok (.invokespecial 9, 3) := dk_183 0 9 (dk_at dksX1_init_0 1 rfl rfl)
theorem dX1_init_4 : decode cX1_init 4 = .ok (.aload_n 0, 1) := dk_42 (dk_at dksX1_init_0 4 rfl rfl)
theorem dX1_init_5 : decode cX1_init 5 = .ok (.sipush 600, 3) := dk_17 2 88 (dk_at dksX1_init_0 5 rfl rfl)
theorem dX1_init_8 : decode cX1_init 8 = .ok (.newarray .byte, 2) := dk_188_8 (dk_at dksX1_init_0 8 rfl rfl)
theorem dX1_init_10 : decode cX1_init 10 = .ok (.putfield 15, 3) := dk_181 0 15 (dk_at dksX1_init_0 10 rfl rfl)
theorem dX1_init_13 : decode cX1_init 13 = .ok (.aload_n 0, 1) := dk_42 (dk_at dksX1_init_0 13 rfl rfl)
theorem dX1_init_14 : decode cX1_init 14 = .ok (.iconst (-1), 1) := dk_2 (dk_at dksX1_init_0 14 rfl rfl)
theorem dX1_init_15 : decode cX1_init 15 = .ok (.putfield 19, 3) := dk_181 0 19 (dk_at dksX1_init_0 15 rfl rfl)
theorem dX1_init_18 : decode cX1_init 18 = .ok (.aload_n 0, 1) := dk_42 (dk_at dksX1_init_0 18 rfl rfl)
theorem dX1_init_19 : decode cX1_init 19 = .ok (.new 23, 3) := dk_187 0 23 (dk_at dksX1_init_0 19 rfl rfl)
theorem dX1_init_22 : decode cX1_init 22 = .ok (.dup, 1) := dk_89 (dk_at dksX1_init_0 22 rfl rfl)
theorem dX1_init_23 : decode cX1_init 23 = .ok (.bipush 16, 2) := dk_16 16 (dk_at dksX1_init_1 0 rfl rfl)
theorem dX1_init_25 : decode cX1_init 25 = .ok (.invokespecial 25, 3) := dk_183 0 25 (dk_at dksX1_init_1 2 rfl rfl)
theorem dX1_init_28 : decode cX1_init 28 = .ok (.putfield 28, 3) := dk_181 0 28 (dk_at dksX1_init_1 5 rfl rfl)
theorem dX1_init_31 : decode cX1_init 31 = .ok (.aload_n 0, 1) := dk_42 (dk_at dksX1_init_1 8 rfl rfl)
theorem dX1_init_32 : decode cX1_init 32 = .ok (.iconst 2, 1) := dk_5 (dk_at dksX1_init_1 9 rfl rfl)
theorem dX1_init_33 : decode cX1_init 33 = .ok (.anewarray 4, 3) := dk_189 0 4 (dk_at dksX1_init_1 10 rfl rfl)
theorem dX1_init_36 : decode cX1_init 36 = .ok (.putfield 32, 3) := dk_181 0 32 (dk_at dksX1_init_1 13 rfl rfl)
theorem dX1_init_39 : decode cX1_init 39 = .ok (.aload_n 0, 1) := dk_42 (dk_at dksX1_init_1 16 rfl rfl)
theorem dX1_init_40 : decode cX1_init 40 = .ok (.ldc 36, 2) := dk_18 36 (dk_at dksX1_init_1 17 rfl rfl)
theorem dX1_init_42 : decode cX1_init 42 = .ok (.putfield 38, 3) := dk_181 0 38 (dk_at dksX1_init_1 19 rfl rfl)
theorem dX1_init_45 : decode cX1_init 45 = .ok (.return_, 1) := dk_177 (dk_at dksX1_init_1 22 rfl rfl)
abbrev cX1_append : ByteArray := prog_1_method_6_code
def yX1_append : MethodName := ⟨RX1, "append", "(IIIII)I"⟩
def dkwX1_append_2 : List UInt8 := [172]
abbrev dktX1_append_2 : List UInt8 := dkwX1_append_2 ++ []
def dkwX1_append_1 : List UInt8 := [4, 28, 79, 89, 5, 29, 79, 89, 6, 21, 4, 79, 89, 7, 21, 5, 79, 182, 0, 45, 42, 180, 0, 42]
abbrev dktX1_append_1 : List UInt8 := dkwX1_append_1 ++ dktX1_append_2
def dkwX1_append_0 : List UInt8 := [42, 180, 0, 42, 16, 20, 96, 17, 2, 88, 164, 0, 5, 2, 172, 42, 8, 188, 10, 89, 3, 27, 79, 89]
abbrev dktX1_append_0 : List UInt8 := dkwX1_append_0 ++ dktX1_append_1
theorem dksX1_append_0 : cX1_append.data.toList.drop 0 = dktX1_append_0 := by decide +kernel
theorem dksX1_append_1 : cX1_append.data.toList.drop 24 = dktX1_append_1 := dk_seg dksX1_append_0 24 rfl rfl
theorem dksX1_append_2 : cX1_append.data.toList.drop 48 = dktX1_append_2 := dk_seg dksX1_append_1 24 rfl rfl
theorem dX1_append_0 : decode cX1_append 0 = .ok (.aload_n 0, 1) := dk_42 (dk_at dksX1_append_0 0 rfl rfl)
theorem dX1_append_1 : decode cX1_append 1 = .ok (.getfield 42, 3) := dk_180 0 42 (dk_at dksX1_append_0 1 rfl rfl)
theorem dX1_append_4 : decode cX1_append 4 = .ok (.bipush 20, 2) := dk_16 20 (dk_at dksX1_append_0 4 rfl rfl)
theorem dX1_append_6 : decode cX1_append 6 = .ok (.iadd, 1) := dk_96 (dk_at dksX1_append_0 6 rfl rfl)
theorem dX1_append_7 : decode cX1_append 7 = .ok (.sipush 600, 3) := dk_17 2 88 (dk_at dksX1_append_0 7 rfl rfl)
theorem dX1_append_10 : decode cX1_append 10 = .ok (.if_icmp .le 5, 3) := dk_164 0 5 (dk_at dksX1_append_0 10 rfl rfl)
theorem dX1_append_13 : decode cX1_append 13 = .ok (.iconst (-1), 1) := dk_2 (dk_at dksX1_append_0 13 rfl rfl)
theorem dX1_append_14 : decode cX1_append 14 = .ok (.ireturn, 1) := dk_172 (dk_at dksX1_append_0 14 rfl rfl)
theorem dX1_append_15 : decode cX1_append 15 = .ok (.aload_n 0, 1) := dk_42 (dk_at dksX1_append_0 15 rfl rfl)
theorem dX1_append_16 : decode cX1_append 16 = .ok (.iconst 5, 1) := dk_8 (dk_at dksX1_append_0 16 rfl rfl)
theorem dX1_append_17 : decode cX1_append 17 = .ok (.newarray .int, 2) := dk_188_10 (dk_at dksX1_append_0 17 rfl rfl)
theorem dX1_append_19 : decode cX1_append 19 = .ok (.dup, 1) := dk_89 (dk_at dksX1_append_0 19 rfl rfl)
theorem dX1_append_20 : decode cX1_append 20 = .ok (.iconst 0, 1) := dk_3 (dk_at dksX1_append_0 20 rfl rfl)
theorem dX1_append_21 : decode cX1_append 21 = .ok (.iload_n 1, 1) := dk_27 (dk_at dksX1_append_0 21 rfl rfl)
theorem dX1_append_22 : decode cX1_append 22 = .ok (.iastore, 1) := dk_79 (dk_at dksX1_append_0 22 rfl rfl)
theorem dX1_append_23 : decode cX1_append 23 = .ok (.dup, 1) := dk_89 (dk_at dksX1_append_0 23 rfl rfl)
theorem dX1_append_24 : decode cX1_append 24 = .ok (.iconst 1, 1) := dk_4 (dk_at dksX1_append_1 0 rfl rfl)
theorem dX1_append_25 : decode cX1_append 25 = .ok (.iload_n 2, 1) := dk_28 (dk_at dksX1_append_1 1 rfl rfl)
theorem dX1_append_26 : decode cX1_append 26 = .ok (.iastore, 1) := dk_79 (dk_at dksX1_append_1 2 rfl rfl)
theorem dX1_append_27 : decode cX1_append 27 = .ok (.dup, 1) := dk_89 (dk_at dksX1_append_1 3 rfl rfl)
theorem dX1_append_28 : decode cX1_append 28 = .ok (.iconst 2, 1) := dk_5 (dk_at dksX1_append_1 4 rfl rfl)
theorem dX1_append_29 : decode cX1_append 29 = .ok (.iload_n 3, 1) := dk_29 (dk_at dksX1_append_1 5 rfl rfl)
theorem dX1_append_30 : decode cX1_append 30 = .ok (.iastore, 1) := dk_79 (dk_at dksX1_append_1 6 rfl rfl)
theorem dX1_append_31 : decode cX1_append 31 = .ok (.dup, 1) := dk_89 (dk_at dksX1_append_1 7 rfl rfl)
theorem dX1_append_32 : decode cX1_append 32 = .ok (.iconst 3, 1) := dk_6 (dk_at dksX1_append_1 8 rfl rfl)
theorem dX1_append_33 : decode cX1_append 33 = .ok (.iload 4, 2) := dk_21 4 (dk_at dksX1_append_1 9 rfl rfl)
theorem dX1_append_35 : decode cX1_append 35 = .ok (.iastore, 1) := dk_79 (dk_at dksX1_append_1 11 rfl rfl)
theorem dX1_append_36 : decode cX1_append 36 = .ok (.dup, 1) := dk_89 (dk_at dksX1_append_1 12 rfl rfl)
theorem dX1_append_37 : decode cX1_append 37 = .ok (.iconst 4, 1) := dk_7 (dk_at dksX1_append_1 13 rfl rfl)
theorem dX1_append_38 : decode cX1_append 38 = .ok (.iload 5, 2) := dk_21 5 (dk_at dksX1_append_1 14 rfl rfl)
theorem dX1_append_40 : decode cX1_append 40 = .ok (.iastore, 1) := dk_79 (dk_at dksX1_append_1 16 rfl rfl)
theorem dX1_append_41 : decode cX1_append 41 = .ok (.invokevirtual 45, 3) := dk_182 0 45 (dk_at dksX1_append_1 17 rfl rfl)
theorem dX1_append_44 : decode cX1_append 44 = .ok (.aload_n 0, 1) := dk_42 (dk_at dksX1_append_1 20 rfl rfl)
theorem dX1_append_45 : decode cX1_append 45 = .ok (.getfield 42, 3) := dk_180 0 42 (dk_at dksX1_append_1 21 rfl rfl)
theorem dX1_append_48 : decode cX1_append 48 = .ok (.ireturn, 1) := dk_172 (dk_at dksX1_append_2 0 rfl rfl)
abbrev cX1_puts : ByteArray := prog_1_method_7_code
def yX1_puts : MethodName := ⟨RX1, "puts", "([I)V"⟩
def dkwX1_puts_2 : List UInt8 := [122, 145, 84, 132, 6, 248, 167, 255, 226, 132, 4, 1, 167, 255, 204, 177]
abbrev dktX1_puts_2 : List UInt8 := dkwX1_puts_2 ++ []
def dkwX1_puts_1 : List UInt8 := [21, 6, 155, 0, 31, 42, 180, 0, 15, 42, 89, 180, 0, 42, 90, 4, 96, 181, 0, 42, 21, 5, 21, 6]
abbrev dktX1_puts_1 : List UInt8 := dkwX1_puts_1 ++ dktX1_puts_2
def dkwX1_puts_0 : List UInt8 := [43, 77, 44, 190, 62, 3, 54, 4, 21, 4, 29, 162, 0, 52, 44, 21, 4, 46, 54, 5, 16, 24, 54, 6]
abbrev dktX1_puts_0 : List UInt8 := dkwX1_puts_0 ++ dktX1_puts_1
theorem dksX1_puts_0 : cX1_puts.data.toList.drop 0 = dktX1_puts_0 := by decide +kernel
theorem dksX1_puts_1 : cX1_puts.data.toList.drop 24 = dktX1_puts_1 := dk_seg dksX1_puts_0 24 rfl rfl
theorem dksX1_puts_2 : cX1_puts.data.toList.drop 48 = dktX1_puts_2 := dk_seg dksX1_puts_1 24 rfl rfl
theorem dX1_puts_0 : decode cX1_puts 0 = .ok (.aload_n 1, 1) := dk_43 (dk_at dksX1_puts_0 0 rfl rfl)
theorem dX1_puts_1 : decode cX1_puts 1 = .ok (.astore_n 2, 1) := dk_77 (dk_at dksX1_puts_0 1 rfl rfl)
theorem dX1_puts_2 : decode cX1_puts 2 = .ok (.aload_n 2, 1) := dk_44 (dk_at dksX1_puts_0 2 rfl rfl)
theorem dX1_puts_3 : decode cX1_puts 3 = .ok (.arraylength, 1) := dk_190 (dk_at dksX1_puts_0 3 rfl rfl)
theorem dX1_puts_4 : decode cX1_puts 4 = .ok (.istore_n 3, 1) := dk_62 (dk_at dksX1_puts_0 4 rfl rfl)
theorem dX1_puts_5 : decode cX1_puts 5 = .ok (.iconst 0, 1) := dk_3 (dk_at dksX1_puts_0 5 rfl rfl)
theorem dX1_puts_6 : decode cX1_puts 6 = .ok (.istore 4, 2) := dk_54 4 (dk_at dksX1_puts_0 6 rfl rfl)
theorem dX1_puts_8 : decode cX1_puts 8 = .ok (.iload 4, 2) := dk_21 4 (dk_at dksX1_puts_0 8 rfl rfl)
theorem dX1_puts_10 : decode cX1_puts 10 = .ok (.iload_n 3, 1) := dk_29 (dk_at dksX1_puts_0 10 rfl rfl)
theorem dX1_puts_11 : decode cX1_puts 11 = .ok (.if_icmp .ge 52, 3) := dk_162 0 52 (dk_at dksX1_puts_0 11 rfl rfl)
theorem dX1_puts_14 : decode cX1_puts 14 = .ok (.aload_n 2, 1) := dk_44 (dk_at dksX1_puts_0 14 rfl rfl)
theorem dX1_puts_15 : decode cX1_puts 15 = .ok (.iload 4, 2) := dk_21 4 (dk_at dksX1_puts_0 15 rfl rfl)
theorem dX1_puts_17 : decode cX1_puts 17 = .ok (.iaload, 1) := dk_46 (dk_at dksX1_puts_0 17 rfl rfl)
theorem dX1_puts_18 : decode cX1_puts 18 = .ok (.istore 5, 2) := dk_54 5 (dk_at dksX1_puts_0 18 rfl rfl)
theorem dX1_puts_20 : decode cX1_puts 20 = .ok (.bipush 24, 2) := dk_16 24 (dk_at dksX1_puts_0 20 rfl rfl)
theorem dX1_puts_22 : decode cX1_puts 22 = .ok (.istore 6, 2) := dk_54 6 (dk_at dksX1_puts_0 22 rfl rfl)
theorem dX1_puts_24 : decode cX1_puts 24 = .ok (.iload 6, 2) := dk_21 6 (dk_at dksX1_puts_1 0 rfl rfl)
theorem dX1_puts_26 : decode cX1_puts 26 = .ok (.ifCond .lt 31, 3) := dk_155 0 31 (dk_at dksX1_puts_1 2 rfl rfl)
theorem dX1_puts_29 : decode cX1_puts 29 = .ok (.aload_n 0, 1) := dk_42 (dk_at dksX1_puts_1 5 rfl rfl)
theorem dX1_puts_30 : decode cX1_puts 30 = .ok (.getfield 15, 3) := dk_180 0 15 (dk_at dksX1_puts_1 6 rfl rfl)
theorem dX1_puts_33 : decode cX1_puts 33 = .ok (.aload_n 0, 1) := dk_42 (dk_at dksX1_puts_1 9 rfl rfl)
theorem dX1_puts_34 : decode cX1_puts 34 = .ok (.dup, 1) := dk_89 (dk_at dksX1_puts_1 10 rfl rfl)
theorem dX1_puts_35 : decode cX1_puts 35 = .ok (.getfield 42, 3) := dk_180 0 42 (dk_at dksX1_puts_1 11 rfl rfl)
theorem dX1_puts_38 : decode cX1_puts 38 = .ok (.dup_x1, 1) := dk_90 (dk_at dksX1_puts_1 14 rfl rfl)
theorem dX1_puts_39 : decode cX1_puts 39 = .ok (.iconst 1, 1) := dk_4 (dk_at dksX1_puts_1 15 rfl rfl)
theorem dX1_puts_40 : decode cX1_puts 40 = .ok (.iadd, 1) := dk_96 (dk_at dksX1_puts_1 16 rfl rfl)
theorem dX1_puts_41 : decode cX1_puts 41 = .ok (.putfield 42, 3) := dk_181 0 42 (dk_at dksX1_puts_1 17 rfl rfl)
theorem dX1_puts_44 : decode cX1_puts 44 = .ok (.iload 5, 2) := dk_21 5 (dk_at dksX1_puts_1 20 rfl rfl)
theorem dX1_puts_46 : decode cX1_puts 46 = .ok (.iload 6, 2) := dk_21 6 (dk_at dksX1_puts_1 22 rfl rfl)
theorem dX1_puts_48 : decode cX1_puts 48 = .ok (.ishr, 1) := dk_122 (dk_at dksX1_puts_2 0 rfl rfl)
theorem dX1_puts_49 : decode cX1_puts 49 = .ok (.i2b, 1) := dk_145 (dk_at dksX1_puts_2 1 rfl rfl)
theorem dX1_puts_50 : decode cX1_puts 50 = .ok (.bastore, 1) := dk_84 (dk_at dksX1_puts_2 2 rfl rfl)
theorem dX1_puts_51 : decode cX1_puts 51 = .ok (.iinc 6 (-8), 3) := dk_132 6 248 (dk_at dksX1_puts_2 3 rfl rfl)
theorem dX1_puts_54 : decode cX1_puts 54 = .ok (.goto (-30), 3) := dk_167 255 226 (dk_at dksX1_puts_2 6 rfl rfl)
theorem dX1_puts_57 : decode cX1_puts 57 = .ok (.iinc 4 1, 3) := dk_132 4 1 (dk_at dksX1_puts_2 9 rfl rfl)
theorem dX1_puts_60 : decode cX1_puts 60 = .ok (.goto (-52), 3) := dk_167 255 204 (dk_at dksX1_puts_2 12 rfl rfl)
theorem dX1_puts_63 : decode cX1_puts 63 = .ok (.return_, 1) := dk_177 (dk_at dksX1_puts_2 15 rfl rfl)
abbrev cX1_parseError : ByteArray := prog_1_method_9_code
def yX1_parseError : MethodName := ⟨RX1, "parseError", "()I"⟩
theorem dX1_parseError_0 : decode cX1_parseError 0 = .ok (.aload_n 0, 1) := by decide +kernel
theorem dX1_parseError_1 : decode cX1_parseError 1 = .ok (.getfield 75, 3) := by decide +kernel
theorem dX1_parseError_4 : decode cX1_parseError 4 = .ok (.ireturn, 1) := by decide +kernel
abbrev cX1_errorPosition : ByteArray := prog_1_method_10_code
def yX1_errorPosition : MethodName := ⟨RX1, "errorPosition", "()I"⟩
theorem dX1_errorPosition_0 : decode cX1_errorPosition 0 = .ok (.aload_n 0, 1) := by decide +kernel
theorem dX1_errorPosition_1 : decode cX1_errorPosition 1 = .ok (.getfield 19, 3) := by decide +kernel
theorem dX1_errorPosition_4 : decode cX1_errorPosition 4 = .ok (.ireturn, 1) := by decide +kernel
abbrev cX1_buffered : ByteArray := prog_1_method_11_code
def yX1_buffered : MethodName := ⟨RX1, "buffered", "()I"⟩
theorem dX1_buffered_0 : decode cX1_buffered 0 = .ok (.aload_n 0, 1) := by decide +kernel
theorem dX1_buffered_1 : decode cX1_buffered 1 = .ok (.getfield 42, 3) := by decide +kernel
theorem dX1_buffered_4 : decode cX1_buffered 4 = .ok (.ireturn, 1) := by decide +kernel
abbrev cX1_undoable : ByteArray := prog_1_method_82_code
def yX1_undoable : MethodName := ⟨RX1, "undoable", "()I"⟩
def dkwX1_undoable_0 : List UInt8 := [42, 180, 0, 28, 185, 1, 94, 1, 0, 172]
abbrev dktX1_undoable_0 : List UInt8 := dkwX1_undoable_0 ++ []
theorem dksX1_undoable_0 : cX1_undoable.data.toList.drop 0 = dktX1_undoable_0 := by decide +kernel
theorem dX1_undoable_0 : decode cX1_undoable 0 = .ok (.aload_n 0, 1) := dk_42 (dk_at dksX1_undoable_0 0 rfl rfl)
theorem dX1_undoable_1 : decode cX1_undoable 1 = .ok (.getfield 28, 3) := dk_180 0 28 (dk_at dksX1_undoable_0 1 rfl rfl)
theorem dX1_undoable_4 : decode cX1_undoable 4 = .ok (.invokeinterface 350 1, 5) := by decide +kernel
theorem dX1_undoable_9 : decode cX1_undoable 9 = .ok (.ireturn, 1) := dk_172 (dk_at dksX1_undoable_0 9 rfl rfl)
abbrev cX1_load : ByteArray := prog_1_method_8_code
def yX1_load : MethodName := ⟨RX1, "load", "(I)I"⟩
def dkwX1_load_3 : List UInt8 := [1, 184, 0, 89, 42, 180, 0, 66, 182, 0, 3, 172]
abbrev dktX1_load_3 : List UInt8 := dkwX1_load_3 ++ []
def dkwX1_load_2 : List UInt8 := [181, 0, 19, 187, 0, 81, 89, 183, 0, 83, 191, 42, 180, 0, 28, 185, 0, 84, 1, 0, 42, 180, 0, 32]
abbrev dktX1_load_2 : List UInt8 := dkwX1_load_2 ++ dktX1_load_3
def dkwX1_load_1 : List UInt8 := [182, 0, 62, 181, 0, 66, 167, 0, 28, 77, 42, 44, 180, 0, 72, 181, 0, 75, 42, 44, 180, 0, 78]
abbrev dktX1_load_1 : List UInt8 := dkwX1_load_1 ++ dktX1_load_2
def dkwX1_load_0 : List UInt8 := [27, 3, 42, 180, 0, 42, 184, 0, 49, 184, 0, 53, 42, 187, 0, 57, 89, 42, 27, 183, 0, 59]
abbrev dktX1_load_0 : List UInt8 := dkwX1_load_0 ++ dktX1_load_1
theorem dksX1_load_0 : cX1_load.data.toList.drop 0 = dktX1_load_0 := by decide +kernel
theorem dksX1_load_1 : cX1_load.data.toList.drop 22 = dktX1_load_1 := dk_seg dksX1_load_0 22 rfl rfl
theorem dksX1_load_2 : cX1_load.data.toList.drop 45 = dktX1_load_2 := dk_seg dksX1_load_1 23 rfl rfl
theorem dksX1_load_3 : cX1_load.data.toList.drop 69 = dktX1_load_3 := dk_seg dksX1_load_2 24 rfl rfl
theorem dX1_load_0 : decode cX1_load 0 = .ok (.iload_n 1, 1) := dk_27 (dk_at dksX1_load_0 0 rfl rfl)
theorem dX1_load_1 : decode cX1_load 1 = .ok (.iconst 0, 1) := dk_3 (dk_at dksX1_load_0 1 rfl rfl)
theorem dX1_load_2 : decode cX1_load 2 = .ok (.aload_n 0, 1) := dk_42 (dk_at dksX1_load_0 2 rfl rfl)
theorem dX1_load_3 : decode cX1_load 3 = .ok (.getfield 42, 3) := dk_180 0 42 (dk_at dksX1_load_0 3 rfl rfl)
theorem dX1_load_6 : decode cX1_load 6 = .ok (.invokestatic 49, 3) := dk_184 0 49 (dk_at dksX1_load_0 6 rfl rfl)
theorem dX1_load_9 : decode cX1_load 9 = .ok (.invokestatic 53, 3) := dk_184 0 53 (dk_at dksX1_load_0 9 rfl rfl)
theorem dX1_load_12 : decode cX1_load 12 = .ok (.aload_n 0, 1) := dk_42 (dk_at dksX1_load_0 12 rfl rfl)
theorem dX1_load_13 : decode cX1_load 13 = .ok (.new 57, 3) := dk_187 0 57 (dk_at dksX1_load_0 13 rfl rfl)
theorem dX1_load_16 : decode cX1_load 16 = .ok (.dup, 1) := dk_89 (dk_at dksX1_load_0 16 rfl rfl)
theorem dX1_load_17 : decode cX1_load 17 = .ok (.aload_n 0, 1) := dk_42 (dk_at dksX1_load_0 17 rfl rfl)
theorem dX1_load_18 : decode cX1_load 18 = .ok (.iload_n 1, 1) := dk_27 (dk_at dksX1_load_0 18 rfl rfl)
theorem dX1_load_19 : decode cX1_load 19 = .ok (.invokespecial 59, 3) := dk_183 0 59 (dk_at dksX1_load_0 19 rfl rfl)
theorem dX1_load_22 : decode cX1_load 22 = .ok (.invokevirtual 62, 3) := dk_182 0 62 (dk_at dksX1_load_1 0 rfl rfl)
theorem dX1_load_25 : decode cX1_load 25 = .ok (.putfield 66, 3) := dk_181 0 66 (dk_at dksX1_load_1 3 rfl rfl)
theorem dX1_load_28 : decode cX1_load 28 = .ok (.goto 28, 3) := dk_167 0 28 (dk_at dksX1_load_1 6 rfl rfl)
theorem dX1_load_31 : decode cX1_load 31 = .ok (.astore_n 2, 1) := dk_77 (dk_at dksX1_load_1 9 rfl rfl)
theorem dX1_load_32 : decode cX1_load 32 = .ok (.aload_n 0, 1) := dk_42 (dk_at dksX1_load_1 10 rfl rfl)
theorem dX1_load_33 : decode cX1_load 33 = .ok (.aload_n 2, 1) := dk_44 (dk_at dksX1_load_1 11 rfl rfl)
theorem dX1_load_34 : decode cX1_load 34 = .ok (.getfield 72, 3) := dk_180 0 72 (dk_at dksX1_load_1 12 rfl rfl)
theorem dX1_load_37 : decode cX1_load 37 = .ok (.putfield 75, 3) := dk_181 0 75 (dk_at dksX1_load_1 15 rfl rfl)
theorem dX1_load_40 : decode cX1_load 40 = .ok (.aload_n 0, 1) := dk_42 (dk_at dksX1_load_1 18 rfl rfl)
theorem dX1_load_41 : decode cX1_load 41 = .ok (.aload_n 2, 1) := dk_44 (dk_at dksX1_load_1 19 rfl rfl)
theorem dX1_load_42 : decode cX1_load 42 = .ok (.getfield 78, 3) := dk_180 0 78 (dk_at dksX1_load_1 20 rfl rfl)
theorem dX1_load_45 : decode cX1_load 45 = .ok (.putfield 19, 3) := dk_181 0 19 (dk_at dksX1_load_2 0 rfl rfl)
theorem dX1_load_48 : decode cX1_load 48 = .ok (.new 81, 3) := dk_187 0 81 (dk_at dksX1_load_2 3 rfl rfl)
theorem dX1_load_51 : decode cX1_load 51 = .ok (.dup, 1) := dk_89 (dk_at dksX1_load_2 6 rfl rfl)
theorem dX1_load_52 : decode cX1_load 52 = .ok (.invokespecial 83, 3) := dk_183 0 83 (dk_at dksX1_load_2 7 rfl rfl)
theorem dX1_load_55 : decode cX1_load 55 = .ok (.athrow, 1) := dk_191 (dk_at dksX1_load_2 10 rfl rfl)
theorem dX1_load_56 : decode cX1_load 56 = .ok (.aload_n 0, 1) := dk_42 (dk_at dksX1_load_2 11 rfl rfl)
theorem dX1_load_57 : decode cX1_load 57 = .ok (.getfield 28, 3) := dk_180 0 28 (dk_at dksX1_load_2 12 rfl rfl)
theorem dX1_load_60 : decode cX1_load 60 = .ok (.invokeinterface 84 1, 5) := by decide +kernel
theorem dX1_load_65 : decode cX1_load 65 = .ok (.aload_n 0, 1) := dk_42 (dk_at dksX1_load_2 20 rfl rfl)
theorem dX1_load_66 : decode cX1_load 66 = .ok (.getfield 32, 3) := dk_180 0 32 (dk_at dksX1_load_2 21 rfl rfl)
theorem dX1_load_69 : decode cX1_load 69 = .ok (.aconst_null, 1) := dk_1 (dk_at dksX1_load_3 0 rfl rfl)
theorem dX1_load_70 : decode cX1_load 70 = .ok (.invokestatic 89, 3) := dk_184 0 89 (dk_at dksX1_load_3 1 rfl rfl)
theorem dX1_load_73 : decode cX1_load 73 = .ok (.aload_n 0, 1) := dk_42 (dk_at dksX1_load_3 4 rfl rfl)
theorem dX1_load_74 : decode cX1_load 74 = .ok (.getfield 66, 3) := dk_180 0 66 (dk_at dksX1_load_3 5 rfl rfl)
theorem dX1_load_77 : decode cX1_load 77 = .ok (.invokevirtual 3, 3) := dk_182 0 3 (dk_at dksX1_load_3 8 rfl rfl)
theorem dX1_load_80 : decode cX1_load 80 = .ok (.ireturn, 1) := dk_172 (dk_at dksX1_load_3 11 rfl rfl)
abbrev cX1_in : ByteArray := prog_1_method_1_code
def yX1_in : MethodName := ⟨RX1, "in", "(III)Z"⟩
def dkwX1_in_0 : List UInt8 := [27, 26, 163, 0, 12, 26, 28, 163, 0, 7, 4, 167, 0, 4, 3, 172]
abbrev dktX1_in_0 : List UInt8 := dkwX1_in_0 ++ []
theorem dksX1_in_0 : cX1_in.data.toList.drop 0 = dktX1_in_0 := by decide +kernel
theorem dX1_in_0 : decode cX1_in 0 = .ok (.iload_n 1, 1) := dk_27 (dk_at dksX1_in_0 0 rfl rfl)
theorem dX1_in_1 : decode cX1_in 1 = .ok (.iload_n 0, 1) := dk_26 (dk_at dksX1_in_0 1 rfl rfl)
theorem dX1_in_2 : decode cX1_in 2 = .ok (.if_icmp .gt 12, 3) := dk_163 0 12 (dk_at dksX1_in_0 2 rfl rfl)
theorem dX1_in_5 : decode cX1_in 5 = .ok (.iload_n 0, 1) := dk_26 (dk_at dksX1_in_0 5 rfl rfl)
theorem dX1_in_6 : decode cX1_in 6 = .ok (.iload_n 2, 1) := dk_28 (dk_at dksX1_in_0 6 rfl rfl)
theorem dX1_in_7 : decode cX1_in 7 = .ok (.if_icmp .gt 7, 3) := dk_163 0 7 (dk_at dksX1_in_0 7 rfl rfl)
theorem dX1_in_10 : decode cX1_in 10 = .ok (.iconst 1, 1) := dk_4 (dk_at dksX1_in_0 10 rfl rfl)
theorem dX1_in_11 : decode cX1_in 11 = .ok (.goto 4, 3) := dk_167 0 4 (dk_at dksX1_in_0 11 rfl rfl)
theorem dX1_in_14 : decode cX1_in 14 = .ok (.iconst 0, 1) := dk_3 (dk_at dksX1_in_0 14 rfl rfl)
theorem dX1_in_15 : decode cX1_in 15 = .ok (.ireturn, 1) := dk_172 (dk_at dksX1_in_0 15 rfl rfl)
abbrev cX1_checkIndex : ByteArray := prog_1_method_12_code
def yX1_checkIndex : MethodName := ⟨RX1, "checkIndex", "(Z)V"⟩
def dkwX1_checkIndex_0 : List UInt8 := [26, 154, 0, 11, 187, 0, 95, 89, 183, 0, 97, 191, 177]
abbrev dktX1_checkIndex_0 : List UInt8 := dkwX1_checkIndex_0 ++ []
theorem dksX1_checkIndex_0 : cX1_checkIndex.data.toList.drop 0 = dktX1_checkIndex_0 := by decide +kernel
theorem dX1_checkIndex_0 : decode cX1_checkIndex 0 = .ok (.iload_n 0, 1) := dk_26 (dk_at dksX1_checkIndex_0 0 rfl rfl)
theorem dX1_checkIndex_1 : decode cX1_checkIndex 1 = .ok (.ifCond .ne 11, 3) := dk_154 0 11 (dk_at dksX1_checkIndex_0 1 rfl rfl)
theorem dX1_checkIndex_4 : decode cX1_checkIndex 4 = .ok (.new 95, 3) := dk_187 0 95 (dk_at dksX1_checkIndex_0 4 rfl rfl)
theorem dX1_checkIndex_7 : decode cX1_checkIndex 7 = .ok (.dup, 1) := dk_89 (dk_at dksX1_checkIndex_0 7 rfl rfl)
theorem dX1_checkIndex_8 : decode cX1_checkIndex 8 = .ok (.invokespecial 97, 3) := dk_183 0 97 (dk_at dksX1_checkIndex_0 8 rfl rfl)
theorem dX1_checkIndex_11 : decode cX1_checkIndex 11 = .ok (.athrow, 1) := dk_191 (dk_at dksX1_checkIndex_0 11 rfl rfl)
theorem dX1_checkIndex_12 : decode cX1_checkIndex 12 = .ok (.return_, 1) := dk_177 (dk_at dksX1_checkIndex_0 12 rfl rfl)
abbrev cX1_least : ByteArray := prog_1_method_3_code
def yX1_least : MethodName := ⟨RX1, "least", "(I)I"⟩
def dkwX1_least_2 : List UInt8 := [6, 167, 0, 12, 8, 167, 0, 8, 4, 167, 0, 4, 3, 172]
abbrev dktX1_least_2 : List UInt8 := dkwX1_least_2 ++ []
def dkwX1_least_1 : List UInt8 := [170, 0, 0, 0, 0, 0, 63, 0, 0, 0, 0, 0, 0, 0, 8, 0, 0, 0, 51, 0, 0, 0, 55, 0, 0, 0, 59, 0, 0, 0, 63, 0, 0, 0, 63, 0, 0, 0, 59, 0, 0, 0, 59, 0, 0, 0, 63, 0, 0, 0, 59]
abbrev dktX1_least_1 : List UInt8 := dkwX1_least_1 ++ dktX1_least_2
def dkwX1_least_0 : List UInt8 := [26]
abbrev dktX1_least_0 : List UInt8 := dkwX1_least_0 ++ dktX1_least_1
theorem dksX1_least_0 : cX1_least.data.toList.drop 0 = dktX1_least_0 := by decide +kernel
theorem dksX1_least_1 : cX1_least.data.toList.drop 1 = dktX1_least_1 := dk_seg dksX1_least_0 1 rfl rfl
theorem dksX1_least_2 : cX1_least.data.toList.drop 52 = dktX1_least_2 := dk_seg dksX1_least_1 51 rfl rfl
theorem dX1_least_0 : decode cX1_least 0 = .ok (.iload_n 0, 1) := dk_26 (dk_at dksX1_least_0 0 rfl rfl)
theorem dX1_least_1 : decode cX1_least 1 = .ok (.tableswitch 63 0 8 #[51, 55, 59, 63, 63, 59, 59, 63, 59], 51) := by decide +kernel
theorem dX1_least_52 : decode cX1_least 52 = .ok (.iconst 3, 1) := dk_6 (dk_at dksX1_least_2 0 rfl rfl)
theorem dX1_least_53 : decode cX1_least 53 = .ok (.goto 12, 3) := dk_167 0 12 (dk_at dksX1_least_2 1 rfl rfl)
theorem dX1_least_56 : decode cX1_least 56 = .ok (.iconst 5, 1) := dk_8 (dk_at dksX1_least_2 4 rfl rfl)
theorem dX1_least_57 : decode cX1_least 57 = .ok (.goto 8, 3) := dk_167 0 8 (dk_at dksX1_least_2 5 rfl rfl)
theorem dX1_least_60 : decode cX1_least 60 = .ok (.iconst 1, 1) := dk_4 (dk_at dksX1_least_2 8 rfl rfl)
theorem dX1_least_61 : decode cX1_least 61 = .ok (.goto 4, 3) := dk_167 0 4 (dk_at dksX1_least_2 9 rfl rfl)
theorem dX1_least_64 : decode cX1_least 64 = .ok (.iconst 0, 1) := dk_3 (dk_at dksX1_least_2 12 rfl rfl)
theorem dX1_least_65 : decode cX1_least 65 = .ok (.ireturn, 1) := dk_172 (dk_at dksX1_least_2 13 rfl rfl)
abbrev cX1_most : ByteArray := prog_1_method_4_code
def yX1_most : MethodName := ⟨RX1, "most", "(LPingEye$Silo;I)I"⟩
def dkwX1_most_3 : List UInt8 := [167, 0, 14, 16, 99, 167, 0, 9, 16, 30, 167, 0, 4, 8, 172]
abbrev dktX1_most_3 : List UInt8 := dkwX1_most_3 ++ []
def dkwX1_most_2 : List UInt8 := [16, 9, 167, 0, 34, 16, 60, 167, 0, 29, 42, 182, 0, 3, 4, 100, 167, 0, 20, 17, 0, 200]
abbrev dktX1_most_2 : List UInt8 := dkwX1_most_2 ++ dktX1_most_3
def dkwX1_most_1 : List UInt8 := [170, 0, 0, 0, 0, 0, 82, 0, 0, 0, 0, 0, 0, 0, 7, 0, 0, 0, 47, 0, 0, 0, 52, 0, 0, 0, 47, 0, 0, 0, 57, 0, 0, 0, 57, 0, 0, 0, 66, 0, 0, 0, 72, 0, 0, 0, 77]
abbrev dktX1_most_1 : List UInt8 := dkwX1_most_1 ++ dktX1_most_2
def dkwX1_most_0 : List UInt8 := [27]
abbrev dktX1_most_0 : List UInt8 := dkwX1_most_0 ++ dktX1_most_1
theorem dksX1_most_0 : cX1_most.data.toList.drop 0 = dktX1_most_0 := by decide +kernel
theorem dksX1_most_1 : cX1_most.data.toList.drop 1 = dktX1_most_1 := dk_seg dksX1_most_0 1 rfl rfl
theorem dksX1_most_2 : cX1_most.data.toList.drop 48 = dktX1_most_2 := dk_seg dksX1_most_1 47 rfl rfl
theorem dksX1_most_3 : cX1_most.data.toList.drop 70 = dktX1_most_3 := dk_seg dksX1_most_2 22 rfl rfl
theorem dX1_most_0 : decode cX1_most 0 = .ok (.iload_n 1, 1) := dk_27 (dk_at dksX1_most_0 0 rfl rfl)
theorem dX1_most_1 : decode cX1_most 1 = .ok (.tableswitch 82 0 7 #[47, 52, 47, 57, 57, 66, 72, 77], 47) := by decide +kernel
theorem dX1_most_48 : decode cX1_most 48 = .ok (.bipush 9, 2) := dk_16 9 (dk_at dksX1_most_2 0 rfl rfl)
theorem dX1_most_50 : decode cX1_most 50 = .ok (.goto 34, 3) := dk_167 0 34 (dk_at dksX1_most_2 2 rfl rfl)
theorem dX1_most_53 : decode cX1_most 53 = .ok (.bipush 60, 2) := dk_16 60 (dk_at dksX1_most_2 5 rfl rfl)
theorem dX1_most_55 : decode cX1_most 55 = .ok (.goto 29, 3) := dk_167 0 29 (dk_at dksX1_most_2 7 rfl rfl)
theorem dX1_most_58 : decode cX1_most 58 = .ok (.aload_n 0, 1) := dk_42 (dk_at dksX1_most_2 10 rfl rfl)
theorem dX1_most_59 : decode cX1_most 59 = .ok (.invokevirtual 3, 3) := dk_182 0 3 (dk_at dksX1_most_2 11 rfl rfl)
theorem dX1_most_62 : decode cX1_most 62 = .ok (.iconst 1, 1) := dk_4 (dk_at dksX1_most_2 14 rfl rfl)
theorem dX1_most_63 : decode cX1_most 63 = .ok (.isub, 1) := dk_100 (dk_at dksX1_most_2 15 rfl rfl)
theorem dX1_most_64 : decode cX1_most 64 = .ok (.goto 20, 3) := dk_167 0 20 (dk_at dksX1_most_2 16 rfl rfl)
theorem dX1_most_67 : decode cX1_most 67 = .ok (.sipush 200, 3) := dk_17 0 200 (dk_at dksX1_most_2 19 rfl rfl)
theorem dX1_most_70 : decode cX1_most 70 = .ok (.goto 14, 3) := dk_167 0 14 (dk_at dksX1_most_3 0 rfl rfl)
theorem dX1_most_73 : decode cX1_most 73 = .ok (.bipush 99, 2) := dk_16 99 (dk_at dksX1_most_3 3 rfl rfl)
theorem dX1_most_75 : decode cX1_most 75 = .ok (.goto 9, 3) := dk_167 0 9 (dk_at dksX1_most_3 5 rfl rfl)
theorem dX1_most_78 : decode cX1_most 78 = .ok (.bipush 30, 2) := dk_16 30 (dk_at dksX1_most_3 8 rfl rfl)
theorem dX1_most_80 : decode cX1_most 80 = .ok (.goto 4, 3) := dk_167 0 4 (dk_at dksX1_most_3 10 rfl rfl)
theorem dX1_most_83 : decode cX1_most 83 = .ok (.iconst 5, 1) := dk_8 (dk_at dksX1_most_3 13 rfl rfl)
theorem dX1_most_84 : decode cX1_most 84 = .ok (.ireturn, 1) := dk_172 (dk_at dksX1_most_3 14 rfl rfl)
abbrev cX1_one : ByteArray := prog_1_method_2_code
def yX1_one : MethodName := ⟨RX1, "one", "(Z)I"⟩
def dkwX1_one_0 : List UInt8 := [26, 153, 0, 7, 4, 167, 0, 4, 3, 172]
abbrev dktX1_one_0 : List UInt8 := dkwX1_one_0 ++ []
theorem dksX1_one_0 : cX1_one.data.toList.drop 0 = dktX1_one_0 := by decide +kernel
theorem dX1_one_0 : decode cX1_one 0 = .ok (.iload_n 0, 1) := dk_26 (dk_at dksX1_one_0 0 rfl rfl)
theorem dX1_one_1 : decode cX1_one 1 = .ok (.ifCond .eq 7, 3) := dk_153 0 7 (dk_at dksX1_one_0 1 rfl rfl)
theorem dX1_one_4 : decode cX1_one 4 = .ok (.iconst 1, 1) := dk_4 (dk_at dksX1_one_0 4 rfl rfl)
theorem dX1_one_5 : decode cX1_one 5 = .ok (.goto 4, 3) := dk_167 0 4 (dk_at dksX1_one_0 5 rfl rfl)
theorem dX1_one_8 : decode cX1_one 8 = .ok (.iconst 0, 1) := dk_3 (dk_at dksX1_one_0 8 rfl rfl)
theorem dX1_one_9 : decode cX1_one 9 = .ok (.ireturn, 1) := dk_172 (dk_at dksX1_one_0 9 rfl rfl)
abbrev cX1_number : ByteArray := prog_1_method_18_code
def yX1_number : MethodName := ⟨RX1, "number", "(I)I"⟩
def dkwX1_number_0 : List UInt8 := [42, 182, 0, 101, 77, 27, 3, 16, 8, 184, 0, 49, 184, 0, 105, 44, 180, 0, 108, 27, 46, 172]
abbrev dktX1_number_0 : List UInt8 := dkwX1_number_0 ++ []
theorem dksX1_number_0 : cX1_number.data.toList.drop 0 = dktX1_number_0 := by decide +kernel
theorem dX1_number_0 : decode cX1_number 0 = .ok (.aload_n 0, 1) := dk_42 (dk_at dksX1_number_0 0 rfl rfl)
theorem dX1_number_1 : decode cX1_number 1 = .ok (.invokevirtual 101, 3) := dk_182 0 101 (dk_at dksX1_number_0 1 rfl rfl)
theorem dX1_number_4 : decode cX1_number 4 = .ok (.astore_n 2, 1) := dk_77 (dk_at dksX1_number_0 4 rfl rfl)
theorem dX1_number_5 : decode cX1_number 5 = .ok (.iload_n 1, 1) := dk_27 (dk_at dksX1_number_0 5 rfl rfl)
theorem dX1_number_6 : decode cX1_number 6 = .ok (.iconst 0, 1) := dk_3 (dk_at dksX1_number_0 6 rfl rfl)
theorem dX1_number_7 : decode cX1_number 7 = .ok (.bipush 8, 2) := dk_16 8 (dk_at dksX1_number_0 7 rfl rfl)
theorem dX1_number_9 : decode cX1_number 9 = .ok (.invokestatic 49, 3) := dk_184 0 49 (dk_at dksX1_number_0 9 rfl rfl)
theorem dX1_number_12 : decode cX1_number 12 = .ok (.invokestatic 105, 3) := dk_184 0 105 (dk_at dksX1_number_0 12 rfl rfl)
theorem dX1_number_15 : decode cX1_number 15 = .ok (.aload_n 2, 1) := dk_44 (dk_at dksX1_number_0 15 rfl rfl)
theorem dX1_number_16 : decode cX1_number 16 = .ok (.getfield 108, 3) := dk_180 0 108 (dk_at dksX1_number_0 16 rfl rfl)
theorem dX1_number_19 : decode cX1_number 19 = .ok (.iload_n 1, 1) := dk_27 (dk_at dksX1_number_0 19 rfl rfl)
theorem dX1_number_20 : decode cX1_number 20 = .ok (.iaload, 1) := dk_46 (dk_at dksX1_number_0 20 rfl rfl)
theorem dX1_number_21 : decode cX1_number 21 = .ok (.ireturn, 1) := dk_172 (dk_at dksX1_number_0 21 rfl rfl)
abbrev cX1_silo : ByteArray := prog_1_method_14_code
def yX1_silo : MethodName := ⟨RX1, "silo", "()LPingEye$Silo;"⟩
def dkwX1_silo_0 : List UInt8 := [42, 180, 0, 66, 199, 0, 11, 187, 0, 98, 89, 183, 0, 100, 191, 42, 180, 0, 66, 176]
abbrev dktX1_silo_0 : List UInt8 := dkwX1_silo_0 ++ []
theorem dksX1_silo_0 : cX1_silo.data.toList.drop 0 = dktX1_silo_0 := by decide +kernel
theorem dX1_silo_0 : decode cX1_silo 0 = .ok (.aload_n 0, 1) := dk_42 (dk_at dksX1_silo_0 0 rfl rfl)
theorem dX1_silo_1 : decode cX1_silo 1 = .ok (.getfield 66, 3) := dk_180 0 66 (dk_at dksX1_silo_0 1 rfl rfl)
theorem dX1_silo_4 : decode cX1_silo 4 = .ok (.ifnonnull 11, 3) := dk_199 0 11 (dk_at dksX1_silo_0 4 rfl rfl)
theorem dX1_silo_7 : decode cX1_silo 7 = .ok (.new 98, 3) := dk_187 0 98 (dk_at dksX1_silo_0 7 rfl rfl)
theorem dX1_silo_10 : decode cX1_silo 10 = .ok (.dup, 1) := dk_89 (dk_at dksX1_silo_0 10 rfl rfl)
theorem dX1_silo_11 : decode cX1_silo 11 = .ok (.invokespecial 100, 3) := dk_183 0 100 (dk_at dksX1_silo_0 11 rfl rfl)
theorem dX1_silo_14 : decode cX1_silo 14 = .ok (.athrow, 1) := dk_191 (dk_at dksX1_silo_0 14 rfl rfl)
theorem dX1_silo_15 : decode cX1_silo 15 = .ok (.aload_n 0, 1) := dk_42 (dk_at dksX1_silo_0 15 rfl rfl)
theorem dX1_silo_16 : decode cX1_silo 16 = .ok (.getfield 66, 3) := dk_180 0 66 (dk_at dksX1_silo_0 16 rfl rfl)
theorem dX1_silo_19 : decode cX1_silo 19 = .ok (.areturn, 1) := dk_176 (dk_at dksX1_silo_0 19 rfl rfl)
abbrev cX1_checkRange : ByteArray := prog_1_method_13_code
def yX1_checkRange : MethodName := ⟨RX1, "checkRange", "(Z)V"⟩
def dkwX1_checkRange_0 : List UInt8 := [26, 154, 0, 11, 187, 0, 81, 89, 183, 0, 83, 191, 177]
abbrev dktX1_checkRange_0 : List UInt8 := dkwX1_checkRange_0 ++ []
theorem dksX1_checkRange_0 : cX1_checkRange.data.toList.drop 0 = dktX1_checkRange_0 := by decide +kernel
theorem dX1_checkRange_0 : decode cX1_checkRange 0 = .ok (.iload_n 0, 1) := dk_26 (dk_at dksX1_checkRange_0 0 rfl rfl)
theorem dX1_checkRange_1 : decode cX1_checkRange 1 = .ok (.ifCond .ne 11, 3) := dk_154 0 11 (dk_at dksX1_checkRange_0 1 rfl rfl)
theorem dX1_checkRange_4 : decode cX1_checkRange 4 = .ok (.new 81, 3) := dk_187 0 81 (dk_at dksX1_checkRange_0 4 rfl rfl)
theorem dX1_checkRange_7 : decode cX1_checkRange 7 = .ok (.dup, 1) := dk_89 (dk_at dksX1_checkRange_0 7 rfl rfl)
theorem dX1_checkRange_8 : decode cX1_checkRange 8 = .ok (.invokespecial 83, 3) := dk_183 0 83 (dk_at dksX1_checkRange_0 8 rfl rfl)
theorem dX1_checkRange_11 : decode cX1_checkRange 11 = .ok (.athrow, 1) := dk_191 (dk_at dksX1_checkRange_0 11 rfl rfl)
theorem dX1_checkRange_12 : decode cX1_checkRange 12 = .ok (.return_, 1) := dk_177 (dk_at dksX1_checkRange_0 12 rfl rfl)
abbrev cX1_count : ByteArray := prog_1_method_20_code
def yX1_count : MethodName := ⟨RX1, "count", "(I)I"⟩
def dkwX1_count_7 : List UInt8 := [180, 0, 172, 167, 0, 11, 187, 0, 81, 89, 183, 0, 83, 191, 172]
abbrev dktX1_count_7 : List UInt8 := dkwX1_count_7 ++ []
def dkwX1_count_6 : List UInt8 := [160, 0, 7, 4, 167, 0, 4, 3, 182, 0, 166, 167, 0, 25, 44, 180, 0, 169, 167, 0, 18, 44]
abbrev dktX1_count_6 : List UInt8 := dkwX1_count_6 ++ dktX1_count_7
def dkwX1_count_5 : List UInt8 := [180, 0, 157, 167, 0, 57, 44, 180, 0, 160, 167, 0, 50, 44, 180, 0, 163, 167, 0, 43, 42, 27, 16, 13]
abbrev dktX1_count_5 : List UInt8 := dkwX1_count_5 ++ dktX1_count_6
def dkwX1_count_4 : List UInt8 := [44, 180, 0, 148, 167, 0, 78, 44, 180, 0, 151, 167, 0, 71, 44, 180, 0, 154, 167, 0, 64, 44]
abbrev dktX1_count_4 : List UInt8 := dkwX1_count_4 ++ dktX1_count_5
def dkwX1_count_3 : List UInt8 := [167, 0, 106, 44, 180, 0, 139, 167, 0, 99, 44, 180, 0, 142, 167, 0, 92, 44, 180, 0, 145, 167, 0, 85]
abbrev dktX1_count_3 : List UInt8 := dkwX1_count_3 ++ dktX1_count_4
def dkwX1_count_2 : List UInt8 := [44, 182, 0, 124, 167, 0, 125, 44, 180, 0, 127, 167, 0, 118, 44, 180, 0, 130, 185, 0, 134, 1, 0]
abbrev dktX1_count_2 : List UInt8 := dkwX1_count_2 ++ dktX1_count_3
def dkwX1_count_1 : List UInt8 := [170, 0, 0, 0, 0, 199, 0, 0, 0, 0, 0, 0, 0, 15, 0, 0, 0, 78, 0, 0, 0, 85, 0, 0, 0, 92, 0, 0, 0, 104, 0, 0, 0, 111, 0, 0, 0, 118, 0, 0, 0, 125, 0, 0, 0, 132, 0, 0, 0, 139, 0, 0, 0, 146, 0, 0, 0, 153, 0, 0, 0, 160, 0, 0, 0, 167, 0, 0, 0, 167, 0, 0, 0, 185, 0, 0, 0, 192]
abbrev dktX1_count_1 : List UInt8 := dkwX1_count_1 ++ dktX1_count_2
def dkwX1_count_0 : List UInt8 := [42, 182, 0, 101, 77, 27]
abbrev dktX1_count_0 : List UInt8 := dkwX1_count_0 ++ dktX1_count_1
theorem dksX1_count_0 : cX1_count.data.toList.drop 0 = dktX1_count_0 := by decide +kernel
theorem dksX1_count_1 : cX1_count.data.toList.drop 6 = dktX1_count_1 := dk_seg dksX1_count_0 6 rfl rfl
theorem dksX1_count_2 : cX1_count.data.toList.drop 84 = dktX1_count_2 := dk_seg dksX1_count_1 78 rfl rfl
theorem dksX1_count_3 : cX1_count.data.toList.drop 107 = dktX1_count_3 := dk_seg dksX1_count_2 23 rfl rfl
theorem dksX1_count_4 : cX1_count.data.toList.drop 131 = dktX1_count_4 := dk_seg dksX1_count_3 24 rfl rfl
theorem dksX1_count_5 : cX1_count.data.toList.drop 153 = dktX1_count_5 := dk_seg dksX1_count_4 22 rfl rfl
theorem dksX1_count_6 : cX1_count.data.toList.drop 177 = dktX1_count_6 := dk_seg dksX1_count_5 24 rfl rfl
theorem dksX1_count_7 : cX1_count.data.toList.drop 199 = dktX1_count_7 := dk_seg dksX1_count_6 22 rfl rfl
theorem dX1_count_0 : decode cX1_count 0 = .ok (.aload_n 0, 1) := dk_42 (dk_at dksX1_count_0 0 rfl rfl)
theorem dX1_count_1 : decode cX1_count 1 = .ok (.invokevirtual 101, 3) := dk_182 0 101 (dk_at dksX1_count_0 1 rfl rfl)
theorem dX1_count_4 : decode cX1_count 4 = .ok (.astore_n 2, 1) := dk_77 (dk_at dksX1_count_0 4 rfl rfl)
theorem dX1_count_5 : decode cX1_count 5 = .ok (.iload_n 1, 1) := dk_27 (dk_at dksX1_count_0 5 rfl rfl)
theorem dX1_count_6 : decode cX1_count 6 = .ok (.tableswitch 199 0 15 #[78, 85, 92, 104, 111, 118, 125, 132, 139, 146, 153, 160, 167, 167, 185, 192], 78) := by decide +kernel
theorem dX1_count_84 : decode cX1_count 84 = .ok (.aload_n 2, 1) := dk_44 (dk_at dksX1_count_2 0 rfl rfl)
theorem dX1_count_85 : decode cX1_count 85 = .ok (.invokevirtual 124, 3) := dk_182 0 124 (dk_at dksX1_count_2 1 rfl rfl)
theorem dX1_count_88 : decode cX1_count 88 = .ok (.goto 125, 3) := dk_167 0 125 (dk_at dksX1_count_2 4 rfl rfl)
theorem dX1_count_91 : decode cX1_count 91 = .ok (.aload_n 2, 1) := dk_44 (dk_at dksX1_count_2 7 rfl rfl)
theorem dX1_count_92 : decode cX1_count 92 = .ok (.getfield 127, 3) := dk_180 0 127 (dk_at dksX1_count_2 8 rfl rfl)
theorem dX1_count_95 : decode cX1_count 95 = .ok (.goto 118, 3) := dk_167 0 118 (dk_at dksX1_count_2 11 rfl rfl)
theorem dX1_count_98 : decode cX1_count 98 = .ok (.aload_n 2, 1) := dk_44 (dk_at dksX1_count_2 14 rfl rfl)
theorem dX1_count_99 : decode cX1_count 99 = .ok (.getfield 130, 3) := dk_180 0 130 (dk_at dksX1_count_2 15 rfl rfl)
theorem dX1_count_102 : decode cX1_count 102 = .ok (.invokeinterface 134 1, 5) := by decide +kernel
theorem dX1_count_107 : decode cX1_count 107 = .ok (.goto 106, 3) := dk_167 0 106 (dk_at dksX1_count_3 0 rfl rfl)
theorem dX1_count_110 : decode cX1_count 110 = .ok (.aload_n 2, 1) := dk_44 (dk_at dksX1_count_3 3 rfl rfl)
theorem dX1_count_111 : decode cX1_count 111 = .ok (.getfield 139, 3) := dk_180 0 139 (dk_at dksX1_count_3 4 rfl rfl)
theorem dX1_count_114 : decode cX1_count 114 = .ok (.goto 99, 3) := dk_167 0 99 (dk_at dksX1_count_3 7 rfl rfl)
theorem dX1_count_117 : decode cX1_count 117 = .ok (.aload_n 2, 1) := dk_44 (dk_at dksX1_count_3 10 rfl rfl)
theorem dX1_count_118 : decode cX1_count 118 = .ok (.getfield 142, 3) := dk_180 0 142 (dk_at dksX1_count_3 11 rfl rfl)
theorem dX1_count_121 : decode cX1_count 121 = .ok (.goto 92, 3) := dk_167 0 92 (dk_at dksX1_count_3 14 rfl rfl)
theorem dX1_count_124 : decode cX1_count 124 = .ok (.aload_n 2, 1) := dk_44 (dk_at dksX1_count_3 17 rfl rfl)
theorem dX1_count_125 : decode cX1_count 125 = .ok (.getfield 145, 3) := dk_180 0 145 (dk_at dksX1_count_3 18 rfl rfl)
theorem dX1_count_128 : decode cX1_count 128 = .ok (.goto 85, 3) := dk_167 0 85 (dk_at dksX1_count_3 21 rfl rfl)
theorem dX1_count_131 : decode cX1_count 131 = .ok (.aload_n 2, 1) := dk_44 (dk_at dksX1_count_4 0 rfl rfl)
theorem dX1_count_132 : decode cX1_count 132 = .ok (.getfield 148, 3) := dk_180 0 148 (dk_at dksX1_count_4 1 rfl rfl)
theorem dX1_count_135 : decode cX1_count 135 = .ok (.goto 78, 3) := dk_167 0 78 (dk_at dksX1_count_4 4 rfl rfl)
theorem dX1_count_138 : decode cX1_count 138 = .ok (.aload_n 2, 1) := dk_44 (dk_at dksX1_count_4 7 rfl rfl)
theorem dX1_count_139 : decode cX1_count 139 = .ok (.getfield 151, 3) := dk_180 0 151 (dk_at dksX1_count_4 8 rfl rfl)
theorem dX1_count_142 : decode cX1_count 142 = .ok (.goto 71, 3) := dk_167 0 71 (dk_at dksX1_count_4 11 rfl rfl)
theorem dX1_count_145 : decode cX1_count 145 = .ok (.aload_n 2, 1) := dk_44 (dk_at dksX1_count_4 14 rfl rfl)
theorem dX1_count_146 : decode cX1_count 146 = .ok (.getfield 154, 3) := dk_180 0 154 (dk_at dksX1_count_4 15 rfl rfl)
theorem dX1_count_149 : decode cX1_count 149 = .ok (.goto 64, 3) := dk_167 0 64 (dk_at dksX1_count_4 18 rfl rfl)
theorem dX1_count_152 : decode cX1_count 152 = .ok (.aload_n 2, 1) := dk_44 (dk_at dksX1_count_4 21 rfl rfl)
theorem dX1_count_153 : decode cX1_count 153 = .ok (.getfield 157, 3) := dk_180 0 157 (dk_at dksX1_count_5 0 rfl rfl)
theorem dX1_count_156 : decode cX1_count 156 = .ok (.goto 57, 3) := dk_167 0 57 (dk_at dksX1_count_5 3 rfl rfl)
theorem dX1_count_159 : decode cX1_count 159 = .ok (.aload_n 2, 1) := dk_44 (dk_at dksX1_count_5 6 rfl rfl)
theorem dX1_count_160 : decode cX1_count 160 = .ok (.getfield 160, 3) := dk_180 0 160 (dk_at dksX1_count_5 7 rfl rfl)
theorem dX1_count_163 : decode cX1_count 163 = .ok (.goto 50, 3) := dk_167 0 50 (dk_at dksX1_count_5 10 rfl rfl)
theorem dX1_count_166 : decode cX1_count 166 = .ok (.aload_n 2, 1) := dk_44 (dk_at dksX1_count_5 13 rfl rfl)
theorem dX1_count_167 : decode cX1_count 167 = .ok (.getfield 163, 3) := dk_180 0 163 (dk_at dksX1_count_5 14 rfl rfl)
theorem dX1_count_170 : decode cX1_count 170 = .ok (.goto 43, 3) := dk_167 0 43 (dk_at dksX1_count_5 17 rfl rfl)
theorem dX1_count_173 : decode cX1_count 173 = .ok (.aload_n 0, 1) := dk_42 (dk_at dksX1_count_5 20 rfl rfl)
theorem dX1_count_174 : decode cX1_count 174 = .ok (.iload_n 1, 1) := dk_27 (dk_at dksX1_count_5 21 rfl rfl)
theorem dX1_count_175 : decode cX1_count 175 = .ok (.bipush 13, 2) := dk_16 13 (dk_at dksX1_count_5 22 rfl rfl)
theorem dX1_count_177 : decode cX1_count 177 = .ok (.if_icmp .ne 7, 3) := dk_160 0 7 (dk_at dksX1_count_6 0 rfl rfl)
theorem dX1_count_180 : decode cX1_count 180 = .ok (.iconst 1, 1) := dk_4 (dk_at dksX1_count_6 3 rfl rfl)
theorem dX1_count_181 : decode cX1_count 181 = .ok (.goto 4, 3) := dk_167 0 4 (dk_at dksX1_count_6 4 rfl rfl)
theorem dX1_count_184 : decode cX1_count 184 = .ok (.iconst 0, 1) := dk_3 (dk_at dksX1_count_6 7 rfl rfl)
theorem dX1_count_185 : decode cX1_count 185 = .ok (.invokevirtual 166, 3) := dk_182 0 166 (dk_at dksX1_count_6 8 rfl rfl)
theorem dX1_count_188 : decode cX1_count 188 = .ok (.goto 25, 3) := dk_167 0 25 (dk_at dksX1_count_6 11 rfl rfl)
theorem dX1_count_191 : decode cX1_count 191 = .ok (.aload_n 2, 1) := dk_44 (dk_at dksX1_count_6 14 rfl rfl)
theorem dX1_count_192 : decode cX1_count 192 = .ok (.getfield 169, 3) := dk_180 0 169 (dk_at dksX1_count_6 15 rfl rfl)
theorem dX1_count_195 : decode cX1_count 195 = .ok (.goto 18, 3) := dk_167 0 18 (dk_at dksX1_count_6 18 rfl rfl)
theorem dX1_count_198 : decode cX1_count 198 = .ok (.aload_n 2, 1) := dk_44 (dk_at dksX1_count_6 21 rfl rfl)
theorem dX1_count_199 : decode cX1_count 199 = .ok (.getfield 172, 3) := dk_180 0 172 (dk_at dksX1_count_7 0 rfl rfl)
theorem dX1_count_202 : decode cX1_count 202 = .ok (.goto 11, 3) := dk_167 0 11 (dk_at dksX1_count_7 3 rfl rfl)
theorem dX1_count_205 : decode cX1_count 205 = .ok (.new 81, 3) := dk_187 0 81 (dk_at dksX1_count_7 6 rfl rfl)
theorem dX1_count_208 : decode cX1_count 208 = .ok (.dup, 1) := dk_89 (dk_at dksX1_count_7 9 rfl rfl)
theorem dX1_count_209 : decode cX1_count 209 = .ok (.invokespecial 83, 3) := dk_183 0 83 (dk_at dksX1_count_7 10 rfl rfl)
theorem dX1_count_212 : decode cX1_count 212 = .ok (.athrow, 1) := dk_191 (dk_at dksX1_count_7 13 rfl rfl)
theorem dX1_count_213 : decode cX1_count 213 = .ok (.ireturn, 1) := dk_172 (dk_at dksX1_count_7 14 rfl rfl)
abbrev cX1_stuckMany : ByteArray := prog_1_method_19_code
def yX1_stuckMany : MethodName := ⟨RX1, "stuckMany", "(Z)I"⟩
def dkwX1_stuckMany_2 : List UInt8 := [167, 255, 212, 28, 172]
abbrev dktX1_stuckMany_2 : List UInt8 := dkwX1_stuckMany_2 ++ []
def dkwX1_stuckMany_1 : List UInt8 := [29, 182, 0, 112, 167, 0, 12, 42, 180, 0, 66, 180, 0, 116, 29, 51, 184, 0, 120, 96, 61, 132, 3, 1]
abbrev dktX1_stuckMany_1 : List UInt8 := dkwX1_stuckMany_1 ++ dktX1_stuckMany_2
def dkwX1_stuckMany_0 : List UInt8 := [3, 61, 3, 62, 29, 42, 180, 0, 66, 182, 0, 3, 162, 0, 39, 28, 27, 153, 0, 14, 42, 180, 0, 66]
abbrev dktX1_stuckMany_0 : List UInt8 := dkwX1_stuckMany_0 ++ dktX1_stuckMany_1
theorem dksX1_stuckMany_0 : cX1_stuckMany.data.toList.drop 0 = dktX1_stuckMany_0 := by decide +kernel
theorem dksX1_stuckMany_1 : cX1_stuckMany.data.toList.drop 24 = dktX1_stuckMany_1 := dk_seg dksX1_stuckMany_0 24 rfl rfl
theorem dksX1_stuckMany_2 : cX1_stuckMany.data.toList.drop 48 = dktX1_stuckMany_2 := dk_seg dksX1_stuckMany_1 24 rfl rfl
theorem dX1_stuckMany_0 : decode cX1_stuckMany 0 = .ok (.iconst 0, 1) := dk_3 (dk_at dksX1_stuckMany_0 0 rfl rfl)
theorem dX1_stuckMany_1 : decode cX1_stuckMany 1 = .ok (.istore_n 2, 1) := dk_61 (dk_at dksX1_stuckMany_0 1 rfl rfl)
theorem dX1_stuckMany_2 : decode cX1_stuckMany 2 = .ok (.iconst 0, 1) := dk_3 (dk_at dksX1_stuckMany_0 2 rfl rfl)
theorem dX1_stuckMany_3 : decode cX1_stuckMany 3 = .ok (.istore_n 3, 1) := dk_62 (dk_at dksX1_stuckMany_0 3 rfl rfl)
theorem dX1_stuckMany_4 : decode cX1_stuckMany 4 = .ok (.iload_n 3, 1) := dk_29 (dk_at dksX1_stuckMany_0 4 rfl rfl)
theorem dX1_stuckMany_5 : decode cX1_stuckMany 5 = .ok (.aload_n 0, 1) := dk_42 (dk_at dksX1_stuckMany_0 5 rfl rfl)
theorem dX1_stuckMany_6 : decode cX1_stuckMany 6 = .ok (.getfield 66, 3) := dk_180 0 66 (dk_at dksX1_stuckMany_0 6 rfl rfl)
theorem dX1_stuckMany_9 : decode cX1_stuckMany 9 = .ok (.invokevirtual 3, 3) := dk_182 0 3 (dk_at dksX1_stuckMany_0 9 rfl rfl)
theorem dX1_stuckMany_12 : decode cX1_stuckMany 12 = .ok (.if_icmp .ge 39, 3) := dk_162 0 39 (dk_at dksX1_stuckMany_0 12 rfl rfl)
theorem dX1_stuckMany_15 : decode cX1_stuckMany 15 = .ok (.iload_n 2, 1) := dk_28 (dk_at dksX1_stuckMany_0 15 rfl rfl)
theorem dX1_stuckMany_16 : decode cX1_stuckMany 16 = .ok (.iload_n 1, 1) := dk_27 (dk_at dksX1_stuckMany_0 16 rfl rfl)
theorem dX1_stuckMany_17 : decode cX1_stuckMany 17 = .ok (.ifCond .eq 14, 3) := dk_153 0 14 (dk_at dksX1_stuckMany_0 17 rfl rfl)
theorem dX1_stuckMany_20 : decode cX1_stuckMany 20 = .ok (.aload_n 0, 1) := dk_42 (dk_at dksX1_stuckMany_0 20 rfl rfl)
theorem dX1_stuckMany_21 : decode cX1_stuckMany 21 = .ok (.getfield 66, 3) := dk_180 0 66 (dk_at dksX1_stuckMany_0 21 rfl rfl)
theorem dX1_stuckMany_24 : decode cX1_stuckMany 24 = .ok (.iload_n 3, 1) := dk_29 (dk_at dksX1_stuckMany_1 0 rfl rfl)
theorem dX1_stuckMany_25 : decode cX1_stuckMany 25 = .ok (.invokevirtual 112, 3) := dk_182 0 112 (dk_at dksX1_stuckMany_1 1 rfl rfl)
theorem dX1_stuckMany_28 : decode cX1_stuckMany 28 = .ok (.goto 12, 3) := dk_167 0 12 (dk_at dksX1_stuckMany_1 4 rfl rfl)
theorem dX1_stuckMany_31 : decode cX1_stuckMany 31 = .ok (.aload_n 0, 1) := dk_42 (dk_at dksX1_stuckMany_1 7 rfl rfl)
theorem dX1_stuckMany_32 : decode cX1_stuckMany 32 = .ok (.getfield 66, 3) := dk_180 0 66 (dk_at dksX1_stuckMany_1 8 rfl rfl)
theorem dX1_stuckMany_35 : decode cX1_stuckMany 35 = .ok (.getfield 116, 3) := dk_180 0 116 (dk_at dksX1_stuckMany_1 11 rfl rfl)
theorem dX1_stuckMany_38 : decode cX1_stuckMany 38 = .ok (.iload_n 3, 1) := dk_29 (dk_at dksX1_stuckMany_1 14 rfl rfl)
theorem dX1_stuckMany_39 : decode cX1_stuckMany 39 = .ok (.baload, 1) := dk_51 (dk_at dksX1_stuckMany_1 15 rfl rfl)
theorem dX1_stuckMany_40 : decode cX1_stuckMany 40 = .ok (.invokestatic 120, 3) := dk_184 0 120 (dk_at dksX1_stuckMany_1 16 rfl rfl)
theorem dX1_stuckMany_43 : decode cX1_stuckMany 43 = .ok (.iadd, 1) := dk_96 (dk_at dksX1_stuckMany_1 19 rfl rfl)
theorem dX1_stuckMany_44 : decode cX1_stuckMany 44 = .ok (.istore_n 2, 1) := dk_61 (dk_at dksX1_stuckMany_1 20 rfl rfl)
theorem dX1_stuckMany_45 : decode cX1_stuckMany 45 = .ok (.iinc 3 1, 3) := dk_132 3 1 (dk_at dksX1_stuckMany_1 21 rfl rfl)
theorem dX1_stuckMany_48 : decode cX1_stuckMany 48 = .ok (.goto (-44), 3) := dk_167 255 212 (dk_at dksX1_stuckMany_2 0 rfl rfl)
theorem dX1_stuckMany_51 : decode cX1_stuckMany 51 = .ok (.iload_n 2, 1) := dk_28 (dk_at dksX1_stuckMany_2 3 rfl rfl)
theorem dX1_stuckMany_52 : decode cX1_stuckMany 52 = .ok (.ireturn, 1) := dk_172 (dk_at dksX1_stuckMany_2 4 rfl rfl)
abbrev cX1_height : ByteArray := prog_1_method_21_code
def yX1_height : MethodName := ⟨RX1, "height", "(I)I"⟩
def dkwX1_height_0 : List UInt8 := [42, 27, 182, 0, 175, 180, 0, 179, 27, 46, 172]
abbrev dktX1_height_0 : List UInt8 := dkwX1_height_0 ++ []
theorem dksX1_height_0 : cX1_height.data.toList.drop 0 = dktX1_height_0 := by decide +kernel
theorem dX1_height_0 : decode cX1_height 0 = .ok (.aload_n 0, 1) := dk_42 (dk_at dksX1_height_0 0 rfl rfl)
theorem dX1_height_1 : decode cX1_height 1 = .ok (.iload_n 1, 1) := dk_27 (dk_at dksX1_height_0 1 rfl rfl)
theorem dX1_height_2 : decode cX1_height 2 = .ok (.invokevirtual 175, 3) := dk_182 0 175 (dk_at dksX1_height_0 2 rfl rfl)
theorem dX1_height_5 : decode cX1_height 5 = .ok (.getfield 179, 3) := dk_180 0 179 (dk_at dksX1_height_0 5 rfl rfl)
theorem dX1_height_8 : decode cX1_height 8 = .ok (.iload_n 1, 1) := dk_27 (dk_at dksX1_height_0 8 rfl rfl)
theorem dX1_height_9 : decode cX1_height 9 = .ok (.iaload, 1) := dk_46 (dk_at dksX1_height_0 9 rfl rfl)
theorem dX1_height_10 : decode cX1_height 10 = .ok (.ireturn, 1) := dk_172 (dk_at dksX1_height_0 10 rfl rfl)
abbrev cX1_withColumn : ByteArray := prog_1_method_15_code
def yX1_withColumn : MethodName := ⟨RX1, "withColumn", "(I)LPingEye$Silo;"⟩
def dkwX1_withColumn_0 : List UInt8 := [42, 182, 0, 101, 77, 27, 3, 44, 182, 0, 3, 4, 100, 184, 0, 49, 184, 0, 53, 44, 176]
abbrev dktX1_withColumn_0 : List UInt8 := dkwX1_withColumn_0 ++ []
theorem dksX1_withColumn_0 : cX1_withColumn.data.toList.drop 0 = dktX1_withColumn_0 := by decide +kernel
theorem dX1_withColumn_0 : decode cX1_withColumn 0 = .ok (.aload_n 0, 1) := dk_42 (dk_at dksX1_withColumn_0 0 rfl rfl)
theorem dX1_withColumn_1 : decode cX1_withColumn 1 = .ok (.invokevirtual 101, 3) := dk_182 0 101 (dk_at dksX1_withColumn_0 1 rfl rfl)
theorem dX1_withColumn_4 : decode cX1_withColumn 4 = .ok (.astore_n 2, 1) := dk_77 (dk_at dksX1_withColumn_0 4 rfl rfl)
theorem dX1_withColumn_5 : decode cX1_withColumn 5 = .ok (.iload_n 1, 1) := dk_27 (dk_at dksX1_withColumn_0 5 rfl rfl)
theorem dX1_withColumn_6 : decode cX1_withColumn 6 = .ok (.iconst 0, 1) := dk_3 (dk_at dksX1_withColumn_0 6 rfl rfl)
theorem dX1_withColumn_7 : decode cX1_withColumn 7 = .ok (.aload_n 2, 1) := dk_44 (dk_at dksX1_withColumn_0 7 rfl rfl)
theorem dX1_withColumn_8 : decode cX1_withColumn 8 = .ok (.invokevirtual 3, 3) := dk_182 0 3 (dk_at dksX1_withColumn_0 8 rfl rfl)
theorem dX1_withColumn_11 : decode cX1_withColumn 11 = .ok (.iconst 1, 1) := dk_4 (dk_at dksX1_withColumn_0 11 rfl rfl)
theorem dX1_withColumn_12 : decode cX1_withColumn 12 = .ok (.isub, 1) := dk_100 (dk_at dksX1_withColumn_0 12 rfl rfl)
theorem dX1_withColumn_13 : decode cX1_withColumn 13 = .ok (.invokestatic 49, 3) := dk_184 0 49 (dk_at dksX1_withColumn_0 13 rfl rfl)
theorem dX1_withColumn_16 : decode cX1_withColumn 16 = .ok (.invokestatic 53, 3) := dk_184 0 53 (dk_at dksX1_withColumn_0 16 rfl rfl)
theorem dX1_withColumn_19 : decode cX1_withColumn 19 = .ok (.aload_n 2, 1) := dk_44 (dk_at dksX1_withColumn_0 19 rfl rfl)
theorem dX1_withColumn_20 : decode cX1_withColumn 20 = .ok (.areturn, 1) := dk_176 (dk_at dksX1_withColumn_0 20 rfl rfl)
abbrev cX1_isStuck : ByteArray := prog_1_method_22_code
def yX1_isStuck : MethodName := ⟨RX1, "isStuck", "(I)Z"⟩
def dkwX1_isStuck_0 : List UInt8 := [42, 27, 182, 0, 175, 180, 0, 116, 27, 51, 172]
abbrev dktX1_isStuck_0 : List UInt8 := dkwX1_isStuck_0 ++ []
theorem dksX1_isStuck_0 : cX1_isStuck.data.toList.drop 0 = dktX1_isStuck_0 := by decide +kernel
theorem dX1_isStuck_0 : decode cX1_isStuck 0 = .ok (.aload_n 0, 1) := dk_42 (dk_at dksX1_isStuck_0 0 rfl rfl)
theorem dX1_isStuck_1 : decode cX1_isStuck 1 = .ok (.iload_n 1, 1) := dk_27 (dk_at dksX1_isStuck_0 1 rfl rfl)
theorem dX1_isStuck_2 : decode cX1_isStuck 2 = .ok (.invokevirtual 175, 3) := dk_182 0 175 (dk_at dksX1_isStuck_0 2 rfl rfl)
theorem dX1_isStuck_5 : decode cX1_isStuck 5 = .ok (.getfield 116, 3) := dk_180 0 116 (dk_at dksX1_isStuck_0 5 rfl rfl)
theorem dX1_isStuck_8 : decode cX1_isStuck 8 = .ok (.iload_n 1, 1) := dk_27 (dk_at dksX1_isStuck_0 8 rfl rfl)
theorem dX1_isStuck_9 : decode cX1_isStuck 9 = .ok (.baload, 1) := dk_51 (dk_at dksX1_isStuck_0 9 rfl rfl)
theorem dX1_isStuck_10 : decode cX1_isStuck 10 = .ok (.ireturn, 1) := dk_172 (dk_at dksX1_isStuck_0 10 rfl rfl)
abbrev cX1_hangs : ByteArray := prog_1_method_23_code
def yX1_hangs : MethodName := ⟨RX1, "hangs", "(I)Z"⟩
def dkwX1_hangs_0 : List UInt8 := [42, 27, 182, 0, 175, 27, 182, 0, 112, 172]
abbrev dktX1_hangs_0 : List UInt8 := dkwX1_hangs_0 ++ []
theorem dksX1_hangs_0 : cX1_hangs.data.toList.drop 0 = dktX1_hangs_0 := by decide +kernel
theorem dX1_hangs_0 : decode cX1_hangs 0 = .ok (.aload_n 0, 1) := dk_42 (dk_at dksX1_hangs_0 0 rfl rfl)
theorem dX1_hangs_1 : decode cX1_hangs 1 = .ok (.iload_n 1, 1) := dk_27 (dk_at dksX1_hangs_0 1 rfl rfl)
theorem dX1_hangs_2 : decode cX1_hangs 2 = .ok (.invokevirtual 175, 3) := dk_182 0 175 (dk_at dksX1_hangs_0 2 rfl rfl)
theorem dX1_hangs_5 : decode cX1_hangs 5 = .ok (.iload_n 1, 1) := dk_27 (dk_at dksX1_hangs_0 5 rfl rfl)
theorem dX1_hangs_6 : decode cX1_hangs 6 = .ok (.invokevirtual 112, 3) := dk_182 0 112 (dk_at dksX1_hangs_0 6 rfl rfl)
theorem dX1_hangs_9 : decode cX1_hangs 9 = .ok (.ireturn, 1) := dk_172 (dk_at dksX1_hangs_0 9 rfl rfl)
abbrev cX1_highest : ByteArray := prog_1_method_24_code
def yX1_highest : MethodName := ⟨RX1, "highest", "(Z)I"⟩
def dkwX1_highest_2 : List UInt8 := [21, 5, 158, 0, 6, 21, 4, 62, 132, 4, 1, 167, 255, 208, 29, 172]
abbrev dktX1_highest_2 : List UInt8 := dkwX1_highest_2 ++ []
def dkwX1_highest_1 : List UInt8 := [21, 4, 46, 44, 180, 0, 179, 29, 46, 100, 54, 5, 27, 153, 0, 11, 21, 5, 156, 0, 14, 167, 0, 8]
abbrev dktX1_highest_1 : List UInt8 := dkwX1_highest_1 ++ dktX1_highest_2
def dkwX1_highest_0 : List UInt8 := [42, 182, 0, 101, 77, 3, 62, 4, 54, 4, 21, 4, 44, 182, 0, 3, 162, 0, 45, 44, 180, 0, 179]
abbrev dktX1_highest_0 : List UInt8 := dkwX1_highest_0 ++ dktX1_highest_1
theorem dksX1_highest_0 : cX1_highest.data.toList.drop 0 = dktX1_highest_0 := by decide +kernel
theorem dksX1_highest_1 : cX1_highest.data.toList.drop 23 = dktX1_highest_1 := dk_seg dksX1_highest_0 23 rfl rfl
theorem dksX1_highest_2 : cX1_highest.data.toList.drop 47 = dktX1_highest_2 := dk_seg dksX1_highest_1 24 rfl rfl
theorem dX1_highest_0 : decode cX1_highest 0 = .ok (.aload_n 0, 1) := dk_42 (dk_at dksX1_highest_0 0 rfl rfl)
theorem dX1_highest_1 : decode cX1_highest 1 = .ok (.invokevirtual 101, 3) := dk_182 0 101 (dk_at dksX1_highest_0 1 rfl rfl)
theorem dX1_highest_4 : decode cX1_highest 4 = .ok (.astore_n 2, 1) := dk_77 (dk_at dksX1_highest_0 4 rfl rfl)
theorem dX1_highest_5 : decode cX1_highest 5 = .ok (.iconst 0, 1) := dk_3 (dk_at dksX1_highest_0 5 rfl rfl)
theorem dX1_highest_6 : decode cX1_highest 6 = .ok (.istore_n 3, 1) := dk_62 (dk_at dksX1_highest_0 6 rfl rfl)
theorem dX1_highest_7 : decode cX1_highest 7 = .ok (.iconst 1, 1) := dk_4 (dk_at dksX1_highest_0 7 rfl rfl)
theorem dX1_highest_8 : decode cX1_highest 8 = .ok (.istore 4, 2) := dk_54 4 (dk_at dksX1_highest_0 8 rfl rfl)
theorem dX1_highest_10 : decode cX1_highest 10 = .ok (.iload 4, 2) := dk_21 4 (dk_at dksX1_highest_0 10 rfl rfl)
theorem dX1_highest_12 : decode cX1_highest 12 = .ok (.aload_n 2, 1) := dk_44 (dk_at dksX1_highest_0 12 rfl rfl)
theorem dX1_highest_13 : decode cX1_highest 13 = .ok (.invokevirtual 3, 3) := dk_182 0 3 (dk_at dksX1_highest_0 13 rfl rfl)
theorem dX1_highest_16 : decode cX1_highest 16 = .ok (.if_icmp .ge 45, 3) := dk_162 0 45 (dk_at dksX1_highest_0 16 rfl rfl)
theorem dX1_highest_19 : decode cX1_highest 19 = .ok (.aload_n 2, 1) := dk_44 (dk_at dksX1_highest_0 19 rfl rfl)
theorem dX1_highest_20 : decode cX1_highest 20 = .ok (.getfield 179, 3) := dk_180 0 179 (dk_at dksX1_highest_0 20 rfl rfl)
theorem dX1_highest_23 : decode cX1_highest 23 = .ok (.iload 4, 2) := dk_21 4 (dk_at dksX1_highest_1 0 rfl rfl)
theorem dX1_highest_25 : decode cX1_highest 25 = .ok (.iaload, 1) := dk_46 (dk_at dksX1_highest_1 2 rfl rfl)
theorem dX1_highest_26 : decode cX1_highest 26 = .ok (.aload_n 2, 1) := dk_44 (dk_at dksX1_highest_1 3 rfl rfl)
theorem dX1_highest_27 : decode cX1_highest 27 = .ok (.getfield 179, 3) := dk_180 0 179 (dk_at dksX1_highest_1 4 rfl rfl)
theorem dX1_highest_30 : decode cX1_highest 30 = .ok (.iload_n 3, 1) := dk_29 (dk_at dksX1_highest_1 7 rfl rfl)
theorem dX1_highest_31 : decode cX1_highest 31 = .ok (.iaload, 1) := dk_46 (dk_at dksX1_highest_1 8 rfl rfl)
theorem dX1_highest_32 : decode cX1_highest 32 = .ok (.isub, 1) := dk_100 (dk_at dksX1_highest_1 9 rfl rfl)
theorem dX1_highest_33 : decode cX1_highest 33 = .ok (.istore 5, 2) := dk_54 5 (dk_at dksX1_highest_1 10 rfl rfl)
theorem dX1_highest_35 : decode cX1_highest 35 = .ok (.iload_n 1, 1) := dk_27 (dk_at dksX1_highest_1 12 rfl rfl)
theorem dX1_highest_36 : decode cX1_highest 36 = .ok (.ifCond .eq 11, 3) := dk_153 0 11 (dk_at dksX1_highest_1 13 rfl rfl)
theorem dX1_highest_39 : decode cX1_highest 39 = .ok (.iload 5, 2) := dk_21 5 (dk_at dksX1_highest_1 16 rfl rfl)
theorem dX1_highest_41 : decode cX1_highest 41 = .ok (.ifCond .ge 14, 3) := dk_156 0 14 (dk_at dksX1_highest_1 18 rfl rfl)
theorem dX1_highest_44 : decode cX1_highest 44 = .ok (.goto 8, 3) := dk_167 0 8 (dk_at dksX1_highest_1 21 rfl rfl)
theorem dX1_highest_47 : decode cX1_highest 47 = .ok (.iload 5, 2) := dk_21 5 (dk_at dksX1_highest_2 0 rfl rfl)
theorem dX1_highest_49 : decode cX1_highest 49 = .ok (.ifCond .le 6, 3) := dk_158 0 6 (dk_at dksX1_highest_2 2 rfl rfl)
theorem dX1_highest_52 : decode cX1_highest 52 = .ok (.iload 4, 2) := dk_21 4 (dk_at dksX1_highest_2 5 rfl rfl)
theorem dX1_highest_54 : decode cX1_highest 54 = .ok (.istore_n 3, 1) := dk_62 (dk_at dksX1_highest_2 7 rfl rfl)
theorem dX1_highest_55 : decode cX1_highest 55 = .ok (.iinc 4 1, 3) := dk_132 4 1 (dk_at dksX1_highest_2 8 rfl rfl)
theorem dX1_highest_58 : decode cX1_highest 58 = .ok (.goto (-48), 3) := dk_167 255 208 (dk_at dksX1_highest_2 11 rfl rfl)
theorem dX1_highest_61 : decode cX1_highest 61 = .ok (.iload_n 3, 1) := dk_29 (dk_at dksX1_highest_2 14 rfl rfl)
theorem dX1_highest_62 : decode cX1_highest 62 = .ok (.ireturn, 1) := dk_172 (dk_at dksX1_highest_2 15 rfl rfl)
abbrev cX1_steepest : ByteArray := prog_1_method_25_code
def yX1_steepest : MethodName := ⟨RX1, "steepest", "()I"⟩
def dkwX1_steepest_1 : List UInt8 := [43, 180, 0, 179, 29, 4, 100, 46, 100, 184, 0, 182, 184, 0, 188, 61, 132, 3, 1, 167, 255, 222, 28, 172]
abbrev dktX1_steepest_1 : List UInt8 := dkwX1_steepest_1 ++ []
def dkwX1_steepest_0 : List UInt8 := [42, 182, 0, 101, 76, 3, 61, 4, 62, 29, 43, 182, 0, 3, 162, 0, 32, 28, 43, 180, 0, 179, 29, 46]
abbrev dktX1_steepest_0 : List UInt8 := dkwX1_steepest_0 ++ dktX1_steepest_1
theorem dksX1_steepest_0 : cX1_steepest.data.toList.drop 0 = dktX1_steepest_0 := by decide +kernel
theorem dksX1_steepest_1 : cX1_steepest.data.toList.drop 24 = dktX1_steepest_1 := dk_seg dksX1_steepest_0 24 rfl rfl
theorem dX1_steepest_0 : decode cX1_steepest 0 = .ok (.aload_n 0, 1) := dk_42 (dk_at dksX1_steepest_0 0 rfl rfl)
theorem dX1_steepest_1 : decode cX1_steepest 1 = .ok (.invokevirtual 101, 3) := dk_182 0 101 (dk_at dksX1_steepest_0 1 rfl rfl)
theorem dX1_steepest_4 : decode cX1_steepest 4 = .ok (.astore_n 1, 1) := dk_76 (dk_at dksX1_steepest_0 4 rfl rfl)
theorem dX1_steepest_5 : decode cX1_steepest 5 = .ok (.iconst 0, 1) := dk_3 (dk_at dksX1_steepest_0 5 rfl rfl)
theorem dX1_steepest_6 : decode cX1_steepest 6 = .ok (.istore_n 2, 1) := dk_61 (dk_at dksX1_steepest_0 6 rfl rfl)
theorem dX1_steepest_7 : decode cX1_steepest 7 = .ok (.iconst 1, 1) := dk_4 (dk_at dksX1_steepest_0 7 rfl rfl)
theorem dX1_steepest_8 : decode cX1_steepest 8 = .ok (.istore_n 3, 1) := dk_62 (dk_at dksX1_steepest_0 8 rfl rfl)
theorem dX1_steepest_9 : decode cX1_steepest 9 = .ok (.iload_n 3, 1) := dk_29 (dk_at dksX1_steepest_0 9 rfl rfl)
theorem dX1_steepest_10 : decode cX1_steepest 10 = .ok (.aload_n 1, 1) := dk_43 (dk_at dksX1_steepest_0 10 rfl rfl)
theorem dX1_steepest_11 : decode cX1_steepest 11 = .ok (.invokevirtual 3, 3) := dk_182 0 3 (dk_at dksX1_steepest_0 11 rfl rfl)
theorem dX1_steepest_14 : decode cX1_steepest 14 = .ok (.if_icmp .ge 32, 3) := dk_162 0 32 (dk_at dksX1_steepest_0 14 rfl rfl)
theorem dX1_steepest_17 : decode cX1_steepest 17 = .ok (.iload_n 2, 1) := dk_28 (dk_at dksX1_steepest_0 17 rfl rfl)
theorem dX1_steepest_18 : decode cX1_steepest 18 = .ok (.aload_n 1, 1) := dk_43 (dk_at dksX1_steepest_0 18 rfl rfl)
theorem dX1_steepest_19 : decode cX1_steepest 19 = .ok (.getfield 179, 3) := dk_180 0 179 (dk_at dksX1_steepest_0 19 rfl rfl)
theorem dX1_steepest_22 : decode cX1_steepest 22 = .ok (.iload_n 3, 1) := dk_29 (dk_at dksX1_steepest_0 22 rfl rfl)
theorem dX1_steepest_23 : decode cX1_steepest 23 = .ok (.iaload, 1) := dk_46 (dk_at dksX1_steepest_0 23 rfl rfl)
theorem dX1_steepest_24 : decode cX1_steepest 24 = .ok (.aload_n 1, 1) := dk_43 (dk_at dksX1_steepest_1 0 rfl rfl)
theorem dX1_steepest_25 : decode cX1_steepest 25 = .ok (.getfield 179, 3) := dk_180 0 179 (dk_at dksX1_steepest_1 1 rfl rfl)
theorem dX1_steepest_28 : decode cX1_steepest 28 = .ok (.iload_n 3, 1) := dk_29 (dk_at dksX1_steepest_1 4 rfl rfl)
theorem dX1_steepest_29 : decode cX1_steepest 29 = .ok (.iconst 1, 1) := dk_4 (dk_at dksX1_steepest_1 5 rfl rfl)
theorem dX1_steepest_30 : decode cX1_steepest 30 = .ok (.isub, 1) := dk_100 (dk_at dksX1_steepest_1 6 rfl rfl)
theorem dX1_steepest_31 : decode cX1_steepest 31 = .ok (.iaload, 1) := dk_46 (dk_at dksX1_steepest_1 7 rfl rfl)
theorem dX1_steepest_32 : decode cX1_steepest 32 = .ok (.isub, 1) := dk_100 (dk_at dksX1_steepest_1 8 rfl rfl)
theorem dX1_steepest_33 : decode cX1_steepest 33 = .ok (.invokestatic 182, 3) := dk_184 0 182 (dk_at dksX1_steepest_1 9 rfl rfl)
theorem dX1_steepest_36 : decode cX1_steepest 36 = .ok (.invokestatic 188, 3) := dk_184 0 188 (dk_at dksX1_steepest_1 12 rfl rfl)
theorem dX1_steepest_39 : decode cX1_steepest 39 = .ok (.istore_n 2, 1) := dk_61 (dk_at dksX1_steepest_1 15 rfl rfl)
theorem dX1_steepest_40 : decode cX1_steepest 40 = .ok (.iinc 3 1, 3) := dk_132 3 1 (dk_at dksX1_steepest_1 16 rfl rfl)
theorem dX1_steepest_43 : decode cX1_steepest 43 = .ok (.goto (-34), 3) := dk_167 255 222 (dk_at dksX1_steepest_1 19 rfl rfl)
theorem dX1_steepest_46 : decode cX1_steepest 46 = .ok (.iload_n 2, 1) := dk_28 (dk_at dksX1_steepest_1 22 rfl rfl)
theorem dX1_steepest_47 : decode cX1_steepest 47 = .ok (.ireturn, 1) := dk_172 (dk_at dksX1_steepest_1 23 rfl rfl)
abbrev cX1_slideTo : ByteArray := prog_1_method_26_code
def yX1_slideTo : MethodName := ⟨RX1, "slideTo", "(I)I"⟩
def dkwX1_slideTo_0 : List UInt8 := [42, 27, 182, 0, 175, 27, 182, 0, 192, 172]
abbrev dktX1_slideTo_0 : List UInt8 := dkwX1_slideTo_0 ++ []
theorem dksX1_slideTo_0 : cX1_slideTo.data.toList.drop 0 = dktX1_slideTo_0 := by decide +kernel
theorem dX1_slideTo_0 : decode cX1_slideTo 0 = .ok (.aload_n 0, 1) := dk_42 (dk_at dksX1_slideTo_0 0 rfl rfl)
theorem dX1_slideTo_1 : decode cX1_slideTo 1 = .ok (.iload_n 1, 1) := dk_27 (dk_at dksX1_slideTo_0 1 rfl rfl)
theorem dX1_slideTo_2 : decode cX1_slideTo 2 = .ok (.invokevirtual 175, 3) := dk_182 0 175 (dk_at dksX1_slideTo_0 2 rfl rfl)
theorem dX1_slideTo_5 : decode cX1_slideTo 5 = .ok (.iload_n 1, 1) := dk_27 (dk_at dksX1_slideTo_0 5 rfl rfl)
theorem dX1_slideTo_6 : decode cX1_slideTo 6 = .ok (.invokevirtual 192, 3) := dk_182 0 192 (dk_at dksX1_slideTo_0 6 rfl rfl)
theorem dX1_slideTo_9 : decode cX1_slideTo 9 = .ok (.ireturn, 1) := dk_172 (dk_at dksX1_slideTo_0 9 rfl rfl)
abbrev cX1_roomIn : ByteArray := prog_1_method_27_code
def yX1_roomIn : MethodName := ⟨RX1, "roomIn", "(I)I"⟩
def dkwX1_roomIn_1 : List UInt8 := [132, 3, 1, 167, 255, 245, 29, 172]
abbrev dktX1_roomIn_1 : List UInt8 := dkwX1_roomIn_1 ++ []
def dkwX1_roomIn_0 : List UInt8 := [187, 0, 4, 89, 42, 27, 182, 0, 175, 183, 0, 195, 77, 3, 62, 44, 27, 182, 0, 198, 153, 0, 9]
abbrev dktX1_roomIn_0 : List UInt8 := dkwX1_roomIn_0 ++ dktX1_roomIn_1
theorem dksX1_roomIn_0 : cX1_roomIn.data.toList.drop 0 = dktX1_roomIn_0 := by decide +kernel
theorem dksX1_roomIn_1 : cX1_roomIn.data.toList.drop 23 = dktX1_roomIn_1 := dk_seg dksX1_roomIn_0 23 rfl rfl
theorem dX1_roomIn_0 : decode cX1_roomIn 0 = .ok (.new 4, 3) := dk_187 0 4 (dk_at dksX1_roomIn_0 0 rfl rfl)
theorem dX1_roomIn_3 : decode cX1_roomIn 3 = .ok (.dup, 1) := dk_89 (dk_at dksX1_roomIn_0 3 rfl rfl)
theorem dX1_roomIn_4 : decode cX1_roomIn 4 = .ok (.aload_n 0, 1) := dk_42 (dk_at dksX1_roomIn_0 4 rfl rfl)
theorem dX1_roomIn_5 : decode cX1_roomIn 5 = .ok (.iload_n 1, 1) := dk_27 (dk_at dksX1_roomIn_0 5 rfl rfl)
theorem dX1_roomIn_6 : decode cX1_roomIn 6 = .ok (.invokevirtual 175, 3) := dk_182 0 175 (dk_at dksX1_roomIn_0 6 rfl rfl)
theorem dX1_roomIn_9 : decode cX1_roomIn 9 = .ok (.invokespecial 195, 3) := dk_183 0 195 (dk_at dksX1_roomIn_0 9 rfl rfl)
theorem dX1_roomIn_12 : decode cX1_roomIn 12 = .ok (.astore_n 2, 1) := dk_77 (dk_at dksX1_roomIn_0 12 rfl rfl)
theorem dX1_roomIn_13 : decode cX1_roomIn 13 = .ok (.iconst 0, 1) := dk_3 (dk_at dksX1_roomIn_0 13 rfl rfl)
theorem dX1_roomIn_14 : decode cX1_roomIn 14 = .ok (.istore_n 3, 1) := dk_62 (dk_at dksX1_roomIn_0 14 rfl rfl)
theorem dX1_roomIn_15 : decode cX1_roomIn 15 = .ok (.aload_n 2, 1) := dk_44 (dk_at dksX1_roomIn_0 15 rfl rfl)
theorem dX1_roomIn_16 : decode cX1_roomIn 16 = .ok (.iload_n 1, 1) := dk_27 (dk_at dksX1_roomIn_0 16 rfl rfl)
theorem dX1_roomIn_17 : decode cX1_roomIn 17 = .ok (.invokevirtual 198, 3) := dk_182 0 198 (dk_at dksX1_roomIn_0 17 rfl rfl)
theorem dX1_roomIn_20 : decode cX1_roomIn 20 = .ok (.ifCond .eq 9, 3) := dk_153 0 9 (dk_at dksX1_roomIn_0 20 rfl rfl)
theorem dX1_roomIn_23 : decode cX1_roomIn 23 = .ok (.iinc 3 1, 3) := dk_132 3 1 (dk_at dksX1_roomIn_1 0 rfl rfl)
theorem dX1_roomIn_26 : decode cX1_roomIn 26 = .ok (.goto (-11), 3) := dk_167 255 245 (dk_at dksX1_roomIn_1 3 rfl rfl)
theorem dX1_roomIn_29 : decode cX1_roomIn 29 = .ok (.iload_n 3, 1) := dk_29 (dk_at dksX1_roomIn_1 6 rfl rfl)
theorem dX1_roomIn_30 : decode cX1_roomIn 30 = .ok (.ireturn, 1) := dk_172 (dk_at dksX1_roomIn_1 7 rfl rfl)
abbrev cX1_peak : ByteArray := prog_1_method_28_code
def yX1_peak : MethodName := ⟨RX1, "peak", "(II)I"⟩
def dkwX1_peak_2 : List UInt8 := [46, 184, 0, 188, 54, 4, 132, 5, 1, 167, 255, 229, 21, 4, 172]
abbrev dktX1_peak_2 : List UInt8 := dkwX1_peak_2 ++ []
def dkwX1_peak_1 : List UInt8 := [28, 184, 0, 201, 54, 5, 21, 5, 27, 28, 184, 0, 188, 163, 0, 23, 21, 4, 45, 180, 0, 179, 21, 5]
abbrev dktX1_peak_1 : List UInt8 := dkwX1_peak_1 ++ dktX1_peak_2
def dkwX1_peak_0 : List UInt8 := [42, 27, 182, 0, 175, 78, 28, 3, 45, 182, 0, 3, 4, 100, 184, 0, 49, 184, 0, 53, 3, 54, 4, 27]
abbrev dktX1_peak_0 : List UInt8 := dkwX1_peak_0 ++ dktX1_peak_1
theorem dksX1_peak_0 : cX1_peak.data.toList.drop 0 = dktX1_peak_0 := by decide +kernel
theorem dksX1_peak_1 : cX1_peak.data.toList.drop 24 = dktX1_peak_1 := dk_seg dksX1_peak_0 24 rfl rfl
theorem dksX1_peak_2 : cX1_peak.data.toList.drop 48 = dktX1_peak_2 := dk_seg dksX1_peak_1 24 rfl rfl
theorem dX1_peak_0 : decode cX1_peak 0 = .ok (.aload_n 0, 1) := dk_42 (dk_at dksX1_peak_0 0 rfl rfl)
theorem dX1_peak_1 : decode cX1_peak 1 = .ok (.iload_n 1, 1) := dk_27 (dk_at dksX1_peak_0 1 rfl rfl)
theorem dX1_peak_2 : decode cX1_peak 2 = .ok (.invokevirtual 175, 3) := dk_182 0 175 (dk_at dksX1_peak_0 2 rfl rfl)
theorem dX1_peak_5 : decode cX1_peak 5 = .ok (.astore_n 3, 1) := dk_78 (dk_at dksX1_peak_0 5 rfl rfl)
theorem dX1_peak_6 : decode cX1_peak 6 = .ok (.iload_n 2, 1) := dk_28 (dk_at dksX1_peak_0 6 rfl rfl)
theorem dX1_peak_7 : decode cX1_peak 7 = .ok (.iconst 0, 1) := dk_3 (dk_at dksX1_peak_0 7 rfl rfl)
theorem dX1_peak_8 : decode cX1_peak 8 = .ok (.aload_n 3, 1) := dk_45 (dk_at dksX1_peak_0 8 rfl rfl)
theorem dX1_peak_9 : decode cX1_peak 9 = .ok (.invokevirtual 3, 3) := dk_182 0 3 (dk_at dksX1_peak_0 9 rfl rfl)
theorem dX1_peak_12 : decode cX1_peak 12 = .ok (.iconst 1, 1) := dk_4 (dk_at dksX1_peak_0 12 rfl rfl)
theorem dX1_peak_13 : decode cX1_peak 13 = .ok (.isub, 1) := dk_100 (dk_at dksX1_peak_0 13 rfl rfl)
theorem dX1_peak_14 : decode cX1_peak 14 = .ok (.invokestatic 49, 3) := dk_184 0 49 (dk_at dksX1_peak_0 14 rfl rfl)
theorem dX1_peak_17 : decode cX1_peak 17 = .ok (.invokestatic 53, 3) := dk_184 0 53 (dk_at dksX1_peak_0 17 rfl rfl)
theorem dX1_peak_20 : decode cX1_peak 20 = .ok (.iconst 0, 1) := dk_3 (dk_at dksX1_peak_0 20 rfl rfl)
theorem dX1_peak_21 : decode cX1_peak 21 = .ok (.istore 4, 2) := dk_54 4 (dk_at dksX1_peak_0 21 rfl rfl)
theorem dX1_peak_23 : decode cX1_peak 23 = .ok (.iload_n 1, 1) := dk_27 (dk_at dksX1_peak_0 23 rfl rfl)
theorem dX1_peak_24 : decode cX1_peak 24 = .ok (.iload_n 2, 1) := dk_28 (dk_at dksX1_peak_1 0 rfl rfl)
theorem dX1_peak_25 : decode cX1_peak 25 = .ok (.invokestatic 201, 3) := dk_184 0 201 (dk_at dksX1_peak_1 1 rfl rfl)
theorem dX1_peak_28 : decode cX1_peak 28 = .ok (.istore 5, 2) := dk_54 5 (dk_at dksX1_peak_1 4 rfl rfl)
theorem dX1_peak_30 : decode cX1_peak 30 = .ok (.iload 5, 2) := dk_21 5 (dk_at dksX1_peak_1 6 rfl rfl)
theorem dX1_peak_32 : decode cX1_peak 32 = .ok (.iload_n 1, 1) := dk_27 (dk_at dksX1_peak_1 8 rfl rfl)
theorem dX1_peak_33 : decode cX1_peak 33 = .ok (.iload_n 2, 1) := dk_28 (dk_at dksX1_peak_1 9 rfl rfl)
theorem dX1_peak_34 : decode cX1_peak 34 = .ok (.invokestatic 188, 3) := dk_184 0 188 (dk_at dksX1_peak_1 10 rfl rfl)
theorem dX1_peak_37 : decode cX1_peak 37 = .ok (.if_icmp .gt 23, 3) := dk_163 0 23 (dk_at dksX1_peak_1 13 rfl rfl)
theorem dX1_peak_40 : decode cX1_peak 40 = .ok (.iload 4, 2) := dk_21 4 (dk_at dksX1_peak_1 16 rfl rfl)
theorem dX1_peak_42 : decode cX1_peak 42 = .ok (.aload_n 3, 1) := dk_45 (dk_at dksX1_peak_1 18 rfl rfl)
theorem dX1_peak_43 : decode cX1_peak 43 = .ok (.getfield 179, 3) := dk_180 0 179 (dk_at dksX1_peak_1 19 rfl rfl)
theorem dX1_peak_46 : decode cX1_peak 46 = .ok (.iload 5, 2) := dk_21 5 (dk_at dksX1_peak_1 22 rfl rfl)
theorem dX1_peak_48 : decode cX1_peak 48 = .ok (.iaload, 1) := dk_46 (dk_at dksX1_peak_2 0 rfl rfl)
theorem dX1_peak_49 : decode cX1_peak 49 = .ok (.invokestatic 188, 3) := dk_184 0 188 (dk_at dksX1_peak_2 1 rfl rfl)
theorem dX1_peak_52 : decode cX1_peak 52 = .ok (.istore 4, 2) := dk_54 4 (dk_at dksX1_peak_2 4 rfl rfl)
theorem dX1_peak_54 : decode cX1_peak 54 = .ok (.iinc 5 1, 3) := dk_132 5 1 (dk_at dksX1_peak_2 6 rfl rfl)
theorem dX1_peak_57 : decode cX1_peak 57 = .ok (.goto (-27), 3) := dk_167 255 229 (dk_at dksX1_peak_2 9 rfl rfl)
theorem dX1_peak_60 : decode cX1_peak 60 = .ok (.iload 4, 2) := dk_21 4 (dk_at dksX1_peak_2 12 rfl rfl)
theorem dX1_peak_62 : decode cX1_peak 62 = .ok (.ireturn, 1) := dk_172 (dk_at dksX1_peak_2 14 rfl rfl)
abbrev cX1_gap : ByteArray := prog_1_method_29_code
def yX1_gap : MethodName := ⟨RX1, "gap", "()I"⟩
def dkwX1_gap_3 : List UInt8 := [167, 255, 216, 28, 172]
abbrev dktX1_gap_3 : List UInt8 := dkwX1_gap_3 ++ []
def dkwX1_gap_2 : List UInt8 := [43, 29, 182, 0, 192, 2, 159, 0, 7, 4, 167, 0, 4, 3, 184, 0, 120, 96, 61, 132, 3, 1]
abbrev dktX1_gap_2 : List UInt8 := dkwX1_gap_2 ++ dktX1_gap_3
def dkwX1_gap_1 : List UInt8 := [184, 0, 182, 61, 3, 62, 29, 43, 182, 0, 3, 162, 0, 38, 28, 43, 180, 0, 116, 29, 51, 154, 0, 16]
abbrev dktX1_gap_1 : List UInt8 := dkwX1_gap_1 ++ dktX1_gap_2
def dkwX1_gap_0 : List UInt8 := [42, 182, 0, 101, 76, 43, 182, 0, 124, 43, 180, 0, 169, 43, 180, 0, 151, 96, 43, 180, 0, 157, 100, 100]
abbrev dktX1_gap_0 : List UInt8 := dkwX1_gap_0 ++ dktX1_gap_1
theorem dksX1_gap_0 : cX1_gap.data.toList.drop 0 = dktX1_gap_0 := by decide +kernel
theorem dksX1_gap_1 : cX1_gap.data.toList.drop 24 = dktX1_gap_1 := dk_seg dksX1_gap_0 24 rfl rfl
theorem dksX1_gap_2 : cX1_gap.data.toList.drop 48 = dktX1_gap_2 := dk_seg dksX1_gap_1 24 rfl rfl
theorem dksX1_gap_3 : cX1_gap.data.toList.drop 70 = dktX1_gap_3 := dk_seg dksX1_gap_2 22 rfl rfl
theorem dX1_gap_0 : decode cX1_gap 0 = .ok (.aload_n 0, 1) := dk_42 (dk_at dksX1_gap_0 0 rfl rfl)
theorem dX1_gap_1 : decode cX1_gap 1 = .ok (.invokevirtual 101, 3) := dk_182 0 101 (dk_at dksX1_gap_0 1 rfl rfl)
theorem dX1_gap_4 : decode cX1_gap 4 = .ok (.astore_n 1, 1) := dk_76 (dk_at dksX1_gap_0 4 rfl rfl)
theorem dX1_gap_5 : decode cX1_gap 5 = .ok (.aload_n 1, 1) := dk_43 (dk_at dksX1_gap_0 5 rfl rfl)
theorem dX1_gap_6 : decode cX1_gap 6 = .ok (.invokevirtual 124, 3) := dk_182 0 124 (dk_at dksX1_gap_0 6 rfl rfl)
theorem dX1_gap_9 : decode cX1_gap 9 = .ok (.aload_n 1, 1) := dk_43 (dk_at dksX1_gap_0 9 rfl rfl)
theorem dX1_gap_10 : decode cX1_gap 10 = .ok (.getfield 169, 3) := dk_180 0 169 (dk_at dksX1_gap_0 10 rfl rfl)
theorem dX1_gap_13 : decode cX1_gap 13 = .ok (.aload_n 1, 1) := dk_43 (dk_at dksX1_gap_0 13 rfl rfl)
theorem dX1_gap_14 : decode cX1_gap 14 = .ok (.getfield 151, 3) := dk_180 0 151 (dk_at dksX1_gap_0 14 rfl rfl)
theorem dX1_gap_17 : decode cX1_gap 17 = .ok (.iadd, 1) := dk_96 (dk_at dksX1_gap_0 17 rfl rfl)
theorem dX1_gap_18 : decode cX1_gap 18 = .ok (.aload_n 1, 1) := dk_43 (dk_at dksX1_gap_0 18 rfl rfl)
theorem dX1_gap_19 : decode cX1_gap 19 = .ok (.getfield 157, 3) := dk_180 0 157 (dk_at dksX1_gap_0 19 rfl rfl)
theorem dX1_gap_22 : decode cX1_gap 22 = .ok (.isub, 1) := dk_100 (dk_at dksX1_gap_0 22 rfl rfl)
theorem dX1_gap_23 : decode cX1_gap 23 = .ok (.isub, 1) := dk_100 (dk_at dksX1_gap_0 23 rfl rfl)
theorem dX1_gap_24 : decode cX1_gap 24 = .ok (.invokestatic 182, 3) := dk_184 0 182 (dk_at dksX1_gap_1 0 rfl rfl)
theorem dX1_gap_27 : decode cX1_gap 27 = .ok (.istore_n 2, 1) := dk_61 (dk_at dksX1_gap_1 3 rfl rfl)
theorem dX1_gap_28 : decode cX1_gap 28 = .ok (.iconst 0, 1) := dk_3 (dk_at dksX1_gap_1 4 rfl rfl)
theorem dX1_gap_29 : decode cX1_gap 29 = .ok (.istore_n 3, 1) := dk_62 (dk_at dksX1_gap_1 5 rfl rfl)
theorem dX1_gap_30 : decode cX1_gap 30 = .ok (.iload_n 3, 1) := dk_29 (dk_at dksX1_gap_1 6 rfl rfl)
theorem dX1_gap_31 : decode cX1_gap 31 = .ok (.aload_n 1, 1) := dk_43 (dk_at dksX1_gap_1 7 rfl rfl)
theorem dX1_gap_32 : decode cX1_gap 32 = .ok (.invokevirtual 3, 3) := dk_182 0 3 (dk_at dksX1_gap_1 8 rfl rfl)
theorem dX1_gap_35 : decode cX1_gap 35 = .ok (.if_icmp .ge 38, 3) := dk_162 0 38 (dk_at dksX1_gap_1 11 rfl rfl)
theorem dX1_gap_38 : decode cX1_gap 38 = .ok (.iload_n 2, 1) := dk_28 (dk_at dksX1_gap_1 14 rfl rfl)
theorem dX1_gap_39 : decode cX1_gap 39 = .ok (.aload_n 1, 1) := dk_43 (dk_at dksX1_gap_1 15 rfl rfl)
theorem dX1_gap_40 : decode cX1_gap 40 = .ok (.getfield 116, 3) := dk_180 0 116 (dk_at dksX1_gap_1 16 rfl rfl)
theorem dX1_gap_43 : decode cX1_gap 43 = .ok (.iload_n 3, 1) := dk_29 (dk_at dksX1_gap_1 19 rfl rfl)
theorem dX1_gap_44 : decode cX1_gap 44 = .ok (.baload, 1) := dk_51 (dk_at dksX1_gap_1 20 rfl rfl)
theorem dX1_gap_45 : decode cX1_gap 45 = .ok (.ifCond .ne 16, 3) := dk_154 0 16 (dk_at dksX1_gap_1 21 rfl rfl)
theorem dX1_gap_48 : decode cX1_gap 48 = .ok (.aload_n 1, 1) := dk_43 (dk_at dksX1_gap_2 0 rfl rfl)
theorem dX1_gap_49 : decode cX1_gap 49 = .ok (.iload_n 3, 1) := dk_29 (dk_at dksX1_gap_2 1 rfl rfl)
theorem dX1_gap_50 : decode cX1_gap 50 = .ok (.invokevirtual 192, 3) := dk_182 0 192 (dk_at dksX1_gap_2 2 rfl rfl)
theorem dX1_gap_53 : decode cX1_gap 53 = .ok (.iconst (-1), 1) := dk_2 (dk_at dksX1_gap_2 5 rfl rfl)
theorem dX1_gap_54 : decode cX1_gap 54 = .ok (.if_icmp .eq 7, 3) := dk_159 0 7 (dk_at dksX1_gap_2 6 rfl rfl)
theorem dX1_gap_57 : decode cX1_gap 57 = .ok (.iconst 1, 1) := dk_4 (dk_at dksX1_gap_2 9 rfl rfl)
theorem dX1_gap_58 : decode cX1_gap 58 = .ok (.goto 4, 3) := dk_167 0 4 (dk_at dksX1_gap_2 10 rfl rfl)
theorem dX1_gap_61 : decode cX1_gap 61 = .ok (.iconst 0, 1) := dk_3 (dk_at dksX1_gap_2 13 rfl rfl)
theorem dX1_gap_62 : decode cX1_gap 62 = .ok (.invokestatic 120, 3) := dk_184 0 120 (dk_at dksX1_gap_2 14 rfl rfl)
theorem dX1_gap_65 : decode cX1_gap 65 = .ok (.iadd, 1) := dk_96 (dk_at dksX1_gap_2 17 rfl rfl)
theorem dX1_gap_66 : decode cX1_gap 66 = .ok (.istore_n 2, 1) := dk_61 (dk_at dksX1_gap_2 18 rfl rfl)
theorem dX1_gap_67 : decode cX1_gap 67 = .ok (.iinc 3 1, 3) := dk_132 3 1 (dk_at dksX1_gap_2 19 rfl rfl)
theorem dX1_gap_70 : decode cX1_gap 70 = .ok (.goto (-40), 3) := dk_167 255 216 (dk_at dksX1_gap_3 0 rfl rfl)
theorem dX1_gap_73 : decode cX1_gap 73 = .ok (.iload_n 2, 1) := dk_28 (dk_at dksX1_gap_3 3 rfl rfl)
theorem dX1_gap_74 : decode cX1_gap 74 = .ok (.ireturn, 1) := dk_172 (dk_at dksX1_gap_3 4 rfl rfl)
abbrev cX1_bar : ByteArray := prog_1_method_30_code
def yX1_bar : MethodName := ⟨RX1, "bar", "(II)I"⟩
def dkwX1_bar_6 : List UInt8 := [167, 0, 4, 3, 184, 0, 120, 167, 0, 11, 187, 0, 81, 89, 183, 0, 83, 191, 172]
abbrev dktX1_bar_6 : List UInt8 := dkwX1_bar_6 ++ []
def dkwX1_bar_5 : List UInt8 := [167, 0, 40, 45, 25, 5, 182, 0, 224, 153, 0, 16, 45, 25, 5, 182, 0, 228, 153, 0, 7, 4]
abbrev dktX1_bar_5 : List UInt8 := dkwX1_bar_5 ++ dktX1_bar_6
def dkwX1_bar_4 : List UInt8 := [167, 0, 62, 25, 5, 185, 0, 220, 1, 0, 167, 0, 52, 45, 25, 5, 182, 0, 224, 184, 0, 120]
abbrev dktX1_bar_4 : List UInt8 := dkwX1_bar_4 ++ dktX1_bar_5
def dkwX1_bar_3 : List UInt8 := [25, 4, 180, 0, 214, 167, 0, 79, 25, 4, 180, 0, 217, 167, 0, 71, 25, 5, 199, 0, 7, 2]
abbrev dktX1_bar_3 : List UInt8 := dkwX1_bar_3 ++ dktX1_bar_4
def dkwX1_bar_2 : List UInt8 := [170, 0, 0, 0, 0, 0, 0, 112, 0, 0, 0, 0, 0, 0, 0, 4, 0, 0, 0, 36, 0, 0, 0, 44, 0, 0, 0, 52, 0, 0, 0, 71, 0, 0, 0, 83]
abbrev dktX1_bar_2 : List UInt8 := dkwX1_bar_2 ++ dktX1_bar_3
def dkwX1_bar_1 : List UInt8 := [45, 180, 0, 130, 27, 185, 0, 204, 2, 0, 192, 0, 208, 58, 4, 45, 25, 4, 182, 0, 210, 58, 5, 28]
abbrev dktX1_bar_1 : List UInt8 := dkwX1_bar_1 ++ dktX1_bar_2
def dkwX1_bar_0 : List UInt8 := [42, 182, 0, 101, 78, 27, 3, 45, 180, 0, 130, 185, 0, 134, 1, 0, 4, 100, 184, 0, 49, 184, 0, 53]
abbrev dktX1_bar_0 : List UInt8 := dkwX1_bar_0 ++ dktX1_bar_1
theorem dksX1_bar_0 : cX1_bar.data.toList.drop 0 = dktX1_bar_0 := by decide +kernel
theorem dksX1_bar_1 : cX1_bar.data.toList.drop 24 = dktX1_bar_1 := dk_seg dksX1_bar_0 24 rfl rfl
theorem dksX1_bar_2 : cX1_bar.data.toList.drop 48 = dktX1_bar_2 := dk_seg dksX1_bar_1 24 rfl rfl
theorem dksX1_bar_3 : cX1_bar.data.toList.drop 84 = dktX1_bar_3 := dk_seg dksX1_bar_2 36 rfl rfl
theorem dksX1_bar_4 : cX1_bar.data.toList.drop 106 = dktX1_bar_4 := dk_seg dksX1_bar_3 22 rfl rfl
theorem dksX1_bar_5 : cX1_bar.data.toList.drop 128 = dktX1_bar_5 := dk_seg dksX1_bar_4 22 rfl rfl
theorem dksX1_bar_6 : cX1_bar.data.toList.drop 150 = dktX1_bar_6 := dk_seg dksX1_bar_5 22 rfl rfl
theorem dX1_bar_0 : decode cX1_bar 0 = .ok (.aload_n 0, 1) := dk_42 (dk_at dksX1_bar_0 0 rfl rfl)
theorem dX1_bar_1 : decode cX1_bar 1 = .ok (.invokevirtual 101, 3) := dk_182 0 101 (dk_at dksX1_bar_0 1 rfl rfl)
theorem dX1_bar_4 : decode cX1_bar 4 = .ok (.astore_n 3, 1) := dk_78 (dk_at dksX1_bar_0 4 rfl rfl)
theorem dX1_bar_5 : decode cX1_bar 5 = .ok (.iload_n 1, 1) := dk_27 (dk_at dksX1_bar_0 5 rfl rfl)
theorem dX1_bar_6 : decode cX1_bar 6 = .ok (.iconst 0, 1) := dk_3 (dk_at dksX1_bar_0 6 rfl rfl)
theorem dX1_bar_7 : decode cX1_bar 7 = .ok (.aload_n 3, 1) := dk_45 (dk_at dksX1_bar_0 7 rfl rfl)
theorem dX1_bar_8 : decode cX1_bar 8 = .ok (.getfield 130, 3) := dk_180 0 130 (dk_at dksX1_bar_0 8 rfl rfl)
theorem dX1_bar_11 : decode cX1_bar 11 = .ok (.invokeinterface 134 1, 5) := by decide +kernel
theorem dX1_bar_16 : decode cX1_bar 16 = .ok (.iconst 1, 1) := dk_4 (dk_at dksX1_bar_0 16 rfl rfl)
theorem dX1_bar_17 : decode cX1_bar 17 = .ok (.isub, 1) := dk_100 (dk_at dksX1_bar_0 17 rfl rfl)
theorem dX1_bar_18 : decode cX1_bar 18 = .ok (.invokestatic 49, 3) := dk_184 0 49 (dk_at dksX1_bar_0 18 rfl rfl)
theorem dX1_bar_21 : decode cX1_bar 21 = .ok (.invokestatic 53, 3) := dk_184 0 53 (dk_at dksX1_bar_0 21 rfl rfl)
theorem dX1_bar_24 : decode cX1_bar 24 = .ok (.aload_n 3, 1) := dk_45 (dk_at dksX1_bar_1 0 rfl rfl)
theorem dX1_bar_25 : decode cX1_bar 25 = .ok (.getfield 130, 3) := dk_180 0 130 (dk_at dksX1_bar_1 1 rfl rfl)
theorem dX1_bar_28 : decode cX1_bar 28 = .ok (.iload_n 1, 1) := dk_27 (dk_at dksX1_bar_1 4 rfl rfl)
theorem dX1_bar_29 : decode cX1_bar 29 = .ok (.invokeinterface 204 2, 5) := by decide +kernel
theorem dX1_bar_34 : decode cX1_bar 34 = .ok (.checkcast 208, 3) := dk_192 0 208 (dk_at dksX1_bar_1 10 rfl rfl)
theorem dX1_bar_37 : decode cX1_bar 37 = .ok (.astore 4, 2) := dk_58 4 (dk_at dksX1_bar_1 13 rfl rfl)
theorem dX1_bar_39 : decode cX1_bar 39 = .ok (.aload_n 3, 1) := dk_45 (dk_at dksX1_bar_1 15 rfl rfl)
theorem dX1_bar_40 : decode cX1_bar 40 = .ok (.aload 4, 2) := dk_25 4 (dk_at dksX1_bar_1 16 rfl rfl)
theorem dX1_bar_42 : decode cX1_bar 42 = .ok (.invokevirtual 210, 3) := dk_182 0 210 (dk_at dksX1_bar_1 18 rfl rfl)
theorem dX1_bar_45 : decode cX1_bar 45 = .ok (.astore 5, 2) := dk_58 5 (dk_at dksX1_bar_1 21 rfl rfl)
theorem dX1_bar_47 : decode cX1_bar 47 = .ok (.iload_n 2, 1) := dk_28 (dk_at dksX1_bar_1 23 rfl rfl)
theorem dX1_bar_48 : decode cX1_bar 48 = .ok (.tableswitch 112 0 4 #[36, 44, 52, 71, 83], 36) := by decide +kernel
theorem dX1_bar_84 : decode cX1_bar 84 = .ok (.aload 4, 2) := dk_25 4 (dk_at dksX1_bar_3 0 rfl rfl)
theorem dX1_bar_86 : decode cX1_bar 86 = .ok (.getfield 214, 3) := dk_180 0 214 (dk_at dksX1_bar_3 2 rfl rfl)
theorem dX1_bar_89 : decode cX1_bar 89 = .ok (.goto 79, 3) := dk_167 0 79 (dk_at dksX1_bar_3 5 rfl rfl)
theorem dX1_bar_92 : decode cX1_bar 92 = .ok (.aload 4, 2) := dk_25 4 (dk_at dksX1_bar_3 8 rfl rfl)
theorem dX1_bar_94 : decode cX1_bar 94 = .ok (.getfield 217, 3) := dk_180 0 217 (dk_at dksX1_bar_3 10 rfl rfl)
theorem dX1_bar_97 : decode cX1_bar 97 = .ok (.goto 71, 3) := dk_167 0 71 (dk_at dksX1_bar_3 13 rfl rfl)
theorem dX1_bar_100 : decode cX1_bar 100 = .ok (.aload 5, 2) := dk_25 5 (dk_at dksX1_bar_3 16 rfl rfl)
theorem dX1_bar_102 : decode cX1_bar 102 = .ok (.ifnonnull 7, 3) := dk_199 0 7 (dk_at dksX1_bar_3 18 rfl rfl)
theorem dX1_bar_105 : decode cX1_bar 105 = .ok (.iconst (-1), 1) := dk_2 (dk_at dksX1_bar_3 21 rfl rfl)
theorem dX1_bar_106 : decode cX1_bar 106 = .ok (.goto 62, 3) := dk_167 0 62 (dk_at dksX1_bar_4 0 rfl rfl)
theorem dX1_bar_109 : decode cX1_bar 109 = .ok (.aload 5, 2) := dk_25 5 (dk_at dksX1_bar_4 3 rfl rfl)
theorem dX1_bar_111 : decode cX1_bar 111 = .ok (.invokeinterface 220 1, 5) := by decide +kernel
theorem dX1_bar_116 : decode cX1_bar 116 = .ok (.goto 52, 3) := dk_167 0 52 (dk_at dksX1_bar_4 10 rfl rfl)
theorem dX1_bar_119 : decode cX1_bar 119 = .ok (.aload_n 3, 1) := dk_45 (dk_at dksX1_bar_4 13 rfl rfl)
theorem dX1_bar_120 : decode cX1_bar 120 = .ok (.aload 5, 2) := dk_25 5 (dk_at dksX1_bar_4 14 rfl rfl)
theorem dX1_bar_122 : decode cX1_bar 122 = .ok (.invokevirtual 224, 3) := dk_182 0 224 (dk_at dksX1_bar_4 16 rfl rfl)
theorem dX1_bar_125 : decode cX1_bar 125 = .ok (.invokestatic 120, 3) := dk_184 0 120 (dk_at dksX1_bar_4 19 rfl rfl)
theorem dX1_bar_128 : decode cX1_bar 128 = .ok (.goto 40, 3) := dk_167 0 40 (dk_at dksX1_bar_5 0 rfl rfl)
theorem dX1_bar_131 : decode cX1_bar 131 = .ok (.aload_n 3, 1) := dk_45 (dk_at dksX1_bar_5 3 rfl rfl)
theorem dX1_bar_132 : decode cX1_bar 132 = .ok (.aload 5, 2) := dk_25 5 (dk_at dksX1_bar_5 4 rfl rfl)
theorem dX1_bar_134 : decode cX1_bar 134 = .ok (.invokevirtual 224, 3) := dk_182 0 224 (dk_at dksX1_bar_5 6 rfl rfl)
theorem dX1_bar_137 : decode cX1_bar 137 = .ok (.ifCond .eq 16, 3) := dk_153 0 16 (dk_at dksX1_bar_5 9 rfl rfl)
theorem dX1_bar_140 : decode cX1_bar 140 = .ok (.aload_n 3, 1) := dk_45 (dk_at dksX1_bar_5 12 rfl rfl)
theorem dX1_bar_141 : decode cX1_bar 141 = .ok (.aload 5, 2) := dk_25 5 (dk_at dksX1_bar_5 13 rfl rfl)
theorem dX1_bar_143 : decode cX1_bar 143 = .ok (.invokevirtual 228, 3) := dk_182 0 228 (dk_at dksX1_bar_5 15 rfl rfl)
theorem dX1_bar_146 : decode cX1_bar 146 = .ok (.ifCond .eq 7, 3) := dk_153 0 7 (dk_at dksX1_bar_5 18 rfl rfl)
theorem dX1_bar_149 : decode cX1_bar 149 = .ok (.iconst 1, 1) := dk_4 (dk_at dksX1_bar_5 21 rfl rfl)
theorem dX1_bar_150 : decode cX1_bar 150 = .ok (.goto 4, 3) := dk_167 0 4 (dk_at dksX1_bar_6 0 rfl rfl)
theorem dX1_bar_153 : decode cX1_bar 153 = .ok (.iconst 0, 1) := dk_3 (dk_at dksX1_bar_6 3 rfl rfl)
theorem dX1_bar_154 : decode cX1_bar 154 = .ok (.invokestatic 120, 3) := dk_184 0 120 (dk_at dksX1_bar_6 4 rfl rfl)
theorem dX1_bar_157 : decode cX1_bar 157 = .ok (.goto 11, 3) := dk_167 0 11 (dk_at dksX1_bar_6 7 rfl rfl)
theorem dX1_bar_160 : decode cX1_bar 160 = .ok (.new 81, 3) := dk_187 0 81 (dk_at dksX1_bar_6 10 rfl rfl)
theorem dX1_bar_163 : decode cX1_bar 163 = .ok (.dup, 1) := dk_89 (dk_at dksX1_bar_6 13 rfl rfl)
theorem dX1_bar_164 : decode cX1_bar 164 = .ok (.invokespecial 83, 3) := dk_183 0 83 (dk_at dksX1_bar_6 14 rfl rfl)
theorem dX1_bar_167 : decode cX1_bar 167 = .ok (.athrow, 1) := dk_191 (dk_at dksX1_bar_6 17 rfl rfl)
theorem dX1_bar_168 : decode cX1_bar 168 = .ok (.ireturn, 1) := dk_172 (dk_at dksX1_bar_6 18 rfl rfl)
abbrev cX1_heap : ByteArray := prog_1_method_31_code
def yX1_heap : MethodName := ⟨RX1, "heap", "(I)I"⟩
def dkwX1_heap_5 : List UInt8 := [182, 0, 240, 167, 0, 11, 187, 0, 81, 89, 183, 0, 83, 191, 172]
abbrev dktX1_heap_5 : List UInt8 := dkwX1_heap_5 ++ []
def dkwX1_heap_4 : List UInt8 := [153, 0, 15, 44, 45, 182, 0, 228, 153, 0, 7, 4, 167, 0, 4, 3, 184, 0, 120, 167, 0, 18, 44]
abbrev dktX1_heap_4 : List UInt8 := dkwX1_heap_4 ++ dktX1_heap_5
def dkwX1_heap_3 : List UInt8 := [185, 0, 220, 1, 0, 167, 0, 56, 44, 45, 182, 0, 224, 184, 0, 120, 167, 0, 45, 44, 45, 182, 0, 224]
abbrev dktX1_heap_3 : List UInt8 := dkwX1_heap_3 ++ dktX1_heap_4
def dkwX1_heap_2 : List UInt8 := [45, 185, 0, 235, 1, 0, 167, 0, 78, 44, 45, 185, 0, 235, 1, 0, 182, 0, 237, 167, 0, 65, 45]
abbrev dktX1_heap_2 : List UInt8 := dkwX1_heap_2 ++ dktX1_heap_3
def dkwX1_heap_1 : List UInt8 := [170, 0, 0, 0, 113, 0, 0, 0, 0, 0, 0, 0, 5, 0, 0, 0, 37, 0, 0, 0, 46, 0, 0, 0, 59, 0, 0, 0, 68, 0, 0, 0, 79, 0, 0, 0, 106]
abbrev dktX1_heap_1 : List UInt8 := dkwX1_heap_1 ++ dktX1_heap_2
def dkwX1_heap_0 : List UInt8 := [42, 182, 0, 101, 77, 44, 182, 0, 231, 78, 27]
abbrev dktX1_heap_0 : List UInt8 := dkwX1_heap_0 ++ dktX1_heap_1
theorem dksX1_heap_0 : cX1_heap.data.toList.drop 0 = dktX1_heap_0 := by decide +kernel
theorem dksX1_heap_1 : cX1_heap.data.toList.drop 11 = dktX1_heap_1 := dk_seg dksX1_heap_0 11 rfl rfl
theorem dksX1_heap_2 : cX1_heap.data.toList.drop 48 = dktX1_heap_2 := dk_seg dksX1_heap_1 37 rfl rfl
theorem dksX1_heap_3 : cX1_heap.data.toList.drop 71 = dktX1_heap_3 := dk_seg dksX1_heap_2 23 rfl rfl
theorem dksX1_heap_4 : cX1_heap.data.toList.drop 95 = dktX1_heap_4 := dk_seg dksX1_heap_3 24 rfl rfl
theorem dksX1_heap_5 : cX1_heap.data.toList.drop 118 = dktX1_heap_5 := dk_seg dksX1_heap_4 23 rfl rfl
theorem dX1_heap_0 : decode cX1_heap 0 = .ok (.aload_n 0, 1) := dk_42 (dk_at dksX1_heap_0 0 rfl rfl)
theorem dX1_heap_1 : decode cX1_heap 1 = .ok (.invokevirtual 101, 3) := dk_182 0 101 (dk_at dksX1_heap_0 1 rfl rfl)
theorem dX1_heap_4 : decode cX1_heap 4 = .ok (.astore_n 2, 1) := dk_77 (dk_at dksX1_heap_0 4 rfl rfl)
theorem dX1_heap_5 : decode cX1_heap 5 = .ok (.aload_n 2, 1) := dk_44 (dk_at dksX1_heap_0 5 rfl rfl)
theorem dX1_heap_6 : decode cX1_heap 6 = .ok (.invokevirtual 231, 3) := dk_182 0 231 (dk_at dksX1_heap_0 6 rfl rfl)
theorem dX1_heap_9 : decode cX1_heap 9 = .ok (.astore_n 3, 1) := dk_78 (dk_at dksX1_heap_0 9 rfl rfl)
theorem dX1_heap_10 : decode cX1_heap 10 = .ok (.iload_n 1, 1) := dk_27 (dk_at dksX1_heap_0 10 rfl rfl)
theorem dX1_heap_11 : decode cX1_heap 11 = .ok (.tableswitch 113 0 5 #[37, 46, 59, 68, 79, 106], 37) := by decide +kernel
theorem dX1_heap_48 : decode cX1_heap 48 = .ok (.aload_n 3, 1) := dk_45 (dk_at dksX1_heap_2 0 rfl rfl)
theorem dX1_heap_49 : decode cX1_heap 49 = .ok (.invokeinterface 235 1, 5) := by decide +kernel
theorem dX1_heap_54 : decode cX1_heap 54 = .ok (.goto 78, 3) := dk_167 0 78 (dk_at dksX1_heap_2 6 rfl rfl)
theorem dX1_heap_57 : decode cX1_heap 57 = .ok (.aload_n 2, 1) := dk_44 (dk_at dksX1_heap_2 9 rfl rfl)
theorem dX1_heap_58 : decode cX1_heap 58 = .ok (.aload_n 3, 1) := dk_45 (dk_at dksX1_heap_2 10 rfl rfl)
theorem dX1_heap_59 : decode cX1_heap 59 = .ok (.invokeinterface 235 1, 5) := by decide +kernel
theorem dX1_heap_64 : decode cX1_heap 64 = .ok (.invokevirtual 237, 3) := dk_182 0 237 (dk_at dksX1_heap_2 16 rfl rfl)
theorem dX1_heap_67 : decode cX1_heap 67 = .ok (.goto 65, 3) := dk_167 0 65 (dk_at dksX1_heap_2 19 rfl rfl)
theorem dX1_heap_70 : decode cX1_heap 70 = .ok (.aload_n 3, 1) := dk_45 (dk_at dksX1_heap_2 22 rfl rfl)
theorem dX1_heap_71 : decode cX1_heap 71 = .ok (.invokeinterface 220 1, 5) := by decide +kernel
theorem dX1_heap_76 : decode cX1_heap 76 = .ok (.goto 56, 3) := dk_167 0 56 (dk_at dksX1_heap_3 5 rfl rfl)
theorem dX1_heap_79 : decode cX1_heap 79 = .ok (.aload_n 2, 1) := dk_44 (dk_at dksX1_heap_3 8 rfl rfl)
theorem dX1_heap_80 : decode cX1_heap 80 = .ok (.aload_n 3, 1) := dk_45 (dk_at dksX1_heap_3 9 rfl rfl)
theorem dX1_heap_81 : decode cX1_heap 81 = .ok (.invokevirtual 224, 3) := dk_182 0 224 (dk_at dksX1_heap_3 10 rfl rfl)
theorem dX1_heap_84 : decode cX1_heap 84 = .ok (.invokestatic 120, 3) := dk_184 0 120 (dk_at dksX1_heap_3 13 rfl rfl)
theorem dX1_heap_87 : decode cX1_heap 87 = .ok (.goto 45, 3) := dk_167 0 45 (dk_at dksX1_heap_3 16 rfl rfl)
theorem dX1_heap_90 : decode cX1_heap 90 = .ok (.aload_n 2, 1) := dk_44 (dk_at dksX1_heap_3 19 rfl rfl)
theorem dX1_heap_91 : decode cX1_heap 91 = .ok (.aload_n 3, 1) := dk_45 (dk_at dksX1_heap_3 20 rfl rfl)
theorem dX1_heap_92 : decode cX1_heap 92 = .ok (.invokevirtual 224, 3) := dk_182 0 224 (dk_at dksX1_heap_3 21 rfl rfl)
theorem dX1_heap_95 : decode cX1_heap 95 = .ok (.ifCond .eq 15, 3) := dk_153 0 15 (dk_at dksX1_heap_4 0 rfl rfl)
theorem dX1_heap_98 : decode cX1_heap 98 = .ok (.aload_n 2, 1) := dk_44 (dk_at dksX1_heap_4 3 rfl rfl)
theorem dX1_heap_99 : decode cX1_heap 99 = .ok (.aload_n 3, 1) := dk_45 (dk_at dksX1_heap_4 4 rfl rfl)
theorem dX1_heap_100 : decode cX1_heap 100 = .ok (.invokevirtual 228, 3) := dk_182 0 228 (dk_at dksX1_heap_4 5 rfl rfl)
theorem dX1_heap_103 : decode cX1_heap 103 = .ok (.ifCond .eq 7, 3) := dk_153 0 7 (dk_at dksX1_heap_4 8 rfl rfl)
theorem dX1_heap_106 : decode cX1_heap 106 = .ok (.iconst 1, 1) := dk_4 (dk_at dksX1_heap_4 11 rfl rfl)
theorem dX1_heap_107 : decode cX1_heap 107 = .ok (.goto 4, 3) := dk_167 0 4 (dk_at dksX1_heap_4 12 rfl rfl)
theorem dX1_heap_110 : decode cX1_heap 110 = .ok (.iconst 0, 1) := dk_3 (dk_at dksX1_heap_4 15 rfl rfl)
theorem dX1_heap_111 : decode cX1_heap 111 = .ok (.invokestatic 120, 3) := dk_184 0 120 (dk_at dksX1_heap_4 16 rfl rfl)
theorem dX1_heap_114 : decode cX1_heap 114 = .ok (.goto 18, 3) := dk_167 0 18 (dk_at dksX1_heap_4 19 rfl rfl)
theorem dX1_heap_117 : decode cX1_heap 117 = .ok (.aload_n 2, 1) := dk_44 (dk_at dksX1_heap_4 22 rfl rfl)
theorem dX1_heap_118 : decode cX1_heap 118 = .ok (.invokevirtual 240, 3) := dk_182 0 240 (dk_at dksX1_heap_5 0 rfl rfl)
theorem dX1_heap_121 : decode cX1_heap 121 = .ok (.goto 11, 3) := dk_167 0 11 (dk_at dksX1_heap_5 3 rfl rfl)
theorem dX1_heap_124 : decode cX1_heap 124 = .ok (.new 81, 3) := dk_187 0 81 (dk_at dksX1_heap_5 6 rfl rfl)
theorem dX1_heap_127 : decode cX1_heap 127 = .ok (.dup, 1) := dk_89 (dk_at dksX1_heap_5 9 rfl rfl)
theorem dX1_heap_128 : decode cX1_heap 128 = .ok (.invokespecial 83, 3) := dk_183 0 83 (dk_at dksX1_heap_5 10 rfl rfl)
theorem dX1_heap_131 : decode cX1_heap 131 = .ok (.athrow, 1) := dk_191 (dk_at dksX1_heap_5 13 rfl rfl)
theorem dX1_heap_132 : decode cX1_heap 132 = .ok (.ireturn, 1) := dk_172 (dk_at dksX1_heap_5 14 rfl rfl)
abbrev cX1_mask : ByteArray := prog_1_method_32_code
def yX1_mask : MethodName := ⟨RX1, "mask", "(I)I"⟩
def dkwX1_mask_0 : List UInt8 := [42, 182, 0, 101, 77, 27, 3, 44, 182, 0, 102, 184, 0, 49, 184, 0, 105, 44, 180, 0, 243, 27, 46, 172]
abbrev dktX1_mask_0 : List UInt8 := dkwX1_mask_0 ++ []
theorem dksX1_mask_0 : cX1_mask.data.toList.drop 0 = dktX1_mask_0 := by decide +kernel
theorem dX1_mask_0 : decode cX1_mask 0 = .ok (.aload_n 0, 1) := dk_42 (dk_at dksX1_mask_0 0 rfl rfl)
theorem dX1_mask_1 : decode cX1_mask 1 = .ok (.invokevirtual 101, 3) := dk_182 0 101 (dk_at dksX1_mask_0 1 rfl rfl)
theorem dX1_mask_4 : decode cX1_mask 4 = .ok (.astore_n 2, 1) := dk_77 (dk_at dksX1_mask_0 4 rfl rfl)
theorem dX1_mask_5 : decode cX1_mask 5 = .ok (.iload_n 1, 1) := dk_27 (dk_at dksX1_mask_0 5 rfl rfl)
theorem dX1_mask_6 : decode cX1_mask 6 = .ok (.iconst 0, 1) := dk_3 (dk_at dksX1_mask_0 6 rfl rfl)
theorem dX1_mask_7 : decode cX1_mask 7 = .ok (.aload_n 2, 1) := dk_44 (dk_at dksX1_mask_0 7 rfl rfl)
theorem dX1_mask_8 : decode cX1_mask 8 = .ok (.invokevirtual 102, 3) := dk_182 0 102 (dk_at dksX1_mask_0 8 rfl rfl)
theorem dX1_mask_11 : decode cX1_mask 11 = .ok (.invokestatic 49, 3) := dk_184 0 49 (dk_at dksX1_mask_0 11 rfl rfl)
theorem dX1_mask_14 : decode cX1_mask 14 = .ok (.invokestatic 105, 3) := dk_184 0 105 (dk_at dksX1_mask_0 14 rfl rfl)
theorem dX1_mask_17 : decode cX1_mask 17 = .ok (.aload_n 2, 1) := dk_44 (dk_at dksX1_mask_0 17 rfl rfl)
theorem dX1_mask_18 : decode cX1_mask 18 = .ok (.getfield 243, 3) := dk_180 0 243 (dk_at dksX1_mask_0 18 rfl rfl)
theorem dX1_mask_21 : decode cX1_mask 21 = .ok (.iload_n 1, 1) := dk_27 (dk_at dksX1_mask_0 21 rfl rfl)
theorem dX1_mask_22 : decode cX1_mask 22 = .ok (.iaload, 1) := dk_46 (dk_at dksX1_mask_0 22 rfl rfl)
theorem dX1_mask_23 : decode cX1_mask 23 = .ok (.ireturn, 1) := dk_172 (dk_at dksX1_mask_0 23 rfl rfl)
abbrev cX1_echo : ByteArray := prog_1_method_33_code
def yX1_echo : MethodName := ⟨RX1, "echo", "(IZ)I"⟩
def dkwX1_echo_2 : List UInt8 := [45, 27, 185, 0, 204, 2, 0, 192, 0, 221, 185, 0, 235, 1, 0, 172]
abbrev dktX1_echo_2 : List UInt8 := dkwX1_echo_2 ++ []
def dkwX1_echo_1 : List UInt8 := [2, 172, 28, 153, 0, 21, 45, 27, 185, 0, 204, 2, 0, 192, 0, 221, 185, 0, 220, 1, 0, 167, 0, 18]
abbrev dktX1_echo_1 : List UInt8 := dkwX1_echo_1 ++ dktX1_echo_2
def dkwX1_echo_0 : List UInt8 := [42, 182, 0, 101, 182, 0, 246, 78, 27, 3, 45, 185, 0, 134, 1, 0, 4, 100, 184, 0, 49, 154, 0, 5]
abbrev dktX1_echo_0 : List UInt8 := dkwX1_echo_0 ++ dktX1_echo_1
theorem dksX1_echo_0 : cX1_echo.data.toList.drop 0 = dktX1_echo_0 := by decide +kernel
theorem dksX1_echo_1 : cX1_echo.data.toList.drop 24 = dktX1_echo_1 := dk_seg dksX1_echo_0 24 rfl rfl
theorem dksX1_echo_2 : cX1_echo.data.toList.drop 48 = dktX1_echo_2 := dk_seg dksX1_echo_1 24 rfl rfl
theorem dX1_echo_0 : decode cX1_echo 0 = .ok (.aload_n 0, 1) := dk_42 (dk_at dksX1_echo_0 0 rfl rfl)
theorem dX1_echo_1 : decode cX1_echo 1 = .ok (.invokevirtual 101, 3) := dk_182 0 101 (dk_at dksX1_echo_0 1 rfl rfl)
theorem dX1_echo_4 : decode cX1_echo 4 = .ok (.invokevirtual 246, 3) := dk_182 0 246 (dk_at dksX1_echo_0 4 rfl rfl)
theorem dX1_echo_7 : decode cX1_echo 7 = .ok (.astore_n 3, 1) := dk_78 (dk_at dksX1_echo_0 7 rfl rfl)
theorem dX1_echo_8 : decode cX1_echo 8 = .ok (.iload_n 1, 1) := dk_27 (dk_at dksX1_echo_0 8 rfl rfl)
theorem dX1_echo_9 : decode cX1_echo 9 = .ok (.iconst 0, 1) := dk_3 (dk_at dksX1_echo_0 9 rfl rfl)
theorem dX1_echo_10 : decode cX1_echo 10 = .ok (.aload_n 3, 1) := dk_45 (dk_at dksX1_echo_0 10 rfl rfl)
theorem dX1_echo_11 : decode cX1_echo 11 = .ok (.invokeinterface 134 1, 5) := by decide +kernel
theorem dX1_echo_16 : decode cX1_echo 16 = .ok (.iconst 1, 1) := dk_4 (dk_at dksX1_echo_0 16 rfl rfl)
theorem dX1_echo_17 : decode cX1_echo 17 = .ok (.isub, 1) := dk_100 (dk_at dksX1_echo_0 17 rfl rfl)
theorem dX1_echo_18 : decode cX1_echo 18 = .ok (.invokestatic 49, 3) := dk_184 0 49 (dk_at dksX1_echo_0 18 rfl rfl)
theorem dX1_echo_21 : decode cX1_echo 21 = .ok (.ifCond .ne 5, 3) := dk_154 0 5 (dk_at dksX1_echo_0 21 rfl rfl)
theorem dX1_echo_24 : decode cX1_echo 24 = .ok (.iconst (-1), 1) := dk_2 (dk_at dksX1_echo_1 0 rfl rfl)
theorem dX1_echo_25 : decode cX1_echo 25 = .ok (.ireturn, 1) := dk_172 (dk_at dksX1_echo_1 1 rfl rfl)
theorem dX1_echo_26 : decode cX1_echo 26 = .ok (.iload_n 2, 1) := dk_28 (dk_at dksX1_echo_1 2 rfl rfl)
theorem dX1_echo_27 : decode cX1_echo 27 = .ok (.ifCond .eq 21, 3) := dk_153 0 21 (dk_at dksX1_echo_1 3 rfl rfl)
theorem dX1_echo_30 : decode cX1_echo 30 = .ok (.aload_n 3, 1) := dk_45 (dk_at dksX1_echo_1 6 rfl rfl)
theorem dX1_echo_31 : decode cX1_echo 31 = .ok (.iload_n 1, 1) := dk_27 (dk_at dksX1_echo_1 7 rfl rfl)
theorem dX1_echo_32 : decode cX1_echo 32 = .ok (.invokeinterface 204 2, 5) := by decide +kernel
theorem dX1_echo_37 : decode cX1_echo 37 = .ok (.checkcast 221, 3) := dk_192 0 221 (dk_at dksX1_echo_1 13 rfl rfl)
theorem dX1_echo_40 : decode cX1_echo 40 = .ok (.invokeinterface 220 1, 5) := by decide +kernel
theorem dX1_echo_45 : decode cX1_echo 45 = .ok (.goto 18, 3) := dk_167 0 18 (dk_at dksX1_echo_1 21 rfl rfl)
theorem dX1_echo_48 : decode cX1_echo 48 = .ok (.aload_n 3, 1) := dk_45 (dk_at dksX1_echo_2 0 rfl rfl)
theorem dX1_echo_49 : decode cX1_echo 49 = .ok (.iload_n 1, 1) := dk_27 (dk_at dksX1_echo_2 1 rfl rfl)
theorem dX1_echo_50 : decode cX1_echo 50 = .ok (.invokeinterface 204 2, 5) := by decide +kernel
theorem dX1_echo_55 : decode cX1_echo 55 = .ok (.checkcast 221, 3) := dk_192 0 221 (dk_at dksX1_echo_2 7 rfl rfl)
theorem dX1_echo_58 : decode cX1_echo 58 = .ok (.invokeinterface 235 1, 5) := by decide +kernel
theorem dX1_echo_63 : decode cX1_echo 63 = .ok (.ireturn, 1) := dk_172 (dk_at dksX1_echo_2 15 rfl rfl)
abbrev cX1_chosen : ByteArray := prog_1_method_34_code
def yX1_chosen : MethodName := ⟨RX1, "chosen", "()I"⟩
def dkwX1_chosen_0 : List UInt8 := [42, 182, 0, 101, 182, 0, 250, 172]
abbrev dktX1_chosen_0 : List UInt8 := dkwX1_chosen_0 ++ []
theorem dksX1_chosen_0 : cX1_chosen.data.toList.drop 0 = dktX1_chosen_0 := by decide +kernel
theorem dX1_chosen_0 : decode cX1_chosen 0 = .ok (.aload_n 0, 1) := dk_42 (dk_at dksX1_chosen_0 0 rfl rfl)
theorem dX1_chosen_1 : decode cX1_chosen 1 = .ok (.invokevirtual 101, 3) := dk_182 0 101 (dk_at dksX1_chosen_0 1 rfl rfl)
theorem dX1_chosen_4 : decode cX1_chosen 4 = .ok (.invokevirtual 250, 3) := dk_182 0 250 (dk_at dksX1_chosen_0 4 rfl rfl)
theorem dX1_chosen_7 : decode cX1_chosen 7 = .ok (.ireturn, 1) := dk_172 (dk_at dksX1_chosen_0 7 rfl rfl)
abbrev cX1_whyNotHeap : ByteArray := prog_1_method_35_code
def yX1_whyNotHeap : MethodName := ⟨RX1, "whyNotHeap", "()I"⟩
def dkwX1_whyNotHeap_2 : List UInt8 := [167, 0, 4, 6, 172]
abbrev dktX1_whyNotHeap_2 : List UInt8 := dkwX1_whyNotHeap_2 ++ []
def dkwX1_whyNotHeap_1 : List UInt8 := [182, 0, 228, 153, 0, 5, 5, 172, 43, 182, 0, 250, 44, 185, 0, 235, 1, 0, 160, 0, 7, 3]
abbrev dktX1_whyNotHeap_1 : List UInt8 := dkwX1_whyNotHeap_1 ++ dktX1_whyNotHeap_2
def dkwX1_whyNotHeap_0 : List UInt8 := [42, 182, 0, 101, 76, 43, 182, 0, 231, 77, 43, 44, 182, 0, 224, 154, 0, 5, 4, 172, 43, 44]
abbrev dktX1_whyNotHeap_0 : List UInt8 := dkwX1_whyNotHeap_0 ++ dktX1_whyNotHeap_1
theorem dksX1_whyNotHeap_0 : cX1_whyNotHeap.data.toList.drop 0 = dktX1_whyNotHeap_0 := by decide +kernel
theorem dksX1_whyNotHeap_1 : cX1_whyNotHeap.data.toList.drop 22 = dktX1_whyNotHeap_1 := dk_seg dksX1_whyNotHeap_0 22 rfl rfl
theorem dksX1_whyNotHeap_2 : cX1_whyNotHeap.data.toList.drop 44 = dktX1_whyNotHeap_2 := dk_seg dksX1_whyNotHeap_1 22 rfl rfl
theorem dX1_whyNotHeap_0 : decode cX1_whyNotHeap 0 = .ok (.aload_n 0, 1) := dk_42 (dk_at dksX1_whyNotHeap_0 0 rfl rfl)
theorem dX1_whyNotHeap_1 : decode cX1_whyNotHeap 1 = .ok (.invokevirtual 101, 3) := dk_182 0 101 (dk_at dksX1_whyNotHeap_0 1 rfl rfl)
theorem dX1_whyNotHeap_4 : decode cX1_whyNotHeap 4 = .ok (.astore_n 1, 1) := dk_76 (dk_at dksX1_whyNotHeap_0 4 rfl rfl)
theorem dX1_whyNotHeap_5 : decode cX1_whyNotHeap 5 = .ok (.aload_n 1, 1) := dk_43 (dk_at dksX1_whyNotHeap_0 5 rfl rfl)
theorem dX1_whyNotHeap_6 : decode cX1_whyNotHeap 6 = .ok (.invokevirtual 231, 3) := dk_182 0 231 (dk_at dksX1_whyNotHeap_0 6 rfl rfl)
theorem dX1_whyNotHeap_9 : decode cX1_whyNotHeap 9 = .ok (.astore_n 2, 1) := dk_77 (dk_at dksX1_whyNotHeap_0 9 rfl rfl)
theorem dX1_whyNotHeap_10 : decode cX1_whyNotHeap 10 = .ok (.aload_n 1, 1) := dk_43 (dk_at dksX1_whyNotHeap_0 10 rfl rfl)
theorem dX1_whyNotHeap_11 : decode cX1_whyNotHeap 11 = .ok (.aload_n 2, 1) := dk_44 (dk_at dksX1_whyNotHeap_0 11 rfl rfl)
theorem dX1_whyNotHeap_12 : decode cX1_whyNotHeap 12 = .ok (.invokevirtual 224, 3) := dk_182 0 224 (dk_at dksX1_whyNotHeap_0 12 rfl rfl)
theorem dX1_whyNotHeap_15 : decode cX1_whyNotHeap 15 = .ok (.ifCond .ne 5, 3) := dk_154 0 5 (dk_at dksX1_whyNotHeap_0 15 rfl rfl)
theorem dX1_whyNotHeap_18 : decode cX1_whyNotHeap 18 = .ok (.iconst 1, 1) := dk_4 (dk_at dksX1_whyNotHeap_0 18 rfl rfl)
theorem dX1_whyNotHeap_19 : decode cX1_whyNotHeap 19 = .ok (.ireturn, 1) := dk_172 (dk_at dksX1_whyNotHeap_0 19 rfl rfl)
theorem dX1_whyNotHeap_20 : decode cX1_whyNotHeap 20 = .ok (.aload_n 1, 1) := dk_43 (dk_at dksX1_whyNotHeap_0 20 rfl rfl)
theorem dX1_whyNotHeap_21 : decode cX1_whyNotHeap 21 = .ok (.aload_n 2, 1) := dk_44 (dk_at dksX1_whyNotHeap_0 21 rfl rfl)
theorem dX1_whyNotHeap_22 : decode cX1_whyNotHeap 22 = .ok (.invokevirtual 228, 3) := dk_182 0 228 (dk_at dksX1_whyNotHeap_1 0 rfl rfl)
theorem dX1_whyNotHeap_25 : decode cX1_whyNotHeap 25 = .ok (.ifCond .eq 5, 3) := dk_153 0 5 (dk_at dksX1_whyNotHeap_1 3 rfl rfl)
theorem dX1_whyNotHeap_28 : decode cX1_whyNotHeap 28 = .ok (.iconst 2, 1) := dk_5 (dk_at dksX1_whyNotHeap_1 6 rfl rfl)
theorem dX1_whyNotHeap_29 : decode cX1_whyNotHeap 29 = .ok (.ireturn, 1) := dk_172 (dk_at dksX1_whyNotHeap_1 7 rfl rfl)
theorem dX1_whyNotHeap_30 : decode cX1_whyNotHeap 30 = .ok (.aload_n 1, 1) := dk_43 (dk_at dksX1_whyNotHeap_1 8 rfl rfl)
theorem dX1_whyNotHeap_31 : decode cX1_whyNotHeap 31 = .ok (.invokevirtual 250, 3) := dk_182 0 250 (dk_at dksX1_whyNotHeap_1 9 rfl rfl)
theorem dX1_whyNotHeap_34 : decode cX1_whyNotHeap 34 = .ok (.aload_n 2, 1) := dk_44 (dk_at dksX1_whyNotHeap_1 12 rfl rfl)
theorem dX1_whyNotHeap_35 : decode cX1_whyNotHeap 35 = .ok (.invokeinterface 235 1, 5) := by decide +kernel
theorem dX1_whyNotHeap_40 : decode cX1_whyNotHeap 40 = .ok (.if_icmp .ne 7, 3) := dk_160 0 7 (dk_at dksX1_whyNotHeap_1 18 rfl rfl)
theorem dX1_whyNotHeap_43 : decode cX1_whyNotHeap 43 = .ok (.iconst 0, 1) := dk_3 (dk_at dksX1_whyNotHeap_1 21 rfl rfl)
theorem dX1_whyNotHeap_44 : decode cX1_whyNotHeap 44 = .ok (.goto 4, 3) := dk_167 0 4 (dk_at dksX1_whyNotHeap_2 0 rfl rfl)
theorem dX1_whyNotHeap_47 : decode cX1_whyNotHeap 47 = .ok (.iconst 3, 1) := dk_6 (dk_at dksX1_whyNotHeap_2 3 rfl rfl)
theorem dX1_whyNotHeap_48 : decode cX1_whyNotHeap 48 = .ok (.ireturn, 1) := dk_172 (dk_at dksX1_whyNotHeap_2 4 rfl rfl)
abbrev cX1_echoMany : ByteArray := prog_1_method_36_code
def yX1_echoMany : MethodName := ⟨RX1, "echoMany", "(Z)I"⟩
def dkwX1_echoMany_3 : List UInt8 := [167, 255, 210, 29, 172]
abbrev dktX1_echoMany_3 : List UInt8 := dkwX1_echoMany_3 ++ []
def dkwX1_echoMany_2 : List UInt8 := [153, 0, 12, 44, 25, 5, 182, 0, 228, 153, 0, 7, 4, 167, 0, 4, 3, 184, 0, 120, 96, 62]
abbrev dktX1_echoMany_2 : List UInt8 := dkwX1_echoMany_2 ++ dktX1_echoMany_3
def dkwX1_echoMany_1 : List UInt8 := [185, 1, 1, 1, 0, 153, 0, 42, 25, 4, 185, 1, 7, 1, 0, 192, 0, 221, 58, 5, 29, 27]
abbrev dktX1_echoMany_1 : List UInt8 := dkwX1_echoMany_1 ++ dktX1_echoMany_2
def dkwX1_echoMany_0 : List UInt8 := [42, 182, 0, 101, 77, 3, 62, 44, 182, 0, 246, 185, 0, 253, 1, 0, 58, 4, 25, 4]
abbrev dktX1_echoMany_0 : List UInt8 := dkwX1_echoMany_0 ++ dktX1_echoMany_1
theorem dksX1_echoMany_0 : cX1_echoMany.data.toList.drop 0 = dktX1_echoMany_0 := by decide +kernel
theorem dksX1_echoMany_1 : cX1_echoMany.data.toList.drop 20 = dktX1_echoMany_1 := dk_seg dksX1_echoMany_0 20 rfl rfl
theorem dksX1_echoMany_2 : cX1_echoMany.data.toList.drop 42 = dktX1_echoMany_2 := dk_seg dksX1_echoMany_1 22 rfl rfl
theorem dksX1_echoMany_3 : cX1_echoMany.data.toList.drop 64 = dktX1_echoMany_3 := dk_seg dksX1_echoMany_2 22 rfl rfl
theorem dX1_echoMany_0 : decode cX1_echoMany 0 = .ok (.aload_n 0, 1) := dk_42 (dk_at dksX1_echoMany_0 0 rfl rfl)
theorem dX1_echoMany_1 : decode cX1_echoMany 1 = .ok (.invokevirtual 101, 3) := dk_182 0 101 (dk_at dksX1_echoMany_0 1 rfl rfl)
theorem dX1_echoMany_4 : decode cX1_echoMany 4 = .ok (.astore_n 2, 1) := dk_77 (dk_at dksX1_echoMany_0 4 rfl rfl)
theorem dX1_echoMany_5 : decode cX1_echoMany 5 = .ok (.iconst 0, 1) := dk_3 (dk_at dksX1_echoMany_0 5 rfl rfl)
theorem dX1_echoMany_6 : decode cX1_echoMany 6 = .ok (.istore_n 3, 1) := dk_62 (dk_at dksX1_echoMany_0 6 rfl rfl)
theorem dX1_echoMany_7 : decode cX1_echoMany 7 = .ok (.aload_n 2, 1) := dk_44 (dk_at dksX1_echoMany_0 7 rfl rfl)
theorem dX1_echoMany_8 : decode cX1_echoMany 8 = .ok (.invokevirtual 246, 3) := dk_182 0 246 (dk_at dksX1_echoMany_0 8 rfl rfl)
theorem dX1_echoMany_11 : decode cX1_echoMany 11 = .ok (.invokeinterface 253 1, 5) := by decide +kernel
theorem dX1_echoMany_16 : decode cX1_echoMany 16 = .ok (.astore 4, 2) := dk_58 4 (dk_at dksX1_echoMany_0 16 rfl rfl)
theorem dX1_echoMany_18 : decode cX1_echoMany 18 = .ok (.aload 4, 2) := dk_25 4 (dk_at dksX1_echoMany_0 18 rfl rfl)
theorem dX1_echoMany_20 : decode cX1_echoMany 20 = .ok (.invokeinterface 257 1, 5) := by decide +kernel
theorem dX1_echoMany_25 : decode cX1_echoMany 25 = .ok (.ifCond .eq 42, 3) := dk_153 0 42 (dk_at dksX1_echoMany_1 5 rfl rfl)
theorem dX1_echoMany_28 : decode cX1_echoMany 28 = .ok (.aload 4, 2) := dk_25 4 (dk_at dksX1_echoMany_1 8 rfl rfl)
theorem dX1_echoMany_30 : decode cX1_echoMany 30 = .ok (.invokeinterface 263 1, 5) := by decide +kernel
theorem dX1_echoMany_35 : decode cX1_echoMany 35 = .ok (.checkcast 221, 3) := dk_192 0 221 (dk_at dksX1_echoMany_1 15 rfl rfl)
theorem dX1_echoMany_38 : decode cX1_echoMany 38 = .ok (.astore 5, 2) := dk_58 5 (dk_at dksX1_echoMany_1 18 rfl rfl)
theorem dX1_echoMany_40 : decode cX1_echoMany 40 = .ok (.iload_n 3, 1) := dk_29 (dk_at dksX1_echoMany_1 20 rfl rfl)
theorem dX1_echoMany_41 : decode cX1_echoMany 41 = .ok (.iload_n 1, 1) := dk_27 (dk_at dksX1_echoMany_1 21 rfl rfl)
theorem dX1_echoMany_42 : decode cX1_echoMany 42 = .ok (.ifCond .eq 12, 3) := dk_153 0 12 (dk_at dksX1_echoMany_2 0 rfl rfl)
theorem dX1_echoMany_45 : decode cX1_echoMany 45 = .ok (.aload_n 2, 1) := dk_44 (dk_at dksX1_echoMany_2 3 rfl rfl)
theorem dX1_echoMany_46 : decode cX1_echoMany 46 = .ok (.aload 5, 2) := dk_25 5 (dk_at dksX1_echoMany_2 4 rfl rfl)
theorem dX1_echoMany_48 : decode cX1_echoMany 48 = .ok (.invokevirtual 228, 3) := dk_182 0 228 (dk_at dksX1_echoMany_2 6 rfl rfl)
theorem dX1_echoMany_51 : decode cX1_echoMany 51 = .ok (.ifCond .eq 7, 3) := dk_153 0 7 (dk_at dksX1_echoMany_2 9 rfl rfl)
theorem dX1_echoMany_54 : decode cX1_echoMany 54 = .ok (.iconst 1, 1) := dk_4 (dk_at dksX1_echoMany_2 12 rfl rfl)
theorem dX1_echoMany_55 : decode cX1_echoMany 55 = .ok (.goto 4, 3) := dk_167 0 4 (dk_at dksX1_echoMany_2 13 rfl rfl)
theorem dX1_echoMany_58 : decode cX1_echoMany 58 = .ok (.iconst 0, 1) := dk_3 (dk_at dksX1_echoMany_2 16 rfl rfl)
theorem dX1_echoMany_59 : decode cX1_echoMany 59 = .ok (.invokestatic 120, 3) := dk_184 0 120 (dk_at dksX1_echoMany_2 17 rfl rfl)
theorem dX1_echoMany_62 : decode cX1_echoMany 62 = .ok (.iadd, 1) := dk_96 (dk_at dksX1_echoMany_2 20 rfl rfl)
theorem dX1_echoMany_63 : decode cX1_echoMany 63 = .ok (.istore_n 3, 1) := dk_62 (dk_at dksX1_echoMany_2 21 rfl rfl)
theorem dX1_echoMany_64 : decode cX1_echoMany 64 = .ok (.goto (-46), 3) := dk_167 255 210 (dk_at dksX1_echoMany_3 0 rfl rfl)
theorem dX1_echoMany_67 : decode cX1_echoMany 67 = .ok (.iload_n 3, 1) := dk_29 (dk_at dksX1_echoMany_3 3 rfl rfl)
theorem dX1_echoMany_68 : decode cX1_echoMany 68 = .ok (.ireturn, 1) := dk_172 (dk_at dksX1_echoMany_3 4 rfl rfl)
abbrev cX1_second : ByteArray := prog_1_method_37_code
def yX1_second : MethodName := ⟨RX1, "second", "()I"⟩
def dkwX1_second_1 : List UInt8 := [180, 0, 243, 44, 185, 0, 235, 1, 0, 44, 185, 0, 220, 1, 0, 79, 43, 182, 0, 250, 172]
abbrev dktX1_second_1 : List UInt8 := dkwX1_second_1 ++ []
def dkwX1_second_0 : List UInt8 := [187, 0, 4, 89, 42, 182, 0, 101, 183, 0, 195, 76, 43, 182, 1, 11, 77, 44, 199, 0, 5, 2, 172, 43]
abbrev dktX1_second_0 : List UInt8 := dkwX1_second_0 ++ dktX1_second_1
theorem dksX1_second_0 : cX1_second.data.toList.drop 0 = dktX1_second_0 := by decide +kernel
theorem dksX1_second_1 : cX1_second.data.toList.drop 24 = dktX1_second_1 := dk_seg dksX1_second_0 24 rfl rfl
theorem dX1_second_0 : decode cX1_second 0 = .ok (.new 4, 3) := dk_187 0 4 (dk_at dksX1_second_0 0 rfl rfl)
theorem dX1_second_3 : decode cX1_second 3 = .ok (.dup, 1) := dk_89 (dk_at dksX1_second_0 3 rfl rfl)
theorem dX1_second_4 : decode cX1_second 4 = .ok (.aload_n 0, 1) := dk_42 (dk_at dksX1_second_0 4 rfl rfl)
theorem dX1_second_5 : decode cX1_second 5 = .ok (.invokevirtual 101, 3) := dk_182 0 101 (dk_at dksX1_second_0 5 rfl rfl)
theorem dX1_second_8 : decode cX1_second 8 = .ok (.invokespecial 195, 3) := dk_183 0 195 (dk_at dksX1_second_0 8 rfl rfl)
theorem dX1_second_11 : decode cX1_second 11 = .ok (.astore_n 1, 1) := dk_76 (dk_at dksX1_second_0 11 rfl rfl)
theorem dX1_second_12 : decode cX1_second 12 = .ok (.aload_n 1, 1) := dk_43 (dk_at dksX1_second_0 12 rfl rfl)
theorem dX1_second_13 : decode cX1_second 13 = .ok (.invokevirtual 267, 3) := dk_182 1 11 (dk_at dksX1_second_0 13 rfl rfl)
theorem dX1_second_16 : decode cX1_second 16 = .ok (.astore_n 2, 1) := dk_77 (dk_at dksX1_second_0 16 rfl rfl)
theorem dX1_second_17 : decode cX1_second 17 = .ok (.aload_n 2, 1) := dk_44 (dk_at dksX1_second_0 17 rfl rfl)
theorem dX1_second_18 : decode cX1_second 18 = .ok (.ifnonnull 5, 3) := dk_199 0 5 (dk_at dksX1_second_0 18 rfl rfl)
theorem dX1_second_21 : decode cX1_second 21 = .ok (.iconst (-1), 1) := dk_2 (dk_at dksX1_second_0 21 rfl rfl)
theorem dX1_second_22 : decode cX1_second 22 = .ok (.ireturn, 1) := dk_172 (dk_at dksX1_second_0 22 rfl rfl)
theorem dX1_second_23 : decode cX1_second 23 = .ok (.aload_n 1, 1) := dk_43 (dk_at dksX1_second_0 23 rfl rfl)
theorem dX1_second_24 : decode cX1_second 24 = .ok (.getfield 243, 3) := dk_180 0 243 (dk_at dksX1_second_1 0 rfl rfl)
theorem dX1_second_27 : decode cX1_second 27 = .ok (.aload_n 2, 1) := dk_44 (dk_at dksX1_second_1 3 rfl rfl)
theorem dX1_second_28 : decode cX1_second 28 = .ok (.invokeinterface 235 1, 5) := by decide +kernel
theorem dX1_second_33 : decode cX1_second 33 = .ok (.aload_n 2, 1) := dk_44 (dk_at dksX1_second_1 9 rfl rfl)
theorem dX1_second_34 : decode cX1_second 34 = .ok (.invokeinterface 220 1, 5) := by decide +kernel
theorem dX1_second_39 : decode cX1_second 39 = .ok (.iastore, 1) := dk_79 (dk_at dksX1_second_1 15 rfl rfl)
theorem dX1_second_40 : decode cX1_second 40 = .ok (.aload_n 1, 1) := dk_43 (dk_at dksX1_second_1 16 rfl rfl)
theorem dX1_second_41 : decode cX1_second 41 = .ok (.invokevirtual 250, 3) := dk_182 0 250 (dk_at dksX1_second_1 17 rfl rfl)
theorem dX1_second_44 : decode cX1_second 44 = .ok (.ireturn, 1) := dk_172 (dk_at dksX1_second_1 20 rfl rfl)
abbrev cX1_error : ByteArray := prog_1_method_38_code
def yX1_error : MethodName := ⟨RX1, "error", "()I"⟩
def dkwX1_error_1 : List UInt8 := [182, 0, 240, 100, 184, 0, 182, 172]
abbrev dktX1_error_1 : List UInt8 := dkwX1_error_1 ++ []
def dkwX1_error_0 : List UInt8 := [42, 182, 0, 101, 76, 43, 180, 0, 139, 2, 160, 0, 7, 2, 167, 0, 15, 43, 180, 0, 139, 43]
abbrev dktX1_error_0 : List UInt8 := dkwX1_error_0 ++ dktX1_error_1
theorem dksX1_error_0 : cX1_error.data.toList.drop 0 = dktX1_error_0 := by decide +kernel
theorem dksX1_error_1 : cX1_error.data.toList.drop 22 = dktX1_error_1 := dk_seg dksX1_error_0 22 rfl rfl
theorem dX1_error_0 : decode cX1_error 0 = .ok (.aload_n 0, 1) := dk_42 (dk_at dksX1_error_0 0 rfl rfl)
theorem dX1_error_1 : decode cX1_error 1 = .ok (.invokevirtual 101, 3) := dk_182 0 101 (dk_at dksX1_error_0 1 rfl rfl)
theorem dX1_error_4 : decode cX1_error 4 = .ok (.astore_n 1, 1) := dk_76 (dk_at dksX1_error_0 4 rfl rfl)
theorem dX1_error_5 : decode cX1_error 5 = .ok (.aload_n 1, 1) := dk_43 (dk_at dksX1_error_0 5 rfl rfl)
theorem dX1_error_6 : decode cX1_error 6 = .ok (.getfield 139, 3) := dk_180 0 139 (dk_at dksX1_error_0 6 rfl rfl)
theorem dX1_error_9 : decode cX1_error 9 = .ok (.iconst (-1), 1) := dk_2 (dk_at dksX1_error_0 9 rfl rfl)
theorem dX1_error_10 : decode cX1_error 10 = .ok (.if_icmp .ne 7, 3) := dk_160 0 7 (dk_at dksX1_error_0 10 rfl rfl)
theorem dX1_error_13 : decode cX1_error 13 = .ok (.iconst (-1), 1) := dk_2 (dk_at dksX1_error_0 13 rfl rfl)
theorem dX1_error_14 : decode cX1_error 14 = .ok (.goto 15, 3) := dk_167 0 15 (dk_at dksX1_error_0 14 rfl rfl)
theorem dX1_error_17 : decode cX1_error 17 = .ok (.aload_n 1, 1) := dk_43 (dk_at dksX1_error_0 17 rfl rfl)
theorem dX1_error_18 : decode cX1_error 18 = .ok (.getfield 139, 3) := dk_180 0 139 (dk_at dksX1_error_0 18 rfl rfl)
theorem dX1_error_21 : decode cX1_error 21 = .ok (.aload_n 1, 1) := dk_43 (dk_at dksX1_error_0 21 rfl rfl)
theorem dX1_error_22 : decode cX1_error 22 = .ok (.invokevirtual 240, 3) := dk_182 0 240 (dk_at dksX1_error_1 0 rfl rfl)
theorem dX1_error_25 : decode cX1_error 25 = .ok (.isub, 1) := dk_100 (dk_at dksX1_error_1 3 rfl rfl)
theorem dX1_error_26 : decode cX1_error 26 = .ok (.invokestatic 182, 3) := dk_184 0 182 (dk_at dksX1_error_1 4 rfl rfl)
theorem dX1_error_29 : decode cX1_error 29 = .ok (.ireturn, 1) := dk_172 (dk_at dksX1_error_1 7 rfl rfl)
abbrev cX1_whyNotBelieved : ByteArray := prog_1_method_39_code
def yX1_whyNotBelieved : MethodName := ⟨RX1, "whyNotBelieved", "()I"⟩
def dkwX1_whyNotBelieved_2 : List UInt8 := [167, 0, 4, 6, 172]
abbrev dktX1_whyNotBelieved_2 : List UInt8 := dkwX1_whyNotBelieved_2 ++ []
def dkwX1_whyNotBelieved_1 : List UInt8 := [159, 0, 5, 5, 172, 187, 0, 4, 89, 43, 183, 0, 195, 182, 1, 17, 43, 182, 0, 240, 160, 0, 7, 3]
abbrev dktX1_whyNotBelieved_1 : List UInt8 := dkwX1_whyNotBelieved_1 ++ dktX1_whyNotBelieved_2
def dkwX1_whyNotBelieved_0 : List UInt8 := [42, 182, 0, 101, 76, 43, 182, 0, 250, 2, 160, 0, 5, 4, 172, 43, 182, 0, 250, 43, 182, 1, 14]
abbrev dktX1_whyNotBelieved_0 : List UInt8 := dkwX1_whyNotBelieved_0 ++ dktX1_whyNotBelieved_1
theorem dksX1_whyNotBelieved_0 : cX1_whyNotBelieved.data.toList.drop 0 = dktX1_whyNotBelieved_0 := by decide +kernel
theorem dksX1_whyNotBelieved_1 : cX1_whyNotBelieved.data.toList.drop 23 = dktX1_whyNotBelieved_1 := dk_seg dksX1_whyNotBelieved_0 23 rfl rfl
theorem dksX1_whyNotBelieved_2 : cX1_whyNotBelieved.data.toList.drop 47 = dktX1_whyNotBelieved_2 := dk_seg dksX1_whyNotBelieved_1 24 rfl rfl
theorem dX1_whyNotBelieved_0 : decode cX1_whyNotBelieved 0 = .ok (.aload_n 0, 1) := dk_42 (dk_at dksX1_whyNotBelieved_0 0 rfl rfl)
theorem dX1_whyNotBelieved_1 : decode cX1_whyNotBelieved 1 = .ok (.invokevirtual 101, 3) := dk_182 0 101 (dk_at dksX1_whyNotBelieved_0 1 rfl rfl)
theorem dX1_whyNotBelieved_4 : decode cX1_whyNotBelieved 4 = .ok (.astore_n 1, 1) := dk_76 (dk_at dksX1_whyNotBelieved_0 4 rfl rfl)
theorem dX1_whyNotBelieved_5 : decode cX1_whyNotBelieved 5 = .ok (.aload_n 1, 1) := dk_43 (dk_at dksX1_whyNotBelieved_0 5 rfl rfl)
theorem dX1_whyNotBelieved_6 : decode cX1_whyNotBelieved 6 = .ok (.invokevirtual 250, 3) := dk_182 0 250 (dk_at dksX1_whyNotBelieved_0 6 rfl rfl)
theorem dX1_whyNotBelieved_9 : decode cX1_whyNotBelieved 9 = .ok (.iconst (-1), 1) := dk_2 (dk_at dksX1_whyNotBelieved_0 9 rfl rfl)
theorem dX1_whyNotBelieved_10 : decode cX1_whyNotBelieved 10 = .ok (.if_icmp .ne 5, 3) := dk_160 0 5 (dk_at dksX1_whyNotBelieved_0 10 rfl rfl)
theorem dX1_whyNotBelieved_13 : decode cX1_whyNotBelieved 13 = .ok (.iconst 1, 1) := dk_4 (dk_at dksX1_whyNotBelieved_0 13 rfl rfl)
theorem dX1_whyNotBelieved_14 : decode cX1_whyNotBelieved 14 = .ok (.ireturn, 1) := dk_172 (dk_at dksX1_whyNotBelieved_0 14 rfl rfl)
theorem dX1_whyNotBelieved_15 : decode cX1_whyNotBelieved 15 = .ok (.aload_n 1, 1) := dk_43 (dk_at dksX1_whyNotBelieved_0 15 rfl rfl)
theorem dX1_whyNotBelieved_16 : decode cX1_whyNotBelieved 16 = .ok (.invokevirtual 250, 3) := dk_182 0 250 (dk_at dksX1_whyNotBelieved_0 16 rfl rfl)
theorem dX1_whyNotBelieved_19 : decode cX1_whyNotBelieved 19 = .ok (.aload_n 1, 1) := dk_43 (dk_at dksX1_whyNotBelieved_0 19 rfl rfl)
theorem dX1_whyNotBelieved_20 : decode cX1_whyNotBelieved 20 = .ok (.invokevirtual 270, 3) := dk_182 1 14 (dk_at dksX1_whyNotBelieved_0 20 rfl rfl)
theorem dX1_whyNotBelieved_23 : decode cX1_whyNotBelieved 23 = .ok (.if_icmp .eq 5, 3) := dk_159 0 5 (dk_at dksX1_whyNotBelieved_1 0 rfl rfl)
theorem dX1_whyNotBelieved_26 : decode cX1_whyNotBelieved 26 = .ok (.iconst 2, 1) := dk_5 (dk_at dksX1_whyNotBelieved_1 3 rfl rfl)
theorem dX1_whyNotBelieved_27 : decode cX1_whyNotBelieved 27 = .ok (.ireturn, 1) := dk_172 (dk_at dksX1_whyNotBelieved_1 4 rfl rfl)
theorem dX1_whyNotBelieved_28 : decode cX1_whyNotBelieved 28 = .ok (.new 4, 3) := dk_187 0 4 (dk_at dksX1_whyNotBelieved_1 5 rfl rfl)
theorem dX1_whyNotBelieved_31 : decode cX1_whyNotBelieved 31 = .ok (.dup, 1) := dk_89 (dk_at dksX1_whyNotBelieved_1 8 rfl rfl)
theorem dX1_whyNotBelieved_32 : decode cX1_whyNotBelieved 32 = .ok (.aload_n 1, 1) := dk_43 (dk_at dksX1_whyNotBelieved_1 9 rfl rfl)
theorem dX1_whyNotBelieved_33 : decode cX1_whyNotBelieved 33 = .ok (.invokespecial 195, 3) := dk_183 0 195 (dk_at dksX1_whyNotBelieved_1 10 rfl rfl)
theorem dX1_whyNotBelieved_36 : decode cX1_whyNotBelieved 36 = .ok (.invokevirtual 273, 3) := dk_182 1 17 (dk_at dksX1_whyNotBelieved_1 13 rfl rfl)
theorem dX1_whyNotBelieved_39 : decode cX1_whyNotBelieved 39 = .ok (.aload_n 1, 1) := dk_43 (dk_at dksX1_whyNotBelieved_1 16 rfl rfl)
theorem dX1_whyNotBelieved_40 : decode cX1_whyNotBelieved 40 = .ok (.invokevirtual 240, 3) := dk_182 0 240 (dk_at dksX1_whyNotBelieved_1 17 rfl rfl)
theorem dX1_whyNotBelieved_43 : decode cX1_whyNotBelieved 43 = .ok (.if_icmp .ne 7, 3) := dk_160 0 7 (dk_at dksX1_whyNotBelieved_1 20 rfl rfl)
theorem dX1_whyNotBelieved_46 : decode cX1_whyNotBelieved 46 = .ok (.iconst 0, 1) := dk_3 (dk_at dksX1_whyNotBelieved_1 23 rfl rfl)
theorem dX1_whyNotBelieved_47 : decode cX1_whyNotBelieved 47 = .ok (.goto 4, 3) := dk_167 0 4 (dk_at dksX1_whyNotBelieved_2 0 rfl rfl)
theorem dX1_whyNotBelieved_50 : decode cX1_whyNotBelieved 50 = .ok (.iconst 3, 1) := dk_6 (dk_at dksX1_whyNotBelieved_2 3 rfl rfl)
theorem dX1_whyNotBelieved_51 : decode cX1_whyNotBelieved 51 = .ok (.ireturn, 1) := dk_172 (dk_at dksX1_whyNotBelieved_2 4 rfl rfl)
abbrev cX1_levelAfter : ByteArray := prog_1_method_40_code
def yX1_levelAfter : MethodName := ⟨RX1, "levelAfter", "(I)I"⟩
def dkwX1_levelAfter_1 : List UInt8 := [29, 27, 162, 0, 15, 44, 182, 1, 17, 54, 4, 132, 3, 1, 167, 255, 242, 44, 180, 0, 139, 172]
abbrev dktX1_levelAfter_1 : List UInt8 := dkwX1_levelAfter_1 ++ []
def dkwX1_levelAfter_0 : List UInt8 := [187, 0, 4, 89, 42, 182, 0, 101, 183, 0, 195, 77, 27, 4, 16, 30, 184, 0, 49, 184, 0, 105, 3, 62]
abbrev dktX1_levelAfter_0 : List UInt8 := dkwX1_levelAfter_0 ++ dktX1_levelAfter_1
theorem dksX1_levelAfter_0 : cX1_levelAfter.data.toList.drop 0 = dktX1_levelAfter_0 := by decide +kernel
theorem dksX1_levelAfter_1 : cX1_levelAfter.data.toList.drop 24 = dktX1_levelAfter_1 := dk_seg dksX1_levelAfter_0 24 rfl rfl
theorem dX1_levelAfter_0 : decode cX1_levelAfter 0 = .ok (.new 4, 3) := dk_187 0 4 (dk_at dksX1_levelAfter_0 0 rfl rfl)
theorem dX1_levelAfter_3 : decode cX1_levelAfter 3 = .ok (.dup, 1) := dk_89 (dk_at dksX1_levelAfter_0 3 rfl rfl)
theorem dX1_levelAfter_4 : decode cX1_levelAfter 4 = .ok (.aload_n 0, 1) := dk_42 (dk_at dksX1_levelAfter_0 4 rfl rfl)
theorem dX1_levelAfter_5 : decode cX1_levelAfter 5 = .ok (.invokevirtual 101, 3) := dk_182 0 101 (dk_at dksX1_levelAfter_0 5 rfl rfl)
theorem dX1_levelAfter_8 : decode cX1_levelAfter 8 = .ok (.invokespecial 195, 3) := dk_183 0 195 (dk_at dksX1_levelAfter_0 8 rfl rfl)
theorem dX1_levelAfter_11 : decode cX1_levelAfter 11 = .ok (.astore_n 2, 1) := dk_77 (dk_at dksX1_levelAfter_0 11 rfl rfl)
theorem dX1_levelAfter_12 : decode cX1_levelAfter 12 = .ok (.iload_n 1, 1) := dk_27 (dk_at dksX1_levelAfter_0 12 rfl rfl)
theorem dX1_levelAfter_13 : decode cX1_levelAfter 13 = .ok (.iconst 1, 1) := dk_4 (dk_at dksX1_levelAfter_0 13 rfl rfl)
theorem dX1_levelAfter_14 : decode cX1_levelAfter 14 = .ok (.bipush 30, 2) := dk_16 30 (dk_at dksX1_levelAfter_0 14 rfl rfl)
theorem dX1_levelAfter_16 : decode cX1_levelAfter 16 = .ok (.invokestatic 49, 3) := dk_184 0 49 (dk_at dksX1_levelAfter_0 16 rfl rfl)
theorem dX1_levelAfter_19 : decode cX1_levelAfter 19 = .ok (.invokestatic 105, 3) := dk_184 0 105 (dk_at dksX1_levelAfter_0 19 rfl rfl)
theorem dX1_levelAfter_22 : decode cX1_levelAfter 22 = .ok (.iconst 0, 1) := dk_3 (dk_at dksX1_levelAfter_0 22 rfl rfl)
theorem dX1_levelAfter_23 : decode cX1_levelAfter 23 = .ok (.istore_n 3, 1) := dk_62 (dk_at dksX1_levelAfter_0 23 rfl rfl)
theorem dX1_levelAfter_24 : decode cX1_levelAfter 24 = .ok (.iload_n 3, 1) := dk_29 (dk_at dksX1_levelAfter_1 0 rfl rfl)
theorem dX1_levelAfter_25 : decode cX1_levelAfter 25 = .ok (.iload_n 1, 1) := dk_27 (dk_at dksX1_levelAfter_1 1 rfl rfl)
theorem dX1_levelAfter_26 : decode cX1_levelAfter 26 = .ok (.if_icmp .ge 15, 3) := dk_162 0 15 (dk_at dksX1_levelAfter_1 2 rfl rfl)
theorem dX1_levelAfter_29 : decode cX1_levelAfter 29 = .ok (.aload_n 2, 1) := dk_44 (dk_at dksX1_levelAfter_1 5 rfl rfl)
theorem dX1_levelAfter_30 : decode cX1_levelAfter 30 = .ok (.invokevirtual 273, 3) := dk_182 1 17 (dk_at dksX1_levelAfter_1 6 rfl rfl)
theorem dX1_levelAfter_33 : decode cX1_levelAfter 33 = .ok (.istore 4, 2) := dk_54 4 (dk_at dksX1_levelAfter_1 9 rfl rfl)
theorem dX1_levelAfter_35 : decode cX1_levelAfter 35 = .ok (.iinc 3 1, 3) := dk_132 3 1 (dk_at dksX1_levelAfter_1 11 rfl rfl)
theorem dX1_levelAfter_38 : decode cX1_levelAfter 38 = .ok (.goto (-14), 3) := dk_167 255 242 (dk_at dksX1_levelAfter_1 14 rfl rfl)
theorem dX1_levelAfter_41 : decode cX1_levelAfter 41 = .ok (.aload_n 2, 1) := dk_44 (dk_at dksX1_levelAfter_1 17 rfl rfl)
theorem dX1_levelAfter_42 : decode cX1_levelAfter 42 = .ok (.getfield 139, 3) := dk_180 0 139 (dk_at dksX1_levelAfter_1 18 rfl rfl)
theorem dX1_levelAfter_45 : decode cX1_levelAfter 45 = .ok (.ireturn, 1) := dk_172 (dk_at dksX1_levelAfter_1 21 rfl rfl)
abbrev cX1_pingsToTrue : ByteArray := prog_1_method_41_code
def yX1_pingsToTrue : MethodName := ⟨RX1, "pingsToTrue", "()I"⟩
def dkwX1_pingsToTrue_1 : List UInt8 := [159, 0, 22, 28, 16, 100, 160, 0, 5, 2, 172, 43, 182, 1, 17, 62, 132, 2, 1, 167, 255, 229, 28, 172]
abbrev dktX1_pingsToTrue_1 : List UInt8 := dkwX1_pingsToTrue_1 ++ []
def dkwX1_pingsToTrue_0 : List UInt8 := [187, 0, 4, 89, 42, 182, 0, 101, 183, 0, 195, 76, 3, 61, 43, 180, 0, 139, 43, 182, 0, 240]
abbrev dktX1_pingsToTrue_0 : List UInt8 := dkwX1_pingsToTrue_0 ++ dktX1_pingsToTrue_1
theorem dksX1_pingsToTrue_0 : cX1_pingsToTrue.data.toList.drop 0 = dktX1_pingsToTrue_0 := by decide +kernel
theorem dksX1_pingsToTrue_1 : cX1_pingsToTrue.data.toList.drop 22 = dktX1_pingsToTrue_1 := dk_seg dksX1_pingsToTrue_0 22 rfl rfl
theorem dX1_pingsToTrue_0 : decode cX1_pingsToTrue 0 = .ok (.new 4, 3) := dk_187 0 4 (dk_at dksX1_pingsToTrue_0 0 rfl rfl)
theorem dX1_pingsToTrue_3 : decode cX1_pingsToTrue 3 = .ok (.dup, 1) := dk_89 (dk_at dksX1_pingsToTrue_0 3 rfl rfl)
theorem dX1_pingsToTrue_4 : decode cX1_pingsToTrue 4 = .ok (.aload_n 0, 1) := dk_42 (dk_at dksX1_pingsToTrue_0 4 rfl rfl)
theorem dX1_pingsToTrue_5 : decode cX1_pingsToTrue 5 = .ok (.invokevirtual 101, 3) := dk_182 0 101 (dk_at dksX1_pingsToTrue_0 5 rfl rfl)
theorem dX1_pingsToTrue_8 : decode cX1_pingsToTrue 8 = .ok (.invokespecial 195, 3) := dk_183 0 195 (dk_at dksX1_pingsToTrue_0 8 rfl rfl)
theorem dX1_pingsToTrue_11 : decode cX1_pingsToTrue 11 = .ok (.astore_n 1, 1) := dk_76 (dk_at dksX1_pingsToTrue_0 11 rfl rfl)
theorem dX1_pingsToTrue_12 : decode cX1_pingsToTrue 12 = .ok (.iconst 0, 1) := dk_3 (dk_at dksX1_pingsToTrue_0 12 rfl rfl)
theorem dX1_pingsToTrue_13 : decode cX1_pingsToTrue 13 = .ok (.istore_n 2, 1) := dk_61 (dk_at dksX1_pingsToTrue_0 13 rfl rfl)
theorem dX1_pingsToTrue_14 : decode cX1_pingsToTrue 14 = .ok (.aload_n 1, 1) := dk_43 (dk_at dksX1_pingsToTrue_0 14 rfl rfl)
theorem dX1_pingsToTrue_15 : decode cX1_pingsToTrue 15 = .ok (.getfield 139, 3) := dk_180 0 139 (dk_at dksX1_pingsToTrue_0 15 rfl rfl)
theorem dX1_pingsToTrue_18 : decode cX1_pingsToTrue 18 = .ok (.aload_n 1, 1) := dk_43 (dk_at dksX1_pingsToTrue_0 18 rfl rfl)
theorem dX1_pingsToTrue_19 : decode cX1_pingsToTrue 19 = .ok (.invokevirtual 240, 3) := dk_182 0 240 (dk_at dksX1_pingsToTrue_0 19 rfl rfl)
theorem dX1_pingsToTrue_22 : decode cX1_pingsToTrue 22 = .ok (.if_icmp .eq 22, 3) := dk_159 0 22 (dk_at dksX1_pingsToTrue_1 0 rfl rfl)
theorem dX1_pingsToTrue_25 : decode cX1_pingsToTrue 25 = .ok (.iload_n 2, 1) := dk_28 (dk_at dksX1_pingsToTrue_1 3 rfl rfl)
theorem dX1_pingsToTrue_26 : decode cX1_pingsToTrue 26 = .ok (.bipush 100, 2) := dk_16 100 (dk_at dksX1_pingsToTrue_1 4 rfl rfl)
theorem dX1_pingsToTrue_28 : decode cX1_pingsToTrue 28 = .ok (.if_icmp .ne 5, 3) := dk_160 0 5 (dk_at dksX1_pingsToTrue_1 6 rfl rfl)
theorem dX1_pingsToTrue_31 : decode cX1_pingsToTrue 31 = .ok (.iconst (-1), 1) := dk_2 (dk_at dksX1_pingsToTrue_1 9 rfl rfl)
theorem dX1_pingsToTrue_32 : decode cX1_pingsToTrue 32 = .ok (.ireturn, 1) := dk_172 (dk_at dksX1_pingsToTrue_1 10 rfl rfl)
theorem dX1_pingsToTrue_33 : decode cX1_pingsToTrue 33 = .ok (.aload_n 1, 1) := dk_43 (dk_at dksX1_pingsToTrue_1 11 rfl rfl)
theorem dX1_pingsToTrue_34 : decode cX1_pingsToTrue 34 = .ok (.invokevirtual 273, 3) := dk_182 1 17 (dk_at dksX1_pingsToTrue_1 12 rfl rfl)
theorem dX1_pingsToTrue_37 : decode cX1_pingsToTrue 37 = .ok (.istore_n 3, 1) := dk_62 (dk_at dksX1_pingsToTrue_1 15 rfl rfl)
theorem dX1_pingsToTrue_38 : decode cX1_pingsToTrue 38 = .ok (.iinc 2 1, 3) := dk_132 2 1 (dk_at dksX1_pingsToTrue_1 16 rfl rfl)
theorem dX1_pingsToTrue_41 : decode cX1_pingsToTrue 41 = .ok (.goto (-27), 3) := dk_167 255 229 (dk_at dksX1_pingsToTrue_1 19 rfl rfl)
theorem dX1_pingsToTrue_44 : decode cX1_pingsToTrue 44 = .ok (.iload_n 2, 1) := dk_28 (dk_at dksX1_pingsToTrue_1 22 rfl rfl)
theorem dX1_pingsToTrue_45 : decode cX1_pingsToTrue 45 = .ok (.ireturn, 1) := dk_172 (dk_at dksX1_pingsToTrue_1 23 rfl rfl)
abbrev cX1_deafFrom : ByteArray := prog_1_method_42_code
def yX1_deafFrom : MethodName := ⟨RX1, "deafFrom", "()I"⟩
def dkwX1_deafFrom_1 : List UInt8 := [181, 0, 127, 43, 43, 182, 0, 231, 182, 0, 224, 154, 0, 5, 28, 172, 132, 2, 1, 167, 255, 229, 2, 172]
abbrev dktX1_deafFrom_1 : List UInt8 := dkwX1_deafFrom_1 ++ []
def dkwX1_deafFrom_0 : List UInt8 := [187, 0, 4, 89, 42, 182, 0, 101, 183, 0, 195, 76, 3, 61, 28, 16, 99, 163, 0, 27, 43, 28]
abbrev dktX1_deafFrom_0 : List UInt8 := dkwX1_deafFrom_0 ++ dktX1_deafFrom_1
theorem dksX1_deafFrom_0 : cX1_deafFrom.data.toList.drop 0 = dktX1_deafFrom_0 := by decide +kernel
theorem dksX1_deafFrom_1 : cX1_deafFrom.data.toList.drop 22 = dktX1_deafFrom_1 := dk_seg dksX1_deafFrom_0 22 rfl rfl
theorem dX1_deafFrom_0 : decode cX1_deafFrom 0 = .ok (.new 4, 3) := dk_187 0 4 (dk_at dksX1_deafFrom_0 0 rfl rfl)
theorem dX1_deafFrom_3 : decode cX1_deafFrom 3 = .ok (.dup, 1) := dk_89 (dk_at dksX1_deafFrom_0 3 rfl rfl)
theorem dX1_deafFrom_4 : decode cX1_deafFrom 4 = .ok (.aload_n 0, 1) := dk_42 (dk_at dksX1_deafFrom_0 4 rfl rfl)
theorem dX1_deafFrom_5 : decode cX1_deafFrom 5 = .ok (.invokevirtual 101, 3) := dk_182 0 101 (dk_at dksX1_deafFrom_0 5 rfl rfl)
theorem dX1_deafFrom_8 : decode cX1_deafFrom 8 = .ok (.invokespecial 195, 3) := dk_183 0 195 (dk_at dksX1_deafFrom_0 8 rfl rfl)
theorem dX1_deafFrom_11 : decode cX1_deafFrom 11 = .ok (.astore_n 1, 1) := dk_76 (dk_at dksX1_deafFrom_0 11 rfl rfl)
theorem dX1_deafFrom_12 : decode cX1_deafFrom 12 = .ok (.iconst 0, 1) := dk_3 (dk_at dksX1_deafFrom_0 12 rfl rfl)
theorem dX1_deafFrom_13 : decode cX1_deafFrom 13 = .ok (.istore_n 2, 1) := dk_61 (dk_at dksX1_deafFrom_0 13 rfl rfl)
theorem dX1_deafFrom_14 : decode cX1_deafFrom 14 = .ok (.iload_n 2, 1) := dk_28 (dk_at dksX1_deafFrom_0 14 rfl rfl)
theorem dX1_deafFrom_15 : decode cX1_deafFrom 15 = .ok (.bipush 99, 2) := dk_16 99 (dk_at dksX1_deafFrom_0 15 rfl rfl)
theorem dX1_deafFrom_17 : decode cX1_deafFrom 17 = .ok (.if_icmp .gt 27, 3) := dk_163 0 27 (dk_at dksX1_deafFrom_0 17 rfl rfl)
theorem dX1_deafFrom_20 : decode cX1_deafFrom 20 = .ok (.aload_n 1, 1) := dk_43 (dk_at dksX1_deafFrom_0 20 rfl rfl)
theorem dX1_deafFrom_21 : decode cX1_deafFrom 21 = .ok (.iload_n 2, 1) := dk_28 (dk_at dksX1_deafFrom_0 21 rfl rfl)
theorem dX1_deafFrom_22 : decode cX1_deafFrom 22 = .ok (.putfield 127, 3) := dk_181 0 127 (dk_at dksX1_deafFrom_1 0 rfl rfl)
theorem dX1_deafFrom_25 : decode cX1_deafFrom 25 = .ok (.aload_n 1, 1) := dk_43 (dk_at dksX1_deafFrom_1 3 rfl rfl)
theorem dX1_deafFrom_26 : decode cX1_deafFrom 26 = .ok (.aload_n 1, 1) := dk_43 (dk_at dksX1_deafFrom_1 4 rfl rfl)
theorem dX1_deafFrom_27 : decode cX1_deafFrom 27 = .ok (.invokevirtual 231, 3) := dk_182 0 231 (dk_at dksX1_deafFrom_1 5 rfl rfl)
theorem dX1_deafFrom_30 : decode cX1_deafFrom 30 = .ok (.invokevirtual 224, 3) := dk_182 0 224 (dk_at dksX1_deafFrom_1 8 rfl rfl)
theorem dX1_deafFrom_33 : decode cX1_deafFrom 33 = .ok (.ifCond .ne 5, 3) := dk_154 0 5 (dk_at dksX1_deafFrom_1 11 rfl rfl)
theorem dX1_deafFrom_36 : decode cX1_deafFrom 36 = .ok (.iload_n 2, 1) := dk_28 (dk_at dksX1_deafFrom_1 14 rfl rfl)
theorem dX1_deafFrom_37 : decode cX1_deafFrom 37 = .ok (.ireturn, 1) := dk_172 (dk_at dksX1_deafFrom_1 15 rfl rfl)
theorem dX1_deafFrom_38 : decode cX1_deafFrom 38 = .ok (.iinc 2 1, 3) := dk_132 2 1 (dk_at dksX1_deafFrom_1 16 rfl rfl)
theorem dX1_deafFrom_41 : decode cX1_deafFrom 41 = .ok (.goto (-27), 3) := dk_167 255 229 (dk_at dksX1_deafFrom_1 19 rfl rfl)
theorem dX1_deafFrom_44 : decode cX1_deafFrom 44 = .ok (.iconst (-1), 1) := dk_2 (dk_at dksX1_deafFrom_1 22 rfl rfl)
theorem dX1_deafFrom_45 : decode cX1_deafFrom 45 = .ok (.ireturn, 1) := dk_172 (dk_at dksX1_deafFrom_1 23 rfl rfl)
abbrev cX1_heightIf : ByteArray := prog_1_method_44_code
def yX1_heightIf : MethodName := ⟨RX1, "heightIf", "(III)I"⟩
def dkwX1_heightIf_1 : List UInt8 := [184, 1, 22, 42, 29, 28, 182, 1, 25, 180, 0, 179, 27, 46, 172]
abbrev dktX1_heightIf_1 : List UInt8 := dkwX1_heightIf_1 ++ []
def dkwX1_heightIf_0 : List UInt8 := [42, 27, 182, 0, 175, 58, 4, 29, 3, 25, 4, 182, 0, 3, 4, 100, 184, 0, 49, 184, 0, 53, 28]
abbrev dktX1_heightIf_0 : List UInt8 := dkwX1_heightIf_0 ++ dktX1_heightIf_1
theorem dksX1_heightIf_0 : cX1_heightIf.data.toList.drop 0 = dktX1_heightIf_0 := by decide +kernel
theorem dksX1_heightIf_1 : cX1_heightIf.data.toList.drop 23 = dktX1_heightIf_1 := dk_seg dksX1_heightIf_0 23 rfl rfl
theorem dX1_heightIf_0 : decode cX1_heightIf 0 = .ok (.aload_n 0, 1) := dk_42 (dk_at dksX1_heightIf_0 0 rfl rfl)
theorem dX1_heightIf_1 : decode cX1_heightIf 1 = .ok (.iload_n 1, 1) := dk_27 (dk_at dksX1_heightIf_0 1 rfl rfl)
theorem dX1_heightIf_2 : decode cX1_heightIf 2 = .ok (.invokevirtual 175, 3) := dk_182 0 175 (dk_at dksX1_heightIf_0 2 rfl rfl)
theorem dX1_heightIf_5 : decode cX1_heightIf 5 = .ok (.astore 4, 2) := dk_58 4 (dk_at dksX1_heightIf_0 5 rfl rfl)
theorem dX1_heightIf_7 : decode cX1_heightIf 7 = .ok (.iload_n 3, 1) := dk_29 (dk_at dksX1_heightIf_0 7 rfl rfl)
theorem dX1_heightIf_8 : decode cX1_heightIf 8 = .ok (.iconst 0, 1) := dk_3 (dk_at dksX1_heightIf_0 8 rfl rfl)
theorem dX1_heightIf_9 : decode cX1_heightIf 9 = .ok (.aload 4, 2) := dk_25 4 (dk_at dksX1_heightIf_0 9 rfl rfl)
theorem dX1_heightIf_11 : decode cX1_heightIf 11 = .ok (.invokevirtual 3, 3) := dk_182 0 3 (dk_at dksX1_heightIf_0 11 rfl rfl)
theorem dX1_heightIf_14 : decode cX1_heightIf 14 = .ok (.iconst 1, 1) := dk_4 (dk_at dksX1_heightIf_0 14 rfl rfl)
theorem dX1_heightIf_15 : decode cX1_heightIf 15 = .ok (.isub, 1) := dk_100 (dk_at dksX1_heightIf_0 15 rfl rfl)
theorem dX1_heightIf_16 : decode cX1_heightIf 16 = .ok (.invokestatic 49, 3) := dk_184 0 49 (dk_at dksX1_heightIf_0 16 rfl rfl)
theorem dX1_heightIf_19 : decode cX1_heightIf 19 = .ok (.invokestatic 53, 3) := dk_184 0 53 (dk_at dksX1_heightIf_0 19 rfl rfl)
theorem dX1_heightIf_22 : decode cX1_heightIf 22 = .ok (.iload_n 2, 1) := dk_28 (dk_at dksX1_heightIf_0 22 rfl rfl)
theorem dX1_heightIf_23 : decode cX1_heightIf 23 = .ok (.invokestatic 278, 3) := dk_184 1 22 (dk_at dksX1_heightIf_1 0 rfl rfl)
theorem dX1_heightIf_26 : decode cX1_heightIf 26 = .ok (.aload_n 0, 1) := dk_42 (dk_at dksX1_heightIf_1 3 rfl rfl)
theorem dX1_heightIf_27 : decode cX1_heightIf 27 = .ok (.iload_n 3, 1) := dk_29 (dk_at dksX1_heightIf_1 4 rfl rfl)
theorem dX1_heightIf_28 : decode cX1_heightIf 28 = .ok (.iload_n 2, 1) := dk_28 (dk_at dksX1_heightIf_1 5 rfl rfl)
theorem dX1_heightIf_29 : decode cX1_heightIf 29 = .ok (.invokevirtual 281, 3) := dk_182 1 25 (dk_at dksX1_heightIf_1 6 rfl rfl)
theorem dX1_heightIf_32 : decode cX1_heightIf 32 = .ok (.getfield 179, 3) := dk_180 0 179 (dk_at dksX1_heightIf_1 9 rfl rfl)
theorem dX1_heightIf_35 : decode cX1_heightIf 35 = .ok (.iload_n 1, 1) := dk_27 (dk_at dksX1_heightIf_1 12 rfl rfl)
theorem dX1_heightIf_36 : decode cX1_heightIf 36 = .ok (.iaload, 1) := dk_46 (dk_at dksX1_heightIf_1 13 rfl rfl)
theorem dX1_heightIf_37 : decode cX1_heightIf 37 = .ok (.ireturn, 1) := dk_172 (dk_at dksX1_heightIf_1 14 rfl rfl)
abbrev cX1_checkUnits : ByteArray := prog_1_method_17_code
def yX1_checkUnits : MethodName := ⟨RX1, "checkUnits", "(I)V"⟩
def dkwX1_checkUnits_0 : List UInt8 := [26, 4, 16, 99, 184, 0, 49, 184, 0, 105, 177]
abbrev dktX1_checkUnits_0 : List UInt8 := dkwX1_checkUnits_0 ++ []
theorem dksX1_checkUnits_0 : cX1_checkUnits.data.toList.drop 0 = dktX1_checkUnits_0 := by decide +kernel
theorem dX1_checkUnits_0 : decode cX1_checkUnits 0 = .ok (.iload_n 0, 1) := dk_26 (dk_at dksX1_checkUnits_0 0 rfl rfl)
theorem dX1_checkUnits_1 : decode cX1_checkUnits 1 = .ok (.iconst 1, 1) := dk_4 (dk_at dksX1_checkUnits_0 1 rfl rfl)
theorem dX1_checkUnits_2 : decode cX1_checkUnits 2 = .ok (.bipush 99, 2) := dk_16 99 (dk_at dksX1_checkUnits_0 2 rfl rfl)
theorem dX1_checkUnits_4 : decode cX1_checkUnits 4 = .ok (.invokestatic 49, 3) := dk_184 0 49 (dk_at dksX1_checkUnits_0 4 rfl rfl)
theorem dX1_checkUnits_7 : decode cX1_checkUnits 7 = .ok (.invokestatic 105, 3) := dk_184 0 105 (dk_at dksX1_checkUnits_0 7 rfl rfl)
theorem dX1_checkUnits_10 : decode cX1_checkUnits 10 = .ok (.return_, 1) := dk_177 (dk_at dksX1_checkUnits_0 10 rfl rfl)
abbrev cX1_filledWith : ByteArray := prog_1_method_43_code
def yX1_filledWith : MethodName := ⟨RX1, "filledWith", "(II)LPingEye$Silo;"⟩
def dkwX1_filledWith_0 : List UInt8 := [187, 0, 4, 89, 42, 180, 0, 66, 183, 0, 195, 78, 45, 27, 28, 182, 1, 19, 54, 4, 45, 176]
abbrev dktX1_filledWith_0 : List UInt8 := dkwX1_filledWith_0 ++ []
theorem dksX1_filledWith_0 : cX1_filledWith.data.toList.drop 0 = dktX1_filledWith_0 := by decide +kernel
theorem dX1_filledWith_0 : decode cX1_filledWith 0 = .ok (.new 4, 3) := dk_187 0 4 (dk_at dksX1_filledWith_0 0 rfl rfl)
theorem dX1_filledWith_3 : decode cX1_filledWith 3 = .ok (.dup, 1) := dk_89 (dk_at dksX1_filledWith_0 3 rfl rfl)
theorem dX1_filledWith_4 : decode cX1_filledWith 4 = .ok (.aload_n 0, 1) := dk_42 (dk_at dksX1_filledWith_0 4 rfl rfl)
theorem dX1_filledWith_5 : decode cX1_filledWith 5 = .ok (.getfield 66, 3) := dk_180 0 66 (dk_at dksX1_filledWith_0 5 rfl rfl)
theorem dX1_filledWith_8 : decode cX1_filledWith 8 = .ok (.invokespecial 195, 3) := dk_183 0 195 (dk_at dksX1_filledWith_0 8 rfl rfl)
theorem dX1_filledWith_11 : decode cX1_filledWith 11 = .ok (.astore_n 3, 1) := dk_78 (dk_at dksX1_filledWith_0 11 rfl rfl)
theorem dX1_filledWith_12 : decode cX1_filledWith 12 = .ok (.aload_n 3, 1) := dk_45 (dk_at dksX1_filledWith_0 12 rfl rfl)
theorem dX1_filledWith_13 : decode cX1_filledWith 13 = .ok (.iload_n 1, 1) := dk_27 (dk_at dksX1_filledWith_0 13 rfl rfl)
theorem dX1_filledWith_14 : decode cX1_filledWith 14 = .ok (.iload_n 2, 1) := dk_28 (dk_at dksX1_filledWith_0 14 rfl rfl)
theorem dX1_filledWith_15 : decode cX1_filledWith 15 = .ok (.invokevirtual 275, 3) := dk_182 1 19 (dk_at dksX1_filledWith_0 15 rfl rfl)
theorem dX1_filledWith_18 : decode cX1_filledWith 18 = .ok (.istore 4, 2) := dk_54 4 (dk_at dksX1_filledWith_0 18 rfl rfl)
theorem dX1_filledWith_20 : decode cX1_filledWith 20 = .ok (.aload_n 3, 1) := dk_45 (dk_at dksX1_filledWith_0 20 rfl rfl)
theorem dX1_filledWith_21 : decode cX1_filledWith 21 = .ok (.areturn, 1) := dk_176 (dk_at dksX1_filledWith_0 21 rfl rfl)
abbrev cX1_spilledIf : ByteArray := prog_1_method_45_code
def yX1_spilledIf : MethodName := ⟨RX1, "spilledIf", "(II)I"⟩
def dkwX1_spilledIf_1 : List UInt8 := [172]
abbrev dktX1_spilledIf_1 : List UInt8 := dkwX1_spilledIf_1 ++ []
def dkwX1_spilledIf_0 : List UInt8 := [42, 27, 182, 0, 175, 78, 28, 184, 1, 22, 42, 27, 28, 182, 1, 25, 180, 0, 154, 45, 180, 0, 154, 100]
abbrev dktX1_spilledIf_0 : List UInt8 := dkwX1_spilledIf_0 ++ dktX1_spilledIf_1
theorem dksX1_spilledIf_0 : cX1_spilledIf.data.toList.drop 0 = dktX1_spilledIf_0 := by decide +kernel
theorem dksX1_spilledIf_1 : cX1_spilledIf.data.toList.drop 24 = dktX1_spilledIf_1 := dk_seg dksX1_spilledIf_0 24 rfl rfl
theorem dX1_spilledIf_0 : decode cX1_spilledIf 0 = .ok (.aload_n 0, 1) := dk_42 (dk_at dksX1_spilledIf_0 0 rfl rfl)
theorem dX1_spilledIf_1 : decode cX1_spilledIf 1 = .ok (.iload_n 1, 1) := dk_27 (dk_at dksX1_spilledIf_0 1 rfl rfl)
theorem dX1_spilledIf_2 : decode cX1_spilledIf 2 = .ok (.invokevirtual 175, 3) := dk_182 0 175 (dk_at dksX1_spilledIf_0 2 rfl rfl)
theorem dX1_spilledIf_5 : decode cX1_spilledIf 5 = .ok (.astore_n 3, 1) := dk_78 (dk_at dksX1_spilledIf_0 5 rfl rfl)
theorem dX1_spilledIf_6 : decode cX1_spilledIf 6 = .ok (.iload_n 2, 1) := dk_28 (dk_at dksX1_spilledIf_0 6 rfl rfl)
theorem dX1_spilledIf_7 : decode cX1_spilledIf 7 = .ok (.invokestatic 278, 3) := dk_184 1 22 (dk_at dksX1_spilledIf_0 7 rfl rfl)
theorem dX1_spilledIf_10 : decode cX1_spilledIf 10 = .ok (.aload_n 0, 1) := dk_42 (dk_at dksX1_spilledIf_0 10 rfl rfl)
theorem dX1_spilledIf_11 : decode cX1_spilledIf 11 = .ok (.iload_n 1, 1) := dk_27 (dk_at dksX1_spilledIf_0 11 rfl rfl)
theorem dX1_spilledIf_12 : decode cX1_spilledIf 12 = .ok (.iload_n 2, 1) := dk_28 (dk_at dksX1_spilledIf_0 12 rfl rfl)
theorem dX1_spilledIf_13 : decode cX1_spilledIf 13 = .ok (.invokevirtual 281, 3) := dk_182 1 25 (dk_at dksX1_spilledIf_0 13 rfl rfl)
theorem dX1_spilledIf_16 : decode cX1_spilledIf 16 = .ok (.getfield 154, 3) := dk_180 0 154 (dk_at dksX1_spilledIf_0 16 rfl rfl)
theorem dX1_spilledIf_19 : decode cX1_spilledIf 19 = .ok (.aload_n 3, 1) := dk_45 (dk_at dksX1_spilledIf_0 19 rfl rfl)
theorem dX1_spilledIf_20 : decode cX1_spilledIf 20 = .ok (.getfield 154, 3) := dk_180 0 154 (dk_at dksX1_spilledIf_0 20 rfl rfl)
theorem dX1_spilledIf_23 : decode cX1_spilledIf 23 = .ok (.isub, 1) := dk_100 (dk_at dksX1_spilledIf_0 23 rfl rfl)
theorem dX1_spilledIf_24 : decode cX1_spilledIf 24 = .ok (.ireturn, 1) := dk_172 (dk_at dksX1_spilledIf_1 0 rfl rfl)
abbrev cX1_fillTo : ByteArray := prog_1_method_46_code
def yX1_fillTo : MethodName := ⟨RX1, "fillTo", "(II)I"⟩
def dkwX1_fillTo_2 : List UInt8 := [45, 27, 4, 182, 1, 19, 54, 5, 132, 4, 1, 167, 255, 227, 21, 4, 172]
abbrev dktX1_fillTo_2 : List UInt8 := dkwX1_fillTo_2 ++ []
def dkwX1_fillTo_1 : List UInt8 := [184, 0, 105, 3, 54, 4, 45, 182, 0, 240, 28, 162, 0, 27, 21, 4, 17, 3, 231, 160, 0, 5, 2, 172]
abbrev dktX1_fillTo_1 : List UInt8 := dkwX1_fillTo_1 ++ dktX1_fillTo_2
def dkwX1_fillTo_0 : List UInt8 := [187, 0, 4, 89, 42, 27, 182, 0, 175, 183, 0, 195, 78, 28, 3, 45, 182, 0, 102, 184, 0, 49]
abbrev dktX1_fillTo_0 : List UInt8 := dkwX1_fillTo_0 ++ dktX1_fillTo_1
theorem dksX1_fillTo_0 : cX1_fillTo.data.toList.drop 0 = dktX1_fillTo_0 := by decide +kernel
theorem dksX1_fillTo_1 : cX1_fillTo.data.toList.drop 22 = dktX1_fillTo_1 := dk_seg dksX1_fillTo_0 22 rfl rfl
theorem dksX1_fillTo_2 : cX1_fillTo.data.toList.drop 46 = dktX1_fillTo_2 := dk_seg dksX1_fillTo_1 24 rfl rfl
theorem dX1_fillTo_0 : decode cX1_fillTo 0 = .ok (.new 4, 3) := dk_187 0 4 (dk_at dksX1_fillTo_0 0 rfl rfl)
theorem dX1_fillTo_3 : decode cX1_fillTo 3 = .ok (.dup, 1) := dk_89 (dk_at dksX1_fillTo_0 3 rfl rfl)
theorem dX1_fillTo_4 : decode cX1_fillTo 4 = .ok (.aload_n 0, 1) := dk_42 (dk_at dksX1_fillTo_0 4 rfl rfl)
theorem dX1_fillTo_5 : decode cX1_fillTo 5 = .ok (.iload_n 1, 1) := dk_27 (dk_at dksX1_fillTo_0 5 rfl rfl)
theorem dX1_fillTo_6 : decode cX1_fillTo 6 = .ok (.invokevirtual 175, 3) := dk_182 0 175 (dk_at dksX1_fillTo_0 6 rfl rfl)
theorem dX1_fillTo_9 : decode cX1_fillTo 9 = .ok (.invokespecial 195, 3) := dk_183 0 195 (dk_at dksX1_fillTo_0 9 rfl rfl)
theorem dX1_fillTo_12 : decode cX1_fillTo 12 = .ok (.astore_n 3, 1) := dk_78 (dk_at dksX1_fillTo_0 12 rfl rfl)
theorem dX1_fillTo_13 : decode cX1_fillTo 13 = .ok (.iload_n 2, 1) := dk_28 (dk_at dksX1_fillTo_0 13 rfl rfl)
theorem dX1_fillTo_14 : decode cX1_fillTo 14 = .ok (.iconst 0, 1) := dk_3 (dk_at dksX1_fillTo_0 14 rfl rfl)
theorem dX1_fillTo_15 : decode cX1_fillTo 15 = .ok (.aload_n 3, 1) := dk_45 (dk_at dksX1_fillTo_0 15 rfl rfl)
theorem dX1_fillTo_16 : decode cX1_fillTo 16 = .ok (.invokevirtual 102, 3) := dk_182 0 102 (dk_at dksX1_fillTo_0 16 rfl rfl)
theorem dX1_fillTo_19 : decode cX1_fillTo 19 = .ok (.invokestatic 49, 3) := dk_184 0 49 (dk_at dksX1_fillTo_0 19 rfl rfl)
theorem dX1_fillTo_22 : decode cX1_fillTo 22 = .ok (.invokestatic 105, 3) := dk_184 0 105 (dk_at dksX1_fillTo_1 0 rfl rfl)
theorem dX1_fillTo_25 : decode cX1_fillTo 25 = .ok (.iconst 0, 1) := dk_3 (dk_at dksX1_fillTo_1 3 rfl rfl)
theorem dX1_fillTo_26 : decode cX1_fillTo 26 = .ok (.istore 4, 2) := dk_54 4 (dk_at dksX1_fillTo_1 4 rfl rfl)
theorem dX1_fillTo_28 : decode cX1_fillTo 28 = .ok (.aload_n 3, 1) := dk_45 (dk_at dksX1_fillTo_1 6 rfl rfl)
theorem dX1_fillTo_29 : decode cX1_fillTo 29 = .ok (.invokevirtual 240, 3) := dk_182 0 240 (dk_at dksX1_fillTo_1 7 rfl rfl)
theorem dX1_fillTo_32 : decode cX1_fillTo 32 = .ok (.iload_n 2, 1) := dk_28 (dk_at dksX1_fillTo_1 10 rfl rfl)
theorem dX1_fillTo_33 : decode cX1_fillTo 33 = .ok (.if_icmp .ge 27, 3) := dk_162 0 27 (dk_at dksX1_fillTo_1 11 rfl rfl)
theorem dX1_fillTo_36 : decode cX1_fillTo 36 = .ok (.iload 4, 2) := dk_21 4 (dk_at dksX1_fillTo_1 14 rfl rfl)
theorem dX1_fillTo_38 : decode cX1_fillTo 38 = .ok (.sipush 999, 3) := dk_17 3 231 (dk_at dksX1_fillTo_1 16 rfl rfl)
theorem dX1_fillTo_41 : decode cX1_fillTo 41 = .ok (.if_icmp .ne 5, 3) := dk_160 0 5 (dk_at dksX1_fillTo_1 19 rfl rfl)
theorem dX1_fillTo_44 : decode cX1_fillTo 44 = .ok (.iconst (-1), 1) := dk_2 (dk_at dksX1_fillTo_1 22 rfl rfl)
theorem dX1_fillTo_45 : decode cX1_fillTo 45 = .ok (.ireturn, 1) := dk_172 (dk_at dksX1_fillTo_1 23 rfl rfl)
theorem dX1_fillTo_46 : decode cX1_fillTo 46 = .ok (.aload_n 3, 1) := dk_45 (dk_at dksX1_fillTo_2 0 rfl rfl)
theorem dX1_fillTo_47 : decode cX1_fillTo 47 = .ok (.iload_n 1, 1) := dk_27 (dk_at dksX1_fillTo_2 1 rfl rfl)
theorem dX1_fillTo_48 : decode cX1_fillTo 48 = .ok (.iconst 1, 1) := dk_4 (dk_at dksX1_fillTo_2 2 rfl rfl)
theorem dX1_fillTo_49 : decode cX1_fillTo 49 = .ok (.invokevirtual 275, 3) := dk_182 1 19 (dk_at dksX1_fillTo_2 3 rfl rfl)
theorem dX1_fillTo_52 : decode cX1_fillTo 52 = .ok (.istore 5, 2) := dk_54 5 (dk_at dksX1_fillTo_2 6 rfl rfl)
theorem dX1_fillTo_54 : decode cX1_fillTo 54 = .ok (.iinc 4 1, 3) := dk_132 4 1 (dk_at dksX1_fillTo_2 8 rfl rfl)
theorem dX1_fillTo_57 : decode cX1_fillTo 57 = .ok (.goto (-29), 3) := dk_167 255 227 (dk_at dksX1_fillTo_2 11 rfl rfl)
theorem dX1_fillTo_60 : decode cX1_fillTo 60 = .ok (.iload 4, 2) := dk_21 4 (dk_at dksX1_fillTo_2 14 rfl rfl)
theorem dX1_fillTo_62 : decode cX1_fillTo 62 = .ok (.ireturn, 1) := dk_172 (dk_at dksX1_fillTo_2 16 rfl rfl)
abbrev cX1_drawable : ByteArray := prog_1_method_47_code
def yX1_drawable : MethodName := ⟨RX1, "drawable", "()I"⟩
def dkwX1_drawable_0 : List UInt8 := [187, 0, 4, 89, 42, 182, 0, 101, 183, 0, 195, 182, 1, 29, 172]
abbrev dktX1_drawable_0 : List UInt8 := dkwX1_drawable_0 ++ []
theorem dksX1_drawable_0 : cX1_drawable.data.toList.drop 0 = dktX1_drawable_0 := by decide +kernel
theorem dX1_drawable_0 : decode cX1_drawable 0 = .ok (.new 4, 3) := dk_187 0 4 (dk_at dksX1_drawable_0 0 rfl rfl)
theorem dX1_drawable_3 : decode cX1_drawable 3 = .ok (.dup, 1) := dk_89 (dk_at dksX1_drawable_0 3 rfl rfl)
theorem dX1_drawable_4 : decode cX1_drawable 4 = .ok (.aload_n 0, 1) := dk_42 (dk_at dksX1_drawable_0 4 rfl rfl)
theorem dX1_drawable_5 : decode cX1_drawable 5 = .ok (.invokevirtual 101, 3) := dk_182 0 101 (dk_at dksX1_drawable_0 5 rfl rfl)
theorem dX1_drawable_8 : decode cX1_drawable 8 = .ok (.invokespecial 195, 3) := dk_183 0 195 (dk_at dksX1_drawable_0 8 rfl rfl)
theorem dX1_drawable_11 : decode cX1_drawable 11 = .ok (.invokevirtual 285, 3) := dk_182 1 29 (dk_at dksX1_drawable_0 11 rfl rfl)
theorem dX1_drawable_14 : decode cX1_drawable 14 = .ok (.ireturn, 1) := dk_172 (dk_at dksX1_drawable_0 14 rfl rfl)
abbrev cX1_drawableIf : ByteArray := prog_1_method_49_code
def yX1_drawableIf : MethodName := ⟨RX1, "drawableIf", "(I)I"⟩
def dkwX1_drawableIf_0 : List UInt8 := [42, 27, 182, 0, 175, 77, 42, 27, 182, 1, 35, 172]
abbrev dktX1_drawableIf_0 : List UInt8 := dkwX1_drawableIf_0 ++ []
theorem dksX1_drawableIf_0 : cX1_drawableIf.data.toList.drop 0 = dktX1_drawableIf_0 := by decide +kernel
theorem dX1_drawableIf_0 : decode cX1_drawableIf 0 = .ok (.aload_n 0, 1) := dk_42 (dk_at dksX1_drawableIf_0 0 rfl rfl)
theorem dX1_drawableIf_1 : decode cX1_drawableIf 1 = .ok (.iload_n 1, 1) := dk_27 (dk_at dksX1_drawableIf_0 1 rfl rfl)
theorem dX1_drawableIf_2 : decode cX1_drawableIf 2 = .ok (.invokevirtual 175, 3) := dk_182 0 175 (dk_at dksX1_drawableIf_0 2 rfl rfl)
theorem dX1_drawableIf_5 : decode cX1_drawableIf 5 = .ok (.astore_n 2, 1) := dk_77 (dk_at dksX1_drawableIf_0 5 rfl rfl)
theorem dX1_drawableIf_6 : decode cX1_drawableIf 6 = .ok (.aload_n 0, 1) := dk_42 (dk_at dksX1_drawableIf_0 6 rfl rfl)
theorem dX1_drawableIf_7 : decode cX1_drawableIf 7 = .ok (.iload_n 1, 1) := dk_27 (dk_at dksX1_drawableIf_0 7 rfl rfl)
theorem dX1_drawableIf_8 : decode cX1_drawableIf 8 = .ok (.invokevirtual 291, 3) := dk_182 1 35 (dk_at dksX1_drawableIf_0 8 rfl rfl)
theorem dX1_drawableIf_11 : decode cX1_drawableIf 11 = .ok (.ireturn, 1) := dk_172 (dk_at dksX1_drawableIf_0 11 rfl rfl)
abbrev cX1_drawableWith : ByteArray := prog_1_method_48_code
def yX1_drawableWith : MethodName := ⟨RX1, "drawableWith", "(I)I"⟩
def dkwX1_drawableWith_1 : List UInt8 := [44, 182, 1, 29, 172]
abbrev dktX1_drawableWith_1 : List UInt8 := dkwX1_drawableWith_1 ++ []
def dkwX1_drawableWith_0 : List UInt8 := [187, 0, 4, 89, 42, 180, 0, 66, 183, 0, 195, 77, 44, 180, 0, 116, 27, 3, 84, 44, 182, 1, 32, 62]
abbrev dktX1_drawableWith_0 : List UInt8 := dkwX1_drawableWith_0 ++ dktX1_drawableWith_1
theorem dksX1_drawableWith_0 : cX1_drawableWith.data.toList.drop 0 = dktX1_drawableWith_0 := by decide +kernel
theorem dksX1_drawableWith_1 : cX1_drawableWith.data.toList.drop 24 = dktX1_drawableWith_1 := dk_seg dksX1_drawableWith_0 24 rfl rfl
theorem dX1_drawableWith_0 : decode cX1_drawableWith 0 = .ok (.new 4, 3) := dk_187 0 4 (dk_at dksX1_drawableWith_0 0 rfl rfl)
theorem dX1_drawableWith_3 : decode cX1_drawableWith 3 = .ok (.dup, 1) := dk_89 (dk_at dksX1_drawableWith_0 3 rfl rfl)
theorem dX1_drawableWith_4 : decode cX1_drawableWith 4 = .ok (.aload_n 0, 1) := dk_42 (dk_at dksX1_drawableWith_0 4 rfl rfl)
theorem dX1_drawableWith_5 : decode cX1_drawableWith 5 = .ok (.getfield 66, 3) := dk_180 0 66 (dk_at dksX1_drawableWith_0 5 rfl rfl)
theorem dX1_drawableWith_8 : decode cX1_drawableWith 8 = .ok (.invokespecial 195, 3) := dk_183 0 195 (dk_at dksX1_drawableWith_0 8 rfl rfl)
theorem dX1_drawableWith_11 : decode cX1_drawableWith 11 = .ok (.astore_n 2, 1) := dk_77 (dk_at dksX1_drawableWith_0 11 rfl rfl)
theorem dX1_drawableWith_12 : decode cX1_drawableWith 12 = .ok (.aload_n 2, 1) := dk_44 (dk_at dksX1_drawableWith_0 12 rfl rfl)
theorem dX1_drawableWith_13 : decode cX1_drawableWith 13 = .ok (.getfield 116, 3) := dk_180 0 116 (dk_at dksX1_drawableWith_0 13 rfl rfl)
theorem dX1_drawableWith_16 : decode cX1_drawableWith 16 = .ok (.iload_n 1, 1) := dk_27 (dk_at dksX1_drawableWith_0 16 rfl rfl)
theorem dX1_drawableWith_17 : decode cX1_drawableWith 17 = .ok (.iconst 0, 1) := dk_3 (dk_at dksX1_drawableWith_0 17 rfl rfl)
theorem dX1_drawableWith_18 : decode cX1_drawableWith 18 = .ok (.bastore, 1) := dk_84 (dk_at dksX1_drawableWith_0 18 rfl rfl)
theorem dX1_drawableWith_19 : decode cX1_drawableWith 19 = .ok (.aload_n 2, 1) := dk_44 (dk_at dksX1_drawableWith_0 19 rfl rfl)
theorem dX1_drawableWith_20 : decode cX1_drawableWith 20 = .ok (.invokevirtual 288, 3) := dk_182 1 32 (dk_at dksX1_drawableWith_0 20 rfl rfl)
theorem dX1_drawableWith_23 : decode cX1_drawableWith 23 = .ok (.istore_n 3, 1) := dk_62 (dk_at dksX1_drawableWith_0 23 rfl rfl)
theorem dX1_drawableWith_24 : decode cX1_drawableWith 24 = .ok (.aload_n 2, 1) := dk_44 (dk_at dksX1_drawableWith_1 0 rfl rfl)
theorem dX1_drawableWith_25 : decode cX1_drawableWith 25 = .ok (.invokevirtual 285, 3) := dk_182 1 29 (dk_at dksX1_drawableWith_1 1 rfl rfl)
theorem dX1_drawableWith_28 : decode cX1_drawableWith 28 = .ok (.ireturn, 1) := dk_172 (dk_at dksX1_drawableWith_1 4 rfl rfl)
abbrev cX1_bestLoosened : ByteArray := prog_1_method_50_code
def yX1_bestLoosened : MethodName := ⟨RX1, "bestLoosened", "()I"⟩
def dkwX1_bestLoosened_2 : List UInt8 := [167, 255, 221, 28, 172]
abbrev dktX1_bestLoosened_2 : List UInt8 := dkwX1_bestLoosened_2 ++ []
def dkwX1_bestLoosened_1 : List UInt8 := [182, 1, 35, 54, 5, 21, 5, 29, 163, 0, 6, 167, 0, 9, 21, 5, 62, 21, 4, 61, 132, 4, 1]
abbrev dktX1_bestLoosened_1 : List UInt8 := dkwX1_bestLoosened_1 ++ dktX1_bestLoosened_2
def dkwX1_bestLoosened_0 : List UInt8 := [42, 182, 0, 101, 76, 3, 61, 2, 62, 3, 54, 4, 21, 4, 43, 182, 0, 3, 162, 0, 32, 42, 21, 4]
abbrev dktX1_bestLoosened_0 : List UInt8 := dkwX1_bestLoosened_0 ++ dktX1_bestLoosened_1
theorem dksX1_bestLoosened_0 : cX1_bestLoosened.data.toList.drop 0 = dktX1_bestLoosened_0 := by decide +kernel
theorem dksX1_bestLoosened_1 : cX1_bestLoosened.data.toList.drop 24 = dktX1_bestLoosened_1 := dk_seg dksX1_bestLoosened_0 24 rfl rfl
theorem dksX1_bestLoosened_2 : cX1_bestLoosened.data.toList.drop 47 = dktX1_bestLoosened_2 := dk_seg dksX1_bestLoosened_1 23 rfl rfl
theorem dX1_bestLoosened_0 : decode cX1_bestLoosened 0 = .ok (.aload_n 0, 1) := dk_42 (dk_at dksX1_bestLoosened_0 0 rfl rfl)
theorem dX1_bestLoosened_1 : decode cX1_bestLoosened 1 = .ok (.invokevirtual 101, 3) := dk_182 0 101 (dk_at dksX1_bestLoosened_0 1 rfl rfl)
theorem dX1_bestLoosened_4 : decode cX1_bestLoosened 4 = .ok (.astore_n 1, 1) := dk_76 (dk_at dksX1_bestLoosened_0 4 rfl rfl)
theorem dX1_bestLoosened_5 : decode cX1_bestLoosened 5 = .ok (.iconst 0, 1) := dk_3 (dk_at dksX1_bestLoosened_0 5 rfl rfl)
theorem dX1_bestLoosened_6 : decode cX1_bestLoosened 6 = .ok (.istore_n 2, 1) := dk_61 (dk_at dksX1_bestLoosened_0 6 rfl rfl)
theorem dX1_bestLoosened_7 : decode cX1_bestLoosened 7 = .ok (.iconst (-1), 1) := dk_2 (dk_at dksX1_bestLoosened_0 7 rfl rfl)
theorem dX1_bestLoosened_8 : decode cX1_bestLoosened 8 = .ok (.istore_n 3, 1) := dk_62 (dk_at dksX1_bestLoosened_0 8 rfl rfl)
theorem dX1_bestLoosened_9 : decode cX1_bestLoosened 9 = .ok (.iconst 0, 1) := dk_3 (dk_at dksX1_bestLoosened_0 9 rfl rfl)
theorem dX1_bestLoosened_10 : decode cX1_bestLoosened 10 = .ok (.istore 4, 2) := dk_54 4 (dk_at dksX1_bestLoosened_0 10 rfl rfl)
theorem dX1_bestLoosened_12 : decode cX1_bestLoosened 12 = .ok (.iload 4, 2) := dk_21 4 (dk_at dksX1_bestLoosened_0 12 rfl rfl)
theorem dX1_bestLoosened_14 : decode cX1_bestLoosened 14 = .ok (.aload_n 1, 1) := dk_43 (dk_at dksX1_bestLoosened_0 14 rfl rfl)
theorem dX1_bestLoosened_15 : decode cX1_bestLoosened 15 = .ok (.invokevirtual 3, 3) := dk_182 0 3 (dk_at dksX1_bestLoosened_0 15 rfl rfl)
theorem dX1_bestLoosened_18 : decode cX1_bestLoosened 18 = .ok (.if_icmp .ge 32, 3) := dk_162 0 32 (dk_at dksX1_bestLoosened_0 18 rfl rfl)
theorem dX1_bestLoosened_21 : decode cX1_bestLoosened 21 = .ok (.aload_n 0, 1) := dk_42 (dk_at dksX1_bestLoosened_0 21 rfl rfl)
theorem dX1_bestLoosened_22 : decode cX1_bestLoosened 22 = .ok (.iload 4, 2) := dk_21 4 (dk_at dksX1_bestLoosened_0 22 rfl rfl)
theorem dX1_bestLoosened_24 : decode cX1_bestLoosened 24 = .ok (.invokevirtual 291, 3) := dk_182 1 35 (dk_at dksX1_bestLoosened_1 0 rfl rfl)
theorem dX1_bestLoosened_27 : decode cX1_bestLoosened 27 = .ok (.istore 5, 2) := dk_54 5 (dk_at dksX1_bestLoosened_1 3 rfl rfl)
theorem dX1_bestLoosened_29 : decode cX1_bestLoosened 29 = .ok (.iload 5, 2) := dk_21 5 (dk_at dksX1_bestLoosened_1 5 rfl rfl)
theorem dX1_bestLoosened_31 : decode cX1_bestLoosened 31 = .ok (.iload_n 3, 1) := dk_29 (dk_at dksX1_bestLoosened_1 7 rfl rfl)
theorem dX1_bestLoosened_32 : decode cX1_bestLoosened 32 = .ok (.if_icmp .gt 6, 3) := dk_163 0 6 (dk_at dksX1_bestLoosened_1 8 rfl rfl)
theorem dX1_bestLoosened_35 : decode cX1_bestLoosened 35 = .ok (.goto 9, 3) := dk_167 0 9 (dk_at dksX1_bestLoosened_1 11 rfl rfl)
theorem dX1_bestLoosened_38 : decode cX1_bestLoosened 38 = .ok (.iload 5, 2) := dk_21 5 (dk_at dksX1_bestLoosened_1 14 rfl rfl)
theorem dX1_bestLoosened_40 : decode cX1_bestLoosened 40 = .ok (.istore_n 3, 1) := dk_62 (dk_at dksX1_bestLoosened_1 16 rfl rfl)
theorem dX1_bestLoosened_41 : decode cX1_bestLoosened 41 = .ok (.iload 4, 2) := dk_21 4 (dk_at dksX1_bestLoosened_1 17 rfl rfl)
theorem dX1_bestLoosened_43 : decode cX1_bestLoosened 43 = .ok (.istore_n 2, 1) := dk_61 (dk_at dksX1_bestLoosened_1 19 rfl rfl)
theorem dX1_bestLoosened_44 : decode cX1_bestLoosened 44 = .ok (.iinc 4 1, 3) := dk_132 4 1 (dk_at dksX1_bestLoosened_1 20 rfl rfl)
theorem dX1_bestLoosened_47 : decode cX1_bestLoosened 47 = .ok (.goto (-35), 3) := dk_167 255 221 (dk_at dksX1_bestLoosened_2 0 rfl rfl)
theorem dX1_bestLoosened_50 : decode cX1_bestLoosened 50 = .ok (.iload_n 2, 1) := dk_28 (dk_at dksX1_bestLoosened_2 3 rfl rfl)
theorem dX1_bestLoosened_51 : decode cX1_bestLoosened 51 = .ok (.ireturn, 1) := dk_172 (dk_at dksX1_bestLoosened_2 4 rfl rfl)
abbrev cX1_hangingUnits : ByteArray := prog_1_method_51_code
def yX1_hangingUnits : MethodName := ⟨RX1, "hangingUnits", "()I"⟩
def dkwX1_hangingUnits_0 : List UInt8 := [42, 182, 0, 101, 182, 0, 124, 42, 182, 1, 38, 100, 172]
abbrev dktX1_hangingUnits_0 : List UInt8 := dkwX1_hangingUnits_0 ++ []
theorem dksX1_hangingUnits_0 : cX1_hangingUnits.data.toList.drop 0 = dktX1_hangingUnits_0 := by decide +kernel
theorem dX1_hangingUnits_0 : decode cX1_hangingUnits 0 = .ok (.aload_n 0, 1) := dk_42 (dk_at dksX1_hangingUnits_0 0 rfl rfl)
theorem dX1_hangingUnits_1 : decode cX1_hangingUnits 1 = .ok (.invokevirtual 101, 3) := dk_182 0 101 (dk_at dksX1_hangingUnits_0 1 rfl rfl)
theorem dX1_hangingUnits_4 : decode cX1_hangingUnits 4 = .ok (.invokevirtual 124, 3) := dk_182 0 124 (dk_at dksX1_hangingUnits_0 4 rfl rfl)
theorem dX1_hangingUnits_7 : decode cX1_hangingUnits 7 = .ok (.aload_n 0, 1) := dk_42 (dk_at dksX1_hangingUnits_0 7 rfl rfl)
theorem dX1_hangingUnits_8 : decode cX1_hangingUnits 8 = .ok (.invokevirtual 294, 3) := dk_182 1 38 (dk_at dksX1_hangingUnits_0 8 rfl rfl)
theorem dX1_hangingUnits_11 : decode cX1_hangingUnits 11 = .ok (.isub, 1) := dk_100 (dk_at dksX1_hangingUnits_0 11 rfl rfl)
theorem dX1_hangingUnits_12 : decode cX1_hangingUnits 12 = .ok (.ireturn, 1) := dk_172 (dk_at dksX1_hangingUnits_0 12 rfl rfl)
abbrev cX1_heightDrawn : ByteArray := prog_1_method_52_code
def yX1_heightDrawn : MethodName := ⟨RX1, "heightDrawn", "(II)I"⟩
def dkwX1_heightDrawn_1 : List UInt8 := [45, 180, 0, 179, 27, 46, 172]
abbrev dktX1_heightDrawn_1 : List UInt8 := dkwX1_heightDrawn_1 ++ []
def dkwX1_heightDrawn_0 : List UInt8 := [187, 0, 4, 89, 42, 27, 182, 0, 175, 183, 0, 195, 78, 28, 184, 1, 22, 45, 28, 182, 1, 41, 54, 4]
abbrev dktX1_heightDrawn_0 : List UInt8 := dkwX1_heightDrawn_0 ++ dktX1_heightDrawn_1
theorem dksX1_heightDrawn_0 : cX1_heightDrawn.data.toList.drop 0 = dktX1_heightDrawn_0 := by decide +kernel
theorem dksX1_heightDrawn_1 : cX1_heightDrawn.data.toList.drop 24 = dktX1_heightDrawn_1 := dk_seg dksX1_heightDrawn_0 24 rfl rfl
theorem dX1_heightDrawn_0 : decode cX1_heightDrawn 0 = .ok (.new 4, 3) := dk_187 0 4 (dk_at dksX1_heightDrawn_0 0 rfl rfl)
theorem dX1_heightDrawn_3 : decode cX1_heightDrawn 3 = .ok (.dup, 1) := dk_89 (dk_at dksX1_heightDrawn_0 3 rfl rfl)
theorem dX1_heightDrawn_4 : decode cX1_heightDrawn 4 = .ok (.aload_n 0, 1) := dk_42 (dk_at dksX1_heightDrawn_0 4 rfl rfl)
theorem dX1_heightDrawn_5 : decode cX1_heightDrawn 5 = .ok (.iload_n 1, 1) := dk_27 (dk_at dksX1_heightDrawn_0 5 rfl rfl)
theorem dX1_heightDrawn_6 : decode cX1_heightDrawn 6 = .ok (.invokevirtual 175, 3) := dk_182 0 175 (dk_at dksX1_heightDrawn_0 6 rfl rfl)
theorem dX1_heightDrawn_9 : decode cX1_heightDrawn 9 = .ok (.invokespecial 195, 3) := dk_183 0 195 (dk_at dksX1_heightDrawn_0 9 rfl rfl)
theorem dX1_heightDrawn_12 : decode cX1_heightDrawn 12 = .ok (.astore_n 3, 1) := dk_78 (dk_at dksX1_heightDrawn_0 12 rfl rfl)
theorem dX1_heightDrawn_13 : decode cX1_heightDrawn 13 = .ok (.iload_n 2, 1) := dk_28 (dk_at dksX1_heightDrawn_0 13 rfl rfl)
theorem dX1_heightDrawn_14 : decode cX1_heightDrawn 14 = .ok (.invokestatic 278, 3) := dk_184 1 22 (dk_at dksX1_heightDrawn_0 14 rfl rfl)
theorem dX1_heightDrawn_17 : decode cX1_heightDrawn 17 = .ok (.aload_n 3, 1) := dk_45 (dk_at dksX1_heightDrawn_0 17 rfl rfl)
theorem dX1_heightDrawn_18 : decode cX1_heightDrawn 18 = .ok (.iload_n 2, 1) := dk_28 (dk_at dksX1_heightDrawn_0 18 rfl rfl)
theorem dX1_heightDrawn_19 : decode cX1_heightDrawn 19 = .ok (.invokevirtual 297, 3) := dk_182 1 41 (dk_at dksX1_heightDrawn_0 19 rfl rfl)
theorem dX1_heightDrawn_22 : decode cX1_heightDrawn 22 = .ok (.istore 4, 2) := dk_54 4 (dk_at dksX1_heightDrawn_0 22 rfl rfl)
theorem dX1_heightDrawn_24 : decode cX1_heightDrawn 24 = .ok (.aload_n 3, 1) := dk_45 (dk_at dksX1_heightDrawn_1 0 rfl rfl)
theorem dX1_heightDrawn_25 : decode cX1_heightDrawn 25 = .ok (.getfield 179, 3) := dk_180 0 179 (dk_at dksX1_heightDrawn_1 1 rfl rfl)
theorem dX1_heightDrawn_28 : decode cX1_heightDrawn 28 = .ok (.iload_n 1, 1) := dk_27 (dk_at dksX1_heightDrawn_1 4 rfl rfl)
theorem dX1_heightDrawn_29 : decode cX1_heightDrawn 29 = .ok (.iaload, 1) := dk_46 (dk_at dksX1_heightDrawn_1 5 rfl rfl)
theorem dX1_heightDrawn_30 : decode cX1_heightDrawn 30 = .ok (.ireturn, 1) := dk_172 (dk_at dksX1_heightDrawn_1 6 rfl rfl)
abbrev cX1_levelIfFilled : ByteArray := prog_1_method_53_code
def yX1_levelIfFilled : MethodName := ⟨RX1, "levelIfFilled", "(II)I"⟩
def dkwX1_levelIfFilled_0 : List UInt8 := [42, 27, 182, 0, 175, 78, 28, 184, 1, 22, 42, 27, 28, 182, 1, 25, 182, 1, 17, 172]
abbrev dktX1_levelIfFilled_0 : List UInt8 := dkwX1_levelIfFilled_0 ++ []
theorem dksX1_levelIfFilled_0 : cX1_levelIfFilled.data.toList.drop 0 = dktX1_levelIfFilled_0 := by decide +kernel
theorem dX1_levelIfFilled_0 : decode cX1_levelIfFilled 0 = .ok (.aload_n 0, 1) := dk_42 (dk_at dksX1_levelIfFilled_0 0 rfl rfl)
theorem dX1_levelIfFilled_1 : decode cX1_levelIfFilled 1 = .ok (.iload_n 1, 1) := dk_27 (dk_at dksX1_levelIfFilled_0 1 rfl rfl)
theorem dX1_levelIfFilled_2 : decode cX1_levelIfFilled 2 = .ok (.invokevirtual 175, 3) := dk_182 0 175 (dk_at dksX1_levelIfFilled_0 2 rfl rfl)
theorem dX1_levelIfFilled_5 : decode cX1_levelIfFilled 5 = .ok (.astore_n 3, 1) := dk_78 (dk_at dksX1_levelIfFilled_0 5 rfl rfl)
theorem dX1_levelIfFilled_6 : decode cX1_levelIfFilled 6 = .ok (.iload_n 2, 1) := dk_28 (dk_at dksX1_levelIfFilled_0 6 rfl rfl)
theorem dX1_levelIfFilled_7 : decode cX1_levelIfFilled 7 = .ok (.invokestatic 278, 3) := dk_184 1 22 (dk_at dksX1_levelIfFilled_0 7 rfl rfl)
theorem dX1_levelIfFilled_10 : decode cX1_levelIfFilled 10 = .ok (.aload_n 0, 1) := dk_42 (dk_at dksX1_levelIfFilled_0 10 rfl rfl)
theorem dX1_levelIfFilled_11 : decode cX1_levelIfFilled 11 = .ok (.iload_n 1, 1) := dk_27 (dk_at dksX1_levelIfFilled_0 11 rfl rfl)
theorem dX1_levelIfFilled_12 : decode cX1_levelIfFilled 12 = .ok (.iload_n 2, 1) := dk_28 (dk_at dksX1_levelIfFilled_0 12 rfl rfl)
theorem dX1_levelIfFilled_13 : decode cX1_levelIfFilled 13 = .ok (.invokevirtual 281, 3) := dk_182 1 25 (dk_at dksX1_levelIfFilled_0 13 rfl rfl)
theorem dX1_levelIfFilled_16 : decode cX1_levelIfFilled 16 = .ok (.invokevirtual 273, 3) := dk_182 1 17 (dk_at dksX1_levelIfFilled_0 16 rfl rfl)
theorem dX1_levelIfFilled_19 : decode cX1_levelIfFilled 19 = .ok (.ireturn, 1) := dk_172 (dk_at dksX1_levelIfFilled_0 19 rfl rfl)
abbrev cX1_deafTo : ByteArray := prog_1_method_54_code
def yX1_deafTo : MethodName := ⟨RX1, "deafTo", "()I"⟩
def dkwX1_deafTo_3 : List UInt8 := [167, 255, 203, 28, 172]
abbrev dktX1_deafTo_3 : List UInt8 := dkwX1_deafTo_3 ++ []
def dkwX1_deafTo_2 : List UInt8 := [25, 5, 198, 0, 16, 43, 25, 5, 182, 0, 224, 154, 0, 7, 4, 167, 0, 4, 3, 184, 0, 120, 96, 61]
abbrev dktX1_deafTo_2 : List UInt8 := dkwX1_deafTo_2 ++ dktX1_deafTo_3
def dkwX1_deafTo_1 : List UInt8 := [153, 0, 50, 45, 185, 1, 7, 1, 0, 192, 0, 208, 58, 4, 43, 25, 4, 182, 0, 210, 58, 5, 28]
abbrev dktX1_deafTo_1 : List UInt8 := dkwX1_deafTo_1 ++ dktX1_deafTo_2
def dkwX1_deafTo_0 : List UInt8 := [42, 182, 0, 101, 76, 3, 61, 43, 180, 0, 130, 185, 0, 253, 1, 0, 78, 45, 185, 1, 1, 1, 0]
abbrev dktX1_deafTo_0 : List UInt8 := dkwX1_deafTo_0 ++ dktX1_deafTo_1
theorem dksX1_deafTo_0 : cX1_deafTo.data.toList.drop 0 = dktX1_deafTo_0 := by decide +kernel
theorem dksX1_deafTo_1 : cX1_deafTo.data.toList.drop 23 = dktX1_deafTo_1 := dk_seg dksX1_deafTo_0 23 rfl rfl
theorem dksX1_deafTo_2 : cX1_deafTo.data.toList.drop 46 = dktX1_deafTo_2 := dk_seg dksX1_deafTo_1 23 rfl rfl
theorem dksX1_deafTo_3 : cX1_deafTo.data.toList.drop 70 = dktX1_deafTo_3 := dk_seg dksX1_deafTo_2 24 rfl rfl
theorem dX1_deafTo_0 : decode cX1_deafTo 0 = .ok (.aload_n 0, 1) := dk_42 (dk_at dksX1_deafTo_0 0 rfl rfl)
theorem dX1_deafTo_1 : decode cX1_deafTo 1 = .ok (.invokevirtual 101, 3) := dk_182 0 101 (dk_at dksX1_deafTo_0 1 rfl rfl)
theorem dX1_deafTo_4 : decode cX1_deafTo 4 = .ok (.astore_n 1, 1) := dk_76 (dk_at dksX1_deafTo_0 4 rfl rfl)
theorem dX1_deafTo_5 : decode cX1_deafTo 5 = .ok (.iconst 0, 1) := dk_3 (dk_at dksX1_deafTo_0 5 rfl rfl)
theorem dX1_deafTo_6 : decode cX1_deafTo 6 = .ok (.istore_n 2, 1) := dk_61 (dk_at dksX1_deafTo_0 6 rfl rfl)
theorem dX1_deafTo_7 : decode cX1_deafTo 7 = .ok (.aload_n 1, 1) := dk_43 (dk_at dksX1_deafTo_0 7 rfl rfl)
theorem dX1_deafTo_8 : decode cX1_deafTo 8 = .ok (.getfield 130, 3) := dk_180 0 130 (dk_at dksX1_deafTo_0 8 rfl rfl)
theorem dX1_deafTo_11 : decode cX1_deafTo 11 = .ok (.invokeinterface 253 1, 5) := by decide +kernel
theorem dX1_deafTo_16 : decode cX1_deafTo 16 = .ok (.astore_n 3, 1) := dk_78 (dk_at dksX1_deafTo_0 16 rfl rfl)
theorem dX1_deafTo_17 : decode cX1_deafTo 17 = .ok (.aload_n 3, 1) := dk_45 (dk_at dksX1_deafTo_0 17 rfl rfl)
theorem dX1_deafTo_18 : decode cX1_deafTo 18 = .ok (.invokeinterface 257 1, 5) := by decide +kernel
theorem dX1_deafTo_23 : decode cX1_deafTo 23 = .ok (.ifCond .eq 50, 3) := dk_153 0 50 (dk_at dksX1_deafTo_1 0 rfl rfl)
theorem dX1_deafTo_26 : decode cX1_deafTo 26 = .ok (.aload_n 3, 1) := dk_45 (dk_at dksX1_deafTo_1 3 rfl rfl)
theorem dX1_deafTo_27 : decode cX1_deafTo 27 = .ok (.invokeinterface 263 1, 5) := by decide +kernel
theorem dX1_deafTo_32 : decode cX1_deafTo 32 = .ok (.checkcast 208, 3) := dk_192 0 208 (dk_at dksX1_deafTo_1 9 rfl rfl)
theorem dX1_deafTo_35 : decode cX1_deafTo 35 = .ok (.astore 4, 2) := dk_58 4 (dk_at dksX1_deafTo_1 12 rfl rfl)
theorem dX1_deafTo_37 : decode cX1_deafTo 37 = .ok (.aload_n 1, 1) := dk_43 (dk_at dksX1_deafTo_1 14 rfl rfl)
theorem dX1_deafTo_38 : decode cX1_deafTo 38 = .ok (.aload 4, 2) := dk_25 4 (dk_at dksX1_deafTo_1 15 rfl rfl)
theorem dX1_deafTo_40 : decode cX1_deafTo 40 = .ok (.invokevirtual 210, 3) := dk_182 0 210 (dk_at dksX1_deafTo_1 17 rfl rfl)
theorem dX1_deafTo_43 : decode cX1_deafTo 43 = .ok (.astore 5, 2) := dk_58 5 (dk_at dksX1_deafTo_1 20 rfl rfl)
theorem dX1_deafTo_45 : decode cX1_deafTo 45 = .ok (.iload_n 2, 1) := dk_28 (dk_at dksX1_deafTo_1 22 rfl rfl)
theorem dX1_deafTo_46 : decode cX1_deafTo 46 = .ok (.aload 5, 2) := dk_25 5 (dk_at dksX1_deafTo_2 0 rfl rfl)
theorem dX1_deafTo_48 : decode cX1_deafTo 48 = .ok (.ifnull 16, 3) := dk_198 0 16 (dk_at dksX1_deafTo_2 2 rfl rfl)
theorem dX1_deafTo_51 : decode cX1_deafTo 51 = .ok (.aload_n 1, 1) := dk_43 (dk_at dksX1_deafTo_2 5 rfl rfl)
theorem dX1_deafTo_52 : decode cX1_deafTo 52 = .ok (.aload 5, 2) := dk_25 5 (dk_at dksX1_deafTo_2 6 rfl rfl)
theorem dX1_deafTo_54 : decode cX1_deafTo 54 = .ok (.invokevirtual 224, 3) := dk_182 0 224 (dk_at dksX1_deafTo_2 8 rfl rfl)
theorem dX1_deafTo_57 : decode cX1_deafTo 57 = .ok (.ifCond .ne 7, 3) := dk_154 0 7 (dk_at dksX1_deafTo_2 11 rfl rfl)
theorem dX1_deafTo_60 : decode cX1_deafTo 60 = .ok (.iconst 1, 1) := dk_4 (dk_at dksX1_deafTo_2 14 rfl rfl)
theorem dX1_deafTo_61 : decode cX1_deafTo 61 = .ok (.goto 4, 3) := dk_167 0 4 (dk_at dksX1_deafTo_2 15 rfl rfl)
theorem dX1_deafTo_64 : decode cX1_deafTo 64 = .ok (.iconst 0, 1) := dk_3 (dk_at dksX1_deafTo_2 18 rfl rfl)
theorem dX1_deafTo_65 : decode cX1_deafTo 65 = .ok (.invokestatic 120, 3) := dk_184 0 120 (dk_at dksX1_deafTo_2 19 rfl rfl)
theorem dX1_deafTo_68 : decode cX1_deafTo 68 = .ok (.iadd, 1) := dk_96 (dk_at dksX1_deafTo_2 22 rfl rfl)
theorem dX1_deafTo_69 : decode cX1_deafTo 69 = .ok (.istore_n 2, 1) := dk_61 (dk_at dksX1_deafTo_2 23 rfl rfl)
theorem dX1_deafTo_70 : decode cX1_deafTo 70 = .ok (.goto (-53), 3) := dk_167 255 203 (dk_at dksX1_deafTo_3 0 rfl rfl)
theorem dX1_deafTo_73 : decode cX1_deafTo 73 = .ok (.iload_n 2, 1) := dk_28 (dk_at dksX1_deafTo_3 3 rfl rfl)
theorem dX1_deafTo_74 : decode cX1_deafTo 74 = .ok (.ireturn, 1) := dk_172 (dk_at dksX1_deafTo_3 4 rfl rfl)
abbrev cX1_slidIf : ByteArray := prog_1_method_55_code
def yX1_slidIf : MethodName := ⟨RX1, "slidIf", "(II)I"⟩
def dkwX1_slidIf_1 : List UInt8 := [172]
abbrev dktX1_slidIf_1 : List UInt8 := dkwX1_slidIf_1 ++ []
def dkwX1_slidIf_0 : List UInt8 := [42, 27, 182, 0, 175, 78, 28, 184, 1, 22, 42, 27, 28, 182, 1, 25, 180, 0, 163, 45, 180, 0, 163, 100]
abbrev dktX1_slidIf_0 : List UInt8 := dkwX1_slidIf_0 ++ dktX1_slidIf_1
theorem dksX1_slidIf_0 : cX1_slidIf.data.toList.drop 0 = dktX1_slidIf_0 := by decide +kernel
theorem dksX1_slidIf_1 : cX1_slidIf.data.toList.drop 24 = dktX1_slidIf_1 := dk_seg dksX1_slidIf_0 24 rfl rfl
theorem dX1_slidIf_0 : decode cX1_slidIf 0 = .ok (.aload_n 0, 1) := dk_42 (dk_at dksX1_slidIf_0 0 rfl rfl)
theorem dX1_slidIf_1 : decode cX1_slidIf 1 = .ok (.iload_n 1, 1) := dk_27 (dk_at dksX1_slidIf_0 1 rfl rfl)
theorem dX1_slidIf_2 : decode cX1_slidIf 2 = .ok (.invokevirtual 175, 3) := dk_182 0 175 (dk_at dksX1_slidIf_0 2 rfl rfl)
theorem dX1_slidIf_5 : decode cX1_slidIf 5 = .ok (.astore_n 3, 1) := dk_78 (dk_at dksX1_slidIf_0 5 rfl rfl)
theorem dX1_slidIf_6 : decode cX1_slidIf 6 = .ok (.iload_n 2, 1) := dk_28 (dk_at dksX1_slidIf_0 6 rfl rfl)
theorem dX1_slidIf_7 : decode cX1_slidIf 7 = .ok (.invokestatic 278, 3) := dk_184 1 22 (dk_at dksX1_slidIf_0 7 rfl rfl)
theorem dX1_slidIf_10 : decode cX1_slidIf 10 = .ok (.aload_n 0, 1) := dk_42 (dk_at dksX1_slidIf_0 10 rfl rfl)
theorem dX1_slidIf_11 : decode cX1_slidIf 11 = .ok (.iload_n 1, 1) := dk_27 (dk_at dksX1_slidIf_0 11 rfl rfl)
theorem dX1_slidIf_12 : decode cX1_slidIf 12 = .ok (.iload_n 2, 1) := dk_28 (dk_at dksX1_slidIf_0 12 rfl rfl)
theorem dX1_slidIf_13 : decode cX1_slidIf 13 = .ok (.invokevirtual 281, 3) := dk_182 1 25 (dk_at dksX1_slidIf_0 13 rfl rfl)
theorem dX1_slidIf_16 : decode cX1_slidIf 16 = .ok (.getfield 163, 3) := dk_180 0 163 (dk_at dksX1_slidIf_0 16 rfl rfl)
theorem dX1_slidIf_19 : decode cX1_slidIf 19 = .ok (.aload_n 3, 1) := dk_45 (dk_at dksX1_slidIf_0 19 rfl rfl)
theorem dX1_slidIf_20 : decode cX1_slidIf 20 = .ok (.getfield 163, 3) := dk_180 0 163 (dk_at dksX1_slidIf_0 20 rfl rfl)
theorem dX1_slidIf_23 : decode cX1_slidIf 23 = .ok (.isub, 1) := dk_100 (dk_at dksX1_slidIf_0 23 rfl rfl)
theorem dX1_slidIf_24 : decode cX1_slidIf 24 = .ok (.ireturn, 1) := dk_172 (dk_at dksX1_slidIf_1 0 rfl rfl)
abbrev cX1_bestFill : ByteArray := prog_1_method_57_code
def yX1_bestFill : MethodName := ⟨RX1, "bestFill", "(I)I"⟩
def dkwX1_bestFill_2 : List UInt8 := [154, 0, 6, 167, 0, 10, 25, 6, 58, 4, 21, 5, 62, 132, 5, 1, 167, 255, 215, 29, 172]
abbrev dktX1_bestFill_2 : List UInt8 := dkwX1_bestFill_2 ++ []
def dkwX1_bestFill_1 : List UInt8 := [44, 182, 0, 3, 162, 0, 38, 42, 21, 5, 27, 182, 1, 25, 58, 6, 25, 6, 25, 4, 184, 1, 44]
abbrev dktX1_bestFill_1 : List UInt8 := dkwX1_bestFill_1 ++ dktX1_bestFill_2
def dkwX1_bestFill_0 : List UInt8 := [42, 182, 0, 101, 77, 27, 184, 1, 22, 3, 62, 42, 3, 27, 182, 1, 25, 58, 4, 4, 54, 5, 21, 5]
abbrev dktX1_bestFill_0 : List UInt8 := dkwX1_bestFill_0 ++ dktX1_bestFill_1
theorem dksX1_bestFill_0 : cX1_bestFill.data.toList.drop 0 = dktX1_bestFill_0 := by decide +kernel
theorem dksX1_bestFill_1 : cX1_bestFill.data.toList.drop 24 = dktX1_bestFill_1 := dk_seg dksX1_bestFill_0 24 rfl rfl
theorem dksX1_bestFill_2 : cX1_bestFill.data.toList.drop 47 = dktX1_bestFill_2 := dk_seg dksX1_bestFill_1 23 rfl rfl
theorem dX1_bestFill_0 : decode cX1_bestFill 0 = .ok (.aload_n 0, 1) := dk_42 (dk_at dksX1_bestFill_0 0 rfl rfl)
theorem dX1_bestFill_1 : decode cX1_bestFill 1 = .ok (.invokevirtual 101, 3) := dk_182 0 101 (dk_at dksX1_bestFill_0 1 rfl rfl)
theorem dX1_bestFill_4 : decode cX1_bestFill 4 = .ok (.astore_n 2, 1) := dk_77 (dk_at dksX1_bestFill_0 4 rfl rfl)
theorem dX1_bestFill_5 : decode cX1_bestFill 5 = .ok (.iload_n 1, 1) := dk_27 (dk_at dksX1_bestFill_0 5 rfl rfl)
theorem dX1_bestFill_6 : decode cX1_bestFill 6 = .ok (.invokestatic 278, 3) := dk_184 1 22 (dk_at dksX1_bestFill_0 6 rfl rfl)
theorem dX1_bestFill_9 : decode cX1_bestFill 9 = .ok (.iconst 0, 1) := dk_3 (dk_at dksX1_bestFill_0 9 rfl rfl)
theorem dX1_bestFill_10 : decode cX1_bestFill 10 = .ok (.istore_n 3, 1) := dk_62 (dk_at dksX1_bestFill_0 10 rfl rfl)
theorem dX1_bestFill_11 : decode cX1_bestFill 11 = .ok (.aload_n 0, 1) := dk_42 (dk_at dksX1_bestFill_0 11 rfl rfl)
theorem dX1_bestFill_12 : decode cX1_bestFill 12 = .ok (.iconst 0, 1) := dk_3 (dk_at dksX1_bestFill_0 12 rfl rfl)
theorem dX1_bestFill_13 : decode cX1_bestFill 13 = .ok (.iload_n 1, 1) := dk_27 (dk_at dksX1_bestFill_0 13 rfl rfl)
theorem dX1_bestFill_14 : decode cX1_bestFill 14 = .ok (.invokevirtual 281, 3) := dk_182 1 25 (dk_at dksX1_bestFill_0 14 rfl rfl)
theorem dX1_bestFill_17 : decode cX1_bestFill 17 = .ok (.astore 4, 2) := dk_58 4 (dk_at dksX1_bestFill_0 17 rfl rfl)
theorem dX1_bestFill_19 : decode cX1_bestFill 19 = .ok (.iconst 1, 1) := dk_4 (dk_at dksX1_bestFill_0 19 rfl rfl)
theorem dX1_bestFill_20 : decode cX1_bestFill 20 = .ok (.istore 5, 2) := dk_54 5 (dk_at dksX1_bestFill_0 20 rfl rfl)
theorem dX1_bestFill_22 : decode cX1_bestFill 22 = .ok (.iload 5, 2) := dk_21 5 (dk_at dksX1_bestFill_0 22 rfl rfl)
theorem dX1_bestFill_24 : decode cX1_bestFill 24 = .ok (.aload_n 2, 1) := dk_44 (dk_at dksX1_bestFill_1 0 rfl rfl)
theorem dX1_bestFill_25 : decode cX1_bestFill 25 = .ok (.invokevirtual 3, 3) := dk_182 0 3 (dk_at dksX1_bestFill_1 1 rfl rfl)
theorem dX1_bestFill_28 : decode cX1_bestFill 28 = .ok (.if_icmp .ge 38, 3) := dk_162 0 38 (dk_at dksX1_bestFill_1 4 rfl rfl)
theorem dX1_bestFill_31 : decode cX1_bestFill 31 = .ok (.aload_n 0, 1) := dk_42 (dk_at dksX1_bestFill_1 7 rfl rfl)
theorem dX1_bestFill_32 : decode cX1_bestFill 32 = .ok (.iload 5, 2) := dk_21 5 (dk_at dksX1_bestFill_1 8 rfl rfl)
theorem dX1_bestFill_34 : decode cX1_bestFill 34 = .ok (.iload_n 1, 1) := dk_27 (dk_at dksX1_bestFill_1 10 rfl rfl)
theorem dX1_bestFill_35 : decode cX1_bestFill 35 = .ok (.invokevirtual 281, 3) := dk_182 1 25 (dk_at dksX1_bestFill_1 11 rfl rfl)
theorem dX1_bestFill_38 : decode cX1_bestFill 38 = .ok (.astore 6, 2) := dk_58 6 (dk_at dksX1_bestFill_1 14 rfl rfl)
theorem dX1_bestFill_40 : decode cX1_bestFill 40 = .ok (.aload 6, 2) := dk_25 6 (dk_at dksX1_bestFill_1 16 rfl rfl)
theorem dX1_bestFill_42 : decode cX1_bestFill 42 = .ok (.aload 4, 2) := dk_25 4 (dk_at dksX1_bestFill_1 18 rfl rfl)
theorem dX1_bestFill_44 : decode cX1_bestFill 44 = .ok (.invokestatic 300, 3) := dk_184 1 44 (dk_at dksX1_bestFill_1 20 rfl rfl)
theorem dX1_bestFill_47 : decode cX1_bestFill 47 = .ok (.ifCond .ne 6, 3) := dk_154 0 6 (dk_at dksX1_bestFill_2 0 rfl rfl)
theorem dX1_bestFill_50 : decode cX1_bestFill 50 = .ok (.goto 10, 3) := dk_167 0 10 (dk_at dksX1_bestFill_2 3 rfl rfl)
theorem dX1_bestFill_53 : decode cX1_bestFill 53 = .ok (.aload 6, 2) := dk_25 6 (dk_at dksX1_bestFill_2 6 rfl rfl)
theorem dX1_bestFill_55 : decode cX1_bestFill 55 = .ok (.astore 4, 2) := dk_58 4 (dk_at dksX1_bestFill_2 8 rfl rfl)
theorem dX1_bestFill_57 : decode cX1_bestFill 57 = .ok (.iload 5, 2) := dk_21 5 (dk_at dksX1_bestFill_2 10 rfl rfl)
theorem dX1_bestFill_59 : decode cX1_bestFill 59 = .ok (.istore_n 3, 1) := dk_62 (dk_at dksX1_bestFill_2 12 rfl rfl)
theorem dX1_bestFill_60 : decode cX1_bestFill 60 = .ok (.iinc 5 1, 3) := dk_132 5 1 (dk_at dksX1_bestFill_2 13 rfl rfl)
theorem dX1_bestFill_63 : decode cX1_bestFill 63 = .ok (.goto (-41), 3) := dk_167 255 215 (dk_at dksX1_bestFill_2 16 rfl rfl)
theorem dX1_bestFill_66 : decode cX1_bestFill 66 = .ok (.iload_n 3, 1) := dk_29 (dk_at dksX1_bestFill_2 19 rfl rfl)
theorem dX1_bestFill_67 : decode cX1_bestFill 67 = .ok (.ireturn, 1) := dk_172 (dk_at dksX1_bestFill_2 20 rfl rfl)
abbrev cX1_isBetter : ByteArray := prog_1_method_56_code
def yX1_isBetter : MethodName := ⟨RX1, "isBetter", "(LPingEye$Silo;LPingEye$Silo;)Z"⟩
def dkwX1_isBetter_1 : List UInt8 := [182, 0, 240, 43, 182, 0, 240, 164, 0, 7, 4, 167, 0, 4, 3, 172]
abbrev dktX1_isBetter_1 : List UInt8 := dkwX1_isBetter_1 ++ []
def dkwX1_isBetter_0 : List UInt8 := [42, 180, 0, 154, 43, 180, 0, 154, 161, 0, 25, 42, 180, 0, 154, 43, 180, 0, 154, 160, 0, 18, 42]
abbrev dktX1_isBetter_0 : List UInt8 := dkwX1_isBetter_0 ++ dktX1_isBetter_1
theorem dksX1_isBetter_0 : cX1_isBetter.data.toList.drop 0 = dktX1_isBetter_0 := by decide +kernel
theorem dksX1_isBetter_1 : cX1_isBetter.data.toList.drop 23 = dktX1_isBetter_1 := dk_seg dksX1_isBetter_0 23 rfl rfl
theorem dX1_isBetter_0 : decode cX1_isBetter 0 = .ok (.aload_n 0, 1) := dk_42 (dk_at dksX1_isBetter_0 0 rfl rfl)
theorem dX1_isBetter_1 : decode cX1_isBetter 1 = .ok (.getfield 154, 3) := dk_180 0 154 (dk_at dksX1_isBetter_0 1 rfl rfl)
theorem dX1_isBetter_4 : decode cX1_isBetter 4 = .ok (.aload_n 1, 1) := dk_43 (dk_at dksX1_isBetter_0 4 rfl rfl)
theorem dX1_isBetter_5 : decode cX1_isBetter 5 = .ok (.getfield 154, 3) := dk_180 0 154 (dk_at dksX1_isBetter_0 5 rfl rfl)
theorem dX1_isBetter_8 : decode cX1_isBetter 8 = .ok (.if_icmp .lt 25, 3) := dk_161 0 25 (dk_at dksX1_isBetter_0 8 rfl rfl)
theorem dX1_isBetter_11 : decode cX1_isBetter 11 = .ok (.aload_n 0, 1) := dk_42 (dk_at dksX1_isBetter_0 11 rfl rfl)
theorem dX1_isBetter_12 : decode cX1_isBetter 12 = .ok (.getfield 154, 3) := dk_180 0 154 (dk_at dksX1_isBetter_0 12 rfl rfl)
theorem dX1_isBetter_15 : decode cX1_isBetter 15 = .ok (.aload_n 1, 1) := dk_43 (dk_at dksX1_isBetter_0 15 rfl rfl)
theorem dX1_isBetter_16 : decode cX1_isBetter 16 = .ok (.getfield 154, 3) := dk_180 0 154 (dk_at dksX1_isBetter_0 16 rfl rfl)
theorem dX1_isBetter_19 : decode cX1_isBetter 19 = .ok (.if_icmp .ne 18, 3) := dk_160 0 18 (dk_at dksX1_isBetter_0 19 rfl rfl)
theorem dX1_isBetter_22 : decode cX1_isBetter 22 = .ok (.aload_n 0, 1) := dk_42 (dk_at dksX1_isBetter_0 22 rfl rfl)
theorem dX1_isBetter_23 : decode cX1_isBetter 23 = .ok (.invokevirtual 240, 3) := dk_182 0 240 (dk_at dksX1_isBetter_1 0 rfl rfl)
theorem dX1_isBetter_26 : decode cX1_isBetter 26 = .ok (.aload_n 1, 1) := dk_43 (dk_at dksX1_isBetter_1 3 rfl rfl)
theorem dX1_isBetter_27 : decode cX1_isBetter 27 = .ok (.invokevirtual 240, 3) := dk_182 0 240 (dk_at dksX1_isBetter_1 4 rfl rfl)
theorem dX1_isBetter_30 : decode cX1_isBetter 30 = .ok (.if_icmp .le 7, 3) := dk_164 0 7 (dk_at dksX1_isBetter_1 7 rfl rfl)
theorem dX1_isBetter_33 : decode cX1_isBetter 33 = .ok (.iconst 1, 1) := dk_4 (dk_at dksX1_isBetter_1 10 rfl rfl)
theorem dX1_isBetter_34 : decode cX1_isBetter 34 = .ok (.goto 4, 3) := dk_167 0 4 (dk_at dksX1_isBetter_1 11 rfl rfl)
theorem dX1_isBetter_37 : decode cX1_isBetter 37 = .ok (.iconst 0, 1) := dk_3 (dk_at dksX1_isBetter_1 14 rfl rfl)
theorem dX1_isBetter_38 : decode cX1_isBetter 38 = .ok (.ireturn, 1) := dk_172 (dk_at dksX1_isBetter_1 15 rfl rfl)
abbrev cX1_learntFalse : ByteArray := prog_1_method_59_code
def yX1_learntFalse : MethodName := ⟨RX1, "learntFalse", "(I)I"⟩
def dkwX1_learntFalse_1 : List UInt8 := [183, 0, 195, 27, 182, 1, 54, 172]
abbrev dktX1_learntFalse_1 : List UInt8 := dkwX1_learntFalse_1 ++ []
def dkwX1_learntFalse_0 : List UInt8 := [42, 27, 182, 1, 48, 77, 42, 27, 182, 1, 51, 153, 0, 7, 2, 167, 0, 15, 187, 0, 4, 89, 44]
abbrev dktX1_learntFalse_0 : List UInt8 := dkwX1_learntFalse_0 ++ dktX1_learntFalse_1
theorem dksX1_learntFalse_0 : cX1_learntFalse.data.toList.drop 0 = dktX1_learntFalse_0 := by decide +kernel
theorem dksX1_learntFalse_1 : cX1_learntFalse.data.toList.drop 23 = dktX1_learntFalse_1 := dk_seg dksX1_learntFalse_0 23 rfl rfl
theorem dX1_learntFalse_0 : decode cX1_learntFalse 0 = .ok (.aload_n 0, 1) := dk_42 (dk_at dksX1_learntFalse_0 0 rfl rfl)
theorem dX1_learntFalse_1 : decode cX1_learntFalse 1 = .ok (.iload_n 1, 1) := dk_27 (dk_at dksX1_learntFalse_0 1 rfl rfl)
theorem dX1_learntFalse_2 : decode cX1_learntFalse 2 = .ok (.invokevirtual 304, 3) := dk_182 1 48 (dk_at dksX1_learntFalse_0 2 rfl rfl)
theorem dX1_learntFalse_5 : decode cX1_learntFalse 5 = .ok (.astore_n 2, 1) := dk_77 (dk_at dksX1_learntFalse_0 5 rfl rfl)
theorem dX1_learntFalse_6 : decode cX1_learntFalse 6 = .ok (.aload_n 0, 1) := dk_42 (dk_at dksX1_learntFalse_0 6 rfl rfl)
theorem dX1_learntFalse_7 : decode cX1_learntFalse 7 = .ok (.iload_n 1, 1) := dk_27 (dk_at dksX1_learntFalse_0 7 rfl rfl)
theorem dX1_learntFalse_8 : decode cX1_learntFalse 8 = .ok (.invokevirtual 307, 3) := dk_182 1 51 (dk_at dksX1_learntFalse_0 8 rfl rfl)
theorem dX1_learntFalse_11 : decode cX1_learntFalse 11 = .ok (.ifCond .eq 7, 3) := dk_153 0 7 (dk_at dksX1_learntFalse_0 11 rfl rfl)
theorem dX1_learntFalse_14 : decode cX1_learntFalse 14 = .ok (.iconst (-1), 1) := dk_2 (dk_at dksX1_learntFalse_0 14 rfl rfl)
theorem dX1_learntFalse_15 : decode cX1_learntFalse 15 = .ok (.goto 15, 3) := dk_167 0 15 (dk_at dksX1_learntFalse_0 15 rfl rfl)
theorem dX1_learntFalse_18 : decode cX1_learntFalse 18 = .ok (.new 4, 3) := dk_187 0 4 (dk_at dksX1_learntFalse_0 18 rfl rfl)
theorem dX1_learntFalse_21 : decode cX1_learntFalse 21 = .ok (.dup, 1) := dk_89 (dk_at dksX1_learntFalse_0 21 rfl rfl)
theorem dX1_learntFalse_22 : decode cX1_learntFalse 22 = .ok (.aload_n 2, 1) := dk_44 (dk_at dksX1_learntFalse_0 22 rfl rfl)
theorem dX1_learntFalse_23 : decode cX1_learntFalse 23 = .ok (.invokespecial 195, 3) := dk_183 0 195 (dk_at dksX1_learntFalse_1 0 rfl rfl)
theorem dX1_learntFalse_26 : decode cX1_learntFalse 26 = .ok (.iload_n 1, 1) := dk_27 (dk_at dksX1_learntFalse_1 3 rfl rfl)
theorem dX1_learntFalse_27 : decode cX1_learntFalse 27 = .ok (.invokevirtual 310, 3) := dk_182 1 54 (dk_at dksX1_learntFalse_1 4 rfl rfl)
theorem dX1_learntFalse_30 : decode cX1_learntFalse 30 = .ok (.ireturn, 1) := dk_172 (dk_at dksX1_learntFalse_1 7 rfl rfl)
abbrev cX1_withWay : ByteArray := prog_1_method_16_code
def yX1_withWay : MethodName := ⟨RX1, "withWay", "(I)LPingEye$Silo;"⟩
def dkwX1_withWay_0 : List UInt8 := [42, 182, 0, 101, 77, 27, 3, 44, 182, 0, 102, 4, 96, 184, 0, 49, 184, 0, 105, 44, 176]
abbrev dktX1_withWay_0 : List UInt8 := dkwX1_withWay_0 ++ []
theorem dksX1_withWay_0 : cX1_withWay.data.toList.drop 0 = dktX1_withWay_0 := by decide +kernel
theorem dX1_withWay_0 : decode cX1_withWay 0 = .ok (.aload_n 0, 1) := dk_42 (dk_at dksX1_withWay_0 0 rfl rfl)
theorem dX1_withWay_1 : decode cX1_withWay 1 = .ok (.invokevirtual 101, 3) := dk_182 0 101 (dk_at dksX1_withWay_0 1 rfl rfl)
theorem dX1_withWay_4 : decode cX1_withWay 4 = .ok (.astore_n 2, 1) := dk_77 (dk_at dksX1_withWay_0 4 rfl rfl)
theorem dX1_withWay_5 : decode cX1_withWay 5 = .ok (.iload_n 1, 1) := dk_27 (dk_at dksX1_withWay_0 5 rfl rfl)
theorem dX1_withWay_6 : decode cX1_withWay 6 = .ok (.iconst 0, 1) := dk_3 (dk_at dksX1_withWay_0 6 rfl rfl)
theorem dX1_withWay_7 : decode cX1_withWay 7 = .ok (.aload_n 2, 1) := dk_44 (dk_at dksX1_withWay_0 7 rfl rfl)
theorem dX1_withWay_8 : decode cX1_withWay 8 = .ok (.invokevirtual 102, 3) := dk_182 0 102 (dk_at dksX1_withWay_0 8 rfl rfl)
theorem dX1_withWay_11 : decode cX1_withWay 11 = .ok (.iconst 1, 1) := dk_4 (dk_at dksX1_withWay_0 11 rfl rfl)
theorem dX1_withWay_12 : decode cX1_withWay 12 = .ok (.iadd, 1) := dk_96 (dk_at dksX1_withWay_0 12 rfl rfl)
theorem dX1_withWay_13 : decode cX1_withWay 13 = .ok (.invokestatic 49, 3) := dk_184 0 49 (dk_at dksX1_withWay_0 13 rfl rfl)
theorem dX1_withWay_16 : decode cX1_withWay 16 = .ok (.invokestatic 105, 3) := dk_184 0 105 (dk_at dksX1_withWay_0 16 rfl rfl)
theorem dX1_withWay_19 : decode cX1_withWay 19 = .ok (.aload_n 2, 1) := dk_44 (dk_at dksX1_withWay_0 19 rfl rfl)
theorem dX1_withWay_20 : decode cX1_withWay 20 = .ok (.areturn, 1) := dk_176 (dk_at dksX1_withWay_0 20 rfl rfl)
abbrev cX1_isHeapLearnt : ByteArray := prog_1_method_58_code
def yX1_isHeapLearnt : MethodName := ⟨RX1, "isHeapLearnt", "(I)Z"⟩
def dkwX1_isHeapLearnt_1 : List UInt8 := [182, 0, 228, 154, 0, 17, 44, 185, 0, 235, 1, 0, 27, 162, 0, 7, 4, 167, 0, 4, 3, 172]
abbrev dktX1_isHeapLearnt_1 : List UInt8 := dkwX1_isHeapLearnt_1 ++ []
def dkwX1_isHeapLearnt_0 : List UInt8 := [42, 180, 0, 66, 182, 0, 231, 77, 42, 180, 0, 66, 44, 182, 0, 224, 153, 0, 28, 42, 180, 0, 66, 44]
abbrev dktX1_isHeapLearnt_0 : List UInt8 := dkwX1_isHeapLearnt_0 ++ dktX1_isHeapLearnt_1
theorem dksX1_isHeapLearnt_0 : cX1_isHeapLearnt.data.toList.drop 0 = dktX1_isHeapLearnt_0 := by decide +kernel
theorem dksX1_isHeapLearnt_1 : cX1_isHeapLearnt.data.toList.drop 24 = dktX1_isHeapLearnt_1 := dk_seg dksX1_isHeapLearnt_0 24 rfl rfl
theorem dX1_isHeapLearnt_0 : decode cX1_isHeapLearnt 0 = .ok (.aload_n 0, 1) := dk_42 (dk_at dksX1_isHeapLearnt_0 0 rfl rfl)
theorem dX1_isHeapLearnt_1 : decode cX1_isHeapLearnt 1 = .ok (.getfield 66, 3) := dk_180 0 66 (dk_at dksX1_isHeapLearnt_0 1 rfl rfl)
theorem dX1_isHeapLearnt_4 : decode cX1_isHeapLearnt 4 = .ok (.invokevirtual 231, 3) := dk_182 0 231 (dk_at dksX1_isHeapLearnt_0 4 rfl rfl)
theorem dX1_isHeapLearnt_7 : decode cX1_isHeapLearnt 7 = .ok (.astore_n 2, 1) := dk_77 (dk_at dksX1_isHeapLearnt_0 7 rfl rfl)
theorem dX1_isHeapLearnt_8 : decode cX1_isHeapLearnt 8 = .ok (.aload_n 0, 1) := dk_42 (dk_at dksX1_isHeapLearnt_0 8 rfl rfl)
theorem dX1_isHeapLearnt_9 : decode cX1_isHeapLearnt 9 = .ok (.getfield 66, 3) := dk_180 0 66 (dk_at dksX1_isHeapLearnt_0 9 rfl rfl)
theorem dX1_isHeapLearnt_12 : decode cX1_isHeapLearnt 12 = .ok (.aload_n 2, 1) := dk_44 (dk_at dksX1_isHeapLearnt_0 12 rfl rfl)
theorem dX1_isHeapLearnt_13 : decode cX1_isHeapLearnt 13 = .ok (.invokevirtual 224, 3) := dk_182 0 224 (dk_at dksX1_isHeapLearnt_0 13 rfl rfl)
theorem dX1_isHeapLearnt_16 : decode cX1_isHeapLearnt 16 = .ok (.ifCond .eq 28, 3) := dk_153 0 28 (dk_at dksX1_isHeapLearnt_0 16 rfl rfl)
theorem dX1_isHeapLearnt_19 : decode cX1_isHeapLearnt 19 = .ok (.aload_n 0, 1) := dk_42 (dk_at dksX1_isHeapLearnt_0 19 rfl rfl)
theorem dX1_isHeapLearnt_20 : decode cX1_isHeapLearnt 20 = .ok (.getfield 66, 3) := dk_180 0 66 (dk_at dksX1_isHeapLearnt_0 20 rfl rfl)
theorem dX1_isHeapLearnt_23 : decode cX1_isHeapLearnt 23 = .ok (.aload_n 2, 1) := dk_44 (dk_at dksX1_isHeapLearnt_0 23 rfl rfl)
theorem dX1_isHeapLearnt_24 : decode cX1_isHeapLearnt 24 = .ok (.invokevirtual 228, 3) := dk_182 0 228 (dk_at dksX1_isHeapLearnt_1 0 rfl rfl)
theorem dX1_isHeapLearnt_27 : decode cX1_isHeapLearnt 27 = .ok (.ifCond .ne 17, 3) := dk_154 0 17 (dk_at dksX1_isHeapLearnt_1 3 rfl rfl)
theorem dX1_isHeapLearnt_30 : decode cX1_isHeapLearnt 30 = .ok (.aload_n 2, 1) := dk_44 (dk_at dksX1_isHeapLearnt_1 6 rfl rfl)
theorem dX1_isHeapLearnt_31 : decode cX1_isHeapLearnt 31 = .ok (.invokeinterface 235 1, 5) := by decide +kernel
theorem dX1_isHeapLearnt_36 : decode cX1_isHeapLearnt 36 = .ok (.iload_n 1, 1) := dk_27 (dk_at dksX1_isHeapLearnt_1 12 rfl rfl)
theorem dX1_isHeapLearnt_37 : decode cX1_isHeapLearnt 37 = .ok (.if_icmp .ge 7, 3) := dk_162 0 7 (dk_at dksX1_isHeapLearnt_1 13 rfl rfl)
theorem dX1_isHeapLearnt_40 : decode cX1_isHeapLearnt 40 = .ok (.iconst 1, 1) := dk_4 (dk_at dksX1_isHeapLearnt_1 16 rfl rfl)
theorem dX1_isHeapLearnt_41 : decode cX1_isHeapLearnt 41 = .ok (.goto 4, 3) := dk_167 0 4 (dk_at dksX1_isHeapLearnt_1 17 rfl rfl)
theorem dX1_isHeapLearnt_44 : decode cX1_isHeapLearnt 44 = .ok (.iconst 0, 1) := dk_3 (dk_at dksX1_isHeapLearnt_1 20 rfl rfl)
theorem dX1_isHeapLearnt_45 : decode cX1_isHeapLearnt 45 = .ok (.ireturn, 1) := dk_172 (dk_at dksX1_isHeapLearnt_1 21 rfl rfl)
abbrev cX1_bestLearn : ByteArray := prog_1_method_60_code
def yX1_bestLearn : MethodName := ⟨RX1, "bestLearn", "()I"⟩
def dkwX1_bestLearn_1 : List UInt8 := [27, 172]
abbrev dktX1_bestLearn_1 : List UInt8 := dkwX1_bestLearn_1 ++ []
def dkwX1_bestLearn_0 : List UInt8 := [42, 182, 0, 101, 182, 0, 102, 4, 96, 60, 42, 27, 182, 1, 51, 153, 0, 9, 132, 1, 255, 167, 255, 245]
abbrev dktX1_bestLearn_0 : List UInt8 := dkwX1_bestLearn_0 ++ dktX1_bestLearn_1
theorem dksX1_bestLearn_0 : cX1_bestLearn.data.toList.drop 0 = dktX1_bestLearn_0 := by decide +kernel
theorem dksX1_bestLearn_1 : cX1_bestLearn.data.toList.drop 24 = dktX1_bestLearn_1 := dk_seg dksX1_bestLearn_0 24 rfl rfl
theorem dX1_bestLearn_0 : decode cX1_bestLearn 0 = .ok (.aload_n 0, 1) := dk_42 (dk_at dksX1_bestLearn_0 0 rfl rfl)
theorem dX1_bestLearn_1 : decode cX1_bestLearn 1 = .ok (.invokevirtual 101, 3) := dk_182 0 101 (dk_at dksX1_bestLearn_0 1 rfl rfl)
theorem dX1_bestLearn_4 : decode cX1_bestLearn 4 = .ok (.invokevirtual 102, 3) := dk_182 0 102 (dk_at dksX1_bestLearn_0 4 rfl rfl)
theorem dX1_bestLearn_7 : decode cX1_bestLearn 7 = .ok (.iconst 1, 1) := dk_4 (dk_at dksX1_bestLearn_0 7 rfl rfl)
theorem dX1_bestLearn_8 : decode cX1_bestLearn 8 = .ok (.iadd, 1) := dk_96 (dk_at dksX1_bestLearn_0 8 rfl rfl)
theorem dX1_bestLearn_9 : decode cX1_bestLearn 9 = .ok (.istore_n 1, 1) := dk_60 (dk_at dksX1_bestLearn_0 9 rfl rfl)
theorem dX1_bestLearn_10 : decode cX1_bestLearn 10 = .ok (.aload_n 0, 1) := dk_42 (dk_at dksX1_bestLearn_0 10 rfl rfl)
theorem dX1_bestLearn_11 : decode cX1_bestLearn 11 = .ok (.iload_n 1, 1) := dk_27 (dk_at dksX1_bestLearn_0 11 rfl rfl)
theorem dX1_bestLearn_12 : decode cX1_bestLearn 12 = .ok (.invokevirtual 307, 3) := dk_182 1 51 (dk_at dksX1_bestLearn_0 12 rfl rfl)
theorem dX1_bestLearn_15 : decode cX1_bestLearn 15 = .ok (.ifCond .eq 9, 3) := dk_153 0 9 (dk_at dksX1_bestLearn_0 15 rfl rfl)
theorem dX1_bestLearn_18 : decode cX1_bestLearn 18 = .ok (.iinc 1 (-1), 3) := dk_132 1 255 (dk_at dksX1_bestLearn_0 18 rfl rfl)
theorem dX1_bestLearn_21 : decode cX1_bestLearn 21 = .ok (.goto (-11), 3) := dk_167 255 245 (dk_at dksX1_bestLearn_0 21 rfl rfl)
theorem dX1_bestLearn_24 : decode cX1_bestLearn 24 = .ok (.iload_n 1, 1) := dk_27 (dk_at dksX1_bestLearn_1 0 rfl rfl)
theorem dX1_bestLearn_25 : decode cX1_bestLearn 25 = .ok (.ireturn, 1) := dk_172 (dk_at dksX1_bestLearn_1 1 rfl rfl)
abbrev cX1_share : ByteArray := prog_1_method_61_code
def yX1_share : MethodName := ⟨RX1, "share", "()F"⟩
def dkwX1_share_0 : List UInt8 := [42, 182, 0, 101, 76, 43, 182, 0, 124, 134, 43, 182, 0, 3, 43, 182, 0, 102, 104, 134, 110, 174]
abbrev dktX1_share_0 : List UInt8 := dkwX1_share_0 ++ []
theorem dksX1_share_0 : cX1_share.data.toList.drop 0 = dktX1_share_0 := by decide +kernel
theorem dX1_share_0 : decode cX1_share 0 = .ok (.aload_n 0, 1) := dk_42 (dk_at dksX1_share_0 0 rfl rfl)
theorem dX1_share_1 : decode cX1_share 1 = .ok (.invokevirtual 101, 3) := dk_182 0 101 (dk_at dksX1_share_0 1 rfl rfl)
theorem dX1_share_4 : decode cX1_share 4 = .ok (.astore_n 1, 1) := dk_76 (dk_at dksX1_share_0 4 rfl rfl)
theorem dX1_share_5 : decode cX1_share 5 = .ok (.aload_n 1, 1) := dk_43 (dk_at dksX1_share_0 5 rfl rfl)
theorem dX1_share_6 : decode cX1_share 6 = .ok (.invokevirtual 124, 3) := dk_182 0 124 (dk_at dksX1_share_0 6 rfl rfl)
theorem dX1_share_9 : decode cX1_share 9 = .ok (.i2f, 1) := dk_134 (dk_at dksX1_share_0 9 rfl rfl)
theorem dX1_share_10 : decode cX1_share 10 = .ok (.aload_n 1, 1) := dk_43 (dk_at dksX1_share_0 10 rfl rfl)
theorem dX1_share_11 : decode cX1_share 11 = .ok (.invokevirtual 3, 3) := dk_182 0 3 (dk_at dksX1_share_0 11 rfl rfl)
theorem dX1_share_14 : decode cX1_share 14 = .ok (.aload_n 1, 1) := dk_43 (dk_at dksX1_share_0 14 rfl rfl)
theorem dX1_share_15 : decode cX1_share 15 = .ok (.invokevirtual 102, 3) := dk_182 0 102 (dk_at dksX1_share_0 15 rfl rfl)
theorem dX1_share_18 : decode cX1_share 18 = .ok (.imul, 1) := dk_104 (dk_at dksX1_share_0 18 rfl rfl)
theorem dX1_share_19 : decode cX1_share 19 = .ok (.i2f, 1) := dk_134 (dk_at dksX1_share_0 19 rfl rfl)
theorem dX1_share_20 : decode cX1_share 20 = .ok (.fdiv, 1) := dk_110 (dk_at dksX1_share_0 20 rfl rfl)
theorem dX1_share_21 : decode cX1_share 21 = .ok (.freturn, 1) := dk_174 (dk_at dksX1_share_0 21 rfl rfl)
abbrev cX1_meanHeight : ByteArray := prog_1_method_62_code
def yX1_meanHeight : MethodName := ⟨RX1, "meanHeight", "()D"⟩
def dkwX1_meanHeight_0 : List UInt8 := [42, 182, 0, 101, 76, 43, 182, 0, 124, 135, 43, 182, 0, 3, 135, 111, 175]
abbrev dktX1_meanHeight_0 : List UInt8 := dkwX1_meanHeight_0 ++ []
theorem dksX1_meanHeight_0 : cX1_meanHeight.data.toList.drop 0 = dktX1_meanHeight_0 := by decide +kernel
theorem dX1_meanHeight_0 : decode cX1_meanHeight 0 = .ok (.aload_n 0, 1) := dk_42 (dk_at dksX1_meanHeight_0 0 rfl rfl)
theorem dX1_meanHeight_1 : decode cX1_meanHeight 1 = .ok (.invokevirtual 101, 3) := dk_182 0 101 (dk_at dksX1_meanHeight_0 1 rfl rfl)
theorem dX1_meanHeight_4 : decode cX1_meanHeight 4 = .ok (.astore_n 1, 1) := dk_76 (dk_at dksX1_meanHeight_0 4 rfl rfl)
theorem dX1_meanHeight_5 : decode cX1_meanHeight 5 = .ok (.aload_n 1, 1) := dk_43 (dk_at dksX1_meanHeight_0 5 rfl rfl)
theorem dX1_meanHeight_6 : decode cX1_meanHeight 6 = .ok (.invokevirtual 124, 3) := dk_182 0 124 (dk_at dksX1_meanHeight_0 6 rfl rfl)
theorem dX1_meanHeight_9 : decode cX1_meanHeight 9 = .ok (.i2d, 1) := dk_135 (dk_at dksX1_meanHeight_0 9 rfl rfl)
theorem dX1_meanHeight_10 : decode cX1_meanHeight 10 = .ok (.aload_n 1, 1) := dk_43 (dk_at dksX1_meanHeight_0 10 rfl rfl)
theorem dX1_meanHeight_11 : decode cX1_meanHeight 11 = .ok (.invokevirtual 3, 3) := dk_182 0 3 (dk_at dksX1_meanHeight_0 11 rfl rfl)
theorem dX1_meanHeight_14 : decode cX1_meanHeight 14 = .ok (.i2d, 1) := dk_135 (dk_at dksX1_meanHeight_0 14 rfl rfl)
theorem dX1_meanHeight_15 : decode cX1_meanHeight 15 = .ok (.ddiv, 1) := dk_111 (dk_at dksX1_meanHeight_0 15 rfl rfl)
theorem dX1_meanHeight_16 : decode cX1_meanHeight 16 = .ok (.dreturn, 1) := dk_175 (dk_at dksX1_meanHeight_0 16 rfl rfl)
abbrev cX1_writeSilo : ByteArray := prog_1_method_64_code
def yX1_writeSilo : MethodName := ⟨RX1, "writeSilo", "()I"⟩
def dkwX1_writeSilo_3 : List UInt8 := [16, 33, 167, 0, 5, 16, 120, 182, 1, 78, 87, 132, 3, 1, 167, 255, 190, 42, 44, 182, 1, 81, 172]
abbrev dktX1_writeSilo_3 : List UInt8 := dkwX1_writeSilo_3 ++ []
def dkwX1_writeSilo_2 : List UInt8 := [46, 182, 1, 75, 87, 43, 180, 0, 116, 29, 51, 153, 0, 23, 44, 43, 29, 182, 0, 112, 153, 0, 8]
abbrev dktX1_writeSilo_2 : List UInt8 := dkwX1_writeSilo_2 ++ dktX1_writeSilo_3
def dkwX1_writeSilo_1 : List UInt8 := [162, 0, 64, 44, 29, 158, 0, 9, 19, 1, 69, 167, 0, 5, 18, 36, 182, 1, 71, 43, 180, 0, 179, 29]
abbrev dktX1_writeSilo_1 : List UInt8 := dkwX1_writeSilo_1 ++ dktX1_writeSilo_2
def dkwX1_writeSilo_0 : List UInt8 := [42, 182, 0, 101, 76, 187, 1, 58, 89, 16, 40, 183, 1, 68, 77, 3, 62, 29, 43, 182, 0, 3]
abbrev dktX1_writeSilo_0 : List UInt8 := dkwX1_writeSilo_0 ++ dktX1_writeSilo_1
theorem dksX1_writeSilo_0 : cX1_writeSilo.data.toList.drop 0 = dktX1_writeSilo_0 := by decide +kernel
theorem dksX1_writeSilo_1 : cX1_writeSilo.data.toList.drop 22 = dktX1_writeSilo_1 := dk_seg dksX1_writeSilo_0 22 rfl rfl
theorem dksX1_writeSilo_2 : cX1_writeSilo.data.toList.drop 46 = dktX1_writeSilo_2 := dk_seg dksX1_writeSilo_1 24 rfl rfl
theorem dksX1_writeSilo_3 : cX1_writeSilo.data.toList.drop 69 = dktX1_writeSilo_3 := dk_seg dksX1_writeSilo_2 23 rfl rfl
theorem dX1_writeSilo_0 : decode cX1_writeSilo 0 = .ok (.aload_n 0, 1) := dk_42 (dk_at dksX1_writeSilo_0 0 rfl rfl)
theorem dX1_writeSilo_1 : decode cX1_writeSilo 1 = .ok (.invokevirtual 101, 3) := dk_182 0 101 (dk_at dksX1_writeSilo_0 1 rfl rfl)
theorem dX1_writeSilo_4 : decode cX1_writeSilo 4 = .ok (.astore_n 1, 1) := dk_76 (dk_at dksX1_writeSilo_0 4 rfl rfl)
theorem dX1_writeSilo_5 : decode cX1_writeSilo 5 = .ok (.new 314, 3) := dk_187 1 58 (dk_at dksX1_writeSilo_0 5 rfl rfl)
theorem dX1_writeSilo_8 : decode cX1_writeSilo 8 = .ok (.dup, 1) := dk_89 (dk_at dksX1_writeSilo_0 8 rfl rfl)
theorem dX1_writeSilo_9 : decode cX1_writeSilo 9 = .ok (.bipush 40, 2) := dk_16 40 (dk_at dksX1_writeSilo_0 9 rfl rfl)
theorem dX1_writeSilo_11 : decode cX1_writeSilo 11 = .ok (.invokespecial 324, 3) := dk_183 1 68 (dk_at dksX1_writeSilo_0 11 rfl rfl)
theorem dX1_writeSilo_14 : decode cX1_writeSilo 14 = .ok (.astore_n 2, 1) := dk_77 (dk_at dksX1_writeSilo_0 14 rfl rfl)
theorem dX1_writeSilo_15 : decode cX1_writeSilo 15 = .ok (.iconst 0, 1) := dk_3 (dk_at dksX1_writeSilo_0 15 rfl rfl)
theorem dX1_writeSilo_16 : decode cX1_writeSilo 16 = .ok (.istore_n 3, 1) := dk_62 (dk_at dksX1_writeSilo_0 16 rfl rfl)
theorem dX1_writeSilo_17 : decode cX1_writeSilo 17 = .ok (.iload_n 3, 1) := dk_29 (dk_at dksX1_writeSilo_0 17 rfl rfl)
theorem dX1_writeSilo_18 : decode cX1_writeSilo 18 = .ok (.aload_n 1, 1) := dk_43 (dk_at dksX1_writeSilo_0 18 rfl rfl)
theorem dX1_writeSilo_19 : decode cX1_writeSilo 19 = .ok (.invokevirtual 3, 3) := dk_182 0 3 (dk_at dksX1_writeSilo_0 19 rfl rfl)
theorem dX1_writeSilo_22 : decode cX1_writeSilo 22 = .ok (.if_icmp .ge 64, 3) := dk_162 0 64 (dk_at dksX1_writeSilo_1 0 rfl rfl)
theorem dX1_writeSilo_25 : decode cX1_writeSilo 25 = .ok (.aload_n 2, 1) := dk_44 (dk_at dksX1_writeSilo_1 3 rfl rfl)
theorem dX1_writeSilo_26 : decode cX1_writeSilo 26 = .ok (.iload_n 3, 1) := dk_29 (dk_at dksX1_writeSilo_1 4 rfl rfl)
theorem dX1_writeSilo_27 : decode cX1_writeSilo 27 = .ok (.ifCond .le 9, 3) := dk_158 0 9 (dk_at dksX1_writeSilo_1 5 rfl rfl)
theorem dX1_writeSilo_30 : decode cX1_writeSilo 30 = .ok (.ldc_w 325, 3) := dk_19 1 69 (dk_at dksX1_writeSilo_1 8 rfl rfl)
theorem dX1_writeSilo_33 : decode cX1_writeSilo 33 = .ok (.goto 5, 3) := dk_167 0 5 (dk_at dksX1_writeSilo_1 11 rfl rfl)
theorem dX1_writeSilo_36 : decode cX1_writeSilo 36 = .ok (.ldc 36, 2) := dk_18 36 (dk_at dksX1_writeSilo_1 14 rfl rfl)
theorem dX1_writeSilo_38 : decode cX1_writeSilo 38 = .ok (.invokevirtual 327, 3) := dk_182 1 71 (dk_at dksX1_writeSilo_1 16 rfl rfl)
theorem dX1_writeSilo_41 : decode cX1_writeSilo 41 = .ok (.aload_n 1, 1) := dk_43 (dk_at dksX1_writeSilo_1 19 rfl rfl)
theorem dX1_writeSilo_42 : decode cX1_writeSilo 42 = .ok (.getfield 179, 3) := dk_180 0 179 (dk_at dksX1_writeSilo_1 20 rfl rfl)
theorem dX1_writeSilo_45 : decode cX1_writeSilo 45 = .ok (.iload_n 3, 1) := dk_29 (dk_at dksX1_writeSilo_1 23 rfl rfl)
theorem dX1_writeSilo_46 : decode cX1_writeSilo 46 = .ok (.iaload, 1) := dk_46 (dk_at dksX1_writeSilo_2 0 rfl rfl)
theorem dX1_writeSilo_47 : decode cX1_writeSilo 47 = .ok (.invokevirtual 331, 3) := dk_182 1 75 (dk_at dksX1_writeSilo_2 1 rfl rfl)
theorem dX1_writeSilo_50 : decode cX1_writeSilo 50 = .ok (.pop, 1) := dk_87 (dk_at dksX1_writeSilo_2 4 rfl rfl)
theorem dX1_writeSilo_51 : decode cX1_writeSilo 51 = .ok (.aload_n 1, 1) := dk_43 (dk_at dksX1_writeSilo_2 5 rfl rfl)
theorem dX1_writeSilo_52 : decode cX1_writeSilo 52 = .ok (.getfield 116, 3) := dk_180 0 116 (dk_at dksX1_writeSilo_2 6 rfl rfl)
theorem dX1_writeSilo_55 : decode cX1_writeSilo 55 = .ok (.iload_n 3, 1) := dk_29 (dk_at dksX1_writeSilo_2 9 rfl rfl)
theorem dX1_writeSilo_56 : decode cX1_writeSilo 56 = .ok (.baload, 1) := dk_51 (dk_at dksX1_writeSilo_2 10 rfl rfl)
theorem dX1_writeSilo_57 : decode cX1_writeSilo 57 = .ok (.ifCond .eq 23, 3) := dk_153 0 23 (dk_at dksX1_writeSilo_2 11 rfl rfl)
theorem dX1_writeSilo_60 : decode cX1_writeSilo 60 = .ok (.aload_n 2, 1) := dk_44 (dk_at dksX1_writeSilo_2 14 rfl rfl)
theorem dX1_writeSilo_61 : decode cX1_writeSilo 61 = .ok (.aload_n 1, 1) := dk_43 (dk_at dksX1_writeSilo_2 15 rfl rfl)
theorem dX1_writeSilo_62 : decode cX1_writeSilo 62 = .ok (.iload_n 3, 1) := dk_29 (dk_at dksX1_writeSilo_2 16 rfl rfl)
theorem dX1_writeSilo_63 : decode cX1_writeSilo 63 = .ok (.invokevirtual 112, 3) := dk_182 0 112 (dk_at dksX1_writeSilo_2 17 rfl rfl)
theorem dX1_writeSilo_66 : decode cX1_writeSilo 66 = .ok (.ifCond .eq 8, 3) := dk_153 0 8 (dk_at dksX1_writeSilo_2 20 rfl rfl)
theorem dX1_writeSilo_69 : decode cX1_writeSilo 69 = .ok (.bipush 33, 2) := dk_16 33 (dk_at dksX1_writeSilo_3 0 rfl rfl)
theorem dX1_writeSilo_71 : decode cX1_writeSilo 71 = .ok (.goto 5, 3) := dk_167 0 5 (dk_at dksX1_writeSilo_3 2 rfl rfl)
theorem dX1_writeSilo_74 : decode cX1_writeSilo 74 = .ok (.bipush 120, 2) := dk_16 120 (dk_at dksX1_writeSilo_3 5 rfl rfl)
theorem dX1_writeSilo_76 : decode cX1_writeSilo 76 = .ok (.invokevirtual 334, 3) := dk_182 1 78 (dk_at dksX1_writeSilo_3 7 rfl rfl)
theorem dX1_writeSilo_79 : decode cX1_writeSilo 79 = .ok (.pop, 1) := dk_87 (dk_at dksX1_writeSilo_3 10 rfl rfl)
theorem dX1_writeSilo_80 : decode cX1_writeSilo 80 = .ok (.iinc 3 1, 3) := dk_132 3 1 (dk_at dksX1_writeSilo_3 11 rfl rfl)
theorem dX1_writeSilo_83 : decode cX1_writeSilo 83 = .ok (.goto (-66), 3) := dk_167 255 190 (dk_at dksX1_writeSilo_3 14 rfl rfl)
theorem dX1_writeSilo_86 : decode cX1_writeSilo 86 = .ok (.aload_n 0, 1) := dk_42 (dk_at dksX1_writeSilo_3 17 rfl rfl)
theorem dX1_writeSilo_87 : decode cX1_writeSilo 87 = .ok (.aload_n 2, 1) := dk_44 (dk_at dksX1_writeSilo_3 18 rfl rfl)
theorem dX1_writeSilo_88 : decode cX1_writeSilo 88 = .ok (.invokevirtual 337, 3) := dk_182 1 81 (dk_at dksX1_writeSilo_3 19 rfl rfl)
theorem dX1_writeSilo_91 : decode cX1_writeSilo 91 = .ok (.ireturn, 1) := dk_172 (dk_at dksX1_writeSilo_3 22 rfl rfl)
abbrev cX1_write : ByteArray := prog_1_method_63_code
def yX1_write : MethodName := ⟨RX1, "write", "(Ljava/lang/StringBuilder;)I"⟩
def dkwX1_write_0 : List UInt8 := [42, 43, 182, 1, 57, 181, 0, 38, 42, 180, 0, 38, 182, 1, 63, 172]
abbrev dktX1_write_0 : List UInt8 := dkwX1_write_0 ++ []
theorem dksX1_write_0 : cX1_write.data.toList.drop 0 = dktX1_write_0 := by decide +kernel
theorem dX1_write_0 : decode cX1_write 0 = .ok (.aload_n 0, 1) := dk_42 (dk_at dksX1_write_0 0 rfl rfl)
theorem dX1_write_1 : decode cX1_write 1 = .ok (.aload_n 1, 1) := dk_43 (dk_at dksX1_write_0 1 rfl rfl)
theorem dX1_write_2 : decode cX1_write 2 = .ok (.invokevirtual 313, 3) := dk_182 1 57 (dk_at dksX1_write_0 2 rfl rfl)
theorem dX1_write_5 : decode cX1_write 5 = .ok (.putfield 38, 3) := dk_181 0 38 (dk_at dksX1_write_0 5 rfl rfl)
theorem dX1_write_8 : decode cX1_write 8 = .ok (.aload_n 0, 1) := dk_42 (dk_at dksX1_write_0 8 rfl rfl)
theorem dX1_write_9 : decode cX1_write 9 = .ok (.getfield 38, 3) := dk_180 0 38 (dk_at dksX1_write_0 9 rfl rfl)
theorem dX1_write_12 : decode cX1_write 12 = .ok (.invokevirtual 319, 3) := dk_182 1 63 (dk_at dksX1_write_0 12 rfl rfl)
theorem dX1_write_15 : decode cX1_write 15 = .ok (.ireturn, 1) := dk_172 (dk_at dksX1_write_0 15 rfl rfl)
abbrev cX1_writeEchoes : ByteArray := prog_1_method_65_code
def yX1_writeEchoes : MethodName := ⟨RX1, "writeEchoes", "()I"⟩
def dkwX1_writeEchoes_6 : List UInt8 := [16, 45, 182, 1, 78, 87, 42, 44, 182, 1, 81, 172]
abbrev dktX1_writeEchoes_6 : List UInt8 := dkwX1_writeEchoes_6 ++ []
def dkwX1_writeEchoes_5 : List UInt8 := [182, 0, 250, 160, 0, 10, 44, 16, 42, 182, 1, 78, 87, 167, 255, 151, 44, 182, 1, 85, 154, 0, 10, 44]
abbrev dktX1_writeEchoes_5 : List UInt8 := dkwX1_writeEchoes_5 ++ dktX1_writeEchoes_6
def dkwX1_writeEchoes_4 : List UInt8 := [182, 0, 228, 153, 0, 13, 44, 16, 109, 182, 1, 78, 87, 167, 0, 24, 25, 4, 185, 0, 235, 1, 0, 43]
abbrev dktX1_writeEchoes_4 : List UInt8 := dkwX1_writeEchoes_4 ++ dktX1_writeEchoes_5
def dkwX1_writeEchoes_3 : List UInt8 := [182, 1, 75, 16, 58, 182, 1, 78, 25, 4, 185, 0, 220, 1, 0, 182, 1, 75, 87, 43, 25, 4]
abbrev dktX1_writeEchoes_3 : List UInt8 := dkwX1_writeEchoes_3 ++ dktX1_writeEchoes_4
def dkwX1_writeEchoes_2 : List UInt8 := [182, 1, 85, 158, 0, 9, 19, 1, 69, 167, 0, 5, 18, 36, 182, 1, 71, 25, 4, 185, 0, 235, 1, 0]
abbrev dktX1_writeEchoes_2 : List UInt8 := dkwX1_writeEchoes_2 ++ dktX1_writeEchoes_3
def dkwX1_writeEchoes_1 : List UInt8 := [78, 45, 185, 1, 1, 1, 0, 153, 0, 102, 45, 185, 1, 7, 1, 0, 192, 0, 221, 58, 4, 44, 44]
abbrev dktX1_writeEchoes_1 : List UInt8 := dkwX1_writeEchoes_1 ++ dktX1_writeEchoes_2
def dkwX1_writeEchoes_0 : List UInt8 := [42, 182, 0, 101, 76, 187, 1, 58, 89, 16, 40, 183, 1, 68, 77, 43, 182, 0, 246, 185, 0, 253, 1, 0]
abbrev dktX1_writeEchoes_0 : List UInt8 := dkwX1_writeEchoes_0 ++ dktX1_writeEchoes_1
theorem dksX1_writeEchoes_0 : cX1_writeEchoes.data.toList.drop 0 = dktX1_writeEchoes_0 := by decide +kernel
theorem dksX1_writeEchoes_1 : cX1_writeEchoes.data.toList.drop 24 = dktX1_writeEchoes_1 := dk_seg dksX1_writeEchoes_0 24 rfl rfl
theorem dksX1_writeEchoes_2 : cX1_writeEchoes.data.toList.drop 47 = dktX1_writeEchoes_2 := dk_seg dksX1_writeEchoes_1 23 rfl rfl
theorem dksX1_writeEchoes_3 : cX1_writeEchoes.data.toList.drop 71 = dktX1_writeEchoes_3 := dk_seg dksX1_writeEchoes_2 24 rfl rfl
theorem dksX1_writeEchoes_4 : cX1_writeEchoes.data.toList.drop 93 = dktX1_writeEchoes_4 := dk_seg dksX1_writeEchoes_3 22 rfl rfl
theorem dksX1_writeEchoes_5 : cX1_writeEchoes.data.toList.drop 117 = dktX1_writeEchoes_5 := dk_seg dksX1_writeEchoes_4 24 rfl rfl
theorem dksX1_writeEchoes_6 : cX1_writeEchoes.data.toList.drop 141 = dktX1_writeEchoes_6 := dk_seg dksX1_writeEchoes_5 24 rfl rfl
theorem dX1_writeEchoes_0 : decode cX1_writeEchoes 0 = .ok (.aload_n 0, 1) := dk_42 (dk_at dksX1_writeEchoes_0 0 rfl rfl)
theorem dX1_writeEchoes_1 : decode cX1_writeEchoes 1 = .ok (.invokevirtual 101, 3) := dk_182 0 101 (dk_at dksX1_writeEchoes_0 1 rfl rfl)
theorem dX1_writeEchoes_4 : decode cX1_writeEchoes 4 = .ok (.astore_n 1, 1) := dk_76 (dk_at dksX1_writeEchoes_0 4 rfl rfl)
theorem dX1_writeEchoes_5 : decode cX1_writeEchoes 5 = .ok (.new 314, 3) := dk_187 1 58 (dk_at dksX1_writeEchoes_0 5 rfl rfl)
theorem dX1_writeEchoes_8 : decode cX1_writeEchoes 8 = .ok (.dup, 1) := dk_89 (dk_at dksX1_writeEchoes_0 8 rfl rfl)
theorem dX1_writeEchoes_9 : decode cX1_writeEchoes 9 = .ok (.bipush 40, 2) := dk_16 40 (dk_at dksX1_writeEchoes_0 9 rfl rfl)
theorem dX1_writeEchoes_11 : decode cX1_writeEchoes 11 = .ok (.invokespecial 324, 3) := dk_183 1 68 (dk_at dksX1_writeEchoes_0 11 rfl rfl)
theorem dX1_writeEchoes_14 : decode cX1_writeEchoes 14 = .ok (.astore_n 2, 1) := dk_77 (dk_at dksX1_writeEchoes_0 14 rfl rfl)
theorem dX1_writeEchoes_15 : decode cX1_writeEchoes 15 = .ok (.aload_n 1, 1) := dk_43 (dk_at dksX1_writeEchoes_0 15 rfl rfl)
theorem dX1_writeEchoes_16 : decode cX1_writeEchoes 16 = .ok (.invokevirtual 246, 3) := dk_182 0 246 (dk_at dksX1_writeEchoes_0 16 rfl rfl)
theorem dX1_writeEchoes_19 : decode cX1_writeEchoes 19 = .ok (.invokeinterface 253 1, 5) := by decide +kernel
theorem dX1_writeEchoes_24 : decode cX1_writeEchoes 24 = .ok (.astore_n 3, 1) := dk_78 (dk_at dksX1_writeEchoes_1 0 rfl rfl)
theorem dX1_writeEchoes_25 : decode cX1_writeEchoes 25 = .ok (.aload_n 3, 1) := dk_45 (dk_at dksX1_writeEchoes_1 1 rfl rfl)
theorem dX1_writeEchoes_26 : decode cX1_writeEchoes 26 = .ok (.invokeinterface 257 1, 5) := by decide +kernel
theorem dX1_writeEchoes_31 : decode cX1_writeEchoes 31 = .ok (.ifCond .eq 102, 3) := dk_153 0 102 (dk_at dksX1_writeEchoes_1 7 rfl rfl)
theorem dX1_writeEchoes_34 : decode cX1_writeEchoes 34 = .ok (.aload_n 3, 1) := dk_45 (dk_at dksX1_writeEchoes_1 10 rfl rfl)
theorem dX1_writeEchoes_35 : decode cX1_writeEchoes 35 = .ok (.invokeinterface 263 1, 5) := by decide +kernel
theorem dX1_writeEchoes_40 : decode cX1_writeEchoes 40 = .ok (.checkcast 221, 3) := dk_192 0 221 (dk_at dksX1_writeEchoes_1 16 rfl rfl)
theorem dX1_writeEchoes_43 : decode cX1_writeEchoes 43 = .ok (.astore 4, 2) := dk_58 4 (dk_at dksX1_writeEchoes_1 19 rfl rfl)
theorem dX1_writeEchoes_45 : decode cX1_writeEchoes 45 = .ok (.aload_n 2, 1) := dk_44 (dk_at dksX1_writeEchoes_1 21 rfl rfl)
theorem dX1_writeEchoes_46 : decode cX1_writeEchoes 46 = .ok (.aload_n 2, 1) := dk_44 (dk_at dksX1_writeEchoes_1 22 rfl rfl)
theorem dX1_writeEchoes_47 : decode cX1_writeEchoes 47 = .ok (.invokevirtual 341, 3) := dk_182 1 85 (dk_at dksX1_writeEchoes_2 0 rfl rfl)
theorem dX1_writeEchoes_50 : decode cX1_writeEchoes 50 = .ok (.ifCond .le 9, 3) := dk_158 0 9 (dk_at dksX1_writeEchoes_2 3 rfl rfl)
theorem dX1_writeEchoes_53 : decode cX1_writeEchoes 53 = .ok (.ldc_w 325, 3) := dk_19 1 69 (dk_at dksX1_writeEchoes_2 6 rfl rfl)
theorem dX1_writeEchoes_56 : decode cX1_writeEchoes 56 = .ok (.goto 5, 3) := dk_167 0 5 (dk_at dksX1_writeEchoes_2 9 rfl rfl)
theorem dX1_writeEchoes_59 : decode cX1_writeEchoes 59 = .ok (.ldc 36, 2) := dk_18 36 (dk_at dksX1_writeEchoes_2 12 rfl rfl)
theorem dX1_writeEchoes_61 : decode cX1_writeEchoes 61 = .ok (.invokevirtual 327, 3) := dk_182 1 71 (dk_at dksX1_writeEchoes_2 14 rfl rfl)
theorem dX1_writeEchoes_64 : decode cX1_writeEchoes 64 = .ok (.aload 4, 2) := dk_25 4 (dk_at dksX1_writeEchoes_2 17 rfl rfl)
theorem dX1_writeEchoes_66 : decode cX1_writeEchoes 66 = .ok (.invokeinterface 235 1, 5) := by decide +kernel
theorem dX1_writeEchoes_71 : decode cX1_writeEchoes 71 = .ok (.invokevirtual 331, 3) := dk_182 1 75 (dk_at dksX1_writeEchoes_3 0 rfl rfl)
theorem dX1_writeEchoes_74 : decode cX1_writeEchoes 74 = .ok (.bipush 58, 2) := dk_16 58 (dk_at dksX1_writeEchoes_3 3 rfl rfl)
theorem dX1_writeEchoes_76 : decode cX1_writeEchoes 76 = .ok (.invokevirtual 334, 3) := dk_182 1 78 (dk_at dksX1_writeEchoes_3 5 rfl rfl)
theorem dX1_writeEchoes_79 : decode cX1_writeEchoes 79 = .ok (.aload 4, 2) := dk_25 4 (dk_at dksX1_writeEchoes_3 8 rfl rfl)
theorem dX1_writeEchoes_81 : decode cX1_writeEchoes 81 = .ok (.invokeinterface 220 1, 5) := by decide +kernel
theorem dX1_writeEchoes_86 : decode cX1_writeEchoes 86 = .ok (.invokevirtual 331, 3) := dk_182 1 75 (dk_at dksX1_writeEchoes_3 15 rfl rfl)
theorem dX1_writeEchoes_89 : decode cX1_writeEchoes 89 = .ok (.pop, 1) := dk_87 (dk_at dksX1_writeEchoes_3 18 rfl rfl)
theorem dX1_writeEchoes_90 : decode cX1_writeEchoes 90 = .ok (.aload_n 1, 1) := dk_43 (dk_at dksX1_writeEchoes_3 19 rfl rfl)
theorem dX1_writeEchoes_91 : decode cX1_writeEchoes 91 = .ok (.aload 4, 2) := dk_25 4 (dk_at dksX1_writeEchoes_3 20 rfl rfl)
theorem dX1_writeEchoes_93 : decode cX1_writeEchoes 93 = .ok (.invokevirtual 228, 3) := dk_182 0 228 (dk_at dksX1_writeEchoes_4 0 rfl rfl)
theorem dX1_writeEchoes_96 : decode cX1_writeEchoes 96 = .ok (.ifCond .eq 13, 3) := dk_153 0 13 (dk_at dksX1_writeEchoes_4 3 rfl rfl)
theorem dX1_writeEchoes_99 : decode cX1_writeEchoes 99 = .ok (.aload_n 2, 1) := dk_44 (dk_at dksX1_writeEchoes_4 6 rfl rfl)
theorem dX1_writeEchoes_100 : decode cX1_writeEchoes 100 = .ok (.bipush 109, 2) := dk_16 109 (dk_at dksX1_writeEchoes_4 7 rfl rfl)
theorem dX1_writeEchoes_102 : decode cX1_writeEchoes 102 = .ok (.invokevirtual 334, 3) := dk_182 1 78 (dk_at dksX1_writeEchoes_4 9 rfl rfl)
theorem dX1_writeEchoes_105 : decode cX1_writeEchoes 105 = .ok (.pop, 1) := dk_87 (dk_at dksX1_writeEchoes_4 12 rfl rfl)
theorem dX1_writeEchoes_106 : decode cX1_writeEchoes 106 = .ok (.goto 24, 3) := dk_167 0 24 (dk_at dksX1_writeEchoes_4 13 rfl rfl)
theorem dX1_writeEchoes_109 : decode cX1_writeEchoes 109 = .ok (.aload 4, 2) := dk_25 4 (dk_at dksX1_writeEchoes_4 16 rfl rfl)
theorem dX1_writeEchoes_111 : decode cX1_writeEchoes 111 = .ok (.invokeinterface 235 1, 5) := by decide +kernel
theorem dX1_writeEchoes_116 : decode cX1_writeEchoes 116 = .ok (.aload_n 1, 1) := dk_43 (dk_at dksX1_writeEchoes_4 23 rfl rfl)
theorem dX1_writeEchoes_117 : decode cX1_writeEchoes 117 = .ok (.invokevirtual 250, 3) := dk_182 0 250 (dk_at dksX1_writeEchoes_5 0 rfl rfl)
theorem dX1_writeEchoes_120 : decode cX1_writeEchoes 120 = .ok (.if_icmp .ne 10, 3) := dk_160 0 10 (dk_at dksX1_writeEchoes_5 3 rfl rfl)
theorem dX1_writeEchoes_123 : decode cX1_writeEchoes 123 = .ok (.aload_n 2, 1) := dk_44 (dk_at dksX1_writeEchoes_5 6 rfl rfl)
theorem dX1_writeEchoes_124 : decode cX1_writeEchoes 124 = .ok (.bipush 42, 2) := dk_16 42 (dk_at dksX1_writeEchoes_5 7 rfl rfl)
theorem dX1_writeEchoes_126 : decode cX1_writeEchoes 126 = .ok (.invokevirtual 334, 3) := dk_182 1 78 (dk_at dksX1_writeEchoes_5 9 rfl rfl)
theorem dX1_writeEchoes_129 : decode cX1_writeEchoes 129 = .ok (.pop, 1) := dk_87 (dk_at dksX1_writeEchoes_5 12 rfl rfl)
theorem dX1_writeEchoes_130 : decode cX1_writeEchoes 130 = .ok (.goto (-105), 3) := dk_167 255 151 (dk_at dksX1_writeEchoes_5 13 rfl rfl)
theorem dX1_writeEchoes_133 : decode cX1_writeEchoes 133 = .ok (.aload_n 2, 1) := dk_44 (dk_at dksX1_writeEchoes_5 16 rfl rfl)
theorem dX1_writeEchoes_134 : decode cX1_writeEchoes 134 = .ok (.invokevirtual 341, 3) := dk_182 1 85 (dk_at dksX1_writeEchoes_5 17 rfl rfl)
theorem dX1_writeEchoes_137 : decode cX1_writeEchoes 137 = .ok (.ifCond .ne 10, 3) := dk_154 0 10 (dk_at dksX1_writeEchoes_5 20 rfl rfl)
theorem dX1_writeEchoes_140 : decode cX1_writeEchoes 140 = .ok (.aload_n 2, 1) := dk_44 (dk_at dksX1_writeEchoes_5 23 rfl rfl)
theorem dX1_writeEchoes_141 : decode cX1_writeEchoes 141 = .ok (.bipush 45, 2) := dk_16 45 (dk_at dksX1_writeEchoes_6 0 rfl rfl)
theorem dX1_writeEchoes_143 : decode cX1_writeEchoes 143 = .ok (.invokevirtual 334, 3) := dk_182 1 78 (dk_at dksX1_writeEchoes_6 2 rfl rfl)
theorem dX1_writeEchoes_146 : decode cX1_writeEchoes 146 = .ok (.pop, 1) := dk_87 (dk_at dksX1_writeEchoes_6 5 rfl rfl)
theorem dX1_writeEchoes_147 : decode cX1_writeEchoes 147 = .ok (.aload_n 0, 1) := dk_42 (dk_at dksX1_writeEchoes_6 6 rfl rfl)
theorem dX1_writeEchoes_148 : decode cX1_writeEchoes 148 = .ok (.aload_n 2, 1) := dk_44 (dk_at dksX1_writeEchoes_6 7 rfl rfl)
theorem dX1_writeEchoes_149 : decode cX1_writeEchoes 149 = .ok (.invokevirtual 337, 3) := dk_182 1 81 (dk_at dksX1_writeEchoes_6 8 rfl rfl)
theorem dX1_writeEchoes_152 : decode cX1_writeEchoes 152 = .ok (.ireturn, 1) := dk_172 (dk_at dksX1_writeEchoes_6 11 rfl rfl)
abbrev cX1_writeRow : ByteArray := prog_1_method_67_code
def yX1_writeRow : MethodName := ⟨RX1, "writeRow", "(I)I"⟩
def dkwX1_writeRow_4 : List UInt8 := [167, 255, 193, 42, 45, 182, 1, 81, 172]
abbrev dktX1_writeRow_4 : List UInt8 := dkwX1_writeRow_4 ++ []
def dkwX1_writeRow_3 : List UInt8 := [180, 0, 179, 21, 4, 46, 27, 161, 0, 8, 16, 35, 167, 0, 5, 21, 5, 182, 1, 78, 87, 132, 4, 1]
abbrev dktX1_writeRow_3 : List UInt8 := dkwX1_writeRow_3 ++ dktX1_writeRow_4
def dkwX1_writeRow_2 : List UInt8 := [160, 0, 16, 44, 27, 184, 1, 86, 153, 0, 8, 16, 111, 167, 0, 5, 16, 46, 54, 5, 45, 44]
abbrev dktX1_writeRow_2 : List UInt8 := dkwX1_writeRow_2 ++ dktX1_writeRow_3
def dkwX1_writeRow_1 : List UInt8 := [183, 1, 68, 78, 3, 54, 4, 21, 4, 44, 182, 0, 3, 162, 0, 60, 21, 4, 44, 180, 0, 108, 7, 46]
abbrev dktX1_writeRow_1 : List UInt8 := dkwX1_writeRow_1 ++ dktX1_writeRow_2
def dkwX1_writeRow_0 : List UInt8 := [42, 182, 0, 101, 77, 27, 4, 44, 182, 0, 102, 184, 0, 49, 184, 0, 105, 187, 1, 58, 89, 16, 9]
abbrev dktX1_writeRow_0 : List UInt8 := dkwX1_writeRow_0 ++ dktX1_writeRow_1
theorem dksX1_writeRow_0 : cX1_writeRow.data.toList.drop 0 = dktX1_writeRow_0 := by decide +kernel
theorem dksX1_writeRow_1 : cX1_writeRow.data.toList.drop 23 = dktX1_writeRow_1 := dk_seg dksX1_writeRow_0 23 rfl rfl
theorem dksX1_writeRow_2 : cX1_writeRow.data.toList.drop 47 = dktX1_writeRow_2 := dk_seg dksX1_writeRow_1 24 rfl rfl
theorem dksX1_writeRow_3 : cX1_writeRow.data.toList.drop 69 = dktX1_writeRow_3 := dk_seg dksX1_writeRow_2 22 rfl rfl
theorem dksX1_writeRow_4 : cX1_writeRow.data.toList.drop 93 = dktX1_writeRow_4 := dk_seg dksX1_writeRow_3 24 rfl rfl
theorem dX1_writeRow_0 : decode cX1_writeRow 0 = .ok (.aload_n 0, 1) := dk_42 (dk_at dksX1_writeRow_0 0 rfl rfl)
theorem dX1_writeRow_1 : decode cX1_writeRow 1 = .ok (.invokevirtual 101, 3) := dk_182 0 101 (dk_at dksX1_writeRow_0 1 rfl rfl)
theorem dX1_writeRow_4 : decode cX1_writeRow 4 = .ok (.astore_n 2, 1) := dk_77 (dk_at dksX1_writeRow_0 4 rfl rfl)
theorem dX1_writeRow_5 : decode cX1_writeRow 5 = .ok (.iload_n 1, 1) := dk_27 (dk_at dksX1_writeRow_0 5 rfl rfl)
theorem dX1_writeRow_6 : decode cX1_writeRow 6 = .ok (.iconst 1, 1) := dk_4 (dk_at dksX1_writeRow_0 6 rfl rfl)
theorem dX1_writeRow_7 : decode cX1_writeRow 7 = .ok (.aload_n 2, 1) := dk_44 (dk_at dksX1_writeRow_0 7 rfl rfl)
theorem dX1_writeRow_8 : decode cX1_writeRow 8 = .ok (.invokevirtual 102, 3) := dk_182 0 102 (dk_at dksX1_writeRow_0 8 rfl rfl)
theorem dX1_writeRow_11 : decode cX1_writeRow 11 = .ok (.invokestatic 49, 3) := dk_184 0 49 (dk_at dksX1_writeRow_0 11 rfl rfl)
theorem dX1_writeRow_14 : decode cX1_writeRow 14 = .ok (.invokestatic 105, 3) := dk_184 0 105 (dk_at dksX1_writeRow_0 14 rfl rfl)
theorem dX1_writeRow_17 : decode cX1_writeRow 17 = .ok (.new 314, 3) := dk_187 1 58 (dk_at dksX1_writeRow_0 17 rfl rfl)
theorem dX1_writeRow_20 : decode cX1_writeRow 20 = .ok (.dup, 1) := dk_89 (dk_at dksX1_writeRow_0 20 rfl rfl)
theorem dX1_writeRow_21 : decode cX1_writeRow 21 = .ok (.bipush 9, 2) := dk_16 9 (dk_at dksX1_writeRow_0 21 rfl rfl)
theorem dX1_writeRow_23 : decode cX1_writeRow 23 = .ok (.invokespecial 324, 3) := dk_183 1 68 (dk_at dksX1_writeRow_1 0 rfl rfl)
theorem dX1_writeRow_26 : decode cX1_writeRow 26 = .ok (.astore_n 3, 1) := dk_78 (dk_at dksX1_writeRow_1 3 rfl rfl)
theorem dX1_writeRow_27 : decode cX1_writeRow 27 = .ok (.iconst 0, 1) := dk_3 (dk_at dksX1_writeRow_1 4 rfl rfl)
theorem dX1_writeRow_28 : decode cX1_writeRow 28 = .ok (.istore 4, 2) := dk_54 4 (dk_at dksX1_writeRow_1 5 rfl rfl)
theorem dX1_writeRow_30 : decode cX1_writeRow 30 = .ok (.iload 4, 2) := dk_21 4 (dk_at dksX1_writeRow_1 7 rfl rfl)
theorem dX1_writeRow_32 : decode cX1_writeRow 32 = .ok (.aload_n 2, 1) := dk_44 (dk_at dksX1_writeRow_1 9 rfl rfl)
theorem dX1_writeRow_33 : decode cX1_writeRow 33 = .ok (.invokevirtual 3, 3) := dk_182 0 3 (dk_at dksX1_writeRow_1 10 rfl rfl)
theorem dX1_writeRow_36 : decode cX1_writeRow 36 = .ok (.if_icmp .ge 60, 3) := dk_162 0 60 (dk_at dksX1_writeRow_1 13 rfl rfl)
theorem dX1_writeRow_39 : decode cX1_writeRow 39 = .ok (.iload 4, 2) := dk_21 4 (dk_at dksX1_writeRow_1 16 rfl rfl)
theorem dX1_writeRow_41 : decode cX1_writeRow 41 = .ok (.aload_n 2, 1) := dk_44 (dk_at dksX1_writeRow_1 18 rfl rfl)
theorem dX1_writeRow_42 : decode cX1_writeRow 42 = .ok (.getfield 108, 3) := dk_180 0 108 (dk_at dksX1_writeRow_1 19 rfl rfl)
theorem dX1_writeRow_45 : decode cX1_writeRow 45 = .ok (.iconst 4, 1) := dk_7 (dk_at dksX1_writeRow_1 22 rfl rfl)
theorem dX1_writeRow_46 : decode cX1_writeRow 46 = .ok (.iaload, 1) := dk_46 (dk_at dksX1_writeRow_1 23 rfl rfl)
theorem dX1_writeRow_47 : decode cX1_writeRow 47 = .ok (.if_icmp .ne 16, 3) := dk_160 0 16 (dk_at dksX1_writeRow_2 0 rfl rfl)
theorem dX1_writeRow_50 : decode cX1_writeRow 50 = .ok (.aload_n 2, 1) := dk_44 (dk_at dksX1_writeRow_2 3 rfl rfl)
theorem dX1_writeRow_51 : decode cX1_writeRow 51 = .ok (.iload_n 1, 1) := dk_27 (dk_at dksX1_writeRow_2 4 rfl rfl)
theorem dX1_writeRow_52 : decode cX1_writeRow 52 = .ok (.invokestatic 342, 3) := dk_184 1 86 (dk_at dksX1_writeRow_2 5 rfl rfl)
theorem dX1_writeRow_55 : decode cX1_writeRow 55 = .ok (.ifCond .eq 8, 3) := dk_153 0 8 (dk_at dksX1_writeRow_2 8 rfl rfl)
theorem dX1_writeRow_58 : decode cX1_writeRow 58 = .ok (.bipush 111, 2) := dk_16 111 (dk_at dksX1_writeRow_2 11 rfl rfl)
theorem dX1_writeRow_60 : decode cX1_writeRow 60 = .ok (.goto 5, 3) := dk_167 0 5 (dk_at dksX1_writeRow_2 13 rfl rfl)
theorem dX1_writeRow_63 : decode cX1_writeRow 63 = .ok (.bipush 46, 2) := dk_16 46 (dk_at dksX1_writeRow_2 16 rfl rfl)
theorem dX1_writeRow_65 : decode cX1_writeRow 65 = .ok (.istore 5, 2) := dk_54 5 (dk_at dksX1_writeRow_2 18 rfl rfl)
theorem dX1_writeRow_67 : decode cX1_writeRow 67 = .ok (.aload_n 3, 1) := dk_45 (dk_at dksX1_writeRow_2 20 rfl rfl)
theorem dX1_writeRow_68 : decode cX1_writeRow 68 = .ok (.aload_n 2, 1) := dk_44 (dk_at dksX1_writeRow_2 21 rfl rfl)
theorem dX1_writeRow_69 : decode cX1_writeRow 69 = .ok (.getfield 179, 3) := dk_180 0 179 (dk_at dksX1_writeRow_3 0 rfl rfl)
theorem dX1_writeRow_72 : decode cX1_writeRow 72 = .ok (.iload 4, 2) := dk_21 4 (dk_at dksX1_writeRow_3 3 rfl rfl)
theorem dX1_writeRow_74 : decode cX1_writeRow 74 = .ok (.iaload, 1) := dk_46 (dk_at dksX1_writeRow_3 5 rfl rfl)
theorem dX1_writeRow_75 : decode cX1_writeRow 75 = .ok (.iload_n 1, 1) := dk_27 (dk_at dksX1_writeRow_3 6 rfl rfl)
theorem dX1_writeRow_76 : decode cX1_writeRow 76 = .ok (.if_icmp .lt 8, 3) := dk_161 0 8 (dk_at dksX1_writeRow_3 7 rfl rfl)
theorem dX1_writeRow_79 : decode cX1_writeRow 79 = .ok (.bipush 35, 2) := dk_16 35 (dk_at dksX1_writeRow_3 10 rfl rfl)
theorem dX1_writeRow_81 : decode cX1_writeRow 81 = .ok (.goto 5, 3) := dk_167 0 5 (dk_at dksX1_writeRow_3 12 rfl rfl)
theorem dX1_writeRow_84 : decode cX1_writeRow 84 = .ok (.iload 5, 2) := dk_21 5 (dk_at dksX1_writeRow_3 15 rfl rfl)
theorem dX1_writeRow_86 : decode cX1_writeRow 86 = .ok (.invokevirtual 334, 3) := dk_182 1 78 (dk_at dksX1_writeRow_3 17 rfl rfl)
theorem dX1_writeRow_89 : decode cX1_writeRow 89 = .ok (.pop, 1) := dk_87 (dk_at dksX1_writeRow_3 20 rfl rfl)
theorem dX1_writeRow_90 : decode cX1_writeRow 90 = .ok (.iinc 4 1, 3) := dk_132 4 1 (dk_at dksX1_writeRow_3 21 rfl rfl)
theorem dX1_writeRow_93 : decode cX1_writeRow 93 = .ok (.goto (-63), 3) := dk_167 255 193 (dk_at dksX1_writeRow_4 0 rfl rfl)
theorem dX1_writeRow_96 : decode cX1_writeRow 96 = .ok (.aload_n 0, 1) := dk_42 (dk_at dksX1_writeRow_4 3 rfl rfl)
theorem dX1_writeRow_97 : decode cX1_writeRow 97 = .ok (.aload_n 3, 1) := dk_45 (dk_at dksX1_writeRow_4 4 rfl rfl)
theorem dX1_writeRow_98 : decode cX1_writeRow 98 = .ok (.invokevirtual 337, 3) := dk_182 1 81 (dk_at dksX1_writeRow_4 5 rfl rfl)
theorem dX1_writeRow_101 : decode cX1_writeRow 101 = .ok (.ireturn, 1) := dk_172 (dk_at dksX1_writeRow_4 8 rfl rfl)
abbrev cX1_isBarAt : ByteArray := prog_1_method_66_code
def yX1_isBarAt : MethodName := ⟨RX1, "isBarAt", "(LPingEye$Silo;I)Z"⟩
def dkwX1_isBarAt_2 : List UInt8 := [167, 255, 222, 3, 172]
abbrev dktX1_isBarAt_2 : List UInt8 := dkwX1_isBarAt_2 ++ []
def dkwX1_isBarAt_1 : List UInt8 := [185, 1, 7, 1, 0, 192, 0, 208, 78, 45, 180, 0, 214, 42, 182, 0, 102, 27, 100, 160, 0, 5, 4, 172]
abbrev dktX1_isBarAt_1 : List UInt8 := dkwX1_isBarAt_1 ++ dktX1_isBarAt_2
def dkwX1_isBarAt_0 : List UInt8 := [42, 180, 0, 130, 185, 0, 253, 1, 0, 77, 44, 185, 1, 1, 1, 0, 153, 0, 31, 44]
abbrev dktX1_isBarAt_0 : List UInt8 := dkwX1_isBarAt_0 ++ dktX1_isBarAt_1
theorem dksX1_isBarAt_0 : cX1_isBarAt.data.toList.drop 0 = dktX1_isBarAt_0 := by decide +kernel
theorem dksX1_isBarAt_1 : cX1_isBarAt.data.toList.drop 20 = dktX1_isBarAt_1 := dk_seg dksX1_isBarAt_0 20 rfl rfl
theorem dksX1_isBarAt_2 : cX1_isBarAt.data.toList.drop 44 = dktX1_isBarAt_2 := dk_seg dksX1_isBarAt_1 24 rfl rfl
theorem dX1_isBarAt_0 : decode cX1_isBarAt 0 = .ok (.aload_n 0, 1) := dk_42 (dk_at dksX1_isBarAt_0 0 rfl rfl)
theorem dX1_isBarAt_1 : decode cX1_isBarAt 1 = .ok (.getfield 130, 3) := dk_180 0 130 (dk_at dksX1_isBarAt_0 1 rfl rfl)
theorem dX1_isBarAt_4 : decode cX1_isBarAt 4 = .ok (.invokeinterface 253 1, 5) := by decide +kernel
theorem dX1_isBarAt_9 : decode cX1_isBarAt 9 = .ok (.astore_n 2, 1) := dk_77 (dk_at dksX1_isBarAt_0 9 rfl rfl)
theorem dX1_isBarAt_10 : decode cX1_isBarAt 10 = .ok (.aload_n 2, 1) := dk_44 (dk_at dksX1_isBarAt_0 10 rfl rfl)
theorem dX1_isBarAt_11 : decode cX1_isBarAt 11 = .ok (.invokeinterface 257 1, 5) := by decide +kernel
theorem dX1_isBarAt_16 : decode cX1_isBarAt 16 = .ok (.ifCond .eq 31, 3) := dk_153 0 31 (dk_at dksX1_isBarAt_0 16 rfl rfl)
theorem dX1_isBarAt_19 : decode cX1_isBarAt 19 = .ok (.aload_n 2, 1) := dk_44 (dk_at dksX1_isBarAt_0 19 rfl rfl)
theorem dX1_isBarAt_20 : decode cX1_isBarAt 20 = .ok (.invokeinterface 263 1, 5) := by decide +kernel
theorem dX1_isBarAt_25 : decode cX1_isBarAt 25 = .ok (.checkcast 208, 3) := dk_192 0 208 (dk_at dksX1_isBarAt_1 5 rfl rfl)
theorem dX1_isBarAt_28 : decode cX1_isBarAt 28 = .ok (.astore_n 3, 1) := dk_78 (dk_at dksX1_isBarAt_1 8 rfl rfl)
theorem dX1_isBarAt_29 : decode cX1_isBarAt 29 = .ok (.aload_n 3, 1) := dk_45 (dk_at dksX1_isBarAt_1 9 rfl rfl)
theorem dX1_isBarAt_30 : decode cX1_isBarAt 30 = .ok (.getfield 214, 3) := dk_180 0 214 (dk_at dksX1_isBarAt_1 10 rfl rfl)
theorem dX1_isBarAt_33 : decode cX1_isBarAt 33 = .ok (.aload_n 0, 1) := dk_42 (dk_at dksX1_isBarAt_1 13 rfl rfl)
theorem dX1_isBarAt_34 : decode cX1_isBarAt 34 = .ok (.invokevirtual 102, 3) := dk_182 0 102 (dk_at dksX1_isBarAt_1 14 rfl rfl)
theorem dX1_isBarAt_37 : decode cX1_isBarAt 37 = .ok (.iload_n 1, 1) := dk_27 (dk_at dksX1_isBarAt_1 17 rfl rfl)
theorem dX1_isBarAt_38 : decode cX1_isBarAt 38 = .ok (.isub, 1) := dk_100 (dk_at dksX1_isBarAt_1 18 rfl rfl)
theorem dX1_isBarAt_39 : decode cX1_isBarAt 39 = .ok (.if_icmp .ne 5, 3) := dk_160 0 5 (dk_at dksX1_isBarAt_1 19 rfl rfl)
theorem dX1_isBarAt_42 : decode cX1_isBarAt 42 = .ok (.iconst 1, 1) := dk_4 (dk_at dksX1_isBarAt_1 22 rfl rfl)
theorem dX1_isBarAt_43 : decode cX1_isBarAt 43 = .ok (.ireturn, 1) := dk_172 (dk_at dksX1_isBarAt_1 23 rfl rfl)
theorem dX1_isBarAt_44 : decode cX1_isBarAt 44 = .ok (.goto (-34), 3) := dk_167 255 222 (dk_at dksX1_isBarAt_2 0 rfl rfl)
theorem dX1_isBarAt_47 : decode cX1_isBarAt 47 = .ok (.iconst 0, 1) := dk_3 (dk_at dksX1_isBarAt_2 3 rfl rfl)
theorem dX1_isBarAt_48 : decode cX1_isBarAt 48 = .ok (.ireturn, 1) := dk_172 (dk_at dksX1_isBarAt_2 4 rfl rfl)
abbrev cX1_textByte : ByteArray := prog_1_method_68_code
def yX1_textByte : MethodName := ⟨RX1, "textByte", "(I)I"⟩
def dkwX1_textByte_1 : List UInt8 := [182, 1, 90, 172]
abbrev dktX1_textByte_1 : List UInt8 := dkwX1_textByte_1 ++ []
def dkwX1_textByte_0 : List UInt8 := [27, 3, 42, 180, 0, 38, 182, 1, 63, 4, 100, 184, 0, 49, 184, 0, 53, 42, 180, 0, 38, 27]
abbrev dktX1_textByte_0 : List UInt8 := dkwX1_textByte_0 ++ dktX1_textByte_1
theorem dksX1_textByte_0 : cX1_textByte.data.toList.drop 0 = dktX1_textByte_0 := by decide +kernel
theorem dksX1_textByte_1 : cX1_textByte.data.toList.drop 22 = dktX1_textByte_1 := dk_seg dksX1_textByte_0 22 rfl rfl
theorem dX1_textByte_0 : decode cX1_textByte 0 = .ok (.iload_n 1, 1) := dk_27 (dk_at dksX1_textByte_0 0 rfl rfl)
theorem dX1_textByte_1 : decode cX1_textByte 1 = .ok (.iconst 0, 1) := dk_3 (dk_at dksX1_textByte_0 1 rfl rfl)
theorem dX1_textByte_2 : decode cX1_textByte 2 = .ok (.aload_n 0, 1) := dk_42 (dk_at dksX1_textByte_0 2 rfl rfl)
theorem dX1_textByte_3 : decode cX1_textByte 3 = .ok (.getfield 38, 3) := dk_180 0 38 (dk_at dksX1_textByte_0 3 rfl rfl)
theorem dX1_textByte_6 : decode cX1_textByte 6 = .ok (.invokevirtual 319, 3) := dk_182 1 63 (dk_at dksX1_textByte_0 6 rfl rfl)
theorem dX1_textByte_9 : decode cX1_textByte 9 = .ok (.iconst 1, 1) := dk_4 (dk_at dksX1_textByte_0 9 rfl rfl)
theorem dX1_textByte_10 : decode cX1_textByte 10 = .ok (.isub, 1) := dk_100 (dk_at dksX1_textByte_0 10 rfl rfl)
theorem dX1_textByte_11 : decode cX1_textByte 11 = .ok (.invokestatic 49, 3) := dk_184 0 49 (dk_at dksX1_textByte_0 11 rfl rfl)
theorem dX1_textByte_14 : decode cX1_textByte 14 = .ok (.invokestatic 53, 3) := dk_184 0 53 (dk_at dksX1_textByte_0 14 rfl rfl)
theorem dX1_textByte_17 : decode cX1_textByte 17 = .ok (.aload_n 0, 1) := dk_42 (dk_at dksX1_textByte_0 17 rfl rfl)
theorem dX1_textByte_18 : decode cX1_textByte 18 = .ok (.getfield 38, 3) := dk_180 0 38 (dk_at dksX1_textByte_0 18 rfl rfl)
theorem dX1_textByte_21 : decode cX1_textByte 21 = .ok (.iload_n 1, 1) := dk_27 (dk_at dksX1_textByte_0 21 rfl rfl)
theorem dX1_textByte_22 : decode cX1_textByte 22 = .ok (.invokevirtual 346, 3) := dk_182 1 90 (dk_at dksX1_textByte_1 0 rfl rfl)
theorem dX1_textByte_25 : decode cX1_textByte 25 = .ok (.ireturn, 1) := dk_172 (dk_at dksX1_textByte_1 3 rfl rfl)
abbrev cX1_fill : ByteArray := prog_1_method_70_code
def yX1_fill : MethodName := ⟨RX1, "fill", "(II)I"⟩
def dkwX1_fill_0 : List UInt8 := [42, 27, 182, 0, 175, 78, 28, 184, 1, 22, 42, 182, 1, 102, 27, 28, 182, 1, 19, 172]
abbrev dktX1_fill_0 : List UInt8 := dkwX1_fill_0 ++ []
theorem dksX1_fill_0 : cX1_fill.data.toList.drop 0 = dktX1_fill_0 := by decide +kernel
theorem dX1_fill_0 : decode cX1_fill 0 = .ok (.aload_n 0, 1) := dk_42 (dk_at dksX1_fill_0 0 rfl rfl)
theorem dX1_fill_1 : decode cX1_fill 1 = .ok (.iload_n 1, 1) := dk_27 (dk_at dksX1_fill_0 1 rfl rfl)
theorem dX1_fill_2 : decode cX1_fill 2 = .ok (.invokevirtual 175, 3) := dk_182 0 175 (dk_at dksX1_fill_0 2 rfl rfl)
theorem dX1_fill_5 : decode cX1_fill 5 = .ok (.astore_n 3, 1) := dk_78 (dk_at dksX1_fill_0 5 rfl rfl)
theorem dX1_fill_6 : decode cX1_fill 6 = .ok (.iload_n 2, 1) := dk_28 (dk_at dksX1_fill_0 6 rfl rfl)
theorem dX1_fill_7 : decode cX1_fill 7 = .ok (.invokestatic 278, 3) := dk_184 1 22 (dk_at dksX1_fill_0 7 rfl rfl)
theorem dX1_fill_10 : decode cX1_fill 10 = .ok (.aload_n 0, 1) := dk_42 (dk_at dksX1_fill_0 10 rfl rfl)
theorem dX1_fill_11 : decode cX1_fill 11 = .ok (.invokevirtual 358, 3) := dk_182 1 102 (dk_at dksX1_fill_0 11 rfl rfl)
theorem dX1_fill_14 : decode cX1_fill 14 = .ok (.iload_n 1, 1) := dk_27 (dk_at dksX1_fill_0 14 rfl rfl)
theorem dX1_fill_15 : decode cX1_fill 15 = .ok (.iload_n 2, 1) := dk_28 (dk_at dksX1_fill_0 15 rfl rfl)
theorem dX1_fill_16 : decode cX1_fill 16 = .ok (.invokevirtual 275, 3) := dk_182 1 19 (dk_at dksX1_fill_0 16 rfl rfl)
theorem dX1_fill_19 : decode cX1_fill 19 = .ok (.ireturn, 1) := dk_172 (dk_at dksX1_fill_0 19 rfl rfl)
abbrev cX1_remember : ByteArray := prog_1_method_69_code
def yX1_remember : MethodName := ⟨RX1, "remember", "()LPingEye$Silo;"⟩
def dkwX1_remember_2 : List UInt8 := [180, 0, 66, 183, 0, 195, 181, 0, 66, 42, 180, 0, 66, 176]
abbrev dktX1_remember_2 : List UInt8 := dkwX1_remember_2 ++ []
def dkwX1_remember_1 : List UInt8 := [192, 0, 4, 76, 42, 180, 0, 28, 42, 180, 0, 66, 185, 1, 98, 2, 0, 42, 187, 0, 4, 89, 42]
abbrev dktX1_remember_1 : List UInt8 := dkwX1_remember_1 ++ dktX1_remember_2
def dkwX1_remember_0 : List UInt8 := [42, 180, 0, 28, 185, 1, 94, 1, 0, 16, 8, 160, 0, 16, 42, 180, 0, 28, 185, 1, 95, 1, 0]
abbrev dktX1_remember_0 : List UInt8 := dkwX1_remember_0 ++ dktX1_remember_1
theorem dksX1_remember_0 : cX1_remember.data.toList.drop 0 = dktX1_remember_0 := by decide +kernel
theorem dksX1_remember_1 : cX1_remember.data.toList.drop 23 = dktX1_remember_1 := dk_seg dksX1_remember_0 23 rfl rfl
theorem dksX1_remember_2 : cX1_remember.data.toList.drop 46 = dktX1_remember_2 := dk_seg dksX1_remember_1 23 rfl rfl
theorem dX1_remember_0 : decode cX1_remember 0 = .ok (.aload_n 0, 1) := dk_42 (dk_at dksX1_remember_0 0 rfl rfl)
theorem dX1_remember_1 : decode cX1_remember 1 = .ok (.getfield 28, 3) := dk_180 0 28 (dk_at dksX1_remember_0 1 rfl rfl)
theorem dX1_remember_4 : decode cX1_remember 4 = .ok (.invokeinterface 350 1, 5) := by decide +kernel
theorem dX1_remember_9 : decode cX1_remember 9 = .ok (.bipush 8, 2) := dk_16 8 (dk_at dksX1_remember_0 9 rfl rfl)
theorem dX1_remember_11 : decode cX1_remember 11 = .ok (.if_icmp .ne 16, 3) := dk_160 0 16 (dk_at dksX1_remember_0 11 rfl rfl)
theorem dX1_remember_14 : decode cX1_remember 14 = .ok (.aload_n 0, 1) := dk_42 (dk_at dksX1_remember_0 14 rfl rfl)
theorem dX1_remember_15 : decode cX1_remember 15 = .ok (.getfield 28, 3) := dk_180 0 28 (dk_at dksX1_remember_0 15 rfl rfl)
theorem dX1_remember_18 : decode cX1_remember 18 = .ok (.invokeinterface 351 1, 5) := by decide +kernel
theorem dX1_remember_23 : decode cX1_remember 23 = .ok (.checkcast 4, 3) := dk_192 0 4 (dk_at dksX1_remember_1 0 rfl rfl)
theorem dX1_remember_26 : decode cX1_remember 26 = .ok (.astore_n 1, 1) := dk_76 (dk_at dksX1_remember_1 3 rfl rfl)
theorem dX1_remember_27 : decode cX1_remember 27 = .ok (.aload_n 0, 1) := dk_42 (dk_at dksX1_remember_1 4 rfl rfl)
theorem dX1_remember_28 : decode cX1_remember 28 = .ok (.getfield 28, 3) := dk_180 0 28 (dk_at dksX1_remember_1 5 rfl rfl)
theorem dX1_remember_31 : decode cX1_remember 31 = .ok (.aload_n 0, 1) := dk_42 (dk_at dksX1_remember_1 8 rfl rfl)
theorem dX1_remember_32 : decode cX1_remember 32 = .ok (.getfield 66, 3) := dk_180 0 66 (dk_at dksX1_remember_1 9 rfl rfl)
theorem dX1_remember_35 : decode cX1_remember 35 = .ok (.invokeinterface 354 2, 5) := by decide +kernel
theorem dX1_remember_40 : decode cX1_remember 40 = .ok (.aload_n 0, 1) := dk_42 (dk_at dksX1_remember_1 17 rfl rfl)
theorem dX1_remember_41 : decode cX1_remember 41 = .ok (.new 4, 3) := dk_187 0 4 (dk_at dksX1_remember_1 18 rfl rfl)
theorem dX1_remember_44 : decode cX1_remember 44 = .ok (.dup, 1) := dk_89 (dk_at dksX1_remember_1 21 rfl rfl)
theorem dX1_remember_45 : decode cX1_remember 45 = .ok (.aload_n 0, 1) := dk_42 (dk_at dksX1_remember_1 22 rfl rfl)
theorem dX1_remember_46 : decode cX1_remember 46 = .ok (.getfield 66, 3) := dk_180 0 66 (dk_at dksX1_remember_2 0 rfl rfl)
theorem dX1_remember_49 : decode cX1_remember 49 = .ok (.invokespecial 195, 3) := dk_183 0 195 (dk_at dksX1_remember_2 3 rfl rfl)
theorem dX1_remember_52 : decode cX1_remember 52 = .ok (.putfield 66, 3) := dk_181 0 66 (dk_at dksX1_remember_2 6 rfl rfl)
theorem dX1_remember_55 : decode cX1_remember 55 = .ok (.aload_n 0, 1) := dk_42 (dk_at dksX1_remember_2 9 rfl rfl)
theorem dX1_remember_56 : decode cX1_remember 56 = .ok (.getfield 66, 3) := dk_180 0 66 (dk_at dksX1_remember_2 10 rfl rfl)
theorem dX1_remember_59 : decode cX1_remember 59 = .ok (.areturn, 1) := dk_176 (dk_at dksX1_remember_2 13 rfl rfl)
abbrev cX1_draw : ByteArray := prog_1_method_71_code
def yX1_draw : MethodName := ⟨RX1, "draw", "(I)I"⟩
def dkwX1_draw_0 : List UInt8 := [42, 182, 0, 101, 77, 27, 184, 1, 22, 42, 182, 1, 102, 27, 182, 1, 41, 172]
abbrev dktX1_draw_0 : List UInt8 := dkwX1_draw_0 ++ []
theorem dksX1_draw_0 : cX1_draw.data.toList.drop 0 = dktX1_draw_0 := by decide +kernel
theorem dX1_draw_0 : decode cX1_draw 0 = .ok (.aload_n 0, 1) := dk_42 (dk_at dksX1_draw_0 0 rfl rfl)
theorem dX1_draw_1 : decode cX1_draw 1 = .ok (.invokevirtual 101, 3) := dk_182 0 101 (dk_at dksX1_draw_0 1 rfl rfl)
theorem dX1_draw_4 : decode cX1_draw 4 = .ok (.astore_n 2, 1) := dk_77 (dk_at dksX1_draw_0 4 rfl rfl)
theorem dX1_draw_5 : decode cX1_draw 5 = .ok (.iload_n 1, 1) := dk_27 (dk_at dksX1_draw_0 5 rfl rfl)
theorem dX1_draw_6 : decode cX1_draw 6 = .ok (.invokestatic 278, 3) := dk_184 1 22 (dk_at dksX1_draw_0 6 rfl rfl)
theorem dX1_draw_9 : decode cX1_draw 9 = .ok (.aload_n 0, 1) := dk_42 (dk_at dksX1_draw_0 9 rfl rfl)
theorem dX1_draw_10 : decode cX1_draw 10 = .ok (.invokevirtual 358, 3) := dk_182 1 102 (dk_at dksX1_draw_0 10 rfl rfl)
theorem dX1_draw_13 : decode cX1_draw 13 = .ok (.iload_n 1, 1) := dk_27 (dk_at dksX1_draw_0 13 rfl rfl)
theorem dX1_draw_14 : decode cX1_draw 14 = .ok (.invokevirtual 297, 3) := dk_182 1 41 (dk_at dksX1_draw_0 14 rfl rfl)
theorem dX1_draw_17 : decode cX1_draw 17 = .ok (.ireturn, 1) := dk_172 (dk_at dksX1_draw_0 17 rfl rfl)
abbrev cX1_ping : ByteArray := prog_1_method_72_code
def yX1_ping : MethodName := ⟨RX1, "ping", "()I"⟩
def dkwX1_ping_0 : List UInt8 := [42, 182, 0, 101, 76, 42, 182, 1, 102, 182, 1, 17, 172]
abbrev dktX1_ping_0 : List UInt8 := dkwX1_ping_0 ++ []
theorem dksX1_ping_0 : cX1_ping.data.toList.drop 0 = dktX1_ping_0 := by decide +kernel
theorem dX1_ping_0 : decode cX1_ping 0 = .ok (.aload_n 0, 1) := dk_42 (dk_at dksX1_ping_0 0 rfl rfl)
theorem dX1_ping_1 : decode cX1_ping 1 = .ok (.invokevirtual 101, 3) := dk_182 0 101 (dk_at dksX1_ping_0 1 rfl rfl)
theorem dX1_ping_4 : decode cX1_ping 4 = .ok (.astore_n 1, 1) := dk_76 (dk_at dksX1_ping_0 4 rfl rfl)
theorem dX1_ping_5 : decode cX1_ping 5 = .ok (.aload_n 0, 1) := dk_42 (dk_at dksX1_ping_0 5 rfl rfl)
theorem dX1_ping_6 : decode cX1_ping 6 = .ok (.invokevirtual 358, 3) := dk_182 1 102 (dk_at dksX1_ping_0 6 rfl rfl)
theorem dX1_ping_9 : decode cX1_ping 9 = .ok (.invokevirtual 273, 3) := dk_182 1 17 (dk_at dksX1_ping_0 9 rfl rfl)
theorem dX1_ping_12 : decode cX1_ping 12 = .ok (.ireturn, 1) := dk_172 (dk_at dksX1_ping_0 12 rfl rfl)
abbrev cX1_empty : ByteArray := prog_1_method_73_code
def yX1_empty : MethodName := ⟨RX1, "empty", "()I"⟩
def dkwX1_empty_1 : List UInt8 := [181, 0, 160, 29, 172]
abbrev dktX1_empty_1 : List UInt8 := dkwX1_empty_1 ++ []
def dkwX1_empty_0 : List UInt8 := [42, 182, 0, 101, 76, 42, 182, 1, 102, 77, 44, 182, 1, 29, 62, 44, 89, 180, 0, 160, 4, 100]
abbrev dktX1_empty_0 : List UInt8 := dkwX1_empty_0 ++ dktX1_empty_1
theorem dksX1_empty_0 : cX1_empty.data.toList.drop 0 = dktX1_empty_0 := by decide +kernel
theorem dksX1_empty_1 : cX1_empty.data.toList.drop 22 = dktX1_empty_1 := dk_seg dksX1_empty_0 22 rfl rfl
theorem dX1_empty_0 : decode cX1_empty 0 = .ok (.aload_n 0, 1) := dk_42 (dk_at dksX1_empty_0 0 rfl rfl)
theorem dX1_empty_1 : decode cX1_empty 1 = .ok (.invokevirtual 101, 3) := dk_182 0 101 (dk_at dksX1_empty_0 1 rfl rfl)
theorem dX1_empty_4 : decode cX1_empty 4 = .ok (.astore_n 1, 1) := dk_76 (dk_at dksX1_empty_0 4 rfl rfl)
theorem dX1_empty_5 : decode cX1_empty 5 = .ok (.aload_n 0, 1) := dk_42 (dk_at dksX1_empty_0 5 rfl rfl)
theorem dX1_empty_6 : decode cX1_empty 6 = .ok (.invokevirtual 358, 3) := dk_182 1 102 (dk_at dksX1_empty_0 6 rfl rfl)
theorem dX1_empty_9 : decode cX1_empty 9 = .ok (.astore_n 2, 1) := dk_77 (dk_at dksX1_empty_0 9 rfl rfl)
theorem dX1_empty_10 : decode cX1_empty 10 = .ok (.aload_n 2, 1) := dk_44 (dk_at dksX1_empty_0 10 rfl rfl)
theorem dX1_empty_11 : decode cX1_empty 11 = .ok (.invokevirtual 285, 3) := dk_182 1 29 (dk_at dksX1_empty_0 11 rfl rfl)
theorem dX1_empty_14 : decode cX1_empty 14 = .ok (.istore_n 3, 1) := dk_62 (dk_at dksX1_empty_0 14 rfl rfl)
theorem dX1_empty_15 : decode cX1_empty 15 = .ok (.aload_n 2, 1) := dk_44 (dk_at dksX1_empty_0 15 rfl rfl)
theorem dX1_empty_16 : decode cX1_empty 16 = .ok (.dup, 1) := dk_89 (dk_at dksX1_empty_0 16 rfl rfl)
theorem dX1_empty_17 : decode cX1_empty 17 = .ok (.getfield 160, 3) := dk_180 0 160 (dk_at dksX1_empty_0 17 rfl rfl)
theorem dX1_empty_20 : decode cX1_empty 20 = .ok (.iconst 1, 1) := dk_4 (dk_at dksX1_empty_0 20 rfl rfl)
theorem dX1_empty_21 : decode cX1_empty 21 = .ok (.isub, 1) := dk_100 (dk_at dksX1_empty_0 21 rfl rfl)
theorem dX1_empty_22 : decode cX1_empty 22 = .ok (.putfield 160, 3) := dk_181 0 160 (dk_at dksX1_empty_1 0 rfl rfl)
theorem dX1_empty_25 : decode cX1_empty 25 = .ok (.iload_n 3, 1) := dk_29 (dk_at dksX1_empty_1 3 rfl rfl)
theorem dX1_empty_26 : decode cX1_empty 26 = .ok (.ireturn, 1) := dk_172 (dk_at dksX1_empty_1 4 rfl rfl)
abbrev cX1_level : ByteArray := prog_1_method_74_code
def yX1_level : MethodName := ⟨RX1, "level", "(Z)I"⟩
def dkwX1_level_5 : List UInt8 := [46, 159, 0, 7, 4, 167, 0, 4, 3, 184, 0, 120, 96, 54, 6, 132, 7, 1, 167, 255, 161, 21, 6, 172]
abbrev dktX1_level_5 : List UInt8 := dkwX1_level_5 ++ []
def dkwX1_level_4 : List UInt8 := [21, 4, 21, 8, 184, 0, 120, 96, 79, 21, 6, 45, 180, 0, 179, 21, 7, 46, 44, 180, 0, 179, 21, 7]
abbrev dktX1_level_4 : List UInt8 := dkwX1_level_4 ++ dktX1_level_5
def dkwX1_level_3 : List UInt8 := [45, 182, 0, 3, 21, 5, 100, 161, 0, 7, 4, 167, 0, 4, 3, 54, 8, 45, 180, 0, 179, 21, 7]
abbrev dktX1_level_3 : List UInt8 := dkwX1_level_3 ++ dktX1_level_4
def dkwX1_level_2 : List UInt8 := [162, 0, 92, 27, 153, 0, 18, 21, 7, 21, 5, 162, 0, 7, 4, 167, 0, 24, 3, 167, 0, 20, 21, 7]
abbrev dktX1_level_2 : List UInt8 := dkwX1_level_2 ++ dktX1_level_3
def dkwX1_level_1 : List UInt8 := [182, 0, 124, 44, 182, 0, 3, 112, 54, 5, 3, 54, 6, 3, 54, 7, 21, 7, 45, 182, 0, 3]
abbrev dktX1_level_1 : List UInt8 := dkwX1_level_1 ++ dktX1_level_2
def dkwX1_level_0 : List UInt8 := [42, 182, 0, 101, 77, 42, 182, 1, 102, 78, 44, 182, 0, 124, 44, 182, 0, 3, 108, 54, 4, 44]
abbrev dktX1_level_0 : List UInt8 := dkwX1_level_0 ++ dktX1_level_1
theorem dksX1_level_0 : cX1_level.data.toList.drop 0 = dktX1_level_0 := by decide +kernel
theorem dksX1_level_1 : cX1_level.data.toList.drop 22 = dktX1_level_1 := dk_seg dksX1_level_0 22 rfl rfl
theorem dksX1_level_2 : cX1_level.data.toList.drop 44 = dktX1_level_2 := dk_seg dksX1_level_1 22 rfl rfl
theorem dksX1_level_3 : cX1_level.data.toList.drop 68 = dktX1_level_3 := dk_seg dksX1_level_2 24 rfl rfl
theorem dksX1_level_4 : cX1_level.data.toList.drop 91 = dktX1_level_4 := dk_seg dksX1_level_3 23 rfl rfl
theorem dksX1_level_5 : cX1_level.data.toList.drop 115 = dktX1_level_5 := dk_seg dksX1_level_4 24 rfl rfl
theorem dX1_level_0 : decode cX1_level 0 = .ok (.aload_n 0, 1) := dk_42 (dk_at dksX1_level_0 0 rfl rfl)
theorem dX1_level_1 : decode cX1_level 1 = .ok (.invokevirtual 101, 3) := dk_182 0 101 (dk_at dksX1_level_0 1 rfl rfl)
theorem dX1_level_4 : decode cX1_level 4 = .ok (.astore_n 2, 1) := dk_77 (dk_at dksX1_level_0 4 rfl rfl)
theorem dX1_level_5 : decode cX1_level 5 = .ok (.aload_n 0, 1) := dk_42 (dk_at dksX1_level_0 5 rfl rfl)
theorem dX1_level_6 : decode cX1_level 6 = .ok (.invokevirtual 358, 3) := dk_182 1 102 (dk_at dksX1_level_0 6 rfl rfl)
theorem dX1_level_9 : decode cX1_level 9 = .ok (.astore_n 3, 1) := dk_78 (dk_at dksX1_level_0 9 rfl rfl)
theorem dX1_level_10 : decode cX1_level 10 = .ok (.aload_n 2, 1) := dk_44 (dk_at dksX1_level_0 10 rfl rfl)
theorem dX1_level_11 : decode cX1_level 11 = .ok (.invokevirtual 124, 3) := dk_182 0 124 (dk_at dksX1_level_0 11 rfl rfl)
theorem dX1_level_14 : decode cX1_level 14 = .ok (.aload_n 2, 1) := dk_44 (dk_at dksX1_level_0 14 rfl rfl)
theorem dX1_level_15 : decode cX1_level 15 = .ok (.invokevirtual 3, 3) := dk_182 0 3 (dk_at dksX1_level_0 15 rfl rfl)
theorem dX1_level_18 : decode cX1_level 18 = .ok (.idiv, 1) := dk_108 (dk_at dksX1_level_0 18 rfl rfl)
theorem dX1_level_19 : decode cX1_level 19 = .ok (.istore 4, 2) := dk_54 4 (dk_at dksX1_level_0 19 rfl rfl)
theorem dX1_level_21 : decode cX1_level 21 = .ok (.aload_n 2, 1) := dk_44 (dk_at dksX1_level_0 21 rfl rfl)
theorem dX1_level_22 : decode cX1_level 22 = .ok (.invokevirtual 124, 3) := dk_182 0 124 (dk_at dksX1_level_1 0 rfl rfl)
theorem dX1_level_25 : decode cX1_level 25 = .ok (.aload_n 2, 1) := dk_44 (dk_at dksX1_level_1 3 rfl rfl)
theorem dX1_level_26 : decode cX1_level 26 = .ok (.invokevirtual 3, 3) := dk_182 0 3 (dk_at dksX1_level_1 4 rfl rfl)
theorem dX1_level_29 : decode cX1_level 29 = .ok (.irem, 1) := dk_112 (dk_at dksX1_level_1 7 rfl rfl)
theorem dX1_level_30 : decode cX1_level 30 = .ok (.istore 5, 2) := dk_54 5 (dk_at dksX1_level_1 8 rfl rfl)
theorem dX1_level_32 : decode cX1_level 32 = .ok (.iconst 0, 1) := dk_3 (dk_at dksX1_level_1 10 rfl rfl)
theorem dX1_level_33 : decode cX1_level 33 = .ok (.istore 6, 2) := dk_54 6 (dk_at dksX1_level_1 11 rfl rfl)
theorem dX1_level_35 : decode cX1_level 35 = .ok (.iconst 0, 1) := dk_3 (dk_at dksX1_level_1 13 rfl rfl)
theorem dX1_level_36 : decode cX1_level 36 = .ok (.istore 7, 2) := dk_54 7 (dk_at dksX1_level_1 14 rfl rfl)
theorem dX1_level_38 : decode cX1_level 38 = .ok (.iload 7, 2) := dk_21 7 (dk_at dksX1_level_1 16 rfl rfl)
theorem dX1_level_40 : decode cX1_level 40 = .ok (.aload_n 3, 1) := dk_45 (dk_at dksX1_level_1 18 rfl rfl)
theorem dX1_level_41 : decode cX1_level 41 = .ok (.invokevirtual 3, 3) := dk_182 0 3 (dk_at dksX1_level_1 19 rfl rfl)
theorem dX1_level_44 : decode cX1_level 44 = .ok (.if_icmp .ge 92, 3) := dk_162 0 92 (dk_at dksX1_level_2 0 rfl rfl)
theorem dX1_level_47 : decode cX1_level 47 = .ok (.iload_n 1, 1) := dk_27 (dk_at dksX1_level_2 3 rfl rfl)
theorem dX1_level_48 : decode cX1_level 48 = .ok (.ifCond .eq 18, 3) := dk_153 0 18 (dk_at dksX1_level_2 4 rfl rfl)
theorem dX1_level_51 : decode cX1_level 51 = .ok (.iload 7, 2) := dk_21 7 (dk_at dksX1_level_2 7 rfl rfl)
theorem dX1_level_53 : decode cX1_level 53 = .ok (.iload 5, 2) := dk_21 5 (dk_at dksX1_level_2 9 rfl rfl)
theorem dX1_level_55 : decode cX1_level 55 = .ok (.if_icmp .ge 7, 3) := dk_162 0 7 (dk_at dksX1_level_2 11 rfl rfl)
theorem dX1_level_58 : decode cX1_level 58 = .ok (.iconst 1, 1) := dk_4 (dk_at dksX1_level_2 14 rfl rfl)
theorem dX1_level_59 : decode cX1_level 59 = .ok (.goto 24, 3) := dk_167 0 24 (dk_at dksX1_level_2 15 rfl rfl)
theorem dX1_level_62 : decode cX1_level 62 = .ok (.iconst 0, 1) := dk_3 (dk_at dksX1_level_2 18 rfl rfl)
theorem dX1_level_63 : decode cX1_level 63 = .ok (.goto 20, 3) := dk_167 0 20 (dk_at dksX1_level_2 19 rfl rfl)
theorem dX1_level_66 : decode cX1_level 66 = .ok (.iload 7, 2) := dk_21 7 (dk_at dksX1_level_2 22 rfl rfl)
theorem dX1_level_68 : decode cX1_level 68 = .ok (.aload_n 3, 1) := dk_45 (dk_at dksX1_level_3 0 rfl rfl)
theorem dX1_level_69 : decode cX1_level 69 = .ok (.invokevirtual 3, 3) := dk_182 0 3 (dk_at dksX1_level_3 1 rfl rfl)
theorem dX1_level_72 : decode cX1_level 72 = .ok (.iload 5, 2) := dk_21 5 (dk_at dksX1_level_3 4 rfl rfl)
theorem dX1_level_74 : decode cX1_level 74 = .ok (.isub, 1) := dk_100 (dk_at dksX1_level_3 6 rfl rfl)
theorem dX1_level_75 : decode cX1_level 75 = .ok (.if_icmp .lt 7, 3) := dk_161 0 7 (dk_at dksX1_level_3 7 rfl rfl)
theorem dX1_level_78 : decode cX1_level 78 = .ok (.iconst 1, 1) := dk_4 (dk_at dksX1_level_3 10 rfl rfl)
theorem dX1_level_79 : decode cX1_level 79 = .ok (.goto 4, 3) := dk_167 0 4 (dk_at dksX1_level_3 11 rfl rfl)
theorem dX1_level_82 : decode cX1_level 82 = .ok (.iconst 0, 1) := dk_3 (dk_at dksX1_level_3 14 rfl rfl)
theorem dX1_level_83 : decode cX1_level 83 = .ok (.istore 8, 2) := dk_54 8 (dk_at dksX1_level_3 15 rfl rfl)
theorem dX1_level_85 : decode cX1_level 85 = .ok (.aload_n 3, 1) := dk_45 (dk_at dksX1_level_3 17 rfl rfl)
theorem dX1_level_86 : decode cX1_level 86 = .ok (.getfield 179, 3) := dk_180 0 179 (dk_at dksX1_level_3 18 rfl rfl)
theorem dX1_level_89 : decode cX1_level 89 = .ok (.iload 7, 2) := dk_21 7 (dk_at dksX1_level_3 21 rfl rfl)
theorem dX1_level_91 : decode cX1_level 91 = .ok (.iload 4, 2) := dk_21 4 (dk_at dksX1_level_4 0 rfl rfl)
theorem dX1_level_93 : decode cX1_level 93 = .ok (.iload 8, 2) := dk_21 8 (dk_at dksX1_level_4 2 rfl rfl)
theorem dX1_level_95 : decode cX1_level 95 = .ok (.invokestatic 120, 3) := dk_184 0 120 (dk_at dksX1_level_4 4 rfl rfl)
theorem dX1_level_98 : decode cX1_level 98 = .ok (.iadd, 1) := dk_96 (dk_at dksX1_level_4 7 rfl rfl)
theorem dX1_level_99 : decode cX1_level 99 = .ok (.iastore, 1) := dk_79 (dk_at dksX1_level_4 8 rfl rfl)
theorem dX1_level_100 : decode cX1_level 100 = .ok (.iload 6, 2) := dk_21 6 (dk_at dksX1_level_4 9 rfl rfl)
theorem dX1_level_102 : decode cX1_level 102 = .ok (.aload_n 3, 1) := dk_45 (dk_at dksX1_level_4 11 rfl rfl)
theorem dX1_level_103 : decode cX1_level 103 = .ok (.getfield 179, 3) := dk_180 0 179 (dk_at dksX1_level_4 12 rfl rfl)
theorem dX1_level_106 : decode cX1_level 106 = .ok (.iload 7, 2) := dk_21 7 (dk_at dksX1_level_4 15 rfl rfl)
theorem dX1_level_108 : decode cX1_level 108 = .ok (.iaload, 1) := dk_46 (dk_at dksX1_level_4 17 rfl rfl)
theorem dX1_level_109 : decode cX1_level 109 = .ok (.aload_n 2, 1) := dk_44 (dk_at dksX1_level_4 18 rfl rfl)
theorem dX1_level_110 : decode cX1_level 110 = .ok (.getfield 179, 3) := dk_180 0 179 (dk_at dksX1_level_4 19 rfl rfl)
theorem dX1_level_113 : decode cX1_level 113 = .ok (.iload 7, 2) := dk_21 7 (dk_at dksX1_level_4 22 rfl rfl)
theorem dX1_level_115 : decode cX1_level 115 = .ok (.iaload, 1) := dk_46 (dk_at dksX1_level_5 0 rfl rfl)
theorem dX1_level_116 : decode cX1_level 116 = .ok (.if_icmp .eq 7, 3) := dk_159 0 7 (dk_at dksX1_level_5 1 rfl rfl)
theorem dX1_level_119 : decode cX1_level 119 = .ok (.iconst 1, 1) := dk_4 (dk_at dksX1_level_5 4 rfl rfl)
theorem dX1_level_120 : decode cX1_level 120 = .ok (.goto 4, 3) := dk_167 0 4 (dk_at dksX1_level_5 5 rfl rfl)
theorem dX1_level_123 : decode cX1_level 123 = .ok (.iconst 0, 1) := dk_3 (dk_at dksX1_level_5 8 rfl rfl)
theorem dX1_level_124 : decode cX1_level 124 = .ok (.invokestatic 120, 3) := dk_184 0 120 (dk_at dksX1_level_5 9 rfl rfl)
theorem dX1_level_127 : decode cX1_level 127 = .ok (.iadd, 1) := dk_96 (dk_at dksX1_level_5 12 rfl rfl)
theorem dX1_level_128 : decode cX1_level 128 = .ok (.istore 6, 2) := dk_54 6 (dk_at dksX1_level_5 13 rfl rfl)
theorem dX1_level_130 : decode cX1_level 130 = .ok (.iinc 7 1, 3) := dk_132 7 1 (dk_at dksX1_level_5 15 rfl rfl)
theorem dX1_level_133 : decode cX1_level 133 = .ok (.goto (-95), 3) := dk_167 255 161 (dk_at dksX1_level_5 18 rfl rfl)
theorem dX1_level_136 : decode cX1_level 136 = .ok (.iload 6, 2) := dk_21 6 (dk_at dksX1_level_5 21 rfl rfl)
theorem dX1_level_138 : decode cX1_level 138 = .ok (.ireturn, 1) := dk_172 (dk_at dksX1_level_5 23 rfl rfl)
abbrev cX1_learn : ByteArray := prog_1_method_75_code
def yX1_learn : MethodName := ⟨RX1, "learn", "(I)I"⟩
def dkwX1_learn_0 : List UInt8 := [42, 27, 182, 1, 48, 77, 42, 182, 1, 102, 27, 182, 1, 54, 172]
abbrev dktX1_learn_0 : List UInt8 := dkwX1_learn_0 ++ []
theorem dksX1_learn_0 : cX1_learn.data.toList.drop 0 = dktX1_learn_0 := by decide +kernel
theorem dX1_learn_0 : decode cX1_learn 0 = .ok (.aload_n 0, 1) := dk_42 (dk_at dksX1_learn_0 0 rfl rfl)
theorem dX1_learn_1 : decode cX1_learn 1 = .ok (.iload_n 1, 1) := dk_27 (dk_at dksX1_learn_0 1 rfl rfl)
theorem dX1_learn_2 : decode cX1_learn 2 = .ok (.invokevirtual 304, 3) := dk_182 1 48 (dk_at dksX1_learn_0 2 rfl rfl)
theorem dX1_learn_5 : decode cX1_learn 5 = .ok (.astore_n 2, 1) := dk_77 (dk_at dksX1_learn_0 5 rfl rfl)
theorem dX1_learn_6 : decode cX1_learn 6 = .ok (.aload_n 0, 1) := dk_42 (dk_at dksX1_learn_0 6 rfl rfl)
theorem dX1_learn_7 : decode cX1_learn 7 = .ok (.invokevirtual 358, 3) := dk_182 1 102 (dk_at dksX1_learn_0 7 rfl rfl)
theorem dX1_learn_10 : decode cX1_learn 10 = .ok (.iload_n 1, 1) := dk_27 (dk_at dksX1_learn_0 10 rfl rfl)
theorem dX1_learn_11 : decode cX1_learn 11 = .ok (.invokevirtual 310, 3) := dk_182 1 54 (dk_at dksX1_learn_0 11 rfl rfl)
theorem dX1_learn_14 : decode cX1_learn 14 = .ok (.ireturn, 1) := dk_172 (dk_at dksX1_learn_0 14 rfl rfl)
abbrev cX1_forget : ByteArray := prog_1_method_76_code
def yX1_forget : MethodName := ⟨RX1, "forget", "()I"⟩
def dkwX1_forget_2 : List UInt8 := [61, 132, 5, 1, 167, 255, 224, 42, 182, 1, 102, 180, 0, 243, 3, 184, 1, 105, 28, 172]
abbrev dktX1_forget_2 : List UInt8 := dkwX1_forget_2 ++ []
def dkwX1_forget_1 : List UInt8 := [162, 0, 31, 45, 21, 5, 46, 54, 6, 28, 21, 6, 158, 0, 7, 4, 167, 0, 4, 3, 184, 0, 120, 96]
abbrev dktX1_forget_1 : List UInt8 := dkwX1_forget_1 ++ dktX1_forget_2
def dkwX1_forget_0 : List UInt8 := [42, 182, 0, 101, 76, 3, 61, 43, 180, 0, 243, 78, 45, 190, 54, 4, 3, 54, 5, 21, 5, 21, 4]
abbrev dktX1_forget_0 : List UInt8 := dkwX1_forget_0 ++ dktX1_forget_1
theorem dksX1_forget_0 : cX1_forget.data.toList.drop 0 = dktX1_forget_0 := by decide +kernel
theorem dksX1_forget_1 : cX1_forget.data.toList.drop 23 = dktX1_forget_1 := dk_seg dksX1_forget_0 23 rfl rfl
theorem dksX1_forget_2 : cX1_forget.data.toList.drop 47 = dktX1_forget_2 := dk_seg dksX1_forget_1 24 rfl rfl
theorem dX1_forget_0 : decode cX1_forget 0 = .ok (.aload_n 0, 1) := dk_42 (dk_at dksX1_forget_0 0 rfl rfl)
theorem dX1_forget_1 : decode cX1_forget 1 = .ok (.invokevirtual 101, 3) := dk_182 0 101 (dk_at dksX1_forget_0 1 rfl rfl)
theorem dX1_forget_4 : decode cX1_forget 4 = .ok (.astore_n 1, 1) := dk_76 (dk_at dksX1_forget_0 4 rfl rfl)
theorem dX1_forget_5 : decode cX1_forget 5 = .ok (.iconst 0, 1) := dk_3 (dk_at dksX1_forget_0 5 rfl rfl)
theorem dX1_forget_6 : decode cX1_forget 6 = .ok (.istore_n 2, 1) := dk_61 (dk_at dksX1_forget_0 6 rfl rfl)
theorem dX1_forget_7 : decode cX1_forget 7 = .ok (.aload_n 1, 1) := dk_43 (dk_at dksX1_forget_0 7 rfl rfl)
theorem dX1_forget_8 : decode cX1_forget 8 = .ok (.getfield 243, 3) := dk_180 0 243 (dk_at dksX1_forget_0 8 rfl rfl)
theorem dX1_forget_11 : decode cX1_forget 11 = .ok (.astore_n 3, 1) := dk_78 (dk_at dksX1_forget_0 11 rfl rfl)
theorem dX1_forget_12 : decode cX1_forget 12 = .ok (.aload_n 3, 1) := dk_45 (dk_at dksX1_forget_0 12 rfl rfl)
theorem dX1_forget_13 : decode cX1_forget 13 = .ok (.arraylength, 1) := dk_190 (dk_at dksX1_forget_0 13 rfl rfl)
theorem dX1_forget_14 : decode cX1_forget 14 = .ok (.istore 4, 2) := dk_54 4 (dk_at dksX1_forget_0 14 rfl rfl)
theorem dX1_forget_16 : decode cX1_forget 16 = .ok (.iconst 0, 1) := dk_3 (dk_at dksX1_forget_0 16 rfl rfl)
theorem dX1_forget_17 : decode cX1_forget 17 = .ok (.istore 5, 2) := dk_54 5 (dk_at dksX1_forget_0 17 rfl rfl)
theorem dX1_forget_19 : decode cX1_forget 19 = .ok (.iload 5, 2) := dk_21 5 (dk_at dksX1_forget_0 19 rfl rfl)
theorem dX1_forget_21 : decode cX1_forget 21 = .ok (.iload 4, 2) := dk_21 4 (dk_at dksX1_forget_0 21 rfl rfl)
theorem dX1_forget_23 : decode cX1_forget 23 = .ok (.if_icmp .ge 31, 3) := dk_162 0 31 (dk_at dksX1_forget_1 0 rfl rfl)
theorem dX1_forget_26 : decode cX1_forget 26 = .ok (.aload_n 3, 1) := dk_45 (dk_at dksX1_forget_1 3 rfl rfl)
theorem dX1_forget_27 : decode cX1_forget 27 = .ok (.iload 5, 2) := dk_21 5 (dk_at dksX1_forget_1 4 rfl rfl)
theorem dX1_forget_29 : decode cX1_forget 29 = .ok (.iaload, 1) := dk_46 (dk_at dksX1_forget_1 6 rfl rfl)
theorem dX1_forget_30 : decode cX1_forget 30 = .ok (.istore 6, 2) := dk_54 6 (dk_at dksX1_forget_1 7 rfl rfl)
theorem dX1_forget_32 : decode cX1_forget 32 = .ok (.iload_n 2, 1) := dk_28 (dk_at dksX1_forget_1 9 rfl rfl)
theorem dX1_forget_33 : decode cX1_forget 33 = .ok (.iload 6, 2) := dk_21 6 (dk_at dksX1_forget_1 10 rfl rfl)
theorem dX1_forget_35 : decode cX1_forget 35 = .ok (.ifCond .le 7, 3) := dk_158 0 7 (dk_at dksX1_forget_1 12 rfl rfl)
theorem dX1_forget_38 : decode cX1_forget 38 = .ok (.iconst 1, 1) := dk_4 (dk_at dksX1_forget_1 15 rfl rfl)
theorem dX1_forget_39 : decode cX1_forget 39 = .ok (.goto 4, 3) := dk_167 0 4 (dk_at dksX1_forget_1 16 rfl rfl)
theorem dX1_forget_42 : decode cX1_forget 42 = .ok (.iconst 0, 1) := dk_3 (dk_at dksX1_forget_1 19 rfl rfl)
theorem dX1_forget_43 : decode cX1_forget 43 = .ok (.invokestatic 120, 3) := dk_184 0 120 (dk_at dksX1_forget_1 20 rfl rfl)
theorem dX1_forget_46 : decode cX1_forget 46 = .ok (.iadd, 1) := dk_96 (dk_at dksX1_forget_1 23 rfl rfl)
theorem dX1_forget_47 : decode cX1_forget 47 = .ok (.istore_n 2, 1) := dk_61 (dk_at dksX1_forget_2 0 rfl rfl)
theorem dX1_forget_48 : decode cX1_forget 48 = .ok (.iinc 5 1, 3) := dk_132 5 1 (dk_at dksX1_forget_2 1 rfl rfl)
theorem dX1_forget_51 : decode cX1_forget 51 = .ok (.goto (-32), 3) := dk_167 255 224 (dk_at dksX1_forget_2 4 rfl rfl)
theorem dX1_forget_54 : decode cX1_forget 54 = .ok (.aload_n 0, 1) := dk_42 (dk_at dksX1_forget_2 7 rfl rfl)
theorem dX1_forget_55 : decode cX1_forget 55 = .ok (.invokevirtual 358, 3) := dk_182 1 102 (dk_at dksX1_forget_2 8 rfl rfl)
theorem dX1_forget_58 : decode cX1_forget 58 = .ok (.getfield 243, 3) := dk_180 0 243 (dk_at dksX1_forget_2 11 rfl rfl)
theorem dX1_forget_61 : decode cX1_forget 61 = .ok (.iconst 0, 1) := dk_3 (dk_at dksX1_forget_2 14 rfl rfl)
theorem dX1_forget_62 : decode cX1_forget 62 = .ok (.invokestatic 361, 3) := dk_184 1 105 (dk_at dksX1_forget_2 15 rfl rfl)
theorem dX1_forget_65 : decode cX1_forget 65 = .ok (.iload_n 2, 1) := dk_28 (dk_at dksX1_forget_2 18 rfl rfl)
theorem dX1_forget_66 : decode cX1_forget 66 = .ok (.ireturn, 1) := dk_172 (dk_at dksX1_forget_2 19 rfl rfl)
abbrev cX1_waits : ByteArray := prog_1_method_77_code
def yX1_waits : MethodName := ⟨RX1, "waits", "(I)I"⟩
def dkwX1_waits_1 : List UInt8 := [184, 0, 188, 181, 0, 127, 45, 180, 0, 127, 172]
abbrev dktX1_waits_1 : List UInt8 := dkwX1_waits_1 ++ []
def dkwX1_waits_0 : List UInt8 := [42, 182, 0, 101, 77, 27, 184, 1, 22, 42, 182, 1, 102, 78, 45, 3, 45, 180, 0, 127, 27, 100]
abbrev dktX1_waits_0 : List UInt8 := dkwX1_waits_0 ++ dktX1_waits_1
theorem dksX1_waits_0 : cX1_waits.data.toList.drop 0 = dktX1_waits_0 := by decide +kernel
theorem dksX1_waits_1 : cX1_waits.data.toList.drop 22 = dktX1_waits_1 := dk_seg dksX1_waits_0 22 rfl rfl
theorem dX1_waits_0 : decode cX1_waits 0 = .ok (.aload_n 0, 1) := dk_42 (dk_at dksX1_waits_0 0 rfl rfl)
theorem dX1_waits_1 : decode cX1_waits 1 = .ok (.invokevirtual 101, 3) := dk_182 0 101 (dk_at dksX1_waits_0 1 rfl rfl)
theorem dX1_waits_4 : decode cX1_waits 4 = .ok (.astore_n 2, 1) := dk_77 (dk_at dksX1_waits_0 4 rfl rfl)
theorem dX1_waits_5 : decode cX1_waits 5 = .ok (.iload_n 1, 1) := dk_27 (dk_at dksX1_waits_0 5 rfl rfl)
theorem dX1_waits_6 : decode cX1_waits 6 = .ok (.invokestatic 278, 3) := dk_184 1 22 (dk_at dksX1_waits_0 6 rfl rfl)
theorem dX1_waits_9 : decode cX1_waits 9 = .ok (.aload_n 0, 1) := dk_42 (dk_at dksX1_waits_0 9 rfl rfl)
theorem dX1_waits_10 : decode cX1_waits 10 = .ok (.invokevirtual 358, 3) := dk_182 1 102 (dk_at dksX1_waits_0 10 rfl rfl)
theorem dX1_waits_13 : decode cX1_waits 13 = .ok (.astore_n 3, 1) := dk_78 (dk_at dksX1_waits_0 13 rfl rfl)
theorem dX1_waits_14 : decode cX1_waits 14 = .ok (.aload_n 3, 1) := dk_45 (dk_at dksX1_waits_0 14 rfl rfl)
theorem dX1_waits_15 : decode cX1_waits 15 = .ok (.iconst 0, 1) := dk_3 (dk_at dksX1_waits_0 15 rfl rfl)
theorem dX1_waits_16 : decode cX1_waits 16 = .ok (.aload_n 3, 1) := dk_45 (dk_at dksX1_waits_0 16 rfl rfl)
theorem dX1_waits_17 : decode cX1_waits 17 = .ok (.getfield 127, 3) := dk_180 0 127 (dk_at dksX1_waits_0 17 rfl rfl)
theorem dX1_waits_20 : decode cX1_waits 20 = .ok (.iload_n 1, 1) := dk_27 (dk_at dksX1_waits_0 20 rfl rfl)
theorem dX1_waits_21 : decode cX1_waits 21 = .ok (.isub, 1) := dk_100 (dk_at dksX1_waits_0 21 rfl rfl)
theorem dX1_waits_22 : decode cX1_waits 22 = .ok (.invokestatic 188, 3) := dk_184 0 188 (dk_at dksX1_waits_1 0 rfl rfl)
theorem dX1_waits_25 : decode cX1_waits 25 = .ok (.putfield 127, 3) := dk_181 0 127 (dk_at dksX1_waits_1 3 rfl rfl)
theorem dX1_waits_28 : decode cX1_waits 28 = .ok (.aload_n 3, 1) := dk_45 (dk_at dksX1_waits_1 6 rfl rfl)
theorem dX1_waits_29 : decode cX1_waits 29 = .ok (.getfield 127, 3) := dk_180 0 127 (dk_at dksX1_waits_1 7 rfl rfl)
theorem dX1_waits_32 : decode cX1_waits 32 = .ok (.ireturn, 1) := dk_172 (dk_at dksX1_waits_1 10 rfl rfl)
abbrev cX1_turnStuck : ByteArray := prog_1_method_78_code
def yX1_turnStuck : MethodName := ⟨RX1, "turnStuck", "(I)I"⟩
def dkwX1_turnStuck_0 : List UInt8 := [42, 27, 182, 0, 175, 77, 42, 182, 1, 102, 27, 182, 1, 108, 172]
abbrev dktX1_turnStuck_0 : List UInt8 := dkwX1_turnStuck_0 ++ []
theorem dksX1_turnStuck_0 : cX1_turnStuck.data.toList.drop 0 = dktX1_turnStuck_0 := by decide +kernel
theorem dX1_turnStuck_0 : decode cX1_turnStuck 0 = .ok (.aload_n 0, 1) := dk_42 (dk_at dksX1_turnStuck_0 0 rfl rfl)
theorem dX1_turnStuck_1 : decode cX1_turnStuck 1 = .ok (.iload_n 1, 1) := dk_27 (dk_at dksX1_turnStuck_0 1 rfl rfl)
theorem dX1_turnStuck_2 : decode cX1_turnStuck 2 = .ok (.invokevirtual 175, 3) := dk_182 0 175 (dk_at dksX1_turnStuck_0 2 rfl rfl)
theorem dX1_turnStuck_5 : decode cX1_turnStuck 5 = .ok (.astore_n 2, 1) := dk_77 (dk_at dksX1_turnStuck_0 5 rfl rfl)
theorem dX1_turnStuck_6 : decode cX1_turnStuck 6 = .ok (.aload_n 0, 1) := dk_42 (dk_at dksX1_turnStuck_0 6 rfl rfl)
theorem dX1_turnStuck_7 : decode cX1_turnStuck 7 = .ok (.invokevirtual 358, 3) := dk_182 1 102 (dk_at dksX1_turnStuck_0 7 rfl rfl)
theorem dX1_turnStuck_10 : decode cX1_turnStuck 10 = .ok (.iload_n 1, 1) := dk_27 (dk_at dksX1_turnStuck_0 10 rfl rfl)
theorem dX1_turnStuck_11 : decode cX1_turnStuck 11 = .ok (.invokevirtual 364, 3) := dk_182 1 108 (dk_at dksX1_turnStuck_0 11 rfl rfl)
theorem dX1_turnStuck_14 : decode cX1_turnStuck 14 = .ok (.ireturn, 1) := dk_172 (dk_at dksX1_turnStuck_0 14 rfl rfl)
abbrev cX1_setEye : ByteArray := prog_1_method_79_code
def yX1_setEye : MethodName := ⟨RX1, "setEye", "(I)I"⟩
def dkwX1_setEye_1 : List UInt8 := [3, 181, 0, 142, 44, 180, 0, 108, 7, 46, 172]
abbrev dktX1_setEye_1 : List UInt8 := dkwX1_setEye_1 ++ []
def dkwX1_setEye_0 : List UInt8 := [42, 27, 182, 0, 175, 77, 42, 182, 1, 102, 78, 45, 180, 0, 108, 7, 27, 79, 45, 2, 181, 0, 139, 45]
abbrev dktX1_setEye_0 : List UInt8 := dkwX1_setEye_0 ++ dktX1_setEye_1
theorem dksX1_setEye_0 : cX1_setEye.data.toList.drop 0 = dktX1_setEye_0 := by decide +kernel
theorem dksX1_setEye_1 : cX1_setEye.data.toList.drop 24 = dktX1_setEye_1 := dk_seg dksX1_setEye_0 24 rfl rfl
theorem dX1_setEye_0 : decode cX1_setEye 0 = .ok (.aload_n 0, 1) := dk_42 (dk_at dksX1_setEye_0 0 rfl rfl)
theorem dX1_setEye_1 : decode cX1_setEye 1 = .ok (.iload_n 1, 1) := dk_27 (dk_at dksX1_setEye_0 1 rfl rfl)
theorem dX1_setEye_2 : decode cX1_setEye 2 = .ok (.invokevirtual 175, 3) := dk_182 0 175 (dk_at dksX1_setEye_0 2 rfl rfl)
theorem dX1_setEye_5 : decode cX1_setEye 5 = .ok (.astore_n 2, 1) := dk_77 (dk_at dksX1_setEye_0 5 rfl rfl)
theorem dX1_setEye_6 : decode cX1_setEye 6 = .ok (.aload_n 0, 1) := dk_42 (dk_at dksX1_setEye_0 6 rfl rfl)
theorem dX1_setEye_7 : decode cX1_setEye 7 = .ok (.invokevirtual 358, 3) := dk_182 1 102 (dk_at dksX1_setEye_0 7 rfl rfl)
theorem dX1_setEye_10 : decode cX1_setEye 10 = .ok (.astore_n 3, 1) := dk_78 (dk_at dksX1_setEye_0 10 rfl rfl)
theorem dX1_setEye_11 : decode cX1_setEye 11 = .ok (.aload_n 3, 1) := dk_45 (dk_at dksX1_setEye_0 11 rfl rfl)
theorem dX1_setEye_12 : decode cX1_setEye 12 = .ok (.getfield 108, 3) := dk_180 0 108 (dk_at dksX1_setEye_0 12 rfl rfl)
theorem dX1_setEye_15 : decode cX1_setEye 15 = .ok (.iconst 4, 1) := dk_7 (dk_at dksX1_setEye_0 15 rfl rfl)
theorem dX1_setEye_16 : decode cX1_setEye 16 = .ok (.iload_n 1, 1) := dk_27 (dk_at dksX1_setEye_0 16 rfl rfl)
theorem dX1_setEye_17 : decode cX1_setEye 17 = .ok (.iastore, 1) := dk_79 (dk_at dksX1_setEye_0 17 rfl rfl)
theorem dX1_setEye_18 : decode cX1_setEye 18 = .ok (.aload_n 3, 1) := dk_45 (dk_at dksX1_setEye_0 18 rfl rfl)
theorem dX1_setEye_19 : decode cX1_setEye 19 = .ok (.iconst (-1), 1) := dk_2 (dk_at dksX1_setEye_0 19 rfl rfl)
theorem dX1_setEye_20 : decode cX1_setEye 20 = .ok (.putfield 139, 3) := dk_181 0 139 (dk_at dksX1_setEye_0 20 rfl rfl)
theorem dX1_setEye_23 : decode cX1_setEye 23 = .ok (.aload_n 3, 1) := dk_45 (dk_at dksX1_setEye_0 23 rfl rfl)
theorem dX1_setEye_24 : decode cX1_setEye 24 = .ok (.iconst 0, 1) := dk_3 (dk_at dksX1_setEye_1 0 rfl rfl)
theorem dX1_setEye_25 : decode cX1_setEye 25 = .ok (.putfield 142, 3) := dk_181 0 142 (dk_at dksX1_setEye_1 1 rfl rfl)
theorem dX1_setEye_28 : decode cX1_setEye 28 = .ok (.aload_n 2, 1) := dk_44 (dk_at dksX1_setEye_1 4 rfl rfl)
theorem dX1_setEye_29 : decode cX1_setEye 29 = .ok (.getfield 108, 3) := dk_180 0 108 (dk_at dksX1_setEye_1 5 rfl rfl)
theorem dX1_setEye_32 : decode cX1_setEye 32 = .ok (.iconst 4, 1) := dk_7 (dk_at dksX1_setEye_1 8 rfl rfl)
theorem dX1_setEye_33 : decode cX1_setEye 33 = .ok (.iaload, 1) := dk_46 (dk_at dksX1_setEye_1 9 rfl rfl)
theorem dX1_setEye_34 : decode cX1_setEye 34 = .ok (.ireturn, 1) := dk_172 (dk_at dksX1_setEye_1 10 rfl rfl)
abbrev cX1_set : ByteArray := prog_1_method_80_code
def yX1_set : MethodName := ⟨RX1, "set", "(II)I"⟩
def dkwX1_set_2 : List UInt8 := [27, 28, 79, 45, 180, 0, 108, 27, 46, 172]
abbrev dktX1_set_2 : List UInt8 := dkwX1_set_2 ++ []
def dkwX1_set_1 : List UInt8 := [184, 1, 114, 184, 0, 49, 153, 0, 7, 4, 167, 0, 4, 3, 184, 0, 105, 42, 182, 1, 102, 180, 0, 108]
abbrev dktX1_set_1 : List UInt8 := dkwX1_set_1 ++ dktX1_set_2
def dkwX1_set_0 : List UInt8 := [42, 182, 0, 101, 78, 27, 16, 6, 16, 8, 184, 0, 49, 153, 0, 23, 28, 27, 184, 1, 111, 45, 27]
abbrev dktX1_set_0 : List UInt8 := dkwX1_set_0 ++ dktX1_set_1
theorem dksX1_set_0 : cX1_set.data.toList.drop 0 = dktX1_set_0 := by decide +kernel
theorem dksX1_set_1 : cX1_set.data.toList.drop 23 = dktX1_set_1 := dk_seg dksX1_set_0 23 rfl rfl
theorem dksX1_set_2 : cX1_set.data.toList.drop 47 = dktX1_set_2 := dk_seg dksX1_set_1 24 rfl rfl
theorem dX1_set_0 : decode cX1_set 0 = .ok (.aload_n 0, 1) := dk_42 (dk_at dksX1_set_0 0 rfl rfl)
theorem dX1_set_1 : decode cX1_set 1 = .ok (.invokevirtual 101, 3) := dk_182 0 101 (dk_at dksX1_set_0 1 rfl rfl)
theorem dX1_set_4 : decode cX1_set 4 = .ok (.astore_n 3, 1) := dk_78 (dk_at dksX1_set_0 4 rfl rfl)
theorem dX1_set_5 : decode cX1_set 5 = .ok (.iload_n 1, 1) := dk_27 (dk_at dksX1_set_0 5 rfl rfl)
theorem dX1_set_6 : decode cX1_set 6 = .ok (.bipush 6, 2) := dk_16 6 (dk_at dksX1_set_0 6 rfl rfl)
theorem dX1_set_8 : decode cX1_set 8 = .ok (.bipush 8, 2) := dk_16 8 (dk_at dksX1_set_0 8 rfl rfl)
theorem dX1_set_10 : decode cX1_set 10 = .ok (.invokestatic 49, 3) := dk_184 0 49 (dk_at dksX1_set_0 10 rfl rfl)
theorem dX1_set_13 : decode cX1_set 13 = .ok (.ifCond .eq 23, 3) := dk_153 0 23 (dk_at dksX1_set_0 13 rfl rfl)
theorem dX1_set_16 : decode cX1_set 16 = .ok (.iload_n 2, 1) := dk_28 (dk_at dksX1_set_0 16 rfl rfl)
theorem dX1_set_17 : decode cX1_set 17 = .ok (.iload_n 1, 1) := dk_27 (dk_at dksX1_set_0 17 rfl rfl)
theorem dX1_set_18 : decode cX1_set 18 = .ok (.invokestatic 367, 3) := dk_184 1 111 (dk_at dksX1_set_0 18 rfl rfl)
theorem dX1_set_21 : decode cX1_set 21 = .ok (.aload_n 3, 1) := dk_45 (dk_at dksX1_set_0 21 rfl rfl)
theorem dX1_set_22 : decode cX1_set 22 = .ok (.iload_n 1, 1) := dk_27 (dk_at dksX1_set_0 22 rfl rfl)
theorem dX1_set_23 : decode cX1_set 23 = .ok (.invokestatic 370, 3) := dk_184 1 114 (dk_at dksX1_set_1 0 rfl rfl)
theorem dX1_set_26 : decode cX1_set 26 = .ok (.invokestatic 49, 3) := dk_184 0 49 (dk_at dksX1_set_1 3 rfl rfl)
theorem dX1_set_29 : decode cX1_set 29 = .ok (.ifCond .eq 7, 3) := dk_153 0 7 (dk_at dksX1_set_1 6 rfl rfl)
theorem dX1_set_32 : decode cX1_set 32 = .ok (.iconst 1, 1) := dk_4 (dk_at dksX1_set_1 9 rfl rfl)
theorem dX1_set_33 : decode cX1_set 33 = .ok (.goto 4, 3) := dk_167 0 4 (dk_at dksX1_set_1 10 rfl rfl)
theorem dX1_set_36 : decode cX1_set 36 = .ok (.iconst 0, 1) := dk_3 (dk_at dksX1_set_1 13 rfl rfl)
theorem dX1_set_37 : decode cX1_set 37 = .ok (.invokestatic 105, 3) := dk_184 0 105 (dk_at dksX1_set_1 14 rfl rfl)
theorem dX1_set_40 : decode cX1_set 40 = .ok (.aload_n 0, 1) := dk_42 (dk_at dksX1_set_1 17 rfl rfl)
theorem dX1_set_41 : decode cX1_set 41 = .ok (.invokevirtual 358, 3) := dk_182 1 102 (dk_at dksX1_set_1 18 rfl rfl)
theorem dX1_set_44 : decode cX1_set 44 = .ok (.getfield 108, 3) := dk_180 0 108 (dk_at dksX1_set_1 21 rfl rfl)
theorem dX1_set_47 : decode cX1_set 47 = .ok (.iload_n 1, 1) := dk_27 (dk_at dksX1_set_2 0 rfl rfl)
theorem dX1_set_48 : decode cX1_set 48 = .ok (.iload_n 2, 1) := dk_28 (dk_at dksX1_set_2 1 rfl rfl)
theorem dX1_set_49 : decode cX1_set 49 = .ok (.iastore, 1) := dk_79 (dk_at dksX1_set_2 2 rfl rfl)
theorem dX1_set_50 : decode cX1_set 50 = .ok (.aload_n 3, 1) := dk_45 (dk_at dksX1_set_2 3 rfl rfl)
theorem dX1_set_51 : decode cX1_set 51 = .ok (.getfield 108, 3) := dk_180 0 108 (dk_at dksX1_set_2 4 rfl rfl)
theorem dX1_set_54 : decode cX1_set 54 = .ok (.iload_n 1, 1) := dk_27 (dk_at dksX1_set_2 7 rfl rfl)
theorem dX1_set_55 : decode cX1_set 55 = .ok (.iaload, 1) := dk_46 (dk_at dksX1_set_2 8 rfl rfl)
theorem dX1_set_56 : decode cX1_set 56 = .ok (.ireturn, 1) := dk_172 (dk_at dksX1_set_2 9 rfl rfl)
abbrev cX1_undo : ByteArray := prog_1_method_81_code
def yX1_undo : MethodName := ⟨RX1, "undo", "()I"⟩
def dkwX1_undo_1 : List UInt8 := [180, 0, 28, 185, 1, 121, 1, 0, 192, 0, 4, 181, 0, 66, 42, 180, 0, 28, 185, 1, 94, 1, 0, 172]
abbrev dktX1_undo_1 : List UInt8 := dkwX1_undo_1 ++ []
def dkwX1_undo_0 : List UInt8 := [42, 180, 0, 28, 185, 1, 118, 1, 0, 153, 0, 11, 187, 0, 98, 89, 183, 0, 100, 191, 42, 42]
abbrev dktX1_undo_0 : List UInt8 := dkwX1_undo_0 ++ dktX1_undo_1
theorem dksX1_undo_0 : cX1_undo.data.toList.drop 0 = dktX1_undo_0 := by decide +kernel
theorem dksX1_undo_1 : cX1_undo.data.toList.drop 22 = dktX1_undo_1 := dk_seg dksX1_undo_0 22 rfl rfl
theorem dX1_undo_0 : decode cX1_undo 0 = .ok (.aload_n 0, 1) := dk_42 (dk_at dksX1_undo_0 0 rfl rfl)
theorem dX1_undo_1 : decode cX1_undo 1 = .ok (.getfield 28, 3) := dk_180 0 28 (dk_at dksX1_undo_0 1 rfl rfl)
theorem dX1_undo_4 : decode cX1_undo 4 = .ok (.invokeinterface 374 1, 5) := by decide +kernel
theorem dX1_undo_9 : decode cX1_undo 9 = .ok (.ifCond .eq 11, 3) := dk_153 0 11 (dk_at dksX1_undo_0 9 rfl rfl)
theorem dX1_undo_12 : decode cX1_undo 12 = .ok (.new 98, 3) := dk_187 0 98 (dk_at dksX1_undo_0 12 rfl rfl)
theorem dX1_undo_15 : decode cX1_undo 15 = .ok (.dup, 1) := dk_89 (dk_at dksX1_undo_0 15 rfl rfl)
theorem dX1_undo_16 : decode cX1_undo 16 = .ok (.invokespecial 100, 3) := dk_183 0 100 (dk_at dksX1_undo_0 16 rfl rfl)
theorem dX1_undo_19 : decode cX1_undo 19 = .ok (.athrow, 1) := dk_191 (dk_at dksX1_undo_0 19 rfl rfl)
theorem dX1_undo_20 : decode cX1_undo 20 = .ok (.aload_n 0, 1) := dk_42 (dk_at dksX1_undo_0 20 rfl rfl)
theorem dX1_undo_21 : decode cX1_undo 21 = .ok (.aload_n 0, 1) := dk_42 (dk_at dksX1_undo_0 21 rfl rfl)
theorem dX1_undo_22 : decode cX1_undo 22 = .ok (.getfield 28, 3) := dk_180 0 28 (dk_at dksX1_undo_1 0 rfl rfl)
theorem dX1_undo_25 : decode cX1_undo 25 = .ok (.invokeinterface 377 1, 5) := by decide +kernel
theorem dX1_undo_30 : decode cX1_undo 30 = .ok (.checkcast 4, 3) := dk_192 0 4 (dk_at dksX1_undo_1 8 rfl rfl)
theorem dX1_undo_33 : decode cX1_undo 33 = .ok (.putfield 66, 3) := dk_181 0 66 (dk_at dksX1_undo_1 11 rfl rfl)
theorem dX1_undo_36 : decode cX1_undo 36 = .ok (.aload_n 0, 1) := dk_42 (dk_at dksX1_undo_1 14 rfl rfl)
theorem dX1_undo_37 : decode cX1_undo 37 = .ok (.getfield 28, 3) := dk_180 0 28 (dk_at dksX1_undo_1 15 rfl rfl)
theorem dX1_undo_40 : decode cX1_undo 40 = .ok (.invokeinterface 350 1, 5) := by decide +kernel
theorem dX1_undo_45 : decode cX1_undo 45 = .ok (.ireturn, 1) := dk_172 (dk_at dksX1_undo_1 23 rfl rfl)
abbrev cX1_save : ByteArray := prog_1_method_83_code
def yX1_save : MethodName := ⟨RX1, "save", "(I)I"⟩
def dkwX1_save_1 : List UInt8 := [183, 0, 195, 83, 44, 182, 0, 124, 172]
abbrev dktX1_save_1 : List UInt8 := dkwX1_save_1 ++ []
def dkwX1_save_0 : List UInt8 := [42, 182, 0, 101, 77, 27, 3, 4, 184, 0, 49, 184, 0, 53, 42, 180, 0, 32, 27, 187, 0, 4, 89, 44]
abbrev dktX1_save_0 : List UInt8 := dkwX1_save_0 ++ dktX1_save_1
theorem dksX1_save_0 : cX1_save.data.toList.drop 0 = dktX1_save_0 := by decide +kernel
theorem dksX1_save_1 : cX1_save.data.toList.drop 24 = dktX1_save_1 := dk_seg dksX1_save_0 24 rfl rfl
theorem dX1_save_0 : decode cX1_save 0 = .ok (.aload_n 0, 1) := dk_42 (dk_at dksX1_save_0 0 rfl rfl)
theorem dX1_save_1 : decode cX1_save 1 = .ok (.invokevirtual 101, 3) := dk_182 0 101 (dk_at dksX1_save_0 1 rfl rfl)
theorem dX1_save_4 : decode cX1_save 4 = .ok (.astore_n 2, 1) := dk_77 (dk_at dksX1_save_0 4 rfl rfl)
theorem dX1_save_5 : decode cX1_save 5 = .ok (.iload_n 1, 1) := dk_27 (dk_at dksX1_save_0 5 rfl rfl)
theorem dX1_save_6 : decode cX1_save 6 = .ok (.iconst 0, 1) := dk_3 (dk_at dksX1_save_0 6 rfl rfl)
theorem dX1_save_7 : decode cX1_save 7 = .ok (.iconst 1, 1) := dk_4 (dk_at dksX1_save_0 7 rfl rfl)
theorem dX1_save_8 : decode cX1_save 8 = .ok (.invokestatic 49, 3) := dk_184 0 49 (dk_at dksX1_save_0 8 rfl rfl)
theorem dX1_save_11 : decode cX1_save 11 = .ok (.invokestatic 53, 3) := dk_184 0 53 (dk_at dksX1_save_0 11 rfl rfl)
theorem dX1_save_14 : decode cX1_save 14 = .ok (.aload_n 0, 1) := dk_42 (dk_at dksX1_save_0 14 rfl rfl)
theorem dX1_save_15 : decode cX1_save 15 = .ok (.getfield 32, 3) := dk_180 0 32 (dk_at dksX1_save_0 15 rfl rfl)
theorem dX1_save_18 : decode cX1_save 18 = .ok (.iload_n 1, 1) := dk_27 (dk_at dksX1_save_0 18 rfl rfl)
theorem dX1_save_19 : decode cX1_save 19 = .ok (.new 4, 3) := dk_187 0 4 (dk_at dksX1_save_0 19 rfl rfl)
theorem dX1_save_22 : decode cX1_save 22 = .ok (.dup, 1) := dk_89 (dk_at dksX1_save_0 22 rfl rfl)
theorem dX1_save_23 : decode cX1_save 23 = .ok (.aload_n 2, 1) := dk_44 (dk_at dksX1_save_0 23 rfl rfl)
theorem dX1_save_24 : decode cX1_save 24 = .ok (.invokespecial 195, 3) := dk_183 0 195 (dk_at dksX1_save_1 0 rfl rfl)
theorem dX1_save_27 : decode cX1_save 27 = .ok (.aastore, 1) := dk_83 (dk_at dksX1_save_1 3 rfl rfl)
theorem dX1_save_28 : decode cX1_save 28 = .ok (.aload_n 2, 1) := dk_44 (dk_at dksX1_save_1 4 rfl rfl)
theorem dX1_save_29 : decode cX1_save 29 = .ok (.invokevirtual 124, 3) := dk_182 0 124 (dk_at dksX1_save_1 5 rfl rfl)
theorem dX1_save_32 : decode cX1_save 32 = .ok (.ireturn, 1) := dk_172 (dk_at dksX1_save_1 8 rfl rfl)
abbrev cX1_restore : ByteArray := prog_1_method_84_code
def yX1_restore : MethodName := ⟨RX1, "restore", "(I)I"⟩
def dkwX1_restore_2 : List UInt8 := [180, 0, 28, 185, 0, 84, 1, 0, 42, 180, 0, 66, 182, 0, 124, 172]
abbrev dktX1_restore_2 : List UInt8 := dkwX1_restore_2 ++ []
def dkwX1_restore_1 : List UInt8 := [183, 0, 100, 191, 42, 187, 0, 4, 89, 42, 180, 0, 32, 27, 50, 183, 0, 195, 181, 0, 66, 42]
abbrev dktX1_restore_1 : List UInt8 := dkwX1_restore_1 ++ dktX1_restore_2
def dkwX1_restore_0 : List UInt8 := [27, 3, 4, 184, 0, 49, 184, 0, 53, 42, 180, 0, 32, 27, 50, 199, 0, 11, 187, 0, 98, 89]
abbrev dktX1_restore_0 : List UInt8 := dkwX1_restore_0 ++ dktX1_restore_1
theorem dksX1_restore_0 : cX1_restore.data.toList.drop 0 = dktX1_restore_0 := by decide +kernel
theorem dksX1_restore_1 : cX1_restore.data.toList.drop 22 = dktX1_restore_1 := dk_seg dksX1_restore_0 22 rfl rfl
theorem dksX1_restore_2 : cX1_restore.data.toList.drop 44 = dktX1_restore_2 := dk_seg dksX1_restore_1 22 rfl rfl
theorem dX1_restore_0 : decode cX1_restore 0 = .ok (.iload_n 1, 1) := dk_27 (dk_at dksX1_restore_0 0 rfl rfl)
theorem dX1_restore_1 : decode cX1_restore 1 = .ok (.iconst 0, 1) := dk_3 (dk_at dksX1_restore_0 1 rfl rfl)
theorem dX1_restore_2 : decode cX1_restore 2 = .ok (.iconst 1, 1) := dk_4 (dk_at dksX1_restore_0 2 rfl rfl)
theorem dX1_restore_3 : decode cX1_restore 3 = .ok (.invokestatic 49, 3) := dk_184 0 49 (dk_at dksX1_restore_0 3 rfl rfl)
theorem dX1_restore_6 : decode cX1_restore 6 = .ok (.invokestatic 53, 3) := dk_184 0 53 (dk_at dksX1_restore_0 6 rfl rfl)
theorem dX1_restore_9 : decode cX1_restore 9 = .ok (.aload_n 0, 1) := dk_42 (dk_at dksX1_restore_0 9 rfl rfl)
theorem dX1_restore_10 : decode cX1_restore 10 = .ok (.getfield 32, 3) := dk_180 0 32 (dk_at dksX1_restore_0 10 rfl rfl)
theorem dX1_restore_13 : decode cX1_restore 13 = .ok (.iload_n 1, 1) := dk_27 (dk_at dksX1_restore_0 13 rfl rfl)
theorem dX1_restore_14 : decode cX1_restore 14 = .ok (.aaload, 1) := dk_50 (dk_at dksX1_restore_0 14 rfl rfl)
theorem dX1_restore_15 : decode cX1_restore 15 = .ok (.ifnonnull 11, 3) := dk_199 0 11 (dk_at dksX1_restore_0 15 rfl rfl)
theorem dX1_restore_18 : decode cX1_restore 18 = .ok (.new 98, 3) := dk_187 0 98 (dk_at dksX1_restore_0 18 rfl rfl)
theorem dX1_restore_21 : decode cX1_restore 21 = .ok (.dup, 1) := dk_89 (dk_at dksX1_restore_0 21 rfl rfl)
theorem dX1_restore_22 : decode cX1_restore 22 = .ok (.invokespecial 100, 3) := dk_183 0 100 (dk_at dksX1_restore_1 0 rfl rfl)
theorem dX1_restore_25 : decode cX1_restore 25 = .ok (.athrow, 1) := dk_191 (dk_at dksX1_restore_1 3 rfl rfl)
theorem dX1_restore_26 : decode cX1_restore 26 = .ok (.aload_n 0, 1) := dk_42 (dk_at dksX1_restore_1 4 rfl rfl)
theorem dX1_restore_27 : decode cX1_restore 27 = .ok (.new 4, 3) := dk_187 0 4 (dk_at dksX1_restore_1 5 rfl rfl)
theorem dX1_restore_30 : decode cX1_restore 30 = .ok (.dup, 1) := dk_89 (dk_at dksX1_restore_1 8 rfl rfl)
theorem dX1_restore_31 : decode cX1_restore 31 = .ok (.aload_n 0, 1) := dk_42 (dk_at dksX1_restore_1 9 rfl rfl)
theorem dX1_restore_32 : decode cX1_restore 32 = .ok (.getfield 32, 3) := dk_180 0 32 (dk_at dksX1_restore_1 10 rfl rfl)
theorem dX1_restore_35 : decode cX1_restore 35 = .ok (.iload_n 1, 1) := dk_27 (dk_at dksX1_restore_1 13 rfl rfl)
theorem dX1_restore_36 : decode cX1_restore 36 = .ok (.aaload, 1) := dk_50 (dk_at dksX1_restore_1 14 rfl rfl)
theorem dX1_restore_37 : decode cX1_restore 37 = .ok (.invokespecial 195, 3) := dk_183 0 195 (dk_at dksX1_restore_1 15 rfl rfl)
theorem dX1_restore_40 : decode cX1_restore 40 = .ok (.putfield 66, 3) := dk_181 0 66 (dk_at dksX1_restore_1 18 rfl rfl)
theorem dX1_restore_43 : decode cX1_restore 43 = .ok (.aload_n 0, 1) := dk_42 (dk_at dksX1_restore_1 21 rfl rfl)
theorem dX1_restore_44 : decode cX1_restore 44 = .ok (.getfield 28, 3) := dk_180 0 28 (dk_at dksX1_restore_2 0 rfl rfl)
theorem dX1_restore_47 : decode cX1_restore 47 = .ok (.invokeinterface 84 1, 5) := by decide +kernel
theorem dX1_restore_52 : decode cX1_restore 52 = .ok (.aload_n 0, 1) := dk_42 (dk_at dksX1_restore_2 8 rfl rfl)
theorem dX1_restore_53 : decode cX1_restore 53 = .ok (.getfield 66, 3) := dk_180 0 66 (dk_at dksX1_restore_2 9 rfl rfl)
theorem dX1_restore_56 : decode cX1_restore 56 = .ok (.invokevirtual 124, 3) := dk_182 0 124 (dk_at dksX1_restore_2 12 rfl rfl)
theorem dX1_restore_59 : decode cX1_restore 59 = .ok (.ireturn, 1) := dk_172 (dk_at dksX1_restore_2 15 rfl rfl)
theorem q95 : (Jvm.Cond.initialized "PingEye") ∈ lw_all := lw_g (lw_at lw_m1 1 rfl) rfl
theorem q131 : (Jvm.Cond.instantiable "PingEye" (8 : Nat)) ∈ lw_all := lw_g (lw_at lw_m1 37 rfl) rfl
theorem q133 : (Jvm.Cond.instanceMethod ({ cls := "PingEye", name := "<init>", desc := "()V" } : Jvm.MethodName)) ∈ lw_all := lw_g (lw_at lw_m1 39 rfl) rfl
theorem q134 : (Jvm.Cond.code ({ cls := "PingEye", name := "<init>", desc := "()V" } : Jvm.MethodName) prog_1_method_5_code (1 : Nat) (Option.none : Option Jvm.ClassFile.FieldType)) ∈ lw_all := lw_g (lw_at lw_m1 40 rfl) rfl
theorem q135 : (Jvm.Cond.methodLink "PingEye" (9 : Nat) ({ cls := "java/lang/Object", name := "<init>", desc := "()V" } : Jvm.MethodName)) ∈ lw_all := lw_g (lw_at lw_m1 41 rfl) rfl
theorem q138 : (Jvm.Cond.classLink "PingEye" (23 : Nat) "java/util/ArrayDeque") ∈ lw_all := lw_g (lw_at lw_m1 44 rfl) rfl
theorem q140 : (Jvm.Cond.methodLink "PingEye" (25 : Nat) ({ cls := "java/util/ArrayDeque", name := "<init>", desc := "(I)V" } : Jvm.MethodName)) ∈ lw_all := lw_g (lw_at lw_m1 46 rfl) rfl
theorem q161 : (Jvm.Cond.classLink "PingEye" (4 : Nat) "PingEye$Silo") ∈ lw_all := lw_g (lw_at lw_m1 67 rfl) rfl
theorem q163 : (Jvm.Cond.stringRef "PingEye" (36 : Nat) "") ∈ lw_tbl := lw_at lw_m1 69 rfl
theorem q165 : (Jvm.Cond.fieldLink "PingEye" (15 : Nat) "PingEye" "buffer" "[B") ∈ lw_all := lw_g (lw_at lw_m1 71 rfl) rfl
theorem q167 : (Jvm.Cond.fieldLink "PingEye" (42 : Nat) "PingEye" "buffered" "I") ∈ lw_all := lw_g (lw_at lw_m1 73 rfl) rfl
theorem q169 : (Jvm.Cond.fieldLink "PingEye" (75 : Nat) "PingEye" "parseError" "I") ∈ lw_all := lw_g (lw_at lw_m1 75 rfl) rfl
theorem q171 : (Jvm.Cond.fieldLink "PingEye" (19 : Nat) "PingEye" "errorPosition" "I") ∈ lw_all := lw_g (lw_at lw_m1 77 rfl) rfl
theorem q172 : (Jvm.Cond.fieldLink "PingEye" (66 : Nat) "PingEye" "now" "LPingEye$Silo;") ∈ lw_all := lw_g (lw_at lw_m1 78 rfl) rfl
theorem q173 : (Jvm.Cond.fieldLink "PingEye" (28 : Nat) "PingEye" "undos" "Ljava/util/Deque;") ∈ lw_all := lw_g (lw_at lw_m1 79 rfl) rfl
theorem q174 : (Jvm.Cond.fieldLink "PingEye" (32 : Nat) "PingEye" "saved" "[LPingEye$Silo;") ∈ lw_all := lw_g (lw_at lw_m1 80 rfl) rfl
theorem q175 : (Jvm.Cond.fieldLink "PingEye" (38 : Nat) "PingEye" "written" "Ljava/lang/String;") ∈ lw_all := lw_g (lw_at lw_m1 81 rfl) rfl
theorem q176 : (Jvm.Cond.laysFinal "PingEye" "PingEye" "buffer" "[B") ∈ lw_all := lw_g (lw_at lw_m1 82 rfl) rfl
theorem q177 : (Jvm.Cond.soleField "PingEye" "buffer") ∈ lw_all := lw_g (lw_at lw_m1 83 rfl) rfl
theorem q178 : (Jvm.Cond.lays "PingEye" "PingEye" "buffered" "I") ∈ lw_all := lw_g (lw_at lw_m1 84 rfl) rfl
theorem q179 : (Jvm.Cond.soleField "PingEye" "buffered") ∈ lw_all := lw_g (lw_at lw_m1 85 rfl) rfl
theorem q180 : (Jvm.Cond.lays "PingEye" "PingEye" "parseError" "I") ∈ lw_all := lw_g (lw_at lw_m1 86 rfl) rfl
theorem q181 : (Jvm.Cond.soleField "PingEye" "parseError") ∈ lw_all := lw_g (lw_at lw_m1 87 rfl) rfl
theorem q182 : (Jvm.Cond.lays "PingEye" "PingEye" "errorPosition" "I") ∈ lw_all := lw_g (lw_at lw_m1 88 rfl) rfl
theorem q183 : (Jvm.Cond.soleField "PingEye" "errorPosition") ∈ lw_all := lw_g (lw_at lw_m1 89 rfl) rfl
theorem q184 : (Jvm.Cond.lays "PingEye" "PingEye" "now" "LPingEye$Silo;") ∈ lw_all := lw_g (lw_at lw_m1 90 rfl) rfl
theorem q185 : (Jvm.Cond.soleField "PingEye" "now") ∈ lw_all := lw_g (lw_at lw_m1 91 rfl) rfl
theorem q186 : (Jvm.Cond.laysFinal "PingEye" "PingEye" "undos" "Ljava/util/Deque;") ∈ lw_all := lw_g (lw_at lw_m1 92 rfl) rfl
theorem q187 : (Jvm.Cond.soleField "PingEye" "undos") ∈ lw_all := lw_g (lw_at lw_m1 93 rfl) rfl
theorem q188 : (Jvm.Cond.laysFinal "PingEye" "PingEye" "saved" "[LPingEye$Silo;") ∈ lw_all := lw_g (lw_at lw_m1 94 rfl) rfl
theorem q189 : (Jvm.Cond.soleField "PingEye" "saved") ∈ lw_all := lw_g (lw_at lw_m1 95 rfl) rfl
theorem q190 : (Jvm.Cond.lays "PingEye" "PingEye" "written" "Ljava/lang/String;") ∈ lw_all := lw_g (lw_at lw_m1 96 rfl) rfl
theorem q191 : (Jvm.Cond.soleField "PingEye" "written") ∈ lw_all := lw_g (lw_at lw_m1 97 rfl) rfl
theorem q192 : (Jvm.Cond.superclass "PingEye" "java/lang/Object") ∈ lw_all := lw_g (lw_at lw_m1 98 rfl) rfl
theorem q194 : (Jvm.Cond.instanceMethod ({ cls := "PingEye", name := "append", desc := "(IIIII)I" } : Jvm.MethodName)) ∈ lw_all := lw_g (lw_at lw_m1 100 rfl) rfl
theorem q195 : (Jvm.Cond.selects "PingEye" ({ cls := "PingEye", name := "append", desc := "(IIIII)I" } : Jvm.MethodName) ({ cls := "PingEye", name := "append", desc := "(IIIII)I" } : Jvm.MethodName)) ∈ lw_all := lw_g (lw_at lw_m1 101 rfl) rfl
theorem q196 : (Jvm.Cond.code ({ cls := "PingEye", name := "append", desc := "(IIIII)I" } : Jvm.MethodName) prog_1_method_6_code (6 : Nat) (Option.some Jvm.ClassFile.FieldType.int)) ∈ lw_all := lw_g (lw_at lw_m1 102 rfl) rfl
theorem q197 : (Jvm.Cond.methodLink "PingEye" (45 : Nat) ({ cls := "PingEye", name := "puts", desc := "([I)V" } : Jvm.MethodName)) ∈ lw_all := lw_g (lw_at lw_m1 103 rfl) rfl
theorem q198 : (Jvm.Cond.privateMethod ({ cls := "PingEye", name := "puts", desc := "([I)V" } : Jvm.MethodName)) ∈ lw_tbl := lw_at lw_m1 104 rfl
theorem q199 : (Jvm.Cond.instanceMethod ({ cls := "PingEye", name := "puts", desc := "([I)V" } : Jvm.MethodName)) ∈ lw_all := lw_g (lw_at lw_m1 105 rfl) rfl
theorem q200 : (Jvm.Cond.code ({ cls := "PingEye", name := "puts", desc := "([I)V" } : Jvm.MethodName) prog_1_method_7_code (7 : Nat) (Option.none : Option Jvm.ClassFile.FieldType)) ∈ lw_all := lw_g (lw_at lw_m1 106 rfl) rfl
theorem q203 : (Jvm.Cond.instanceMethod ({ cls := "PingEye", name := "parseError", desc := "()I" } : Jvm.MethodName)) ∈ lw_all := lw_g (lw_at lw_m1 109 rfl) rfl
theorem q204 : (Jvm.Cond.selects "PingEye" ({ cls := "PingEye", name := "parseError", desc := "()I" } : Jvm.MethodName) ({ cls := "PingEye", name := "parseError", desc := "()I" } : Jvm.MethodName)) ∈ lw_all := lw_g (lw_at lw_m1 110 rfl) rfl
theorem q205 : (Jvm.Cond.code ({ cls := "PingEye", name := "parseError", desc := "()I" } : Jvm.MethodName) prog_1_method_9_code (1 : Nat) (Option.some Jvm.ClassFile.FieldType.int)) ∈ lw_all := lw_g (lw_at lw_m1 111 rfl) rfl
theorem q207 : (Jvm.Cond.instanceMethod ({ cls := "PingEye", name := "errorPosition", desc := "()I" } : Jvm.MethodName)) ∈ lw_all := lw_g (lw_at lw_m1 113 rfl) rfl
theorem q208 : (Jvm.Cond.selects "PingEye" ({ cls := "PingEye", name := "errorPosition", desc := "()I" } : Jvm.MethodName) ({ cls := "PingEye", name := "errorPosition", desc := "()I" } : Jvm.MethodName)) ∈ lw_all := lw_g (lw_at lw_m1 114 rfl) rfl
theorem q209 : (Jvm.Cond.code ({ cls := "PingEye", name := "errorPosition", desc := "()I" } : Jvm.MethodName) prog_1_method_10_code (1 : Nat) (Option.some Jvm.ClassFile.FieldType.int)) ∈ lw_all := lw_g (lw_at lw_m1 115 rfl) rfl
theorem q211 : (Jvm.Cond.instanceMethod ({ cls := "PingEye", name := "buffered", desc := "()I" } : Jvm.MethodName)) ∈ lw_all := lw_g (lw_at lw_m1 117 rfl) rfl
theorem q212 : (Jvm.Cond.selects "PingEye" ({ cls := "PingEye", name := "buffered", desc := "()I" } : Jvm.MethodName) ({ cls := "PingEye", name := "buffered", desc := "()I" } : Jvm.MethodName)) ∈ lw_all := lw_g (lw_at lw_m1 118 rfl) rfl
theorem q213 : (Jvm.Cond.code ({ cls := "PingEye", name := "buffered", desc := "()I" } : Jvm.MethodName) prog_1_method_11_code (1 : Nat) (Option.some Jvm.ClassFile.FieldType.int)) ∈ lw_all := lw_g (lw_at lw_m1 119 rfl) rfl
theorem q215 : (Jvm.Cond.instanceMethod ({ cls := "PingEye", name := "undoable", desc := "()I" } : Jvm.MethodName)) ∈ lw_all := lw_g (lw_at lw_m1 121 rfl) rfl
theorem q216 : (Jvm.Cond.selects "PingEye" ({ cls := "PingEye", name := "undoable", desc := "()I" } : Jvm.MethodName) ({ cls := "PingEye", name := "undoable", desc := "()I" } : Jvm.MethodName)) ∈ lw_all := lw_g (lw_at lw_m1 122 rfl) rfl
theorem q217 : (Jvm.Cond.code ({ cls := "PingEye", name := "undoable", desc := "()I" } : Jvm.MethodName) prog_1_method_82_code (1 : Nat) (Option.some Jvm.ClassFile.FieldType.int)) ∈ lw_all := lw_g (lw_at lw_m1 123 rfl) rfl
theorem q218 : (Jvm.Cond.interfaceEntry "PingEye" (350 : Nat)) ∈ lw_tbl := lw_at lw_m1 124 rfl
theorem q219 : (Jvm.Cond.methodLink "PingEye" (350 : Nat) ({ cls := "java/util/Deque", name := "size", desc := "()I" } : Jvm.MethodName)) ∈ lw_all := lw_g (lw_at lw_m1 125 rfl) rfl
theorem q313 : (Jvm.Cond.instanceMethod ({ cls := "PingEye", name := "load", desc := "(I)I" } : Jvm.MethodName)) ∈ lw_all := lw_g (lw_at lw_m1 219 rfl) rfl
theorem q314 : (Jvm.Cond.selects "PingEye" ({ cls := "PingEye", name := "load", desc := "(I)I" } : Jvm.MethodName) ({ cls := "PingEye", name := "load", desc := "(I)I" } : Jvm.MethodName)) ∈ lw_all := lw_g (lw_at lw_m1 220 rfl) rfl
theorem q315 : (Jvm.Cond.codeWith ({ cls := "PingEye", name := "load", desc := "(I)I" } : Jvm.MethodName) prog_1_method_8_code (3 : Nat) (Option.some Jvm.ClassFile.FieldType.int) [((12 : Nat), (28 : Nat), (31 : Nat), (70 : Nat))]) ∈ lw_all := lw_g (lw_at lw_m1 221 rfl) rfl
theorem q316 : (Jvm.Cond.classLink "PingEye" (70 : Nat) "PingEye$FormatException") ∈ lw_all := lw_g (lw_at lw_m1 222 rfl) rfl
theorem q317 : (Jvm.Cond.methodLink "PingEye" (49 : Nat) ({ cls := "PingEye", name := "in", desc := "(III)Z" } : Jvm.MethodName)) ∈ lw_all := lw_g (lw_at lw_m1 223 rfl) rfl
theorem q318 : (Jvm.Cond.static ({ cls := "PingEye", name := "in", desc := "(III)Z" } : Jvm.MethodName)) ∈ lw_all := lw_g (lw_at lw_m1 224 rfl) rfl
theorem q319 : (Jvm.Cond.code ({ cls := "PingEye", name := "in", desc := "(III)Z" } : Jvm.MethodName) prog_1_method_1_code (3 : Nat) (Option.some Jvm.ClassFile.FieldType.boolean)) ∈ lw_all := lw_g (lw_at lw_m1 225 rfl) rfl
theorem q320 : (Jvm.Cond.methodLink "PingEye" (53 : Nat) ({ cls := "PingEye", name := "checkIndex", desc := "(Z)V" } : Jvm.MethodName)) ∈ lw_all := lw_g (lw_at lw_m1 226 rfl) rfl
theorem q321 : (Jvm.Cond.static ({ cls := "PingEye", name := "checkIndex", desc := "(Z)V" } : Jvm.MethodName)) ∈ lw_all := lw_g (lw_at lw_m1 227 rfl) rfl
theorem q322 : (Jvm.Cond.code ({ cls := "PingEye", name := "checkIndex", desc := "(Z)V" } : Jvm.MethodName) prog_1_method_12_code (1 : Nat) (Option.none : Option Jvm.ClassFile.FieldType)) ∈ lw_all := lw_g (lw_at lw_m1 228 rfl) rfl
theorem q323 : (Jvm.Cond.classLink "PingEye" (95 : Nat) "java/lang/IndexOutOfBoundsException") ∈ lw_all := lw_g (lw_at lw_m1 229 rfl) rfl
theorem q332 : (Jvm.Cond.methodLink "PingEye" (97 : Nat) ({ cls := "java/lang/IndexOutOfBoundsException", name := "<init>", desc := "()V" } : Jvm.MethodName)) ∈ lw_all := lw_g (lw_at lw_m1 238 rfl) rfl
theorem q344 : (Jvm.Cond.classLink "PingEye" (57 : Nat) "PingEye$Parser") ∈ lw_all := lw_g (lw_at lw_m2 10 rfl) rfl
theorem q346 : (Jvm.Cond.methodLink "PingEye" (59 : Nat) ({ cls := "PingEye$Parser", name := "<init>", desc := "(LPingEye;I)V" } : Jvm.MethodName)) ∈ lw_all := lw_g (lw_at lw_m2 12 rfl) rfl
theorem q646 : (Jvm.Cond.fieldLinkNest "PingEye" (108 : Nat) "PingEye$Silo" "numbers" "[I" "PingEye") ∈ lw_tbl := lw_at lw_m3 72 rfl
theorem q649 : (Jvm.Cond.fieldLinkNest "PingEye" (179 : Nat) "PingEye$Silo" "heights" "[I" "PingEye") ∈ lw_tbl := lw_at lw_m3 75 rfl
theorem q651 : (Jvm.Cond.fieldLinkNest "PingEye" (243 : Nat) "PingEye$Silo" "mask" "[I" "PingEye") ∈ lw_tbl := lw_at lw_m3 77 rfl
theorem q654 : (Jvm.Cond.fieldLinkNest "PingEye" (116 : Nat) "PingEye$Silo" "isStuck" "[Z" "PingEye") ∈ lw_tbl := lw_at lw_m3 80 rfl
theorem q657 : (Jvm.Cond.fieldLinkNest "PingEye" (130 : Nat) "PingEye$Silo" "bars" "Ljava/util/List;" "PingEye") ∈ lw_tbl := lw_at lw_m3 83 rfl
theorem q660 : (Jvm.Cond.fieldLinkNest "PingEye" (127 : Nat) "PingEye$Silo" "dust" "I" "PingEye") ∈ lw_tbl := lw_at lw_m3 86 rfl
theorem q662 : (Jvm.Cond.fieldLinkNest "PingEye" (139 : Nat) "PingEye$Silo" "level" "I" "PingEye") ∈ lw_tbl := lw_at lw_m3 88 rfl
theorem q664 : (Jvm.Cond.fieldLinkNest "PingEye" (142 : Nat) "PingEye$Silo" "doubt" "I" "PingEye") ∈ lw_tbl := lw_at lw_m3 90 rfl
theorem q666 : (Jvm.Cond.fieldLinkNest "PingEye" (145 : Nat) "PingEye$Silo" "pings" "I" "PingEye") ∈ lw_tbl := lw_at lw_m3 92 rfl
theorem q668 : (Jvm.Cond.fieldLinkNest "PingEye" (148 : Nat) "PingEye$Silo" "lost" "I" "PingEye") ∈ lw_tbl := lw_at lw_m3 94 rfl
theorem q670 : (Jvm.Cond.fieldLinkNest "PingEye" (151 : Nat) "PingEye$Silo" "filled" "I" "PingEye") ∈ lw_tbl := lw_at lw_m3 96 rfl
theorem q672 : (Jvm.Cond.fieldLinkNest "PingEye" (154 : Nat) "PingEye$Silo" "spilled" "I" "PingEye") ∈ lw_tbl := lw_at lw_m3 98 rfl
theorem q674 : (Jvm.Cond.fieldLinkNest "PingEye" (157 : Nat) "PingEye$Silo" "drawn" "I" "PingEye") ∈ lw_tbl := lw_at lw_m3 100 rfl
theorem q676 : (Jvm.Cond.fieldLinkNest "PingEye" (160 : Nat) "PingEye$Silo" "dry" "I" "PingEye") ∈ lw_tbl := lw_at lw_m3 102 rfl
theorem q678 : (Jvm.Cond.fieldLinkNest "PingEye" (163 : Nat) "PingEye$Silo" "slid" "I" "PingEye") ∈ lw_tbl := lw_at lw_m3 104 rfl
theorem q680 : (Jvm.Cond.fieldLinkNest "PingEye" (169 : Nat) "PingEye$Silo" "told" "I" "PingEye") ∈ lw_tbl := lw_at lw_m3 106 rfl
theorem q682 : (Jvm.Cond.fieldLinkNest "PingEye" (172 : Nat) "PingEye$Silo" "doubted" "I" "PingEye") ∈ lw_tbl := lw_at lw_m3 108 rfl
theorem q743 : (Jvm.Cond.methodLink "PingEye" (62 : Nat) ({ cls := "PingEye$Parser", name := "silo", desc := "()LPingEye$Silo;" } : Jvm.MethodName)) ∈ lw_all := lw_g (lw_at lw_m3 169 rfl) rfl
theorem q831 : (Jvm.Cond.fieldLinkNest "PingEye" (72 : Nat) "PingEye$FormatException" "kind" "I" "PingEye") ∈ lw_tbl := lw_at lw_m4 17 rfl
theorem q833 : (Jvm.Cond.fieldLinkNest "PingEye" (78 : Nat) "PingEye$FormatException" "position" "I" "PingEye") ∈ lw_tbl := lw_at lw_m4 19 rfl
theorem q845 : (Jvm.Cond.static ({ cls := "PingEye", name := "least", desc := "(I)I" } : Jvm.MethodName)) ∈ lw_all := lw_g (lw_at lw_m4 31 rfl) rfl
theorem q846 : (Jvm.Cond.code ({ cls := "PingEye", name := "least", desc := "(I)I" } : Jvm.MethodName) prog_1_method_3_code (1 : Nat) (Option.some Jvm.ClassFile.FieldType.int)) ∈ lw_all := lw_g (lw_at lw_m4 32 rfl) rfl
theorem q848 : (Jvm.Cond.static ({ cls := "PingEye", name := "most", desc := "(LPingEye$Silo;I)I" } : Jvm.MethodName)) ∈ lw_all := lw_g (lw_at lw_m4 34 rfl) rfl
theorem q849 : (Jvm.Cond.code ({ cls := "PingEye", name := "most", desc := "(LPingEye$Silo;I)I" } : Jvm.MethodName) prog_1_method_4_code (2 : Nat) (Option.some Jvm.ClassFile.FieldType.int)) ∈ lw_all := lw_g (lw_at lw_m4 35 rfl) rfl
theorem q850 : (Jvm.Cond.methodLink "PingEye" (3 : Nat) ({ cls := "PingEye$Silo", name := "many", desc := "()I" } : Jvm.MethodName)) ∈ lw_all := lw_g (lw_at lw_m4 36 rfl) rfl
theorem q1046 : (Jvm.Cond.fieldLinkNest "PingEye" (214 : Nat) "PingEye$Bar" "way" "I" "PingEye") ∈ lw_tbl := lw_at lw_m4 232 rfl
theorem q1049 : (Jvm.Cond.fieldLinkNest "PingEye" (217 : Nat) "PingEye$Bar" "strength" "I" "PingEye") ∈ lw_tbl := lw_at lw_m4 235 rfl
theorem q1085 : (Jvm.Cond.selects "PingEye" ({ cls := "java/lang/Object", name := "getClass", desc := "()Ljava/lang/Class;" } : Jvm.MethodName) ({ cls := "java/lang/Object", name := "getClass", desc := "()Ljava/lang/Class;" } : Jvm.MethodName)) ∈ lw_all := lw_g (lw_at lw_m5 31 rfl) rfl
theorem q1123 : (Jvm.Cond.static ({ cls := "PingEye", name := "one", desc := "(Z)I" } : Jvm.MethodName)) ∈ lw_all := lw_g (lw_at lw_m5 69 rfl) rfl
theorem q1124 : (Jvm.Cond.code ({ cls := "PingEye", name := "one", desc := "(Z)I" } : Jvm.MethodName) prog_1_method_2_code (1 : Nat) (Option.some Jvm.ClassFile.FieldType.int)) ∈ lw_all := lw_g (lw_at lw_m5 70 rfl) rfl
theorem q1282 : (Jvm.Cond.classLink "PingEye" (81 : Nat) "java/lang/IllegalArgumentException") ∈ lw_all := lw_g (lw_at lw_m5 228 rfl) rfl
theorem q1283 : (Jvm.Cond.methodLink "PingEye" (83 : Nat) ({ cls := "java/lang/IllegalArgumentException", name := "<init>", desc := "()V" } : Jvm.MethodName)) ∈ lw_all := lw_g (lw_at lw_m5 229 rfl) rfl
theorem q1287 : (Jvm.Cond.interfaceEntry "PingEye" (84 : Nat)) ∈ lw_tbl := lw_at lw_m5 233 rfl
theorem q1298 : (Jvm.Cond.methodLink "PingEye" (89 : Nat) ({ cls := "java/util/Arrays", name := "fill", desc := "([Ljava/lang/Object;Ljava/lang/Object;)V" } : Jvm.MethodName)) ∈ lw_all := lw_g (lw_at lw_m6 4 rfl) rfl
theorem q1306 : (Jvm.Cond.instanceMethod ({ cls := "PingEye", name := "number", desc := "(I)I" } : Jvm.MethodName)) ∈ lw_all := lw_g (lw_at lw_m6 12 rfl) rfl
theorem q1307 : (Jvm.Cond.selects "PingEye" ({ cls := "PingEye", name := "number", desc := "(I)I" } : Jvm.MethodName) ({ cls := "PingEye", name := "number", desc := "(I)I" } : Jvm.MethodName)) ∈ lw_all := lw_g (lw_at lw_m6 13 rfl) rfl
theorem q1308 : (Jvm.Cond.code ({ cls := "PingEye", name := "number", desc := "(I)I" } : Jvm.MethodName) prog_1_method_18_code (3 : Nat) (Option.some Jvm.ClassFile.FieldType.int)) ∈ lw_all := lw_g (lw_at lw_m6 14 rfl) rfl
theorem q1309 : (Jvm.Cond.methodLink "PingEye" (101 : Nat) ({ cls := "PingEye", name := "silo", desc := "()LPingEye$Silo;" } : Jvm.MethodName)) ∈ lw_all := lw_g (lw_at lw_m6 15 rfl) rfl
theorem q1310 : (Jvm.Cond.privateMethod ({ cls := "PingEye", name := "silo", desc := "()LPingEye$Silo;" } : Jvm.MethodName)) ∈ lw_tbl := lw_at lw_m6 16 rfl
theorem q1311 : (Jvm.Cond.instanceMethod ({ cls := "PingEye", name := "silo", desc := "()LPingEye$Silo;" } : Jvm.MethodName)) ∈ lw_all := lw_g (lw_at lw_m6 17 rfl) rfl
theorem q1312 : (Jvm.Cond.code ({ cls := "PingEye", name := "silo", desc := "()LPingEye$Silo;" } : Jvm.MethodName) prog_1_method_14_code (1 : Nat) (Option.some (Jvm.ClassFile.FieldType.object "PingEye$Silo"))) ∈ lw_all := lw_g (lw_at lw_m6 18 rfl) rfl
theorem q1313 : (Jvm.Cond.classLink "PingEye" (98 : Nat) "java/lang/IllegalStateException") ∈ lw_all := lw_g (lw_at lw_m6 19 rfl) rfl
theorem q1322 : (Jvm.Cond.methodLink "PingEye" (100 : Nat) ({ cls := "java/lang/IllegalStateException", name := "<init>", desc := "()V" } : Jvm.MethodName)) ∈ lw_all := lw_g (lw_at lw_m6 28 rfl) rfl
theorem q1328 : (Jvm.Cond.methodLink "PingEye" (105 : Nat) ({ cls := "PingEye", name := "checkRange", desc := "(Z)V" } : Jvm.MethodName)) ∈ lw_all := lw_g (lw_at lw_m6 34 rfl) rfl
theorem q1329 : (Jvm.Cond.static ({ cls := "PingEye", name := "checkRange", desc := "(Z)V" } : Jvm.MethodName)) ∈ lw_all := lw_g (lw_at lw_m6 35 rfl) rfl
theorem q1330 : (Jvm.Cond.code ({ cls := "PingEye", name := "checkRange", desc := "(Z)V" } : Jvm.MethodName) prog_1_method_13_code (1 : Nat) (Option.none : Option Jvm.ClassFile.FieldType)) ∈ lw_all := lw_g (lw_at lw_m6 36 rfl) rfl
theorem q1335 : (Jvm.Cond.instanceMethod ({ cls := "PingEye", name := "count", desc := "(I)I" } : Jvm.MethodName)) ∈ lw_all := lw_g (lw_at lw_m6 41 rfl) rfl
theorem q1336 : (Jvm.Cond.selects "PingEye" ({ cls := "PingEye", name := "count", desc := "(I)I" } : Jvm.MethodName) ({ cls := "PingEye", name := "count", desc := "(I)I" } : Jvm.MethodName)) ∈ lw_all := lw_g (lw_at lw_m6 42 rfl) rfl
theorem q1337 : (Jvm.Cond.code ({ cls := "PingEye", name := "count", desc := "(I)I" } : Jvm.MethodName) prog_1_method_20_code (3 : Nat) (Option.some Jvm.ClassFile.FieldType.int)) ∈ lw_all := lw_g (lw_at lw_m6 43 rfl) rfl
theorem q1338 : (Jvm.Cond.methodLink "PingEye" (124 : Nat) ({ cls := "PingEye$Silo", name := "units", desc := "()I" } : Jvm.MethodName)) ∈ lw_all := lw_g (lw_at lw_m6 44 rfl) rfl
theorem q1342 : (Jvm.Cond.interfaceEntry "PingEye" (134 : Nat)) ∈ lw_tbl := lw_at lw_m6 48 rfl
theorem q1343 : (Jvm.Cond.methodLink "PingEye" (134 : Nat) ({ cls := "java/util/List", name := "size", desc := "()I" } : Jvm.MethodName)) ∈ lw_all := lw_g (lw_at lw_m6 49 rfl) rfl
theorem q1344 : (Jvm.Cond.methodLink "PingEye" (166 : Nat) ({ cls := "PingEye", name := "stuckMany", desc := "(Z)I" } : Jvm.MethodName)) ∈ lw_all := lw_g (lw_at lw_m6 50 rfl) rfl
theorem q1345 : (Jvm.Cond.privateMethod ({ cls := "PingEye", name := "stuckMany", desc := "(Z)I" } : Jvm.MethodName)) ∈ lw_tbl := lw_at lw_m6 51 rfl
theorem q1346 : (Jvm.Cond.instanceMethod ({ cls := "PingEye", name := "stuckMany", desc := "(Z)I" } : Jvm.MethodName)) ∈ lw_all := lw_g (lw_at lw_m6 52 rfl) rfl
theorem q1347 : (Jvm.Cond.code ({ cls := "PingEye", name := "stuckMany", desc := "(Z)I" } : Jvm.MethodName) prog_1_method_19_code (4 : Nat) (Option.some Jvm.ClassFile.FieldType.int)) ∈ lw_all := lw_g (lw_at lw_m6 53 rfl) rfl
theorem q1348 : (Jvm.Cond.methodLink "PingEye" (112 : Nat) ({ cls := "PingEye$Silo", name := "hangs", desc := "(I)Z" } : Jvm.MethodName)) ∈ lw_all := lw_g (lw_at lw_m6 54 rfl) rfl
theorem q1352 : (Jvm.Cond.methodLink "PingEye" (120 : Nat) ({ cls := "PingEye", name := "one", desc := "(Z)I" } : Jvm.MethodName)) ∈ lw_all := lw_g (lw_at lw_m6 58 rfl) rfl
theorem q1357 : (Jvm.Cond.instanceMethod ({ cls := "PingEye", name := "height", desc := "(I)I" } : Jvm.MethodName)) ∈ lw_all := lw_g (lw_at lw_m6 63 rfl) rfl
theorem q1358 : (Jvm.Cond.selects "PingEye" ({ cls := "PingEye", name := "height", desc := "(I)I" } : Jvm.MethodName) ({ cls := "PingEye", name := "height", desc := "(I)I" } : Jvm.MethodName)) ∈ lw_all := lw_g (lw_at lw_m6 64 rfl) rfl
theorem q1359 : (Jvm.Cond.code ({ cls := "PingEye", name := "height", desc := "(I)I" } : Jvm.MethodName) prog_1_method_21_code (2 : Nat) (Option.some Jvm.ClassFile.FieldType.int)) ∈ lw_all := lw_g (lw_at lw_m6 65 rfl) rfl
theorem q1360 : (Jvm.Cond.methodLink "PingEye" (175 : Nat) ({ cls := "PingEye", name := "withColumn", desc := "(I)LPingEye$Silo;" } : Jvm.MethodName)) ∈ lw_all := lw_g (lw_at lw_m6 66 rfl) rfl
theorem q1361 : (Jvm.Cond.privateMethod ({ cls := "PingEye", name := "withColumn", desc := "(I)LPingEye$Silo;" } : Jvm.MethodName)) ∈ lw_tbl := lw_at lw_m6 67 rfl
theorem q1362 : (Jvm.Cond.instanceMethod ({ cls := "PingEye", name := "withColumn", desc := "(I)LPingEye$Silo;" } : Jvm.MethodName)) ∈ lw_all := lw_g (lw_at lw_m6 68 rfl) rfl
theorem q1363 : (Jvm.Cond.code ({ cls := "PingEye", name := "withColumn", desc := "(I)LPingEye$Silo;" } : Jvm.MethodName) prog_1_method_15_code (3 : Nat) (Option.some (Jvm.ClassFile.FieldType.object "PingEye$Silo"))) ∈ lw_all := lw_g (lw_at lw_m6 69 rfl) rfl
theorem q1368 : (Jvm.Cond.instanceMethod ({ cls := "PingEye", name := "isStuck", desc := "(I)Z" } : Jvm.MethodName)) ∈ lw_all := lw_g (lw_at lw_m6 74 rfl) rfl
theorem q1369 : (Jvm.Cond.selects "PingEye" ({ cls := "PingEye", name := "isStuck", desc := "(I)Z" } : Jvm.MethodName) ({ cls := "PingEye", name := "isStuck", desc := "(I)Z" } : Jvm.MethodName)) ∈ lw_all := lw_g (lw_at lw_m6 75 rfl) rfl
theorem q1370 : (Jvm.Cond.code ({ cls := "PingEye", name := "isStuck", desc := "(I)Z" } : Jvm.MethodName) prog_1_method_22_code (2 : Nat) (Option.some Jvm.ClassFile.FieldType.boolean)) ∈ lw_all := lw_g (lw_at lw_m6 76 rfl) rfl
theorem q1375 : (Jvm.Cond.instanceMethod ({ cls := "PingEye", name := "hangs", desc := "(I)Z" } : Jvm.MethodName)) ∈ lw_all := lw_g (lw_at lw_m6 81 rfl) rfl
theorem q1376 : (Jvm.Cond.selects "PingEye" ({ cls := "PingEye", name := "hangs", desc := "(I)Z" } : Jvm.MethodName) ({ cls := "PingEye", name := "hangs", desc := "(I)Z" } : Jvm.MethodName)) ∈ lw_all := lw_g (lw_at lw_m6 82 rfl) rfl
theorem q1377 : (Jvm.Cond.code ({ cls := "PingEye", name := "hangs", desc := "(I)Z" } : Jvm.MethodName) prog_1_method_23_code (2 : Nat) (Option.some Jvm.ClassFile.FieldType.boolean)) ∈ lw_all := lw_g (lw_at lw_m6 83 rfl) rfl
theorem q1382 : (Jvm.Cond.instanceMethod ({ cls := "PingEye", name := "highest", desc := "(Z)I" } : Jvm.MethodName)) ∈ lw_all := lw_g (lw_at lw_m6 88 rfl) rfl
theorem q1383 : (Jvm.Cond.selects "PingEye" ({ cls := "PingEye", name := "highest", desc := "(Z)I" } : Jvm.MethodName) ({ cls := "PingEye", name := "highest", desc := "(Z)I" } : Jvm.MethodName)) ∈ lw_all := lw_g (lw_at lw_m6 89 rfl) rfl
theorem q1384 : (Jvm.Cond.code ({ cls := "PingEye", name := "highest", desc := "(Z)I" } : Jvm.MethodName) prog_1_method_24_code (6 : Nat) (Option.some Jvm.ClassFile.FieldType.int)) ∈ lw_all := lw_g (lw_at lw_m6 90 rfl) rfl
theorem q1389 : (Jvm.Cond.instanceMethod ({ cls := "PingEye", name := "steepest", desc := "()I" } : Jvm.MethodName)) ∈ lw_all := lw_g (lw_at lw_m6 95 rfl) rfl
theorem q1390 : (Jvm.Cond.selects "PingEye" ({ cls := "PingEye", name := "steepest", desc := "()I" } : Jvm.MethodName) ({ cls := "PingEye", name := "steepest", desc := "()I" } : Jvm.MethodName)) ∈ lw_all := lw_g (lw_at lw_m6 96 rfl) rfl
theorem q1391 : (Jvm.Cond.code ({ cls := "PingEye", name := "steepest", desc := "()I" } : Jvm.MethodName) prog_1_method_25_code (4 : Nat) (Option.some Jvm.ClassFile.FieldType.int)) ∈ lw_all := lw_g (lw_at lw_m6 97 rfl) rfl
theorem q1392 : (Jvm.Cond.methodLink "PingEye" (182 : Nat) ({ cls := "java/lang/Math", name := "abs", desc := "(I)I" } : Jvm.MethodName)) ∈ lw_all := lw_g (lw_at lw_m6 98 rfl) rfl
theorem q1393 : (Jvm.Cond.methodLink "PingEye" (188 : Nat) ({ cls := "java/lang/Math", name := "max", desc := "(II)I" } : Jvm.MethodName)) ∈ lw_all := lw_g (lw_at lw_m6 99 rfl) rfl
theorem q1398 : (Jvm.Cond.instanceMethod ({ cls := "PingEye", name := "slideTo", desc := "(I)I" } : Jvm.MethodName)) ∈ lw_all := lw_g (lw_at lw_m6 104 rfl) rfl
theorem q1399 : (Jvm.Cond.selects "PingEye" ({ cls := "PingEye", name := "slideTo", desc := "(I)I" } : Jvm.MethodName) ({ cls := "PingEye", name := "slideTo", desc := "(I)I" } : Jvm.MethodName)) ∈ lw_all := lw_g (lw_at lw_m6 105 rfl) rfl
theorem q1400 : (Jvm.Cond.code ({ cls := "PingEye", name := "slideTo", desc := "(I)I" } : Jvm.MethodName) prog_1_method_26_code (2 : Nat) (Option.some Jvm.ClassFile.FieldType.int)) ∈ lw_all := lw_g (lw_at lw_m6 106 rfl) rfl
theorem q1401 : (Jvm.Cond.methodLink "PingEye" (192 : Nat) ({ cls := "PingEye$Silo", name := "slideTo", desc := "(I)I" } : Jvm.MethodName)) ∈ lw_all := lw_g (lw_at lw_m6 107 rfl) rfl
theorem q1406 : (Jvm.Cond.instanceMethod ({ cls := "PingEye", name := "roomIn", desc := "(I)I" } : Jvm.MethodName)) ∈ lw_all := lw_g (lw_at lw_m6 112 rfl) rfl
theorem q1407 : (Jvm.Cond.selects "PingEye" ({ cls := "PingEye", name := "roomIn", desc := "(I)I" } : Jvm.MethodName) ({ cls := "PingEye", name := "roomIn", desc := "(I)I" } : Jvm.MethodName)) ∈ lw_all := lw_g (lw_at lw_m6 113 rfl) rfl
theorem q1408 : (Jvm.Cond.code ({ cls := "PingEye", name := "roomIn", desc := "(I)I" } : Jvm.MethodName) prog_1_method_27_code (4 : Nat) (Option.some Jvm.ClassFile.FieldType.int)) ∈ lw_all := lw_g (lw_at lw_m6 114 rfl) rfl
theorem q1409 : (Jvm.Cond.methodLink "PingEye" (195 : Nat) ({ cls := "PingEye$Silo", name := "<init>", desc := "(LPingEye$Silo;)V" } : Jvm.MethodName)) ∈ lw_all := lw_g (lw_at lw_m6 115 rfl) rfl
theorem q1422 : (Jvm.Cond.methodLinkNest "PingEye" (198 : Nat) ({ cls := "PingEye$Silo", name := "fillsOne", desc := "(I)Z" } : Jvm.MethodName) "PingEye") ∈ lw_tbl := lw_at lw_m6 128 rfl
theorem q1427 : (Jvm.Cond.instanceMethod ({ cls := "PingEye", name := "peak", desc := "(II)I" } : Jvm.MethodName)) ∈ lw_all := lw_g (lw_at lw_m6 133 rfl) rfl
theorem q1428 : (Jvm.Cond.selects "PingEye" ({ cls := "PingEye", name := "peak", desc := "(II)I" } : Jvm.MethodName) ({ cls := "PingEye", name := "peak", desc := "(II)I" } : Jvm.MethodName)) ∈ lw_all := lw_g (lw_at lw_m6 134 rfl) rfl
theorem q1429 : (Jvm.Cond.code ({ cls := "PingEye", name := "peak", desc := "(II)I" } : Jvm.MethodName) prog_1_method_28_code (6 : Nat) (Option.some Jvm.ClassFile.FieldType.int)) ∈ lw_all := lw_g (lw_at lw_m6 135 rfl) rfl
theorem q1430 : (Jvm.Cond.methodLink "PingEye" (201 : Nat) ({ cls := "java/lang/Math", name := "min", desc := "(II)I" } : Jvm.MethodName)) ∈ lw_all := lw_g (lw_at lw_m6 136 rfl) rfl
theorem q1435 : (Jvm.Cond.instanceMethod ({ cls := "PingEye", name := "gap", desc := "()I" } : Jvm.MethodName)) ∈ lw_all := lw_g (lw_at lw_m6 141 rfl) rfl
theorem q1436 : (Jvm.Cond.selects "PingEye" ({ cls := "PingEye", name := "gap", desc := "()I" } : Jvm.MethodName) ({ cls := "PingEye", name := "gap", desc := "()I" } : Jvm.MethodName)) ∈ lw_all := lw_g (lw_at lw_m6 142 rfl) rfl
theorem q1437 : (Jvm.Cond.code ({ cls := "PingEye", name := "gap", desc := "()I" } : Jvm.MethodName) prog_1_method_29_code (4 : Nat) (Option.some Jvm.ClassFile.FieldType.int)) ∈ lw_all := lw_g (lw_at lw_m6 143 rfl) rfl
theorem q1442 : (Jvm.Cond.instanceMethod ({ cls := "PingEye", name := "bar", desc := "(II)I" } : Jvm.MethodName)) ∈ lw_all := lw_g (lw_at lw_m6 148 rfl) rfl
theorem q1443 : (Jvm.Cond.selects "PingEye" ({ cls := "PingEye", name := "bar", desc := "(II)I" } : Jvm.MethodName) ({ cls := "PingEye", name := "bar", desc := "(II)I" } : Jvm.MethodName)) ∈ lw_all := lw_g (lw_at lw_m6 149 rfl) rfl
theorem q1444 : (Jvm.Cond.code ({ cls := "PingEye", name := "bar", desc := "(II)I" } : Jvm.MethodName) prog_1_method_30_code (6 : Nat) (Option.some Jvm.ClassFile.FieldType.int)) ∈ lw_all := lw_g (lw_at lw_m6 150 rfl) rfl
theorem q1445 : (Jvm.Cond.interfaceEntry "PingEye" (204 : Nat)) ∈ lw_tbl := lw_at lw_m6 151 rfl
theorem q1446 : (Jvm.Cond.methodLink "PingEye" (204 : Nat) ({ cls := "java/util/List", name := "get", desc := "(I)Ljava/lang/Object;" } : Jvm.MethodName)) ∈ lw_all := lw_g (lw_at lw_m6 152 rfl) rfl
theorem q1447 : (Jvm.Cond.classLink "PingEye" (208 : Nat) "PingEye$Bar") ∈ lw_all := lw_g (lw_at lw_m6 153 rfl) rfl
theorem q1448 : (Jvm.Cond.methodLink "PingEye" (210 : Nat) ({ cls := "PingEye$Silo", name := "barEcho", desc := "(LPingEye$Bar;)LPingEye$Echo;" } : Jvm.MethodName)) ∈ lw_all := lw_g (lw_at lw_m6 154 rfl) rfl
theorem q1449 : (Jvm.Cond.interfaceEntry "PingEye" (220 : Nat)) ∈ lw_tbl := lw_at lw_m6 155 rfl
theorem q1450 : (Jvm.Cond.methodLink "PingEye" (220 : Nat) ({ cls := "PingEye$Echo", name := "strength", desc := "()I" } : Jvm.MethodName)) ∈ lw_all := lw_g (lw_at lw_m6 156 rfl) rfl
theorem q1451 : (Jvm.Cond.methodLink "PingEye" (224 : Nat) ({ cls := "PingEye$Silo", name := "isHeard", desc := "(LPingEye$Echo;)Z" } : Jvm.MethodName)) ∈ lw_all := lw_g (lw_at lw_m6 157 rfl) rfl
theorem q1452 : (Jvm.Cond.methodLink "PingEye" (228 : Nat) ({ cls := "PingEye$Silo", name := "isMasked", desc := "(LPingEye$Echo;)Z" } : Jvm.MethodName)) ∈ lw_all := lw_g (lw_at lw_m6 158 rfl) rfl
theorem q1457 : (Jvm.Cond.instanceMethod ({ cls := "PingEye", name := "heap", desc := "(I)I" } : Jvm.MethodName)) ∈ lw_all := lw_g (lw_at lw_m6 163 rfl) rfl
theorem q1458 : (Jvm.Cond.selects "PingEye" ({ cls := "PingEye", name := "heap", desc := "(I)I" } : Jvm.MethodName) ({ cls := "PingEye", name := "heap", desc := "(I)I" } : Jvm.MethodName)) ∈ lw_all := lw_g (lw_at lw_m6 164 rfl) rfl
theorem q1459 : (Jvm.Cond.code ({ cls := "PingEye", name := "heap", desc := "(I)I" } : Jvm.MethodName) prog_1_method_31_code (4 : Nat) (Option.some Jvm.ClassFile.FieldType.int)) ∈ lw_all := lw_g (lw_at lw_m6 165 rfl) rfl
theorem q1460 : (Jvm.Cond.methodLink "PingEye" (231 : Nat) ({ cls := "PingEye$Silo", name := "heapEcho", desc := "()LPingEye$Echo;" } : Jvm.MethodName)) ∈ lw_all := lw_g (lw_at lw_m6 166 rfl) rfl
theorem q1461 : (Jvm.Cond.interfaceEntry "PingEye" (235 : Nat)) ∈ lw_tbl := lw_at lw_m6 167 rfl
theorem q1462 : (Jvm.Cond.methodLink "PingEye" (235 : Nat) ({ cls := "PingEye$Echo", name := "way", desc := "()I" } : Jvm.MethodName)) ∈ lw_all := lw_g (lw_at lw_m6 168 rfl) rfl
theorem q1463 : (Jvm.Cond.methodLink "PingEye" (237 : Nat) ({ cls := "PingEye$Silo", name := "loss", desc := "(I)I" } : Jvm.MethodName)) ∈ lw_all := lw_g (lw_at lw_m6 169 rfl) rfl
theorem q1464 : (Jvm.Cond.methodLink "PingEye" (240 : Nat) ({ cls := "PingEye$Silo", name := "heapLevel", desc := "()I" } : Jvm.MethodName)) ∈ lw_all := lw_g (lw_at lw_m6 170 rfl) rfl
theorem q1469 : (Jvm.Cond.instanceMethod ({ cls := "PingEye", name := "mask", desc := "(I)I" } : Jvm.MethodName)) ∈ lw_all := lw_g (lw_at lw_m6 175 rfl) rfl
theorem q1470 : (Jvm.Cond.selects "PingEye" ({ cls := "PingEye", name := "mask", desc := "(I)I" } : Jvm.MethodName) ({ cls := "PingEye", name := "mask", desc := "(I)I" } : Jvm.MethodName)) ∈ lw_all := lw_g (lw_at lw_m6 176 rfl) rfl
theorem q1471 : (Jvm.Cond.code ({ cls := "PingEye", name := "mask", desc := "(I)I" } : Jvm.MethodName) prog_1_method_32_code (3 : Nat) (Option.some Jvm.ClassFile.FieldType.int)) ∈ lw_all := lw_g (lw_at lw_m6 177 rfl) rfl
theorem q1472 : (Jvm.Cond.methodLink "PingEye" (102 : Nat) ({ cls := "PingEye$Silo", name := "depth", desc := "()I" } : Jvm.MethodName)) ∈ lw_all := lw_g (lw_at lw_m6 178 rfl) rfl
theorem q1477 : (Jvm.Cond.instanceMethod ({ cls := "PingEye", name := "echo", desc := "(IZ)I" } : Jvm.MethodName)) ∈ lw_all := lw_g (lw_at lw_m6 183 rfl) rfl
theorem q1478 : (Jvm.Cond.selects "PingEye" ({ cls := "PingEye", name := "echo", desc := "(IZ)I" } : Jvm.MethodName) ({ cls := "PingEye", name := "echo", desc := "(IZ)I" } : Jvm.MethodName)) ∈ lw_all := lw_g (lw_at lw_m6 184 rfl) rfl
theorem q1479 : (Jvm.Cond.code ({ cls := "PingEye", name := "echo", desc := "(IZ)I" } : Jvm.MethodName) prog_1_method_33_code (4 : Nat) (Option.some Jvm.ClassFile.FieldType.int)) ∈ lw_all := lw_g (lw_at lw_m6 185 rfl) rfl
theorem q1480 : (Jvm.Cond.methodLink "PingEye" (246 : Nat) ({ cls := "PingEye$Silo", name := "heard", desc := "()Ljava/util/List;" } : Jvm.MethodName)) ∈ lw_all := lw_g (lw_at lw_m6 186 rfl) rfl
theorem q1481 : (Jvm.Cond.classLink "PingEye" (221 : Nat) "PingEye$Echo") ∈ lw_all := lw_g (lw_at lw_m6 187 rfl) rfl
theorem q1486 : (Jvm.Cond.instanceMethod ({ cls := "PingEye", name := "chosen", desc := "()I" } : Jvm.MethodName)) ∈ lw_all := lw_g (lw_at lw_m6 192 rfl) rfl
theorem q1487 : (Jvm.Cond.selects "PingEye" ({ cls := "PingEye", name := "chosen", desc := "()I" } : Jvm.MethodName) ({ cls := "PingEye", name := "chosen", desc := "()I" } : Jvm.MethodName)) ∈ lw_all := lw_g (lw_at lw_m6 193 rfl) rfl
theorem q1488 : (Jvm.Cond.code ({ cls := "PingEye", name := "chosen", desc := "()I" } : Jvm.MethodName) prog_1_method_34_code (1 : Nat) (Option.some Jvm.ClassFile.FieldType.int)) ∈ lw_all := lw_g (lw_at lw_m6 194 rfl) rfl
theorem q1489 : (Jvm.Cond.methodLink "PingEye" (250 : Nat) ({ cls := "PingEye$Silo", name := "chosenWay", desc := "()I" } : Jvm.MethodName)) ∈ lw_all := lw_g (lw_at lw_m6 195 rfl) rfl
theorem q1494 : (Jvm.Cond.instanceMethod ({ cls := "PingEye", name := "whyNotHeap", desc := "()I" } : Jvm.MethodName)) ∈ lw_all := lw_g (lw_at lw_m6 200 rfl) rfl
theorem q1495 : (Jvm.Cond.selects "PingEye" ({ cls := "PingEye", name := "whyNotHeap", desc := "()I" } : Jvm.MethodName) ({ cls := "PingEye", name := "whyNotHeap", desc := "()I" } : Jvm.MethodName)) ∈ lw_all := lw_g (lw_at lw_m6 201 rfl) rfl
theorem q1496 : (Jvm.Cond.code ({ cls := "PingEye", name := "whyNotHeap", desc := "()I" } : Jvm.MethodName) prog_1_method_35_code (3 : Nat) (Option.some Jvm.ClassFile.FieldType.int)) ∈ lw_all := lw_g (lw_at lw_m6 202 rfl) rfl
theorem q1501 : (Jvm.Cond.instanceMethod ({ cls := "PingEye", name := "echoMany", desc := "(Z)I" } : Jvm.MethodName)) ∈ lw_all := lw_g (lw_at lw_m6 207 rfl) rfl
theorem q1502 : (Jvm.Cond.selects "PingEye" ({ cls := "PingEye", name := "echoMany", desc := "(Z)I" } : Jvm.MethodName) ({ cls := "PingEye", name := "echoMany", desc := "(Z)I" } : Jvm.MethodName)) ∈ lw_all := lw_g (lw_at lw_m6 208 rfl) rfl
theorem q1503 : (Jvm.Cond.code ({ cls := "PingEye", name := "echoMany", desc := "(Z)I" } : Jvm.MethodName) prog_1_method_36_code (6 : Nat) (Option.some Jvm.ClassFile.FieldType.int)) ∈ lw_all := lw_g (lw_at lw_m6 209 rfl) rfl
theorem q1504 : (Jvm.Cond.interfaceEntry "PingEye" (253 : Nat)) ∈ lw_tbl := lw_at lw_m6 210 rfl
theorem q1505 : (Jvm.Cond.methodLink "PingEye" (253 : Nat) ({ cls := "java/util/List", name := "iterator", desc := "()Ljava/util/Iterator;" } : Jvm.MethodName)) ∈ lw_all := lw_g (lw_at lw_m6 211 rfl) rfl
theorem q1506 : (Jvm.Cond.interfaceEntry "PingEye" (257 : Nat)) ∈ lw_tbl := lw_at lw_m6 212 rfl
theorem q1507 : (Jvm.Cond.methodLink "PingEye" (257 : Nat) ({ cls := "java/util/Iterator", name := "hasNext", desc := "()Z" } : Jvm.MethodName)) ∈ lw_all := lw_g (lw_at lw_m6 213 rfl) rfl
theorem q1508 : (Jvm.Cond.interfaceEntry "PingEye" (263 : Nat)) ∈ lw_tbl := lw_at lw_m6 214 rfl
theorem q1509 : (Jvm.Cond.methodLink "PingEye" (263 : Nat) ({ cls := "java/util/Iterator", name := "next", desc := "()Ljava/lang/Object;" } : Jvm.MethodName)) ∈ lw_all := lw_g (lw_at lw_m6 215 rfl) rfl
theorem q1514 : (Jvm.Cond.instanceMethod ({ cls := "PingEye", name := "second", desc := "()I" } : Jvm.MethodName)) ∈ lw_all := lw_g (lw_at lw_m6 220 rfl) rfl
theorem q1515 : (Jvm.Cond.selects "PingEye" ({ cls := "PingEye", name := "second", desc := "()I" } : Jvm.MethodName) ({ cls := "PingEye", name := "second", desc := "()I" } : Jvm.MethodName)) ∈ lw_all := lw_g (lw_at lw_m6 221 rfl) rfl
theorem q1516 : (Jvm.Cond.code ({ cls := "PingEye", name := "second", desc := "()I" } : Jvm.MethodName) prog_1_method_37_code (3 : Nat) (Option.some Jvm.ClassFile.FieldType.int)) ∈ lw_all := lw_g (lw_at lw_m6 222 rfl) rfl
theorem q1517 : (Jvm.Cond.methodLink "PingEye" (267 : Nat) ({ cls := "PingEye$Silo", name := "chosen", desc := "()LPingEye$Echo;" } : Jvm.MethodName)) ∈ lw_all := lw_g (lw_at lw_m6 223 rfl) rfl
theorem q1522 : (Jvm.Cond.instanceMethod ({ cls := "PingEye", name := "error", desc := "()I" } : Jvm.MethodName)) ∈ lw_all := lw_g (lw_at lw_m6 228 rfl) rfl
theorem q1523 : (Jvm.Cond.selects "PingEye" ({ cls := "PingEye", name := "error", desc := "()I" } : Jvm.MethodName) ({ cls := "PingEye", name := "error", desc := "()I" } : Jvm.MethodName)) ∈ lw_all := lw_g (lw_at lw_m6 229 rfl) rfl
theorem q1524 : (Jvm.Cond.code ({ cls := "PingEye", name := "error", desc := "()I" } : Jvm.MethodName) prog_1_method_38_code (2 : Nat) (Option.some Jvm.ClassFile.FieldType.int)) ∈ lw_all := lw_g (lw_at lw_m6 230 rfl) rfl
theorem q1529 : (Jvm.Cond.instanceMethod ({ cls := "PingEye", name := "whyNotBelieved", desc := "()I" } : Jvm.MethodName)) ∈ lw_all := lw_g (lw_at lw_m6 235 rfl) rfl
theorem q1530 : (Jvm.Cond.selects "PingEye" ({ cls := "PingEye", name := "whyNotBelieved", desc := "()I" } : Jvm.MethodName) ({ cls := "PingEye", name := "whyNotBelieved", desc := "()I" } : Jvm.MethodName)) ∈ lw_all := lw_g (lw_at lw_m6 236 rfl) rfl
theorem q1531 : (Jvm.Cond.code ({ cls := "PingEye", name := "whyNotBelieved", desc := "()I" } : Jvm.MethodName) prog_1_method_39_code (2 : Nat) (Option.some Jvm.ClassFile.FieldType.int)) ∈ lw_all := lw_g (lw_at lw_m6 237 rfl) rfl
theorem q1532 : (Jvm.Cond.methodLink "PingEye" (270 : Nat) ({ cls := "PingEye$Silo", name := "heapWay", desc := "()I" } : Jvm.MethodName)) ∈ lw_all := lw_g (lw_at lw_m6 238 rfl) rfl
theorem q1533 : (Jvm.Cond.methodLink "PingEye" (273 : Nat) ({ cls := "PingEye$Silo", name := "pings", desc := "()I" } : Jvm.MethodName)) ∈ lw_all := lw_g (lw_at lw_m6 239 rfl) rfl
theorem q1538 : (Jvm.Cond.instanceMethod ({ cls := "PingEye", name := "levelAfter", desc := "(I)I" } : Jvm.MethodName)) ∈ lw_all := lw_g (lw_at lw_m7 4 rfl) rfl
theorem q1539 : (Jvm.Cond.selects "PingEye" ({ cls := "PingEye", name := "levelAfter", desc := "(I)I" } : Jvm.MethodName) ({ cls := "PingEye", name := "levelAfter", desc := "(I)I" } : Jvm.MethodName)) ∈ lw_all := lw_g (lw_at lw_m7 5 rfl) rfl
theorem q1540 : (Jvm.Cond.code ({ cls := "PingEye", name := "levelAfter", desc := "(I)I" } : Jvm.MethodName) prog_1_method_40_code (5 : Nat) (Option.some Jvm.ClassFile.FieldType.int)) ∈ lw_all := lw_g (lw_at lw_m7 6 rfl) rfl
theorem q1545 : (Jvm.Cond.instanceMethod ({ cls := "PingEye", name := "pingsToTrue", desc := "()I" } : Jvm.MethodName)) ∈ lw_all := lw_g (lw_at lw_m7 11 rfl) rfl
theorem q1546 : (Jvm.Cond.selects "PingEye" ({ cls := "PingEye", name := "pingsToTrue", desc := "()I" } : Jvm.MethodName) ({ cls := "PingEye", name := "pingsToTrue", desc := "()I" } : Jvm.MethodName)) ∈ lw_all := lw_g (lw_at lw_m7 12 rfl) rfl
theorem q1547 : (Jvm.Cond.code ({ cls := "PingEye", name := "pingsToTrue", desc := "()I" } : Jvm.MethodName) prog_1_method_41_code (4 : Nat) (Option.some Jvm.ClassFile.FieldType.int)) ∈ lw_all := lw_g (lw_at lw_m7 13 rfl) rfl
theorem q1552 : (Jvm.Cond.instanceMethod ({ cls := "PingEye", name := "deafFrom", desc := "()I" } : Jvm.MethodName)) ∈ lw_all := lw_g (lw_at lw_m7 18 rfl) rfl
theorem q1553 : (Jvm.Cond.selects "PingEye" ({ cls := "PingEye", name := "deafFrom", desc := "()I" } : Jvm.MethodName) ({ cls := "PingEye", name := "deafFrom", desc := "()I" } : Jvm.MethodName)) ∈ lw_all := lw_g (lw_at lw_m7 19 rfl) rfl
theorem q1554 : (Jvm.Cond.code ({ cls := "PingEye", name := "deafFrom", desc := "()I" } : Jvm.MethodName) prog_1_method_42_code (3 : Nat) (Option.some Jvm.ClassFile.FieldType.int)) ∈ lw_all := lw_g (lw_at lw_m7 20 rfl) rfl
theorem q1559 : (Jvm.Cond.instanceMethod ({ cls := "PingEye", name := "heightIf", desc := "(III)I" } : Jvm.MethodName)) ∈ lw_all := lw_g (lw_at lw_m7 25 rfl) rfl
theorem q1560 : (Jvm.Cond.selects "PingEye" ({ cls := "PingEye", name := "heightIf", desc := "(III)I" } : Jvm.MethodName) ({ cls := "PingEye", name := "heightIf", desc := "(III)I" } : Jvm.MethodName)) ∈ lw_all := lw_g (lw_at lw_m7 26 rfl) rfl
theorem q1561 : (Jvm.Cond.code ({ cls := "PingEye", name := "heightIf", desc := "(III)I" } : Jvm.MethodName) prog_1_method_44_code (5 : Nat) (Option.some Jvm.ClassFile.FieldType.int)) ∈ lw_all := lw_g (lw_at lw_m7 27 rfl) rfl
theorem q1562 : (Jvm.Cond.methodLink "PingEye" (278 : Nat) ({ cls := "PingEye", name := "checkUnits", desc := "(I)V" } : Jvm.MethodName)) ∈ lw_all := lw_g (lw_at lw_m7 28 rfl) rfl
theorem q1563 : (Jvm.Cond.static ({ cls := "PingEye", name := "checkUnits", desc := "(I)V" } : Jvm.MethodName)) ∈ lw_all := lw_g (lw_at lw_m7 29 rfl) rfl
theorem q1564 : (Jvm.Cond.code ({ cls := "PingEye", name := "checkUnits", desc := "(I)V" } : Jvm.MethodName) prog_1_method_17_code (1 : Nat) (Option.none : Option Jvm.ClassFile.FieldType)) ∈ lw_all := lw_g (lw_at lw_m7 30 rfl) rfl
theorem q1565 : (Jvm.Cond.methodLink "PingEye" (281 : Nat) ({ cls := "PingEye", name := "filledWith", desc := "(II)LPingEye$Silo;" } : Jvm.MethodName)) ∈ lw_all := lw_g (lw_at lw_m7 31 rfl) rfl
theorem q1566 : (Jvm.Cond.privateMethod ({ cls := "PingEye", name := "filledWith", desc := "(II)LPingEye$Silo;" } : Jvm.MethodName)) ∈ lw_tbl := lw_at lw_m7 32 rfl
theorem q1567 : (Jvm.Cond.instanceMethod ({ cls := "PingEye", name := "filledWith", desc := "(II)LPingEye$Silo;" } : Jvm.MethodName)) ∈ lw_all := lw_g (lw_at lw_m7 33 rfl) rfl
theorem q1568 : (Jvm.Cond.code ({ cls := "PingEye", name := "filledWith", desc := "(II)LPingEye$Silo;" } : Jvm.MethodName) prog_1_method_43_code (5 : Nat) (Option.some (Jvm.ClassFile.FieldType.object "PingEye$Silo"))) ∈ lw_all := lw_g (lw_at lw_m7 34 rfl) rfl
theorem q1569 : (Jvm.Cond.methodLink "PingEye" (275 : Nat) ({ cls := "PingEye$Silo", name := "fills", desc := "(II)I" } : Jvm.MethodName)) ∈ lw_all := lw_g (lw_at lw_m7 35 rfl) rfl
theorem q1574 : (Jvm.Cond.instanceMethod ({ cls := "PingEye", name := "spilledIf", desc := "(II)I" } : Jvm.MethodName)) ∈ lw_all := lw_g (lw_at lw_m7 40 rfl) rfl
theorem q1575 : (Jvm.Cond.selects "PingEye" ({ cls := "PingEye", name := "spilledIf", desc := "(II)I" } : Jvm.MethodName) ({ cls := "PingEye", name := "spilledIf", desc := "(II)I" } : Jvm.MethodName)) ∈ lw_all := lw_g (lw_at lw_m7 41 rfl) rfl
theorem q1576 : (Jvm.Cond.code ({ cls := "PingEye", name := "spilledIf", desc := "(II)I" } : Jvm.MethodName) prog_1_method_45_code (4 : Nat) (Option.some Jvm.ClassFile.FieldType.int)) ∈ lw_all := lw_g (lw_at lw_m7 42 rfl) rfl
theorem q1581 : (Jvm.Cond.instanceMethod ({ cls := "PingEye", name := "fillTo", desc := "(II)I" } : Jvm.MethodName)) ∈ lw_all := lw_g (lw_at lw_m7 47 rfl) rfl
theorem q1582 : (Jvm.Cond.selects "PingEye" ({ cls := "PingEye", name := "fillTo", desc := "(II)I" } : Jvm.MethodName) ({ cls := "PingEye", name := "fillTo", desc := "(II)I" } : Jvm.MethodName)) ∈ lw_all := lw_g (lw_at lw_m7 48 rfl) rfl
theorem q1583 : (Jvm.Cond.code ({ cls := "PingEye", name := "fillTo", desc := "(II)I" } : Jvm.MethodName) prog_1_method_46_code (6 : Nat) (Option.some Jvm.ClassFile.FieldType.int)) ∈ lw_all := lw_g (lw_at lw_m7 49 rfl) rfl
theorem q1588 : (Jvm.Cond.instanceMethod ({ cls := "PingEye", name := "drawable", desc := "()I" } : Jvm.MethodName)) ∈ lw_all := lw_g (lw_at lw_m7 54 rfl) rfl
theorem q1589 : (Jvm.Cond.selects "PingEye" ({ cls := "PingEye", name := "drawable", desc := "()I" } : Jvm.MethodName) ({ cls := "PingEye", name := "drawable", desc := "()I" } : Jvm.MethodName)) ∈ lw_all := lw_g (lw_at lw_m7 55 rfl) rfl
theorem q1590 : (Jvm.Cond.code ({ cls := "PingEye", name := "drawable", desc := "()I" } : Jvm.MethodName) prog_1_method_47_code (1 : Nat) (Option.some Jvm.ClassFile.FieldType.int)) ∈ lw_all := lw_g (lw_at lw_m7 56 rfl) rfl
theorem q1591 : (Jvm.Cond.methodLink "PingEye" (285 : Nat) ({ cls := "PingEye$Silo", name := "drawsAll", desc := "()I" } : Jvm.MethodName)) ∈ lw_all := lw_g (lw_at lw_m7 57 rfl) rfl
theorem q1599 : (Jvm.Cond.instanceMethod ({ cls := "PingEye", name := "drawableIf", desc := "(I)I" } : Jvm.MethodName)) ∈ lw_all := lw_g (lw_at lw_m7 65 rfl) rfl
theorem q1600 : (Jvm.Cond.selects "PingEye" ({ cls := "PingEye", name := "drawableIf", desc := "(I)I" } : Jvm.MethodName) ({ cls := "PingEye", name := "drawableIf", desc := "(I)I" } : Jvm.MethodName)) ∈ lw_all := lw_g (lw_at lw_m7 66 rfl) rfl
theorem q1601 : (Jvm.Cond.code ({ cls := "PingEye", name := "drawableIf", desc := "(I)I" } : Jvm.MethodName) prog_1_method_49_code (3 : Nat) (Option.some Jvm.ClassFile.FieldType.int)) ∈ lw_all := lw_g (lw_at lw_m7 67 rfl) rfl
theorem q1602 : (Jvm.Cond.methodLink "PingEye" (291 : Nat) ({ cls := "PingEye", name := "drawableWith", desc := "(I)I" } : Jvm.MethodName)) ∈ lw_all := lw_g (lw_at lw_m7 68 rfl) rfl
theorem q1603 : (Jvm.Cond.privateMethod ({ cls := "PingEye", name := "drawableWith", desc := "(I)I" } : Jvm.MethodName)) ∈ lw_tbl := lw_at lw_m7 69 rfl
theorem q1604 : (Jvm.Cond.instanceMethod ({ cls := "PingEye", name := "drawableWith", desc := "(I)I" } : Jvm.MethodName)) ∈ lw_all := lw_g (lw_at lw_m7 70 rfl) rfl
theorem q1605 : (Jvm.Cond.code ({ cls := "PingEye", name := "drawableWith", desc := "(I)I" } : Jvm.MethodName) prog_1_method_48_code (4 : Nat) (Option.some Jvm.ClassFile.FieldType.int)) ∈ lw_all := lw_g (lw_at lw_m7 71 rfl) rfl
theorem q1606 : (Jvm.Cond.methodLink "PingEye" (288 : Nat) ({ cls := "PingEye$Silo", name := "slides", desc := "()I" } : Jvm.MethodName)) ∈ lw_all := lw_g (lw_at lw_m7 72 rfl) rfl
theorem q1611 : (Jvm.Cond.instanceMethod ({ cls := "PingEye", name := "bestLoosened", desc := "()I" } : Jvm.MethodName)) ∈ lw_all := lw_g (lw_at lw_m7 77 rfl) rfl
theorem q1612 : (Jvm.Cond.selects "PingEye" ({ cls := "PingEye", name := "bestLoosened", desc := "()I" } : Jvm.MethodName) ({ cls := "PingEye", name := "bestLoosened", desc := "()I" } : Jvm.MethodName)) ∈ lw_all := lw_g (lw_at lw_m7 78 rfl) rfl
theorem q1613 : (Jvm.Cond.code ({ cls := "PingEye", name := "bestLoosened", desc := "()I" } : Jvm.MethodName) prog_1_method_50_code (6 : Nat) (Option.some Jvm.ClassFile.FieldType.int)) ∈ lw_all := lw_g (lw_at lw_m7 79 rfl) rfl
theorem q1618 : (Jvm.Cond.instanceMethod ({ cls := "PingEye", name := "hangingUnits", desc := "()I" } : Jvm.MethodName)) ∈ lw_all := lw_g (lw_at lw_m7 84 rfl) rfl
theorem q1619 : (Jvm.Cond.selects "PingEye" ({ cls := "PingEye", name := "hangingUnits", desc := "()I" } : Jvm.MethodName) ({ cls := "PingEye", name := "hangingUnits", desc := "()I" } : Jvm.MethodName)) ∈ lw_all := lw_g (lw_at lw_m7 85 rfl) rfl
theorem q1620 : (Jvm.Cond.code ({ cls := "PingEye", name := "hangingUnits", desc := "()I" } : Jvm.MethodName) prog_1_method_51_code (1 : Nat) (Option.some Jvm.ClassFile.FieldType.int)) ∈ lw_all := lw_g (lw_at lw_m7 86 rfl) rfl
theorem q1621 : (Jvm.Cond.methodLink "PingEye" (294 : Nat) ({ cls := "PingEye", name := "drawable", desc := "()I" } : Jvm.MethodName)) ∈ lw_all := lw_g (lw_at lw_m7 87 rfl) rfl
theorem q1626 : (Jvm.Cond.instanceMethod ({ cls := "PingEye", name := "heightDrawn", desc := "(II)I" } : Jvm.MethodName)) ∈ lw_all := lw_g (lw_at lw_m7 92 rfl) rfl
theorem q1627 : (Jvm.Cond.selects "PingEye" ({ cls := "PingEye", name := "heightDrawn", desc := "(II)I" } : Jvm.MethodName) ({ cls := "PingEye", name := "heightDrawn", desc := "(II)I" } : Jvm.MethodName)) ∈ lw_all := lw_g (lw_at lw_m7 93 rfl) rfl
theorem q1628 : (Jvm.Cond.code ({ cls := "PingEye", name := "heightDrawn", desc := "(II)I" } : Jvm.MethodName) prog_1_method_52_code (5 : Nat) (Option.some Jvm.ClassFile.FieldType.int)) ∈ lw_all := lw_g (lw_at lw_m7 94 rfl) rfl
theorem q1629 : (Jvm.Cond.methodLink "PingEye" (297 : Nat) ({ cls := "PingEye$Silo", name := "draws", desc := "(I)I" } : Jvm.MethodName)) ∈ lw_all := lw_g (lw_at lw_m7 95 rfl) rfl
theorem q1634 : (Jvm.Cond.instanceMethod ({ cls := "PingEye", name := "levelIfFilled", desc := "(II)I" } : Jvm.MethodName)) ∈ lw_all := lw_g (lw_at lw_m7 100 rfl) rfl
theorem q1635 : (Jvm.Cond.selects "PingEye" ({ cls := "PingEye", name := "levelIfFilled", desc := "(II)I" } : Jvm.MethodName) ({ cls := "PingEye", name := "levelIfFilled", desc := "(II)I" } : Jvm.MethodName)) ∈ lw_all := lw_g (lw_at lw_m7 101 rfl) rfl
theorem q1636 : (Jvm.Cond.code ({ cls := "PingEye", name := "levelIfFilled", desc := "(II)I" } : Jvm.MethodName) prog_1_method_53_code (4 : Nat) (Option.some Jvm.ClassFile.FieldType.int)) ∈ lw_all := lw_g (lw_at lw_m7 102 rfl) rfl
theorem q1641 : (Jvm.Cond.instanceMethod ({ cls := "PingEye", name := "deafTo", desc := "()I" } : Jvm.MethodName)) ∈ lw_all := lw_g (lw_at lw_m7 107 rfl) rfl
theorem q1642 : (Jvm.Cond.selects "PingEye" ({ cls := "PingEye", name := "deafTo", desc := "()I" } : Jvm.MethodName) ({ cls := "PingEye", name := "deafTo", desc := "()I" } : Jvm.MethodName)) ∈ lw_all := lw_g (lw_at lw_m7 108 rfl) rfl
theorem q1643 : (Jvm.Cond.code ({ cls := "PingEye", name := "deafTo", desc := "()I" } : Jvm.MethodName) prog_1_method_54_code (6 : Nat) (Option.some Jvm.ClassFile.FieldType.int)) ∈ lw_all := lw_g (lw_at lw_m7 109 rfl) rfl
theorem q1648 : (Jvm.Cond.instanceMethod ({ cls := "PingEye", name := "slidIf", desc := "(II)I" } : Jvm.MethodName)) ∈ lw_all := lw_g (lw_at lw_m7 114 rfl) rfl
theorem q1649 : (Jvm.Cond.selects "PingEye" ({ cls := "PingEye", name := "slidIf", desc := "(II)I" } : Jvm.MethodName) ({ cls := "PingEye", name := "slidIf", desc := "(II)I" } : Jvm.MethodName)) ∈ lw_all := lw_g (lw_at lw_m7 115 rfl) rfl
theorem q1650 : (Jvm.Cond.code ({ cls := "PingEye", name := "slidIf", desc := "(II)I" } : Jvm.MethodName) prog_1_method_55_code (4 : Nat) (Option.some Jvm.ClassFile.FieldType.int)) ∈ lw_all := lw_g (lw_at lw_m7 116 rfl) rfl
theorem q1655 : (Jvm.Cond.instanceMethod ({ cls := "PingEye", name := "bestFill", desc := "(I)I" } : Jvm.MethodName)) ∈ lw_all := lw_g (lw_at lw_m7 121 rfl) rfl
theorem q1656 : (Jvm.Cond.selects "PingEye" ({ cls := "PingEye", name := "bestFill", desc := "(I)I" } : Jvm.MethodName) ({ cls := "PingEye", name := "bestFill", desc := "(I)I" } : Jvm.MethodName)) ∈ lw_all := lw_g (lw_at lw_m7 122 rfl) rfl
theorem q1657 : (Jvm.Cond.code ({ cls := "PingEye", name := "bestFill", desc := "(I)I" } : Jvm.MethodName) prog_1_method_57_code (7 : Nat) (Option.some Jvm.ClassFile.FieldType.int)) ∈ lw_all := lw_g (lw_at lw_m7 123 rfl) rfl
theorem q1658 : (Jvm.Cond.methodLink "PingEye" (300 : Nat) ({ cls := "PingEye", name := "isBetter", desc := "(LPingEye$Silo;LPingEye$Silo;)Z" } : Jvm.MethodName)) ∈ lw_all := lw_g (lw_at lw_m7 124 rfl) rfl
theorem q1659 : (Jvm.Cond.static ({ cls := "PingEye", name := "isBetter", desc := "(LPingEye$Silo;LPingEye$Silo;)Z" } : Jvm.MethodName)) ∈ lw_all := lw_g (lw_at lw_m7 125 rfl) rfl
theorem q1660 : (Jvm.Cond.code ({ cls := "PingEye", name := "isBetter", desc := "(LPingEye$Silo;LPingEye$Silo;)Z" } : Jvm.MethodName) prog_1_method_56_code (2 : Nat) (Option.some Jvm.ClassFile.FieldType.boolean)) ∈ lw_all := lw_g (lw_at lw_m7 126 rfl) rfl
theorem q1665 : (Jvm.Cond.instanceMethod ({ cls := "PingEye", name := "learntFalse", desc := "(I)I" } : Jvm.MethodName)) ∈ lw_all := lw_g (lw_at lw_m7 131 rfl) rfl
theorem q1666 : (Jvm.Cond.selects "PingEye" ({ cls := "PingEye", name := "learntFalse", desc := "(I)I" } : Jvm.MethodName) ({ cls := "PingEye", name := "learntFalse", desc := "(I)I" } : Jvm.MethodName)) ∈ lw_all := lw_g (lw_at lw_m7 132 rfl) rfl
theorem q1667 : (Jvm.Cond.code ({ cls := "PingEye", name := "learntFalse", desc := "(I)I" } : Jvm.MethodName) prog_1_method_59_code (3 : Nat) (Option.some Jvm.ClassFile.FieldType.int)) ∈ lw_all := lw_g (lw_at lw_m7 133 rfl) rfl
theorem q1668 : (Jvm.Cond.methodLink "PingEye" (304 : Nat) ({ cls := "PingEye", name := "withWay", desc := "(I)LPingEye$Silo;" } : Jvm.MethodName)) ∈ lw_all := lw_g (lw_at lw_m7 134 rfl) rfl
theorem q1669 : (Jvm.Cond.privateMethod ({ cls := "PingEye", name := "withWay", desc := "(I)LPingEye$Silo;" } : Jvm.MethodName)) ∈ lw_tbl := lw_at lw_m7 135 rfl
theorem q1670 : (Jvm.Cond.instanceMethod ({ cls := "PingEye", name := "withWay", desc := "(I)LPingEye$Silo;" } : Jvm.MethodName)) ∈ lw_all := lw_g (lw_at lw_m7 136 rfl) rfl
theorem q1671 : (Jvm.Cond.code ({ cls := "PingEye", name := "withWay", desc := "(I)LPingEye$Silo;" } : Jvm.MethodName) prog_1_method_16_code (3 : Nat) (Option.some (Jvm.ClassFile.FieldType.object "PingEye$Silo"))) ∈ lw_all := lw_g (lw_at lw_m7 137 rfl) rfl
theorem q1672 : (Jvm.Cond.methodLink "PingEye" (307 : Nat) ({ cls := "PingEye", name := "isHeapLearnt", desc := "(I)Z" } : Jvm.MethodName)) ∈ lw_all := lw_g (lw_at lw_m7 138 rfl) rfl
theorem q1673 : (Jvm.Cond.privateMethod ({ cls := "PingEye", name := "isHeapLearnt", desc := "(I)Z" } : Jvm.MethodName)) ∈ lw_tbl := lw_at lw_m7 139 rfl
theorem q1674 : (Jvm.Cond.instanceMethod ({ cls := "PingEye", name := "isHeapLearnt", desc := "(I)Z" } : Jvm.MethodName)) ∈ lw_all := lw_g (lw_at lw_m7 140 rfl) rfl
theorem q1675 : (Jvm.Cond.code ({ cls := "PingEye", name := "isHeapLearnt", desc := "(I)Z" } : Jvm.MethodName) prog_1_method_58_code (3 : Nat) (Option.some Jvm.ClassFile.FieldType.boolean)) ∈ lw_all := lw_g (lw_at lw_m7 141 rfl) rfl
theorem q1676 : (Jvm.Cond.methodLink "PingEye" (310 : Nat) ({ cls := "PingEye$Silo", name := "learns", desc := "(I)I" } : Jvm.MethodName)) ∈ lw_all := lw_g (lw_at lw_m7 142 rfl) rfl
theorem q1681 : (Jvm.Cond.instanceMethod ({ cls := "PingEye", name := "bestLearn", desc := "()I" } : Jvm.MethodName)) ∈ lw_all := lw_g (lw_at lw_m7 147 rfl) rfl
theorem q1682 : (Jvm.Cond.selects "PingEye" ({ cls := "PingEye", name := "bestLearn", desc := "()I" } : Jvm.MethodName) ({ cls := "PingEye", name := "bestLearn", desc := "()I" } : Jvm.MethodName)) ∈ lw_all := lw_g (lw_at lw_m7 148 rfl) rfl
theorem q1683 : (Jvm.Cond.code ({ cls := "PingEye", name := "bestLearn", desc := "()I" } : Jvm.MethodName) prog_1_method_60_code (2 : Nat) (Option.some Jvm.ClassFile.FieldType.int)) ∈ lw_all := lw_g (lw_at lw_m7 149 rfl) rfl
theorem q1688 : (Jvm.Cond.instanceMethod ({ cls := "PingEye", name := "share", desc := "()F" } : Jvm.MethodName)) ∈ lw_all := lw_g (lw_at lw_m7 154 rfl) rfl
theorem q1689 : (Jvm.Cond.selects "PingEye" ({ cls := "PingEye", name := "share", desc := "()F" } : Jvm.MethodName) ({ cls := "PingEye", name := "share", desc := "()F" } : Jvm.MethodName)) ∈ lw_all := lw_g (lw_at lw_m7 155 rfl) rfl
theorem q1690 : (Jvm.Cond.code ({ cls := "PingEye", name := "share", desc := "()F" } : Jvm.MethodName) prog_1_method_61_code (2 : Nat) (Option.some Jvm.ClassFile.FieldType.float)) ∈ lw_all := lw_g (lw_at lw_m7 156 rfl) rfl
theorem q1695 : (Jvm.Cond.instanceMethod ({ cls := "PingEye", name := "meanHeight", desc := "()D" } : Jvm.MethodName)) ∈ lw_all := lw_g (lw_at lw_m7 161 rfl) rfl
theorem q1696 : (Jvm.Cond.selects "PingEye" ({ cls := "PingEye", name := "meanHeight", desc := "()D" } : Jvm.MethodName) ({ cls := "PingEye", name := "meanHeight", desc := "()D" } : Jvm.MethodName)) ∈ lw_all := lw_g (lw_at lw_m7 162 rfl) rfl
theorem q1697 : (Jvm.Cond.code ({ cls := "PingEye", name := "meanHeight", desc := "()D" } : Jvm.MethodName) prog_1_method_62_code (2 : Nat) (Option.some Jvm.ClassFile.FieldType.double)) ∈ lw_all := lw_g (lw_at lw_m7 163 rfl) rfl
theorem q1702 : (Jvm.Cond.instanceMethod ({ cls := "PingEye", name := "writeSilo", desc := "()I" } : Jvm.MethodName)) ∈ lw_all := lw_g (lw_at lw_m7 168 rfl) rfl
theorem q1703 : (Jvm.Cond.selects "PingEye" ({ cls := "PingEye", name := "writeSilo", desc := "()I" } : Jvm.MethodName) ({ cls := "PingEye", name := "writeSilo", desc := "()I" } : Jvm.MethodName)) ∈ lw_all := lw_g (lw_at lw_m7 169 rfl) rfl
theorem q1704 : (Jvm.Cond.code ({ cls := "PingEye", name := "writeSilo", desc := "()I" } : Jvm.MethodName) prog_1_method_64_code (4 : Nat) (Option.some Jvm.ClassFile.FieldType.int)) ∈ lw_all := lw_g (lw_at lw_m7 170 rfl) rfl
theorem q1705 : (Jvm.Cond.classLink "PingEye" (314 : Nat) "java/lang/StringBuilder") ∈ lw_all := lw_g (lw_at lw_m7 171 rfl) rfl
theorem q1706 : (Jvm.Cond.methodLink "PingEye" (324 : Nat) ({ cls := "java/lang/StringBuilder", name := "<init>", desc := "(I)V" } : Jvm.MethodName)) ∈ lw_all := lw_g (lw_at lw_m7 172 rfl) rfl
theorem q1707 : (Jvm.Cond.stringRef "PingEye" (325 : Nat) " ") ∈ lw_tbl := lw_at lw_m7 173 rfl
theorem q1708 : (Jvm.Cond.methodLink "PingEye" (327 : Nat) ({ cls := "java/lang/StringBuilder", name := "append", desc := "(Ljava/lang/String;)Ljava/lang/StringBuilder;" } : Jvm.MethodName)) ∈ lw_all := lw_g (lw_at lw_m7 174 rfl) rfl
theorem q1709 : (Jvm.Cond.methodLink "PingEye" (331 : Nat) ({ cls := "java/lang/StringBuilder", name := "append", desc := "(I)Ljava/lang/StringBuilder;" } : Jvm.MethodName)) ∈ lw_all := lw_g (lw_at lw_m7 175 rfl) rfl
theorem q1710 : (Jvm.Cond.methodLink "PingEye" (334 : Nat) ({ cls := "java/lang/StringBuilder", name := "append", desc := "(C)Ljava/lang/StringBuilder;" } : Jvm.MethodName)) ∈ lw_all := lw_g (lw_at lw_m7 176 rfl) rfl
theorem q1711 : (Jvm.Cond.methodLink "PingEye" (337 : Nat) ({ cls := "PingEye", name := "write", desc := "(Ljava/lang/StringBuilder;)I" } : Jvm.MethodName)) ∈ lw_all := lw_g (lw_at lw_m7 177 rfl) rfl
theorem q1712 : (Jvm.Cond.privateMethod ({ cls := "PingEye", name := "write", desc := "(Ljava/lang/StringBuilder;)I" } : Jvm.MethodName)) ∈ lw_tbl := lw_at lw_m7 178 rfl
theorem q1713 : (Jvm.Cond.instanceMethod ({ cls := "PingEye", name := "write", desc := "(Ljava/lang/StringBuilder;)I" } : Jvm.MethodName)) ∈ lw_all := lw_g (lw_at lw_m7 179 rfl) rfl
theorem q1714 : (Jvm.Cond.code ({ cls := "PingEye", name := "write", desc := "(Ljava/lang/StringBuilder;)I" } : Jvm.MethodName) prog_1_method_63_code (2 : Nat) (Option.some Jvm.ClassFile.FieldType.int)) ∈ lw_all := lw_g (lw_at lw_m7 180 rfl) rfl
theorem q1715 : (Jvm.Cond.methodLink "PingEye" (313 : Nat) ({ cls := "java/lang/StringBuilder", name := "toString", desc := "()Ljava/lang/String;" } : Jvm.MethodName)) ∈ lw_all := lw_g (lw_at lw_m7 181 rfl) rfl
theorem q1716 : (Jvm.Cond.methodLink "PingEye" (319 : Nat) ({ cls := "java/lang/String", name := "length", desc := "()I" } : Jvm.MethodName)) ∈ lw_all := lw_g (lw_at lw_m7 182 rfl) rfl
theorem q1721 : (Jvm.Cond.instanceMethod ({ cls := "PingEye", name := "writeEchoes", desc := "()I" } : Jvm.MethodName)) ∈ lw_all := lw_g (lw_at lw_m7 187 rfl) rfl
theorem q1722 : (Jvm.Cond.selects "PingEye" ({ cls := "PingEye", name := "writeEchoes", desc := "()I" } : Jvm.MethodName) ({ cls := "PingEye", name := "writeEchoes", desc := "()I" } : Jvm.MethodName)) ∈ lw_all := lw_g (lw_at lw_m7 188 rfl) rfl
theorem q1723 : (Jvm.Cond.code ({ cls := "PingEye", name := "writeEchoes", desc := "()I" } : Jvm.MethodName) prog_1_method_65_code (5 : Nat) (Option.some Jvm.ClassFile.FieldType.int)) ∈ lw_all := lw_g (lw_at lw_m7 189 rfl) rfl
theorem q1724 : (Jvm.Cond.methodLink "PingEye" (341 : Nat) ({ cls := "java/lang/StringBuilder", name := "length", desc := "()I" } : Jvm.MethodName)) ∈ lw_all := lw_g (lw_at lw_m7 190 rfl) rfl
theorem q1729 : (Jvm.Cond.instanceMethod ({ cls := "PingEye", name := "writeRow", desc := "(I)I" } : Jvm.MethodName)) ∈ lw_all := lw_g (lw_at lw_m7 195 rfl) rfl
theorem q1730 : (Jvm.Cond.selects "PingEye" ({ cls := "PingEye", name := "writeRow", desc := "(I)I" } : Jvm.MethodName) ({ cls := "PingEye", name := "writeRow", desc := "(I)I" } : Jvm.MethodName)) ∈ lw_all := lw_g (lw_at lw_m7 196 rfl) rfl
theorem q1731 : (Jvm.Cond.code ({ cls := "PingEye", name := "writeRow", desc := "(I)I" } : Jvm.MethodName) prog_1_method_67_code (6 : Nat) (Option.some Jvm.ClassFile.FieldType.int)) ∈ lw_all := lw_g (lw_at lw_m7 197 rfl) rfl
theorem q1732 : (Jvm.Cond.methodLink "PingEye" (342 : Nat) ({ cls := "PingEye", name := "isBarAt", desc := "(LPingEye$Silo;I)Z" } : Jvm.MethodName)) ∈ lw_all := lw_g (lw_at lw_m7 198 rfl) rfl
theorem q1733 : (Jvm.Cond.static ({ cls := "PingEye", name := "isBarAt", desc := "(LPingEye$Silo;I)Z" } : Jvm.MethodName)) ∈ lw_all := lw_g (lw_at lw_m7 199 rfl) rfl
theorem q1734 : (Jvm.Cond.code ({ cls := "PingEye", name := "isBarAt", desc := "(LPingEye$Silo;I)Z" } : Jvm.MethodName) prog_1_method_66_code (4 : Nat) (Option.some Jvm.ClassFile.FieldType.boolean)) ∈ lw_all := lw_g (lw_at lw_m7 200 rfl) rfl
theorem q1739 : (Jvm.Cond.instanceMethod ({ cls := "PingEye", name := "textByte", desc := "(I)I" } : Jvm.MethodName)) ∈ lw_all := lw_g (lw_at lw_m7 205 rfl) rfl
theorem q1740 : (Jvm.Cond.selects "PingEye" ({ cls := "PingEye", name := "textByte", desc := "(I)I" } : Jvm.MethodName) ({ cls := "PingEye", name := "textByte", desc := "(I)I" } : Jvm.MethodName)) ∈ lw_all := lw_g (lw_at lw_m7 206 rfl) rfl
theorem q1741 : (Jvm.Cond.code ({ cls := "PingEye", name := "textByte", desc := "(I)I" } : Jvm.MethodName) prog_1_method_68_code (2 : Nat) (Option.some Jvm.ClassFile.FieldType.int)) ∈ lw_all := lw_g (lw_at lw_m7 207 rfl) rfl
theorem q1742 : (Jvm.Cond.methodLink "PingEye" (346 : Nat) ({ cls := "java/lang/String", name := "charAt", desc := "(I)C" } : Jvm.MethodName)) ∈ lw_all := lw_g (lw_at lw_m7 208 rfl) rfl
theorem q1757 : (Jvm.Cond.instanceMethod ({ cls := "PingEye", name := "fill", desc := "(II)I" } : Jvm.MethodName)) ∈ lw_all := lw_g (lw_at lw_m7 223 rfl) rfl
theorem q1758 : (Jvm.Cond.selects "PingEye" ({ cls := "PingEye", name := "fill", desc := "(II)I" } : Jvm.MethodName) ({ cls := "PingEye", name := "fill", desc := "(II)I" } : Jvm.MethodName)) ∈ lw_all := lw_g (lw_at lw_m7 224 rfl) rfl
theorem q1759 : (Jvm.Cond.code ({ cls := "PingEye", name := "fill", desc := "(II)I" } : Jvm.MethodName) prog_1_method_70_code (4 : Nat) (Option.some Jvm.ClassFile.FieldType.int)) ∈ lw_all := lw_g (lw_at lw_m7 225 rfl) rfl
theorem q1760 : (Jvm.Cond.methodLink "PingEye" (358 : Nat) ({ cls := "PingEye", name := "remember", desc := "()LPingEye$Silo;" } : Jvm.MethodName)) ∈ lw_all := lw_g (lw_at lw_m7 226 rfl) rfl
theorem q1761 : (Jvm.Cond.privateMethod ({ cls := "PingEye", name := "remember", desc := "()LPingEye$Silo;" } : Jvm.MethodName)) ∈ lw_tbl := lw_at lw_m7 227 rfl
theorem q1762 : (Jvm.Cond.instanceMethod ({ cls := "PingEye", name := "remember", desc := "()LPingEye$Silo;" } : Jvm.MethodName)) ∈ lw_all := lw_g (lw_at lw_m7 228 rfl) rfl
theorem q1763 : (Jvm.Cond.code ({ cls := "PingEye", name := "remember", desc := "()LPingEye$Silo;" } : Jvm.MethodName) prog_1_method_69_code (2 : Nat) (Option.some (Jvm.ClassFile.FieldType.object "PingEye$Silo"))) ∈ lw_all := lw_g (lw_at lw_m7 229 rfl) rfl
theorem q1764 : (Jvm.Cond.interfaceEntry "PingEye" (351 : Nat)) ∈ lw_tbl := lw_at lw_m7 230 rfl
theorem q1765 : (Jvm.Cond.methodLink "PingEye" (351 : Nat) ({ cls := "java/util/Deque", name := "removeFirst", desc := "()Ljava/lang/Object;" } : Jvm.MethodName)) ∈ lw_all := lw_g (lw_at lw_m7 231 rfl) rfl
theorem q1783 : (Jvm.Cond.interfaceEntry "PingEye" (354 : Nat)) ∈ lw_tbl := lw_at lw_m8 9 rfl
theorem q1784 : (Jvm.Cond.methodLink "PingEye" (354 : Nat) ({ cls := "java/util/Deque", name := "addLast", desc := "(Ljava/lang/Object;)V" } : Jvm.MethodName)) ∈ lw_all := lw_g (lw_at lw_m8 10 rfl) rfl
theorem q1813 : (Jvm.Cond.instanceMethod ({ cls := "PingEye", name := "draw", desc := "(I)I" } : Jvm.MethodName)) ∈ lw_all := lw_g (lw_at lw_m8 39 rfl) rfl
theorem q1814 : (Jvm.Cond.selects "PingEye" ({ cls := "PingEye", name := "draw", desc := "(I)I" } : Jvm.MethodName) ({ cls := "PingEye", name := "draw", desc := "(I)I" } : Jvm.MethodName)) ∈ lw_all := lw_g (lw_at lw_m8 40 rfl) rfl
theorem q1815 : (Jvm.Cond.code ({ cls := "PingEye", name := "draw", desc := "(I)I" } : Jvm.MethodName) prog_1_method_71_code (3 : Nat) (Option.some Jvm.ClassFile.FieldType.int)) ∈ lw_all := lw_g (lw_at lw_m8 41 rfl) rfl
theorem q1820 : (Jvm.Cond.instanceMethod ({ cls := "PingEye", name := "ping", desc := "()I" } : Jvm.MethodName)) ∈ lw_all := lw_g (lw_at lw_m8 46 rfl) rfl
theorem q1821 : (Jvm.Cond.selects "PingEye" ({ cls := "PingEye", name := "ping", desc := "()I" } : Jvm.MethodName) ({ cls := "PingEye", name := "ping", desc := "()I" } : Jvm.MethodName)) ∈ lw_all := lw_g (lw_at lw_m8 47 rfl) rfl
theorem q1822 : (Jvm.Cond.code ({ cls := "PingEye", name := "ping", desc := "()I" } : Jvm.MethodName) prog_1_method_72_code (2 : Nat) (Option.some Jvm.ClassFile.FieldType.int)) ∈ lw_all := lw_g (lw_at lw_m8 48 rfl) rfl
theorem q1827 : (Jvm.Cond.instanceMethod ({ cls := "PingEye", name := "empty", desc := "()I" } : Jvm.MethodName)) ∈ lw_all := lw_g (lw_at lw_m8 53 rfl) rfl
theorem q1828 : (Jvm.Cond.selects "PingEye" ({ cls := "PingEye", name := "empty", desc := "()I" } : Jvm.MethodName) ({ cls := "PingEye", name := "empty", desc := "()I" } : Jvm.MethodName)) ∈ lw_all := lw_g (lw_at lw_m8 54 rfl) rfl
theorem q1829 : (Jvm.Cond.code ({ cls := "PingEye", name := "empty", desc := "()I" } : Jvm.MethodName) prog_1_method_73_code (4 : Nat) (Option.some Jvm.ClassFile.FieldType.int)) ∈ lw_all := lw_g (lw_at lw_m8 55 rfl) rfl
theorem q1834 : (Jvm.Cond.instanceMethod ({ cls := "PingEye", name := "level", desc := "(Z)I" } : Jvm.MethodName)) ∈ lw_all := lw_g (lw_at lw_m8 60 rfl) rfl
theorem q1835 : (Jvm.Cond.selects "PingEye" ({ cls := "PingEye", name := "level", desc := "(Z)I" } : Jvm.MethodName) ({ cls := "PingEye", name := "level", desc := "(Z)I" } : Jvm.MethodName)) ∈ lw_all := lw_g (lw_at lw_m8 61 rfl) rfl
theorem q1836 : (Jvm.Cond.code ({ cls := "PingEye", name := "level", desc := "(Z)I" } : Jvm.MethodName) prog_1_method_74_code (9 : Nat) (Option.some Jvm.ClassFile.FieldType.int)) ∈ lw_all := lw_g (lw_at lw_m8 62 rfl) rfl
theorem q1841 : (Jvm.Cond.instanceMethod ({ cls := "PingEye", name := "learn", desc := "(I)I" } : Jvm.MethodName)) ∈ lw_all := lw_g (lw_at lw_m8 67 rfl) rfl
theorem q1842 : (Jvm.Cond.selects "PingEye" ({ cls := "PingEye", name := "learn", desc := "(I)I" } : Jvm.MethodName) ({ cls := "PingEye", name := "learn", desc := "(I)I" } : Jvm.MethodName)) ∈ lw_all := lw_g (lw_at lw_m8 68 rfl) rfl
theorem q1843 : (Jvm.Cond.code ({ cls := "PingEye", name := "learn", desc := "(I)I" } : Jvm.MethodName) prog_1_method_75_code (3 : Nat) (Option.some Jvm.ClassFile.FieldType.int)) ∈ lw_all := lw_g (lw_at lw_m8 69 rfl) rfl
theorem q1848 : (Jvm.Cond.instanceMethod ({ cls := "PingEye", name := "forget", desc := "()I" } : Jvm.MethodName)) ∈ lw_all := lw_g (lw_at lw_m8 74 rfl) rfl
theorem q1849 : (Jvm.Cond.selects "PingEye" ({ cls := "PingEye", name := "forget", desc := "()I" } : Jvm.MethodName) ({ cls := "PingEye", name := "forget", desc := "()I" } : Jvm.MethodName)) ∈ lw_all := lw_g (lw_at lw_m8 75 rfl) rfl
theorem q1850 : (Jvm.Cond.code ({ cls := "PingEye", name := "forget", desc := "()I" } : Jvm.MethodName) prog_1_method_76_code (7 : Nat) (Option.some Jvm.ClassFile.FieldType.int)) ∈ lw_all := lw_g (lw_at lw_m8 76 rfl) rfl
theorem q1851 : (Jvm.Cond.methodLink "PingEye" (361 : Nat) ({ cls := "java/util/Arrays", name := "fill", desc := "([II)V" } : Jvm.MethodName)) ∈ lw_all := lw_g (lw_at lw_m8 77 rfl) rfl
theorem q1858 : (Jvm.Cond.instanceMethod ({ cls := "PingEye", name := "waits", desc := "(I)I" } : Jvm.MethodName)) ∈ lw_all := lw_g (lw_at lw_m8 84 rfl) rfl
theorem q1859 : (Jvm.Cond.selects "PingEye" ({ cls := "PingEye", name := "waits", desc := "(I)I" } : Jvm.MethodName) ({ cls := "PingEye", name := "waits", desc := "(I)I" } : Jvm.MethodName)) ∈ lw_all := lw_g (lw_at lw_m8 85 rfl) rfl
theorem q1860 : (Jvm.Cond.code ({ cls := "PingEye", name := "waits", desc := "(I)I" } : Jvm.MethodName) prog_1_method_77_code (4 : Nat) (Option.some Jvm.ClassFile.FieldType.int)) ∈ lw_all := lw_g (lw_at lw_m8 86 rfl) rfl
theorem q1865 : (Jvm.Cond.instanceMethod ({ cls := "PingEye", name := "turnStuck", desc := "(I)I" } : Jvm.MethodName)) ∈ lw_all := lw_g (lw_at lw_m8 91 rfl) rfl
theorem q1866 : (Jvm.Cond.selects "PingEye" ({ cls := "PingEye", name := "turnStuck", desc := "(I)I" } : Jvm.MethodName) ({ cls := "PingEye", name := "turnStuck", desc := "(I)I" } : Jvm.MethodName)) ∈ lw_all := lw_g (lw_at lw_m8 92 rfl) rfl
theorem q1867 : (Jvm.Cond.code ({ cls := "PingEye", name := "turnStuck", desc := "(I)I" } : Jvm.MethodName) prog_1_method_78_code (3 : Nat) (Option.some Jvm.ClassFile.FieldType.int)) ∈ lw_all := lw_g (lw_at lw_m8 93 rfl) rfl
theorem q1868 : (Jvm.Cond.methodLink "PingEye" (364 : Nat) ({ cls := "PingEye$Silo", name := "turnsStuck", desc := "(I)I" } : Jvm.MethodName)) ∈ lw_all := lw_g (lw_at lw_m8 94 rfl) rfl
theorem q1876 : (Jvm.Cond.instanceMethod ({ cls := "PingEye", name := "setEye", desc := "(I)I" } : Jvm.MethodName)) ∈ lw_all := lw_g (lw_at lw_m8 102 rfl) rfl
theorem q1877 : (Jvm.Cond.selects "PingEye" ({ cls := "PingEye", name := "setEye", desc := "(I)I" } : Jvm.MethodName) ({ cls := "PingEye", name := "setEye", desc := "(I)I" } : Jvm.MethodName)) ∈ lw_all := lw_g (lw_at lw_m8 103 rfl) rfl
theorem q1878 : (Jvm.Cond.code ({ cls := "PingEye", name := "setEye", desc := "(I)I" } : Jvm.MethodName) prog_1_method_79_code (4 : Nat) (Option.some Jvm.ClassFile.FieldType.int)) ∈ lw_all := lw_g (lw_at lw_m8 104 rfl) rfl
theorem q1883 : (Jvm.Cond.instanceMethod ({ cls := "PingEye", name := "set", desc := "(II)I" } : Jvm.MethodName)) ∈ lw_all := lw_g (lw_at lw_m8 109 rfl) rfl
theorem q1884 : (Jvm.Cond.selects "PingEye" ({ cls := "PingEye", name := "set", desc := "(II)I" } : Jvm.MethodName) ({ cls := "PingEye", name := "set", desc := "(II)I" } : Jvm.MethodName)) ∈ lw_all := lw_g (lw_at lw_m8 110 rfl) rfl
theorem q1885 : (Jvm.Cond.code ({ cls := "PingEye", name := "set", desc := "(II)I" } : Jvm.MethodName) prog_1_method_80_code (4 : Nat) (Option.some Jvm.ClassFile.FieldType.int)) ∈ lw_all := lw_g (lw_at lw_m8 111 rfl) rfl
theorem q1886 : (Jvm.Cond.methodLink "PingEye" (367 : Nat) ({ cls := "PingEye", name := "least", desc := "(I)I" } : Jvm.MethodName)) ∈ lw_all := lw_g (lw_at lw_m8 112 rfl) rfl
theorem q1887 : (Jvm.Cond.methodLink "PingEye" (370 : Nat) ({ cls := "PingEye", name := "most", desc := "(LPingEye$Silo;I)I" } : Jvm.MethodName)) ∈ lw_all := lw_g (lw_at lw_m8 113 rfl) rfl
theorem q1892 : (Jvm.Cond.instanceMethod ({ cls := "PingEye", name := "undo", desc := "()I" } : Jvm.MethodName)) ∈ lw_all := lw_g (lw_at lw_m8 118 rfl) rfl
theorem q1893 : (Jvm.Cond.selects "PingEye" ({ cls := "PingEye", name := "undo", desc := "()I" } : Jvm.MethodName) ({ cls := "PingEye", name := "undo", desc := "()I" } : Jvm.MethodName)) ∈ lw_all := lw_g (lw_at lw_m8 119 rfl) rfl
theorem q1894 : (Jvm.Cond.code ({ cls := "PingEye", name := "undo", desc := "()I" } : Jvm.MethodName) prog_1_method_81_code (1 : Nat) (Option.some Jvm.ClassFile.FieldType.int)) ∈ lw_all := lw_g (lw_at lw_m8 120 rfl) rfl
theorem q1895 : (Jvm.Cond.interfaceEntry "PingEye" (374 : Nat)) ∈ lw_tbl := lw_at lw_m8 121 rfl
theorem q1903 : (Jvm.Cond.interfaceEntry "PingEye" (377 : Nat)) ∈ lw_tbl := lw_at lw_m8 129 rfl
theorem q1904 : (Jvm.Cond.methodLink "PingEye" (377 : Nat) ({ cls := "java/util/Deque", name := "removeLast", desc := "()Ljava/lang/Object;" } : Jvm.MethodName)) ∈ lw_all := lw_g (lw_at lw_m8 130 rfl) rfl
theorem q1923 : (Jvm.Cond.instanceMethod ({ cls := "PingEye", name := "save", desc := "(I)I" } : Jvm.MethodName)) ∈ lw_all := lw_g (lw_at lw_m8 149 rfl) rfl
theorem q1924 : (Jvm.Cond.selects "PingEye" ({ cls := "PingEye", name := "save", desc := "(I)I" } : Jvm.MethodName) ({ cls := "PingEye", name := "save", desc := "(I)I" } : Jvm.MethodName)) ∈ lw_all := lw_g (lw_at lw_m8 150 rfl) rfl
theorem q1925 : (Jvm.Cond.code ({ cls := "PingEye", name := "save", desc := "(I)I" } : Jvm.MethodName) prog_1_method_83_code (3 : Nat) (Option.some Jvm.ClassFile.FieldType.int)) ∈ lw_all := lw_g (lw_at lw_m8 151 rfl) rfl
theorem q1930 : (Jvm.Cond.instanceMethod ({ cls := "PingEye", name := "restore", desc := "(I)I" } : Jvm.MethodName)) ∈ lw_all := lw_g (lw_at lw_m8 156 rfl) rfl
theorem q1931 : (Jvm.Cond.selects "PingEye" ({ cls := "PingEye", name := "restore", desc := "(I)I" } : Jvm.MethodName) ({ cls := "PingEye", name := "restore", desc := "(I)I" } : Jvm.MethodName)) ∈ lw_all := lw_g (lw_at lw_m8 157 rfl) rfl
theorem q1932 : (Jvm.Cond.code ({ cls := "PingEye", name := "restore", desc := "(I)I" } : Jvm.MethodName) prog_1_method_84_code (2 : Nat) (Option.some Jvm.ClassFile.FieldType.int)) ∈ lw_all := lw_g (lw_at lw_m8 158 rfl) rfl
theorem q2544 : (Jvm.Cond.castable "PingEye" "java/lang/Object") ∈ lw_tbl := lw_at lw_m11 50 rfl
theorem in_X1 : ∀ w ∈ wsX10, w ∈ lw_all := lw_in wsX10 [176, 178, 180, 182, 184, 186, 188, 190] (by decide +kernel) (by decide +kernel)
