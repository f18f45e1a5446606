/-! PingEye$Parser -/
set_option maxRecDepth 100000
def RX3 : String := "PingEye$Parser"
def TX3 : u_T := fun k => match k with
  | 0 => ("PingEye$Parser", "size", "I", true)
  | 1 => ("PingEye$Parser", "from", "I", false)
  | 2 => ("PingEye$Parser", "to", "I", false)
  | 3 => ("PingEye$Parser", "value", "I", false)
  | 4 => ("PingEye$Parser", "token", "LPingEye$Token;", false)
  | 5 => ("PingEye$Parser", "word", "Ljava/lang/String;", false)
  | 6 => ("PingEye$Parser", "read", "LPingEye$Silo;", true)
  | _ => ("PingEye$Parser", "this$0", "LPingEye;", true)
def tyX3 : Nat → FieldType := fun k => match k with
  | 0 => .int
  | 1 => .int
  | 2 => .int
  | 3 => .int
  | 4 => .object "PingEye$Token"
  | 5 => .object "java/lang/String"
  | 6 => .object "PingEye$Silo"
  | _ => .object "PingEye"
abbrev wsX30 : List Cond := u_ws RX3 TX3 8
theorem nmX3 : ∀ a, a < 8 → ∀ b, b < 8 → a ≠ b → (TX3 a).2.1 ≠ (TX3 b).2.1 := by decide +kernel
theorem tyX3_ok : ∀ k, k < 8 → parseFieldDescriptor (TX3 k).2.2.1 = some (tyX3 k) := by decide +kernel
abbrev cX3_init : ByteArray := prog_5_method_1_code
def yX3_init : MethodName := ⟨RX3, "<init>", "(LPingEye;I)V"⟩
def dkwX3_init_2 : List UInt8 := [181, 0, 44, 43, 2, 181, 0, 47, 177]
abbrev dktX3_init_2 : List UInt8 := dkwX3_init_2 ++ []
def dkwX3_init_1 : List UInt8 := [187, 0, 30, 89, 183, 0, 32, 181, 0, 33, 42, 28, 181, 0, 37, 43, 3, 181, 0, 41, 43, 3]
abbrev dktX3_init_1 : List UInt8 := dkwX3_init_1 ++ dktX3_init_2
def dkwX3_init_0 : List UInt8 := [42, 43, 181, 0, 3, 42, 183, 0, 9, 42, 178, 0, 15, 181, 0, 21, 42, 18, 24, 181, 0, 26, 42]
abbrev dktX3_init_0 : List UInt8 := dkwX3_init_0 ++ dktX3_init_1
theorem dksX3_init_0 : cX3_init.data.toList.drop 0 = dktX3_init_0 := by decide +kernel
theorem dksX3_init_1 : cX3_init.data.toList.drop 23 = dktX3_init_1 := dk_seg dksX3_init_0 23 rfl rfl
theorem dksX3_init_2 : cX3_init.data.toList.drop 45 = dktX3_init_2 := dk_seg dksX3_init_1 22 rfl rfl
theorem dX3_init_0 : decode cX3_init 0 = .ok (.aload_n 0, 1) := dk_42 (dk_at dksX3_init_0 0 rfl rfl)
theorem dX3_init_1 : decode cX3_init 1 = .ok (.aload_n 1, 1) := dk_43 (dk_at dksX3_init_0 1 rfl rfl)
theorem dX3_init_2 : decode cX3_init 2 = .ok (.putfield 3, 3) := dk_181 0 3 (dk_at dksX3_init_0 2 rfl rfl)
theorem dX3_init_5 : decode cX3_init 5 = .ok (.aload_n 0, 1) := dk_42 (dk_at dksX3_init_0 5 rfl rfl)
theorem dX3_init_6 : decode cX3_init 6 = .ok (.invokespecial 9, 3) := dk_183 0 9 (dk_at dksX3_init_0 6 rfl rfl)
theorem dX3_init_9 : decode cX3_init 9 = .ok (.aload_n 0, 1) := dk_42 (dk_at dksX3_init_0 9 rfl rfl)
theorem dX3_init_10 : decode cX3_init 10 = .ok (.getstatic 15, 3) := dk_178 0 15 (dk_at dksX3_init_0 10 rfl rfl)
theorem dX3_init_13 : decode cX3_init 13 = .ok (.putfield 21, 3) := dk_181 0 21 (dk_at dksX3_init_0 13 rfl rfl)
theorem dX3_init_16 : decode cX3_init 16 = .ok (.aload_n 0, 1) := dk_42 (dk_at dksX3_init_0 16 rfl rfl)
theorem dX3_init_17 : decode cX3_init 17 = .ok (.ldc 24, 2) := dk_18 24 (dk_at dksX3_init_0 17 rfl rfl)
theorem dX3_init_19 : decode cX3_init 19 = .ok (.putfield 26, 3) := dk_181 0 26 (dk_at dksX3_init_0 19 rfl rfl)
theorem dX3_init_22 : decode cX3_init 22 = .ok (.aload_n 0, 1) := dk_42 (dk_at dksX3_init_0 22 rfl rfl)
theorem dX3_init_23 : decode cX3_init 23 = .ok (.new 30, 3) := dk_187 0 30 (dk_at dksX3_init_1 0 rfl rfl)
theorem dX3_init_26 : decode cX3_init 26 = .ok (.dup, 1) := dk_89 (dk_at dksX3_init_1 3 rfl rfl)
theorem dX3_init_27 : decode cX3_init 27 = .ok (.invokespecial 32, 3) := dk_183 0 32 (dk_at dksX3_init_1 4 rfl rfl)
theorem dX3_init_30 : decode cX3_init 30 = .ok (.putfield 33, 3) := dk_181 0 33 (dk_at dksX3_init_1 7 rfl rfl)
theorem dX3_init_33 : decode cX3_init 33 = .ok (.aload_n 0, 1) := dk_42 (dk_at dksX3_init_1 10 rfl rfl)
theorem dX3_init_34 : decode cX3_init 34 = .ok (.iload_n 2, 1) := dk_28 (dk_at dksX3_init_1 11 rfl rfl)
theorem dX3_init_35 : decode cX3_init 35 = .ok (.putfield 37, 3) := dk_181 0 37 (dk_at dksX3_init_1 12 rfl rfl)
theorem dX3_init_38 : decode cX3_init 38 = .ok (.aload_n 1, 1) := dk_43 (dk_at dksX3_init_1 15 rfl rfl)
theorem dX3_init_39 : decode cX3_init 39 = .ok (.iconst 0, 1) := dk_3 (dk_at dksX3_init_1 16 rfl rfl)
theorem dX3_init_40 : decode cX3_init 40 = .ok (.putfield 41, 3) := dk_181 0 41 (dk_at dksX3_init_1 17 rfl rfl)
theorem dX3_init_43 : decode cX3_init 43 = .ok (.aload_n 1, 1) := dk_43 (dk_at dksX3_init_1 20 rfl rfl)
theorem dX3_init_44 : decode cX3_init 44 = .ok (.iconst 0, 1) := dk_3 (dk_at dksX3_init_1 21 rfl rfl)
theorem dX3_init_45 : decode cX3_init 45 = .ok (.putfield 44, 3) := dk_181 0 44 (dk_at dksX3_init_2 0 rfl rfl)
theorem dX3_init_48 : decode cX3_init 48 = .ok (.aload_n 1, 1) := dk_43 (dk_at dksX3_init_2 3 rfl rfl)
theorem dX3_init_49 : decode cX3_init 49 = .ok (.iconst (-1), 1) := dk_2 (dk_at dksX3_init_2 4 rfl rfl)
theorem dX3_init_50 : decode cX3_init 50 = .ok (.putfield 47, 3) := dk_181 0 47 (dk_at dksX3_init_2 5 rfl rfl)
theorem dX3_init_53 : decode cX3_init 53 = .ok (.return_, 1) := dk_177 (dk_at dksX3_init_2 8 rfl rfl)
abbrev cX3_silo : ByteArray := prog_5_method_17_code
def yX3_silo : MethodName := ⟨RX3, "silo", "()LPingEye$Silo;"⟩
def dkwX3_silo_4 : List UInt8 := [180, 0, 33, 176]
abbrev dktX3_silo_4 : List UInt8 := dkwX3_silo_4 ++ []
def dkwX3_silo_3 : List UInt8 := [167, 255, 238, 42, 42, 180, 0, 21, 178, 0, 61, 166, 0, 7, 4, 167, 0, 4, 3, 4, 182, 0, 105, 42]
abbrev dktX3_silo_3 : List UInt8 := dkwX3_silo_3 ++ dktX3_silo_4
def dkwX3_silo_2 : List UInt8 := [16, 8, 182, 0, 241, 42, 180, 0, 21, 178, 0, 93, 166, 0, 14, 42, 182, 0, 113, 42, 182, 0, 245]
abbrev dktX3_silo_2 : List UInt8 := dkwX3_silo_2 ++ dktX3_silo_3
def dkwX3_silo_1 : List UInt8 := [166, 0, 7, 4, 167, 0, 4, 3, 4, 182, 0, 105, 42, 182, 0, 113, 42, 18, 243, 182, 0, 238, 42, 8]
abbrev dktX3_silo_1 : List UInt8 := dkwX3_silo_1 ++ dktX3_silo_2
def dkwX3_silo_0 : List UInt8 := [42, 182, 0, 113, 42, 18, 236, 182, 0, 238, 42, 3, 7, 182, 0, 241, 42, 42, 180, 0, 21, 178, 0, 93]
abbrev dktX3_silo_0 : List UInt8 := dkwX3_silo_0 ++ dktX3_silo_1
theorem dksX3_silo_0 : cX3_silo.data.toList.drop 0 = dktX3_silo_0 := by decide +kernel
theorem dksX3_silo_1 : cX3_silo.data.toList.drop 24 = dktX3_silo_1 := dk_seg dksX3_silo_0 24 rfl rfl
theorem dksX3_silo_2 : cX3_silo.data.toList.drop 48 = dktX3_silo_2 := dk_seg dksX3_silo_1 24 rfl rfl
theorem dksX3_silo_3 : cX3_silo.data.toList.drop 71 = dktX3_silo_3 := dk_seg dksX3_silo_2 23 rfl rfl
theorem dksX3_silo_4 : cX3_silo.data.toList.drop 95 = dktX3_silo_4 := dk_seg dksX3_silo_3 24 rfl rfl
theorem dX3_silo_0 : decode cX3_silo 0 = .ok (.aload_n 0, 1) := dk_42 (dk_at dksX3_silo_0 0 rfl rfl)
theorem dX3_silo_1 : decode cX3_silo 1 = .ok (.invokevirtual 113, 3) := dk_182 0 113 (dk_at dksX3_silo_0 1 rfl rfl)
theorem dX3_silo_4 : decode cX3_silo 4 = .ok (.aload_n 0, 1) := dk_42 (dk_at dksX3_silo_0 4 rfl rfl)
theorem dX3_silo_5 : decode cX3_silo 5 = .ok (.ldc 236, 2) := dk_18 236 (dk_at dksX3_silo_0 5 rfl rfl)
theorem dX3_silo_7 : decode cX3_silo 7 = .ok (.invokevirtual 238, 3) := dk_182 0 238 (dk_at dksX3_silo_0 7 rfl rfl)
theorem dX3_silo_10 : decode cX3_silo 10 = .ok (.aload_n 0, 1) := dk_42 (dk_at dksX3_silo_0 10 rfl rfl)
theorem dX3_silo_11 : decode cX3_silo 11 = .ok (.iconst 0, 1) := dk_3 (dk_at dksX3_silo_0 11 rfl rfl)
theorem dX3_silo_12 : decode cX3_silo 12 = .ok (.iconst 4, 1) := dk_7 (dk_at dksX3_silo_0 12 rfl rfl)
theorem dX3_silo_13 : decode cX3_silo 13 = .ok (.invokevirtual 241, 3) := dk_182 0 241 (dk_at dksX3_silo_0 13 rfl rfl)
theorem dX3_silo_16 : decode cX3_silo 16 = .ok (.aload_n 0, 1) := dk_42 (dk_at dksX3_silo_0 16 rfl rfl)
theorem dX3_silo_17 : decode cX3_silo 17 = .ok (.aload_n 0, 1) := dk_42 (dk_at dksX3_silo_0 17 rfl rfl)
theorem dX3_silo_18 : decode cX3_silo 18 = .ok (.getfield 21, 3) := dk_180 0 21 (dk_at dksX3_silo_0 18 rfl rfl)
theorem dX3_silo_21 : decode cX3_silo 21 = .ok (.getstatic 93, 3) := dk_178 0 93 (dk_at dksX3_silo_0 21 rfl rfl)
theorem dX3_silo_24 : decode cX3_silo 24 = .ok (.if_acmp .ne 7, 3) := dk_166 0 7 (dk_at dksX3_silo_1 0 rfl rfl)
theorem dX3_silo_27 : decode cX3_silo 27 = .ok (.iconst 1, 1) := dk_4 (dk_at dksX3_silo_1 3 rfl rfl)
theorem dX3_silo_28 : decode cX3_silo 28 = .ok (.goto 4, 3) := dk_167 0 4 (dk_at dksX3_silo_1 4 rfl rfl)
theorem dX3_silo_31 : decode cX3_silo 31 = .ok (.iconst 0, 1) := dk_3 (dk_at dksX3_silo_1 7 rfl rfl)
theorem dX3_silo_32 : decode cX3_silo 32 = .ok (.iconst 1, 1) := dk_4 (dk_at dksX3_silo_1 8 rfl rfl)
theorem dX3_silo_33 : decode cX3_silo 33 = .ok (.invokevirtual 105, 3) := dk_182 0 105 (dk_at dksX3_silo_1 9 rfl rfl)
theorem dX3_silo_36 : decode cX3_silo 36 = .ok (.aload_n 0, 1) := dk_42 (dk_at dksX3_silo_1 12 rfl rfl)
theorem dX3_silo_37 : decode cX3_silo 37 = .ok (.invokevirtual 113, 3) := dk_182 0 113 (dk_at dksX3_silo_1 13 rfl rfl)
theorem dX3_silo_40 : decode cX3_silo 40 = .ok (.aload_n 0, 1) := dk_42 (dk_at dksX3_silo_1 16 rfl rfl)
theorem dX3_silo_41 : decode cX3_silo 41 = .ok (.ldc 243, 2) := dk_18 243 (dk_at dksX3_silo_1 17 rfl rfl)
theorem dX3_silo_43 : decode cX3_silo 43 = .ok (.invokevirtual 238, 3) := dk_182 0 238 (dk_at dksX3_silo_1 19 rfl rfl)
theorem dX3_silo_46 : decode cX3_silo 46 = .ok (.aload_n 0, 1) := dk_42 (dk_at dksX3_silo_1 22 rfl rfl)
theorem dX3_silo_47 : decode cX3_silo 47 = .ok (.iconst 5, 1) := dk_8 (dk_at dksX3_silo_1 23 rfl rfl)
theorem dX3_silo_48 : decode cX3_silo 48 = .ok (.bipush 8, 2) := dk_16 8 (dk_at dksX3_silo_2 0 rfl rfl)
theorem dX3_silo_50 : decode cX3_silo 50 = .ok (.invokevirtual 241, 3) := dk_182 0 241 (dk_at dksX3_silo_2 2 rfl rfl)
theorem dX3_silo_53 : decode cX3_silo 53 = .ok (.aload_n 0, 1) := dk_42 (dk_at dksX3_silo_2 5 rfl rfl)
theorem dX3_silo_54 : decode cX3_silo 54 = .ok (.getfield 21, 3) := dk_180 0 21 (dk_at dksX3_silo_2 6 rfl rfl)
theorem dX3_silo_57 : decode cX3_silo 57 = .ok (.getstatic 93, 3) := dk_178 0 93 (dk_at dksX3_silo_2 9 rfl rfl)
theorem dX3_silo_60 : decode cX3_silo 60 = .ok (.if_acmp .ne 14, 3) := dk_166 0 14 (dk_at dksX3_silo_2 12 rfl rfl)
theorem dX3_silo_63 : decode cX3_silo 63 = .ok (.aload_n 0, 1) := dk_42 (dk_at dksX3_silo_2 15 rfl rfl)
theorem dX3_silo_64 : decode cX3_silo 64 = .ok (.invokevirtual 113, 3) := dk_182 0 113 (dk_at dksX3_silo_2 16 rfl rfl)
theorem dX3_silo_67 : decode cX3_silo 67 = .ok (.aload_n 0, 1) := dk_42 (dk_at dksX3_silo_2 19 rfl rfl)
theorem dX3_silo_68 : decode cX3_silo 68 = .ok (.invokevirtual 245, 3) := dk_182 0 245 (dk_at dksX3_silo_2 20 rfl rfl)
theorem dX3_silo_71 : decode cX3_silo 71 = .ok (.goto (-18), 3) := dk_167 255 238 (dk_at dksX3_silo_3 0 rfl rfl)
theorem dX3_silo_74 : decode cX3_silo 74 = .ok (.aload_n 0, 1) := dk_42 (dk_at dksX3_silo_3 3 rfl rfl)
theorem dX3_silo_75 : decode cX3_silo 75 = .ok (.aload_n 0, 1) := dk_42 (dk_at dksX3_silo_3 4 rfl rfl)
theorem dX3_silo_76 : decode cX3_silo 76 = .ok (.getfield 21, 3) := dk_180 0 21 (dk_at dksX3_silo_3 5 rfl rfl)
theorem dX3_silo_79 : decode cX3_silo 79 = .ok (.getstatic 61, 3) := dk_178 0 61 (dk_at dksX3_silo_3 8 rfl rfl)
theorem dX3_silo_82 : decode cX3_silo 82 = .ok (.if_acmp .ne 7, 3) := dk_166 0 7 (dk_at dksX3_silo_3 11 rfl rfl)
theorem dX3_silo_85 : decode cX3_silo 85 = .ok (.iconst 1, 1) := dk_4 (dk_at dksX3_silo_3 14 rfl rfl)
theorem dX3_silo_86 : decode cX3_silo 86 = .ok (.goto 4, 3) := dk_167 0 4 (dk_at dksX3_silo_3 15 rfl rfl)
theorem dX3_silo_89 : decode cX3_silo 89 = .ok (.iconst 0, 1) := dk_3 (dk_at dksX3_silo_3 18 rfl rfl)
theorem dX3_silo_90 : decode cX3_silo 90 = .ok (.iconst 1, 1) := dk_4 (dk_at dksX3_silo_3 19 rfl rfl)
theorem dX3_silo_91 : decode cX3_silo 91 = .ok (.invokevirtual 105, 3) := dk_182 0 105 (dk_at dksX3_silo_3 20 rfl rfl)
theorem dX3_silo_94 : decode cX3_silo 94 = .ok (.aload_n 0, 1) := dk_42 (dk_at dksX3_silo_3 23 rfl rfl)
theorem dX3_silo_95 : decode cX3_silo 95 = .ok (.getfield 33, 3) := dk_180 0 33 (dk_at dksX3_silo_4 0 rfl rfl)
theorem dX3_silo_98 : decode cX3_silo 98 = .ok (.areturn, 1) := dk_176 (dk_at dksX3_silo_4 3 rfl rfl)
abbrev cX3_advance : ByteArray := prog_5_method_4_code
def yX3_advance : MethodName := ⟨RX3, "advance", "()V"⟩
def dkwX3_advance_1 : List UInt8 := [167, 255, 233, 42, 42, 180, 0, 54, 181, 0, 73, 42, 42, 182, 0, 96, 181, 0, 21, 177]
abbrev dktX3_advance_1 : List UInt8 := dkwX3_advance_1 ++ []
def dkwX3_advance_0 : List UInt8 := [42, 42, 180, 0, 54, 182, 0, 57, 16, 32, 160, 0, 16, 42, 89, 180, 0, 54, 4, 96, 181, 0, 54]
abbrev dktX3_advance_0 : List UInt8 := dkwX3_advance_0 ++ dktX3_advance_1
theorem dksX3_advance_0 : cX3_advance.data.toList.drop 0 = dktX3_advance_0 := by decide +kernel
theorem dksX3_advance_1 : cX3_advance.data.toList.drop 23 = dktX3_advance_1 := dk_seg dksX3_advance_0 23 rfl rfl
theorem dX3_advance_0 : decode cX3_advance 0 = .ok (.aload_n 0, 1) := dk_42 (dk_at dksX3_advance_0 0 rfl rfl)
theorem dX3_advance_1 : decode cX3_advance 1 = .ok (.aload_n 0, 1) := dk_42 (dk_at dksX3_advance_0 1 rfl rfl)
theorem dX3_advance_2 : decode cX3_advance 2 = .ok (.getfield 54, 3) := dk_180 0 54 (dk_at dksX3_advance_0 2 rfl rfl)
theorem dX3_advance_5 : decode cX3_advance 5 = .ok (.invokevirtual 57, 3) := dk_182 0 57 (dk_at dksX3_advance_0 5 rfl rfl)
theorem dX3_advance_8 : decode cX3_advance 8 = .ok (.bipush 32, 2) := dk_16 32 (dk_at dksX3_advance_0 8 rfl rfl)
theorem dX3_advance_10 : decode cX3_advance 10 = .ok (.if_icmp .ne 16, 3) := dk_160 0 16 (dk_at dksX3_advance_0 10 rfl rfl)
theorem dX3_advance_13 : decode cX3_advance 13 = .ok (.aload_n 0, 1) := dk_42 (dk_at dksX3_advance_0 13 rfl rfl)
theorem dX3_advance_14 : decode cX3_advance 14 = .ok (.dup, 1) := dk_89 (dk_at dksX3_advance_0 14 rfl rfl)
theorem dX3_advance_15 : decode cX3_advance 15 = .ok (.getfield 54, 3) := dk_180 0 54 (dk_at dksX3_advance_0 15 rfl rfl)
theorem dX3_advance_18 : decode cX3_advance 18 = .ok (.iconst 1, 1) := dk_4 (dk_at dksX3_advance_0 18 rfl rfl)
theorem dX3_advance_19 : decode cX3_advance 19 = .ok (.iadd, 1) := dk_96 (dk_at dksX3_advance_0 19 rfl rfl)
theorem dX3_advance_20 : decode cX3_advance 20 = .ok (.putfield 54, 3) := dk_181 0 54 (dk_at dksX3_advance_0 20 rfl rfl)
theorem dX3_advance_23 : decode cX3_advance 23 = .ok (.goto (-23), 3) := dk_167 255 233 (dk_at dksX3_advance_1 0 rfl rfl)
theorem dX3_advance_26 : decode cX3_advance 26 = .ok (.aload_n 0, 1) := dk_42 (dk_at dksX3_advance_1 3 rfl rfl)
theorem dX3_advance_27 : decode cX3_advance 27 = .ok (.aload_n 0, 1) := dk_42 (dk_at dksX3_advance_1 4 rfl rfl)
theorem dX3_advance_28 : decode cX3_advance 28 = .ok (.getfield 54, 3) := dk_180 0 54 (dk_at dksX3_advance_1 5 rfl rfl)
theorem dX3_advance_31 : decode cX3_advance 31 = .ok (.putfield 73, 3) := dk_181 0 73 (dk_at dksX3_advance_1 8 rfl rfl)
theorem dX3_advance_34 : decode cX3_advance 34 = .ok (.aload_n 0, 1) := dk_42 (dk_at dksX3_advance_1 11 rfl rfl)
theorem dX3_advance_35 : decode cX3_advance 35 = .ok (.aload_n 0, 1) := dk_42 (dk_at dksX3_advance_1 12 rfl rfl)
theorem dX3_advance_36 : decode cX3_advance 36 = .ok (.invokevirtual 96, 3) := dk_182 0 96 (dk_at dksX3_advance_1 13 rfl rfl)
theorem dX3_advance_39 : decode cX3_advance 39 = .ok (.putfield 21, 3) := dk_181 0 21 (dk_at dksX3_advance_1 16 rfl rfl)
theorem dX3_advance_42 : decode cX3_advance 42 = .ok (.return_, 1) := dk_177 (dk_at dksX3_advance_1 19 rfl rfl)
abbrev cX3_byteAt : ByteArray := prog_5_method_2_code
def yX3_byteAt : MethodName := ⟨RX3, "byteAt", "(I)I"⟩
def dkwX3_byteAt_1 : List UInt8 := [2, 172]
abbrev dktX3_byteAt_1 : List UInt8 := dkwX3_byteAt_1 ++ []
def dkwX3_byteAt_0 : List UInt8 := [27, 42, 180, 0, 37, 162, 0, 19, 42, 180, 0, 3, 180, 0, 50, 27, 51, 17, 0, 255, 126, 167, 0, 4]
abbrev dktX3_byteAt_0 : List UInt8 := dkwX3_byteAt_0 ++ dktX3_byteAt_1
theorem dksX3_byteAt_0 : cX3_byteAt.data.toList.drop 0 = dktX3_byteAt_0 := by decide +kernel
theorem dksX3_byteAt_1 : cX3_byteAt.data.toList.drop 24 = dktX3_byteAt_1 := dk_seg dksX3_byteAt_0 24 rfl rfl
theorem dX3_byteAt_0 : decode cX3_byteAt 0 = .ok (.iload_n 1, 1) := dk_27 (dk_at dksX3_byteAt_0 0 rfl rfl)
theorem dX3_byteAt_1 : decode cX3_byteAt 1 = .ok (.aload_n 0, 1) := dk_42 (dk_at dksX3_byteAt_0 1 rfl rfl)
theorem dX3_byteAt_2 : decode cX3_byteAt 2 = .ok (.getfield 37, 3) := dk_180 0 37 (dk_at dksX3_byteAt_0 2 rfl rfl)
theorem dX3_byteAt_5 : decode cX3_byteAt 5 = .ok (.if_icmp .ge 19, 3) := dk_162 0 19 (dk_at dksX3_byteAt_0 5 rfl rfl)
theorem dX3_byteAt_8 : decode cX3_byteAt 8 = .ok (.aload_n 0, 1) := dk_42 (dk_at dksX3_byteAt_0 8 rfl rfl)
theorem dX3_byteAt_9 : decode cX3_byteAt 9 = .ok (.getfield 3, 3) := dk_180 0 3 (dk_at dksX3_byteAt_0 9 rfl rfl)
theorem dX3_byteAt_12 : decode cX3_byteAt 12 = .ok (.getfield 50, 3) := dk_180 0 50 (dk_at dksX3_byteAt_0 12 rfl rfl)
theorem dX3_byteAt_15 : decode cX3_byteAt 15 = .ok (.iload_n 1, 1) := dk_27 (dk_at dksX3_byteAt_0 15 rfl rfl)
theorem dX3_byteAt_16 : decode cX3_byteAt 16 = .ok (.baload, 1) := dk_51 (dk_at dksX3_byteAt_0 16 rfl rfl)
theorem dX3_byteAt_17 : decode cX3_byteAt 17 = .ok (.sipush 255, 3) := dk_17 0 255 (dk_at dksX3_byteAt_0 17 rfl rfl)
theorem dX3_byteAt_20 : decode cX3_byteAt 20 = .ok (.iand, 1) := dk_126 (dk_at dksX3_byteAt_0 20 rfl rfl)
theorem dX3_byteAt_21 : decode cX3_byteAt 21 = .ok (.goto 4, 3) := dk_167 0 4 (dk_at dksX3_byteAt_0 21 rfl rfl)
theorem dX3_byteAt_24 : decode cX3_byteAt 24 = .ok (.iconst (-1), 1) := dk_2 (dk_at dksX3_byteAt_1 0 rfl rfl)
theorem dX3_byteAt_25 : decode cX3_byteAt 25 = .ok (.ireturn, 1) := dk_172 (dk_at dksX3_byteAt_1 1 rfl rfl)
abbrev cX3_scan : ByteArray := prog_5_method_3_code
def yX3_scan : MethodName := ⟨RX3, "scan", "()LPingEye$Token;"⟩
def dkwX3_scan_11 : List UInt8 := [178, 0, 93, 167, 0, 6, 178, 0, 15, 176]
abbrev dktX3_scan_11 : List UInt8 := dkwX3_scan_11 ++ []
def dkwX3_scan_10 : List UInt8 := [167, 0, 6, 178, 0, 90, 176, 42, 89, 180, 0, 54, 4, 96, 181, 0, 54, 27, 16, 59, 160, 0, 9]
abbrev dktX3_scan_10 : List UInt8 := dkwX3_scan_10 ++ dktX3_scan_11
def dkwX3_scan_9 : List UInt8 := [4, 96, 181, 0, 54, 167, 255, 192, 42, 180, 0, 54, 42, 180, 0, 73, 100, 6, 164, 0, 9, 178, 0, 15]
abbrev dktX3_scan_9 : List UInt8 := dkwX3_scan_9 ++ dktX3_scan_10
def dkwX3_scan_8 : List UInt8 := [180, 0, 87, 104, 42, 42, 180, 0, 54, 182, 0, 57, 96, 16, 48, 100, 181, 0, 87, 42, 89, 180, 0, 54]
abbrev dktX3_scan_8 : List UInt8 := dkwX3_scan_8 ++ dktX3_scan_9
def dkwX3_scan_7 : List UInt8 := [184, 0, 64, 153, 0, 52, 42, 180, 0, 54, 42, 180, 0, 73, 100, 6, 162, 0, 26, 42, 16, 10, 42]
abbrev dktX3_scan_7 : List UInt8 := dkwX3_scan_7 ++ dktX3_scan_8
def dkwX3_scan_6 : List UInt8 := [184, 0, 64, 153, 0, 98, 42, 3, 181, 0, 87, 42, 42, 180, 0, 54, 182, 0, 57, 16, 48, 16, 57]
abbrev dktX3_scan_6 : List UInt8 := dkwX3_scan_6 ++ dktX3_scan_7
def dkwX3_scan_5 : List UInt8 := [164, 0, 7, 178, 0, 15, 176, 42, 44, 182, 0, 80, 181, 0, 26, 178, 0, 84, 176, 27, 16, 48, 16, 57]
abbrev dktX3_scan_5 : List UInt8 := dkwX3_scan_5 ++ dktX3_scan_6
def dkwX3_scan_4 : List UInt8 := [180, 0, 54, 4, 96, 181, 0, 54, 167, 255, 200, 42, 180, 0, 54, 42, 180, 0, 73, 100, 16, 6]
abbrev dktX3_scan_4 : List UInt8 := dkwX3_scan_4 ++ dktX3_scan_5
def dkwX3_scan_3 : List UInt8 := [100, 16, 6, 162, 0, 17, 44, 42, 42, 180, 0, 54, 182, 0, 57, 146, 182, 0, 76, 87, 42, 89]
abbrev dktX3_scan_3 : List UInt8 := dkwX3_scan_3 ++ dktX3_scan_4
def dkwX3_scan_2 : List UInt8 := [180, 0, 54, 182, 0, 57, 16, 97, 16, 122, 184, 0, 64, 153, 0, 44, 42, 180, 0, 54, 42, 180, 0, 73]
abbrev dktX3_scan_2 : List UInt8 := dkwX3_scan_2 ++ dktX3_scan_3
def dkwX3_scan_1 : List UInt8 := [16, 97, 16, 122, 184, 0, 64, 153, 0, 102, 187, 0, 68, 89, 16, 6, 183, 0, 70, 77, 42, 42]
abbrev dktX3_scan_1 : List UInt8 := dkwX3_scan_1 ++ dktX3_scan_2
def dkwX3_scan_0 : List UInt8 := [42, 18, 24, 181, 0, 26, 42, 42, 180, 0, 54, 182, 0, 57, 60, 27, 156, 0, 7, 178, 0, 61, 176, 27]
abbrev dktX3_scan_0 : List UInt8 := dkwX3_scan_0 ++ dktX3_scan_1
theorem dksX3_scan_0 : cX3_scan.data.toList.drop 0 = dktX3_scan_0 := by decide +kernel
theorem dksX3_scan_1 : cX3_scan.data.toList.drop 24 = dktX3_scan_1 := dk_seg dksX3_scan_0 24 rfl rfl
theorem dksX3_scan_2 : cX3_scan.data.toList.drop 46 = dktX3_scan_2 := dk_seg dksX3_scan_1 22 rfl rfl
theorem dksX3_scan_3 : cX3_scan.data.toList.drop 70 = dktX3_scan_3 := dk_seg dksX3_scan_2 24 rfl rfl
theorem dksX3_scan_4 : cX3_scan.data.toList.drop 92 = dktX3_scan_4 := dk_seg dksX3_scan_3 22 rfl rfl
theorem dksX3_scan_5 : cX3_scan.data.toList.drop 114 = dktX3_scan_5 := dk_seg dksX3_scan_4 22 rfl rfl
theorem dksX3_scan_6 : cX3_scan.data.toList.drop 138 = dktX3_scan_6 := dk_seg dksX3_scan_5 24 rfl rfl
theorem dksX3_scan_7 : cX3_scan.data.toList.drop 161 = dktX3_scan_7 := dk_seg dksX3_scan_6 23 rfl rfl
theorem dksX3_scan_8 : cX3_scan.data.toList.drop 184 = dktX3_scan_8 := dk_seg dksX3_scan_7 23 rfl rfl
theorem dksX3_scan_9 : cX3_scan.data.toList.drop 208 = dktX3_scan_9 := dk_seg dksX3_scan_8 24 rfl rfl
theorem dksX3_scan_10 : cX3_scan.data.toList.drop 232 = dktX3_scan_10 := dk_seg dksX3_scan_9 24 rfl rfl
theorem dksX3_scan_11 : cX3_scan.data.toList.drop 255 = dktX3_scan_11 := dk_seg dksX3_scan_10 23 rfl rfl
theorem dX3_scan_0 : decode cX3_scan 0 = .ok (.aload_n 0, 1) := dk_42 (dk_at dksX3_scan_0 0 rfl rfl)
theorem dX3_scan_1 : decode cX3_scan 1 = .ok (.ldc 24, 2) := dk_18 24 (dk_at dksX3_scan_0 1 rfl rfl)
theorem dX3_scan_3 : decode cX3_scan 3 = .ok (.putfield 26, 3) := dk_181 0 26 (dk_at dksX3_scan_0 3 rfl rfl)
theorem dX3_scan_6 : decode cX3_scan 6 = .ok (.aload_n 0, 1) := dk_42 (dk_at dksX3_scan_0 6 rfl rfl)
theorem dX3_scan_7 : decode cX3_scan 7 = .ok (.aload_n 0, 1) := dk_42 (dk_at dksX3_scan_0 7 rfl rfl)
theorem dX3_scan_8 : decode cX3_scan 8 = .ok (.getfield 54, 3) := dk_180 0 54 (dk_at dksX3_scan_0 8 rfl rfl)
theorem dX3_scan_11 : decode cX3_scan 11 = .ok (.invokevirtual 57, 3) := dk_182 0 57 (dk_at dksX3_scan_0 11 rfl rfl)
theorem dX3_scan_14 : decode cX3_scan 14 = .ok (.istore_n 1, 1) := dk_60 (dk_at dksX3_scan_0 14 rfl rfl)
theorem dX3_scan_15 : decode cX3_scan 15 = .ok (.iload_n 1, 1) := dk_27 (dk_at dksX3_scan_0 15 rfl rfl)
theorem dX3_scan_16 : decode cX3_scan 16 = .ok (.ifCond .ge 7, 3) := dk_156 0 7 (dk_at dksX3_scan_0 16 rfl rfl)
theorem dX3_scan_19 : decode cX3_scan 19 = .ok (.getstatic 61, 3) := dk_178 0 61 (dk_at dksX3_scan_0 19 rfl rfl)
theorem dX3_scan_22 : decode cX3_scan 22 = .ok (.areturn, 1) := dk_176 (dk_at dksX3_scan_0 22 rfl rfl)
theorem dX3_scan_23 : decode cX3_scan 23 = .ok (.iload_n 1, 1) := dk_27 (dk_at dksX3_scan_0 23 rfl rfl)
theorem dX3_scan_24 : decode cX3_scan 24 = .ok (.bipush 97, 2) := dk_16 97 (dk_at dksX3_scan_1 0 rfl rfl)
theorem dX3_scan_26 : decode cX3_scan 26 = .ok (.bipush 122, 2) := dk_16 122 (dk_at dksX3_scan_1 2 rfl rfl)
theorem dX3_scan_28 : decode cX3_scan 28 = .ok (.invokestatic 64, 3) := dk_184 0 64 (dk_at dksX3_scan_1 4 rfl rfl)
theorem dX3_scan_31 : decode cX3_scan 31 = .ok (.ifCond .eq 102, 3) := dk_153 0 102 (dk_at dksX3_scan_1 7 rfl rfl)
theorem dX3_scan_34 : decode cX3_scan 34 = .ok (.new 68, 3) := dk_187 0 68 (dk_at dksX3_scan_1 10 rfl rfl)
theorem dX3_scan_37 : decode cX3_scan 37 = .ok (.dup, 1) := dk_89 (dk_at dksX3_scan_1 13 rfl rfl)
theorem dX3_scan_38 : decode cX3_scan 38 = .ok (.bipush 6, 2) := dk_16 6 (dk_at dksX3_scan_1 14 rfl rfl)
theorem dX3_scan_40 : decode cX3_scan 40 = .ok (.invokespecial 70, 3) := dk_183 0 70 (dk_at dksX3_scan_1 16 rfl rfl)
theorem dX3_scan_43 : decode cX3_scan 43 = .ok (.astore_n 2, 1) := dk_77 (dk_at dksX3_scan_1 19 rfl rfl)
theorem dX3_scan_44 : decode cX3_scan 44 = .ok (.aload_n 0, 1) := dk_42 (dk_at dksX3_scan_1 20 rfl rfl)
theorem dX3_scan_45 : decode cX3_scan 45 = .ok (.aload_n 0, 1) := dk_42 (dk_at dksX3_scan_1 21 rfl rfl)
theorem dX3_scan_46 : decode cX3_scan 46 = .ok (.getfield 54, 3) := dk_180 0 54 (dk_at dksX3_scan_2 0 rfl rfl)
theorem dX3_scan_49 : decode cX3_scan 49 = .ok (.invokevirtual 57, 3) := dk_182 0 57 (dk_at dksX3_scan_2 3 rfl rfl)
theorem dX3_scan_52 : decode cX3_scan 52 = .ok (.bipush 97, 2) := dk_16 97 (dk_at dksX3_scan_2 6 rfl rfl)
theorem dX3_scan_54 : decode cX3_scan 54 = .ok (.bipush 122, 2) := dk_16 122 (dk_at dksX3_scan_2 8 rfl rfl)
theorem dX3_scan_56 : decode cX3_scan 56 = .ok (.invokestatic 64, 3) := dk_184 0 64 (dk_at dksX3_scan_2 10 rfl rfl)
theorem dX3_scan_59 : decode cX3_scan 59 = .ok (.ifCond .eq 44, 3) := dk_153 0 44 (dk_at dksX3_scan_2 13 rfl rfl)
theorem dX3_scan_62 : decode cX3_scan 62 = .ok (.aload_n 0, 1) := dk_42 (dk_at dksX3_scan_2 16 rfl rfl)
theorem dX3_scan_63 : decode cX3_scan 63 = .ok (.getfield 54, 3) := dk_180 0 54 (dk_at dksX3_scan_2 17 rfl rfl)
theorem dX3_scan_66 : decode cX3_scan 66 = .ok (.aload_n 0, 1) := dk_42 (dk_at dksX3_scan_2 20 rfl rfl)
theorem dX3_scan_67 : decode cX3_scan 67 = .ok (.getfield 73, 3) := dk_180 0 73 (dk_at dksX3_scan_2 21 rfl rfl)
theorem dX3_scan_70 : decode cX3_scan 70 = .ok (.isub, 1) := dk_100 (dk_at dksX3_scan_3 0 rfl rfl)
theorem dX3_scan_71 : decode cX3_scan 71 = .ok (.bipush 6, 2) := dk_16 6 (dk_at dksX3_scan_3 1 rfl rfl)
theorem dX3_scan_73 : decode cX3_scan 73 = .ok (.if_icmp .ge 17, 3) := dk_162 0 17 (dk_at dksX3_scan_3 3 rfl rfl)
theorem dX3_scan_76 : decode cX3_scan 76 = .ok (.aload_n 2, 1) := dk_44 (dk_at dksX3_scan_3 6 rfl rfl)
theorem dX3_scan_77 : decode cX3_scan 77 = .ok (.aload_n 0, 1) := dk_42 (dk_at dksX3_scan_3 7 rfl rfl)
theorem dX3_scan_78 : decode cX3_scan 78 = .ok (.aload_n 0, 1) := dk_42 (dk_at dksX3_scan_3 8 rfl rfl)
theorem dX3_scan_79 : decode cX3_scan 79 = .ok (.getfield 54, 3) := dk_180 0 54 (dk_at dksX3_scan_3 9 rfl rfl)
theorem dX3_scan_82 : decode cX3_scan 82 = .ok (.invokevirtual 57, 3) := dk_182 0 57 (dk_at dksX3_scan_3 12 rfl rfl)
theorem dX3_scan_85 : decode cX3_scan 85 = .ok (.i2c, 1) := dk_146 (dk_at dksX3_scan_3 15 rfl rfl)
theorem dX3_scan_86 : decode cX3_scan 86 = .ok (.invokevirtual 76, 3) := dk_182 0 76 (dk_at dksX3_scan_3 16 rfl rfl)
theorem dX3_scan_89 : decode cX3_scan 89 = .ok (.pop, 1) := dk_87 (dk_at dksX3_scan_3 19 rfl rfl)
theorem dX3_scan_90 : decode cX3_scan 90 = .ok (.aload_n 0, 1) := dk_42 (dk_at dksX3_scan_3 20 rfl rfl)
theorem dX3_scan_91 : decode cX3_scan 91 = .ok (.dup, 1) := dk_89 (dk_at dksX3_scan_3 21 rfl rfl)
theorem dX3_scan_92 : decode cX3_scan 92 = .ok (.getfield 54, 3) := dk_180 0 54 (dk_at dksX3_scan_4 0 rfl rfl)
theorem dX3_scan_95 : decode cX3_scan 95 = .ok (.iconst 1, 1) := dk_4 (dk_at dksX3_scan_4 3 rfl rfl)
theorem dX3_scan_96 : decode cX3_scan 96 = .ok (.iadd, 1) := dk_96 (dk_at dksX3_scan_4 4 rfl rfl)
theorem dX3_scan_97 : decode cX3_scan 97 = .ok (.putfield 54, 3) := dk_181 0 54 (dk_at dksX3_scan_4 5 rfl rfl)
theorem dX3_scan_100 : decode cX3_scan 100 = .ok (.goto (-56), 3) := dk_167 255 200 (dk_at dksX3_scan_4 8 rfl rfl)
theorem dX3_scan_103 : decode cX3_scan 103 = .ok (.aload_n 0, 1) := dk_42 (dk_at dksX3_scan_4 11 rfl rfl)
theorem dX3_scan_104 : decode cX3_scan 104 = .ok (.getfield 54, 3) := dk_180 0 54 (dk_at dksX3_scan_4 12 rfl rfl)
theorem dX3_scan_107 : decode cX3_scan 107 = .ok (.aload_n 0, 1) := dk_42 (dk_at dksX3_scan_4 15 rfl rfl)
theorem dX3_scan_108 : decode cX3_scan 108 = .ok (.getfield 73, 3) := dk_180 0 73 (dk_at dksX3_scan_4 16 rfl rfl)
theorem dX3_scan_111 : decode cX3_scan 111 = .ok (.isub, 1) := dk_100 (dk_at dksX3_scan_4 19 rfl rfl)
theorem dX3_scan_112 : decode cX3_scan 112 = .ok (.bipush 6, 2) := dk_16 6 (dk_at dksX3_scan_4 20 rfl rfl)
theorem dX3_scan_114 : decode cX3_scan 114 = .ok (.if_icmp .le 7, 3) := dk_164 0 7 (dk_at dksX3_scan_5 0 rfl rfl)
theorem dX3_scan_117 : decode cX3_scan 117 = .ok (.getstatic 15, 3) := dk_178 0 15 (dk_at dksX3_scan_5 3 rfl rfl)
theorem dX3_scan_120 : decode cX3_scan 120 = .ok (.areturn, 1) := dk_176 (dk_at dksX3_scan_5 6 rfl rfl)
theorem dX3_scan_121 : decode cX3_scan 121 = .ok (.aload_n 0, 1) := dk_42 (dk_at dksX3_scan_5 7 rfl rfl)
theorem dX3_scan_122 : decode cX3_scan 122 = .ok (.aload_n 2, 1) := dk_44 (dk_at dksX3_scan_5 8 rfl rfl)
theorem dX3_scan_123 : decode cX3_scan 123 = .ok (.invokevirtual 80, 3) := dk_182 0 80 (dk_at dksX3_scan_5 9 rfl rfl)
theorem dX3_scan_126 : decode cX3_scan 126 = .ok (.putfield 26, 3) := dk_181 0 26 (dk_at dksX3_scan_5 12 rfl rfl)
theorem dX3_scan_129 : decode cX3_scan 129 = .ok (.getstatic 84, 3) := dk_178 0 84 (dk_at dksX3_scan_5 15 rfl rfl)
theorem dX3_scan_132 : decode cX3_scan 132 = .ok (.areturn, 1) := dk_176 (dk_at dksX3_scan_5 18 rfl rfl)
theorem dX3_scan_133 : decode cX3_scan 133 = .ok (.iload_n 1, 1) := dk_27 (dk_at dksX3_scan_5 19 rfl rfl)
theorem dX3_scan_134 : decode cX3_scan 134 = .ok (.bipush 48, 2) := dk_16 48 (dk_at dksX3_scan_5 20 rfl rfl)
theorem dX3_scan_136 : decode cX3_scan 136 = .ok (.bipush 57, 2) := dk_16 57 (dk_at dksX3_scan_5 22 rfl rfl)
theorem dX3_scan_138 : decode cX3_scan 138 = .ok (.invokestatic 64, 3) := dk_184 0 64 (dk_at dksX3_scan_6 0 rfl rfl)
theorem dX3_scan_141 : decode cX3_scan 141 = .ok (.ifCond .eq 98, 3) := dk_153 0 98 (dk_at dksX3_scan_6 3 rfl rfl)
theorem dX3_scan_144 : decode cX3_scan 144 = .ok (.aload_n 0, 1) := dk_42 (dk_at dksX3_scan_6 6 rfl rfl)
theorem dX3_scan_145 : decode cX3_scan 145 = .ok (.iconst 0, 1) := dk_3 (dk_at dksX3_scan_6 7 rfl rfl)
theorem dX3_scan_146 : decode cX3_scan 146 = .ok (.putfield 87, 3) := dk_181 0 87 (dk_at dksX3_scan_6 8 rfl rfl)
theorem dX3_scan_149 : decode cX3_scan 149 = .ok (.aload_n 0, 1) := dk_42 (dk_at dksX3_scan_6 11 rfl rfl)
theorem dX3_scan_150 : decode cX3_scan 150 = .ok (.aload_n 0, 1) := dk_42 (dk_at dksX3_scan_6 12 rfl rfl)
theorem dX3_scan_151 : decode cX3_scan 151 = .ok (.getfield 54, 3) := dk_180 0 54 (dk_at dksX3_scan_6 13 rfl rfl)
theorem dX3_scan_154 : decode cX3_scan 154 = .ok (.invokevirtual 57, 3) := dk_182 0 57 (dk_at dksX3_scan_6 16 rfl rfl)
theorem dX3_scan_157 : decode cX3_scan 157 = .ok (.bipush 48, 2) := dk_16 48 (dk_at dksX3_scan_6 19 rfl rfl)
theorem dX3_scan_159 : decode cX3_scan 159 = .ok (.bipush 57, 2) := dk_16 57 (dk_at dksX3_scan_6 21 rfl rfl)
theorem dX3_scan_161 : decode cX3_scan 161 = .ok (.invokestatic 64, 3) := dk_184 0 64 (dk_at dksX3_scan_7 0 rfl rfl)
theorem dX3_scan_164 : decode cX3_scan 164 = .ok (.ifCond .eq 52, 3) := dk_153 0 52 (dk_at dksX3_scan_7 3 rfl rfl)
theorem dX3_scan_167 : decode cX3_scan 167 = .ok (.aload_n 0, 1) := dk_42 (dk_at dksX3_scan_7 6 rfl rfl)
theorem dX3_scan_168 : decode cX3_scan 168 = .ok (.getfield 54, 3) := dk_180 0 54 (dk_at dksX3_scan_7 7 rfl rfl)
theorem dX3_scan_171 : decode cX3_scan 171 = .ok (.aload_n 0, 1) := dk_42 (dk_at dksX3_scan_7 10 rfl rfl)
theorem dX3_scan_172 : decode cX3_scan 172 = .ok (.getfield 73, 3) := dk_180 0 73 (dk_at dksX3_scan_7 11 rfl rfl)
theorem dX3_scan_175 : decode cX3_scan 175 = .ok (.isub, 1) := dk_100 (dk_at dksX3_scan_7 14 rfl rfl)
theorem dX3_scan_176 : decode cX3_scan 176 = .ok (.iconst 3, 1) := dk_6 (dk_at dksX3_scan_7 15 rfl rfl)
theorem dX3_scan_177 : decode cX3_scan 177 = .ok (.if_icmp .ge 26, 3) := dk_162 0 26 (dk_at dksX3_scan_7 16 rfl rfl)
theorem dX3_scan_180 : decode cX3_scan 180 = .ok (.aload_n 0, 1) := dk_42 (dk_at dksX3_scan_7 19 rfl rfl)
theorem dX3_scan_181 : decode cX3_scan 181 = .ok (.bipush 10, 2) := dk_16 10 (dk_at dksX3_scan_7 20 rfl rfl)
theorem dX3_scan_183 : decode cX3_scan 183 = .ok (.aload_n 0, 1) := dk_42 (dk_at dksX3_scan_7 22 rfl rfl)
theorem dX3_scan_184 : decode cX3_scan 184 = .ok (.getfield 87, 3) := dk_180 0 87 (dk_at dksX3_scan_8 0 rfl rfl)
theorem dX3_scan_187 : decode cX3_scan 187 = .ok (.imul, 1) := dk_104 (dk_at dksX3_scan_8 3 rfl rfl)
theorem dX3_scan_188 : decode cX3_scan 188 = .ok (.aload_n 0, 1) := dk_42 (dk_at dksX3_scan_8 4 rfl rfl)
theorem dX3_scan_189 : decode cX3_scan 189 = .ok (.aload_n 0, 1) := dk_42 (dk_at dksX3_scan_8 5 rfl rfl)
theorem dX3_scan_190 : decode cX3_scan 190 = .ok (.getfield 54, 3) := dk_180 0 54 (dk_at dksX3_scan_8 6 rfl rfl)
theorem dX3_scan_193 : decode cX3_scan 193 = .ok (.invokevirtual 57, 3) := dk_182 0 57 (dk_at dksX3_scan_8 9 rfl rfl)
theorem dX3_scan_196 : decode cX3_scan 196 = .ok (.iadd, 1) := dk_96 (dk_at dksX3_scan_8 12 rfl rfl)
theorem dX3_scan_197 : decode cX3_scan 197 = .ok (.bipush 48, 2) := dk_16 48 (dk_at dksX3_scan_8 13 rfl rfl)
theorem dX3_scan_199 : decode cX3_scan 199 = .ok (.isub, 1) := dk_100 (dk_at dksX3_scan_8 15 rfl rfl)
theorem dX3_scan_200 : decode cX3_scan 200 = .ok (.putfield 87, 3) := dk_181 0 87 (dk_at dksX3_scan_8 16 rfl rfl)
theorem dX3_scan_203 : decode cX3_scan 203 = .ok (.aload_n 0, 1) := dk_42 (dk_at dksX3_scan_8 19 rfl rfl)
theorem dX3_scan_204 : decode cX3_scan 204 = .ok (.dup, 1) := dk_89 (dk_at dksX3_scan_8 20 rfl rfl)
theorem dX3_scan_205 : decode cX3_scan 205 = .ok (.getfield 54, 3) := dk_180 0 54 (dk_at dksX3_scan_8 21 rfl rfl)
theorem dX3_scan_208 : decode cX3_scan 208 = .ok (.iconst 1, 1) := dk_4 (dk_at dksX3_scan_9 0 rfl rfl)
theorem dX3_scan_209 : decode cX3_scan 209 = .ok (.iadd, 1) := dk_96 (dk_at dksX3_scan_9 1 rfl rfl)
theorem dX3_scan_210 : decode cX3_scan 210 = .ok (.putfield 54, 3) := dk_181 0 54 (dk_at dksX3_scan_9 2 rfl rfl)
theorem dX3_scan_213 : decode cX3_scan 213 = .ok (.goto (-64), 3) := dk_167 255 192 (dk_at dksX3_scan_9 5 rfl rfl)
theorem dX3_scan_216 : decode cX3_scan 216 = .ok (.aload_n 0, 1) := dk_42 (dk_at dksX3_scan_9 8 rfl rfl)
theorem dX3_scan_217 : decode cX3_scan 217 = .ok (.getfield 54, 3) := dk_180 0 54 (dk_at dksX3_scan_9 9 rfl rfl)
theorem dX3_scan_220 : decode cX3_scan 220 = .ok (.aload_n 0, 1) := dk_42 (dk_at dksX3_scan_9 12 rfl rfl)
theorem dX3_scan_221 : decode cX3_scan 221 = .ok (.getfield 73, 3) := dk_180 0 73 (dk_at dksX3_scan_9 13 rfl rfl)
theorem dX3_scan_224 : decode cX3_scan 224 = .ok (.isub, 1) := dk_100 (dk_at dksX3_scan_9 16 rfl rfl)
theorem dX3_scan_225 : decode cX3_scan 225 = .ok (.iconst 3, 1) := dk_6 (dk_at dksX3_scan_9 17 rfl rfl)
theorem dX3_scan_226 : decode cX3_scan 226 = .ok (.if_icmp .le 9, 3) := dk_164 0 9 (dk_at dksX3_scan_9 18 rfl rfl)
theorem dX3_scan_229 : decode cX3_scan 229 = .ok (.getstatic 15, 3) := dk_178 0 15 (dk_at dksX3_scan_9 21 rfl rfl)
theorem dX3_scan_232 : decode cX3_scan 232 = .ok (.goto 6, 3) := dk_167 0 6 (dk_at dksX3_scan_10 0 rfl rfl)
theorem dX3_scan_235 : decode cX3_scan 235 = .ok (.getstatic 90, 3) := dk_178 0 90 (dk_at dksX3_scan_10 3 rfl rfl)
theorem dX3_scan_238 : decode cX3_scan 238 = .ok (.areturn, 1) := dk_176 (dk_at dksX3_scan_10 6 rfl rfl)
theorem dX3_scan_239 : decode cX3_scan 239 = .ok (.aload_n 0, 1) := dk_42 (dk_at dksX3_scan_10 7 rfl rfl)
theorem dX3_scan_240 : decode cX3_scan 240 = .ok (.dup, 1) := dk_89 (dk_at dksX3_scan_10 8 rfl rfl)
theorem dX3_scan_241 : decode cX3_scan 241 = .ok (.getfield 54, 3) := dk_180 0 54 (dk_at dksX3_scan_10 9 rfl rfl)
theorem dX3_scan_244 : decode cX3_scan 244 = .ok (.iconst 1, 1) := dk_4 (dk_at dksX3_scan_10 12 rfl rfl)
theorem dX3_scan_245 : decode cX3_scan 245 = .ok (.iadd, 1) := dk_96 (dk_at dksX3_scan_10 13 rfl rfl)
theorem dX3_scan_246 : decode cX3_scan 246 = .ok (.putfield 54, 3) := dk_181 0 54 (dk_at dksX3_scan_10 14 rfl rfl)
theorem dX3_scan_249 : decode cX3_scan 249 = .ok (.iload_n 1, 1) := dk_27 (dk_at dksX3_scan_10 17 rfl rfl)
theorem dX3_scan_250 : decode cX3_scan 250 = .ok (.bipush 59, 2) := dk_16 59 (dk_at dksX3_scan_10 18 rfl rfl)
theorem dX3_scan_252 : decode cX3_scan 252 = .ok (.if_icmp .ne 9, 3) := dk_160 0 9 (dk_at dksX3_scan_10 20 rfl rfl)
theorem dX3_scan_255 : decode cX3_scan 255 = .ok (.getstatic 93, 3) := dk_178 0 93 (dk_at dksX3_scan_11 0 rfl rfl)
theorem dX3_scan_258 : decode cX3_scan 258 = .ok (.goto 6, 3) := dk_167 0 6 (dk_at dksX3_scan_11 3 rfl rfl)
theorem dX3_scan_261 : decode cX3_scan 261 = .ok (.getstatic 15, 3) := dk_178 0 15 (dk_at dksX3_scan_11 6 rfl rfl)
theorem dX3_scan_264 : decode cX3_scan 264 = .ok (.areturn, 1) := dk_176 (dk_at dksX3_scan_11 9 rfl rfl)
abbrev cX3_word : ByteArray := prog_5_method_8_code
def yX3_word : MethodName := ⟨RX3, "word", "(Ljava/lang/String;)V"⟩
def dkwX3_word_0 : List UInt8 := [42, 42, 180, 0, 26, 43, 182, 0, 116, 4, 182, 0, 105, 42, 182, 0, 113, 177]
abbrev dktX3_word_0 : List UInt8 := dkwX3_word_0 ++ []
theorem dksX3_word_0 : cX3_word.data.toList.drop 0 = dktX3_word_0 := by decide +kernel
theorem dX3_word_0 : decode cX3_word 0 = .ok (.aload_n 0, 1) := dk_42 (dk_at dksX3_word_0 0 rfl rfl)
theorem dX3_word_1 : decode cX3_word 1 = .ok (.aload_n 0, 1) := dk_42 (dk_at dksX3_word_0 1 rfl rfl)
theorem dX3_word_2 : decode cX3_word 2 = .ok (.getfield 26, 3) := dk_180 0 26 (dk_at dksX3_word_0 2 rfl rfl)
theorem dX3_word_5 : decode cX3_word 5 = .ok (.aload_n 1, 1) := dk_43 (dk_at dksX3_word_0 5 rfl rfl)
theorem dX3_word_6 : decode cX3_word 6 = .ok (.invokevirtual 116, 3) := dk_182 0 116 (dk_at dksX3_word_0 6 rfl rfl)
theorem dX3_word_9 : decode cX3_word 9 = .ok (.iconst 1, 1) := dk_4 (dk_at dksX3_word_0 9 rfl rfl)
theorem dX3_word_10 : decode cX3_word 10 = .ok (.invokevirtual 105, 3) := dk_182 0 105 (dk_at dksX3_word_0 10 rfl rfl)
theorem dX3_word_13 : decode cX3_word 13 = .ok (.aload_n 0, 1) := dk_42 (dk_at dksX3_word_0 13 rfl rfl)
theorem dX3_word_14 : decode cX3_word 14 = .ok (.invokevirtual 113, 3) := dk_182 0 113 (dk_at dksX3_word_0 14 rfl rfl)
theorem dX3_word_17 : decode cX3_word 17 = .ok (.return_, 1) := dk_177 (dk_at dksX3_word_0 17 rfl rfl)
abbrev cX3_require : ByteArray := prog_5_method_5_code
def yX3_require : MethodName := ⟨RX3, "require", "(ZI)V"⟩
def dkwX3_require_0 : List UInt8 := [27, 154, 0, 16, 187, 0, 100, 89, 28, 42, 180, 0, 73, 183, 0, 102, 191, 177]
abbrev dktX3_require_0 : List UInt8 := dkwX3_require_0 ++ []
theorem dksX3_require_0 : cX3_require.data.toList.drop 0 = dktX3_require_0 := by decide +kernel
theorem dX3_require_0 : decode cX3_require 0 = .ok (.iload_n 1, 1) := dk_27 (dk_at dksX3_require_0 0 rfl rfl)
theorem dX3_require_1 : decode cX3_require 1 = .ok (.ifCond .ne 16, 3) := dk_154 0 16 (dk_at dksX3_require_0 1 rfl rfl)
theorem dX3_require_4 : decode cX3_require 4 = .ok (.new 100, 3) := dk_187 0 100 (dk_at dksX3_require_0 4 rfl rfl)
theorem dX3_require_7 : decode cX3_require 7 = .ok (.dup, 1) := dk_89 (dk_at dksX3_require_0 7 rfl rfl)
theorem dX3_require_8 : decode cX3_require 8 = .ok (.iload_n 2, 1) := dk_28 (dk_at dksX3_require_0 8 rfl rfl)
theorem dX3_require_9 : decode cX3_require 9 = .ok (.aload_n 0, 1) := dk_42 (dk_at dksX3_require_0 9 rfl rfl)
theorem dX3_require_10 : decode cX3_require 10 = .ok (.getfield 73, 3) := dk_180 0 73 (dk_at dksX3_require_0 10 rfl rfl)
theorem dX3_require_13 : decode cX3_require 13 = .ok (.invokespecial 102, 3) := dk_183 0 102 (dk_at dksX3_require_0 13 rfl rfl)
theorem dX3_require_16 : decode cX3_require 16 = .ok (.athrow, 1) := dk_191 (dk_at dksX3_require_0 16 rfl rfl)
theorem dX3_require_17 : decode cX3_require 17 = .ok (.return_, 1) := dk_177 (dk_at dksX3_require_0 17 rfl rfl)
abbrev cX3_numbers : ByteArray := prog_5_method_9_code
def yX3_numbers : MethodName := ⟨RX3, "numbers", "(II)V"⟩
def dkwX3_numbers_1 : List UInt8 := [29, 184, 0, 129, 182, 0, 133, 79, 132, 3, 1, 167, 255, 223, 177]
abbrev dktX3_numbers_1 : List UInt8 := dkwX3_numbers_1 ++ []
def dkwX3_numbers_0 : List UInt8 := [27, 62, 29, 28, 163, 0, 34, 42, 180, 0, 33, 180, 0, 122, 29, 42, 29, 184, 0, 126, 42, 180, 0, 33]
abbrev dktX3_numbers_0 : List UInt8 := dkwX3_numbers_0 ++ dktX3_numbers_1
theorem dksX3_numbers_0 : cX3_numbers.data.toList.drop 0 = dktX3_numbers_0 := by decide +kernel
theorem dksX3_numbers_1 : cX3_numbers.data.toList.drop 24 = dktX3_numbers_1 := dk_seg dksX3_numbers_0 24 rfl rfl
theorem dX3_numbers_0 : decode cX3_numbers 0 = .ok (.iload_n 1, 1) := dk_27 (dk_at dksX3_numbers_0 0 rfl rfl)
theorem dX3_numbers_1 : decode cX3_numbers 1 = .ok (.istore_n 3, 1) := dk_62 (dk_at dksX3_numbers_0 1 rfl rfl)
theorem dX3_numbers_2 : decode cX3_numbers 2 = .ok (.iload_n 3, 1) := dk_29 (dk_at dksX3_numbers_0 2 rfl rfl)
theorem dX3_numbers_3 : decode cX3_numbers 3 = .ok (.iload_n 2, 1) := dk_28 (dk_at dksX3_numbers_0 3 rfl rfl)
theorem dX3_numbers_4 : decode cX3_numbers 4 = .ok (.if_icmp .gt 34, 3) := dk_163 0 34 (dk_at dksX3_numbers_0 4 rfl rfl)
theorem dX3_numbers_7 : decode cX3_numbers 7 = .ok (.aload_n 0, 1) := dk_42 (dk_at dksX3_numbers_0 7 rfl rfl)
theorem dX3_numbers_8 : decode cX3_numbers 8 = .ok (.getfield 33, 3) := dk_180 0 33 (dk_at dksX3_numbers_0 8 rfl rfl)
theorem dX3_numbers_11 : decode cX3_numbers 11 = .ok (.getfield 122, 3) := dk_180 0 122 (dk_at dksX3_numbers_0 11 rfl rfl)
theorem dX3_numbers_14 : decode cX3_numbers 14 = .ok (.iload_n 3, 1) := dk_29 (dk_at dksX3_numbers_0 14 rfl rfl)
theorem dX3_numbers_15 : decode cX3_numbers 15 = .ok (.aload_n 0, 1) := dk_42 (dk_at dksX3_numbers_0 15 rfl rfl)
theorem dX3_numbers_16 : decode cX3_numbers 16 = .ok (.iload_n 3, 1) := dk_29 (dk_at dksX3_numbers_0 16 rfl rfl)
theorem dX3_numbers_17 : decode cX3_numbers 17 = .ok (.invokestatic 126, 3) := dk_184 0 126 (dk_at dksX3_numbers_0 17 rfl rfl)
theorem dX3_numbers_20 : decode cX3_numbers 20 = .ok (.aload_n 0, 1) := dk_42 (dk_at dksX3_numbers_0 20 rfl rfl)
theorem dX3_numbers_21 : decode cX3_numbers 21 = .ok (.getfield 33, 3) := dk_180 0 33 (dk_at dksX3_numbers_0 21 rfl rfl)
theorem dX3_numbers_24 : decode cX3_numbers 24 = .ok (.iload_n 3, 1) := dk_29 (dk_at dksX3_numbers_1 0 rfl rfl)
theorem dX3_numbers_25 : decode cX3_numbers 25 = .ok (.invokestatic 129, 3) := dk_184 0 129 (dk_at dksX3_numbers_1 1 rfl rfl)
theorem dX3_numbers_28 : decode cX3_numbers 28 = .ok (.invokevirtual 133, 3) := dk_182 0 133 (dk_at dksX3_numbers_1 4 rfl rfl)
theorem dX3_numbers_31 : decode cX3_numbers 31 = .ok (.iastore, 1) := dk_79 (dk_at dksX3_numbers_1 7 rfl rfl)
theorem dX3_numbers_32 : decode cX3_numbers 32 = .ok (.iinc 3 1, 3) := dk_132 3 1 (dk_at dksX3_numbers_1 8 rfl rfl)
theorem dX3_numbers_35 : decode cX3_numbers 35 = .ok (.goto (-33), 3) := dk_167 255 223 (dk_at dksX3_numbers_1 11 rfl rfl)
theorem dX3_numbers_38 : decode cX3_numbers 38 = .ok (.return_, 1) := dk_177 (dk_at dksX3_numbers_1 14 rfl rfl)
abbrev cX3_number : ByteArray := prog_5_method_7_code
def yX3_number : MethodName := ⟨RX3, "number", "(II)I"⟩
def dkwX3_number_0 : List UInt8 := [42, 27, 28, 182, 0, 109, 62, 42, 182, 0, 113, 29, 172]
abbrev dktX3_number_0 : List UInt8 := dkwX3_number_0 ++ []
theorem dksX3_number_0 : cX3_number.data.toList.drop 0 = dktX3_number_0 := by decide +kernel
theorem dX3_number_0 : decode cX3_number 0 = .ok (.aload_n 0, 1) := dk_42 (dk_at dksX3_number_0 0 rfl rfl)
theorem dX3_number_1 : decode cX3_number 1 = .ok (.iload_n 1, 1) := dk_27 (dk_at dksX3_number_0 1 rfl rfl)
theorem dX3_number_2 : decode cX3_number 2 = .ok (.iload_n 2, 1) := dk_28 (dk_at dksX3_number_0 2 rfl rfl)
theorem dX3_number_3 : decode cX3_number 3 = .ok (.invokevirtual 109, 3) := dk_182 0 109 (dk_at dksX3_number_0 3 rfl rfl)
theorem dX3_number_6 : decode cX3_number 6 = .ok (.istore_n 3, 1) := dk_62 (dk_at dksX3_number_0 6 rfl rfl)
theorem dX3_number_7 : decode cX3_number 7 = .ok (.aload_n 0, 1) := dk_42 (dk_at dksX3_number_0 7 rfl rfl)
theorem dX3_number_8 : decode cX3_number 8 = .ok (.invokevirtual 113, 3) := dk_182 0 113 (dk_at dksX3_number_0 8 rfl rfl)
theorem dX3_number_11 : decode cX3_number 11 = .ok (.iload_n 3, 1) := dk_29 (dk_at dksX3_number_0 11 rfl rfl)
theorem dX3_number_12 : decode cX3_number 12 = .ok (.ireturn, 1) := dk_172 (dk_at dksX3_number_0 12 rfl rfl)
abbrev cX3_numberHere : ByteArray := prog_5_method_6_code
def yX3_numberHere : MethodName := ⟨RX3, "numberHere", "(II)I"⟩
def dkwX3_numberHere_1 : List UInt8 := [180, 0, 87, 27, 28, 184, 0, 64, 5, 182, 0, 105, 42, 180, 0, 87, 172]
abbrev dktX3_numberHere_1 : List UInt8 := dkwX3_numberHere_1 ++ []
def dkwX3_numberHere_0 : List UInt8 := [42, 42, 180, 0, 21, 178, 0, 90, 166, 0, 7, 4, 167, 0, 4, 3, 4, 182, 0, 105, 42, 42]
abbrev dktX3_numberHere_0 : List UInt8 := dkwX3_numberHere_0 ++ dktX3_numberHere_1
theorem dksX3_numberHere_0 : cX3_numberHere.data.toList.drop 0 = dktX3_numberHere_0 := by decide +kernel
theorem dksX3_numberHere_1 : cX3_numberHere.data.toList.drop 22 = dktX3_numberHere_1 := dk_seg dksX3_numberHere_0 22 rfl rfl
theorem dX3_numberHere_0 : decode cX3_numberHere 0 = .ok (.aload_n 0, 1) := dk_42 (dk_at dksX3_numberHere_0 0 rfl rfl)
theorem dX3_numberHere_1 : decode cX3_numberHere 1 = .ok (.aload_n 0, 1) := dk_42 (dk_at dksX3_numberHere_0 1 rfl rfl)
theorem dX3_numberHere_2 : decode cX3_numberHere 2 = .ok (.getfield 21, 3) := dk_180 0 21 (dk_at dksX3_numberHere_0 2 rfl rfl)
theorem dX3_numberHere_5 : decode cX3_numberHere 5 = .ok (.getstatic 90, 3) := dk_178 0 90 (dk_at dksX3_numberHere_0 5 rfl rfl)
theorem dX3_numberHere_8 : decode cX3_numberHere 8 = .ok (.if_acmp .ne 7, 3) := dk_166 0 7 (dk_at dksX3_numberHere_0 8 rfl rfl)
theorem dX3_numberHere_11 : decode cX3_numberHere 11 = .ok (.iconst 1, 1) := dk_4 (dk_at dksX3_numberHere_0 11 rfl rfl)
theorem dX3_numberHere_12 : decode cX3_numberHere 12 = .ok (.goto 4, 3) := dk_167 0 4 (dk_at dksX3_numberHere_0 12 rfl rfl)
theorem dX3_numberHere_15 : decode cX3_numberHere 15 = .ok (.iconst 0, 1) := dk_3 (dk_at dksX3_numberHere_0 15 rfl rfl)
theorem dX3_numberHere_16 : decode cX3_numberHere 16 = .ok (.iconst 1, 1) := dk_4 (dk_at dksX3_numberHere_0 16 rfl rfl)
theorem dX3_numberHere_17 : decode cX3_numberHere 17 = .ok (.invokevirtual 105, 3) := dk_182 0 105 (dk_at dksX3_numberHere_0 17 rfl rfl)
theorem dX3_numberHere_20 : decode cX3_numberHere 20 = .ok (.aload_n 0, 1) := dk_42 (dk_at dksX3_numberHere_0 20 rfl rfl)
theorem dX3_numberHere_21 : decode cX3_numberHere 21 = .ok (.aload_n 0, 1) := dk_42 (dk_at dksX3_numberHere_0 21 rfl rfl)
theorem dX3_numberHere_22 : decode cX3_numberHere 22 = .ok (.getfield 87, 3) := dk_180 0 87 (dk_at dksX3_numberHere_1 0 rfl rfl)
theorem dX3_numberHere_25 : decode cX3_numberHere 25 = .ok (.iload_n 1, 1) := dk_27 (dk_at dksX3_numberHere_1 3 rfl rfl)
theorem dX3_numberHere_26 : decode cX3_numberHere 26 = .ok (.iload_n 2, 1) := dk_28 (dk_at dksX3_numberHere_1 4 rfl rfl)
theorem dX3_numberHere_27 : decode cX3_numberHere 27 = .ok (.invokestatic 64, 3) := dk_184 0 64 (dk_at dksX3_numberHere_1 5 rfl rfl)
theorem dX3_numberHere_30 : decode cX3_numberHere 30 = .ok (.iconst 2, 1) := dk_5 (dk_at dksX3_numberHere_1 8 rfl rfl)
theorem dX3_numberHere_31 : decode cX3_numberHere 31 = .ok (.invokevirtual 105, 3) := dk_182 0 105 (dk_at dksX3_numberHere_1 9 rfl rfl)
theorem dX3_numberHere_34 : decode cX3_numberHere 34 = .ok (.aload_n 0, 1) := dk_42 (dk_at dksX3_numberHere_1 12 rfl rfl)
theorem dX3_numberHere_35 : decode cX3_numberHere 35 = .ok (.getfield 87, 3) := dk_180 0 87 (dk_at dksX3_numberHere_1 13 rfl rfl)
theorem dX3_numberHere_38 : decode cX3_numberHere 38 = .ok (.ireturn, 1) := dk_172 (dk_at dksX3_numberHere_1 16 rfl rfl)
abbrev cX3_line : ByteArray := prog_5_method_16_code
def yX3_line : MethodName := ⟨RX3, "line", "()V"⟩
def dkwX3_line_17 : List UInt8 := [187, 0, 100, 89, 4, 28, 183, 0, 102, 191, 177]
abbrev dktX3_line_17 : List UInt8 := dkwX3_line_17 ++ []
def dkwX3_line_16 : List UInt8 := [180, 0, 33, 180, 0, 228, 42, 4, 16, 99, 182, 0, 133, 100, 184, 0, 231, 181, 0, 228, 167, 0, 13]
abbrev dktX3_line_16 : List UInt8 := dkwX3_line_16 ++ dktX3_line_17
def dkwX3_line_15 : List UInt8 := [180, 0, 33, 182, 0, 223, 87, 167, 0, 49, 42, 182, 0, 226, 167, 0, 42, 42, 180, 0, 33, 3, 42]
abbrev dktX3_line_15 : List UInt8 := dkwX3_line_15 ++ dktX3_line_16
def dkwX3_line_14 : List UInt8 := [182, 0, 140, 4, 84, 167, 0, 74, 42, 182, 0, 219, 167, 0, 67, 42, 182, 0, 221, 167, 0, 60, 42]
abbrev dktX3_line_14 : List UInt8 := dkwX3_line_14 ++ dktX3_line_15
def dkwX3_line_13 : List UInt8 := [42, 182, 0, 211, 167, 0, 97, 42, 182, 0, 213, 167, 0, 90, 42, 180, 0, 33, 180, 0, 215, 42]
abbrev dktX3_line_13 : List UInt8 := dkwX3_line_13 ++ dktX3_line_14
def dkwX3_line_12 : List UInt8 := [170, 0, 0, 0, 0, 0, 138, 0, 0, 0, 0, 0, 0, 0, 7, 0, 0, 0, 47, 0, 0, 0, 54, 0, 0, 0, 61, 0, 0, 0, 77, 0, 0, 0, 84, 0, 0, 0, 91, 0, 0, 0, 102, 0, 0, 0, 109]
abbrev dktX3_line_12 : List UInt8 := dkwX3_line_12 ++ dktX3_line_13
def dkwX3_line_11 : List UInt8 := [21, 4]
abbrev dktX3_line_11 : List UInt8 := dkwX3_line_11 ++ dktX3_line_12
def dkwX3_line_10 : List UInt8 := [153, 0, 23, 16, 6, 54, 4, 167, 0, 16, 45, 18, 209, 182, 0, 116, 153, 0, 7, 16, 7, 54, 4]
abbrev dktX3_line_10 : List UInt8 := dkwX3_line_10 ++ dktX3_line_11
def dkwX3_line_9 : List UInt8 := [167, 0, 47, 45, 18, 205, 182, 0, 116, 153, 0, 38, 8, 54, 4, 167, 0, 32, 45, 18, 207, 182, 0, 116]
abbrev dktX3_line_9 : List UInt8 := dkwX3_line_9 ++ dktX3_line_10
def dkwX3_line_8 : List UInt8 := [182, 0, 116, 153, 0, 68, 6, 54, 4, 167, 0, 62, 45, 18, 194, 182, 0, 116, 153, 0, 53, 7, 54, 4]
abbrev dktX3_line_8 : List UInt8 := dkwX3_line_8 ++ dktX3_line_9
def dkwX3_line_7 : List UInt8 := [4, 54, 4, 167, 0, 92, 45, 18, 201, 182, 0, 116, 153, 0, 83, 5, 54, 4, 167, 0, 77, 45, 18, 203]
abbrev dktX3_line_7 : List UInt8 := dkwX3_line_7 ++ dktX3_line_8
def dkwX3_line_6 : List UInt8 := [45, 18, 199, 182, 0, 116, 153, 0, 113, 3, 54, 4, 167, 0, 107, 45, 18, 190, 182, 0, 116, 153, 0, 98]
abbrev dktX3_line_6 : List UInt8 := dkwX3_line_6 ++ dktX3_line_7
def dkwX3_line_5 : List UInt8 := [171, 0, 0, 0, 0, 193, 0, 0, 0, 8, 0, 1, 124, 19, 0, 0, 0, 89, 0, 47, 45, 68, 0, 0, 0, 134, 0, 47, 245, 131, 0, 0, 0, 119, 0, 48, 205, 236, 0, 0, 0, 74, 0, 52, 129, 114, 0, 0, 0, 149, 0, 55, 145, 117, 0, 0, 0, 180, 6, 33, 78, 68, 0, 0, 0, 164, 6, 139, 13, 156, 0, 0, 0, 104]
abbrev dktX3_line_5 : List UInt8 := dkwX3_line_5 ++ dktX3_line_6
def dkwX3_line_4 : List UInt8 := [54, 4, 45, 182, 0, 196]
abbrev dktX3_line_4 : List UInt8 := dkwX3_line_4 ++ dktX3_line_5
def dkwX3_line_3 : List UInt8 := [158, 0, 7, 4, 167, 0, 4, 3, 7, 182, 0, 105, 42, 180, 0, 73, 61, 42, 182, 0, 113, 43, 78, 2]
abbrev dktX3_line_3 : List UInt8 := dkwX3_line_3 ++ dktX3_line_4
def dkwX3_line_2 : List UInt8 := [182, 0, 116, 153, 0, 23, 42, 180, 0, 33, 180, 0, 178, 42, 180, 0, 33, 180, 0, 122, 6, 46, 46]
abbrev dktX3_line_2 : List UInt8 := dkwX3_line_2 ++ dktX3_line_3
def dkwX3_line_1 : List UInt8 := [185, 0, 192, 1, 0, 16, 6, 162, 0, 7, 4, 167, 0, 4, 3, 7, 182, 0, 105, 42, 43, 18, 194]
abbrev dktX3_line_1 : List UInt8 := dkwX3_line_1 ++ dktX3_line_2
def dkwX3_line_0 : List UInt8 := [42, 180, 0, 26, 76, 42, 43, 18, 190, 182, 0, 116, 153, 0, 20, 42, 180, 0, 33, 180, 0, 149]
abbrev dktX3_line_0 : List UInt8 := dkwX3_line_0 ++ dktX3_line_1
theorem dksX3_line_0 : cX3_line.data.toList.drop 0 = dktX3_line_0 := by decide +kernel
theorem dksX3_line_1 : cX3_line.data.toList.drop 22 = dktX3_line_1 := dk_seg dksX3_line_0 22 rfl rfl
theorem dksX3_line_2 : cX3_line.data.toList.drop 45 = dktX3_line_2 := dk_seg dksX3_line_1 23 rfl rfl
theorem dksX3_line_3 : cX3_line.data.toList.drop 68 = dktX3_line_3 := dk_seg dksX3_line_2 23 rfl rfl
theorem dksX3_line_4 : cX3_line.data.toList.drop 92 = dktX3_line_4 := dk_seg dksX3_line_3 24 rfl rfl
theorem dksX3_line_5 : cX3_line.data.toList.drop 98 = dktX3_line_5 := dk_seg dksX3_line_4 6 rfl rfl
theorem dksX3_line_6 : cX3_line.data.toList.drop 172 = dktX3_line_6 := dk_seg dksX3_line_5 74 rfl rfl
theorem dksX3_line_7 : cX3_line.data.toList.drop 196 = dktX3_line_7 := dk_seg dksX3_line_6 24 rfl rfl
theorem dksX3_line_8 : cX3_line.data.toList.drop 220 = dktX3_line_8 := dk_seg dksX3_line_7 24 rfl rfl
theorem dksX3_line_9 : cX3_line.data.toList.drop 244 = dktX3_line_9 := dk_seg dksX3_line_8 24 rfl rfl
theorem dksX3_line_10 : cX3_line.data.toList.drop 268 = dktX3_line_10 := dk_seg dksX3_line_9 24 rfl rfl
theorem dksX3_line_11 : cX3_line.data.toList.drop 291 = dktX3_line_11 := dk_seg dksX3_line_10 23 rfl rfl
theorem dksX3_line_12 : cX3_line.data.toList.drop 293 = dktX3_line_12 := dk_seg dksX3_line_11 2 rfl rfl
theorem dksX3_line_13 : cX3_line.data.toList.drop 340 = dktX3_line_13 := dk_seg dksX3_line_12 47 rfl rfl
theorem dksX3_line_14 : cX3_line.data.toList.drop 362 = dktX3_line_14 := dk_seg dksX3_line_13 22 rfl rfl
theorem dksX3_line_15 : cX3_line.data.toList.drop 385 = dktX3_line_15 := dk_seg dksX3_line_14 23 rfl rfl
theorem dksX3_line_16 : cX3_line.data.toList.drop 408 = dktX3_line_16 := dk_seg dksX3_line_15 23 rfl rfl
theorem dksX3_line_17 : cX3_line.data.toList.drop 431 = dktX3_line_17 := dk_seg dksX3_line_16 23 rfl rfl
theorem dX3_line_0 : decode cX3_line 0 = .ok (.aload_n 0, 1) := dk_42 (dk_at dksX3_line_0 0 rfl rfl)
theorem dX3_line_1 : decode cX3_line 1 = .ok (.getfield 26, 3) := dk_180 0 26 (dk_at dksX3_line_0 1 rfl rfl)
theorem dX3_line_4 : decode cX3_line 4 = .ok (.astore_n 1, 1) := dk_76 (dk_at dksX3_line_0 4 rfl rfl)
theorem dX3_line_5 : decode cX3_line 5 = .ok (.aload_n 0, 1) := dk_42 (dk_at dksX3_line_0 5 rfl rfl)
theorem dX3_line_6 : decode cX3_line 6 = .ok (.aload_n 1, 1) := dk_43 (dk_at dksX3_line_0 6 rfl rfl)
theorem dX3_line_7 : decode cX3_line 7 = .ok (.ldc 190, 2) := dk_18 190 (dk_at dksX3_line_0 7 rfl rfl)
theorem dX3_line_9 : decode cX3_line 9 = .ok (.invokevirtual 116, 3) := dk_182 0 116 (dk_at dksX3_line_0 9 rfl rfl)
theorem dX3_line_12 : decode cX3_line 12 = .ok (.ifCond .eq 20, 3) := dk_153 0 20 (dk_at dksX3_line_0 12 rfl rfl)
theorem dX3_line_15 : decode cX3_line 15 = .ok (.aload_n 0, 1) := dk_42 (dk_at dksX3_line_0 15 rfl rfl)
theorem dX3_line_16 : decode cX3_line 16 = .ok (.getfield 33, 3) := dk_180 0 33 (dk_at dksX3_line_0 16 rfl rfl)
theorem dX3_line_19 : decode cX3_line 19 = .ok (.getfield 149, 3) := dk_180 0 149 (dk_at dksX3_line_0 19 rfl rfl)
theorem dX3_line_22 : decode cX3_line 22 = .ok (.invokeinterface 192 1, 5) := by decide +kernel
theorem dX3_line_27 : decode cX3_line 27 = .ok (.bipush 6, 2) := dk_16 6 (dk_at dksX3_line_1 5 rfl rfl)
theorem dX3_line_29 : decode cX3_line 29 = .ok (.if_icmp .ge 7, 3) := dk_162 0 7 (dk_at dksX3_line_1 7 rfl rfl)
theorem dX3_line_32 : decode cX3_line 32 = .ok (.iconst 1, 1) := dk_4 (dk_at dksX3_line_1 10 rfl rfl)
theorem dX3_line_33 : decode cX3_line 33 = .ok (.goto 4, 3) := dk_167 0 4 (dk_at dksX3_line_1 11 rfl rfl)
theorem dX3_line_36 : decode cX3_line 36 = .ok (.iconst 0, 1) := dk_3 (dk_at dksX3_line_1 14 rfl rfl)
theorem dX3_line_37 : decode cX3_line 37 = .ok (.iconst 4, 1) := dk_7 (dk_at dksX3_line_1 15 rfl rfl)
theorem dX3_line_38 : decode cX3_line 38 = .ok (.invokevirtual 105, 3) := dk_182 0 105 (dk_at dksX3_line_1 16 rfl rfl)
theorem dX3_line_41 : decode cX3_line 41 = .ok (.aload_n 0, 1) := dk_42 (dk_at dksX3_line_1 19 rfl rfl)
theorem dX3_line_42 : decode cX3_line 42 = .ok (.aload_n 1, 1) := dk_43 (dk_at dksX3_line_1 20 rfl rfl)
theorem dX3_line_43 : decode cX3_line 43 = .ok (.ldc 194, 2) := dk_18 194 (dk_at dksX3_line_1 21 rfl rfl)
theorem dX3_line_45 : decode cX3_line 45 = .ok (.invokevirtual 116, 3) := dk_182 0 116 (dk_at dksX3_line_2 0 rfl rfl)
theorem dX3_line_48 : decode cX3_line 48 = .ok (.ifCond .eq 23, 3) := dk_153 0 23 (dk_at dksX3_line_2 3 rfl rfl)
theorem dX3_line_51 : decode cX3_line 51 = .ok (.aload_n 0, 1) := dk_42 (dk_at dksX3_line_2 6 rfl rfl)
theorem dX3_line_52 : decode cX3_line 52 = .ok (.getfield 33, 3) := dk_180 0 33 (dk_at dksX3_line_2 7 rfl rfl)
theorem dX3_line_55 : decode cX3_line 55 = .ok (.getfield 178, 3) := dk_180 0 178 (dk_at dksX3_line_2 10 rfl rfl)
theorem dX3_line_58 : decode cX3_line 58 = .ok (.aload_n 0, 1) := dk_42 (dk_at dksX3_line_2 13 rfl rfl)
theorem dX3_line_59 : decode cX3_line 59 = .ok (.getfield 33, 3) := dk_180 0 33 (dk_at dksX3_line_2 14 rfl rfl)
theorem dX3_line_62 : decode cX3_line 62 = .ok (.getfield 122, 3) := dk_180 0 122 (dk_at dksX3_line_2 17 rfl rfl)
theorem dX3_line_65 : decode cX3_line 65 = .ok (.iconst 3, 1) := dk_6 (dk_at dksX3_line_2 20 rfl rfl)
theorem dX3_line_66 : decode cX3_line 66 = .ok (.iaload, 1) := dk_46 (dk_at dksX3_line_2 21 rfl rfl)
theorem dX3_line_67 : decode cX3_line 67 = .ok (.iaload, 1) := dk_46 (dk_at dksX3_line_2 22 rfl rfl)
theorem dX3_line_68 : decode cX3_line 68 = .ok (.ifCond .le 7, 3) := dk_158 0 7 (dk_at dksX3_line_3 0 rfl rfl)
theorem dX3_line_71 : decode cX3_line 71 = .ok (.iconst 1, 1) := dk_4 (dk_at dksX3_line_3 3 rfl rfl)
theorem dX3_line_72 : decode cX3_line 72 = .ok (.goto 4, 3) := dk_167 0 4 (dk_at dksX3_line_3 4 rfl rfl)
theorem dX3_line_75 : decode cX3_line 75 = .ok (.iconst 0, 1) := dk_3 (dk_at dksX3_line_3 7 rfl rfl)
theorem dX3_line_76 : decode cX3_line 76 = .ok (.iconst 4, 1) := dk_7 (dk_at dksX3_line_3 8 rfl rfl)
theorem dX3_line_77 : decode cX3_line 77 = .ok (.invokevirtual 105, 3) := dk_182 0 105 (dk_at dksX3_line_3 9 rfl rfl)
theorem dX3_line_80 : decode cX3_line 80 = .ok (.aload_n 0, 1) := dk_42 (dk_at dksX3_line_3 12 rfl rfl)
theorem dX3_line_81 : decode cX3_line 81 = .ok (.getfield 73, 3) := dk_180 0 73 (dk_at dksX3_line_3 13 rfl rfl)
theorem dX3_line_84 : decode cX3_line 84 = .ok (.istore_n 2, 1) := dk_61 (dk_at dksX3_line_3 16 rfl rfl)
theorem dX3_line_85 : decode cX3_line 85 = .ok (.aload_n 0, 1) := dk_42 (dk_at dksX3_line_3 17 rfl rfl)
theorem dX3_line_86 : decode cX3_line 86 = .ok (.invokevirtual 113, 3) := dk_182 0 113 (dk_at dksX3_line_3 18 rfl rfl)
theorem dX3_line_89 : decode cX3_line 89 = .ok (.aload_n 1, 1) := dk_43 (dk_at dksX3_line_3 21 rfl rfl)
theorem dX3_line_90 : decode cX3_line 90 = .ok (.astore_n 3, 1) := dk_78 (dk_at dksX3_line_3 22 rfl rfl)
theorem dX3_line_91 : decode cX3_line 91 = .ok (.iconst (-1), 1) := dk_2 (dk_at dksX3_line_3 23 rfl rfl)
theorem dX3_line_92 : decode cX3_line 92 = .ok (.istore 4, 2) := dk_54 4 (dk_at dksX3_line_4 0 rfl rfl)
theorem dX3_line_94 : decode cX3_line 94 = .ok (.aload_n 3, 1) := dk_45 (dk_at dksX3_line_4 2 rfl rfl)
theorem dX3_line_95 : decode cX3_line 95 = .ok (.invokevirtual 196, 3) := dk_182 0 196 (dk_at dksX3_line_4 3 rfl rfl)
theorem dX3_line_98 : decode cX3_line 98 = .ok (.lookupswitch 193 #[(97299, 89), (3091780, 134), (3143043, 119), (3198444, 74), (3441010, 149), (3641717, 180), (102846020, 164), (109776284, 104)], 74) := by decide +kernel
theorem dX3_line_172 : decode cX3_line 172 = .ok (.aload_n 3, 1) := dk_45 (dk_at dksX3_line_6 0 rfl rfl)
theorem dX3_line_173 : decode cX3_line 173 = .ok (.ldc 199, 2) := dk_18 199 (dk_at dksX3_line_6 1 rfl rfl)
theorem dX3_line_175 : decode cX3_line 175 = .ok (.invokevirtual 116, 3) := dk_182 0 116 (dk_at dksX3_line_6 3 rfl rfl)
theorem dX3_line_178 : decode cX3_line 178 = .ok (.ifCond .eq 113, 3) := dk_153 0 113 (dk_at dksX3_line_6 6 rfl rfl)
theorem dX3_line_181 : decode cX3_line 181 = .ok (.iconst 0, 1) := dk_3 (dk_at dksX3_line_6 9 rfl rfl)
theorem dX3_line_182 : decode cX3_line 182 = .ok (.istore 4, 2) := dk_54 4 (dk_at dksX3_line_6 10 rfl rfl)
theorem dX3_line_184 : decode cX3_line 184 = .ok (.goto 107, 3) := dk_167 0 107 (dk_at dksX3_line_6 12 rfl rfl)
theorem dX3_line_187 : decode cX3_line 187 = .ok (.aload_n 3, 1) := dk_45 (dk_at dksX3_line_6 15 rfl rfl)
theorem dX3_line_188 : decode cX3_line 188 = .ok (.ldc 190, 2) := dk_18 190 (dk_at dksX3_line_6 16 rfl rfl)
theorem dX3_line_190 : decode cX3_line 190 = .ok (.invokevirtual 116, 3) := dk_182 0 116 (dk_at dksX3_line_6 18 rfl rfl)
theorem dX3_line_193 : decode cX3_line 193 = .ok (.ifCond .eq 98, 3) := dk_153 0 98 (dk_at dksX3_line_6 21 rfl rfl)
theorem dX3_line_196 : decode cX3_line 196 = .ok (.iconst 1, 1) := dk_4 (dk_at dksX3_line_7 0 rfl rfl)
theorem dX3_line_197 : decode cX3_line 197 = .ok (.istore 4, 2) := dk_54 4 (dk_at dksX3_line_7 1 rfl rfl)
theorem dX3_line_199 : decode cX3_line 199 = .ok (.goto 92, 3) := dk_167 0 92 (dk_at dksX3_line_7 3 rfl rfl)
theorem dX3_line_202 : decode cX3_line 202 = .ok (.aload_n 3, 1) := dk_45 (dk_at dksX3_line_7 6 rfl rfl)
theorem dX3_line_203 : decode cX3_line 203 = .ok (.ldc 201, 2) := dk_18 201 (dk_at dksX3_line_7 7 rfl rfl)
theorem dX3_line_205 : decode cX3_line 205 = .ok (.invokevirtual 116, 3) := dk_182 0 116 (dk_at dksX3_line_7 9 rfl rfl)
theorem dX3_line_208 : decode cX3_line 208 = .ok (.ifCond .eq 83, 3) := dk_153 0 83 (dk_at dksX3_line_7 12 rfl rfl)
theorem dX3_line_211 : decode cX3_line 211 = .ok (.iconst 2, 1) := dk_5 (dk_at dksX3_line_7 15 rfl rfl)
theorem dX3_line_212 : decode cX3_line 212 = .ok (.istore 4, 2) := dk_54 4 (dk_at dksX3_line_7 16 rfl rfl)
theorem dX3_line_214 : decode cX3_line 214 = .ok (.goto 77, 3) := dk_167 0 77 (dk_at dksX3_line_7 18 rfl rfl)
theorem dX3_line_217 : decode cX3_line 217 = .ok (.aload_n 3, 1) := dk_45 (dk_at dksX3_line_7 21 rfl rfl)
theorem dX3_line_218 : decode cX3_line 218 = .ok (.ldc 203, 2) := dk_18 203 (dk_at dksX3_line_7 22 rfl rfl)
theorem dX3_line_220 : decode cX3_line 220 = .ok (.invokevirtual 116, 3) := dk_182 0 116 (dk_at dksX3_line_8 0 rfl rfl)
theorem dX3_line_223 : decode cX3_line 223 = .ok (.ifCond .eq 68, 3) := dk_153 0 68 (dk_at dksX3_line_8 3 rfl rfl)
theorem dX3_line_226 : decode cX3_line 226 = .ok (.iconst 3, 1) := dk_6 (dk_at dksX3_line_8 6 rfl rfl)
theorem dX3_line_227 : decode cX3_line 227 = .ok (.istore 4, 2) := dk_54 4 (dk_at dksX3_line_8 7 rfl rfl)
theorem dX3_line_229 : decode cX3_line 229 = .ok (.goto 62, 3) := dk_167 0 62 (dk_at dksX3_line_8 9 rfl rfl)
theorem dX3_line_232 : decode cX3_line 232 = .ok (.aload_n 3, 1) := dk_45 (dk_at dksX3_line_8 12 rfl rfl)
theorem dX3_line_233 : decode cX3_line 233 = .ok (.ldc 194, 2) := dk_18 194 (dk_at dksX3_line_8 13 rfl rfl)
theorem dX3_line_235 : decode cX3_line 235 = .ok (.invokevirtual 116, 3) := dk_182 0 116 (dk_at dksX3_line_8 15 rfl rfl)
theorem dX3_line_238 : decode cX3_line 238 = .ok (.ifCond .eq 53, 3) := dk_153 0 53 (dk_at dksX3_line_8 18 rfl rfl)
theorem dX3_line_241 : decode cX3_line 241 = .ok (.iconst 4, 1) := dk_7 (dk_at dksX3_line_8 21 rfl rfl)
theorem dX3_line_242 : decode cX3_line 242 = .ok (.istore 4, 2) := dk_54 4 (dk_at dksX3_line_8 22 rfl rfl)
theorem dX3_line_244 : decode cX3_line 244 = .ok (.goto 47, 3) := dk_167 0 47 (dk_at dksX3_line_9 0 rfl rfl)
theorem dX3_line_247 : decode cX3_line 247 = .ok (.aload_n 3, 1) := dk_45 (dk_at dksX3_line_9 3 rfl rfl)
theorem dX3_line_248 : decode cX3_line 248 = .ok (.ldc 205, 2) := dk_18 205 (dk_at dksX3_line_9 4 rfl rfl)
theorem dX3_line_250 : decode cX3_line 250 = .ok (.invokevirtual 116, 3) := dk_182 0 116 (dk_at dksX3_line_9 6 rfl rfl)
theorem dX3_line_253 : decode cX3_line 253 = .ok (.ifCond .eq 38, 3) := dk_153 0 38 (dk_at dksX3_line_9 9 rfl rfl)
theorem dX3_line_256 : decode cX3_line 256 = .ok (.iconst 5, 1) := dk_8 (dk_at dksX3_line_9 12 rfl rfl)
theorem dX3_line_257 : decode cX3_line 257 = .ok (.istore 4, 2) := dk_54 4 (dk_at dksX3_line_9 13 rfl rfl)
theorem dX3_line_259 : decode cX3_line 259 = .ok (.goto 32, 3) := dk_167 0 32 (dk_at dksX3_line_9 15 rfl rfl)
theorem dX3_line_262 : decode cX3_line 262 = .ok (.aload_n 3, 1) := dk_45 (dk_at dksX3_line_9 18 rfl rfl)
theorem dX3_line_263 : decode cX3_line 263 = .ok (.ldc 207, 2) := dk_18 207 (dk_at dksX3_line_9 19 rfl rfl)
theorem dX3_line_265 : decode cX3_line 265 = .ok (.invokevirtual 116, 3) := dk_182 0 116 (dk_at dksX3_line_9 21 rfl rfl)
theorem dX3_line_268 : decode cX3_line 268 = .ok (.ifCond .eq 23, 3) := dk_153 0 23 (dk_at dksX3_line_10 0 rfl rfl)
theorem dX3_line_271 : decode cX3_line 271 = .ok (.bipush 6, 2) := dk_16 6 (dk_at dksX3_line_10 3 rfl rfl)
theorem dX3_line_273 : decode cX3_line 273 = .ok (.istore 4, 2) := dk_54 4 (dk_at dksX3_line_10 5 rfl rfl)
theorem dX3_line_275 : decode cX3_line 275 = .ok (.goto 16, 3) := dk_167 0 16 (dk_at dksX3_line_10 7 rfl rfl)
theorem dX3_line_278 : decode cX3_line 278 = .ok (.aload_n 3, 1) := dk_45 (dk_at dksX3_line_10 10 rfl rfl)
theorem dX3_line_279 : decode cX3_line 279 = .ok (.ldc 209, 2) := dk_18 209 (dk_at dksX3_line_10 11 rfl rfl)
theorem dX3_line_281 : decode cX3_line 281 = .ok (.invokevirtual 116, 3) := dk_182 0 116 (dk_at dksX3_line_10 13 rfl rfl)
theorem dX3_line_284 : decode cX3_line 284 = .ok (.ifCond .eq 7, 3) := dk_153 0 7 (dk_at dksX3_line_10 16 rfl rfl)
theorem dX3_line_287 : decode cX3_line 287 = .ok (.bipush 7, 2) := dk_16 7 (dk_at dksX3_line_10 19 rfl rfl)
theorem dX3_line_289 : decode cX3_line 289 = .ok (.istore 4, 2) := dk_54 4 (dk_at dksX3_line_10 21 rfl rfl)
theorem dX3_line_291 : decode cX3_line 291 = .ok (.iload 4, 2) := dk_21 4 (dk_at dksX3_line_11 0 rfl rfl)
theorem dX3_line_293 : decode cX3_line 293 = .ok (.tableswitch 138 0 7 #[47, 54, 61, 77, 84, 91, 102, 109], 47) := by decide +kernel
theorem dX3_line_340 : decode cX3_line 340 = .ok (.aload_n 0, 1) := dk_42 (dk_at dksX3_line_13 0 rfl rfl)
theorem dX3_line_341 : decode cX3_line 341 = .ok (.invokevirtual 211, 3) := dk_182 0 211 (dk_at dksX3_line_13 1 rfl rfl)
theorem dX3_line_344 : decode cX3_line 344 = .ok (.goto 97, 3) := dk_167 0 97 (dk_at dksX3_line_13 4 rfl rfl)
theorem dX3_line_347 : decode cX3_line 347 = .ok (.aload_n 0, 1) := dk_42 (dk_at dksX3_line_13 7 rfl rfl)
theorem dX3_line_348 : decode cX3_line 348 = .ok (.invokevirtual 213, 3) := dk_182 0 213 (dk_at dksX3_line_13 8 rfl rfl)
theorem dX3_line_351 : decode cX3_line 351 = .ok (.goto 90, 3) := dk_167 0 90 (dk_at dksX3_line_13 11 rfl rfl)
theorem dX3_line_354 : decode cX3_line 354 = .ok (.aload_n 0, 1) := dk_42 (dk_at dksX3_line_13 14 rfl rfl)
theorem dX3_line_355 : decode cX3_line 355 = .ok (.getfield 33, 3) := dk_180 0 33 (dk_at dksX3_line_13 15 rfl rfl)
theorem dX3_line_358 : decode cX3_line 358 = .ok (.getfield 215, 3) := dk_180 0 215 (dk_at dksX3_line_13 18 rfl rfl)
theorem dX3_line_361 : decode cX3_line 361 = .ok (.aload_n 0, 1) := dk_42 (dk_at dksX3_line_13 21 rfl rfl)
theorem dX3_line_362 : decode cX3_line 362 = .ok (.invokevirtual 140, 3) := dk_182 0 140 (dk_at dksX3_line_14 0 rfl rfl)
theorem dX3_line_365 : decode cX3_line 365 = .ok (.iconst 1, 1) := dk_4 (dk_at dksX3_line_14 3 rfl rfl)
theorem dX3_line_366 : decode cX3_line 366 = .ok (.bastore, 1) := dk_84 (dk_at dksX3_line_14 4 rfl rfl)
theorem dX3_line_367 : decode cX3_line 367 = .ok (.goto 74, 3) := dk_167 0 74 (dk_at dksX3_line_14 5 rfl rfl)
theorem dX3_line_370 : decode cX3_line 370 = .ok (.aload_n 0, 1) := dk_42 (dk_at dksX3_line_14 8 rfl rfl)
theorem dX3_line_371 : decode cX3_line 371 = .ok (.invokevirtual 219, 3) := dk_182 0 219 (dk_at dksX3_line_14 9 rfl rfl)
theorem dX3_line_374 : decode cX3_line 374 = .ok (.goto 67, 3) := dk_167 0 67 (dk_at dksX3_line_14 12 rfl rfl)
theorem dX3_line_377 : decode cX3_line 377 = .ok (.aload_n 0, 1) := dk_42 (dk_at dksX3_line_14 15 rfl rfl)
theorem dX3_line_378 : decode cX3_line 378 = .ok (.invokevirtual 221, 3) := dk_182 0 221 (dk_at dksX3_line_14 16 rfl rfl)
theorem dX3_line_381 : decode cX3_line 381 = .ok (.goto 60, 3) := dk_167 0 60 (dk_at dksX3_line_14 19 rfl rfl)
theorem dX3_line_384 : decode cX3_line 384 = .ok (.aload_n 0, 1) := dk_42 (dk_at dksX3_line_14 22 rfl rfl)
theorem dX3_line_385 : decode cX3_line 385 = .ok (.getfield 33, 3) := dk_180 0 33 (dk_at dksX3_line_15 0 rfl rfl)
theorem dX3_line_388 : decode cX3_line 388 = .ok (.invokevirtual 223, 3) := dk_182 0 223 (dk_at dksX3_line_15 3 rfl rfl)
theorem dX3_line_391 : decode cX3_line 391 = .ok (.pop, 1) := dk_87 (dk_at dksX3_line_15 6 rfl rfl)
theorem dX3_line_392 : decode cX3_line 392 = .ok (.goto 49, 3) := dk_167 0 49 (dk_at dksX3_line_15 7 rfl rfl)
theorem dX3_line_395 : decode cX3_line 395 = .ok (.aload_n 0, 1) := dk_42 (dk_at dksX3_line_15 10 rfl rfl)
theorem dX3_line_396 : decode cX3_line 396 = .ok (.invokevirtual 226, 3) := dk_182 0 226 (dk_at dksX3_line_15 11 rfl rfl)
theorem dX3_line_399 : decode cX3_line 399 = .ok (.goto 42, 3) := dk_167 0 42 (dk_at dksX3_line_15 14 rfl rfl)
theorem dX3_line_402 : decode cX3_line 402 = .ok (.aload_n 0, 1) := dk_42 (dk_at dksX3_line_15 17 rfl rfl)
theorem dX3_line_403 : decode cX3_line 403 = .ok (.getfield 33, 3) := dk_180 0 33 (dk_at dksX3_line_15 18 rfl rfl)
theorem dX3_line_406 : decode cX3_line 406 = .ok (.iconst 0, 1) := dk_3 (dk_at dksX3_line_15 21 rfl rfl)
theorem dX3_line_407 : decode cX3_line 407 = .ok (.aload_n 0, 1) := dk_42 (dk_at dksX3_line_15 22 rfl rfl)
theorem dX3_line_408 : decode cX3_line 408 = .ok (.getfield 33, 3) := dk_180 0 33 (dk_at dksX3_line_16 0 rfl rfl)
theorem dX3_line_411 : decode cX3_line 411 = .ok (.getfield 228, 3) := dk_180 0 228 (dk_at dksX3_line_16 3 rfl rfl)
theorem dX3_line_414 : decode cX3_line 414 = .ok (.aload_n 0, 1) := dk_42 (dk_at dksX3_line_16 6 rfl rfl)
theorem dX3_line_415 : decode cX3_line 415 = .ok (.iconst 1, 1) := dk_4 (dk_at dksX3_line_16 7 rfl rfl)
theorem dX3_line_416 : decode cX3_line 416 = .ok (.bipush 99, 2) := dk_16 99 (dk_at dksX3_line_16 8 rfl rfl)
theorem dX3_line_418 : decode cX3_line 418 = .ok (.invokevirtual 133, 3) := dk_182 0 133 (dk_at dksX3_line_16 10 rfl rfl)
theorem dX3_line_421 : decode cX3_line 421 = .ok (.isub, 1) := dk_100 (dk_at dksX3_line_16 13 rfl rfl)
theorem dX3_line_422 : decode cX3_line 422 = .ok (.invokestatic 231, 3) := dk_184 0 231 (dk_at dksX3_line_16 14 rfl rfl)
theorem dX3_line_425 : decode cX3_line 425 = .ok (.putfield 228, 3) := dk_181 0 228 (dk_at dksX3_line_16 17 rfl rfl)
theorem dX3_line_428 : decode cX3_line 428 = .ok (.goto 13, 3) := dk_167 0 13 (dk_at dksX3_line_16 20 rfl rfl)
theorem dX3_line_431 : decode cX3_line 431 = .ok (.new 100, 3) := dk_187 0 100 (dk_at dksX3_line_17 0 rfl rfl)
theorem dX3_line_434 : decode cX3_line 434 = .ok (.dup, 1) := dk_89 (dk_at dksX3_line_17 3 rfl rfl)
theorem dX3_line_435 : decode cX3_line 435 = .ok (.iconst 1, 1) := dk_4 (dk_at dksX3_line_17 4 rfl rfl)
theorem dX3_line_436 : decode cX3_line 436 = .ok (.iload_n 2, 1) := dk_28 (dk_at dksX3_line_17 5 rfl rfl)
theorem dX3_line_437 : decode cX3_line 437 = .ok (.invokespecial 102, 3) := dk_183 0 102 (dk_at dksX3_line_17 6 rfl rfl)
theorem dX3_line_440 : decode cX3_line 440 = .ok (.athrow, 1) := dk_191 (dk_at dksX3_line_17 9 rfl rfl)
theorem dX3_line_441 : decode cX3_line 441 = .ok (.return_, 1) := dk_177 (dk_at dksX3_line_17 10 rfl rfl)
abbrev cX3_heap : ByteArray := prog_5_method_11_code
def yX3_heap : MethodName := ⟨RX3, "heap", "()V"⟩
def dkwX3_heap_1 : List UInt8 := [182, 0, 146, 177]
abbrev dktX3_heap_1 : List UInt8 := dkwX3_heap_1 ++ []
def dkwX3_heap_0 : List UInt8 := [42, 182, 0, 140, 60, 42, 180, 0, 33, 27, 42, 3, 42, 180, 0, 33, 182, 0, 143, 182, 0, 133]
abbrev dktX3_heap_0 : List UInt8 := dkwX3_heap_0 ++ dktX3_heap_1
theorem dksX3_heap_0 : cX3_heap.data.toList.drop 0 = dktX3_heap_0 := by decide +kernel
theorem dksX3_heap_1 : cX3_heap.data.toList.drop 22 = dktX3_heap_1 := dk_seg dksX3_heap_0 22 rfl rfl
theorem dX3_heap_0 : decode cX3_heap 0 = .ok (.aload_n 0, 1) := dk_42 (dk_at dksX3_heap_0 0 rfl rfl)
theorem dX3_heap_1 : decode cX3_heap 1 = .ok (.invokevirtual 140, 3) := dk_182 0 140 (dk_at dksX3_heap_0 1 rfl rfl)
theorem dX3_heap_4 : decode cX3_heap 4 = .ok (.istore_n 1, 1) := dk_60 (dk_at dksX3_heap_0 4 rfl rfl)
theorem dX3_heap_5 : decode cX3_heap 5 = .ok (.aload_n 0, 1) := dk_42 (dk_at dksX3_heap_0 5 rfl rfl)
theorem dX3_heap_6 : decode cX3_heap 6 = .ok (.getfield 33, 3) := dk_180 0 33 (dk_at dksX3_heap_0 6 rfl rfl)
theorem dX3_heap_9 : decode cX3_heap 9 = .ok (.iload_n 1, 1) := dk_27 (dk_at dksX3_heap_0 9 rfl rfl)
theorem dX3_heap_10 : decode cX3_heap 10 = .ok (.aload_n 0, 1) := dk_42 (dk_at dksX3_heap_0 10 rfl rfl)
theorem dX3_heap_11 : decode cX3_heap 11 = .ok (.iconst 0, 1) := dk_3 (dk_at dksX3_heap_0 11 rfl rfl)
theorem dX3_heap_12 : decode cX3_heap 12 = .ok (.aload_n 0, 1) := dk_42 (dk_at dksX3_heap_0 12 rfl rfl)
theorem dX3_heap_13 : decode cX3_heap 13 = .ok (.getfield 33, 3) := dk_180 0 33 (dk_at dksX3_heap_0 13 rfl rfl)
theorem dX3_heap_16 : decode cX3_heap 16 = .ok (.invokevirtual 143, 3) := dk_182 0 143 (dk_at dksX3_heap_0 16 rfl rfl)
theorem dX3_heap_19 : decode cX3_heap 19 = .ok (.invokevirtual 133, 3) := dk_182 0 133 (dk_at dksX3_heap_0 19 rfl rfl)
theorem dX3_heap_22 : decode cX3_heap 22 = .ok (.invokevirtual 146, 3) := dk_182 0 146 (dk_at dksX3_heap_1 0 rfl rfl)
theorem dX3_heap_25 : decode cX3_heap 25 = .ok (.return_, 1) := dk_177 (dk_at dksX3_heap_1 3 rfl rfl)
abbrev cX3_column : ByteArray := prog_5_method_10_code
def yX3_column : MethodName := ⟨RX3, "column", "()I"⟩
def dkwX3_column_0 : List UInt8 := [42, 3, 42, 180, 0, 33, 182, 0, 136, 4, 100, 182, 0, 133, 172]
abbrev dktX3_column_0 : List UInt8 := dkwX3_column_0 ++ []
theorem dksX3_column_0 : cX3_column.data.toList.drop 0 = dktX3_column_0 := by decide +kernel
theorem dX3_column_0 : decode cX3_column 0 = .ok (.aload_n 0, 1) := dk_42 (dk_at dksX3_column_0 0 rfl rfl)
theorem dX3_column_1 : decode cX3_column 1 = .ok (.iconst 0, 1) := dk_3 (dk_at dksX3_column_0 1 rfl rfl)
theorem dX3_column_2 : decode cX3_column 2 = .ok (.aload_n 0, 1) := dk_42 (dk_at dksX3_column_0 2 rfl rfl)
theorem dX3_column_3 : decode cX3_column 3 = .ok (.getfield 33, 3) := dk_180 0 33 (dk_at dksX3_column_0 3 rfl rfl)
theorem dX3_column_6 : decode cX3_column 6 = .ok (.invokevirtual 136, 3) := dk_182 0 136 (dk_at dksX3_column_0 6 rfl rfl)
theorem dX3_column_9 : decode cX3_column 9 = .ok (.iconst 1, 1) := dk_4 (dk_at dksX3_column_0 9 rfl rfl)
theorem dX3_column_10 : decode cX3_column 10 = .ok (.isub, 1) := dk_100 (dk_at dksX3_column_0 10 rfl rfl)
theorem dX3_column_11 : decode cX3_column 11 = .ok (.invokevirtual 133, 3) := dk_182 0 133 (dk_at dksX3_column_0 11 rfl rfl)
theorem dX3_column_14 : decode cX3_column 14 = .ok (.ireturn, 1) := dk_172 (dk_at dksX3_column_0 14 rfl rfl)
abbrev cX3_bar : ByteArray := prog_5_method_12_code
def yX3_bar : MethodName := ⟨RX3, "bar", "()V"⟩
def dkwX3_bar_4 : List UInt8 := [183, 0, 174, 185, 0, 175, 2, 0, 87, 177]
abbrev dktX3_bar_4 : List UInt8 := dkwX3_bar_4 ++ []
def dkwX3_bar_3 : List UInt8 := [182, 0, 113, 42, 180, 0, 33, 180, 0, 149, 187, 0, 169, 89, 27, 42, 4, 16, 99, 182, 0, 133]
abbrev dktX3_bar_3 : List UInt8 := dkwX3_bar_3 ++ dktX3_bar_4
def dkwX3_bar_2 : List UInt8 := [78, 42, 45, 180, 0, 171, 27, 159, 0, 7, 4, 167, 0, 4, 3, 6, 182, 0, 105, 167, 255, 219, 42]
abbrev dktX3_bar_2 : List UInt8 := dkwX3_bar_2 ++ dktX3_bar_3
def dkwX3_bar_1 : List UInt8 := [185, 0, 153, 1, 0, 77, 44, 185, 0, 159, 1, 0, 153, 0, 34, 44, 185, 0, 165, 1, 0, 192, 0, 169]
abbrev dktX3_bar_1 : List UInt8 := dkwX3_bar_1 ++ dktX3_bar_2
def dkwX3_bar_0 : List UInt8 := [42, 3, 42, 180, 0, 33, 182, 0, 143, 4, 100, 182, 0, 109, 60, 42, 180, 0, 33, 180, 0, 149]
abbrev dktX3_bar_0 : List UInt8 := dkwX3_bar_0 ++ dktX3_bar_1
theorem dksX3_bar_0 : cX3_bar.data.toList.drop 0 = dktX3_bar_0 := by decide +kernel
theorem dksX3_bar_1 : cX3_bar.data.toList.drop 22 = dktX3_bar_1 := dk_seg dksX3_bar_0 22 rfl rfl
theorem dksX3_bar_2 : cX3_bar.data.toList.drop 46 = dktX3_bar_2 := dk_seg dksX3_bar_1 24 rfl rfl
theorem dksX3_bar_3 : cX3_bar.data.toList.drop 69 = dktX3_bar_3 := dk_seg dksX3_bar_2 23 rfl rfl
theorem dksX3_bar_4 : cX3_bar.data.toList.drop 91 = dktX3_bar_4 := dk_seg dksX3_bar_3 22 rfl rfl
theorem dX3_bar_0 : decode cX3_bar 0 = .ok (.aload_n 0, 1) := dk_42 (dk_at dksX3_bar_0 0 rfl rfl)
theorem dX3_bar_1 : decode cX3_bar 1 = .ok (.iconst 0, 1) := dk_3 (dk_at dksX3_bar_0 1 rfl rfl)
theorem dX3_bar_2 : decode cX3_bar 2 = .ok (.aload_n 0, 1) := dk_42 (dk_at dksX3_bar_0 2 rfl rfl)
theorem dX3_bar_3 : decode cX3_bar 3 = .ok (.getfield 33, 3) := dk_180 0 33 (dk_at dksX3_bar_0 3 rfl rfl)
theorem dX3_bar_6 : decode cX3_bar 6 = .ok (.invokevirtual 143, 3) := dk_182 0 143 (dk_at dksX3_bar_0 6 rfl rfl)
theorem dX3_bar_9 : decode cX3_bar 9 = .ok (.iconst 1, 1) := dk_4 (dk_at dksX3_bar_0 9 rfl rfl)
theorem dX3_bar_10 : decode cX3_bar 10 = .ok (.isub, 1) := dk_100 (dk_at dksX3_bar_0 10 rfl rfl)
theorem dX3_bar_11 : decode cX3_bar 11 = .ok (.invokevirtual 109, 3) := dk_182 0 109 (dk_at dksX3_bar_0 11 rfl rfl)
theorem dX3_bar_14 : decode cX3_bar 14 = .ok (.istore_n 1, 1) := dk_60 (dk_at dksX3_bar_0 14 rfl rfl)
theorem dX3_bar_15 : decode cX3_bar 15 = .ok (.aload_n 0, 1) := dk_42 (dk_at dksX3_bar_0 15 rfl rfl)
theorem dX3_bar_16 : decode cX3_bar 16 = .ok (.getfield 33, 3) := dk_180 0 33 (dk_at dksX3_bar_0 16 rfl rfl)
theorem dX3_bar_19 : decode cX3_bar 19 = .ok (.getfield 149, 3) := dk_180 0 149 (dk_at dksX3_bar_0 19 rfl rfl)
theorem dX3_bar_22 : decode cX3_bar 22 = .ok (.invokeinterface 153 1, 5) := by decide +kernel
theorem dX3_bar_27 : decode cX3_bar 27 = .ok (.astore_n 2, 1) := dk_77 (dk_at dksX3_bar_1 5 rfl rfl)
theorem dX3_bar_28 : decode cX3_bar 28 = .ok (.aload_n 2, 1) := dk_44 (dk_at dksX3_bar_1 6 rfl rfl)
theorem dX3_bar_29 : decode cX3_bar 29 = .ok (.invokeinterface 159 1, 5) := by decide +kernel
theorem dX3_bar_34 : decode cX3_bar 34 = .ok (.ifCond .eq 34, 3) := dk_153 0 34 (dk_at dksX3_bar_1 12 rfl rfl)
theorem dX3_bar_37 : decode cX3_bar 37 = .ok (.aload_n 2, 1) := dk_44 (dk_at dksX3_bar_1 15 rfl rfl)
theorem dX3_bar_38 : decode cX3_bar 38 = .ok (.invokeinterface 165 1, 5) := by decide +kernel
theorem dX3_bar_43 : decode cX3_bar 43 = .ok (.checkcast 169, 3) := dk_192 0 169 (dk_at dksX3_bar_1 21 rfl rfl)
theorem dX3_bar_46 : decode cX3_bar 46 = .ok (.astore_n 3, 1) := dk_78 (dk_at dksX3_bar_2 0 rfl rfl)
theorem dX3_bar_47 : decode cX3_bar 47 = .ok (.aload_n 0, 1) := dk_42 (dk_at dksX3_bar_2 1 rfl rfl)
theorem dX3_bar_48 : decode cX3_bar 48 = .ok (.aload_n 3, 1) := dk_45 (dk_at dksX3_bar_2 2 rfl rfl)
theorem dX3_bar_49 : decode cX3_bar 49 = .ok (.getfield 171, 3) := dk_180 0 171 (dk_at dksX3_bar_2 3 rfl rfl)
theorem dX3_bar_52 : decode cX3_bar 52 = .ok (.iload_n 1, 1) := dk_27 (dk_at dksX3_bar_2 6 rfl rfl)
theorem dX3_bar_53 : decode cX3_bar 53 = .ok (.if_icmp .eq 7, 3) := dk_159 0 7 (dk_at dksX3_bar_2 7 rfl rfl)
theorem dX3_bar_56 : decode cX3_bar 56 = .ok (.iconst 1, 1) := dk_4 (dk_at dksX3_bar_2 10 rfl rfl)
theorem dX3_bar_57 : decode cX3_bar 57 = .ok (.goto 4, 3) := dk_167 0 4 (dk_at dksX3_bar_2 11 rfl rfl)
theorem dX3_bar_60 : decode cX3_bar 60 = .ok (.iconst 0, 1) := dk_3 (dk_at dksX3_bar_2 14 rfl rfl)
theorem dX3_bar_61 : decode cX3_bar 61 = .ok (.iconst 3, 1) := dk_6 (dk_at dksX3_bar_2 15 rfl rfl)
theorem dX3_bar_62 : decode cX3_bar 62 = .ok (.invokevirtual 105, 3) := dk_182 0 105 (dk_at dksX3_bar_2 16 rfl rfl)
theorem dX3_bar_65 : decode cX3_bar 65 = .ok (.goto (-37), 3) := dk_167 255 219 (dk_at dksX3_bar_2 19 rfl rfl)
theorem dX3_bar_68 : decode cX3_bar 68 = .ok (.aload_n 0, 1) := dk_42 (dk_at dksX3_bar_2 22 rfl rfl)
theorem dX3_bar_69 : decode cX3_bar 69 = .ok (.invokevirtual 113, 3) := dk_182 0 113 (dk_at dksX3_bar_3 0 rfl rfl)
theorem dX3_bar_72 : decode cX3_bar 72 = .ok (.aload_n 0, 1) := dk_42 (dk_at dksX3_bar_3 3 rfl rfl)
theorem dX3_bar_73 : decode cX3_bar 73 = .ok (.getfield 33, 3) := dk_180 0 33 (dk_at dksX3_bar_3 4 rfl rfl)
theorem dX3_bar_76 : decode cX3_bar 76 = .ok (.getfield 149, 3) := dk_180 0 149 (dk_at dksX3_bar_3 7 rfl rfl)
theorem dX3_bar_79 : decode cX3_bar 79 = .ok (.new 169, 3) := dk_187 0 169 (dk_at dksX3_bar_3 10 rfl rfl)
theorem dX3_bar_82 : decode cX3_bar 82 = .ok (.dup, 1) := dk_89 (dk_at dksX3_bar_3 13 rfl rfl)
theorem dX3_bar_83 : decode cX3_bar 83 = .ok (.iload_n 1, 1) := dk_27 (dk_at dksX3_bar_3 14 rfl rfl)
theorem dX3_bar_84 : decode cX3_bar 84 = .ok (.aload_n 0, 1) := dk_42 (dk_at dksX3_bar_3 15 rfl rfl)
theorem dX3_bar_85 : decode cX3_bar 85 = .ok (.iconst 1, 1) := dk_4 (dk_at dksX3_bar_3 16 rfl rfl)
theorem dX3_bar_86 : decode cX3_bar 86 = .ok (.bipush 99, 2) := dk_16 99 (dk_at dksX3_bar_3 17 rfl rfl)
theorem dX3_bar_88 : decode cX3_bar 88 = .ok (.invokevirtual 133, 3) := dk_182 0 133 (dk_at dksX3_bar_3 19 rfl rfl)
theorem dX3_bar_91 : decode cX3_bar 91 = .ok (.invokespecial 174, 3) := dk_183 0 174 (dk_at dksX3_bar_4 0 rfl rfl)
theorem dX3_bar_94 : decode cX3_bar 94 = .ok (.invokeinterface 175 2, 5) := by decide +kernel
theorem dX3_bar_99 : decode cX3_bar 99 = .ok (.pop, 1) := dk_87 (dk_at dksX3_bar_4 8 rfl rfl)
theorem dX3_bar_100 : decode cX3_bar 100 = .ok (.return_, 1) := dk_177 (dk_at dksX3_bar_4 9 rfl rfl)
abbrev cX3_fill : ByteArray := prog_5_method_13_code
def yX3_fill : MethodName := ⟨RX3, "fill", "()V"⟩
def dkwX3_fill_2 : List UInt8 := [42, 180, 0, 33, 27, 42, 4, 16, 99, 182, 0, 133, 182, 0, 181, 61, 177]
abbrev dktX3_fill_2 : List UInt8 := dkwX3_fill_2 ++ []
def dkwX3_fill_1 : List UInt8 := [46, 42, 180, 0, 33, 182, 0, 143, 162, 0, 7, 4, 167, 0, 4, 3, 7, 182, 0, 105, 42, 182, 0, 113]
abbrev dktX3_fill_1 : List UInt8 := dkwX3_fill_1 ++ dktX3_fill_2
def dkwX3_fill_0 : List UInt8 := [42, 3, 42, 180, 0, 33, 182, 0, 136, 4, 100, 182, 0, 109, 60, 42, 42, 180, 0, 33, 180, 0, 178, 27]
abbrev dktX3_fill_0 : List UInt8 := dkwX3_fill_0 ++ dktX3_fill_1
theorem dksX3_fill_0 : cX3_fill.data.toList.drop 0 = dktX3_fill_0 := by decide +kernel
theorem dksX3_fill_1 : cX3_fill.data.toList.drop 24 = dktX3_fill_1 := dk_seg dksX3_fill_0 24 rfl rfl
theorem dksX3_fill_2 : cX3_fill.data.toList.drop 48 = dktX3_fill_2 := dk_seg dksX3_fill_1 24 rfl rfl
theorem dX3_fill_0 : decode cX3_fill 0 = .ok (.aload_n 0, 1) := dk_42 (dk_at dksX3_fill_0 0 rfl rfl)
theorem dX3_fill_1 : decode cX3_fill 1 = .ok (.iconst 0, 1) := dk_3 (dk_at dksX3_fill_0 1 rfl rfl)
theorem dX3_fill_2 : decode cX3_fill 2 = .ok (.aload_n 0, 1) := dk_42 (dk_at dksX3_fill_0 2 rfl rfl)
theorem dX3_fill_3 : decode cX3_fill 3 = .ok (.getfield 33, 3) := dk_180 0 33 (dk_at dksX3_fill_0 3 rfl rfl)
theorem dX3_fill_6 : decode cX3_fill 6 = .ok (.invokevirtual 136, 3) := dk_182 0 136 (dk_at dksX3_fill_0 6 rfl rfl)
theorem dX3_fill_9 : decode cX3_fill 9 = .ok (.iconst 1, 1) := dk_4 (dk_at dksX3_fill_0 9 rfl rfl)
theorem dX3_fill_10 : decode cX3_fill 10 = .ok (.isub, 1) := dk_100 (dk_at dksX3_fill_0 10 rfl rfl)
theorem dX3_fill_11 : decode cX3_fill 11 = .ok (.invokevirtual 109, 3) := dk_182 0 109 (dk_at dksX3_fill_0 11 rfl rfl)
theorem dX3_fill_14 : decode cX3_fill 14 = .ok (.istore_n 1, 1) := dk_60 (dk_at dksX3_fill_0 14 rfl rfl)
theorem dX3_fill_15 : decode cX3_fill 15 = .ok (.aload_n 0, 1) := dk_42 (dk_at dksX3_fill_0 15 rfl rfl)
theorem dX3_fill_16 : decode cX3_fill 16 = .ok (.aload_n 0, 1) := dk_42 (dk_at dksX3_fill_0 16 rfl rfl)
theorem dX3_fill_17 : decode cX3_fill 17 = .ok (.getfield 33, 3) := dk_180 0 33 (dk_at dksX3_fill_0 17 rfl rfl)
theorem dX3_fill_20 : decode cX3_fill 20 = .ok (.getfield 178, 3) := dk_180 0 178 (dk_at dksX3_fill_0 20 rfl rfl)
theorem dX3_fill_23 : decode cX3_fill 23 = .ok (.iload_n 1, 1) := dk_27 (dk_at dksX3_fill_0 23 rfl rfl)
theorem dX3_fill_24 : decode cX3_fill 24 = .ok (.iaload, 1) := dk_46 (dk_at dksX3_fill_1 0 rfl rfl)
theorem dX3_fill_25 : decode cX3_fill 25 = .ok (.aload_n 0, 1) := dk_42 (dk_at dksX3_fill_1 1 rfl rfl)
theorem dX3_fill_26 : decode cX3_fill 26 = .ok (.getfield 33, 3) := dk_180 0 33 (dk_at dksX3_fill_1 2 rfl rfl)
theorem dX3_fill_29 : decode cX3_fill 29 = .ok (.invokevirtual 143, 3) := dk_182 0 143 (dk_at dksX3_fill_1 5 rfl rfl)
theorem dX3_fill_32 : decode cX3_fill 32 = .ok (.if_icmp .ge 7, 3) := dk_162 0 7 (dk_at dksX3_fill_1 8 rfl rfl)
theorem dX3_fill_35 : decode cX3_fill 35 = .ok (.iconst 1, 1) := dk_4 (dk_at dksX3_fill_1 11 rfl rfl)
theorem dX3_fill_36 : decode cX3_fill 36 = .ok (.goto 4, 3) := dk_167 0 4 (dk_at dksX3_fill_1 12 rfl rfl)
theorem dX3_fill_39 : decode cX3_fill 39 = .ok (.iconst 0, 1) := dk_3 (dk_at dksX3_fill_1 15 rfl rfl)
theorem dX3_fill_40 : decode cX3_fill 40 = .ok (.iconst 4, 1) := dk_7 (dk_at dksX3_fill_1 16 rfl rfl)
theorem dX3_fill_41 : decode cX3_fill 41 = .ok (.invokevirtual 105, 3) := dk_182 0 105 (dk_at dksX3_fill_1 17 rfl rfl)
theorem dX3_fill_44 : decode cX3_fill 44 = .ok (.aload_n 0, 1) := dk_42 (dk_at dksX3_fill_1 20 rfl rfl)
theorem dX3_fill_45 : decode cX3_fill 45 = .ok (.invokevirtual 113, 3) := dk_182 0 113 (dk_at dksX3_fill_1 21 rfl rfl)
theorem dX3_fill_48 : decode cX3_fill 48 = .ok (.aload_n 0, 1) := dk_42 (dk_at dksX3_fill_2 0 rfl rfl)
theorem dX3_fill_49 : decode cX3_fill 49 = .ok (.getfield 33, 3) := dk_180 0 33 (dk_at dksX3_fill_2 1 rfl rfl)
theorem dX3_fill_52 : decode cX3_fill 52 = .ok (.iload_n 1, 1) := dk_27 (dk_at dksX3_fill_2 4 rfl rfl)
theorem dX3_fill_53 : decode cX3_fill 53 = .ok (.aload_n 0, 1) := dk_42 (dk_at dksX3_fill_2 5 rfl rfl)
theorem dX3_fill_54 : decode cX3_fill 54 = .ok (.iconst 1, 1) := dk_4 (dk_at dksX3_fill_2 6 rfl rfl)
theorem dX3_fill_55 : decode cX3_fill 55 = .ok (.bipush 99, 2) := dk_16 99 (dk_at dksX3_fill_2 7 rfl rfl)
theorem dX3_fill_57 : decode cX3_fill 57 = .ok (.invokevirtual 133, 3) := dk_182 0 133 (dk_at dksX3_fill_2 9 rfl rfl)
theorem dX3_fill_60 : decode cX3_fill 60 = .ok (.invokevirtual 181, 3) := dk_182 0 181 (dk_at dksX3_fill_2 12 rfl rfl)
theorem dX3_fill_63 : decode cX3_fill 63 = .ok (.istore_n 2, 1) := dk_61 (dk_at dksX3_fill_2 15 rfl rfl)
theorem dX3_fill_64 : decode cX3_fill 64 = .ok (.return_, 1) := dk_177 (dk_at dksX3_fill_2 16 rfl rfl)
abbrev cX3_draw : ByteArray := prog_5_method_14_code
def yX3_draw : MethodName := ⟨RX3, "draw", "()V"⟩
def dkwX3_draw_0 : List UInt8 := [42, 180, 0, 33, 42, 4, 16, 99, 182, 0, 133, 182, 0, 184, 60, 177]
abbrev dktX3_draw_0 : List UInt8 := dkwX3_draw_0 ++ []
theorem dksX3_draw_0 : cX3_draw.data.toList.drop 0 = dktX3_draw_0 := by decide +kernel
theorem dX3_draw_0 : decode cX3_draw 0 = .ok (.aload_n 0, 1) := dk_42 (dk_at dksX3_draw_0 0 rfl rfl)
theorem dX3_draw_1 : decode cX3_draw 1 = .ok (.getfield 33, 3) := dk_180 0 33 (dk_at dksX3_draw_0 1 rfl rfl)
theorem dX3_draw_4 : decode cX3_draw 4 = .ok (.aload_n 0, 1) := dk_42 (dk_at dksX3_draw_0 4 rfl rfl)
theorem dX3_draw_5 : decode cX3_draw 5 = .ok (.iconst 1, 1) := dk_4 (dk_at dksX3_draw_0 5 rfl rfl)
theorem dX3_draw_6 : decode cX3_draw 6 = .ok (.bipush 99, 2) := dk_16 99 (dk_at dksX3_draw_0 6 rfl rfl)
theorem dX3_draw_8 : decode cX3_draw 8 = .ok (.invokevirtual 133, 3) := dk_182 0 133 (dk_at dksX3_draw_0 8 rfl rfl)
theorem dX3_draw_11 : decode cX3_draw 11 = .ok (.invokevirtual 184, 3) := dk_182 0 184 (dk_at dksX3_draw_0 11 rfl rfl)
theorem dX3_draw_14 : decode cX3_draw 14 = .ok (.istore_n 1, 1) := dk_60 (dk_at dksX3_draw_0 14 rfl rfl)
theorem dX3_draw_15 : decode cX3_draw 15 = .ok (.return_, 1) := dk_177 (dk_at dksX3_draw_0 15 rfl rfl)
abbrev cX3_learn : ByteArray := prog_5_method_15_code
def yX3_learn : MethodName := ⟨RX3, "learn", "()V"⟩
def dkwX3_learn_0 : List UInt8 := [42, 180, 0, 33, 42, 3, 42, 180, 0, 33, 182, 0, 143, 4, 96, 182, 0, 133, 182, 0, 187, 60, 177]
abbrev dktX3_learn_0 : List UInt8 := dkwX3_learn_0 ++ []
theorem dksX3_learn_0 : cX3_learn.data.toList.drop 0 = dktX3_learn_0 := by decide +kernel
theorem dX3_learn_0 : decode cX3_learn 0 = .ok (.aload_n 0, 1) := dk_42 (dk_at dksX3_learn_0 0 rfl rfl)
theorem dX3_learn_1 : decode cX3_learn 1 = .ok (.getfield 33, 3) := dk_180 0 33 (dk_at dksX3_learn_0 1 rfl rfl)
theorem dX3_learn_4 : decode cX3_learn 4 = .ok (.aload_n 0, 1) := dk_42 (dk_at dksX3_learn_0 4 rfl rfl)
theorem dX3_learn_5 : decode cX3_learn 5 = .ok (.iconst 0, 1) := dk_3 (dk_at dksX3_learn_0 5 rfl rfl)
theorem dX3_learn_6 : decode cX3_learn 6 = .ok (.aload_n 0, 1) := dk_42 (dk_at dksX3_learn_0 6 rfl rfl)
theorem dX3_learn_7 : decode cX3_learn 7 = .ok (.getfield 33, 3) := dk_180 0 33 (dk_at dksX3_learn_0 7 rfl rfl)
theorem dX3_learn_10 : decode cX3_learn 10 = .ok (.invokevirtual 143, 3) := dk_182 0 143 (dk_at dksX3_learn_0 10 rfl rfl)
theorem dX3_learn_13 : decode cX3_learn 13 = .ok (.iconst 1, 1) := dk_4 (dk_at dksX3_learn_0 13 rfl rfl)
theorem dX3_learn_14 : decode cX3_learn 14 = .ok (.iadd, 1) := dk_96 (dk_at dksX3_learn_0 14 rfl rfl)
theorem dX3_learn_15 : decode cX3_learn 15 = .ok (.invokevirtual 133, 3) := dk_182 0 133 (dk_at dksX3_learn_0 15 rfl rfl)
theorem dX3_learn_18 : decode cX3_learn 18 = .ok (.invokevirtual 187, 3) := dk_182 0 187 (dk_at dksX3_learn_0 18 rfl rfl)
theorem dX3_learn_21 : decode cX3_learn 21 = .ok (.istore_n 1, 1) := dk_60 (dk_at dksX3_learn_0 21 rfl rfl)
theorem dX3_learn_22 : decode cX3_learn 22 = .ok (.return_, 1) := dk_177 (dk_at dksX3_learn_0 22 rfl rfl)
theorem q105 : (Jvm.Cond.initialized "PingEye$Parser") ∈ lw_all := lw_g (lw_at lw_m1 11 rfl) rfl
theorem q164 : (Jvm.Cond.fieldLinkNest "PingEye$Parser" (50 : Nat) "PingEye" "buffer" "[B" "PingEye") ∈ lw_tbl := lw_at lw_m1 70 rfl
theorem q166 : (Jvm.Cond.fieldLinkNest "PingEye$Parser" (41 : Nat) "PingEye" "buffered" "I" "PingEye") ∈ lw_tbl := lw_at lw_m1 72 rfl
theorem q168 : (Jvm.Cond.fieldLinkNest "PingEye$Parser" (44 : Nat) "PingEye" "parseError" "I" "PingEye") ∈ lw_tbl := lw_at lw_m1 74 rfl
theorem q170 : (Jvm.Cond.fieldLinkNest "PingEye$Parser" (47 : Nat) "PingEye" "errorPosition" "I" "PingEye") ∈ lw_tbl := lw_at lw_m1 76 rfl
theorem q345 : (Jvm.Cond.instantiable "PingEye$Parser" (8 : Nat)) ∈ lw_all := lw_g (lw_at lw_m2 11 rfl) rfl
theorem q347 : (Jvm.Cond.instanceMethod ({ cls := "PingEye$Parser", name := "<init>", desc := "(LPingEye;I)V" } : Jvm.MethodName)) ∈ lw_all := lw_g (lw_at lw_m2 13 rfl) rfl
theorem q348 : (Jvm.Cond.code ({ cls := "PingEye$Parser", name := "<init>", desc := "(LPingEye;I)V" } : Jvm.MethodName) prog_5_method_1_code (3 : Nat) (Option.none : Option Jvm.ClassFile.FieldType)) ∈ lw_all := lw_g (lw_at lw_m2 14 rfl) rfl
theorem q349 : (Jvm.Cond.methodLink "PingEye$Parser" (9 : Nat) ({ cls := "java/lang/Object", name := "<init>", desc := "()V" } : Jvm.MethodName)) ∈ lw_all := lw_g (lw_at lw_m2 15 rfl) rfl
theorem q350 : (Jvm.Cond.fieldLink "PingEye$Parser" (15 : Nat) "PingEye$Token" "INVALID" "LPingEye$Token;") ∈ lw_all := lw_g (lw_at lw_m2 16 rfl) rfl
theorem q352 : (Jvm.Cond.stringRef "PingEye$Parser" (24 : Nat) "") ∈ lw_tbl := lw_at lw_m2 18 rfl
theorem q353 : (Jvm.Cond.classLink "PingEye$Parser" (30 : Nat) "PingEye$Silo") ∈ lw_all := lw_g (lw_at lw_m2 19 rfl) rfl
theorem q355 : (Jvm.Cond.methodLink "PingEye$Parser" (32 : Nat) ({ cls := "PingEye$Silo", name := "<init>", desc := "()V" } : Jvm.MethodName)) ∈ lw_all := lw_g (lw_at lw_m2 21 rfl) rfl
theorem q645 : (Jvm.Cond.fieldLinkNest "PingEye$Parser" (122 : Nat) "PingEye$Silo" "numbers" "[I" "PingEye") ∈ lw_tbl := lw_at lw_m3 71 rfl
theorem q648 : (Jvm.Cond.fieldLinkNest "PingEye$Parser" (178 : Nat) "PingEye$Silo" "heights" "[I" "PingEye") ∈ lw_tbl := lw_at lw_m3 74 rfl
theorem q653 : (Jvm.Cond.fieldLinkNest "PingEye$Parser" (215 : Nat) "PingEye$Silo" "isStuck" "[Z" "PingEye") ∈ lw_tbl := lw_at lw_m3 79 rfl
theorem q656 : (Jvm.Cond.fieldLinkNest "PingEye$Parser" (149 : Nat) "PingEye$Silo" "bars" "Ljava/util/List;" "PingEye") ∈ lw_tbl := lw_at lw_m3 82 rfl
theorem q659 : (Jvm.Cond.fieldLinkNest "PingEye$Parser" (228 : Nat) "PingEye$Silo" "dust" "I" "PingEye") ∈ lw_tbl := lw_at lw_m3 85 rfl
theorem q718 : (Jvm.Cond.fieldLink "PingEye$Parser" (37 : Nat) "PingEye$Parser" "size" "I") ∈ lw_all := lw_g (lw_at lw_m3 144 rfl) rfl
theorem q719 : (Jvm.Cond.fieldLink "PingEye$Parser" (73 : Nat) "PingEye$Parser" "from" "I") ∈ lw_all := lw_g (lw_at lw_m3 145 rfl) rfl
theorem q720 : (Jvm.Cond.fieldLink "PingEye$Parser" (54 : Nat) "PingEye$Parser" "to" "I") ∈ lw_all := lw_g (lw_at lw_m3 146 rfl) rfl
theorem q721 : (Jvm.Cond.fieldLink "PingEye$Parser" (87 : Nat) "PingEye$Parser" "value" "I") ∈ lw_all := lw_g (lw_at lw_m3 147 rfl) rfl
theorem q722 : (Jvm.Cond.fieldLink "PingEye$Parser" (21 : Nat) "PingEye$Parser" "token" "LPingEye$Token;") ∈ lw_all := lw_g (lw_at lw_m3 148 rfl) rfl
theorem q723 : (Jvm.Cond.fieldLink "PingEye$Parser" (26 : Nat) "PingEye$Parser" "word" "Ljava/lang/String;") ∈ lw_all := lw_g (lw_at lw_m3 149 rfl) rfl
theorem q724 : (Jvm.Cond.fieldLink "PingEye$Parser" (33 : Nat) "PingEye$Parser" "read" "LPingEye$Silo;") ∈ lw_all := lw_g (lw_at lw_m3 150 rfl) rfl
theorem q725 : (Jvm.Cond.fieldLink "PingEye$Parser" (3 : Nat) "PingEye$Parser" "this$0" "LPingEye;") ∈ lw_all := lw_g (lw_at lw_m3 151 rfl) rfl
theorem q726 : (Jvm.Cond.laysFinal "PingEye$Parser" "PingEye$Parser" "size" "I") ∈ lw_all := lw_g (lw_at lw_m3 152 rfl) rfl
theorem q727 : (Jvm.Cond.soleField "PingEye$Parser" "size") ∈ lw_all := lw_g (lw_at lw_m3 153 rfl) rfl
theorem q728 : (Jvm.Cond.lays "PingEye$Parser" "PingEye$Parser" "from" "I") ∈ lw_all := lw_g (lw_at lw_m3 154 rfl) rfl
theorem q729 : (Jvm.Cond.soleField "PingEye$Parser" "from") ∈ lw_all := lw_g (lw_at lw_m3 155 rfl) rfl
theorem q730 : (Jvm.Cond.lays "PingEye$Parser" "PingEye$Parser" "to" "I") ∈ lw_all := lw_g (lw_at lw_m3 156 rfl) rfl
theorem q731 : (Jvm.Cond.soleField "PingEye$Parser" "to") ∈ lw_all := lw_g (lw_at lw_m3 157 rfl) rfl
theorem q732 : (Jvm.Cond.lays "PingEye$Parser" "PingEye$Parser" "value" "I") ∈ lw_all := lw_g (lw_at lw_m3 158 rfl) rfl
theorem q733 : (Jvm.Cond.soleField "PingEye$Parser" "value") ∈ lw_all := lw_g (lw_at lw_m3 159 rfl) rfl
theorem q734 : (Jvm.Cond.lays "PingEye$Parser" "PingEye$Parser" "token" "LPingEye$Token;") ∈ lw_all := lw_g (lw_at lw_m3 160 rfl) rfl
theorem q735 : (Jvm.Cond.soleField "PingEye$Parser" "token") ∈ lw_all := lw_g (lw_at lw_m3 161 rfl) rfl
theorem q736 : (Jvm.Cond.lays "PingEye$Parser" "PingEye$Parser" "word" "Ljava/lang/String;") ∈ lw_all := lw_g (lw_at lw_m3 162 rfl) rfl
theorem q737 : (Jvm.Cond.soleField "PingEye$Parser" "word") ∈ lw_all := lw_g (lw_at lw_m3 163 rfl) rfl
theorem q738 : (Jvm.Cond.laysFinal "PingEye$Parser" "PingEye$Parser" "read" "LPingEye$Silo;") ∈ lw_all := lw_g (lw_at lw_m3 164 rfl) rfl
theorem q739 : (Jvm.Cond.soleField "PingEye$Parser" "read") ∈ lw_all := lw_g (lw_at lw_m3 165 rfl) rfl
theorem q740 : (Jvm.Cond.laysFinal "PingEye$Parser" "PingEye$Parser" "this$0" "LPingEye;") ∈ lw_all := lw_g (lw_at lw_m3 166 rfl) rfl
theorem q741 : (Jvm.Cond.soleField "PingEye$Parser" "this$0") ∈ lw_all := lw_g (lw_at lw_m3 167 rfl) rfl
theorem q742 : (Jvm.Cond.superclass "PingEye$Parser" "java/lang/Object") ∈ lw_all := lw_g (lw_at lw_m3 168 rfl) rfl
theorem q744 : (Jvm.Cond.instanceMethod ({ cls := "PingEye$Parser", name := "silo", desc := "()LPingEye$Silo;" } : Jvm.MethodName)) ∈ lw_all := lw_g (lw_at lw_m3 170 rfl) rfl
theorem q745 : (Jvm.Cond.selects "PingEye$Parser" ({ cls := "PingEye$Parser", name := "silo", desc := "()LPingEye$Silo;" } : Jvm.MethodName) ({ cls := "PingEye$Parser", name := "silo", desc := "()LPingEye$Silo;" } : Jvm.MethodName)) ∈ lw_all := lw_g (lw_at lw_m3 171 rfl) rfl
theorem q746 : (Jvm.Cond.code ({ cls := "PingEye$Parser", name := "silo", desc := "()LPingEye$Silo;" } : Jvm.MethodName) prog_5_method_17_code (1 : Nat) (Option.some (Jvm.ClassFile.FieldType.object "PingEye$Silo"))) ∈ lw_all := lw_g (lw_at lw_m3 172 rfl) rfl
theorem q747 : (Jvm.Cond.methodLink "PingEye$Parser" (113 : Nat) ({ cls := "PingEye$Parser", name := "advance", desc := "()V" } : Jvm.MethodName)) ∈ lw_all := lw_g (lw_at lw_m3 173 rfl) rfl
theorem q748 : (Jvm.Cond.privateMethod ({ cls := "PingEye$Parser", name := "advance", desc := "()V" } : Jvm.MethodName)) ∈ lw_tbl := lw_at lw_m3 174 rfl
theorem q749 : (Jvm.Cond.instanceMethod ({ cls := "PingEye$Parser", name := "advance", desc := "()V" } : Jvm.MethodName)) ∈ lw_all := lw_g (lw_at lw_m3 175 rfl) rfl
theorem q750 : (Jvm.Cond.code ({ cls := "PingEye$Parser", name := "advance", desc := "()V" } : Jvm.MethodName) prog_5_method_4_code (1 : Nat) (Option.none : Option Jvm.ClassFile.FieldType)) ∈ lw_all := lw_g (lw_at lw_m3 176 rfl) rfl
theorem q751 : (Jvm.Cond.methodLink "PingEye$Parser" (57 : Nat) ({ cls := "PingEye$Parser", name := "byteAt", desc := "(I)I" } : Jvm.MethodName)) ∈ lw_all := lw_g (lw_at lw_m3 177 rfl) rfl
theorem q752 : (Jvm.Cond.privateMethod ({ cls := "PingEye$Parser", name := "byteAt", desc := "(I)I" } : Jvm.MethodName)) ∈ lw_tbl := lw_at lw_m3 178 rfl
theorem q753 : (Jvm.Cond.instanceMethod ({ cls := "PingEye$Parser", name := "byteAt", desc := "(I)I" } : Jvm.MethodName)) ∈ lw_all := lw_g (lw_at lw_m3 179 rfl) rfl
theorem q754 : (Jvm.Cond.code ({ cls := "PingEye$Parser", name := "byteAt", desc := "(I)I" } : Jvm.MethodName) prog_5_method_2_code (2 : Nat) (Option.some Jvm.ClassFile.FieldType.int)) ∈ lw_all := lw_g (lw_at lw_m3 180 rfl) rfl
theorem q755 : (Jvm.Cond.methodLink "PingEye$Parser" (96 : Nat) ({ cls := "PingEye$Parser", name := "scan", desc := "()LPingEye$Token;" } : Jvm.MethodName)) ∈ lw_all := lw_g (lw_at lw_m3 181 rfl) rfl
theorem q756 : (Jvm.Cond.privateMethod ({ cls := "PingEye$Parser", name := "scan", desc := "()LPingEye$Token;" } : Jvm.MethodName)) ∈ lw_tbl := lw_at lw_m3 182 rfl
theorem q757 : (Jvm.Cond.instanceMethod ({ cls := "PingEye$Parser", name := "scan", desc := "()LPingEye$Token;" } : Jvm.MethodName)) ∈ lw_all := lw_g (lw_at lw_m3 183 rfl) rfl
theorem q758 : (Jvm.Cond.code ({ cls := "PingEye$Parser", name := "scan", desc := "()LPingEye$Token;" } : Jvm.MethodName) prog_5_method_3_code (3 : Nat) (Option.some (Jvm.ClassFile.FieldType.object "PingEye$Token"))) ∈ lw_all := lw_g (lw_at lw_m3 184 rfl) rfl
theorem q759 : (Jvm.Cond.fieldLink "PingEye$Parser" (61 : Nat) "PingEye$Token" "END" "LPingEye$Token;") ∈ lw_all := lw_g (lw_at lw_m3 185 rfl) rfl
theorem q761 : (Jvm.Cond.methodLinkNest "PingEye$Parser" (64 : Nat) ({ cls := "PingEye", name := "in", desc := "(III)Z" } : Jvm.MethodName) "PingEye") ∈ lw_tbl := lw_at lw_m3 187 rfl
theorem q762 : (Jvm.Cond.classLink "PingEye$Parser" (68 : Nat) "java/lang/StringBuilder") ∈ lw_all := lw_g (lw_at lw_m3 188 rfl) rfl
theorem q763 : (Jvm.Cond.methodLink "PingEye$Parser" (70 : Nat) ({ cls := "java/lang/StringBuilder", name := "<init>", desc := "(I)V" } : Jvm.MethodName)) ∈ lw_all := lw_g (lw_at lw_m3 189 rfl) rfl
theorem q766 : (Jvm.Cond.methodLink "PingEye$Parser" (76 : Nat) ({ cls := "java/lang/StringBuilder", name := "append", desc := "(C)Ljava/lang/StringBuilder;" } : Jvm.MethodName)) ∈ lw_all := lw_g (lw_at lw_m3 192 rfl) rfl
theorem q788 : (Jvm.Cond.methodLink "PingEye$Parser" (80 : Nat) ({ cls := "java/lang/StringBuilder", name := "toString", desc := "()Ljava/lang/String;" } : Jvm.MethodName)) ∈ lw_all := lw_g (lw_at lw_m3 214 rfl) rfl
theorem q789 : (Jvm.Cond.fieldLink "PingEye$Parser" (84 : Nat) "PingEye$Token" "WORD" "LPingEye$Token;") ∈ lw_all := lw_g (lw_at lw_m3 215 rfl) rfl
theorem q791 : (Jvm.Cond.fieldLink "PingEye$Parser" (90 : Nat) "PingEye$Token" "NUMBER" "LPingEye$Token;") ∈ lw_all := lw_g (lw_at lw_m3 217 rfl) rfl
theorem q793 : (Jvm.Cond.fieldLink "PingEye$Parser" (93 : Nat) "PingEye$Token" "LINE_END" "LPingEye$Token;") ∈ lw_all := lw_g (lw_at lw_m3 219 rfl) rfl
theorem q795 : (Jvm.Cond.stringRef "PingEye$Parser" (236 : Nat) "silo") ∈ lw_tbl := lw_at lw_m3 221 rfl
theorem q796 : (Jvm.Cond.methodLink "PingEye$Parser" (238 : Nat) ({ cls := "PingEye$Parser", name := "word", desc := "(Ljava/lang/String;)V" } : Jvm.MethodName)) ∈ lw_all := lw_g (lw_at lw_m3 222 rfl) rfl
theorem q797 : (Jvm.Cond.privateMethod ({ cls := "PingEye$Parser", name := "word", desc := "(Ljava/lang/String;)V" } : Jvm.MethodName)) ∈ lw_tbl := lw_at lw_m3 223 rfl
theorem q798 : (Jvm.Cond.instanceMethod ({ cls := "PingEye$Parser", name := "word", desc := "(Ljava/lang/String;)V" } : Jvm.MethodName)) ∈ lw_all := lw_g (lw_at lw_m3 224 rfl) rfl
theorem q799 : (Jvm.Cond.code ({ cls := "PingEye$Parser", name := "word", desc := "(Ljava/lang/String;)V" } : Jvm.MethodName) prog_5_method_8_code (2 : Nat) (Option.none : Option Jvm.ClassFile.FieldType)) ∈ lw_all := lw_g (lw_at lw_m3 225 rfl) rfl
theorem q800 : (Jvm.Cond.methodLink "PingEye$Parser" (116 : Nat) ({ cls := "java/lang/String", name := "equals", desc := "(Ljava/lang/Object;)Z" } : Jvm.MethodName)) ∈ lw_all := lw_g (lw_at lw_m3 226 rfl) rfl
theorem q808 : (Jvm.Cond.methodLink "PingEye$Parser" (105 : Nat) ({ cls := "PingEye$Parser", name := "require", desc := "(ZI)V" } : Jvm.MethodName)) ∈ lw_all := lw_g (lw_at lw_m3 234 rfl) rfl
theorem q809 : (Jvm.Cond.privateMethod ({ cls := "PingEye$Parser", name := "require", desc := "(ZI)V" } : Jvm.MethodName)) ∈ lw_tbl := lw_at lw_m3 235 rfl
theorem q810 : (Jvm.Cond.instanceMethod ({ cls := "PingEye$Parser", name := "require", desc := "(ZI)V" } : Jvm.MethodName)) ∈ lw_all := lw_g (lw_at lw_m3 236 rfl) rfl
theorem q811 : (Jvm.Cond.code ({ cls := "PingEye$Parser", name := "require", desc := "(ZI)V" } : Jvm.MethodName) prog_5_method_5_code (3 : Nat) (Option.none : Option Jvm.ClassFile.FieldType)) ∈ lw_all := lw_g (lw_at lw_m3 237 rfl) rfl
theorem q812 : (Jvm.Cond.classLink "PingEye$Parser" (100 : Nat) "PingEye$FormatException") ∈ lw_all := lw_g (lw_at lw_m3 238 rfl) rfl
theorem q821 : (Jvm.Cond.methodLink "PingEye$Parser" (102 : Nat) ({ cls := "PingEye$FormatException", name := "<init>", desc := "(II)V" } : Jvm.MethodName)) ∈ lw_all := lw_g (lw_at lw_m4 7 rfl) rfl
theorem q840 : (Jvm.Cond.methodLink "PingEye$Parser" (241 : Nat) ({ cls := "PingEye$Parser", name := "numbers", desc := "(II)V" } : Jvm.MethodName)) ∈ lw_all := lw_g (lw_at lw_m4 26 rfl) rfl
theorem q841 : (Jvm.Cond.privateMethod ({ cls := "PingEye$Parser", name := "numbers", desc := "(II)V" } : Jvm.MethodName)) ∈ lw_tbl := lw_at lw_m4 27 rfl
theorem q842 : (Jvm.Cond.instanceMethod ({ cls := "PingEye$Parser", name := "numbers", desc := "(II)V" } : Jvm.MethodName)) ∈ lw_all := lw_g (lw_at lw_m4 28 rfl) rfl
theorem q843 : (Jvm.Cond.code ({ cls := "PingEye$Parser", name := "numbers", desc := "(II)V" } : Jvm.MethodName) prog_5_method_9_code (4 : Nat) (Option.none : Option Jvm.ClassFile.FieldType)) ∈ lw_all := lw_g (lw_at lw_m4 29 rfl) rfl
theorem q844 : (Jvm.Cond.methodLinkNest "PingEye$Parser" (126 : Nat) ({ cls := "PingEye", name := "least", desc := "(I)I" } : Jvm.MethodName) "PingEye") ∈ lw_tbl := lw_at lw_m4 30 rfl
theorem q847 : (Jvm.Cond.methodLinkNest "PingEye$Parser" (129 : Nat) ({ cls := "PingEye", name := "most", desc := "(LPingEye$Silo;I)I" } : Jvm.MethodName) "PingEye") ∈ lw_tbl := lw_at lw_m4 33 rfl
theorem q854 : (Jvm.Cond.methodLink "PingEye$Parser" (133 : Nat) ({ cls := "PingEye$Parser", name := "number", desc := "(II)I" } : Jvm.MethodName)) ∈ lw_all := lw_g (lw_at lw_m4 40 rfl) rfl
theorem q855 : (Jvm.Cond.privateMethod ({ cls := "PingEye$Parser", name := "number", desc := "(II)I" } : Jvm.MethodName)) ∈ lw_tbl := lw_at lw_m4 41 rfl
theorem q856 : (Jvm.Cond.instanceMethod ({ cls := "PingEye$Parser", name := "number", desc := "(II)I" } : Jvm.MethodName)) ∈ lw_all := lw_g (lw_at lw_m4 42 rfl) rfl
theorem q857 : (Jvm.Cond.code ({ cls := "PingEye$Parser", name := "number", desc := "(II)I" } : Jvm.MethodName) prog_5_method_7_code (4 : Nat) (Option.some Jvm.ClassFile.FieldType.int)) ∈ lw_all := lw_g (lw_at lw_m4 43 rfl) rfl
theorem q858 : (Jvm.Cond.methodLink "PingEye$Parser" (109 : Nat) ({ cls := "PingEye$Parser", name := "numberHere", desc := "(II)I" } : Jvm.MethodName)) ∈ lw_all := lw_g (lw_at lw_m4 44 rfl) rfl
theorem q859 : (Jvm.Cond.privateMethod ({ cls := "PingEye$Parser", name := "numberHere", desc := "(II)I" } : Jvm.MethodName)) ∈ lw_tbl := lw_at lw_m4 45 rfl
theorem q860 : (Jvm.Cond.instanceMethod ({ cls := "PingEye$Parser", name := "numberHere", desc := "(II)I" } : Jvm.MethodName)) ∈ lw_all := lw_g (lw_at lw_m4 46 rfl) rfl
theorem q861 : (Jvm.Cond.code ({ cls := "PingEye$Parser", name := "numberHere", desc := "(II)I" } : Jvm.MethodName) prog_5_method_6_code (3 : Nat) (Option.some Jvm.ClassFile.FieldType.int)) ∈ lw_all := lw_g (lw_at lw_m4 47 rfl) rfl
theorem q862 : (Jvm.Cond.stringRef "PingEye$Parser" (243 : Nat) "eye") ∈ lw_tbl := lw_at lw_m4 48 rfl
theorem q863 : (Jvm.Cond.methodLink "PingEye$Parser" (245 : Nat) ({ cls := "PingEye$Parser", name := "line", desc := "()V" } : Jvm.MethodName)) ∈ lw_all := lw_g (lw_at lw_m4 49 rfl) rfl
theorem q864 : (Jvm.Cond.privateMethod ({ cls := "PingEye$Parser", name := "line", desc := "()V" } : Jvm.MethodName)) ∈ lw_tbl := lw_at lw_m4 50 rfl
theorem q865 : (Jvm.Cond.instanceMethod ({ cls := "PingEye$Parser", name := "line", desc := "()V" } : Jvm.MethodName)) ∈ lw_all := lw_g (lw_at lw_m4 51 rfl) rfl
theorem q866 : (Jvm.Cond.code ({ cls := "PingEye$Parser", name := "line", desc := "()V" } : Jvm.MethodName) prog_5_method_16_code (5 : Nat) (Option.none : Option Jvm.ClassFile.FieldType)) ∈ lw_all := lw_g (lw_at lw_m4 52 rfl) rfl
theorem q867 : (Jvm.Cond.stringRef "PingEye$Parser" (190 : Nat) "bar") ∈ lw_tbl := lw_at lw_m4 53 rfl
theorem q868 : (Jvm.Cond.interfaceEntry "PingEye$Parser" (192 : Nat)) ∈ lw_tbl := lw_at lw_m4 54 rfl
theorem q869 : (Jvm.Cond.methodLink "PingEye$Parser" (192 : Nat) ({ cls := "java/util/List", name := "size", desc := "()I" } : Jvm.MethodName)) ∈ lw_all := lw_g (lw_at lw_m4 55 rfl) rfl
theorem q878 : (Jvm.Cond.stringRef "PingEye$Parser" (194 : Nat) "draw") ∈ lw_tbl := lw_at lw_m4 64 rfl
theorem q879 : (Jvm.Cond.methodLink "PingEye$Parser" (196 : Nat) ({ cls := "java/lang/String", name := "hashCode", desc := "()I" } : Jvm.MethodName)) ∈ lw_all := lw_g (lw_at lw_m4 65 rfl) rfl
theorem q940 : (Jvm.Cond.stringRef "PingEye$Parser" (199 : Nat) "heap") ∈ lw_tbl := lw_at lw_m4 126 rfl
theorem q941 : (Jvm.Cond.stringRef "PingEye$Parser" (201 : Nat) "stuck") ∈ lw_tbl := lw_at lw_m4 127 rfl
theorem q942 : (Jvm.Cond.stringRef "PingEye$Parser" (203 : Nat) "fill") ∈ lw_tbl := lw_at lw_m4 128 rfl
theorem q943 : (Jvm.Cond.stringRef "PingEye$Parser" (205 : Nat) "ping") ∈ lw_tbl := lw_at lw_m4 129 rfl
theorem q944 : (Jvm.Cond.stringRef "PingEye$Parser" (207 : Nat) "learn") ∈ lw_tbl := lw_at lw_m4 130 rfl
theorem q945 : (Jvm.Cond.stringRef "PingEye$Parser" (209 : Nat) "wait") ∈ lw_tbl := lw_at lw_m4 131 rfl
theorem q946 : (Jvm.Cond.methodLink "PingEye$Parser" (211 : Nat) ({ cls := "PingEye$Parser", name := "heap", desc := "()V" } : Jvm.MethodName)) ∈ lw_all := lw_g (lw_at lw_m4 132 rfl) rfl
theorem q947 : (Jvm.Cond.privateMethod ({ cls := "PingEye$Parser", name := "heap", desc := "()V" } : Jvm.MethodName)) ∈ lw_tbl := lw_at lw_m4 133 rfl
theorem q948 : (Jvm.Cond.instanceMethod ({ cls := "PingEye$Parser", name := "heap", desc := "()V" } : Jvm.MethodName)) ∈ lw_all := lw_g (lw_at lw_m4 134 rfl) rfl
theorem q949 : (Jvm.Cond.code ({ cls := "PingEye$Parser", name := "heap", desc := "()V" } : Jvm.MethodName) prog_5_method_11_code (2 : Nat) (Option.none : Option Jvm.ClassFile.FieldType)) ∈ lw_all := lw_g (lw_at lw_m4 135 rfl) rfl
theorem q950 : (Jvm.Cond.methodLink "PingEye$Parser" (140 : Nat) ({ cls := "PingEye$Parser", name := "column", desc := "()I" } : Jvm.MethodName)) ∈ lw_all := lw_g (lw_at lw_m4 136 rfl) rfl
theorem q951 : (Jvm.Cond.privateMethod ({ cls := "PingEye$Parser", name := "column", desc := "()I" } : Jvm.MethodName)) ∈ lw_tbl := lw_at lw_m4 137 rfl
theorem q952 : (Jvm.Cond.instanceMethod ({ cls := "PingEye$Parser", name := "column", desc := "()I" } : Jvm.MethodName)) ∈ lw_all := lw_g (lw_at lw_m4 138 rfl) rfl
theorem q953 : (Jvm.Cond.code ({ cls := "PingEye$Parser", name := "column", desc := "()I" } : Jvm.MethodName) prog_5_method_10_code (1 : Nat) (Option.some Jvm.ClassFile.FieldType.int)) ∈ lw_all := lw_g (lw_at lw_m4 139 rfl) rfl
theorem q954 : (Jvm.Cond.methodLink "PingEye$Parser" (136 : Nat) ({ cls := "PingEye$Silo", name := "many", desc := "()I" } : Jvm.MethodName)) ∈ lw_all := lw_g (lw_at lw_m4 140 rfl) rfl
theorem q955 : (Jvm.Cond.methodLink "PingEye$Parser" (143 : Nat) ({ cls := "PingEye$Silo", name := "depth", desc := "()I" } : Jvm.MethodName)) ∈ lw_all := lw_g (lw_at lw_m4 141 rfl) rfl
theorem q959 : (Jvm.Cond.methodLink "PingEye$Parser" (146 : Nat) ({ cls := "PingEye$Silo", name := "heaps", desc := "(II)V" } : Jvm.MethodName)) ∈ lw_all := lw_g (lw_at lw_m4 145 rfl) rfl
theorem q982 : (Jvm.Cond.methodLink "PingEye$Parser" (213 : Nat) ({ cls := "PingEye$Parser", name := "bar", desc := "()V" } : Jvm.MethodName)) ∈ lw_all := lw_g (lw_at lw_m4 168 rfl) rfl
theorem q983 : (Jvm.Cond.privateMethod ({ cls := "PingEye$Parser", name := "bar", desc := "()V" } : Jvm.MethodName)) ∈ lw_tbl := lw_at lw_m4 169 rfl
theorem q984 : (Jvm.Cond.instanceMethod ({ cls := "PingEye$Parser", name := "bar", desc := "()V" } : Jvm.MethodName)) ∈ lw_all := lw_g (lw_at lw_m4 170 rfl) rfl
theorem q985 : (Jvm.Cond.code ({ cls := "PingEye$Parser", name := "bar", desc := "()V" } : Jvm.MethodName) prog_5_method_12_code (4 : Nat) (Option.none : Option Jvm.ClassFile.FieldType)) ∈ lw_all := lw_g (lw_at lw_m4 171 rfl) rfl
theorem q986 : (Jvm.Cond.interfaceEntry "PingEye$Parser" (153 : Nat)) ∈ lw_tbl := lw_at lw_m4 172 rfl
theorem q987 : (Jvm.Cond.methodLink "PingEye$Parser" (153 : Nat) ({ cls := "java/util/List", name := "iterator", desc := "()Ljava/util/Iterator;" } : Jvm.MethodName)) ∈ lw_all := lw_g (lw_at lw_m4 173 rfl) rfl
theorem q1014 : (Jvm.Cond.interfaceEntry "PingEye$Parser" (159 : Nat)) ∈ lw_tbl := lw_at lw_m4 200 rfl
theorem q1015 : (Jvm.Cond.methodLink "PingEye$Parser" (159 : Nat) ({ cls := "java/util/Iterator", name := "hasNext", desc := "()Z" } : Jvm.MethodName)) ∈ lw_all := lw_g (lw_at lw_m4 201 rfl) rfl
theorem q1024 : (Jvm.Cond.interfaceEntry "PingEye$Parser" (165 : Nat)) ∈ lw_tbl := lw_at lw_m4 210 rfl
theorem q1025 : (Jvm.Cond.methodLink "PingEye$Parser" (165 : Nat) ({ cls := "java/util/Iterator", name := "next", desc := "()Ljava/lang/Object;" } : Jvm.MethodName)) ∈ lw_all := lw_g (lw_at lw_m4 211 rfl) rfl
theorem q1037 : (Jvm.Cond.classLink "PingEye$Parser" (169 : Nat) "PingEye$Bar") ∈ lw_all := lw_g (lw_at lw_m4 223 rfl) rfl
theorem q1039 : (Jvm.Cond.methodLink "PingEye$Parser" (174 : Nat) ({ cls := "PingEye$Bar", name := "<init>", desc := "(II)V" } : Jvm.MethodName)) ∈ lw_all := lw_g (lw_at lw_m4 225 rfl) rfl
theorem q1044 : (Jvm.Cond.fieldLinkNest "PingEye$Parser" (171 : Nat) "PingEye$Bar" "way" "I" "PingEye") ∈ lw_tbl := lw_at lw_m4 230 rfl
theorem q1055 : (Jvm.Cond.interfaceEntry "PingEye$Parser" (175 : Nat)) ∈ lw_tbl := lw_at lw_m5 1 rfl
theorem q1056 : (Jvm.Cond.methodLink "PingEye$Parser" (175 : Nat) ({ cls := "java/util/List", name := "add", desc := "(Ljava/lang/Object;)Z" } : Jvm.MethodName)) ∈ lw_all := lw_g (lw_at lw_m5 2 rfl) rfl
theorem q1088 : (Jvm.Cond.selects "PingEye$Parser" ({ cls := "java/lang/Object", name := "getClass", desc := "()Ljava/lang/Class;" } : Jvm.MethodName) ({ cls := "java/lang/Object", name := "getClass", desc := "()Ljava/lang/Class;" } : Jvm.MethodName)) ∈ lw_all := lw_g (lw_at lw_m5 34 rfl) rfl
theorem q1110 : (Jvm.Cond.methodLink "PingEye$Parser" (219 : Nat) ({ cls := "PingEye$Parser", name := "fill", desc := "()V" } : Jvm.MethodName)) ∈ lw_all := lw_g (lw_at lw_m5 56 rfl) rfl
theorem q1111 : (Jvm.Cond.privateMethod ({ cls := "PingEye$Parser", name := "fill", desc := "()V" } : Jvm.MethodName)) ∈ lw_tbl := lw_at lw_m5 57 rfl
theorem q1112 : (Jvm.Cond.instanceMethod ({ cls := "PingEye$Parser", name := "fill", desc := "()V" } : Jvm.MethodName)) ∈ lw_all := lw_g (lw_at lw_m5 58 rfl) rfl
theorem q1113 : (Jvm.Cond.code ({ cls := "PingEye$Parser", name := "fill", desc := "()V" } : Jvm.MethodName) prog_5_method_13_code (3 : Nat) (Option.none : Option Jvm.ClassFile.FieldType)) ∈ lw_all := lw_g (lw_at lw_m5 59 rfl) rfl
theorem q1114 : (Jvm.Cond.methodLink "PingEye$Parser" (181 : Nat) ({ cls := "PingEye$Silo", name := "fills", desc := "(II)I" } : Jvm.MethodName)) ∈ lw_all := lw_g (lw_at lw_m5 60 rfl) rfl
theorem q1125 : (Jvm.Cond.methodLink "PingEye$Parser" (221 : Nat) ({ cls := "PingEye$Parser", name := "draw", desc := "()V" } : Jvm.MethodName)) ∈ lw_all := lw_g (lw_at lw_m5 71 rfl) rfl
theorem q1126 : (Jvm.Cond.privateMethod ({ cls := "PingEye$Parser", name := "draw", desc := "()V" } : Jvm.MethodName)) ∈ lw_tbl := lw_at lw_m5 72 rfl
theorem q1127 : (Jvm.Cond.instanceMethod ({ cls := "PingEye$Parser", name := "draw", desc := "()V" } : Jvm.MethodName)) ∈ lw_all := lw_g (lw_at lw_m5 73 rfl) rfl
theorem q1128 : (Jvm.Cond.code ({ cls := "PingEye$Parser", name := "draw", desc := "()V" } : Jvm.MethodName) prog_5_method_14_code (2 : Nat) (Option.none : Option Jvm.ClassFile.FieldType)) ∈ lw_all := lw_g (lw_at lw_m5 74 rfl) rfl
theorem q1129 : (Jvm.Cond.methodLink "PingEye$Parser" (184 : Nat) ({ cls := "PingEye$Silo", name := "draws", desc := "(I)I" } : Jvm.MethodName)) ∈ lw_all := lw_g (lw_at lw_m5 75 rfl) rfl
theorem q1137 : (Jvm.Cond.methodLink "PingEye$Parser" (223 : Nat) ({ cls := "PingEye$Silo", name := "pings", desc := "()I" } : Jvm.MethodName)) ∈ lw_all := lw_g (lw_at lw_m5 83 rfl) rfl
theorem q1273 : (Jvm.Cond.methodLink "PingEye$Parser" (226 : Nat) ({ cls := "PingEye$Parser", name := "learn", desc := "()V" } : Jvm.MethodName)) ∈ lw_all := lw_g (lw_at lw_m5 219 rfl) rfl
theorem q1274 : (Jvm.Cond.privateMethod ({ cls := "PingEye$Parser", name := "learn", desc := "()V" } : Jvm.MethodName)) ∈ lw_tbl := lw_at lw_m5 220 rfl
theorem q1275 : (Jvm.Cond.instanceMethod ({ cls := "PingEye$Parser", name := "learn", desc := "()V" } : Jvm.MethodName)) ∈ lw_all := lw_g (lw_at lw_m5 221 rfl) rfl
theorem q1276 : (Jvm.Cond.code ({ cls := "PingEye$Parser", name := "learn", desc := "()V" } : Jvm.MethodName) prog_5_method_15_code (2 : Nat) (Option.none : Option Jvm.ClassFile.FieldType)) ∈ lw_all := lw_g (lw_at lw_m5 222 rfl) rfl
theorem q1277 : (Jvm.Cond.methodLink "PingEye$Parser" (187 : Nat) ({ cls := "PingEye$Silo", name := "learns", desc := "(I)I" } : Jvm.MethodName)) ∈ lw_all := lw_g (lw_at lw_m5 223 rfl) rfl
theorem q1281 : (Jvm.Cond.methodLink "PingEye$Parser" (231 : Nat) ({ cls := "java/lang/Math", name := "max", desc := "(II)I" } : Jvm.MethodName)) ∈ lw_all := lw_g (lw_at lw_m5 227 rfl) rfl
theorem q2549 : (Jvm.Cond.castable "PingEye$Parser" "java/lang/Object") ∈ lw_tbl := lw_at lw_m11 55 rfl
theorem in_X3 : ∀ w ∈ wsX30, w ∈ lw_all := lw_in wsX30 [726, 728, 730, 732, 734, 736, 738, 740] (by decide +kernel) (by decide +kernel)

/-! PingEye$Silo -/
set_option maxRecDepth 100000
def RX4 : String := "PingEye$Silo"
def TX4 : u_T := fun k => match k with
  | 0 => ("PingEye$Silo", "numbers", "[I", false)
  | 1 => ("PingEye$Silo", "heights", "[I", false)
  | 2 => ("PingEye$Silo", "mask", "[I", false)
  | 3 => ("PingEye$Silo", "isStuck", "[Z", false)
  | 4 => ("PingEye$Silo", "bars", "Ljava/util/List;", true)
  | 5 => ("PingEye$Silo", "dust", "I", false)
  | 6 => ("PingEye$Silo", "level", "I", false)
  | 7 => ("PingEye$Silo", "doubt", "I", false)
  | 8 => ("PingEye$Silo", "pings", "I", false)
  | 9 => ("PingEye$Silo", "lost", "I", false)
  | 10 => ("PingEye$Silo", "filled", "I", false)
  | 11 => ("PingEye$Silo", "spilled", "I", false)
  | 12 => ("PingEye$Silo", "drawn", "I", false)
  | 13 => ("PingEye$Silo", "dry", "I", false)
  | 14 => ("PingEye$Silo", "slid", "I", false)
  | 15 => ("PingEye$Silo", "told", "I", false)
  | _ => ("PingEye$Silo", "doubted", "I", false)
def tyX4 : Nat → FieldType := fun k => match k with
  | 0 => .array .int
  | 1 => .array .int
  | 2 => .array .int
  | 3 => .array .boolean
  | 4 => .object "java/util/List"
  | 5 => .int
  | 6 => .int
  | 7 => .int
  | 8 => .int
  | 9 => .int
  | 10 => .int
  | 11 => .int
  | 12 => .int
  | 13 => .int
  | 14 => .int
  | 15 => .int
  | _ => .int
abbrev wsX40 : List Cond := u_ws RX4 TX4 17
set_option maxRecDepth 100000 in
theorem nmX4 : ∀ a, a < 17 → ∀ b, b < 17 → a ≠ b → (TX4 a).2.1 ≠ (TX4 b).2.1 := by decide +kernel
set_option maxRecDepth 100000 in
theorem tyX4_ok : ∀ k, k < 17 → parseFieldDescriptor (TX4 k).2.2.1 = some (tyX4 k) := by decide +kernel
abbrev cX4_init : ByteArray := prog_7_method_1_code
def yX4_init : MethodName := ⟨RX4, "<init>", "()V"⟩
def dkwX4_init_2 : List UInt8 := [181, 0, 30, 42, 2, 181, 0, 34, 177]
abbrev dktX4_init_2 : List UInt8 := dkwX4_init_2 ++ []
def dkwX4_init_1 : List UInt8 := [188, 10, 181, 0, 18, 42, 16, 9, 188, 4, 181, 0, 21, 42, 187, 0, 25, 89, 16, 6, 183, 0, 27]
abbrev dktX4_init_1 : List UInt8 := dkwX4_init_1 ++ dktX4_init_2
def dkwX4_init_0 : List UInt8 := [42, 183, 0, 3, 42, 16, 9, 188, 10, 181, 0, 9, 42, 16, 9, 188, 10, 181, 0, 15, 42, 16, 61]
abbrev dktX4_init_0 : List UInt8 := dkwX4_init_0 ++ dktX4_init_1
theorem dksX4_init_0 : cX4_init.data.toList.drop 0 = dktX4_init_0 := by decide +kernel
theorem dksX4_init_1 : cX4_init.data.toList.drop 23 = dktX4_init_1 := dk_seg dksX4_init_0 23 rfl rfl
theorem dksX4_init_2 : cX4_init.data.toList.drop 46 = dktX4_init_2 := dk_seg dksX4_init_1 23 rfl rfl
theorem dX4_init_0 : decode cX4_init 0 = .ok (.aload_n 0, 1) := dk_42 (dk_at dksX4_init_0 0 rfl rfl)
theorem dX4_init_1 : decode cX4_init 1 = .ok (.invokespecial 3, 3) := dk_183 0 3 (dk_at dksX4_init_0 1 rfl rfl)
theorem dX4_init_4 : decode cX4_init 4 = .ok (.aload_n 0, 1) := dk_42 (dk_at dksX4_init_0 4 rfl rfl)
theorem dX4_init_5 : decode cX4_init 5 = .ok (.bipush 9, 2) := dk_16 9 (dk_at dksX4_init_0 5 rfl rfl)
theorem dX4_init_7 : decode cX4_init 7 = .ok (.newarray .int, 2) := dk_188_10 (dk_at dksX4_init_0 7 rfl rfl)
theorem dX4_init_9 : decode cX4_init 9 = .ok (.putfield 9, 3) := dk_181 0 9 (dk_at dksX4_init_0 9 rfl rfl)
theorem dX4_init_12 : decode cX4_init 12 = .ok (.aload_n 0, 1) := dk_42 (dk_at dksX4_init_0 12 rfl rfl)
theorem dX4_init_13 : decode cX4_init 13 = .ok (.bipush 9, 2) := dk_16 9 (dk_at dksX4_init_0 13 rfl rfl)
theorem dX4_init_15 : decode cX4_init 15 = .ok (.newarray .int, 2) := dk_188_10 (dk_at dksX4_init_0 15 rfl rfl)
theorem dX4_init_17 : decode cX4_init 17 = .ok (.putfield 15, 3) := dk_181 0 15 (dk_at dksX4_init_0 17 rfl rfl)
theorem dX4_init_20 : decode cX4_init 20 = .ok (.aload_n 0, 1) := dk_42 (dk_at dksX4_init_0 20 rfl rfl)
theorem dX4_init_21 : decode cX4_init 21 = .ok (.bipush 61, 2) := dk_16 61 (dk_at dksX4_init_0 21 rfl rfl)
theorem dX4_init_23 : decode cX4_init 23 = .ok (.newarray .int, 2) := dk_188_10 (dk_at dksX4_init_1 0 rfl rfl)
theorem dX4_init_25 : decode cX4_init 25 = .ok (.putfield 18, 3) := dk_181 0 18 (dk_at dksX4_init_1 2 rfl rfl)
theorem dX4_init_28 : decode cX4_init 28 = .ok (.aload_n 0, 1) := dk_42 (dk_at dksX4_init_1 5 rfl rfl)
theorem dX4_init_29 : decode cX4_init 29 = .ok (.bipush 9, 2) := dk_16 9 (dk_at dksX4_init_1 6 rfl rfl)
theorem dX4_init_31 : decode cX4_init 31 = .ok (.newarray .boolean, 2) := dk_188_4 (dk_at dksX4_init_1 8 rfl rfl)
theorem dX4_init_33 : decode cX4_init 33 = .ok (.putfield 21, 3) := dk_181 0 21 (dk_at dksX4_init_1 10 rfl rfl)
theorem dX4_init_36 : decode cX4_init 36 = .ok (.aload_n 0, 1) := dk_42 (dk_at dksX4_init_1 13 rfl rfl)
theorem dX4_init_37 : decode cX4_init 37 = .ok (.new 25, 3) := dk_187 0 25 (dk_at dksX4_init_1 14 rfl rfl)
theorem dX4_init_40 : decode cX4_init 40 = .ok (.dup, 1) := dk_89 (dk_at dksX4_init_1 17 rfl rfl)
theorem dX4_init_41 : decode cX4_init 41 = .ok (.bipush 6, 2) := dk_16 6 (dk_at dksX4_init_1 18 rfl rfl)
theorem dX4_init_43 : decode cX4_init 43 = .ok (.invokespecial 27, 3) := dk_183 0 27 (dk_at dksX4_init_1 20 rfl rfl)
theorem dX4_init_46 : decode cX4_init 46 = .ok (.putfield 30, 3) := dk_181 0 30 (dk_at dksX4_init_2 0 rfl rfl)
theorem dX4_init_49 : decode cX4_init 49 = .ok (.aload_n 0, 1) := dk_42 (dk_at dksX4_init_2 3 rfl rfl)
theorem dX4_init_50 : decode cX4_init 50 = .ok (.iconst (-1), 1) := dk_2 (dk_at dksX4_init_2 4 rfl rfl)
theorem dX4_init_51 : decode cX4_init 51 = .ok (.putfield 34, 3) := dk_181 0 34 (dk_at dksX4_init_2 5 rfl rfl)
theorem dX4_init_54 : decode cX4_init 54 = .ok (.return_, 1) := dk_177 (dk_at dksX4_init_2 8 rfl rfl)
abbrev cX4_many : ByteArray := prog_7_method_3_code
def yX4_many : MethodName := ⟨RX4, "many", "()I"⟩
def dkwX4_many_0 : List UInt8 := [42, 180, 0, 9, 3, 46, 172]
abbrev dktX4_many_0 : List UInt8 := dkwX4_many_0 ++ []
theorem dksX4_many_0 : cX4_many.data.toList.drop 0 = dktX4_many_0 := by decide +kernel
theorem dX4_many_0 : decode cX4_many 0 = .ok (.aload_n 0, 1) := dk_42 (dk_at dksX4_many_0 0 rfl rfl)
theorem dX4_many_1 : decode cX4_many 1 = .ok (.getfield 9, 3) := dk_180 0 9 (dk_at dksX4_many_0 1 rfl rfl)
theorem dX4_many_4 : decode cX4_many 4 = .ok (.iconst 0, 1) := dk_3 (dk_at dksX4_many_0 4 rfl rfl)
theorem dX4_many_5 : decode cX4_many 5 = .ok (.iaload, 1) := dk_46 (dk_at dksX4_many_0 5 rfl rfl)
theorem dX4_many_6 : decode cX4_many 6 = .ok (.ireturn, 1) := dk_172 (dk_at dksX4_many_0 6 rfl rfl)
abbrev cX4_depth : ByteArray := prog_7_method_4_code
def yX4_depth : MethodName := ⟨RX4, "depth", "()I"⟩
def dkwX4_depth_0 : List UInt8 := [42, 180, 0, 9, 4, 46, 172]
abbrev dktX4_depth_0 : List UInt8 := dkwX4_depth_0 ++ []
theorem dksX4_depth_0 : cX4_depth.data.toList.drop 0 = dktX4_depth_0 := by decide +kernel
theorem dX4_depth_0 : decode cX4_depth 0 = .ok (.aload_n 0, 1) := dk_42 (dk_at dksX4_depth_0 0 rfl rfl)
theorem dX4_depth_1 : decode cX4_depth 1 = .ok (.getfield 9, 3) := dk_180 0 9 (dk_at dksX4_depth_0 1 rfl rfl)
theorem dX4_depth_4 : decode cX4_depth 4 = .ok (.iconst 1, 1) := dk_4 (dk_at dksX4_depth_0 4 rfl rfl)
theorem dX4_depth_5 : decode cX4_depth 5 = .ok (.iaload, 1) := dk_46 (dk_at dksX4_depth_0 5 rfl rfl)
theorem dX4_depth_6 : decode cX4_depth 6 = .ok (.ireturn, 1) := dk_172 (dk_at dksX4_depth_0 6 rfl rfl)
abbrev cX4_heaps : ByteArray := prog_7_method_16_code
def yX4_heaps : MethodName := ⟨RX4, "heaps", "(II)V"⟩
def dkwX4_heaps_1 : List UInt8 := [96, 79, 42, 89, 180, 0, 88, 29, 96, 181, 0, 88, 42, 182, 0, 116, 54, 4, 177]
abbrev dktX4_heaps_1 : List UInt8 := dkwX4_heaps_1 ++ []
def dkwX4_heaps_0 : List UInt8 := [28, 42, 182, 0, 107, 42, 180, 0, 15, 27, 46, 100, 184, 0, 110, 62, 42, 180, 0, 15, 27, 92, 46, 29]
abbrev dktX4_heaps_0 : List UInt8 := dkwX4_heaps_0 ++ dktX4_heaps_1
theorem dksX4_heaps_0 : cX4_heaps.data.toList.drop 0 = dktX4_heaps_0 := by decide +kernel
theorem dksX4_heaps_1 : cX4_heaps.data.toList.drop 24 = dktX4_heaps_1 := dk_seg dksX4_heaps_0 24 rfl rfl
theorem dX4_heaps_0 : decode cX4_heaps 0 = .ok (.iload_n 2, 1) := dk_28 (dk_at dksX4_heaps_0 0 rfl rfl)
theorem dX4_heaps_1 : decode cX4_heaps 1 = .ok (.aload_n 0, 1) := dk_42 (dk_at dksX4_heaps_0 1 rfl rfl)
theorem dX4_heaps_2 : decode cX4_heaps 2 = .ok (.invokevirtual 107, 3) := dk_182 0 107 (dk_at dksX4_heaps_0 2 rfl rfl)
theorem dX4_heaps_5 : decode cX4_heaps 5 = .ok (.aload_n 0, 1) := dk_42 (dk_at dksX4_heaps_0 5 rfl rfl)
theorem dX4_heaps_6 : decode cX4_heaps 6 = .ok (.getfield 15, 3) := dk_180 0 15 (dk_at dksX4_heaps_0 6 rfl rfl)
theorem dX4_heaps_9 : decode cX4_heaps 9 = .ok (.iload_n 1, 1) := dk_27 (dk_at dksX4_heaps_0 9 rfl rfl)
theorem dX4_heaps_10 : decode cX4_heaps 10 = .ok (.iaload, 1) := dk_46 (dk_at dksX4_heaps_0 10 rfl rfl)
theorem dX4_heaps_11 : decode cX4_heaps 11 = .ok (.isub, 1) := dk_100 (dk_at dksX4_heaps_0 11 rfl rfl)
theorem dX4_heaps_12 : decode cX4_heaps 12 = .ok (.invokestatic 110, 3) := dk_184 0 110 (dk_at dksX4_heaps_0 12 rfl rfl)
theorem dX4_heaps_15 : decode cX4_heaps 15 = .ok (.istore_n 3, 1) := dk_62 (dk_at dksX4_heaps_0 15 rfl rfl)
theorem dX4_heaps_16 : decode cX4_heaps 16 = .ok (.aload_n 0, 1) := dk_42 (dk_at dksX4_heaps_0 16 rfl rfl)
theorem dX4_heaps_17 : decode cX4_heaps 17 = .ok (.getfield 15, 3) := dk_180 0 15 (dk_at dksX4_heaps_0 17 rfl rfl)
theorem dX4_heaps_20 : decode cX4_heaps 20 = .ok (.iload_n 1, 1) := dk_27 (dk_at dksX4_heaps_0 20 rfl rfl)
theorem dX4_heaps_21 : decode cX4_heaps 21 = .ok (.dup2, 1) := dk_92 (dk_at dksX4_heaps_0 21 rfl rfl)
theorem dX4_heaps_22 : decode cX4_heaps 22 = .ok (.iaload, 1) := dk_46 (dk_at dksX4_heaps_0 22 rfl rfl)
theorem dX4_heaps_23 : decode cX4_heaps 23 = .ok (.iload_n 3, 1) := dk_29 (dk_at dksX4_heaps_0 23 rfl rfl)
theorem dX4_heaps_24 : decode cX4_heaps 24 = .ok (.iadd, 1) := dk_96 (dk_at dksX4_heaps_1 0 rfl rfl)
theorem dX4_heaps_25 : decode cX4_heaps 25 = .ok (.iastore, 1) := dk_79 (dk_at dksX4_heaps_1 1 rfl rfl)
theorem dX4_heaps_26 : decode cX4_heaps 26 = .ok (.aload_n 0, 1) := dk_42 (dk_at dksX4_heaps_1 2 rfl rfl)
theorem dX4_heaps_27 : decode cX4_heaps 27 = .ok (.dup, 1) := dk_89 (dk_at dksX4_heaps_1 3 rfl rfl)
theorem dX4_heaps_28 : decode cX4_heaps 28 = .ok (.getfield 88, 3) := dk_180 0 88 (dk_at dksX4_heaps_1 4 rfl rfl)
theorem dX4_heaps_31 : decode cX4_heaps 31 = .ok (.iload_n 3, 1) := dk_29 (dk_at dksX4_heaps_1 7 rfl rfl)
theorem dX4_heaps_32 : decode cX4_heaps 32 = .ok (.iadd, 1) := dk_96 (dk_at dksX4_heaps_1 8 rfl rfl)
theorem dX4_heaps_33 : decode cX4_heaps 33 = .ok (.putfield 88, 3) := dk_181 0 88 (dk_at dksX4_heaps_1 9 rfl rfl)
theorem dX4_heaps_36 : decode cX4_heaps 36 = .ok (.aload_n 0, 1) := dk_42 (dk_at dksX4_heaps_1 12 rfl rfl)
theorem dX4_heaps_37 : decode cX4_heaps 37 = .ok (.invokevirtual 116, 3) := dk_182 0 116 (dk_at dksX4_heaps_1 13 rfl rfl)
theorem dX4_heaps_40 : decode cX4_heaps 40 = .ok (.istore 4, 2) := dk_54 4 (dk_at dksX4_heaps_1 16 rfl rfl)
theorem dX4_heaps_42 : decode cX4_heaps 42 = .ok (.return_, 1) := dk_177 (dk_at dksX4_heaps_1 18 rfl rfl)
abbrev cX4_slides : ByteArray := prog_7_method_9_code
def yX4_slides : MethodName := ⟨RX4, "slides", "()I"⟩
def dkwX4_slides_2 : List UInt8 := [167, 255, 217, 42, 89, 180, 0, 85, 27, 96, 181, 0, 85, 27, 172]
abbrev dktX4_slides_2 : List UInt8 := dkwX4_slides_2 ++ []
def dkwX4_slides_1 : List UInt8 := [46, 4, 100, 79, 42, 180, 0, 15, 29, 92, 46, 4, 96, 79, 132, 1, 1, 42, 182, 0, 104, 61]
abbrev dktX4_slides_1 : List UInt8 := dkwX4_slides_1 ++ dktX4_slides_2
def dkwX4_slides_0 : List UInt8 := [3, 60, 42, 182, 0, 104, 61, 28, 2, 159, 0, 40, 42, 28, 182, 0, 101, 62, 42, 180, 0, 15, 28, 92]
abbrev dktX4_slides_0 : List UInt8 := dkwX4_slides_0 ++ dktX4_slides_1
theorem dksX4_slides_0 : cX4_slides.data.toList.drop 0 = dktX4_slides_0 := by decide +kernel
theorem dksX4_slides_1 : cX4_slides.data.toList.drop 24 = dktX4_slides_1 := dk_seg dksX4_slides_0 24 rfl rfl
theorem dksX4_slides_2 : cX4_slides.data.toList.drop 46 = dktX4_slides_2 := dk_seg dksX4_slides_1 22 rfl rfl
theorem dX4_slides_0 : decode cX4_slides 0 = .ok (.iconst 0, 1) := dk_3 (dk_at dksX4_slides_0 0 rfl rfl)
theorem dX4_slides_1 : decode cX4_slides 1 = .ok (.istore_n 1, 1) := dk_60 (dk_at dksX4_slides_0 1 rfl rfl)
theorem dX4_slides_2 : decode cX4_slides 2 = .ok (.aload_n 0, 1) := dk_42 (dk_at dksX4_slides_0 2 rfl rfl)
theorem dX4_slides_3 : decode cX4_slides 3 = .ok (.invokevirtual 104, 3) := dk_182 0 104 (dk_at dksX4_slides_0 3 rfl rfl)
theorem dX4_slides_6 : decode cX4_slides 6 = .ok (.istore_n 2, 1) := dk_61 (dk_at dksX4_slides_0 6 rfl rfl)
theorem dX4_slides_7 : decode cX4_slides 7 = .ok (.iload_n 2, 1) := dk_28 (dk_at dksX4_slides_0 7 rfl rfl)
theorem dX4_slides_8 : decode cX4_slides 8 = .ok (.iconst (-1), 1) := dk_2 (dk_at dksX4_slides_0 8 rfl rfl)
theorem dX4_slides_9 : decode cX4_slides 9 = .ok (.if_icmp .eq 40, 3) := dk_159 0 40 (dk_at dksX4_slides_0 9 rfl rfl)
theorem dX4_slides_12 : decode cX4_slides 12 = .ok (.aload_n 0, 1) := dk_42 (dk_at dksX4_slides_0 12 rfl rfl)
theorem dX4_slides_13 : decode cX4_slides 13 = .ok (.iload_n 2, 1) := dk_28 (dk_at dksX4_slides_0 13 rfl rfl)
theorem dX4_slides_14 : decode cX4_slides 14 = .ok (.invokevirtual 101, 3) := dk_182 0 101 (dk_at dksX4_slides_0 14 rfl rfl)
theorem dX4_slides_17 : decode cX4_slides 17 = .ok (.istore_n 3, 1) := dk_62 (dk_at dksX4_slides_0 17 rfl rfl)
theorem dX4_slides_18 : decode cX4_slides 18 = .ok (.aload_n 0, 1) := dk_42 (dk_at dksX4_slides_0 18 rfl rfl)
theorem dX4_slides_19 : decode cX4_slides 19 = .ok (.getfield 15, 3) := dk_180 0 15 (dk_at dksX4_slides_0 19 rfl rfl)
theorem dX4_slides_22 : decode cX4_slides 22 = .ok (.iload_n 2, 1) := dk_28 (dk_at dksX4_slides_0 22 rfl rfl)
theorem dX4_slides_23 : decode cX4_slides 23 = .ok (.dup2, 1) := dk_92 (dk_at dksX4_slides_0 23 rfl rfl)
theorem dX4_slides_24 : decode cX4_slides 24 = .ok (.iaload, 1) := dk_46 (dk_at dksX4_slides_1 0 rfl rfl)
theorem dX4_slides_25 : decode cX4_slides 25 = .ok (.iconst 1, 1) := dk_4 (dk_at dksX4_slides_1 1 rfl rfl)
theorem dX4_slides_26 : decode cX4_slides 26 = .ok (.isub, 1) := dk_100 (dk_at dksX4_slides_1 2 rfl rfl)
theorem dX4_slides_27 : decode cX4_slides 27 = .ok (.iastore, 1) := dk_79 (dk_at dksX4_slides_1 3 rfl rfl)
theorem dX4_slides_28 : decode cX4_slides 28 = .ok (.aload_n 0, 1) := dk_42 (dk_at dksX4_slides_1 4 rfl rfl)
theorem dX4_slides_29 : decode cX4_slides 29 = .ok (.getfield 15, 3) := dk_180 0 15 (dk_at dksX4_slides_1 5 rfl rfl)
theorem dX4_slides_32 : decode cX4_slides 32 = .ok (.iload_n 3, 1) := dk_29 (dk_at dksX4_slides_1 8 rfl rfl)
theorem dX4_slides_33 : decode cX4_slides 33 = .ok (.dup2, 1) := dk_92 (dk_at dksX4_slides_1 9 rfl rfl)
theorem dX4_slides_34 : decode cX4_slides 34 = .ok (.iaload, 1) := dk_46 (dk_at dksX4_slides_1 10 rfl rfl)
theorem dX4_slides_35 : decode cX4_slides 35 = .ok (.iconst 1, 1) := dk_4 (dk_at dksX4_slides_1 11 rfl rfl)
theorem dX4_slides_36 : decode cX4_slides 36 = .ok (.iadd, 1) := dk_96 (dk_at dksX4_slides_1 12 rfl rfl)
theorem dX4_slides_37 : decode cX4_slides 37 = .ok (.iastore, 1) := dk_79 (dk_at dksX4_slides_1 13 rfl rfl)
theorem dX4_slides_38 : decode cX4_slides 38 = .ok (.iinc 1 1, 3) := dk_132 1 1 (dk_at dksX4_slides_1 14 rfl rfl)
theorem dX4_slides_41 : decode cX4_slides 41 = .ok (.aload_n 0, 1) := dk_42 (dk_at dksX4_slides_1 17 rfl rfl)
theorem dX4_slides_42 : decode cX4_slides 42 = .ok (.invokevirtual 104, 3) := dk_182 0 104 (dk_at dksX4_slides_1 18 rfl rfl)
theorem dX4_slides_45 : decode cX4_slides 45 = .ok (.istore_n 2, 1) := dk_61 (dk_at dksX4_slides_1 21 rfl rfl)
theorem dX4_slides_46 : decode cX4_slides 46 = .ok (.goto (-39), 3) := dk_167 255 217 (dk_at dksX4_slides_2 0 rfl rfl)
theorem dX4_slides_49 : decode cX4_slides 49 = .ok (.aload_n 0, 1) := dk_42 (dk_at dksX4_slides_2 3 rfl rfl)
theorem dX4_slides_50 : decode cX4_slides 50 = .ok (.dup, 1) := dk_89 (dk_at dksX4_slides_2 4 rfl rfl)
theorem dX4_slides_51 : decode cX4_slides 51 = .ok (.getfield 85, 3) := dk_180 0 85 (dk_at dksX4_slides_2 5 rfl rfl)
theorem dX4_slides_54 : decode cX4_slides 54 = .ok (.iload_n 1, 1) := dk_27 (dk_at dksX4_slides_2 8 rfl rfl)
theorem dX4_slides_55 : decode cX4_slides 55 = .ok (.iadd, 1) := dk_96 (dk_at dksX4_slides_2 9 rfl rfl)
theorem dX4_slides_56 : decode cX4_slides 56 = .ok (.putfield 85, 3) := dk_181 0 85 (dk_at dksX4_slides_2 10 rfl rfl)
theorem dX4_slides_59 : decode cX4_slides 59 = .ok (.iload_n 1, 1) := dk_27 (dk_at dksX4_slides_2 13 rfl rfl)
theorem dX4_slides_60 : decode cX4_slides 60 = .ok (.ireturn, 1) := dk_172 (dk_at dksX4_slides_2 14 rfl rfl)
abbrev cX4_firstToSlide : ByteArray := prog_7_method_8_code
def yX4_firstToSlide : MethodName := ⟨RX4, "firstToSlide", "()I"⟩
def dkwX4_firstToSlide_1 : List UInt8 := [2, 159, 0, 5, 27, 172, 132, 1, 1, 167, 255, 225, 2, 172]
abbrev dktX4_firstToSlide_1 : List UInt8 := dkwX4_firstToSlide_1 ++ []
def dkwX4_firstToSlide_0 : List UInt8 := [3, 60, 27, 42, 182, 0, 94, 162, 0, 29, 42, 180, 0, 21, 27, 51, 154, 0, 14, 42, 27, 182, 0, 101]
abbrev dktX4_firstToSlide_0 : List UInt8 := dkwX4_firstToSlide_0 ++ dktX4_firstToSlide_1
theorem dksX4_firstToSlide_0 : cX4_firstToSlide.data.toList.drop 0 = dktX4_firstToSlide_0 := by decide +kernel
theorem dksX4_firstToSlide_1 : cX4_firstToSlide.data.toList.drop 24 = dktX4_firstToSlide_1 := dk_seg dksX4_firstToSlide_0 24 rfl rfl
theorem dX4_firstToSlide_0 : decode cX4_firstToSlide 0 = .ok (.iconst 0, 1) := dk_3 (dk_at dksX4_firstToSlide_0 0 rfl rfl)
theorem dX4_firstToSlide_1 : decode cX4_firstToSlide 1 = .ok (.istore_n 1, 1) := dk_60 (dk_at dksX4_firstToSlide_0 1 rfl rfl)
theorem dX4_firstToSlide_2 : decode cX4_firstToSlide 2 = .ok (.iload_n 1, 1) := dk_27 (dk_at dksX4_firstToSlide_0 2 rfl rfl)
theorem dX4_firstToSlide_3 : decode cX4_firstToSlide 3 = .ok (.aload_n 0, 1) := dk_42 (dk_at dksX4_firstToSlide_0 3 rfl rfl)
theorem dX4_firstToSlide_4 : decode cX4_firstToSlide 4 = .ok (.invokevirtual 94, 3) := dk_182 0 94 (dk_at dksX4_firstToSlide_0 4 rfl rfl)
theorem dX4_firstToSlide_7 : decode cX4_firstToSlide 7 = .ok (.if_icmp .ge 29, 3) := dk_162 0 29 (dk_at dksX4_firstToSlide_0 7 rfl rfl)
theorem dX4_firstToSlide_10 : decode cX4_firstToSlide 10 = .ok (.aload_n 0, 1) := dk_42 (dk_at dksX4_firstToSlide_0 10 rfl rfl)
theorem dX4_firstToSlide_11 : decode cX4_firstToSlide 11 = .ok (.getfield 21, 3) := dk_180 0 21 (dk_at dksX4_firstToSlide_0 11 rfl rfl)
theorem dX4_firstToSlide_14 : decode cX4_firstToSlide 14 = .ok (.iload_n 1, 1) := dk_27 (dk_at dksX4_firstToSlide_0 14 rfl rfl)
theorem dX4_firstToSlide_15 : decode cX4_firstToSlide 15 = .ok (.baload, 1) := dk_51 (dk_at dksX4_firstToSlide_0 15 rfl rfl)
theorem dX4_firstToSlide_16 : decode cX4_firstToSlide 16 = .ok (.ifCond .ne 14, 3) := dk_154 0 14 (dk_at dksX4_firstToSlide_0 16 rfl rfl)
theorem dX4_firstToSlide_19 : decode cX4_firstToSlide 19 = .ok (.aload_n 0, 1) := dk_42 (dk_at dksX4_firstToSlide_0 19 rfl rfl)
theorem dX4_firstToSlide_20 : decode cX4_firstToSlide 20 = .ok (.iload_n 1, 1) := dk_27 (dk_at dksX4_firstToSlide_0 20 rfl rfl)
theorem dX4_firstToSlide_21 : decode cX4_firstToSlide 21 = .ok (.invokevirtual 101, 3) := dk_182 0 101 (dk_at dksX4_firstToSlide_0 21 rfl rfl)
theorem dX4_firstToSlide_24 : decode cX4_firstToSlide 24 = .ok (.iconst (-1), 1) := dk_2 (dk_at dksX4_firstToSlide_1 0 rfl rfl)
theorem dX4_firstToSlide_25 : decode cX4_firstToSlide 25 = .ok (.if_icmp .eq 5, 3) := dk_159 0 5 (dk_at dksX4_firstToSlide_1 1 rfl rfl)
theorem dX4_firstToSlide_28 : decode cX4_firstToSlide 28 = .ok (.iload_n 1, 1) := dk_27 (dk_at dksX4_firstToSlide_1 4 rfl rfl)
theorem dX4_firstToSlide_29 : decode cX4_firstToSlide 29 = .ok (.ireturn, 1) := dk_172 (dk_at dksX4_firstToSlide_1 5 rfl rfl)
theorem dX4_firstToSlide_30 : decode cX4_firstToSlide 30 = .ok (.iinc 1 1, 3) := dk_132 1 1 (dk_at dksX4_firstToSlide_1 6 rfl rfl)
theorem dX4_firstToSlide_33 : decode cX4_firstToSlide 33 = .ok (.goto (-31), 3) := dk_167 255 225 (dk_at dksX4_firstToSlide_1 9 rfl rfl)
theorem dX4_firstToSlide_36 : decode cX4_firstToSlide 36 = .ok (.iconst (-1), 1) := dk_2 (dk_at dksX4_firstToSlide_1 12 rfl rfl)
theorem dX4_firstToSlide_37 : decode cX4_firstToSlide 37 = .ok (.ireturn, 1) := dk_172 (dk_at dksX4_firstToSlide_1 13 rfl rfl)
abbrev cX4_slideTo : ByteArray := prog_7_method_7_code
def yX4_slideTo : MethodName := ⟨RX4, "slideTo", "(I)I"⟩
def dkwX4_slideTo_1 : List UInt8 := [46, 164, 0, 7, 28, 167, 0, 4, 2, 172]
abbrev dktX4_slideTo_1 : List UInt8 := dkwX4_slideTo_1 ++ []
def dkwX4_slideTo_0 : List UInt8 := [42, 27, 182, 0, 97, 61, 42, 180, 0, 15, 27, 46, 42, 180, 0, 15, 28, 46, 100, 42, 180, 0, 9, 5]
abbrev dktX4_slideTo_0 : List UInt8 := dkwX4_slideTo_0 ++ dktX4_slideTo_1
theorem dksX4_slideTo_0 : cX4_slideTo.data.toList.drop 0 = dktX4_slideTo_0 := by decide +kernel
theorem dksX4_slideTo_1 : cX4_slideTo.data.toList.drop 24 = dktX4_slideTo_1 := dk_seg dksX4_slideTo_0 24 rfl rfl
theorem dX4_slideTo_0 : decode cX4_slideTo 0 = .ok (.aload_n 0, 1) := dk_42 (dk_at dksX4_slideTo_0 0 rfl rfl)
theorem dX4_slideTo_1 : decode cX4_slideTo 1 = .ok (.iload_n 1, 1) := dk_27 (dk_at dksX4_slideTo_0 1 rfl rfl)
theorem dX4_slideTo_2 : decode cX4_slideTo 2 = .ok (.invokevirtual 97, 3) := dk_182 0 97 (dk_at dksX4_slideTo_0 2 rfl rfl)
theorem dX4_slideTo_5 : decode cX4_slideTo 5 = .ok (.istore_n 2, 1) := dk_61 (dk_at dksX4_slideTo_0 5 rfl rfl)
theorem dX4_slideTo_6 : decode cX4_slideTo 6 = .ok (.aload_n 0, 1) := dk_42 (dk_at dksX4_slideTo_0 6 rfl rfl)
theorem dX4_slideTo_7 : decode cX4_slideTo 7 = .ok (.getfield 15, 3) := dk_180 0 15 (dk_at dksX4_slideTo_0 7 rfl rfl)
theorem dX4_slideTo_10 : decode cX4_slideTo 10 = .ok (.iload_n 1, 1) := dk_27 (dk_at dksX4_slideTo_0 10 rfl rfl)
theorem dX4_slideTo_11 : decode cX4_slideTo 11 = .ok (.iaload, 1) := dk_46 (dk_at dksX4_slideTo_0 11 rfl rfl)
theorem dX4_slideTo_12 : decode cX4_slideTo 12 = .ok (.aload_n 0, 1) := dk_42 (dk_at dksX4_slideTo_0 12 rfl rfl)
theorem dX4_slideTo_13 : decode cX4_slideTo 13 = .ok (.getfield 15, 3) := dk_180 0 15 (dk_at dksX4_slideTo_0 13 rfl rfl)
theorem dX4_slideTo_16 : decode cX4_slideTo 16 = .ok (.iload_n 2, 1) := dk_28 (dk_at dksX4_slideTo_0 16 rfl rfl)
theorem dX4_slideTo_17 : decode cX4_slideTo 17 = .ok (.iaload, 1) := dk_46 (dk_at dksX4_slideTo_0 17 rfl rfl)
theorem dX4_slideTo_18 : decode cX4_slideTo 18 = .ok (.isub, 1) := dk_100 (dk_at dksX4_slideTo_0 18 rfl rfl)
theorem dX4_slideTo_19 : decode cX4_slideTo 19 = .ok (.aload_n 0, 1) := dk_42 (dk_at dksX4_slideTo_0 19 rfl rfl)
theorem dX4_slideTo_20 : decode cX4_slideTo 20 = .ok (.getfield 9, 3) := dk_180 0 9 (dk_at dksX4_slideTo_0 20 rfl rfl)
theorem dX4_slideTo_23 : decode cX4_slideTo 23 = .ok (.iconst 2, 1) := dk_5 (dk_at dksX4_slideTo_0 23 rfl rfl)
theorem dX4_slideTo_24 : decode cX4_slideTo 24 = .ok (.iaload, 1) := dk_46 (dk_at dksX4_slideTo_1 0 rfl rfl)
theorem dX4_slideTo_25 : decode cX4_slideTo 25 = .ok (.if_icmp .le 7, 3) := dk_164 0 7 (dk_at dksX4_slideTo_1 1 rfl rfl)
theorem dX4_slideTo_28 : decode cX4_slideTo 28 = .ok (.iload_n 2, 1) := dk_28 (dk_at dksX4_slideTo_1 4 rfl rfl)
theorem dX4_slideTo_29 : decode cX4_slideTo 29 = .ok (.goto 4, 3) := dk_167 0 4 (dk_at dksX4_slideTo_1 5 rfl rfl)
theorem dX4_slideTo_32 : decode cX4_slideTo 32 = .ok (.iconst (-1), 1) := dk_2 (dk_at dksX4_slideTo_1 8 rfl rfl)
theorem dX4_slideTo_33 : decode cX4_slideTo 33 = .ok (.ireturn, 1) := dk_172 (dk_at dksX4_slideTo_1 9 rfl rfl)
abbrev cX4_lowerBeside : ByteArray := prog_7_method_6_code
def yX4_lowerBeside : MethodName := ⟨RX4, "lowerBeside", "(I)I"⟩
def dkwX4_lowerBeside_2 : List UInt8 := [172]
abbrev dktX4_lowerBeside_2 : List UInt8 := dkwX4_lowerBeside_2 ++ []
def dkwX4_lowerBeside_1 : List UInt8 := [27, 4, 96, 46, 42, 180, 0, 15, 27, 4, 100, 46, 162, 0, 9, 27, 4, 96, 167, 0, 6, 27, 4, 100]
abbrev dktX4_lowerBeside_1 : List UInt8 := dkwX4_lowerBeside_1 ++ dktX4_lowerBeside_2
def dkwX4_lowerBeside_0 : List UInt8 := [27, 154, 0, 5, 4, 172, 27, 42, 182, 0, 94, 4, 100, 160, 0, 7, 27, 4, 100, 172, 42, 180, 0, 15]
abbrev dktX4_lowerBeside_0 : List UInt8 := dkwX4_lowerBeside_0 ++ dktX4_lowerBeside_1
theorem dksX4_lowerBeside_0 : cX4_lowerBeside.data.toList.drop 0 = dktX4_lowerBeside_0 := by decide +kernel
theorem dksX4_lowerBeside_1 : cX4_lowerBeside.data.toList.drop 24 = dktX4_lowerBeside_1 := dk_seg dksX4_lowerBeside_0 24 rfl rfl
theorem dksX4_lowerBeside_2 : cX4_lowerBeside.data.toList.drop 48 = dktX4_lowerBeside_2 := dk_seg dksX4_lowerBeside_1 24 rfl rfl
theorem dX4_lowerBeside_0 : decode cX4_lowerBeside 0 = .ok (.iload_n 1, 1) := dk_27 (dk_at dksX4_lowerBeside_0 0 rfl rfl)
theorem dX4_lowerBeside_1 : decode cX4_lowerBeside 1 = .ok (.ifCond .ne 5, 3) := dk_154 0 5 (dk_at dksX4_lowerBeside_0 1 rfl rfl)
theorem dX4_lowerBeside_4 : decode cX4_lowerBeside 4 = .ok (.iconst 1, 1) := dk_4 (dk_at dksX4_lowerBeside_0 4 rfl rfl)
theorem dX4_lowerBeside_5 : decode cX4_lowerBeside 5 = .ok (.ireturn, 1) := dk_172 (dk_at dksX4_lowerBeside_0 5 rfl rfl)
theorem dX4_lowerBeside_6 : decode cX4_lowerBeside 6 = .ok (.iload_n 1, 1) := dk_27 (dk_at dksX4_lowerBeside_0 6 rfl rfl)
theorem dX4_lowerBeside_7 : decode cX4_lowerBeside 7 = .ok (.aload_n 0, 1) := dk_42 (dk_at dksX4_lowerBeside_0 7 rfl rfl)
theorem dX4_lowerBeside_8 : decode cX4_lowerBeside 8 = .ok (.invokevirtual 94, 3) := dk_182 0 94 (dk_at dksX4_lowerBeside_0 8 rfl rfl)
theorem dX4_lowerBeside_11 : decode cX4_lowerBeside 11 = .ok (.iconst 1, 1) := dk_4 (dk_at dksX4_lowerBeside_0 11 rfl rfl)
theorem dX4_lowerBeside_12 : decode cX4_lowerBeside 12 = .ok (.isub, 1) := dk_100 (dk_at dksX4_lowerBeside_0 12 rfl rfl)
theorem dX4_lowerBeside_13 : decode cX4_lowerBeside 13 = .ok (.if_icmp .ne 7, 3) := dk_160 0 7 (dk_at dksX4_lowerBeside_0 13 rfl rfl)
theorem dX4_lowerBeside_16 : decode cX4_lowerBeside 16 = .ok (.iload_n 1, 1) := dk_27 (dk_at dksX4_lowerBeside_0 16 rfl rfl)
theorem dX4_lowerBeside_17 : decode cX4_lowerBeside 17 = .ok (.iconst 1, 1) := dk_4 (dk_at dksX4_lowerBeside_0 17 rfl rfl)
theorem dX4_lowerBeside_18 : decode cX4_lowerBeside 18 = .ok (.isub, 1) := dk_100 (dk_at dksX4_lowerBeside_0 18 rfl rfl)
theorem dX4_lowerBeside_19 : decode cX4_lowerBeside 19 = .ok (.ireturn, 1) := dk_172 (dk_at dksX4_lowerBeside_0 19 rfl rfl)
theorem dX4_lowerBeside_20 : decode cX4_lowerBeside 20 = .ok (.aload_n 0, 1) := dk_42 (dk_at dksX4_lowerBeside_0 20 rfl rfl)
theorem dX4_lowerBeside_21 : decode cX4_lowerBeside 21 = .ok (.getfield 15, 3) := dk_180 0 15 (dk_at dksX4_lowerBeside_0 21 rfl rfl)
theorem dX4_lowerBeside_24 : decode cX4_lowerBeside 24 = .ok (.iload_n 1, 1) := dk_27 (dk_at dksX4_lowerBeside_1 0 rfl rfl)
theorem dX4_lowerBeside_25 : decode cX4_lowerBeside 25 = .ok (.iconst 1, 1) := dk_4 (dk_at dksX4_lowerBeside_1 1 rfl rfl)
theorem dX4_lowerBeside_26 : decode cX4_lowerBeside 26 = .ok (.iadd, 1) := dk_96 (dk_at dksX4_lowerBeside_1 2 rfl rfl)
theorem dX4_lowerBeside_27 : decode cX4_lowerBeside 27 = .ok (.iaload, 1) := dk_46 (dk_at dksX4_lowerBeside_1 3 rfl rfl)
theorem dX4_lowerBeside_28 : decode cX4_lowerBeside 28 = .ok (.aload_n 0, 1) := dk_42 (dk_at dksX4_lowerBeside_1 4 rfl rfl)
theorem dX4_lowerBeside_29 : decode cX4_lowerBeside 29 = .ok (.getfield 15, 3) := dk_180 0 15 (dk_at dksX4_lowerBeside_1 5 rfl rfl)
theorem dX4_lowerBeside_32 : decode cX4_lowerBeside 32 = .ok (.iload_n 1, 1) := dk_27 (dk_at dksX4_lowerBeside_1 8 rfl rfl)
theorem dX4_lowerBeside_33 : decode cX4_lowerBeside 33 = .ok (.iconst 1, 1) := dk_4 (dk_at dksX4_lowerBeside_1 9 rfl rfl)
theorem dX4_lowerBeside_34 : decode cX4_lowerBeside 34 = .ok (.isub, 1) := dk_100 (dk_at dksX4_lowerBeside_1 10 rfl rfl)
theorem dX4_lowerBeside_35 : decode cX4_lowerBeside 35 = .ok (.iaload, 1) := dk_46 (dk_at dksX4_lowerBeside_1 11 rfl rfl)
theorem dX4_lowerBeside_36 : decode cX4_lowerBeside 36 = .ok (.if_icmp .ge 9, 3) := dk_162 0 9 (dk_at dksX4_lowerBeside_1 12 rfl rfl)
theorem dX4_lowerBeside_39 : decode cX4_lowerBeside 39 = .ok (.iload_n 1, 1) := dk_27 (dk_at dksX4_lowerBeside_1 15 rfl rfl)
theorem dX4_lowerBeside_40 : decode cX4_lowerBeside 40 = .ok (.iconst 1, 1) := dk_4 (dk_at dksX4_lowerBeside_1 16 rfl rfl)
theorem dX4_lowerBeside_41 : decode cX4_lowerBeside 41 = .ok (.iadd, 1) := dk_96 (dk_at dksX4_lowerBeside_1 17 rfl rfl)
theorem dX4_lowerBeside_42 : decode cX4_lowerBeside 42 = .ok (.goto 6, 3) := dk_167 0 6 (dk_at dksX4_lowerBeside_1 18 rfl rfl)
theorem dX4_lowerBeside_45 : decode cX4_lowerBeside 45 = .ok (.iload_n 1, 1) := dk_27 (dk_at dksX4_lowerBeside_1 21 rfl rfl)
theorem dX4_lowerBeside_46 : decode cX4_lowerBeside 46 = .ok (.iconst 1, 1) := dk_4 (dk_at dksX4_lowerBeside_1 22 rfl rfl)
theorem dX4_lowerBeside_47 : decode cX4_lowerBeside 47 = .ok (.isub, 1) := dk_100 (dk_at dksX4_lowerBeside_1 23 rfl rfl)
theorem dX4_lowerBeside_48 : decode cX4_lowerBeside 48 = .ok (.ireturn, 1) := dk_172 (dk_at dksX4_lowerBeside_2 0 rfl rfl)
abbrev cX4_fills : ByteArray := prog_7_method_12_code
def yX4_fills : MethodName := ⟨RX4, "fills", "(II)I"⟩
def dkwX4_fills_1 : List UInt8 := [132, 4, 1, 167, 255, 236, 29, 172]
abbrev dktX4_fills_1 : List UInt8 := dkwX4_fills_1 ++ []
def dkwX4_fills_0 : List UInt8 := [3, 62, 3, 54, 4, 21, 4, 28, 162, 0, 20, 29, 42, 27, 182, 0, 119, 184, 0, 123, 96, 62]
abbrev dktX4_fills_0 : List UInt8 := dkwX4_fills_0 ++ dktX4_fills_1
theorem dksX4_fills_0 : cX4_fills.data.toList.drop 0 = dktX4_fills_0 := by decide +kernel
theorem dksX4_fills_1 : cX4_fills.data.toList.drop 22 = dktX4_fills_1 := dk_seg dksX4_fills_0 22 rfl rfl
theorem dX4_fills_0 : decode cX4_fills 0 = .ok (.iconst 0, 1) := dk_3 (dk_at dksX4_fills_0 0 rfl rfl)
theorem dX4_fills_1 : decode cX4_fills 1 = .ok (.istore_n 3, 1) := dk_62 (dk_at dksX4_fills_0 1 rfl rfl)
theorem dX4_fills_2 : decode cX4_fills 2 = .ok (.iconst 0, 1) := dk_3 (dk_at dksX4_fills_0 2 rfl rfl)
theorem dX4_fills_3 : decode cX4_fills 3 = .ok (.istore 4, 2) := dk_54 4 (dk_at dksX4_fills_0 3 rfl rfl)
theorem dX4_fills_5 : decode cX4_fills 5 = .ok (.iload 4, 2) := dk_21 4 (dk_at dksX4_fills_0 5 rfl rfl)
theorem dX4_fills_7 : decode cX4_fills 7 = .ok (.iload_n 2, 1) := dk_28 (dk_at dksX4_fills_0 7 rfl rfl)
theorem dX4_fills_8 : decode cX4_fills 8 = .ok (.if_icmp .ge 20, 3) := dk_162 0 20 (dk_at dksX4_fills_0 8 rfl rfl)
theorem dX4_fills_11 : decode cX4_fills 11 = .ok (.iload_n 3, 1) := dk_29 (dk_at dksX4_fills_0 11 rfl rfl)
theorem dX4_fills_12 : decode cX4_fills 12 = .ok (.aload_n 0, 1) := dk_42 (dk_at dksX4_fills_0 12 rfl rfl)
theorem dX4_fills_13 : decode cX4_fills 13 = .ok (.iload_n 1, 1) := dk_27 (dk_at dksX4_fills_0 13 rfl rfl)
theorem dX4_fills_14 : decode cX4_fills 14 = .ok (.invokevirtual 119, 3) := dk_182 0 119 (dk_at dksX4_fills_0 14 rfl rfl)
theorem dX4_fills_17 : decode cX4_fills 17 = .ok (.invokestatic 123, 3) := dk_184 0 123 (dk_at dksX4_fills_0 17 rfl rfl)
theorem dX4_fills_20 : decode cX4_fills 20 = .ok (.iadd, 1) := dk_96 (dk_at dksX4_fills_0 20 rfl rfl)
theorem dX4_fills_21 : decode cX4_fills 21 = .ok (.istore_n 3, 1) := dk_62 (dk_at dksX4_fills_0 21 rfl rfl)
theorem dX4_fills_22 : decode cX4_fills 22 = .ok (.iinc 4 1, 3) := dk_132 4 1 (dk_at dksX4_fills_1 0 rfl rfl)
theorem dX4_fills_25 : decode cX4_fills 25 = .ok (.goto (-20), 3) := dk_167 255 236 (dk_at dksX4_fills_1 3 rfl rfl)
theorem dX4_fills_28 : decode cX4_fills 28 = .ok (.iload_n 3, 1) := dk_29 (dk_at dksX4_fills_1 6 rfl rfl)
theorem dX4_fills_29 : decode cX4_fills 29 = .ok (.ireturn, 1) := dk_172 (dk_at dksX4_fills_1 7 rfl rfl)
abbrev cX4_fillsOne : ByteArray := prog_7_method_11_code
def yX4_fillsOne : MethodName := ⟨RX4, "fillsOne", "(I)Z"⟩
def dkwX4_fillsOne_2 : List UInt8 := [42, 180, 0, 61, 4, 96, 184, 0, 110, 181, 0, 61, 42, 182, 0, 116, 61, 4, 172]
abbrev dktX4_fillsOne_2 : List UInt8 := dkwX4_fillsOne_2 ++ []
def dkwX4_fillsOne_1 : List UInt8 := [172, 42, 180, 0, 15, 27, 92, 46, 4, 96, 79, 42, 89, 180, 0, 73, 4, 96, 181, 0, 73, 42, 16, 99]
abbrev dktX4_fillsOne_1 : List UInt8 := dkwX4_fillsOne_1 ++ dktX4_fillsOne_2
def dkwX4_fillsOne_0 : List UInt8 := [42, 180, 0, 15, 27, 46, 42, 182, 0, 107, 160, 0, 15, 42, 89, 180, 0, 76, 4, 96, 181, 0, 76, 3]
abbrev dktX4_fillsOne_0 : List UInt8 := dkwX4_fillsOne_0 ++ dktX4_fillsOne_1
theorem dksX4_fillsOne_0 : cX4_fillsOne.data.toList.drop 0 = dktX4_fillsOne_0 := by decide +kernel
theorem dksX4_fillsOne_1 : cX4_fillsOne.data.toList.drop 24 = dktX4_fillsOne_1 := dk_seg dksX4_fillsOne_0 24 rfl rfl
theorem dksX4_fillsOne_2 : cX4_fillsOne.data.toList.drop 48 = dktX4_fillsOne_2 := dk_seg dksX4_fillsOne_1 24 rfl rfl
theorem dX4_fillsOne_0 : decode cX4_fillsOne 0 = .ok (.aload_n 0, 1) := dk_42 (dk_at dksX4_fillsOne_0 0 rfl rfl)
theorem dX4_fillsOne_1 : decode cX4_fillsOne 1 = .ok (.getfield 15, 3) := dk_180 0 15 (dk_at dksX4_fillsOne_0 1 rfl rfl)
theorem dX4_fillsOne_4 : decode cX4_fillsOne 4 = .ok (.iload_n 1, 1) := dk_27 (dk_at dksX4_fillsOne_0 4 rfl rfl)
theorem dX4_fillsOne_5 : decode cX4_fillsOne 5 = .ok (.iaload, 1) := dk_46 (dk_at dksX4_fillsOne_0 5 rfl rfl)
theorem dX4_fillsOne_6 : decode cX4_fillsOne 6 = .ok (.aload_n 0, 1) := dk_42 (dk_at dksX4_fillsOne_0 6 rfl rfl)
theorem dX4_fillsOne_7 : decode cX4_fillsOne 7 = .ok (.invokevirtual 107, 3) := dk_182 0 107 (dk_at dksX4_fillsOne_0 7 rfl rfl)
theorem dX4_fillsOne_10 : decode cX4_fillsOne 10 = .ok (.if_icmp .ne 15, 3) := dk_160 0 15 (dk_at dksX4_fillsOne_0 10 rfl rfl)
theorem dX4_fillsOne_13 : decode cX4_fillsOne 13 = .ok (.aload_n 0, 1) := dk_42 (dk_at dksX4_fillsOne_0 13 rfl rfl)
theorem dX4_fillsOne_14 : decode cX4_fillsOne 14 = .ok (.dup, 1) := dk_89 (dk_at dksX4_fillsOne_0 14 rfl rfl)
theorem dX4_fillsOne_15 : decode cX4_fillsOne 15 = .ok (.getfield 76, 3) := dk_180 0 76 (dk_at dksX4_fillsOne_0 15 rfl rfl)
theorem dX4_fillsOne_18 : decode cX4_fillsOne 18 = .ok (.iconst 1, 1) := dk_4 (dk_at dksX4_fillsOne_0 18 rfl rfl)
theorem dX4_fillsOne_19 : decode cX4_fillsOne 19 = .ok (.iadd, 1) := dk_96 (dk_at dksX4_fillsOne_0 19 rfl rfl)
theorem dX4_fillsOne_20 : decode cX4_fillsOne 20 = .ok (.putfield 76, 3) := dk_181 0 76 (dk_at dksX4_fillsOne_0 20 rfl rfl)
theorem dX4_fillsOne_23 : decode cX4_fillsOne 23 = .ok (.iconst 0, 1) := dk_3 (dk_at dksX4_fillsOne_0 23 rfl rfl)
theorem dX4_fillsOne_24 : decode cX4_fillsOne 24 = .ok (.ireturn, 1) := dk_172 (dk_at dksX4_fillsOne_1 0 rfl rfl)
theorem dX4_fillsOne_25 : decode cX4_fillsOne 25 = .ok (.aload_n 0, 1) := dk_42 (dk_at dksX4_fillsOne_1 1 rfl rfl)
theorem dX4_fillsOne_26 : decode cX4_fillsOne 26 = .ok (.getfield 15, 3) := dk_180 0 15 (dk_at dksX4_fillsOne_1 2 rfl rfl)
theorem dX4_fillsOne_29 : decode cX4_fillsOne 29 = .ok (.iload_n 1, 1) := dk_27 (dk_at dksX4_fillsOne_1 5 rfl rfl)
theorem dX4_fillsOne_30 : decode cX4_fillsOne 30 = .ok (.dup2, 1) := dk_92 (dk_at dksX4_fillsOne_1 6 rfl rfl)
theorem dX4_fillsOne_31 : decode cX4_fillsOne 31 = .ok (.iaload, 1) := dk_46 (dk_at dksX4_fillsOne_1 7 rfl rfl)
theorem dX4_fillsOne_32 : decode cX4_fillsOne 32 = .ok (.iconst 1, 1) := dk_4 (dk_at dksX4_fillsOne_1 8 rfl rfl)
theorem dX4_fillsOne_33 : decode cX4_fillsOne 33 = .ok (.iadd, 1) := dk_96 (dk_at dksX4_fillsOne_1 9 rfl rfl)
theorem dX4_fillsOne_34 : decode cX4_fillsOne 34 = .ok (.iastore, 1) := dk_79 (dk_at dksX4_fillsOne_1 10 rfl rfl)
theorem dX4_fillsOne_35 : decode cX4_fillsOne 35 = .ok (.aload_n 0, 1) := dk_42 (dk_at dksX4_fillsOne_1 11 rfl rfl)
theorem dX4_fillsOne_36 : decode cX4_fillsOne 36 = .ok (.dup, 1) := dk_89 (dk_at dksX4_fillsOne_1 12 rfl rfl)
theorem dX4_fillsOne_37 : decode cX4_fillsOne 37 = .ok (.getfield 73, 3) := dk_180 0 73 (dk_at dksX4_fillsOne_1 13 rfl rfl)
theorem dX4_fillsOne_40 : decode cX4_fillsOne 40 = .ok (.iconst 1, 1) := dk_4 (dk_at dksX4_fillsOne_1 16 rfl rfl)
theorem dX4_fillsOne_41 : decode cX4_fillsOne 41 = .ok (.iadd, 1) := dk_96 (dk_at dksX4_fillsOne_1 17 rfl rfl)
theorem dX4_fillsOne_42 : decode cX4_fillsOne 42 = .ok (.putfield 73, 3) := dk_181 0 73 (dk_at dksX4_fillsOne_1 18 rfl rfl)
theorem dX4_fillsOne_45 : decode cX4_fillsOne 45 = .ok (.aload_n 0, 1) := dk_42 (dk_at dksX4_fillsOne_1 21 rfl rfl)
theorem dX4_fillsOne_46 : decode cX4_fillsOne 46 = .ok (.bipush 99, 2) := dk_16 99 (dk_at dksX4_fillsOne_1 22 rfl rfl)
theorem dX4_fillsOne_48 : decode cX4_fillsOne 48 = .ok (.aload_n 0, 1) := dk_42 (dk_at dksX4_fillsOne_2 0 rfl rfl)
theorem dX4_fillsOne_49 : decode cX4_fillsOne 49 = .ok (.getfield 61, 3) := dk_180 0 61 (dk_at dksX4_fillsOne_2 1 rfl rfl)
theorem dX4_fillsOne_52 : decode cX4_fillsOne 52 = .ok (.iconst 1, 1) := dk_4 (dk_at dksX4_fillsOne_2 4 rfl rfl)
theorem dX4_fillsOne_53 : decode cX4_fillsOne 53 = .ok (.iadd, 1) := dk_96 (dk_at dksX4_fillsOne_2 5 rfl rfl)
theorem dX4_fillsOne_54 : decode cX4_fillsOne 54 = .ok (.invokestatic 110, 3) := dk_184 0 110 (dk_at dksX4_fillsOne_2 6 rfl rfl)
theorem dX4_fillsOne_57 : decode cX4_fillsOne 57 = .ok (.putfield 61, 3) := dk_181 0 61 (dk_at dksX4_fillsOne_2 9 rfl rfl)
theorem dX4_fillsOne_60 : decode cX4_fillsOne 60 = .ok (.aload_n 0, 1) := dk_42 (dk_at dksX4_fillsOne_2 12 rfl rfl)
theorem dX4_fillsOne_61 : decode cX4_fillsOne 61 = .ok (.invokevirtual 116, 3) := dk_182 0 116 (dk_at dksX4_fillsOne_2 13 rfl rfl)
theorem dX4_fillsOne_64 : decode cX4_fillsOne 64 = .ok (.istore_n 2, 1) := dk_61 (dk_at dksX4_fillsOne_2 16 rfl rfl)
theorem dX4_fillsOne_65 : decode cX4_fillsOne 65 = .ok (.iconst 1, 1) := dk_4 (dk_at dksX4_fillsOne_2 17 rfl rfl)
theorem dX4_fillsOne_66 : decode cX4_fillsOne 66 = .ok (.ireturn, 1) := dk_172 (dk_at dksX4_fillsOne_2 18 rfl rfl)
abbrev cX4_draws : ByteArray := prog_7_method_14_code
def yX4_draws : MethodName := ⟨RX4, "draws", "(I)I"⟩
def dkwX4_draws_1 : List UInt8 := [167, 255, 238, 28, 172]
abbrev dktX4_draws_1 : List UInt8 := dkwX4_draws_1 ++ []
def dkwX4_draws_0 : List UInt8 := [3, 61, 3, 62, 29, 27, 162, 0, 19, 28, 42, 182, 0, 127, 184, 0, 123, 96, 61, 132, 3, 1]
abbrev dktX4_draws_0 : List UInt8 := dkwX4_draws_0 ++ dktX4_draws_1
theorem dksX4_draws_0 : cX4_draws.data.toList.drop 0 = dktX4_draws_0 := by decide +kernel
theorem dksX4_draws_1 : cX4_draws.data.toList.drop 22 = dktX4_draws_1 := dk_seg dksX4_draws_0 22 rfl rfl
theorem dX4_draws_0 : decode cX4_draws 0 = .ok (.iconst 0, 1) := dk_3 (dk_at dksX4_draws_0 0 rfl rfl)
theorem dX4_draws_1 : decode cX4_draws 1 = .ok (.istore_n 2, 1) := dk_61 (dk_at dksX4_draws_0 1 rfl rfl)
theorem dX4_draws_2 : decode cX4_draws 2 = .ok (.iconst 0, 1) := dk_3 (dk_at dksX4_draws_0 2 rfl rfl)
theorem dX4_draws_3 : decode cX4_draws 3 = .ok (.istore_n 3, 1) := dk_62 (dk_at dksX4_draws_0 3 rfl rfl)
theorem dX4_draws_4 : decode cX4_draws 4 = .ok (.iload_n 3, 1) := dk_29 (dk_at dksX4_draws_0 4 rfl rfl)
theorem dX4_draws_5 : decode cX4_draws 5 = .ok (.iload_n 1, 1) := dk_27 (dk_at dksX4_draws_0 5 rfl rfl)
theorem dX4_draws_6 : decode cX4_draws 6 = .ok (.if_icmp .ge 19, 3) := dk_162 0 19 (dk_at dksX4_draws_0 6 rfl rfl)
theorem dX4_draws_9 : decode cX4_draws 9 = .ok (.iload_n 2, 1) := dk_28 (dk_at dksX4_draws_0 9 rfl rfl)
theorem dX4_draws_10 : decode cX4_draws 10 = .ok (.aload_n 0, 1) := dk_42 (dk_at dksX4_draws_0 10 rfl rfl)
theorem dX4_draws_11 : decode cX4_draws 11 = .ok (.invokevirtual 127, 3) := dk_182 0 127 (dk_at dksX4_draws_0 11 rfl rfl)
theorem dX4_draws_14 : decode cX4_draws 14 = .ok (.invokestatic 123, 3) := dk_184 0 123 (dk_at dksX4_draws_0 14 rfl rfl)
theorem dX4_draws_17 : decode cX4_draws 17 = .ok (.iadd, 1) := dk_96 (dk_at dksX4_draws_0 17 rfl rfl)
theorem dX4_draws_18 : decode cX4_draws 18 = .ok (.istore_n 2, 1) := dk_61 (dk_at dksX4_draws_0 18 rfl rfl)
theorem dX4_draws_19 : decode cX4_draws 19 = .ok (.iinc 3 1, 3) := dk_132 3 1 (dk_at dksX4_draws_0 19 rfl rfl)
theorem dX4_draws_22 : decode cX4_draws 22 = .ok (.goto (-18), 3) := dk_167 255 238 (dk_at dksX4_draws_1 0 rfl rfl)
theorem dX4_draws_25 : decode cX4_draws 25 = .ok (.iload_n 2, 1) := dk_28 (dk_at dksX4_draws_1 3 rfl rfl)
theorem dX4_draws_26 : decode cX4_draws 26 = .ok (.ireturn, 1) := dk_172 (dk_at dksX4_draws_1 4 rfl rfl)
abbrev cX4_drawsOne : ByteArray := prog_7_method_13_code
def yX4_drawsOne : MethodName := ⟨RX4, "drawsOne", "()Z"⟩
def dkwX4_drawsOne_2 : List UInt8 := [181, 0, 79, 42, 182, 0, 116, 60, 4, 172]
abbrev dktX4_drawsOne_2 : List UInt8 := dkwX4_drawsOne_2 ++ []
def dkwX4_drawsOne_1 : List UInt8 := [3, 172, 42, 180, 0, 15, 42, 180, 0, 9, 6, 46, 92, 46, 4, 100, 79, 42, 89, 180, 0, 79, 4, 96]
abbrev dktX4_drawsOne_1 : List UInt8 := dkwX4_drawsOne_1 ++ dktX4_drawsOne_2
def dkwX4_drawsOne_0 : List UInt8 := [42, 180, 0, 15, 42, 180, 0, 9, 6, 46, 46, 154, 0, 15, 42, 89, 180, 0, 82, 4, 96, 181, 0, 82]
abbrev dktX4_drawsOne_0 : List UInt8 := dkwX4_drawsOne_0 ++ dktX4_drawsOne_1
theorem dksX4_drawsOne_0 : cX4_drawsOne.data.toList.drop 0 = dktX4_drawsOne_0 := by decide +kernel
theorem dksX4_drawsOne_1 : cX4_drawsOne.data.toList.drop 24 = dktX4_drawsOne_1 := dk_seg dksX4_drawsOne_0 24 rfl rfl
theorem dksX4_drawsOne_2 : cX4_drawsOne.data.toList.drop 48 = dktX4_drawsOne_2 := dk_seg dksX4_drawsOne_1 24 rfl rfl
theorem dX4_drawsOne_0 : decode cX4_drawsOne 0 = .ok (.aload_n 0, 1) := dk_42 (dk_at dksX4_drawsOne_0 0 rfl rfl)
theorem dX4_drawsOne_1 : decode cX4_drawsOne 1 = .ok (.getfield 15, 3) := dk_180 0 15 (dk_at dksX4_drawsOne_0 1 rfl rfl)
theorem dX4_drawsOne_4 : decode cX4_drawsOne 4 = .ok (.aload_n 0, 1) := dk_42 (dk_at dksX4_drawsOne_0 4 rfl rfl)
theorem dX4_drawsOne_5 : decode cX4_drawsOne 5 = .ok (.getfield 9, 3) := dk_180 0 9 (dk_at dksX4_drawsOne_0 5 rfl rfl)
theorem dX4_drawsOne_8 : decode cX4_drawsOne 8 = .ok (.iconst 3, 1) := dk_6 (dk_at dksX4_drawsOne_0 8 rfl rfl)
theorem dX4_drawsOne_9 : decode cX4_drawsOne 9 = .ok (.iaload, 1) := dk_46 (dk_at dksX4_drawsOne_0 9 rfl rfl)
theorem dX4_drawsOne_10 : decode cX4_drawsOne 10 = .ok (.iaload, 1) := dk_46 (dk_at dksX4_drawsOne_0 10 rfl rfl)
theorem dX4_drawsOne_11 : decode cX4_drawsOne 11 = .ok (.ifCond .ne 15, 3) := dk_154 0 15 (dk_at dksX4_drawsOne_0 11 rfl rfl)
theorem dX4_drawsOne_14 : decode cX4_drawsOne 14 = .ok (.aload_n 0, 1) := dk_42 (dk_at dksX4_drawsOne_0 14 rfl rfl)
theorem dX4_drawsOne_15 : decode cX4_drawsOne 15 = .ok (.dup, 1) := dk_89 (dk_at dksX4_drawsOne_0 15 rfl rfl)
theorem dX4_drawsOne_16 : decode cX4_drawsOne 16 = .ok (.getfield 82, 3) := dk_180 0 82 (dk_at dksX4_drawsOne_0 16 rfl rfl)
theorem dX4_drawsOne_19 : decode cX4_drawsOne 19 = .ok (.iconst 1, 1) := dk_4 (dk_at dksX4_drawsOne_0 19 rfl rfl)
theorem dX4_drawsOne_20 : decode cX4_drawsOne 20 = .ok (.iadd, 1) := dk_96 (dk_at dksX4_drawsOne_0 20 rfl rfl)
theorem dX4_drawsOne_21 : decode cX4_drawsOne 21 = .ok (.putfield 82, 3) := dk_181 0 82 (dk_at dksX4_drawsOne_0 21 rfl rfl)
theorem dX4_drawsOne_24 : decode cX4_drawsOne 24 = .ok (.iconst 0, 1) := dk_3 (dk_at dksX4_drawsOne_1 0 rfl rfl)
theorem dX4_drawsOne_25 : decode cX4_drawsOne 25 = .ok (.ireturn, 1) := dk_172 (dk_at dksX4_drawsOne_1 1 rfl rfl)
theorem dX4_drawsOne_26 : decode cX4_drawsOne 26 = .ok (.aload_n 0, 1) := dk_42 (dk_at dksX4_drawsOne_1 2 rfl rfl)
theorem dX4_drawsOne_27 : decode cX4_drawsOne 27 = .ok (.getfield 15, 3) := dk_180 0 15 (dk_at dksX4_drawsOne_1 3 rfl rfl)
theorem dX4_drawsOne_30 : decode cX4_drawsOne 30 = .ok (.aload_n 0, 1) := dk_42 (dk_at dksX4_drawsOne_1 6 rfl rfl)
theorem dX4_drawsOne_31 : decode cX4_drawsOne 31 = .ok (.getfield 9, 3) := dk_180 0 9 (dk_at dksX4_drawsOne_1 7 rfl rfl)
theorem dX4_drawsOne_34 : decode cX4_drawsOne 34 = .ok (.iconst 3, 1) := dk_6 (dk_at dksX4_drawsOne_1 10 rfl rfl)
theorem dX4_drawsOne_35 : decode cX4_drawsOne 35 = .ok (.iaload, 1) := dk_46 (dk_at dksX4_drawsOne_1 11 rfl rfl)
theorem dX4_drawsOne_36 : decode cX4_drawsOne 36 = .ok (.dup2, 1) := dk_92 (dk_at dksX4_drawsOne_1 12 rfl rfl)
theorem dX4_drawsOne_37 : decode cX4_drawsOne 37 = .ok (.iaload, 1) := dk_46 (dk_at dksX4_drawsOne_1 13 rfl rfl)
theorem dX4_drawsOne_38 : decode cX4_drawsOne 38 = .ok (.iconst 1, 1) := dk_4 (dk_at dksX4_drawsOne_1 14 rfl rfl)
theorem dX4_drawsOne_39 : decode cX4_drawsOne 39 = .ok (.isub, 1) := dk_100 (dk_at dksX4_drawsOne_1 15 rfl rfl)
theorem dX4_drawsOne_40 : decode cX4_drawsOne 40 = .ok (.iastore, 1) := dk_79 (dk_at dksX4_drawsOne_1 16 rfl rfl)
theorem dX4_drawsOne_41 : decode cX4_drawsOne 41 = .ok (.aload_n 0, 1) := dk_42 (dk_at dksX4_drawsOne_1 17 rfl rfl)
theorem dX4_drawsOne_42 : decode cX4_drawsOne 42 = .ok (.dup, 1) := dk_89 (dk_at dksX4_drawsOne_1 18 rfl rfl)
theorem dX4_drawsOne_43 : decode cX4_drawsOne 43 = .ok (.getfield 79, 3) := dk_180 0 79 (dk_at dksX4_drawsOne_1 19 rfl rfl)
theorem dX4_drawsOne_46 : decode cX4_drawsOne 46 = .ok (.iconst 1, 1) := dk_4 (dk_at dksX4_drawsOne_1 22 rfl rfl)
theorem dX4_drawsOne_47 : decode cX4_drawsOne 47 = .ok (.iadd, 1) := dk_96 (dk_at dksX4_drawsOne_1 23 rfl rfl)
theorem dX4_drawsOne_48 : decode cX4_drawsOne 48 = .ok (.putfield 79, 3) := dk_181 0 79 (dk_at dksX4_drawsOne_2 0 rfl rfl)
theorem dX4_drawsOne_51 : decode cX4_drawsOne 51 = .ok (.aload_n 0, 1) := dk_42 (dk_at dksX4_drawsOne_2 3 rfl rfl)
theorem dX4_drawsOne_52 : decode cX4_drawsOne 52 = .ok (.invokevirtual 116, 3) := dk_182 0 116 (dk_at dksX4_drawsOne_2 4 rfl rfl)
theorem dX4_drawsOne_55 : decode cX4_drawsOne 55 = .ok (.istore_n 1, 1) := dk_60 (dk_at dksX4_drawsOne_2 7 rfl rfl)
theorem dX4_drawsOne_56 : decode cX4_drawsOne 56 = .ok (.iconst 1, 1) := dk_4 (dk_at dksX4_drawsOne_2 8 rfl rfl)
theorem dX4_drawsOne_57 : decode cX4_drawsOne 57 = .ok (.ireturn, 1) := dk_172 (dk_at dksX4_drawsOne_2 9 rfl rfl)
abbrev cX4_pings : ByteArray := prog_7_method_28_code
def yX4_pings : MethodName := ⟨RX4, "pings", "()I"⟩
def dkwX4_pings_2 : List UInt8 := [180, 0, 61, 4, 100, 184, 0, 204, 181, 0, 61, 42, 180, 0, 34, 172]
abbrev dktX4_pings_2 : List UInt8 := dkwX4_pings_2 ++ []
def dkwX4_pings_1 : List UInt8 := [180, 0, 70, 4, 96, 181, 0, 70, 167, 0, 13, 42, 42, 182, 0, 107, 27, 100, 182, 0, 201, 42, 3, 42]
abbrev dktX4_pings_1 : List UInt8 := dkwX4_pings_1 ++ dktX4_pings_2
def dkwX4_pings_0 : List UInt8 := [42, 182, 0, 198, 60, 42, 89, 180, 0, 67, 4, 96, 181, 0, 67, 27, 2, 160, 0, 16, 42, 89]
abbrev dktX4_pings_0 : List UInt8 := dkwX4_pings_0 ++ dktX4_pings_1
theorem dksX4_pings_0 : cX4_pings.data.toList.drop 0 = dktX4_pings_0 := by decide +kernel
theorem dksX4_pings_1 : cX4_pings.data.toList.drop 22 = dktX4_pings_1 := dk_seg dksX4_pings_0 22 rfl rfl
theorem dksX4_pings_2 : cX4_pings.data.toList.drop 46 = dktX4_pings_2 := dk_seg dksX4_pings_1 24 rfl rfl
theorem dX4_pings_0 : decode cX4_pings 0 = .ok (.aload_n 0, 1) := dk_42 (dk_at dksX4_pings_0 0 rfl rfl)
theorem dX4_pings_1 : decode cX4_pings 1 = .ok (.invokevirtual 198, 3) := dk_182 0 198 (dk_at dksX4_pings_0 1 rfl rfl)
theorem dX4_pings_4 : decode cX4_pings 4 = .ok (.istore_n 1, 1) := dk_60 (dk_at dksX4_pings_0 4 rfl rfl)
theorem dX4_pings_5 : decode cX4_pings 5 = .ok (.aload_n 0, 1) := dk_42 (dk_at dksX4_pings_0 5 rfl rfl)
theorem dX4_pings_6 : decode cX4_pings 6 = .ok (.dup, 1) := dk_89 (dk_at dksX4_pings_0 6 rfl rfl)
theorem dX4_pings_7 : decode cX4_pings 7 = .ok (.getfield 67, 3) := dk_180 0 67 (dk_at dksX4_pings_0 7 rfl rfl)
theorem dX4_pings_10 : decode cX4_pings 10 = .ok (.iconst 1, 1) := dk_4 (dk_at dksX4_pings_0 10 rfl rfl)
theorem dX4_pings_11 : decode cX4_pings 11 = .ok (.iadd, 1) := dk_96 (dk_at dksX4_pings_0 11 rfl rfl)
theorem dX4_pings_12 : decode cX4_pings 12 = .ok (.putfield 67, 3) := dk_181 0 67 (dk_at dksX4_pings_0 12 rfl rfl)
theorem dX4_pings_15 : decode cX4_pings 15 = .ok (.iload_n 1, 1) := dk_27 (dk_at dksX4_pings_0 15 rfl rfl)
theorem dX4_pings_16 : decode cX4_pings 16 = .ok (.iconst (-1), 1) := dk_2 (dk_at dksX4_pings_0 16 rfl rfl)
theorem dX4_pings_17 : decode cX4_pings 17 = .ok (.if_icmp .ne 16, 3) := dk_160 0 16 (dk_at dksX4_pings_0 17 rfl rfl)
theorem dX4_pings_20 : decode cX4_pings 20 = .ok (.aload_n 0, 1) := dk_42 (dk_at dksX4_pings_0 20 rfl rfl)
theorem dX4_pings_21 : decode cX4_pings 21 = .ok (.dup, 1) := dk_89 (dk_at dksX4_pings_0 21 rfl rfl)
theorem dX4_pings_22 : decode cX4_pings 22 = .ok (.getfield 70, 3) := dk_180 0 70 (dk_at dksX4_pings_1 0 rfl rfl)
theorem dX4_pings_25 : decode cX4_pings 25 = .ok (.iconst 1, 1) := dk_4 (dk_at dksX4_pings_1 3 rfl rfl)
theorem dX4_pings_26 : decode cX4_pings 26 = .ok (.iadd, 1) := dk_96 (dk_at dksX4_pings_1 4 rfl rfl)
theorem dX4_pings_27 : decode cX4_pings 27 = .ok (.putfield 70, 3) := dk_181 0 70 (dk_at dksX4_pings_1 5 rfl rfl)
theorem dX4_pings_30 : decode cX4_pings 30 = .ok (.goto 13, 3) := dk_167 0 13 (dk_at dksX4_pings_1 8 rfl rfl)
theorem dX4_pings_33 : decode cX4_pings 33 = .ok (.aload_n 0, 1) := dk_42 (dk_at dksX4_pings_1 11 rfl rfl)
theorem dX4_pings_34 : decode cX4_pings 34 = .ok (.aload_n 0, 1) := dk_42 (dk_at dksX4_pings_1 12 rfl rfl)
theorem dX4_pings_35 : decode cX4_pings 35 = .ok (.invokevirtual 107, 3) := dk_182 0 107 (dk_at dksX4_pings_1 13 rfl rfl)
theorem dX4_pings_38 : decode cX4_pings 38 = .ok (.iload_n 1, 1) := dk_27 (dk_at dksX4_pings_1 16 rfl rfl)
theorem dX4_pings_39 : decode cX4_pings 39 = .ok (.isub, 1) := dk_100 (dk_at dksX4_pings_1 17 rfl rfl)
theorem dX4_pings_40 : decode cX4_pings 40 = .ok (.invokevirtual 201, 3) := dk_182 0 201 (dk_at dksX4_pings_1 18 rfl rfl)
theorem dX4_pings_43 : decode cX4_pings 43 = .ok (.aload_n 0, 1) := dk_42 (dk_at dksX4_pings_1 21 rfl rfl)
theorem dX4_pings_44 : decode cX4_pings 44 = .ok (.iconst 0, 1) := dk_3 (dk_at dksX4_pings_1 22 rfl rfl)
theorem dX4_pings_45 : decode cX4_pings 45 = .ok (.aload_n 0, 1) := dk_42 (dk_at dksX4_pings_1 23 rfl rfl)
theorem dX4_pings_46 : decode cX4_pings 46 = .ok (.getfield 61, 3) := dk_180 0 61 (dk_at dksX4_pings_2 0 rfl rfl)
theorem dX4_pings_49 : decode cX4_pings 49 = .ok (.iconst 1, 1) := dk_4 (dk_at dksX4_pings_2 3 rfl rfl)
theorem dX4_pings_50 : decode cX4_pings 50 = .ok (.isub, 1) := dk_100 (dk_at dksX4_pings_2 4 rfl rfl)
theorem dX4_pings_51 : decode cX4_pings 51 = .ok (.invokestatic 204, 3) := dk_184 0 204 (dk_at dksX4_pings_2 5 rfl rfl)
theorem dX4_pings_54 : decode cX4_pings 54 = .ok (.putfield 61, 3) := dk_181 0 61 (dk_at dksX4_pings_2 8 rfl rfl)
theorem dX4_pings_57 : decode cX4_pings 57 = .ok (.aload_n 0, 1) := dk_42 (dk_at dksX4_pings_2 11 rfl rfl)
theorem dX4_pings_58 : decode cX4_pings 58 = .ok (.getfield 34, 3) := dk_180 0 34 (dk_at dksX4_pings_2 12 rfl rfl)
theorem dX4_pings_61 : decode cX4_pings 61 = .ok (.ireturn, 1) := dk_172 (dk_at dksX4_pings_2 15 rfl rfl)
abbrev cX4_chosenWay : ByteArray := prog_7_method_26_code
def yX4_chosenWay : MethodName := ⟨RX4, "chosenWay", "()I"⟩
def dkwX4_chosenWay_0 : List UInt8 := [42, 182, 0, 192, 76, 43, 199, 0, 7, 2, 167, 0, 9, 43, 185, 0, 157, 1, 0, 172]
abbrev dktX4_chosenWay_0 : List UInt8 := dkwX4_chosenWay_0 ++ []
theorem dksX4_chosenWay_0 : cX4_chosenWay.data.toList.drop 0 = dktX4_chosenWay_0 := by decide +kernel
theorem dX4_chosenWay_0 : decode cX4_chosenWay 0 = .ok (.aload_n 0, 1) := dk_42 (dk_at dksX4_chosenWay_0 0 rfl rfl)
theorem dX4_chosenWay_1 : decode cX4_chosenWay 1 = .ok (.invokevirtual 192, 3) := dk_182 0 192 (dk_at dksX4_chosenWay_0 1 rfl rfl)
theorem dX4_chosenWay_4 : decode cX4_chosenWay 4 = .ok (.astore_n 1, 1) := dk_76 (dk_at dksX4_chosenWay_0 4 rfl rfl)
theorem dX4_chosenWay_5 : decode cX4_chosenWay 5 = .ok (.aload_n 1, 1) := dk_43 (dk_at dksX4_chosenWay_0 5 rfl rfl)
theorem dX4_chosenWay_6 : decode cX4_chosenWay 6 = .ok (.ifnonnull 7, 3) := dk_199 0 7 (dk_at dksX4_chosenWay_0 6 rfl rfl)
theorem dX4_chosenWay_9 : decode cX4_chosenWay 9 = .ok (.iconst (-1), 1) := dk_2 (dk_at dksX4_chosenWay_0 9 rfl rfl)
theorem dX4_chosenWay_10 : decode cX4_chosenWay 10 = .ok (.goto 9, 3) := dk_167 0 9 (dk_at dksX4_chosenWay_0 10 rfl rfl)
theorem dX4_chosenWay_13 : decode cX4_chosenWay 13 = .ok (.aload_n 1, 1) := dk_43 (dk_at dksX4_chosenWay_0 13 rfl rfl)
theorem dX4_chosenWay_14 : decode cX4_chosenWay 14 = .ok (.invokeinterface 157 1, 5) := by decide +kernel
theorem dX4_chosenWay_19 : decode cX4_chosenWay 19 = .ok (.ireturn, 1) := dk_172 (dk_at dksX4_chosenWay_0 19 rfl rfl)
abbrev cX4_chosen : ByteArray := prog_7_method_25_code
def yX4_chosen : MethodName := ⟨RX4, "chosen", "()LPingEye$Echo;"⟩
def dkwX4_chosen_2 : List UInt8 := [185, 0, 189, 2, 0, 153, 0, 5, 45, 76, 167, 255, 213, 43, 176]
abbrev dktX4_chosen_2 : List UInt8 := dkwX4_chosen_2 ++ []
def dkwX4_chosen_1 : List UInt8 := [185, 0, 183, 1, 0, 192, 0, 141, 78, 42, 45, 182, 0, 186, 154, 0, 19, 43, 198, 0, 13, 45, 43]
abbrev dktX4_chosen_1 : List UInt8 := dkwX4_chosen_1 ++ dktX4_chosen_2
def dkwX4_chosen_0 : List UInt8 := [1, 76, 42, 182, 0, 170, 185, 0, 174, 1, 0, 77, 44, 185, 0, 178, 1, 0, 153, 0, 40, 44]
abbrev dktX4_chosen_0 : List UInt8 := dkwX4_chosen_0 ++ dktX4_chosen_1
theorem dksX4_chosen_0 : cX4_chosen.data.toList.drop 0 = dktX4_chosen_0 := by decide +kernel
theorem dksX4_chosen_1 : cX4_chosen.data.toList.drop 22 = dktX4_chosen_1 := dk_seg dksX4_chosen_0 22 rfl rfl
theorem dksX4_chosen_2 : cX4_chosen.data.toList.drop 45 = dktX4_chosen_2 := dk_seg dksX4_chosen_1 23 rfl rfl
theorem dX4_chosen_0 : decode cX4_chosen 0 = .ok (.aconst_null, 1) := dk_1 (dk_at dksX4_chosen_0 0 rfl rfl)
theorem dX4_chosen_1 : decode cX4_chosen 1 = .ok (.astore_n 1, 1) := dk_76 (dk_at dksX4_chosen_0 1 rfl rfl)
theorem dX4_chosen_2 : decode cX4_chosen 2 = .ok (.aload_n 0, 1) := dk_42 (dk_at dksX4_chosen_0 2 rfl rfl)
theorem dX4_chosen_3 : decode cX4_chosen 3 = .ok (.invokevirtual 170, 3) := dk_182 0 170 (dk_at dksX4_chosen_0 3 rfl rfl)
theorem dX4_chosen_6 : decode cX4_chosen 6 = .ok (.invokeinterface 174 1, 5) := by decide +kernel
theorem dX4_chosen_11 : decode cX4_chosen 11 = .ok (.astore_n 2, 1) := dk_77 (dk_at dksX4_chosen_0 11 rfl rfl)
theorem dX4_chosen_12 : decode cX4_chosen 12 = .ok (.aload_n 2, 1) := dk_44 (dk_at dksX4_chosen_0 12 rfl rfl)
theorem dX4_chosen_13 : decode cX4_chosen 13 = .ok (.invokeinterface 178 1, 5) := by decide +kernel
theorem dX4_chosen_18 : decode cX4_chosen 18 = .ok (.ifCond .eq 40, 3) := dk_153 0 40 (dk_at dksX4_chosen_0 18 rfl rfl)
theorem dX4_chosen_21 : decode cX4_chosen 21 = .ok (.aload_n 2, 1) := dk_44 (dk_at dksX4_chosen_0 21 rfl rfl)
theorem dX4_chosen_22 : decode cX4_chosen 22 = .ok (.invokeinterface 183 1, 5) := by decide +kernel
theorem dX4_chosen_27 : decode cX4_chosen 27 = .ok (.checkcast 141, 3) := dk_192 0 141 (dk_at dksX4_chosen_1 5 rfl rfl)
theorem dX4_chosen_30 : decode cX4_chosen 30 = .ok (.astore_n 3, 1) := dk_78 (dk_at dksX4_chosen_1 8 rfl rfl)
theorem dX4_chosen_31 : decode cX4_chosen 31 = .ok (.aload_n 0, 1) := dk_42 (dk_at dksX4_chosen_1 9 rfl rfl)
theorem dX4_chosen_32 : decode cX4_chosen 32 = .ok (.aload_n 3, 1) := dk_45 (dk_at dksX4_chosen_1 10 rfl rfl)
theorem dX4_chosen_33 : decode cX4_chosen 33 = .ok (.invokevirtual 186, 3) := dk_182 0 186 (dk_at dksX4_chosen_1 11 rfl rfl)
theorem dX4_chosen_36 : decode cX4_chosen 36 = .ok (.ifCond .ne 19, 3) := dk_154 0 19 (dk_at dksX4_chosen_1 14 rfl rfl)
theorem dX4_chosen_39 : decode cX4_chosen 39 = .ok (.aload_n 1, 1) := dk_43 (dk_at dksX4_chosen_1 17 rfl rfl)
theorem dX4_chosen_40 : decode cX4_chosen 40 = .ok (.ifnull 13, 3) := dk_198 0 13 (dk_at dksX4_chosen_1 18 rfl rfl)
theorem dX4_chosen_43 : decode cX4_chosen 43 = .ok (.aload_n 3, 1) := dk_45 (dk_at dksX4_chosen_1 21 rfl rfl)
theorem dX4_chosen_44 : decode cX4_chosen 44 = .ok (.aload_n 1, 1) := dk_43 (dk_at dksX4_chosen_1 22 rfl rfl)
theorem dX4_chosen_45 : decode cX4_chosen 45 = .ok (.invokeinterface 189 2, 5) := by decide +kernel
theorem dX4_chosen_50 : decode cX4_chosen 50 = .ok (.ifCond .eq 5, 3) := dk_153 0 5 (dk_at dksX4_chosen_2 5 rfl rfl)
theorem dX4_chosen_53 : decode cX4_chosen 53 = .ok (.aload_n 3, 1) := dk_45 (dk_at dksX4_chosen_2 8 rfl rfl)
theorem dX4_chosen_54 : decode cX4_chosen 54 = .ok (.astore_n 1, 1) := dk_76 (dk_at dksX4_chosen_2 9 rfl rfl)
theorem dX4_chosen_55 : decode cX4_chosen 55 = .ok (.goto (-43), 3) := dk_167 255 213 (dk_at dksX4_chosen_2 10 rfl rfl)
theorem dX4_chosen_58 : decode cX4_chosen 58 = .ok (.aload_n 1, 1) := dk_43 (dk_at dksX4_chosen_2 13 rfl rfl)
theorem dX4_chosen_59 : decode cX4_chosen 59 = .ok (.areturn, 1) := dk_176 (dk_at dksX4_chosen_2 14 rfl rfl)
abbrev cX4_heard : ByteArray := prog_7_method_24_code
def yX4_heard : MethodName := ⟨RX4, "heard", "()Ljava/util/List;"⟩
def dkwX4_heard_5 : List UInt8 := [153, 0, 11, 43, 44, 185, 0, 57, 2, 0, 87, 43, 176]
abbrev dktX4_heard_5 : List UInt8 := dkwX4_heard_5 ++ []
def dkwX4_heard_4 : List UInt8 := [132, 3, 1, 167, 255, 180, 132, 2, 1, 167, 255, 164, 42, 182, 0, 166, 77, 42, 44, 182, 0, 163]
abbrev dktX4_heard_4 : List UInt8 := dkwX4_heard_4 ++ dktX4_heard_5
def dkwX4_heard_3 : List UInt8 := [182, 0, 159, 58, 4, 42, 25, 4, 182, 0, 163, 153, 0, 12, 43, 25, 4, 185, 0, 57, 2, 0, 87]
abbrev dktX4_heard_3 : List UInt8 := dkwX4_heard_3 ++ dktX4_heard_4
def dkwX4_heard_2 : List UInt8 := [180, 0, 146, 28, 159, 0, 6, 167, 0, 40, 42, 42, 180, 0, 30, 29, 185, 0, 51, 2, 0, 192, 0, 55]
abbrev dktX4_heard_2 : List UInt8 := dkwX4_heard_2 ++ dktX4_heard_3
def dkwX4_heard_1 : List UInt8 := [180, 0, 30, 185, 0, 45, 1, 0, 162, 0, 69, 42, 180, 0, 30, 29, 185, 0, 51, 2, 0, 192, 0, 55]
abbrev dktX4_heard_1 : List UInt8 := dkwX4_heard_1 ++ dktX4_heard_2
def dkwX4_heard_0 : List UInt8 := [187, 0, 25, 89, 16, 7, 183, 0, 27, 76, 3, 61, 28, 42, 182, 0, 134, 162, 0, 90, 3, 62, 29, 42]
abbrev dktX4_heard_0 : List UInt8 := dkwX4_heard_0 ++ dktX4_heard_1
theorem dksX4_heard_0 : cX4_heard.data.toList.drop 0 = dktX4_heard_0 := by decide +kernel
theorem dksX4_heard_1 : cX4_heard.data.toList.drop 24 = dktX4_heard_1 := dk_seg dksX4_heard_0 24 rfl rfl
theorem dksX4_heard_2 : cX4_heard.data.toList.drop 48 = dktX4_heard_2 := dk_seg dksX4_heard_1 24 rfl rfl
theorem dksX4_heard_3 : cX4_heard.data.toList.drop 72 = dktX4_heard_3 := dk_seg dksX4_heard_2 24 rfl rfl
theorem dksX4_heard_4 : cX4_heard.data.toList.drop 95 = dktX4_heard_4 := dk_seg dksX4_heard_3 23 rfl rfl
theorem dksX4_heard_5 : cX4_heard.data.toList.drop 117 = dktX4_heard_5 := dk_seg dksX4_heard_4 22 rfl rfl
theorem dX4_heard_0 : decode cX4_heard 0 = .ok (.new 25, 3) := dk_187 0 25 (dk_at dksX4_heard_0 0 rfl rfl)
theorem dX4_heard_3 : decode cX4_heard 3 = .ok (.dup, 1) := dk_89 (dk_at dksX4_heard_0 3 rfl rfl)
theorem dX4_heard_4 : decode cX4_heard 4 = .ok (.bipush 7, 2) := dk_16 7 (dk_at dksX4_heard_0 4 rfl rfl)
theorem dX4_heard_6 : decode cX4_heard 6 = .ok (.invokespecial 27, 3) := dk_183 0 27 (dk_at dksX4_heard_0 6 rfl rfl)
theorem dX4_heard_9 : decode cX4_heard 9 = .ok (.astore_n 1, 1) := dk_76 (dk_at dksX4_heard_0 9 rfl rfl)
theorem dX4_heard_10 : decode cX4_heard 10 = .ok (.iconst 0, 1) := dk_3 (dk_at dksX4_heard_0 10 rfl rfl)
theorem dX4_heard_11 : decode cX4_heard 11 = .ok (.istore_n 2, 1) := dk_61 (dk_at dksX4_heard_0 11 rfl rfl)
theorem dX4_heard_12 : decode cX4_heard 12 = .ok (.iload_n 2, 1) := dk_28 (dk_at dksX4_heard_0 12 rfl rfl)
theorem dX4_heard_13 : decode cX4_heard 13 = .ok (.aload_n 0, 1) := dk_42 (dk_at dksX4_heard_0 13 rfl rfl)
theorem dX4_heard_14 : decode cX4_heard 14 = .ok (.invokevirtual 134, 3) := dk_182 0 134 (dk_at dksX4_heard_0 14 rfl rfl)
theorem dX4_heard_17 : decode cX4_heard 17 = .ok (.if_icmp .ge 90, 3) := dk_162 0 90 (dk_at dksX4_heard_0 17 rfl rfl)
theorem dX4_heard_20 : decode cX4_heard 20 = .ok (.iconst 0, 1) := dk_3 (dk_at dksX4_heard_0 20 rfl rfl)
theorem dX4_heard_21 : decode cX4_heard 21 = .ok (.istore_n 3, 1) := dk_62 (dk_at dksX4_heard_0 21 rfl rfl)
theorem dX4_heard_22 : decode cX4_heard 22 = .ok (.iload_n 3, 1) := dk_29 (dk_at dksX4_heard_0 22 rfl rfl)
theorem dX4_heard_23 : decode cX4_heard 23 = .ok (.aload_n 0, 1) := dk_42 (dk_at dksX4_heard_0 23 rfl rfl)
theorem dX4_heard_24 : decode cX4_heard 24 = .ok (.getfield 30, 3) := dk_180 0 30 (dk_at dksX4_heard_1 0 rfl rfl)
theorem dX4_heard_27 : decode cX4_heard 27 = .ok (.invokeinterface 45 1, 5) := by decide +kernel
theorem dX4_heard_32 : decode cX4_heard 32 = .ok (.if_icmp .ge 69, 3) := dk_162 0 69 (dk_at dksX4_heard_1 8 rfl rfl)
theorem dX4_heard_35 : decode cX4_heard 35 = .ok (.aload_n 0, 1) := dk_42 (dk_at dksX4_heard_1 11 rfl rfl)
theorem dX4_heard_36 : decode cX4_heard 36 = .ok (.getfield 30, 3) := dk_180 0 30 (dk_at dksX4_heard_1 12 rfl rfl)
theorem dX4_heard_39 : decode cX4_heard 39 = .ok (.iload_n 3, 1) := dk_29 (dk_at dksX4_heard_1 15 rfl rfl)
theorem dX4_heard_40 : decode cX4_heard 40 = .ok (.invokeinterface 51 2, 5) := by decide +kernel
theorem dX4_heard_45 : decode cX4_heard 45 = .ok (.checkcast 55, 3) := dk_192 0 55 (dk_at dksX4_heard_1 21 rfl rfl)
theorem dX4_heard_48 : decode cX4_heard 48 = .ok (.getfield 146, 3) := dk_180 0 146 (dk_at dksX4_heard_2 0 rfl rfl)
theorem dX4_heard_51 : decode cX4_heard 51 = .ok (.iload_n 2, 1) := dk_28 (dk_at dksX4_heard_2 3 rfl rfl)
theorem dX4_heard_52 : decode cX4_heard 52 = .ok (.if_icmp .eq 6, 3) := dk_159 0 6 (dk_at dksX4_heard_2 4 rfl rfl)
theorem dX4_heard_55 : decode cX4_heard 55 = .ok (.goto 40, 3) := dk_167 0 40 (dk_at dksX4_heard_2 7 rfl rfl)
theorem dX4_heard_58 : decode cX4_heard 58 = .ok (.aload_n 0, 1) := dk_42 (dk_at dksX4_heard_2 10 rfl rfl)
theorem dX4_heard_59 : decode cX4_heard 59 = .ok (.aload_n 0, 1) := dk_42 (dk_at dksX4_heard_2 11 rfl rfl)
theorem dX4_heard_60 : decode cX4_heard 60 = .ok (.getfield 30, 3) := dk_180 0 30 (dk_at dksX4_heard_2 12 rfl rfl)
theorem dX4_heard_63 : decode cX4_heard 63 = .ok (.iload_n 3, 1) := dk_29 (dk_at dksX4_heard_2 15 rfl rfl)
theorem dX4_heard_64 : decode cX4_heard 64 = .ok (.invokeinterface 51 2, 5) := by decide +kernel
theorem dX4_heard_69 : decode cX4_heard 69 = .ok (.checkcast 55, 3) := dk_192 0 55 (dk_at dksX4_heard_2 21 rfl rfl)
theorem dX4_heard_72 : decode cX4_heard 72 = .ok (.invokevirtual 159, 3) := dk_182 0 159 (dk_at dksX4_heard_3 0 rfl rfl)
theorem dX4_heard_75 : decode cX4_heard 75 = .ok (.astore 4, 2) := dk_58 4 (dk_at dksX4_heard_3 3 rfl rfl)
theorem dX4_heard_77 : decode cX4_heard 77 = .ok (.aload_n 0, 1) := dk_42 (dk_at dksX4_heard_3 5 rfl rfl)
theorem dX4_heard_78 : decode cX4_heard 78 = .ok (.aload 4, 2) := dk_25 4 (dk_at dksX4_heard_3 6 rfl rfl)
theorem dX4_heard_80 : decode cX4_heard 80 = .ok (.invokevirtual 163, 3) := dk_182 0 163 (dk_at dksX4_heard_3 8 rfl rfl)
theorem dX4_heard_83 : decode cX4_heard 83 = .ok (.ifCond .eq 12, 3) := dk_153 0 12 (dk_at dksX4_heard_3 11 rfl rfl)
theorem dX4_heard_86 : decode cX4_heard 86 = .ok (.aload_n 1, 1) := dk_43 (dk_at dksX4_heard_3 14 rfl rfl)
theorem dX4_heard_87 : decode cX4_heard 87 = .ok (.aload 4, 2) := dk_25 4 (dk_at dksX4_heard_3 15 rfl rfl)
theorem dX4_heard_89 : decode cX4_heard 89 = .ok (.invokeinterface 57 2, 5) := by decide +kernel
theorem dX4_heard_94 : decode cX4_heard 94 = .ok (.pop, 1) := dk_87 (dk_at dksX4_heard_3 22 rfl rfl)
theorem dX4_heard_95 : decode cX4_heard 95 = .ok (.iinc 3 1, 3) := dk_132 3 1 (dk_at dksX4_heard_4 0 rfl rfl)
theorem dX4_heard_98 : decode cX4_heard 98 = .ok (.goto (-76), 3) := dk_167 255 180 (dk_at dksX4_heard_4 3 rfl rfl)
theorem dX4_heard_101 : decode cX4_heard 101 = .ok (.iinc 2 1, 3) := dk_132 2 1 (dk_at dksX4_heard_4 6 rfl rfl)
theorem dX4_heard_104 : decode cX4_heard 104 = .ok (.goto (-92), 3) := dk_167 255 164 (dk_at dksX4_heard_4 9 rfl rfl)
theorem dX4_heard_107 : decode cX4_heard 107 = .ok (.aload_n 0, 1) := dk_42 (dk_at dksX4_heard_4 12 rfl rfl)
theorem dX4_heard_108 : decode cX4_heard 108 = .ok (.invokevirtual 166, 3) := dk_182 0 166 (dk_at dksX4_heard_4 13 rfl rfl)
theorem dX4_heard_111 : decode cX4_heard 111 = .ok (.astore_n 2, 1) := dk_77 (dk_at dksX4_heard_4 16 rfl rfl)
theorem dX4_heard_112 : decode cX4_heard 112 = .ok (.aload_n 0, 1) := dk_42 (dk_at dksX4_heard_4 17 rfl rfl)
theorem dX4_heard_113 : decode cX4_heard 113 = .ok (.aload_n 2, 1) := dk_44 (dk_at dksX4_heard_4 18 rfl rfl)
theorem dX4_heard_114 : decode cX4_heard 114 = .ok (.invokevirtual 163, 3) := dk_182 0 163 (dk_at dksX4_heard_4 19 rfl rfl)
theorem dX4_heard_117 : decode cX4_heard 117 = .ok (.ifCond .eq 11, 3) := dk_153 0 11 (dk_at dksX4_heard_5 0 rfl rfl)
theorem dX4_heard_120 : decode cX4_heard 120 = .ok (.aload_n 1, 1) := dk_43 (dk_at dksX4_heard_5 3 rfl rfl)
theorem dX4_heard_121 : decode cX4_heard 121 = .ok (.aload_n 2, 1) := dk_44 (dk_at dksX4_heard_5 4 rfl rfl)
theorem dX4_heard_122 : decode cX4_heard 122 = .ok (.invokeinterface 57 2, 5) := by decide +kernel
theorem dX4_heard_127 : decode cX4_heard 127 = .ok (.pop, 1) := dk_87 (dk_at dksX4_heard_5 10 rfl rfl)
theorem dX4_heard_128 : decode cX4_heard 128 = .ok (.aload_n 1, 1) := dk_43 (dk_at dksX4_heard_5 11 rfl rfl)
theorem dX4_heard_129 : decode cX4_heard 129 = .ok (.areturn, 1) := dk_176 (dk_at dksX4_heard_5 12 rfl rfl)
abbrev cX4_heapWay : ByteArray := prog_7_method_18_code
def yX4_heapWay : MethodName := ⟨RX4, "heapWay", "()I"⟩
def dkwX4_heapWay_0 : List UInt8 := [42, 182, 0, 107, 42, 182, 0, 131, 100, 172]
abbrev dktX4_heapWay_0 : List UInt8 := dkwX4_heapWay_0 ++ []
theorem dksX4_heapWay_0 : cX4_heapWay.data.toList.drop 0 = dktX4_heapWay_0 := by decide +kernel
theorem dX4_heapWay_0 : decode cX4_heapWay 0 = .ok (.aload_n 0, 1) := dk_42 (dk_at dksX4_heapWay_0 0 rfl rfl)
theorem dX4_heapWay_1 : decode cX4_heapWay 1 = .ok (.invokevirtual 107, 3) := dk_182 0 107 (dk_at dksX4_heapWay_0 1 rfl rfl)
theorem dX4_heapWay_4 : decode cX4_heapWay 4 = .ok (.aload_n 0, 1) := dk_42 (dk_at dksX4_heapWay_0 4 rfl rfl)
theorem dX4_heapWay_5 : decode cX4_heapWay 5 = .ok (.invokevirtual 131, 3) := dk_182 0 131 (dk_at dksX4_heapWay_0 5 rfl rfl)
theorem dX4_heapWay_8 : decode cX4_heapWay 8 = .ok (.isub, 1) := dk_100 (dk_at dksX4_heapWay_0 8 rfl rfl)
theorem dX4_heapWay_9 : decode cX4_heapWay 9 = .ok (.ireturn, 1) := dk_172 (dk_at dksX4_heapWay_0 9 rfl rfl)
abbrev cX4_heapLevel : ByteArray := prog_7_method_17_code
def yX4_heapLevel : MethodName := ⟨RX4, "heapLevel", "()I"⟩
def dkwX4_heapLevel_0 : List UInt8 := [42, 180, 0, 15, 42, 180, 0, 9, 7, 46, 46, 172]
abbrev dktX4_heapLevel_0 : List UInt8 := dkwX4_heapLevel_0 ++ []
theorem dksX4_heapLevel_0 : cX4_heapLevel.data.toList.drop 0 = dktX4_heapLevel_0 := by decide +kernel
theorem dX4_heapLevel_0 : decode cX4_heapLevel 0 = .ok (.aload_n 0, 1) := dk_42 (dk_at dksX4_heapLevel_0 0 rfl rfl)
theorem dX4_heapLevel_1 : decode cX4_heapLevel 1 = .ok (.getfield 15, 3) := dk_180 0 15 (dk_at dksX4_heapLevel_0 1 rfl rfl)
theorem dX4_heapLevel_4 : decode cX4_heapLevel 4 = .ok (.aload_n 0, 1) := dk_42 (dk_at dksX4_heapLevel_0 4 rfl rfl)
theorem dX4_heapLevel_5 : decode cX4_heapLevel 5 = .ok (.getfield 9, 3) := dk_180 0 9 (dk_at dksX4_heapLevel_0 5 rfl rfl)
theorem dX4_heapLevel_8 : decode cX4_heapLevel 8 = .ok (.iconst 4, 1) := dk_7 (dk_at dksX4_heapLevel_0 8 rfl rfl)
theorem dX4_heapLevel_9 : decode cX4_heapLevel 9 = .ok (.iaload, 1) := dk_46 (dk_at dksX4_heapLevel_0 9 rfl rfl)
theorem dX4_heapLevel_10 : decode cX4_heapLevel 10 = .ok (.iaload, 1) := dk_46 (dk_at dksX4_heapLevel_0 10 rfl rfl)
theorem dX4_heapLevel_11 : decode cX4_heapLevel 11 = .ok (.ireturn, 1) := dk_172 (dk_at dksX4_heapLevel_0 11 rfl rfl)
abbrev cX4_barEcho : ByteArray := prog_7_method_21_code
def yX4_barEcho : MethodName := ⟨RX4, "barEcho", "(LPingEye$Bar;)LPingEye$Echo;"⟩
def dkwX4_barEcho_1 : List UInt8 := [182, 0, 137, 100, 184, 0, 140, 167, 0, 4, 1, 176]
abbrev dktX4_barEcho_1 : List UInt8 := dkwX4_barEcho_1 ++ []
def dkwX4_barEcho_0 : List UInt8 := [43, 180, 0, 146, 42, 182, 0, 134, 162, 0, 26, 43, 180, 0, 146, 43, 180, 0, 149, 42, 43, 180, 0, 146]
abbrev dktX4_barEcho_0 : List UInt8 := dkwX4_barEcho_0 ++ dktX4_barEcho_1
theorem dksX4_barEcho_0 : cX4_barEcho.data.toList.drop 0 = dktX4_barEcho_0 := by decide +kernel
theorem dksX4_barEcho_1 : cX4_barEcho.data.toList.drop 24 = dktX4_barEcho_1 := dk_seg dksX4_barEcho_0 24 rfl rfl
theorem dX4_barEcho_0 : decode cX4_barEcho 0 = .ok (.aload_n 1, 1) := dk_43 (dk_at dksX4_barEcho_0 0 rfl rfl)
theorem dX4_barEcho_1 : decode cX4_barEcho 1 = .ok (.getfield 146, 3) := dk_180 0 146 (dk_at dksX4_barEcho_0 1 rfl rfl)
theorem dX4_barEcho_4 : decode cX4_barEcho 4 = .ok (.aload_n 0, 1) := dk_42 (dk_at dksX4_barEcho_0 4 rfl rfl)
theorem dX4_barEcho_5 : decode cX4_barEcho 5 = .ok (.invokevirtual 134, 3) := dk_182 0 134 (dk_at dksX4_barEcho_0 5 rfl rfl)
theorem dX4_barEcho_8 : decode cX4_barEcho 8 = .ok (.if_icmp .ge 26, 3) := dk_162 0 26 (dk_at dksX4_barEcho_0 8 rfl rfl)
theorem dX4_barEcho_11 : decode cX4_barEcho 11 = .ok (.aload_n 1, 1) := dk_43 (dk_at dksX4_barEcho_0 11 rfl rfl)
theorem dX4_barEcho_12 : decode cX4_barEcho 12 = .ok (.getfield 146, 3) := dk_180 0 146 (dk_at dksX4_barEcho_0 12 rfl rfl)
theorem dX4_barEcho_15 : decode cX4_barEcho 15 = .ok (.aload_n 1, 1) := dk_43 (dk_at dksX4_barEcho_0 15 rfl rfl)
theorem dX4_barEcho_16 : decode cX4_barEcho 16 = .ok (.getfield 149, 3) := dk_180 0 149 (dk_at dksX4_barEcho_0 16 rfl rfl)
theorem dX4_barEcho_19 : decode cX4_barEcho 19 = .ok (.aload_n 0, 1) := dk_42 (dk_at dksX4_barEcho_0 19 rfl rfl)
theorem dX4_barEcho_20 : decode cX4_barEcho 20 = .ok (.aload_n 1, 1) := dk_43 (dk_at dksX4_barEcho_0 20 rfl rfl)
theorem dX4_barEcho_21 : decode cX4_barEcho 21 = .ok (.getfield 146, 3) := dk_180 0 146 (dk_at dksX4_barEcho_0 21 rfl rfl)
theorem dX4_barEcho_24 : decode cX4_barEcho 24 = .ok (.invokevirtual 137, 3) := dk_182 0 137 (dk_at dksX4_barEcho_1 0 rfl rfl)
theorem dX4_barEcho_27 : decode cX4_barEcho 27 = .ok (.isub, 1) := dk_100 (dk_at dksX4_barEcho_1 3 rfl rfl)
theorem dX4_barEcho_28 : decode cX4_barEcho 28 = .ok (.invokestatic 140, 3) := dk_184 0 140 (dk_at dksX4_barEcho_1 4 rfl rfl)
theorem dX4_barEcho_31 : decode cX4_barEcho 31 = .ok (.goto 4, 3) := dk_167 0 4 (dk_at dksX4_barEcho_1 7 rfl rfl)
theorem dX4_barEcho_34 : decode cX4_barEcho 34 = .ok (.aconst_null, 1) := dk_1 (dk_at dksX4_barEcho_1 10 rfl rfl)
theorem dX4_barEcho_35 : decode cX4_barEcho 35 = .ok (.areturn, 1) := dk_176 (dk_at dksX4_barEcho_1 11 rfl rfl)
abbrev cX4_loss : ByteArray := prog_7_method_19_code
def yX4_loss : MethodName := ⟨RX4, "loss", "(I)I"⟩
def dkwX4_loss_0 : List UInt8 := [27, 42, 180, 0, 61, 104, 16, 10, 108, 172]
abbrev dktX4_loss_0 : List UInt8 := dkwX4_loss_0 ++ []
theorem dksX4_loss_0 : cX4_loss.data.toList.drop 0 = dktX4_loss_0 := by decide +kernel
theorem dX4_loss_0 : decode cX4_loss 0 = .ok (.iload_n 1, 1) := dk_27 (dk_at dksX4_loss_0 0 rfl rfl)
theorem dX4_loss_1 : decode cX4_loss 1 = .ok (.aload_n 0, 1) := dk_42 (dk_at dksX4_loss_0 1 rfl rfl)
theorem dX4_loss_2 : decode cX4_loss 2 = .ok (.getfield 61, 3) := dk_180 0 61 (dk_at dksX4_loss_0 2 rfl rfl)
theorem dX4_loss_5 : decode cX4_loss 5 = .ok (.imul, 1) := dk_104 (dk_at dksX4_loss_0 5 rfl rfl)
theorem dX4_loss_6 : decode cX4_loss 6 = .ok (.bipush 10, 2) := dk_16 10 (dk_at dksX4_loss_0 6 rfl rfl)
theorem dX4_loss_8 : decode cX4_loss 8 = .ok (.idiv, 1) := dk_108 (dk_at dksX4_loss_0 8 rfl rfl)
theorem dX4_loss_9 : decode cX4_loss 9 = .ok (.ireturn, 1) := dk_172 (dk_at dksX4_loss_0 9 rfl rfl)
abbrev cX4_isHeard : ByteArray := prog_7_method_22_code
def yX4_isHeard : MethodName := ⟨RX4, "isHeard", "(LPingEye$Echo;)Z"⟩
def dkwX4_isHeard_1 : List UInt8 := [3, 172]
abbrev dktX4_isHeard_1 : List UInt8 := dkwX4_isHeard_1 ++ []
def dkwX4_isHeard_0 : List UInt8 := [43, 198, 0, 23, 43, 42, 180, 0, 9, 16, 6, 46, 185, 0, 152, 2, 0, 153, 0, 7, 4, 167, 0, 4]
abbrev dktX4_isHeard_0 : List UInt8 := dkwX4_isHeard_0 ++ dktX4_isHeard_1
theorem dksX4_isHeard_0 : cX4_isHeard.data.toList.drop 0 = dktX4_isHeard_0 := by decide +kernel
theorem dksX4_isHeard_1 : cX4_isHeard.data.toList.drop 24 = dktX4_isHeard_1 := dk_seg dksX4_isHeard_0 24 rfl rfl
theorem dX4_isHeard_0 : decode cX4_isHeard 0 = .ok (.aload_n 1, 1) := dk_43 (dk_at dksX4_isHeard_0 0 rfl rfl)
theorem dX4_isHeard_1 : decode cX4_isHeard 1 = .ok (.ifnull 23, 3) := dk_198 0 23 (dk_at dksX4_isHeard_0 1 rfl rfl)
theorem dX4_isHeard_4 : decode cX4_isHeard 4 = .ok (.aload_n 1, 1) := dk_43 (dk_at dksX4_isHeard_0 4 rfl rfl)
theorem dX4_isHeard_5 : decode cX4_isHeard 5 = .ok (.aload_n 0, 1) := dk_42 (dk_at dksX4_isHeard_0 5 rfl rfl)
theorem dX4_isHeard_6 : decode cX4_isHeard 6 = .ok (.getfield 9, 3) := dk_180 0 9 (dk_at dksX4_isHeard_0 6 rfl rfl)
theorem dX4_isHeard_9 : decode cX4_isHeard 9 = .ok (.bipush 6, 2) := dk_16 6 (dk_at dksX4_isHeard_0 9 rfl rfl)
theorem dX4_isHeard_11 : decode cX4_isHeard 11 = .ok (.iaload, 1) := dk_46 (dk_at dksX4_isHeard_0 11 rfl rfl)
theorem dX4_isHeard_12 : decode cX4_isHeard 12 = .ok (.invokeinterface 152 2, 5) := by decide +kernel
theorem dX4_isHeard_17 : decode cX4_isHeard 17 = .ok (.ifCond .eq 7, 3) := dk_153 0 7 (dk_at dksX4_isHeard_0 17 rfl rfl)
theorem dX4_isHeard_20 : decode cX4_isHeard 20 = .ok (.iconst 1, 1) := dk_4 (dk_at dksX4_isHeard_0 20 rfl rfl)
theorem dX4_isHeard_21 : decode cX4_isHeard 21 = .ok (.goto 4, 3) := dk_167 0 4 (dk_at dksX4_isHeard_0 21 rfl rfl)
theorem dX4_isHeard_24 : decode cX4_isHeard 24 = .ok (.iconst 0, 1) := dk_3 (dk_at dksX4_isHeard_1 0 rfl rfl)
theorem dX4_isHeard_25 : decode cX4_isHeard 25 = .ok (.ireturn, 1) := dk_172 (dk_at dksX4_isHeard_1 1 rfl rfl)
abbrev cX4_heapEcho : ByteArray := prog_7_method_20_code
def yX4_heapEcho : MethodName := ⟨RX4, "heapEcho", "()LPingEye$Echo;"⟩
def dkwX4_heapEcho_0 : List UInt8 := [42, 182, 0, 134, 60, 27, 42, 180, 0, 9, 8, 46, 27, 100, 42, 27, 182, 0, 137, 100, 184, 0, 140, 176]
abbrev dktX4_heapEcho_0 : List UInt8 := dkwX4_heapEcho_0 ++ []
theorem dksX4_heapEcho_0 : cX4_heapEcho.data.toList.drop 0 = dktX4_heapEcho_0 := by decide +kernel
theorem dX4_heapEcho_0 : decode cX4_heapEcho 0 = .ok (.aload_n 0, 1) := dk_42 (dk_at dksX4_heapEcho_0 0 rfl rfl)
theorem dX4_heapEcho_1 : decode cX4_heapEcho 1 = .ok (.invokevirtual 134, 3) := dk_182 0 134 (dk_at dksX4_heapEcho_0 1 rfl rfl)
theorem dX4_heapEcho_4 : decode cX4_heapEcho 4 = .ok (.istore_n 1, 1) := dk_60 (dk_at dksX4_heapEcho_0 4 rfl rfl)
theorem dX4_heapEcho_5 : decode cX4_heapEcho 5 = .ok (.iload_n 1, 1) := dk_27 (dk_at dksX4_heapEcho_0 5 rfl rfl)
theorem dX4_heapEcho_6 : decode cX4_heapEcho 6 = .ok (.aload_n 0, 1) := dk_42 (dk_at dksX4_heapEcho_0 6 rfl rfl)
theorem dX4_heapEcho_7 : decode cX4_heapEcho 7 = .ok (.getfield 9, 3) := dk_180 0 9 (dk_at dksX4_heapEcho_0 7 rfl rfl)
theorem dX4_heapEcho_10 : decode cX4_heapEcho 10 = .ok (.iconst 5, 1) := dk_8 (dk_at dksX4_heapEcho_0 10 rfl rfl)
theorem dX4_heapEcho_11 : decode cX4_heapEcho 11 = .ok (.iaload, 1) := dk_46 (dk_at dksX4_heapEcho_0 11 rfl rfl)
theorem dX4_heapEcho_12 : decode cX4_heapEcho 12 = .ok (.iload_n 1, 1) := dk_27 (dk_at dksX4_heapEcho_0 12 rfl rfl)
theorem dX4_heapEcho_13 : decode cX4_heapEcho 13 = .ok (.isub, 1) := dk_100 (dk_at dksX4_heapEcho_0 13 rfl rfl)
theorem dX4_heapEcho_14 : decode cX4_heapEcho 14 = .ok (.aload_n 0, 1) := dk_42 (dk_at dksX4_heapEcho_0 14 rfl rfl)
theorem dX4_heapEcho_15 : decode cX4_heapEcho 15 = .ok (.iload_n 1, 1) := dk_27 (dk_at dksX4_heapEcho_0 15 rfl rfl)
theorem dX4_heapEcho_16 : decode cX4_heapEcho 16 = .ok (.invokevirtual 137, 3) := dk_182 0 137 (dk_at dksX4_heapEcho_0 16 rfl rfl)
theorem dX4_heapEcho_19 : decode cX4_heapEcho 19 = .ok (.isub, 1) := dk_100 (dk_at dksX4_heapEcho_0 19 rfl rfl)
theorem dX4_heapEcho_20 : decode cX4_heapEcho 20 = .ok (.invokestatic 140, 3) := dk_184 0 140 (dk_at dksX4_heapEcho_0 20 rfl rfl)
theorem dX4_heapEcho_23 : decode cX4_heapEcho 23 = .ok (.areturn, 1) := dk_176 (dk_at dksX4_heapEcho_0 23 rfl rfl)
abbrev cX4_isMasked : ByteArray := prog_7_method_23_code
def yX4_isMasked : MethodName := ⟨RX4, "isMasked", "(LPingEye$Echo;)Z"⟩
def dkwX4_isMasked_1 : List UInt8 := [3, 172]
abbrev dktX4_isMasked_1 : List UInt8 := dkwX4_isMasked_1 ++ []
def dkwX4_isMasked_0 : List UInt8 := [43, 185, 0, 155, 1, 0, 42, 180, 0, 18, 43, 185, 0, 157, 1, 0, 46, 163, 0, 7, 4, 167, 0, 4]
abbrev dktX4_isMasked_0 : List UInt8 := dkwX4_isMasked_0 ++ dktX4_isMasked_1
theorem dksX4_isMasked_0 : cX4_isMasked.data.toList.drop 0 = dktX4_isMasked_0 := by decide +kernel
theorem dksX4_isMasked_1 : cX4_isMasked.data.toList.drop 24 = dktX4_isMasked_1 := dk_seg dksX4_isMasked_0 24 rfl rfl
theorem dX4_isMasked_0 : decode cX4_isMasked 0 = .ok (.aload_n 1, 1) := dk_43 (dk_at dksX4_isMasked_0 0 rfl rfl)
theorem dX4_isMasked_1 : decode cX4_isMasked 1 = .ok (.invokeinterface 155 1, 5) := by decide +kernel
theorem dX4_isMasked_6 : decode cX4_isMasked 6 = .ok (.aload_n 0, 1) := dk_42 (dk_at dksX4_isMasked_0 6 rfl rfl)
theorem dX4_isMasked_7 : decode cX4_isMasked 7 = .ok (.getfield 18, 3) := dk_180 0 18 (dk_at dksX4_isMasked_0 7 rfl rfl)
theorem dX4_isMasked_10 : decode cX4_isMasked 10 = .ok (.aload_n 1, 1) := dk_43 (dk_at dksX4_isMasked_0 10 rfl rfl)
theorem dX4_isMasked_11 : decode cX4_isMasked 11 = .ok (.invokeinterface 157 1, 5) := by decide +kernel
theorem dX4_isMasked_16 : decode cX4_isMasked 16 = .ok (.iaload, 1) := dk_46 (dk_at dksX4_isMasked_0 16 rfl rfl)
theorem dX4_isMasked_17 : decode cX4_isMasked 17 = .ok (.if_icmp .gt 7, 3) := dk_163 0 7 (dk_at dksX4_isMasked_0 17 rfl rfl)
theorem dX4_isMasked_20 : decode cX4_isMasked 20 = .ok (.iconst 1, 1) := dk_4 (dk_at dksX4_isMasked_0 20 rfl rfl)
theorem dX4_isMasked_21 : decode cX4_isMasked 21 = .ok (.goto 4, 3) := dk_167 0 4 (dk_at dksX4_isMasked_0 21 rfl rfl)
theorem dX4_isMasked_24 : decode cX4_isMasked 24 = .ok (.iconst 0, 1) := dk_3 (dk_at dksX4_isMasked_1 0 rfl rfl)
theorem dX4_isMasked_25 : decode cX4_isMasked 25 = .ok (.ireturn, 1) := dk_172 (dk_at dksX4_isMasked_1 1 rfl rfl)
abbrev cX4_hears : ByteArray := prog_7_method_27_code
def yX4_hears : MethodName := ⟨RX4, "hears", "(I)V"⟩
def dkwX4_hears_3 : List UInt8 := [177, 42, 27, 181, 0, 34, 42, 3, 181, 0, 64, 177]
abbrev dktX4_hears_3 : List UInt8 := dkwX4_hears_3 ++ []
def dkwX4_hears_2 : List UInt8 := [42, 89, 180, 0, 91, 4, 96, 181, 0, 91, 42, 180, 0, 64, 42, 180, 0, 9, 16, 8, 46, 162, 0, 4]
abbrev dktX4_hears_2 : List UInt8 := dkwX4_hears_2 ++ dktX4_hears_3
def dkwX4_hears_1 : List UInt8 := [163, 0, 14, 42, 27, 181, 0, 34, 42, 3, 181, 0, 64, 177, 42, 89, 180, 0, 64, 4, 96, 181, 0, 64]
abbrev dktX4_hears_1 : List UInt8 := dkwX4_hears_1 ++ dktX4_hears_2
def dkwX4_hears_0 : List UInt8 := [42, 180, 0, 34, 2, 159, 0, 22, 27, 42, 180, 0, 34, 100, 184, 0, 195, 42, 180, 0, 9, 16, 7, 46]
abbrev dktX4_hears_0 : List UInt8 := dkwX4_hears_0 ++ dktX4_hears_1
theorem dksX4_hears_0 : cX4_hears.data.toList.drop 0 = dktX4_hears_0 := by decide +kernel
theorem dksX4_hears_1 : cX4_hears.data.toList.drop 24 = dktX4_hears_1 := dk_seg dksX4_hears_0 24 rfl rfl
theorem dksX4_hears_2 : cX4_hears.data.toList.drop 48 = dktX4_hears_2 := dk_seg dksX4_hears_1 24 rfl rfl
theorem dksX4_hears_3 : cX4_hears.data.toList.drop 72 = dktX4_hears_3 := dk_seg dksX4_hears_2 24 rfl rfl
theorem dX4_hears_0 : decode cX4_hears 0 = .ok (.aload_n 0, 1) := dk_42 (dk_at dksX4_hears_0 0 rfl rfl)
theorem dX4_hears_1 : decode cX4_hears 1 = .ok (.getfield 34, 3) := dk_180 0 34 (dk_at dksX4_hears_0 1 rfl rfl)
theorem dX4_hears_4 : decode cX4_hears 4 = .ok (.iconst (-1), 1) := dk_2 (dk_at dksX4_hears_0 4 rfl rfl)
theorem dX4_hears_5 : decode cX4_hears 5 = .ok (.if_icmp .eq 22, 3) := dk_159 0 22 (dk_at dksX4_hears_0 5 rfl rfl)
theorem dX4_hears_8 : decode cX4_hears 8 = .ok (.iload_n 1, 1) := dk_27 (dk_at dksX4_hears_0 8 rfl rfl)
theorem dX4_hears_9 : decode cX4_hears 9 = .ok (.aload_n 0, 1) := dk_42 (dk_at dksX4_hears_0 9 rfl rfl)
theorem dX4_hears_10 : decode cX4_hears 10 = .ok (.getfield 34, 3) := dk_180 0 34 (dk_at dksX4_hears_0 10 rfl rfl)
theorem dX4_hears_13 : decode cX4_hears 13 = .ok (.isub, 1) := dk_100 (dk_at dksX4_hears_0 13 rfl rfl)
theorem dX4_hears_14 : decode cX4_hears 14 = .ok (.invokestatic 195, 3) := dk_184 0 195 (dk_at dksX4_hears_0 14 rfl rfl)
theorem dX4_hears_17 : decode cX4_hears 17 = .ok (.aload_n 0, 1) := dk_42 (dk_at dksX4_hears_0 17 rfl rfl)
theorem dX4_hears_18 : decode cX4_hears 18 = .ok (.getfield 9, 3) := dk_180 0 9 (dk_at dksX4_hears_0 18 rfl rfl)
theorem dX4_hears_21 : decode cX4_hears 21 = .ok (.bipush 7, 2) := dk_16 7 (dk_at dksX4_hears_0 21 rfl rfl)
theorem dX4_hears_23 : decode cX4_hears 23 = .ok (.iaload, 1) := dk_46 (dk_at dksX4_hears_0 23 rfl rfl)
theorem dX4_hears_24 : decode cX4_hears 24 = .ok (.if_icmp .gt 14, 3) := dk_163 0 14 (dk_at dksX4_hears_1 0 rfl rfl)
theorem dX4_hears_27 : decode cX4_hears 27 = .ok (.aload_n 0, 1) := dk_42 (dk_at dksX4_hears_1 3 rfl rfl)
theorem dX4_hears_28 : decode cX4_hears 28 = .ok (.iload_n 1, 1) := dk_27 (dk_at dksX4_hears_1 4 rfl rfl)
theorem dX4_hears_29 : decode cX4_hears 29 = .ok (.putfield 34, 3) := dk_181 0 34 (dk_at dksX4_hears_1 5 rfl rfl)
theorem dX4_hears_32 : decode cX4_hears 32 = .ok (.aload_n 0, 1) := dk_42 (dk_at dksX4_hears_1 8 rfl rfl)
theorem dX4_hears_33 : decode cX4_hears 33 = .ok (.iconst 0, 1) := dk_3 (dk_at dksX4_hears_1 9 rfl rfl)
theorem dX4_hears_34 : decode cX4_hears 34 = .ok (.putfield 64, 3) := dk_181 0 64 (dk_at dksX4_hears_1 10 rfl rfl)
theorem dX4_hears_37 : decode cX4_hears 37 = .ok (.return_, 1) := dk_177 (dk_at dksX4_hears_1 13 rfl rfl)
theorem dX4_hears_38 : decode cX4_hears 38 = .ok (.aload_n 0, 1) := dk_42 (dk_at dksX4_hears_1 14 rfl rfl)
theorem dX4_hears_39 : decode cX4_hears 39 = .ok (.dup, 1) := dk_89 (dk_at dksX4_hears_1 15 rfl rfl)
theorem dX4_hears_40 : decode cX4_hears 40 = .ok (.getfield 64, 3) := dk_180 0 64 (dk_at dksX4_hears_1 16 rfl rfl)
theorem dX4_hears_43 : decode cX4_hears 43 = .ok (.iconst 1, 1) := dk_4 (dk_at dksX4_hears_1 19 rfl rfl)
theorem dX4_hears_44 : decode cX4_hears 44 = .ok (.iadd, 1) := dk_96 (dk_at dksX4_hears_1 20 rfl rfl)
theorem dX4_hears_45 : decode cX4_hears 45 = .ok (.putfield 64, 3) := dk_181 0 64 (dk_at dksX4_hears_1 21 rfl rfl)
theorem dX4_hears_48 : decode cX4_hears 48 = .ok (.aload_n 0, 1) := dk_42 (dk_at dksX4_hears_2 0 rfl rfl)
theorem dX4_hears_49 : decode cX4_hears 49 = .ok (.dup, 1) := dk_89 (dk_at dksX4_hears_2 1 rfl rfl)
theorem dX4_hears_50 : decode cX4_hears 50 = .ok (.getfield 91, 3) := dk_180 0 91 (dk_at dksX4_hears_2 2 rfl rfl)
theorem dX4_hears_53 : decode cX4_hears 53 = .ok (.iconst 1, 1) := dk_4 (dk_at dksX4_hears_2 5 rfl rfl)
theorem dX4_hears_54 : decode cX4_hears 54 = .ok (.iadd, 1) := dk_96 (dk_at dksX4_hears_2 6 rfl rfl)
theorem dX4_hears_55 : decode cX4_hears 55 = .ok (.putfield 91, 3) := dk_181 0 91 (dk_at dksX4_hears_2 7 rfl rfl)
theorem dX4_hears_58 : decode cX4_hears 58 = .ok (.aload_n 0, 1) := dk_42 (dk_at dksX4_hears_2 10 rfl rfl)
theorem dX4_hears_59 : decode cX4_hears 59 = .ok (.getfield 64, 3) := dk_180 0 64 (dk_at dksX4_hears_2 11 rfl rfl)
theorem dX4_hears_62 : decode cX4_hears 62 = .ok (.aload_n 0, 1) := dk_42 (dk_at dksX4_hears_2 14 rfl rfl)
theorem dX4_hears_63 : decode cX4_hears 63 = .ok (.getfield 9, 3) := dk_180 0 9 (dk_at dksX4_hears_2 15 rfl rfl)
theorem dX4_hears_66 : decode cX4_hears 66 = .ok (.bipush 8, 2) := dk_16 8 (dk_at dksX4_hears_2 18 rfl rfl)
theorem dX4_hears_68 : decode cX4_hears 68 = .ok (.iaload, 1) := dk_46 (dk_at dksX4_hears_2 20 rfl rfl)
theorem dX4_hears_69 : decode cX4_hears 69 = .ok (.if_icmp .ge 4, 3) := dk_162 0 4 (dk_at dksX4_hears_2 21 rfl rfl)
theorem dX4_hears_72 : decode cX4_hears 72 = .ok (.return_, 1) := dk_177 (dk_at dksX4_hears_3 0 rfl rfl)
theorem dX4_hears_73 : decode cX4_hears 73 = .ok (.aload_n 0, 1) := dk_42 (dk_at dksX4_hears_3 1 rfl rfl)
theorem dX4_hears_74 : decode cX4_hears 74 = .ok (.iload_n 1, 1) := dk_27 (dk_at dksX4_hears_3 2 rfl rfl)
theorem dX4_hears_75 : decode cX4_hears 75 = .ok (.putfield 34, 3) := dk_181 0 34 (dk_at dksX4_hears_3 3 rfl rfl)
theorem dX4_hears_78 : decode cX4_hears 78 = .ok (.aload_n 0, 1) := dk_42 (dk_at dksX4_hears_3 6 rfl rfl)
theorem dX4_hears_79 : decode cX4_hears 79 = .ok (.iconst 0, 1) := dk_3 (dk_at dksX4_hears_3 7 rfl rfl)
theorem dX4_hears_80 : decode cX4_hears 80 = .ok (.putfield 64, 3) := dk_181 0 64 (dk_at dksX4_hears_3 8 rfl rfl)
theorem dX4_hears_83 : decode cX4_hears 83 = .ok (.return_, 1) := dk_177 (dk_at dksX4_hears_3 11 rfl rfl)
abbrev cX4_learns : ByteArray := prog_7_method_29_code
def yX4_learns : MethodName := ⟨RX4, "learns", "(I)I"⟩
def dkwX4_learns_3 : List UInt8 := [185, 0, 155, 1, 0, 79, 132, 2, 1, 167, 255, 191, 28, 172]
abbrev dktX4_learns_3 : List UInt8 := dkwX4_learns_3 ++ []
def dkwX4_learns_2 : List UInt8 := [182, 0, 186, 153, 0, 6, 167, 255, 216, 42, 180, 0, 18, 25, 4, 185, 0, 157, 1, 0, 25, 4]
abbrev dktX4_learns_2 : List UInt8 := dkwX4_learns_2 ++ dktX4_learns_3
def dkwX4_learns_1 : List UInt8 := [185, 0, 183, 1, 0, 192, 0, 141, 58, 4, 25, 4, 185, 0, 157, 1, 0, 27, 162, 255, 228, 42, 25, 4]
abbrev dktX4_learns_1 : List UInt8 := dkwX4_learns_1 ++ dktX4_learns_2
def dkwX4_learns_0 : List UInt8 := [3, 61, 42, 182, 0, 170, 185, 0, 174, 1, 0, 78, 45, 185, 0, 178, 1, 0, 153, 0, 62, 45]
abbrev dktX4_learns_0 : List UInt8 := dkwX4_learns_0 ++ dktX4_learns_1
theorem dksX4_learns_0 : cX4_learns.data.toList.drop 0 = dktX4_learns_0 := by decide +kernel
theorem dksX4_learns_1 : cX4_learns.data.toList.drop 22 = dktX4_learns_1 := dk_seg dksX4_learns_0 22 rfl rfl
theorem dksX4_learns_2 : cX4_learns.data.toList.drop 46 = dktX4_learns_2 := dk_seg dksX4_learns_1 24 rfl rfl
theorem dksX4_learns_3 : cX4_learns.data.toList.drop 68 = dktX4_learns_3 := dk_seg dksX4_learns_2 22 rfl rfl
theorem dX4_learns_0 : decode cX4_learns 0 = .ok (.iconst 0, 1) := dk_3 (dk_at dksX4_learns_0 0 rfl rfl)
theorem dX4_learns_1 : decode cX4_learns 1 = .ok (.istore_n 2, 1) := dk_61 (dk_at dksX4_learns_0 1 rfl rfl)
theorem dX4_learns_2 : decode cX4_learns 2 = .ok (.aload_n 0, 1) := dk_42 (dk_at dksX4_learns_0 2 rfl rfl)
theorem dX4_learns_3 : decode cX4_learns 3 = .ok (.invokevirtual 170, 3) := dk_182 0 170 (dk_at dksX4_learns_0 3 rfl rfl)
theorem dX4_learns_6 : decode cX4_learns 6 = .ok (.invokeinterface 174 1, 5) := by decide +kernel
theorem dX4_learns_11 : decode cX4_learns 11 = .ok (.astore_n 3, 1) := dk_78 (dk_at dksX4_learns_0 11 rfl rfl)
theorem dX4_learns_12 : decode cX4_learns 12 = .ok (.aload_n 3, 1) := dk_45 (dk_at dksX4_learns_0 12 rfl rfl)
theorem dX4_learns_13 : decode cX4_learns 13 = .ok (.invokeinterface 178 1, 5) := by decide +kernel
theorem dX4_learns_18 : decode cX4_learns 18 = .ok (.ifCond .eq 62, 3) := dk_153 0 62 (dk_at dksX4_learns_0 18 rfl rfl)
theorem dX4_learns_21 : decode cX4_learns 21 = .ok (.aload_n 3, 1) := dk_45 (dk_at dksX4_learns_0 21 rfl rfl)
theorem dX4_learns_22 : decode cX4_learns 22 = .ok (.invokeinterface 183 1, 5) := by decide +kernel
theorem dX4_learns_27 : decode cX4_learns 27 = .ok (.checkcast 141, 3) := dk_192 0 141 (dk_at dksX4_learns_1 5 rfl rfl)
theorem dX4_learns_30 : decode cX4_learns 30 = .ok (.astore 4, 2) := dk_58 4 (dk_at dksX4_learns_1 8 rfl rfl)
theorem dX4_learns_32 : decode cX4_learns 32 = .ok (.aload 4, 2) := dk_25 4 (dk_at dksX4_learns_1 10 rfl rfl)
theorem dX4_learns_34 : decode cX4_learns 34 = .ok (.invokeinterface 157 1, 5) := by decide +kernel
theorem dX4_learns_39 : decode cX4_learns 39 = .ok (.iload_n 1, 1) := dk_27 (dk_at dksX4_learns_1 17 rfl rfl)
theorem dX4_learns_40 : decode cX4_learns 40 = .ok (.if_icmp .ge (-28), 3) := dk_162 255 228 (dk_at dksX4_learns_1 18 rfl rfl)
theorem dX4_learns_43 : decode cX4_learns 43 = .ok (.aload_n 0, 1) := dk_42 (dk_at dksX4_learns_1 21 rfl rfl)
theorem dX4_learns_44 : decode cX4_learns 44 = .ok (.aload 4, 2) := dk_25 4 (dk_at dksX4_learns_1 22 rfl rfl)
theorem dX4_learns_46 : decode cX4_learns 46 = .ok (.invokevirtual 186, 3) := dk_182 0 186 (dk_at dksX4_learns_2 0 rfl rfl)
theorem dX4_learns_49 : decode cX4_learns 49 = .ok (.ifCond .eq 6, 3) := dk_153 0 6 (dk_at dksX4_learns_2 3 rfl rfl)
theorem dX4_learns_52 : decode cX4_learns 52 = .ok (.goto (-40), 3) := dk_167 255 216 (dk_at dksX4_learns_2 6 rfl rfl)
theorem dX4_learns_55 : decode cX4_learns 55 = .ok (.aload_n 0, 1) := dk_42 (dk_at dksX4_learns_2 9 rfl rfl)
theorem dX4_learns_56 : decode cX4_learns 56 = .ok (.getfield 18, 3) := dk_180 0 18 (dk_at dksX4_learns_2 10 rfl rfl)
theorem dX4_learns_59 : decode cX4_learns 59 = .ok (.aload 4, 2) := dk_25 4 (dk_at dksX4_learns_2 13 rfl rfl)
theorem dX4_learns_61 : decode cX4_learns 61 = .ok (.invokeinterface 157 1, 5) := by decide +kernel
theorem dX4_learns_66 : decode cX4_learns 66 = .ok (.aload 4, 2) := dk_25 4 (dk_at dksX4_learns_2 20 rfl rfl)
theorem dX4_learns_68 : decode cX4_learns 68 = .ok (.invokeinterface 155 1, 5) := by decide +kernel
theorem dX4_learns_73 : decode cX4_learns 73 = .ok (.iastore, 1) := dk_79 (dk_at dksX4_learns_3 5 rfl rfl)
theorem dX4_learns_74 : decode cX4_learns 74 = .ok (.iinc 2 1, 3) := dk_132 2 1 (dk_at dksX4_learns_3 6 rfl rfl)
theorem dX4_learns_77 : decode cX4_learns 77 = .ok (.goto (-65), 3) := dk_167 255 191 (dk_at dksX4_learns_3 9 rfl rfl)
theorem dX4_learns_80 : decode cX4_learns 80 = .ok (.iload_n 2, 1) := dk_28 (dk_at dksX4_learns_3 12 rfl rfl)
theorem dX4_learns_81 : decode cX4_learns 81 = .ok (.ireturn, 1) := dk_172 (dk_at dksX4_learns_3 13 rfl rfl)
abbrev cX4_units : ByteArray := prog_7_method_5_code
def yX4_units : MethodName := ⟨RX4, "units", "()I"⟩
def dkwX4_units_1 : List UInt8 := [54, 5, 27, 21, 5, 96, 60, 132, 4, 1, 167, 255, 236, 27, 172]
abbrev dktX4_units_1 : List UInt8 := dkwX4_units_1 ++ []
def dkwX4_units_0 : List UInt8 := [3, 60, 42, 180, 0, 15, 77, 44, 190, 62, 3, 54, 4, 21, 4, 29, 162, 0, 20, 44, 21, 4, 46]
abbrev dktX4_units_0 : List UInt8 := dkwX4_units_0 ++ dktX4_units_1
theorem dksX4_units_0 : cX4_units.data.toList.drop 0 = dktX4_units_0 := by decide +kernel
theorem dksX4_units_1 : cX4_units.data.toList.drop 23 = dktX4_units_1 := dk_seg dksX4_units_0 23 rfl rfl
theorem dX4_units_0 : decode cX4_units 0 = .ok (.iconst 0, 1) := dk_3 (dk_at dksX4_units_0 0 rfl rfl)
theorem dX4_units_1 : decode cX4_units 1 = .ok (.istore_n 1, 1) := dk_60 (dk_at dksX4_units_0 1 rfl rfl)
theorem dX4_units_2 : decode cX4_units 2 = .ok (.aload_n 0, 1) := dk_42 (dk_at dksX4_units_0 2 rfl rfl)
theorem dX4_units_3 : decode cX4_units 3 = .ok (.getfield 15, 3) := dk_180 0 15 (dk_at dksX4_units_0 3 rfl rfl)
theorem dX4_units_6 : decode cX4_units 6 = .ok (.astore_n 2, 1) := dk_77 (dk_at dksX4_units_0 6 rfl rfl)
theorem dX4_units_7 : decode cX4_units 7 = .ok (.aload_n 2, 1) := dk_44 (dk_at dksX4_units_0 7 rfl rfl)
theorem dX4_units_8 : decode cX4_units 8 = .ok (.arraylength, 1) := dk_190 (dk_at dksX4_units_0 8 rfl rfl)
theorem dX4_units_9 : decode cX4_units 9 = .ok (.istore_n 3, 1) := dk_62 (dk_at dksX4_units_0 9 rfl rfl)
theorem dX4_units_10 : decode cX4_units 10 = .ok (.iconst 0, 1) := dk_3 (dk_at dksX4_units_0 10 rfl rfl)
theorem dX4_units_11 : decode cX4_units 11 = .ok (.istore 4, 2) := dk_54 4 (dk_at dksX4_units_0 11 rfl rfl)
theorem dX4_units_13 : decode cX4_units 13 = .ok (.iload 4, 2) := dk_21 4 (dk_at dksX4_units_0 13 rfl rfl)
theorem dX4_units_15 : decode cX4_units 15 = .ok (.iload_n 3, 1) := dk_29 (dk_at dksX4_units_0 15 rfl rfl)
theorem dX4_units_16 : decode cX4_units 16 = .ok (.if_icmp .ge 20, 3) := dk_162 0 20 (dk_at dksX4_units_0 16 rfl rfl)
theorem dX4_units_19 : decode cX4_units 19 = .ok (.aload_n 2, 1) := dk_44 (dk_at dksX4_units_0 19 rfl rfl)
theorem dX4_units_20 : decode cX4_units 20 = .ok (.iload 4, 2) := dk_21 4 (dk_at dksX4_units_0 20 rfl rfl)
theorem dX4_units_22 : decode cX4_units 22 = .ok (.iaload, 1) := dk_46 (dk_at dksX4_units_0 22 rfl rfl)
theorem dX4_units_23 : decode cX4_units 23 = .ok (.istore 5, 2) := dk_54 5 (dk_at dksX4_units_1 0 rfl rfl)
theorem dX4_units_25 : decode cX4_units 25 = .ok (.iload_n 1, 1) := dk_27 (dk_at dksX4_units_1 2 rfl rfl)
theorem dX4_units_26 : decode cX4_units 26 = .ok (.iload 5, 2) := dk_21 5 (dk_at dksX4_units_1 3 rfl rfl)
theorem dX4_units_28 : decode cX4_units 28 = .ok (.iadd, 1) := dk_96 (dk_at dksX4_units_1 5 rfl rfl)
theorem dX4_units_29 : decode cX4_units 29 = .ok (.istore_n 1, 1) := dk_60 (dk_at dksX4_units_1 6 rfl rfl)
theorem dX4_units_30 : decode cX4_units 30 = .ok (.iinc 4 1, 3) := dk_132 4 1 (dk_at dksX4_units_1 7 rfl rfl)
theorem dX4_units_33 : decode cX4_units 33 = .ok (.goto (-20), 3) := dk_167 255 236 (dk_at dksX4_units_1 10 rfl rfl)
theorem dX4_units_36 : decode cX4_units 36 = .ok (.iload_n 1, 1) := dk_27 (dk_at dksX4_units_1 13 rfl rfl)
theorem dX4_units_37 : decode cX4_units 37 = .ok (.ireturn, 1) := dk_172 (dk_at dksX4_units_1 14 rfl rfl)
abbrev cX4_hangs : ByteArray := prog_7_method_10_code
def yX4_hangs : MethodName := ⟨RX4, "hangs", "(I)Z"⟩
def dkwX4_hangs_0 : List UInt8 := [42, 180, 0, 21, 27, 51, 153, 0, 16, 42, 27, 182, 0, 101, 2, 159, 0, 7, 4, 167, 0, 4, 3, 172]
abbrev dktX4_hangs_0 : List UInt8 := dkwX4_hangs_0 ++ []
theorem dksX4_hangs_0 : cX4_hangs.data.toList.drop 0 = dktX4_hangs_0 := by decide +kernel
theorem dX4_hangs_0 : decode cX4_hangs 0 = .ok (.aload_n 0, 1) := dk_42 (dk_at dksX4_hangs_0 0 rfl rfl)
theorem dX4_hangs_1 : decode cX4_hangs 1 = .ok (.getfield 21, 3) := dk_180 0 21 (dk_at dksX4_hangs_0 1 rfl rfl)
theorem dX4_hangs_4 : decode cX4_hangs 4 = .ok (.iload_n 1, 1) := dk_27 (dk_at dksX4_hangs_0 4 rfl rfl)
theorem dX4_hangs_5 : decode cX4_hangs 5 = .ok (.baload, 1) := dk_51 (dk_at dksX4_hangs_0 5 rfl rfl)
theorem dX4_hangs_6 : decode cX4_hangs 6 = .ok (.ifCond .eq 16, 3) := dk_153 0 16 (dk_at dksX4_hangs_0 6 rfl rfl)
theorem dX4_hangs_9 : decode cX4_hangs 9 = .ok (.aload_n 0, 1) := dk_42 (dk_at dksX4_hangs_0 9 rfl rfl)
theorem dX4_hangs_10 : decode cX4_hangs 10 = .ok (.iload_n 1, 1) := dk_27 (dk_at dksX4_hangs_0 10 rfl rfl)
theorem dX4_hangs_11 : decode cX4_hangs 11 = .ok (.invokevirtual 101, 3) := dk_182 0 101 (dk_at dksX4_hangs_0 11 rfl rfl)
theorem dX4_hangs_14 : decode cX4_hangs 14 = .ok (.iconst (-1), 1) := dk_2 (dk_at dksX4_hangs_0 14 rfl rfl)
theorem dX4_hangs_15 : decode cX4_hangs 15 = .ok (.if_icmp .eq 7, 3) := dk_159 0 7 (dk_at dksX4_hangs_0 15 rfl rfl)
theorem dX4_hangs_18 : decode cX4_hangs 18 = .ok (.iconst 1, 1) := dk_4 (dk_at dksX4_hangs_0 18 rfl rfl)
theorem dX4_hangs_19 : decode cX4_hangs 19 = .ok (.goto 4, 3) := dk_167 0 4 (dk_at dksX4_hangs_0 19 rfl rfl)
theorem dX4_hangs_22 : decode cX4_hangs 22 = .ok (.iconst 0, 1) := dk_3 (dk_at dksX4_hangs_0 22 rfl rfl)
theorem dX4_hangs_23 : decode cX4_hangs 23 = .ok (.ireturn, 1) := dk_172 (dk_at dksX4_hangs_0 23 rfl rfl)
abbrev cX4_init_2 : ByteArray := prog_7_method_2_code
def yX4_init_2 : MethodName := ⟨RX4, "<init>", "(LPingEye$Silo;)V"⟩
def dkwX4_init_2_10 : List UInt8 := [43, 180, 0, 88, 181, 0, 88, 42, 43, 180, 0, 91, 181, 0, 91, 177]
abbrev dktX4_init_2_10 : List UInt8 := dkwX4_init_2_10 ++ []
def dkwX4_init_2_9 : List UInt8 := [43, 180, 0, 79, 181, 0, 79, 42, 43, 180, 0, 82, 181, 0, 82, 42, 43, 180, 0, 85, 181, 0, 85, 42]
abbrev dktX4_init_2_9 : List UInt8 := dkwX4_init_2_9 ++ dktX4_init_2_10
def dkwX4_init_2_8 : List UInt8 := [43, 180, 0, 70, 181, 0, 70, 42, 43, 180, 0, 73, 181, 0, 73, 42, 43, 180, 0, 76, 181, 0, 76, 42]
abbrev dktX4_init_2_8 : List UInt8 := dkwX4_init_2_8 ++ dktX4_init_2_9
def dkwX4_init_2_7 : List UInt8 := [43, 180, 0, 34, 181, 0, 34, 42, 43, 180, 0, 64, 181, 0, 64, 42, 43, 180, 0, 67, 181, 0, 67, 42]
abbrev dktX4_init_2_7 : List UInt8 := dkwX4_init_2_7 ++ dktX4_init_2_8
def dkwX4_init_2_6 : List UInt8 := [192, 0, 55, 185, 0, 57, 2, 0, 87, 132, 2, 1, 167, 255, 217, 42, 43, 180, 0, 61, 181, 0, 61, 42]
abbrev dktX4_init_2_6 : List UInt8 := dkwX4_init_2_6 ++ dktX4_init_2_7
def dkwX4_init_2_5 : List UInt8 := [185, 0, 45, 1, 0, 162, 0, 32, 42, 180, 0, 30, 43, 180, 0, 30, 28, 185, 0, 51, 2, 0]
abbrev dktX4_init_2_5 : List UInt8 := dkwX4_init_2_5 ++ dktX4_init_2_6
def dkwX4_init_2_4 : List UInt8 := [181, 0, 18, 42, 43, 180, 0, 21, 182, 0, 43, 192, 0, 44, 181, 0, 21, 3, 61, 28, 43, 180, 0, 30]
abbrev dktX4_init_2_4 : List UInt8 := dkwX4_init_2_4 ++ dktX4_init_2_5
def dkwX4_init_2_3 : List UInt8 := [180, 0, 15, 182, 0, 38, 192, 0, 39, 181, 0, 15, 42, 43, 180, 0, 18, 182, 0, 38, 192, 0, 39]
abbrev dktX4_init_2_3 : List UInt8 := dkwX4_init_2_3 ++ dktX4_init_2_4
def dkwX4_init_2_2 : List UInt8 := [181, 0, 30, 42, 2, 181, 0, 34, 42, 43, 180, 0, 9, 182, 0, 38, 192, 0, 39, 181, 0, 9, 42, 43]
abbrev dktX4_init_2_2 : List UInt8 := dkwX4_init_2_2 ++ dktX4_init_2_3
def dkwX4_init_2_1 : List UInt8 := [188, 10, 181, 0, 18, 42, 16, 9, 188, 4, 181, 0, 21, 42, 187, 0, 25, 89, 16, 6, 183, 0, 27]
abbrev dktX4_init_2_1 : List UInt8 := dkwX4_init_2_1 ++ dktX4_init_2_2
def dkwX4_init_2_0 : List UInt8 := [42, 183, 0, 3, 42, 16, 9, 188, 10, 181, 0, 9, 42, 16, 9, 188, 10, 181, 0, 15, 42, 16, 61]
abbrev dktX4_init_2_0 : List UInt8 := dkwX4_init_2_0 ++ dktX4_init_2_1
theorem dksX4_init_2_0 : cX4_init_2.data.toList.drop 0 = dktX4_init_2_0 := by decide +kernel
theorem dksX4_init_2_1 : cX4_init_2.data.toList.drop 23 = dktX4_init_2_1 := dk_seg dksX4_init_2_0 23 rfl rfl
theorem dksX4_init_2_2 : cX4_init_2.data.toList.drop 46 = dktX4_init_2_2 := dk_seg dksX4_init_2_1 23 rfl rfl
theorem dksX4_init_2_3 : cX4_init_2.data.toList.drop 70 = dktX4_init_2_3 := dk_seg dksX4_init_2_2 24 rfl rfl
theorem dksX4_init_2_4 : cX4_init_2.data.toList.drop 93 = dktX4_init_2_4 := dk_seg dksX4_init_2_3 23 rfl rfl
theorem dksX4_init_2_5 : cX4_init_2.data.toList.drop 117 = dktX4_init_2_5 := dk_seg dksX4_init_2_4 24 rfl rfl
theorem dksX4_init_2_6 : cX4_init_2.data.toList.drop 139 = dktX4_init_2_6 := dk_seg dksX4_init_2_5 22 rfl rfl
theorem dksX4_init_2_7 : cX4_init_2.data.toList.drop 163 = dktX4_init_2_7 := dk_seg dksX4_init_2_6 24 rfl rfl
theorem dksX4_init_2_8 : cX4_init_2.data.toList.drop 187 = dktX4_init_2_8 := dk_seg dksX4_init_2_7 24 rfl rfl
theorem dksX4_init_2_9 : cX4_init_2.data.toList.drop 211 = dktX4_init_2_9 := dk_seg dksX4_init_2_8 24 rfl rfl
theorem dksX4_init_2_10 : cX4_init_2.data.toList.drop 235 = dktX4_init_2_10 := dk_seg dksX4_init_2_9 24 rfl rfl
theorem dX4_init_2_0 : decode cX4_init_2 0 = .ok (.aload_n 0, 1) := dk_42 (dk_at dksX4_init_2_0 0 rfl rfl)
theorem dX4_init_2_1 : decode cX4_init_2 1 = .ok (.invokespecial 3, 3) := dk_183 0 3 (dk_at dksX4_init_2_0 1 rfl rfl)
theorem dX4_init_2_4 : decode cX4_init_2 4 = .ok (.aload_n 0, 1) := dk_42 (dk_at dksX4_init_2_0 4 rfl rfl)
theorem dX4_init_2_5 : decode cX4_init_2 5 = .ok (.bipush 9, 2) := dk_16 9 (dk_at dksX4_init_2_0 5 rfl rfl)
theorem dX4_init_2_7 : decode cX4_init_2 7 = .ok (.newarray .int, 2) := dk_188_10 (dk_at dksX4_init_2_0 7 rfl rfl)
theorem dX4_init_2_9 : decode cX4_init_2 9 = .ok (.putfield 9, 3) := dk_181 0 9 (dk_at dksX4_init_2_0 9 rfl rfl)
theorem dX4_init_2_12 : decode cX4_init_2 12 = .ok (.aload_n 0, 1) := dk_42 (dk_at dksX4_init_2_0 12 rfl rfl)
theorem dX4_init_2_13 : decode cX4_init_2 13 = .ok (.bipush 9, 2) := dk_16 9 (dk_at dksX4_init_2_0 13 rfl rfl)
theorem dX4_init_2_15 : decode cX4_init_2 15 = .ok (.newarray .int, 2) := dk_188_10 (dk_at dksX4_init_2_0 15 rfl rfl)
theorem dX4_init_2_17 : decode cX4_init_2 17 = .ok (.putfield 15, 3) := dk_181 0 15 (dk_at dksX4_init_2_0 17 rfl rfl)
theorem dX4_init_2_20 : decode cX4_init_2 20 = .ok (.aload_n 0, 1) := dk_42 (dk_at dksX4_init_2_0 20 rfl rfl)
theorem dX4_init_2_21 : decode cX4_init_2 21 = .ok (.bipush 61, 2) := dk_16 61 (dk_at dksX4_init_2_0 21 rfl rfl)
theorem dX4_init_2_23 : decode cX4_init_2 23 = .ok (.newarray .int, 2) := dk_188_10 (dk_at dksX4_init_2_1 0 rfl rfl)
theorem dX4_init_2_25 : decode cX4_init_2 25 = .ok (.putfield 18, 3) := dk_181 0 18 (dk_at dksX4_init_2_1 2 rfl rfl)
theorem dX4_init_2_28 : decode cX4_init_2 28 = .ok (.aload_n 0, 1) := dk_42 (dk_at dksX4_init_2_1 5 rfl rfl)
theorem dX4_init_2_29 : decode cX4_init_2 29 = .ok (.bipush 9, 2) := dk_16 9 (dk_at dksX4_init_2_1 6 rfl rfl)
theorem dX4_init_2_31 : decode cX4_init_2 31 = .ok (.newarray .boolean, 2) := dk_188_4 (dk_at dksX4_init_2_1 8 rfl rfl)
theorem dX4_init_2_33 : decode cX4_init_2 33 = .ok (.putfield 21, 3) := dk_181 0 21 (dk_at dksX4_init_2_1 10 rfl rfl)
theorem dX4_init_2_36 : decode cX4_init_2 36 = .ok (.aload_n 0, 1) := dk_42 (dk_at dksX4_init_2_1 13 rfl rfl)
theorem dX4_init_2_37 : decode cX4_init_2 37 = .ok (.new 25, 3) := dk_187 0 25 (dk_at dksX4_init_2_1 14 rfl rfl)
theorem dX4_init_2_40 : decode cX4_init_2 40 = .ok (.dup, 1) := dk_89 (dk_at dksX4_init_2_1 17 rfl rfl)
theorem dX4_init_2_41 : decode cX4_init_2 41 = .ok (.bipush 6, 2) := dk_16 6 (dk_at dksX4_init_2_1 18 rfl rfl)
theorem dX4_init_2_43 : decode cX4_init_2 43 = .ok (.invokespecial 27, 3) := dk_183 0 27 (dk_at dksX4_init_2_1 20 rfl rfl)
theorem dX4_init_2_46 : decode cX4_init_2 46 = .ok (.putfield 30, 3) := dk_181 0 30 (dk_at dksX4_init_2_2 0 rfl rfl)
theorem dX4_init_2_49 : decode cX4_init_2 49 = .ok (.aload_n 0, 1) := dk_42 (dk_at dksX4_init_2_2 3 rfl rfl)
theorem dX4_init_2_50 : decode cX4_init_2 50 = .ok (.iconst (-1), 1) := dk_2 (dk_at dksX4_init_2_2 4 rfl rfl)
theorem dX4_init_2_51 : decode cX4_init_2 51 = .ok (.putfield 34, 3) := dk_181 0 34 (dk_at dksX4_init_2_2 5 rfl rfl)
theorem dX4_init_2_54 : decode cX4_init_2 54 = .ok (.aload_n 0, 1) := dk_42 (dk_at dksX4_init_2_2 8 rfl rfl)
theorem dX4_init_2_55 : decode cX4_init_2 55 = .ok (.aload_n 1, 1) := dk_43 (dk_at dksX4_init_2_2 9 rfl rfl)
theorem dX4_init_2_56 : decode cX4_init_2 56 = .ok (.getfield 9, 3) := dk_180 0 9 (dk_at dksX4_init_2_2 10 rfl rfl)
theorem dX4_init_2_59 : decode cX4_init_2 59 = .ok (.invokevirtual 38, 3) := dk_182 0 38 (dk_at dksX4_init_2_2 13 rfl rfl)
theorem dX4_init_2_62 : decode cX4_init_2 62 = .ok (.checkcast 39, 3) := dk_192 0 39 (dk_at dksX4_init_2_2 16 rfl rfl)
theorem dX4_init_2_65 : decode cX4_init_2 65 = .ok (.putfield 9, 3) := dk_181 0 9 (dk_at dksX4_init_2_2 19 rfl rfl)
theorem dX4_init_2_68 : decode cX4_init_2 68 = .ok (.aload_n 0, 1) := dk_42 (dk_at dksX4_init_2_2 22 rfl rfl)
theorem dX4_init_2_69 : decode cX4_init_2 69 = .ok (.aload_n 1, 1) := dk_43 (dk_at dksX4_init_2_2 23 rfl rfl)
theorem dX4_init_2_70 : decode cX4_init_2 70 = .ok (.getfield 15, 3) := dk_180 0 15 (dk_at dksX4_init_2_3 0 rfl rfl)
theorem dX4_init_2_73 : decode cX4_init_2 73 = .ok (.invokevirtual 38, 3) := dk_182 0 38 (dk_at dksX4_init_2_3 3 rfl rfl)
theorem dX4_init_2_76 : decode cX4_init_2 76 = .ok (.checkcast 39, 3) := dk_192 0 39 (dk_at dksX4_init_2_3 6 rfl rfl)
theorem dX4_init_2_79 : decode cX4_init_2 79 = .ok (.putfield 15, 3) := dk_181 0 15 (dk_at dksX4_init_2_3 9 rfl rfl)
theorem dX4_init_2_82 : decode cX4_init_2 82 = .ok (.aload_n 0, 1) := dk_42 (dk_at dksX4_init_2_3 12 rfl rfl)
theorem dX4_init_2_83 : decode cX4_init_2 83 = .ok (.aload_n 1, 1) := dk_43 (dk_at dksX4_init_2_3 13 rfl rfl)
theorem dX4_init_2_84 : decode cX4_init_2 84 = .ok (.getfield 18, 3) := dk_180 0 18 (dk_at dksX4_init_2_3 14 rfl rfl)
theorem dX4_init_2_87 : decode cX4_init_2 87 = .ok (.invokevirtual 38, 3) := dk_182 0 38 (dk_at dksX4_init_2_3 17 rfl rfl)
theorem dX4_init_2_90 : decode cX4_init_2 90 = .ok (.checkcast 39, 3) := dk_192 0 39 (dk_at dksX4_init_2_3 20 rfl rfl)
theorem dX4_init_2_93 : decode cX4_init_2 93 = .ok (.putfield 18, 3) := dk_181 0 18 (dk_at dksX4_init_2_4 0 rfl rfl)
theorem dX4_init_2_96 : decode cX4_init_2 96 = .ok (.aload_n 0, 1) := dk_42 (dk_at dksX4_init_2_4 3 rfl rfl)
theorem dX4_init_2_97 : decode cX4_init_2 97 = .ok (.aload_n 1, 1) := dk_43 (dk_at dksX4_init_2_4 4 rfl rfl)
theorem dX4_init_2_98 : decode cX4_init_2 98 = .ok (.getfield 21, 3) := dk_180 0 21 (dk_at dksX4_init_2_4 5 rfl rfl)
theorem dX4_init_2_101 : decode cX4_init_2 101 = .ok (.invokevirtual 43, 3) := dk_182 0 43 (dk_at dksX4_init_2_4 8 rfl rfl)
theorem dX4_init_2_104 : decode cX4_init_2 104 = .ok (.checkcast 44, 3) := dk_192 0 44 (dk_at dksX4_init_2_4 11 rfl rfl)
theorem dX4_init_2_107 : decode cX4_init_2 107 = .ok (.putfield 21, 3) := dk_181 0 21 (dk_at dksX4_init_2_4 14 rfl rfl)
theorem dX4_init_2_110 : decode cX4_init_2 110 = .ok (.iconst 0, 1) := dk_3 (dk_at dksX4_init_2_4 17 rfl rfl)
theorem dX4_init_2_111 : decode cX4_init_2 111 = .ok (.istore_n 2, 1) := dk_61 (dk_at dksX4_init_2_4 18 rfl rfl)
theorem dX4_init_2_112 : decode cX4_init_2 112 = .ok (.iload_n 2, 1) := dk_28 (dk_at dksX4_init_2_4 19 rfl rfl)
theorem dX4_init_2_113 : decode cX4_init_2 113 = .ok (.aload_n 1, 1) := dk_43 (dk_at dksX4_init_2_4 20 rfl rfl)
theorem dX4_init_2_114 : decode cX4_init_2 114 = .ok (.getfield 30, 3) := dk_180 0 30 (dk_at dksX4_init_2_4 21 rfl rfl)
theorem dX4_init_2_117 : decode cX4_init_2 117 = .ok (.invokeinterface 45 1, 5) := by decide +kernel
theorem dX4_init_2_122 : decode cX4_init_2 122 = .ok (.if_icmp .ge 32, 3) := dk_162 0 32 (dk_at dksX4_init_2_5 5 rfl rfl)
theorem dX4_init_2_125 : decode cX4_init_2 125 = .ok (.aload_n 0, 1) := dk_42 (dk_at dksX4_init_2_5 8 rfl rfl)
theorem dX4_init_2_126 : decode cX4_init_2 126 = .ok (.getfield 30, 3) := dk_180 0 30 (dk_at dksX4_init_2_5 9 rfl rfl)
theorem dX4_init_2_129 : decode cX4_init_2 129 = .ok (.aload_n 1, 1) := dk_43 (dk_at dksX4_init_2_5 12 rfl rfl)
theorem dX4_init_2_130 : decode cX4_init_2 130 = .ok (.getfield 30, 3) := dk_180 0 30 (dk_at dksX4_init_2_5 13 rfl rfl)
theorem dX4_init_2_133 : decode cX4_init_2 133 = .ok (.iload_n 2, 1) := dk_28 (dk_at dksX4_init_2_5 16 rfl rfl)
theorem dX4_init_2_134 : decode cX4_init_2 134 = .ok (.invokeinterface 51 2, 5) := by decide +kernel
theorem dX4_init_2_139 : decode cX4_init_2 139 = .ok (.checkcast 55, 3) := dk_192 0 55 (dk_at dksX4_init_2_6 0 rfl rfl)
theorem dX4_init_2_142 : decode cX4_init_2 142 = .ok (.invokeinterface 57 2, 5) := by decide +kernel
theorem dX4_init_2_147 : decode cX4_init_2 147 = .ok (.pop, 1) := dk_87 (dk_at dksX4_init_2_6 8 rfl rfl)
theorem dX4_init_2_148 : decode cX4_init_2 148 = .ok (.iinc 2 1, 3) := dk_132 2 1 (dk_at dksX4_init_2_6 9 rfl rfl)
theorem dX4_init_2_151 : decode cX4_init_2 151 = .ok (.goto (-39), 3) := dk_167 255 217 (dk_at dksX4_init_2_6 12 rfl rfl)
theorem dX4_init_2_154 : decode cX4_init_2 154 = .ok (.aload_n 0, 1) := dk_42 (dk_at dksX4_init_2_6 15 rfl rfl)
theorem dX4_init_2_155 : decode cX4_init_2 155 = .ok (.aload_n 1, 1) := dk_43 (dk_at dksX4_init_2_6 16 rfl rfl)
theorem dX4_init_2_156 : decode cX4_init_2 156 = .ok (.getfield 61, 3) := dk_180 0 61 (dk_at dksX4_init_2_6 17 rfl rfl)
theorem dX4_init_2_159 : decode cX4_init_2 159 = .ok (.putfield 61, 3) := dk_181 0 61 (dk_at dksX4_init_2_6 20 rfl rfl)
theorem dX4_init_2_162 : decode cX4_init_2 162 = .ok (.aload_n 0, 1) := dk_42 (dk_at dksX4_init_2_6 23 rfl rfl)
theorem dX4_init_2_163 : decode cX4_init_2 163 = .ok (.aload_n 1, 1) := dk_43 (dk_at dksX4_init_2_7 0 rfl rfl)
theorem dX4_init_2_164 : decode cX4_init_2 164 = .ok (.getfield 34, 3) := dk_180 0 34 (dk_at dksX4_init_2_7 1 rfl rfl)
theorem dX4_init_2_167 : decode cX4_init_2 167 = .ok (.putfield 34, 3) := dk_181 0 34 (dk_at dksX4_init_2_7 4 rfl rfl)
theorem dX4_init_2_170 : decode cX4_init_2 170 = .ok (.aload_n 0, 1) := dk_42 (dk_at dksX4_init_2_7 7 rfl rfl)
theorem dX4_init_2_171 : decode cX4_init_2 171 = .ok (.aload_n 1, 1) := dk_43 (dk_at dksX4_init_2_7 8 rfl rfl)
theorem dX4_init_2_172 : decode cX4_init_2 172 = .ok (.getfield 64, 3) := dk_180 0 64 (dk_at dksX4_init_2_7 9 rfl rfl)
theorem dX4_init_2_175 : decode cX4_init_2 175 = .ok (.putfield 64, 3) := dk_181 0 64 (dk_at dksX4_init_2_7 12 rfl rfl)
theorem dX4_init_2_178 : decode cX4_init_2 178 = .ok (.aload_n 0, 1) := dk_42 (dk_at dksX4_init_2_7 15 rfl rfl)
theorem dX4_init_2_179 : decode cX4_init_2 179 = .ok (.aload_n 1, 1) := dk_43 (dk_at dksX4_init_2_7 16 rfl rfl)
theorem dX4_init_2_180 : decode cX4_init_2 180 = .ok (.getfield 67, 3) := dk_180 0 67 (dk_at dksX4_init_2_7 17 rfl rfl)
theorem dX4_init_2_183 : decode cX4_init_2 183 = .ok (.putfield 67, 3) := dk_181 0 67 (dk_at dksX4_init_2_7 20 rfl rfl)
theorem dX4_init_2_186 : decode cX4_init_2 186 = .ok (.aload_n 0, 1) := dk_42 (dk_at dksX4_init_2_7 23 rfl rfl)
theorem dX4_init_2_187 : decode cX4_init_2 187 = .ok (.aload_n 1, 1) := dk_43 (dk_at dksX4_init_2_8 0 rfl rfl)
theorem dX4_init_2_188 : decode cX4_init_2 188 = .ok (.getfield 70, 3) := dk_180 0 70 (dk_at dksX4_init_2_8 1 rfl rfl)
theorem dX4_init_2_191 : decode cX4_init_2 191 = .ok (.putfield 70, 3) := dk_181 0 70 (dk_at dksX4_init_2_8 4 rfl rfl)
theorem dX4_init_2_194 : decode cX4_init_2 194 = .ok (.aload_n 0, 1) := dk_42 (dk_at dksX4_init_2_8 7 rfl rfl)
theorem dX4_init_2_195 : decode cX4_init_2 195 = .ok (.aload_n 1, 1) := dk_43 (dk_at dksX4_init_2_8 8 rfl rfl)
theorem dX4_init_2_196 : decode cX4_init_2 196 = .ok (.getfield 73, 3) := dk_180 0 73 (dk_at dksX4_init_2_8 9 rfl rfl)
theorem dX4_init_2_199 : decode cX4_init_2 199 = .ok (.putfield 73, 3) := dk_181 0 73 (dk_at dksX4_init_2_8 12 rfl rfl)
theorem dX4_init_2_202 : decode cX4_init_2 202 = .ok (.aload_n 0, 1) := dk_42 (dk_at dksX4_init_2_8 15 rfl rfl)
theorem dX4_init_2_203 : decode cX4_init_2 203 = .ok (.aload_n 1, 1) := dk_43 (dk_at dksX4_init_2_8 16 rfl rfl)
theorem dX4_init_2_204 : decode cX4_init_2 204 = .ok (.getfield 76, 3) := dk_180 0 76 (dk_at dksX4_init_2_8 17 rfl rfl)
theorem dX4_init_2_207 : decode cX4_init_2 207 = .ok (.putfield 76, 3) := dk_181 0 76 (dk_at dksX4_init_2_8 20 rfl rfl)
theorem dX4_init_2_210 : decode cX4_init_2 210 = .ok (.aload_n 0, 1) := dk_42 (dk_at dksX4_init_2_8 23 rfl rfl)
theorem dX4_init_2_211 : decode cX4_init_2 211 = .ok (.aload_n 1, 1) := dk_43 (dk_at dksX4_init_2_9 0 rfl rfl)
theorem dX4_init_2_212 : decode cX4_init_2 212 = .ok (.getfield 79, 3) := dk_180 0 79 (dk_at dksX4_init_2_9 1 rfl rfl)
theorem dX4_init_2_215 : decode cX4_init_2 215 = .ok (.putfield 79, 3) := dk_181 0 79 (dk_at dksX4_init_2_9 4 rfl rfl)
theorem dX4_init_2_218 : decode cX4_init_2 218 = .ok (.aload_n 0, 1) := dk_42 (dk_at dksX4_init_2_9 7 rfl rfl)
theorem dX4_init_2_219 : decode cX4_init_2 219 = .ok (.aload_n 1, 1) := dk_43 (dk_at dksX4_init_2_9 8 rfl rfl)
theorem dX4_init_2_220 : decode cX4_init_2 220 = .ok (.getfield 82, 3) := dk_180 0 82 (dk_at dksX4_init_2_9 9 rfl rfl)
theorem dX4_init_2_223 : decode cX4_init_2 223 = .ok (.putfield 82, 3) := dk_181 0 82 (dk_at dksX4_init_2_9 12 rfl rfl)
theorem dX4_init_2_226 : decode cX4_init_2 226 = .ok (.aload_n 0, 1) := dk_42 (dk_at dksX4_init_2_9 15 rfl rfl)
theorem dX4_init_2_227 : decode cX4_init_2 227 = .ok (.aload_n 1, 1) := dk_43 (dk_at dksX4_init_2_9 16 rfl rfl)
theorem dX4_init_2_228 : decode cX4_init_2 228 = .ok (.getfield 85, 3) := dk_180 0 85 (dk_at dksX4_init_2_9 17 rfl rfl)
theorem dX4_init_2_231 : decode cX4_init_2 231 = .ok (.putfield 85, 3) := dk_181 0 85 (dk_at dksX4_init_2_9 20 rfl rfl)
theorem dX4_init_2_234 : decode cX4_init_2 234 = .ok (.aload_n 0, 1) := dk_42 (dk_at dksX4_init_2_9 23 rfl rfl)
theorem dX4_init_2_235 : decode cX4_init_2 235 = .ok (.aload_n 1, 1) := dk_43 (dk_at dksX4_init_2_10 0 rfl rfl)
theorem dX4_init_2_236 : decode cX4_init_2 236 = .ok (.getfield 88, 3) := dk_180 0 88 (dk_at dksX4_init_2_10 1 rfl rfl)
theorem dX4_init_2_239 : decode cX4_init_2 239 = .ok (.putfield 88, 3) := dk_181 0 88 (dk_at dksX4_init_2_10 4 rfl rfl)
theorem dX4_init_2_242 : decode cX4_init_2 242 = .ok (.aload_n 0, 1) := dk_42 (dk_at dksX4_init_2_10 7 rfl rfl)
theorem dX4_init_2_243 : decode cX4_init_2 243 = .ok (.aload_n 1, 1) := dk_43 (dk_at dksX4_init_2_10 8 rfl rfl)
theorem dX4_init_2_244 : decode cX4_init_2 244 = .ok (.getfield 91, 3) := dk_180 0 91 (dk_at dksX4_init_2_10 9 rfl rfl)
theorem dX4_init_2_247 : decode cX4_init_2 247 = .ok (.putfield 91, 3) := dk_181 0 91 (dk_at dksX4_init_2_10 12 rfl rfl)
theorem dX4_init_2_250 : decode cX4_init_2 250 = .ok (.return_, 1) := dk_177 (dk_at dksX4_init_2_10 15 rfl rfl)
abbrev cX4_drawsAll : ByteArray := prog_7_method_15_code
def yX4_drawsAll : MethodName := ⟨RX4, "drawsAll", "()I"⟩
def dkwX4_drawsAll_0 : List UInt8 := [3, 60, 42, 182, 0, 127, 153, 0, 9, 132, 1, 1, 167, 255, 246, 27, 172]
abbrev dktX4_drawsAll_0 : List UInt8 := dkwX4_drawsAll_0 ++ []
theorem dksX4_drawsAll_0 : cX4_drawsAll.data.toList.drop 0 = dktX4_drawsAll_0 := by decide +kernel
theorem dX4_drawsAll_0 : decode cX4_drawsAll 0 = .ok (.iconst 0, 1) := dk_3 (dk_at dksX4_drawsAll_0 0 rfl rfl)
theorem dX4_drawsAll_1 : decode cX4_drawsAll 1 = .ok (.istore_n 1, 1) := dk_60 (dk_at dksX4_drawsAll_0 1 rfl rfl)
theorem dX4_drawsAll_2 : decode cX4_drawsAll 2 = .ok (.aload_n 0, 1) := dk_42 (dk_at dksX4_drawsAll_0 2 rfl rfl)
theorem dX4_drawsAll_3 : decode cX4_drawsAll 3 = .ok (.invokevirtual 127, 3) := dk_182 0 127 (dk_at dksX4_drawsAll_0 3 rfl rfl)
theorem dX4_drawsAll_6 : decode cX4_drawsAll 6 = .ok (.ifCond .eq 9, 3) := dk_153 0 9 (dk_at dksX4_drawsAll_0 6 rfl rfl)
theorem dX4_drawsAll_9 : decode cX4_drawsAll 9 = .ok (.iinc 1 1, 3) := dk_132 1 1 (dk_at dksX4_drawsAll_0 9 rfl rfl)
theorem dX4_drawsAll_12 : decode cX4_drawsAll 12 = .ok (.goto (-10), 3) := dk_167 255 246 (dk_at dksX4_drawsAll_0 12 rfl rfl)
theorem dX4_drawsAll_15 : decode cX4_drawsAll 15 = .ok (.iload_n 1, 1) := dk_27 (dk_at dksX4_drawsAll_0 15 rfl rfl)
theorem dX4_drawsAll_16 : decode cX4_drawsAll 16 = .ok (.ireturn, 1) := dk_172 (dk_at dksX4_drawsAll_0 16 rfl rfl)
abbrev cX4_turnsStuck : ByteArray := prog_7_method_30_code
def yX4_turnsStuck : MethodName := ⟨RX4, "turnsStuck", "(I)I"⟩
def dkwX4_turnsStuck_1 : List UInt8 := [27, 51, 153, 0, 7, 3, 167, 0, 7, 42, 182, 0, 116, 172]
abbrev dktX4_turnsStuck_1 : List UInt8 := dkwX4_turnsStuck_1 ++ []
def dkwX4_turnsStuck_0 : List UInt8 := [42, 180, 0, 21, 27, 42, 180, 0, 21, 27, 51, 154, 0, 7, 4, 167, 0, 4, 3, 84, 42, 180, 0, 21]
abbrev dktX4_turnsStuck_0 : List UInt8 := dkwX4_turnsStuck_0 ++ dktX4_turnsStuck_1
theorem dksX4_turnsStuck_0 : cX4_turnsStuck.data.toList.drop 0 = dktX4_turnsStuck_0 := by decide +kernel
theorem dksX4_turnsStuck_1 : cX4_turnsStuck.data.toList.drop 24 = dktX4_turnsStuck_1 := dk_seg dksX4_turnsStuck_0 24 rfl rfl
theorem dX4_turnsStuck_0 : decode cX4_turnsStuck 0 = .ok (.aload_n 0, 1) := dk_42 (dk_at dksX4_turnsStuck_0 0 rfl rfl)
theorem dX4_turnsStuck_1 : decode cX4_turnsStuck 1 = .ok (.getfield 21, 3) := dk_180 0 21 (dk_at dksX4_turnsStuck_0 1 rfl rfl)
theorem dX4_turnsStuck_4 : decode cX4_turnsStuck 4 = .ok (.iload_n 1, 1) := dk_27 (dk_at dksX4_turnsStuck_0 4 rfl rfl)
theorem dX4_turnsStuck_5 : decode cX4_turnsStuck 5 = .ok (.aload_n 0, 1) := dk_42 (dk_at dksX4_turnsStuck_0 5 rfl rfl)
theorem dX4_turnsStuck_6 : decode cX4_turnsStuck 6 = .ok (.getfield 21, 3) := dk_180 0 21 (dk_at dksX4_turnsStuck_0 6 rfl rfl)
theorem dX4_turnsStuck_9 : decode cX4_turnsStuck 9 = .ok (.iload_n 1, 1) := dk_27 (dk_at dksX4_turnsStuck_0 9 rfl rfl)
theorem dX4_turnsStuck_10 : decode cX4_turnsStuck 10 = .ok (.baload, 1) := dk_51 (dk_at dksX4_turnsStuck_0 10 rfl rfl)
theorem dX4_turnsStuck_11 : decode cX4_turnsStuck 11 = .ok (.ifCond .ne 7, 3) := dk_154 0 7 (dk_at dksX4_turnsStuck_0 11 rfl rfl)
theorem dX4_turnsStuck_14 : decode cX4_turnsStuck 14 = .ok (.iconst 1, 1) := dk_4 (dk_at dksX4_turnsStuck_0 14 rfl rfl)
theorem dX4_turnsStuck_15 : decode cX4_turnsStuck 15 = .ok (.goto 4, 3) := dk_167 0 4 (dk_at dksX4_turnsStuck_0 15 rfl rfl)
theorem dX4_turnsStuck_18 : decode cX4_turnsStuck 18 = .ok (.iconst 0, 1) := dk_3 (dk_at dksX4_turnsStuck_0 18 rfl rfl)
theorem dX4_turnsStuck_19 : decode cX4_turnsStuck 19 = .ok (.bastore, 1) := dk_84 (dk_at dksX4_turnsStuck_0 19 rfl rfl)
theorem dX4_turnsStuck_20 : decode cX4_turnsStuck 20 = .ok (.aload_n 0, 1) := dk_42 (dk_at dksX4_turnsStuck_0 20 rfl rfl)
theorem dX4_turnsStuck_21 : decode cX4_turnsStuck 21 = .ok (.getfield 21, 3) := dk_180 0 21 (dk_at dksX4_turnsStuck_0 21 rfl rfl)
theorem dX4_turnsStuck_24 : decode cX4_turnsStuck 24 = .ok (.iload_n 1, 1) := dk_27 (dk_at dksX4_turnsStuck_1 0 rfl rfl)
theorem dX4_turnsStuck_25 : decode cX4_turnsStuck 25 = .ok (.baload, 1) := dk_51 (dk_at dksX4_turnsStuck_1 1 rfl rfl)
theorem dX4_turnsStuck_26 : decode cX4_turnsStuck 26 = .ok (.ifCond .eq 7, 3) := dk_153 0 7 (dk_at dksX4_turnsStuck_1 2 rfl rfl)
theorem dX4_turnsStuck_29 : decode cX4_turnsStuck 29 = .ok (.iconst 0, 1) := dk_3 (dk_at dksX4_turnsStuck_1 5 rfl rfl)
theorem dX4_turnsStuck_30 : decode cX4_turnsStuck 30 = .ok (.goto 7, 3) := dk_167 0 7 (dk_at dksX4_turnsStuck_1 6 rfl rfl)
theorem dX4_turnsStuck_33 : decode cX4_turnsStuck 33 = .ok (.aload_n 0, 1) := dk_42 (dk_at dksX4_turnsStuck_1 9 rfl rfl)
theorem dX4_turnsStuck_34 : decode cX4_turnsStuck 34 = .ok (.invokevirtual 116, 3) := dk_182 0 116 (dk_at dksX4_turnsStuck_1 10 rfl rfl)
theorem dX4_turnsStuck_37 : decode cX4_turnsStuck 37 = .ok (.ireturn, 1) := dk_172 (dk_at dksX4_turnsStuck_1 13 rfl rfl)
theorem q108 : (Jvm.Cond.initialized "PingEye$Silo") ∈ lw_all := lw_g (lw_at lw_m1 14 rfl) rfl
theorem q354 : (Jvm.Cond.instantiable "PingEye$Silo" (17 : Nat)) ∈ lw_all := lw_g (lw_at lw_m2 20 rfl) rfl
theorem q356 : (Jvm.Cond.instanceMethod ({ cls := "PingEye$Silo", name := "<init>", desc := "()V" } : Jvm.MethodName)) ∈ lw_all := lw_g (lw_at lw_m2 22 rfl) rfl
theorem q357 : (Jvm.Cond.code ({ cls := "PingEye$Silo", name := "<init>", desc := "()V" } : Jvm.MethodName) prog_7_method_1_code (1 : Nat) (Option.none : Option Jvm.ClassFile.FieldType)) ∈ lw_all := lw_g (lw_at lw_m2 23 rfl) rfl
theorem q358 : (Jvm.Cond.methodLink "PingEye$Silo" (3 : Nat) ({ cls := "java/lang/Object", name := "<init>", desc := "()V" } : Jvm.MethodName)) ∈ lw_all := lw_g (lw_at lw_m2 24 rfl) rfl
theorem q359 : (Jvm.Cond.classLink "PingEye$Silo" (25 : Nat) "java/util/ArrayList") ∈ lw_all := lw_g (lw_at lw_m2 25 rfl) rfl
theorem q361 : (Jvm.Cond.methodLink "PingEye$Silo" (27 : Nat) ({ cls := "java/util/ArrayList", name := "<init>", desc := "(I)V" } : Jvm.MethodName)) ∈ lw_all := lw_g (lw_at lw_m2 27 rfl) rfl
theorem q644 : (Jvm.Cond.fieldLink "PingEye$Silo" (9 : Nat) "PingEye$Silo" "numbers" "[I") ∈ lw_all := lw_g (lw_at lw_m3 70 rfl) rfl
theorem q647 : (Jvm.Cond.fieldLink "PingEye$Silo" (15 : Nat) "PingEye$Silo" "heights" "[I") ∈ lw_all := lw_g (lw_at lw_m3 73 rfl) rfl
theorem q650 : (Jvm.Cond.fieldLink "PingEye$Silo" (18 : Nat) "PingEye$Silo" "mask" "[I") ∈ lw_all := lw_g (lw_at lw_m3 76 rfl) rfl
theorem q652 : (Jvm.Cond.fieldLink "PingEye$Silo" (21 : Nat) "PingEye$Silo" "isStuck" "[Z") ∈ lw_all := lw_g (lw_at lw_m3 78 rfl) rfl
theorem q655 : (Jvm.Cond.fieldLink "PingEye$Silo" (30 : Nat) "PingEye$Silo" "bars" "Ljava/util/List;") ∈ lw_all := lw_g (lw_at lw_m3 81 rfl) rfl
theorem q658 : (Jvm.Cond.fieldLink "PingEye$Silo" (61 : Nat) "PingEye$Silo" "dust" "I") ∈ lw_all := lw_g (lw_at lw_m3 84 rfl) rfl
theorem q661 : (Jvm.Cond.fieldLink "PingEye$Silo" (34 : Nat) "PingEye$Silo" "level" "I") ∈ lw_all := lw_g (lw_at lw_m3 87 rfl) rfl
theorem q663 : (Jvm.Cond.fieldLink "PingEye$Silo" (64 : Nat) "PingEye$Silo" "doubt" "I") ∈ lw_all := lw_g (lw_at lw_m3 89 rfl) rfl
theorem q665 : (Jvm.Cond.fieldLink "PingEye$Silo" (67 : Nat) "PingEye$Silo" "pings" "I") ∈ lw_all := lw_g (lw_at lw_m3 91 rfl) rfl
theorem q667 : (Jvm.Cond.fieldLink "PingEye$Silo" (70 : Nat) "PingEye$Silo" "lost" "I") ∈ lw_all := lw_g (lw_at lw_m3 93 rfl) rfl
theorem q669 : (Jvm.Cond.fieldLink "PingEye$Silo" (73 : Nat) "PingEye$Silo" "filled" "I") ∈ lw_all := lw_g (lw_at lw_m3 95 rfl) rfl
theorem q671 : (Jvm.Cond.fieldLink "PingEye$Silo" (76 : Nat) "PingEye$Silo" "spilled" "I") ∈ lw_all := lw_g (lw_at lw_m3 97 rfl) rfl
theorem q673 : (Jvm.Cond.fieldLink "PingEye$Silo" (79 : Nat) "PingEye$Silo" "drawn" "I") ∈ lw_all := lw_g (lw_at lw_m3 99 rfl) rfl
theorem q675 : (Jvm.Cond.fieldLink "PingEye$Silo" (82 : Nat) "PingEye$Silo" "dry" "I") ∈ lw_all := lw_g (lw_at lw_m3 101 rfl) rfl
theorem q677 : (Jvm.Cond.fieldLink "PingEye$Silo" (85 : Nat) "PingEye$Silo" "slid" "I") ∈ lw_all := lw_g (lw_at lw_m3 103 rfl) rfl
theorem q679 : (Jvm.Cond.fieldLink "PingEye$Silo" (88 : Nat) "PingEye$Silo" "told" "I") ∈ lw_all := lw_g (lw_at lw_m3 105 rfl) rfl
theorem q681 : (Jvm.Cond.fieldLink "PingEye$Silo" (91 : Nat) "PingEye$Silo" "doubted" "I") ∈ lw_all := lw_g (lw_at lw_m3 107 rfl) rfl
theorem q683 : (Jvm.Cond.lays "PingEye$Silo" "PingEye$Silo" "numbers" "[I") ∈ lw_all := lw_g (lw_at lw_m3 109 rfl) rfl
theorem q684 : (Jvm.Cond.soleField "PingEye$Silo" "numbers") ∈ lw_all := lw_g (lw_at lw_m3 110 rfl) rfl
theorem q685 : (Jvm.Cond.lays "PingEye$Silo" "PingEye$Silo" "heights" "[I") ∈ lw_all := lw_g (lw_at lw_m3 111 rfl) rfl
theorem q686 : (Jvm.Cond.soleField "PingEye$Silo" "heights") ∈ lw_all := lw_g (lw_at lw_m3 112 rfl) rfl
theorem q687 : (Jvm.Cond.lays "PingEye$Silo" "PingEye$Silo" "mask" "[I") ∈ lw_all := lw_g (lw_at lw_m3 113 rfl) rfl
theorem q688 : (Jvm.Cond.soleField "PingEye$Silo" "mask") ∈ lw_all := lw_g (lw_at lw_m3 114 rfl) rfl
theorem q689 : (Jvm.Cond.lays "PingEye$Silo" "PingEye$Silo" "isStuck" "[Z") ∈ lw_all := lw_g (lw_at lw_m3 115 rfl) rfl
theorem q690 : (Jvm.Cond.soleField "PingEye$Silo" "isStuck") ∈ lw_all := lw_g (lw_at lw_m3 116 rfl) rfl
theorem q691 : (Jvm.Cond.laysFinal "PingEye$Silo" "PingEye$Silo" "bars" "Ljava/util/List;") ∈ lw_all := lw_g (lw_at lw_m3 117 rfl) rfl
theorem q692 : (Jvm.Cond.soleField "PingEye$Silo" "bars") ∈ lw_all := lw_g (lw_at lw_m3 118 rfl) rfl
theorem q693 : (Jvm.Cond.lays "PingEye$Silo" "PingEye$Silo" "dust" "I") ∈ lw_all := lw_g (lw_at lw_m3 119 rfl) rfl
theorem q694 : (Jvm.Cond.soleField "PingEye$Silo" "dust") ∈ lw_all := lw_g (lw_at lw_m3 120 rfl) rfl
theorem q695 : (Jvm.Cond.lays "PingEye$Silo" "PingEye$Silo" "level" "I") ∈ lw_all := lw_g (lw_at lw_m3 121 rfl) rfl
theorem q696 : (Jvm.Cond.soleField "PingEye$Silo" "level") ∈ lw_all := lw_g (lw_at lw_m3 122 rfl) rfl
theorem q697 : (Jvm.Cond.lays "PingEye$Silo" "PingEye$Silo" "doubt" "I") ∈ lw_all := lw_g (lw_at lw_m3 123 rfl) rfl
theorem q698 : (Jvm.Cond.soleField "PingEye$Silo" "doubt") ∈ lw_all := lw_g (lw_at lw_m3 124 rfl) rfl
theorem q699 : (Jvm.Cond.lays "PingEye$Silo" "PingEye$Silo" "pings" "I") ∈ lw_all := lw_g (lw_at lw_m3 125 rfl) rfl
theorem q700 : (Jvm.Cond.soleField "PingEye$Silo" "pings") ∈ lw_all := lw_g (lw_at lw_m3 126 rfl) rfl
theorem q701 : (Jvm.Cond.lays "PingEye$Silo" "PingEye$Silo" "lost" "I") ∈ lw_all := lw_g (lw_at lw_m3 127 rfl) rfl
theorem q702 : (Jvm.Cond.soleField "PingEye$Silo" "lost") ∈ lw_all := lw_g (lw_at lw_m3 128 rfl) rfl
theorem q703 : (Jvm.Cond.lays "PingEye$Silo" "PingEye$Silo" "filled" "I") ∈ lw_all := lw_g (lw_at lw_m3 129 rfl) rfl
theorem q704 : (Jvm.Cond.soleField "PingEye$Silo" "filled") ∈ lw_all := lw_g (lw_at lw_m3 130 rfl) rfl
theorem q705 : (Jvm.Cond.lays "PingEye$Silo" "PingEye$Silo" "spilled" "I") ∈ lw_all := lw_g (lw_at lw_m3 131 rfl) rfl
theorem q706 : (Jvm.Cond.soleField "PingEye$Silo" "spilled") ∈ lw_all := lw_g (lw_at lw_m3 132 rfl) rfl
theorem q707 : (Jvm.Cond.lays "PingEye$Silo" "PingEye$Silo" "drawn" "I") ∈ lw_all := lw_g (lw_at lw_m3 133 rfl) rfl
theorem q708 : (Jvm.Cond.soleField "PingEye$Silo" "drawn") ∈ lw_all := lw_g (lw_at lw_m3 134 rfl) rfl
theorem q709 : (Jvm.Cond.lays "PingEye$Silo" "PingEye$Silo" "dry" "I") ∈ lw_all := lw_g (lw_at lw_m3 135 rfl) rfl
theorem q710 : (Jvm.Cond.soleField "PingEye$Silo" "dry") ∈ lw_all := lw_g (lw_at lw_m3 136 rfl) rfl
theorem q711 : (Jvm.Cond.lays "PingEye$Silo" "PingEye$Silo" "slid" "I") ∈ lw_all := lw_g (lw_at lw_m3 137 rfl) rfl
theorem q712 : (Jvm.Cond.soleField "PingEye$Silo" "slid") ∈ lw_all := lw_g (lw_at lw_m3 138 rfl) rfl
theorem q713 : (Jvm.Cond.lays "PingEye$Silo" "PingEye$Silo" "told" "I") ∈ lw_all := lw_g (lw_at lw_m3 139 rfl) rfl
theorem q714 : (Jvm.Cond.soleField "PingEye$Silo" "told") ∈ lw_all := lw_g (lw_at lw_m3 140 rfl) rfl
theorem q715 : (Jvm.Cond.lays "PingEye$Silo" "PingEye$Silo" "doubted" "I") ∈ lw_all := lw_g (lw_at lw_m3 141 rfl) rfl
theorem q716 : (Jvm.Cond.soleField "PingEye$Silo" "doubted") ∈ lw_all := lw_g (lw_at lw_m3 142 rfl) rfl
theorem q717 : (Jvm.Cond.superclass "PingEye$Silo" "java/lang/Object") ∈ lw_all := lw_g (lw_at lw_m3 143 rfl) rfl
theorem q851 : (Jvm.Cond.instanceMethod ({ cls := "PingEye$Silo", name := "many", desc := "()I" } : Jvm.MethodName)) ∈ lw_all := lw_g (lw_at lw_m4 37 rfl) rfl
theorem q852 : (Jvm.Cond.selects "PingEye$Silo" ({ cls := "PingEye$Silo", name := "many", desc := "()I" } : Jvm.MethodName) ({ cls := "PingEye$Silo", name := "many", desc := "()I" } : Jvm.MethodName)) ∈ lw_all := lw_g (lw_at lw_m4 38 rfl) rfl
theorem q853 : (Jvm.Cond.code ({ cls := "PingEye$Silo", name := "many", desc := "()I" } : Jvm.MethodName) prog_7_method_3_code (1 : Nat) (Option.some Jvm.ClassFile.FieldType.int)) ∈ lw_all := lw_g (lw_at lw_m4 39 rfl) rfl
theorem q956 : (Jvm.Cond.instanceMethod ({ cls := "PingEye$Silo", name := "depth", desc := "()I" } : Jvm.MethodName)) ∈ lw_all := lw_g (lw_at lw_m4 142 rfl) rfl
theorem q957 : (Jvm.Cond.selects "PingEye$Silo" ({ cls := "PingEye$Silo", name := "depth", desc := "()I" } : Jvm.MethodName) ({ cls := "PingEye$Silo", name := "depth", desc := "()I" } : Jvm.MethodName)) ∈ lw_all := lw_g (lw_at lw_m4 143 rfl) rfl
theorem q958 : (Jvm.Cond.code ({ cls := "PingEye$Silo", name := "depth", desc := "()I" } : Jvm.MethodName) prog_7_method_4_code (1 : Nat) (Option.some Jvm.ClassFile.FieldType.int)) ∈ lw_all := lw_g (lw_at lw_m4 144 rfl) rfl
theorem q960 : (Jvm.Cond.instanceMethod ({ cls := "PingEye$Silo", name := "heaps", desc := "(II)V" } : Jvm.MethodName)) ∈ lw_all := lw_g (lw_at lw_m4 146 rfl) rfl
theorem q961 : (Jvm.Cond.selects "PingEye$Silo" ({ cls := "PingEye$Silo", name := "heaps", desc := "(II)V" } : Jvm.MethodName) ({ cls := "PingEye$Silo", name := "heaps", desc := "(II)V" } : Jvm.MethodName)) ∈ lw_all := lw_g (lw_at lw_m4 147 rfl) rfl
theorem q962 : (Jvm.Cond.code ({ cls := "PingEye$Silo", name := "heaps", desc := "(II)V" } : Jvm.MethodName) prog_7_method_16_code (5 : Nat) (Option.none : Option Jvm.ClassFile.FieldType)) ∈ lw_all := lw_g (lw_at lw_m4 148 rfl) rfl
theorem q963 : (Jvm.Cond.methodLink "PingEye$Silo" (107 : Nat) ({ cls := "PingEye$Silo", name := "depth", desc := "()I" } : Jvm.MethodName)) ∈ lw_all := lw_g (lw_at lw_m4 149 rfl) rfl
theorem q964 : (Jvm.Cond.methodLink "PingEye$Silo" (110 : Nat) ({ cls := "java/lang/Math", name := "min", desc := "(II)I" } : Jvm.MethodName)) ∈ lw_all := lw_g (lw_at lw_m4 150 rfl) rfl
theorem q965 : (Jvm.Cond.methodLink "PingEye$Silo" (116 : Nat) ({ cls := "PingEye$Silo", name := "slides", desc := "()I" } : Jvm.MethodName)) ∈ lw_all := lw_g (lw_at lw_m4 151 rfl) rfl
theorem q966 : (Jvm.Cond.instanceMethod ({ cls := "PingEye$Silo", name := "slides", desc := "()I" } : Jvm.MethodName)) ∈ lw_all := lw_g (lw_at lw_m4 152 rfl) rfl
theorem q967 : (Jvm.Cond.selects "PingEye$Silo" ({ cls := "PingEye$Silo", name := "slides", desc := "()I" } : Jvm.MethodName) ({ cls := "PingEye$Silo", name := "slides", desc := "()I" } : Jvm.MethodName)) ∈ lw_all := lw_g (lw_at lw_m4 153 rfl) rfl
theorem q968 : (Jvm.Cond.code ({ cls := "PingEye$Silo", name := "slides", desc := "()I" } : Jvm.MethodName) prog_7_method_9_code (4 : Nat) (Option.some Jvm.ClassFile.FieldType.int)) ∈ lw_all := lw_g (lw_at lw_m4 154 rfl) rfl
theorem q969 : (Jvm.Cond.methodLink "PingEye$Silo" (104 : Nat) ({ cls := "PingEye$Silo", name := "firstToSlide", desc := "()I" } : Jvm.MethodName)) ∈ lw_all := lw_g (lw_at lw_m4 155 rfl) rfl
theorem q970 : (Jvm.Cond.privateMethod ({ cls := "PingEye$Silo", name := "firstToSlide", desc := "()I" } : Jvm.MethodName)) ∈ lw_tbl := lw_at lw_m4 156 rfl
theorem q971 : (Jvm.Cond.instanceMethod ({ cls := "PingEye$Silo", name := "firstToSlide", desc := "()I" } : Jvm.MethodName)) ∈ lw_all := lw_g (lw_at lw_m4 157 rfl) rfl
theorem q972 : (Jvm.Cond.code ({ cls := "PingEye$Silo", name := "firstToSlide", desc := "()I" } : Jvm.MethodName) prog_7_method_8_code (2 : Nat) (Option.some Jvm.ClassFile.FieldType.int)) ∈ lw_all := lw_g (lw_at lw_m4 158 rfl) rfl
theorem q973 : (Jvm.Cond.methodLink "PingEye$Silo" (94 : Nat) ({ cls := "PingEye$Silo", name := "many", desc := "()I" } : Jvm.MethodName)) ∈ lw_all := lw_g (lw_at lw_m4 159 rfl) rfl
theorem q974 : (Jvm.Cond.methodLink "PingEye$Silo" (101 : Nat) ({ cls := "PingEye$Silo", name := "slideTo", desc := "(I)I" } : Jvm.MethodName)) ∈ lw_all := lw_g (lw_at lw_m4 160 rfl) rfl
theorem q975 : (Jvm.Cond.instanceMethod ({ cls := "PingEye$Silo", name := "slideTo", desc := "(I)I" } : Jvm.MethodName)) ∈ lw_all := lw_g (lw_at lw_m4 161 rfl) rfl
theorem q976 : (Jvm.Cond.selects "PingEye$Silo" ({ cls := "PingEye$Silo", name := "slideTo", desc := "(I)I" } : Jvm.MethodName) ({ cls := "PingEye$Silo", name := "slideTo", desc := "(I)I" } : Jvm.MethodName)) ∈ lw_all := lw_g (lw_at lw_m4 162 rfl) rfl
theorem q977 : (Jvm.Cond.code ({ cls := "PingEye$Silo", name := "slideTo", desc := "(I)I" } : Jvm.MethodName) prog_7_method_7_code (3 : Nat) (Option.some Jvm.ClassFile.FieldType.int)) ∈ lw_all := lw_g (lw_at lw_m4 163 rfl) rfl
theorem q978 : (Jvm.Cond.methodLink "PingEye$Silo" (97 : Nat) ({ cls := "PingEye$Silo", name := "lowerBeside", desc := "(I)I" } : Jvm.MethodName)) ∈ lw_all := lw_g (lw_at lw_m4 164 rfl) rfl
theorem q979 : (Jvm.Cond.privateMethod ({ cls := "PingEye$Silo", name := "lowerBeside", desc := "(I)I" } : Jvm.MethodName)) ∈ lw_tbl := lw_at lw_m4 165 rfl
theorem q980 : (Jvm.Cond.instanceMethod ({ cls := "PingEye$Silo", name := "lowerBeside", desc := "(I)I" } : Jvm.MethodName)) ∈ lw_all := lw_g (lw_at lw_m4 166 rfl) rfl
theorem q981 : (Jvm.Cond.code ({ cls := "PingEye$Silo", name := "lowerBeside", desc := "(I)I" } : Jvm.MethodName) prog_7_method_6_code (2 : Nat) (Option.some Jvm.ClassFile.FieldType.int)) ∈ lw_all := lw_g (lw_at lw_m4 167 rfl) rfl
theorem q1045 : (Jvm.Cond.fieldLinkNest "PingEye$Silo" (146 : Nat) "PingEye$Bar" "way" "I" "PingEye") ∈ lw_tbl := lw_at lw_m4 231 rfl
theorem q1048 : (Jvm.Cond.fieldLinkNest "PingEye$Silo" (149 : Nat) "PingEye$Bar" "strength" "I" "PingEye") ∈ lw_tbl := lw_at lw_m4 234 rfl
theorem q1090 : (Jvm.Cond.selects "PingEye$Silo" ({ cls := "java/lang/Object", name := "getClass", desc := "()Ljava/lang/Class;" } : Jvm.MethodName) ({ cls := "java/lang/Object", name := "getClass", desc := "()Ljava/lang/Class;" } : Jvm.MethodName)) ∈ lw_all := lw_g (lw_at lw_m5 36 rfl) rfl
theorem q1115 : (Jvm.Cond.instanceMethod ({ cls := "PingEye$Silo", name := "fills", desc := "(II)I" } : Jvm.MethodName)) ∈ lw_all := lw_g (lw_at lw_m5 61 rfl) rfl
theorem q1116 : (Jvm.Cond.selects "PingEye$Silo" ({ cls := "PingEye$Silo", name := "fills", desc := "(II)I" } : Jvm.MethodName) ({ cls := "PingEye$Silo", name := "fills", desc := "(II)I" } : Jvm.MethodName)) ∈ lw_all := lw_g (lw_at lw_m5 62 rfl) rfl
theorem q1117 : (Jvm.Cond.code ({ cls := "PingEye$Silo", name := "fills", desc := "(II)I" } : Jvm.MethodName) prog_7_method_12_code (5 : Nat) (Option.some Jvm.ClassFile.FieldType.int)) ∈ lw_all := lw_g (lw_at lw_m5 63 rfl) rfl
theorem q1118 : (Jvm.Cond.methodLink "PingEye$Silo" (119 : Nat) ({ cls := "PingEye$Silo", name := "fillsOne", desc := "(I)Z" } : Jvm.MethodName)) ∈ lw_all := lw_g (lw_at lw_m5 64 rfl) rfl
theorem q1119 : (Jvm.Cond.privateMethod ({ cls := "PingEye$Silo", name := "fillsOne", desc := "(I)Z" } : Jvm.MethodName)) ∈ lw_tbl := lw_at lw_m5 65 rfl
theorem q1120 : (Jvm.Cond.instanceMethod ({ cls := "PingEye$Silo", name := "fillsOne", desc := "(I)Z" } : Jvm.MethodName)) ∈ lw_all := lw_g (lw_at lw_m5 66 rfl) rfl
theorem q1121 : (Jvm.Cond.code ({ cls := "PingEye$Silo", name := "fillsOne", desc := "(I)Z" } : Jvm.MethodName) prog_7_method_11_code (3 : Nat) (Option.some Jvm.ClassFile.FieldType.boolean)) ∈ lw_all := lw_g (lw_at lw_m5 67 rfl) rfl
theorem q1122 : (Jvm.Cond.methodLinkNest "PingEye$Silo" (123 : Nat) ({ cls := "PingEye", name := "one", desc := "(Z)I" } : Jvm.MethodName) "PingEye") ∈ lw_tbl := lw_at lw_m5 68 rfl
theorem q1130 : (Jvm.Cond.instanceMethod ({ cls := "PingEye$Silo", name := "draws", desc := "(I)I" } : Jvm.MethodName)) ∈ lw_all := lw_g (lw_at lw_m5 76 rfl) rfl
theorem q1131 : (Jvm.Cond.selects "PingEye$Silo" ({ cls := "PingEye$Silo", name := "draws", desc := "(I)I" } : Jvm.MethodName) ({ cls := "PingEye$Silo", name := "draws", desc := "(I)I" } : Jvm.MethodName)) ∈ lw_all := lw_g (lw_at lw_m5 77 rfl) rfl
theorem q1132 : (Jvm.Cond.code ({ cls := "PingEye$Silo", name := "draws", desc := "(I)I" } : Jvm.MethodName) prog_7_method_14_code (4 : Nat) (Option.some Jvm.ClassFile.FieldType.int)) ∈ lw_all := lw_g (lw_at lw_m5 78 rfl) rfl
theorem q1133 : (Jvm.Cond.methodLink "PingEye$Silo" (127 : Nat) ({ cls := "PingEye$Silo", name := "drawsOne", desc := "()Z" } : Jvm.MethodName)) ∈ lw_all := lw_g (lw_at lw_m5 79 rfl) rfl
theorem q1134 : (Jvm.Cond.privateMethod ({ cls := "PingEye$Silo", name := "drawsOne", desc := "()Z" } : Jvm.MethodName)) ∈ lw_tbl := lw_at lw_m5 80 rfl
theorem q1135 : (Jvm.Cond.instanceMethod ({ cls := "PingEye$Silo", name := "drawsOne", desc := "()Z" } : Jvm.MethodName)) ∈ lw_all := lw_g (lw_at lw_m5 81 rfl) rfl
theorem q1136 : (Jvm.Cond.code ({ cls := "PingEye$Silo", name := "drawsOne", desc := "()Z" } : Jvm.MethodName) prog_7_method_13_code (2 : Nat) (Option.some Jvm.ClassFile.FieldType.boolean)) ∈ lw_all := lw_g (lw_at lw_m5 82 rfl) rfl
theorem q1138 : (Jvm.Cond.instanceMethod ({ cls := "PingEye$Silo", name := "pings", desc := "()I" } : Jvm.MethodName)) ∈ lw_all := lw_g (lw_at lw_m5 84 rfl) rfl
theorem q1139 : (Jvm.Cond.selects "PingEye$Silo" ({ cls := "PingEye$Silo", name := "pings", desc := "()I" } : Jvm.MethodName) ({ cls := "PingEye$Silo", name := "pings", desc := "()I" } : Jvm.MethodName)) ∈ lw_all := lw_g (lw_at lw_m5 85 rfl) rfl
theorem q1140 : (Jvm.Cond.code ({ cls := "PingEye$Silo", name := "pings", desc := "()I" } : Jvm.MethodName) prog_7_method_28_code (2 : Nat) (Option.some Jvm.ClassFile.FieldType.int)) ∈ lw_all := lw_g (lw_at lw_m5 86 rfl) rfl
theorem q1141 : (Jvm.Cond.methodLink "PingEye$Silo" (198 : Nat) ({ cls := "PingEye$Silo", name := "chosenWay", desc := "()I" } : Jvm.MethodName)) ∈ lw_all := lw_g (lw_at lw_m5 87 rfl) rfl
theorem q1142 : (Jvm.Cond.instanceMethod ({ cls := "PingEye$Silo", name := "chosenWay", desc := "()I" } : Jvm.MethodName)) ∈ lw_all := lw_g (lw_at lw_m5 88 rfl) rfl
theorem q1143 : (Jvm.Cond.selects "PingEye$Silo" ({ cls := "PingEye$Silo", name := "chosenWay", desc := "()I" } : Jvm.MethodName) ({ cls := "PingEye$Silo", name := "chosenWay", desc := "()I" } : Jvm.MethodName)) ∈ lw_all := lw_g (lw_at lw_m5 89 rfl) rfl
theorem q1144 : (Jvm.Cond.code ({ cls := "PingEye$Silo", name := "chosenWay", desc := "()I" } : Jvm.MethodName) prog_7_method_26_code (2 : Nat) (Option.some Jvm.ClassFile.FieldType.int)) ∈ lw_all := lw_g (lw_at lw_m5 90 rfl) rfl
theorem q1145 : (Jvm.Cond.methodLink "PingEye$Silo" (192 : Nat) ({ cls := "PingEye$Silo", name := "chosen", desc := "()LPingEye$Echo;" } : Jvm.MethodName)) ∈ lw_all := lw_g (lw_at lw_m5 91 rfl) rfl
theorem q1146 : (Jvm.Cond.instanceMethod ({ cls := "PingEye$Silo", name := "chosen", desc := "()LPingEye$Echo;" } : Jvm.MethodName)) ∈ lw_all := lw_g (lw_at lw_m5 92 rfl) rfl
theorem q1147 : (Jvm.Cond.selects "PingEye$Silo" ({ cls := "PingEye$Silo", name := "chosen", desc := "()LPingEye$Echo;" } : Jvm.MethodName) ({ cls := "PingEye$Silo", name := "chosen", desc := "()LPingEye$Echo;" } : Jvm.MethodName)) ∈ lw_all := lw_g (lw_at lw_m5 93 rfl) rfl
theorem q1148 : (Jvm.Cond.code ({ cls := "PingEye$Silo", name := "chosen", desc := "()LPingEye$Echo;" } : Jvm.MethodName) prog_7_method_25_code (4 : Nat) (Option.some (Jvm.ClassFile.FieldType.object "PingEye$Echo"))) ∈ lw_all := lw_g (lw_at lw_m5 94 rfl) rfl
theorem q1149 : (Jvm.Cond.methodLink "PingEye$Silo" (170 : Nat) ({ cls := "PingEye$Silo", name := "heard", desc := "()Ljava/util/List;" } : Jvm.MethodName)) ∈ lw_all := lw_g (lw_at lw_m5 95 rfl) rfl
theorem q1150 : (Jvm.Cond.instanceMethod ({ cls := "PingEye$Silo", name := "heard", desc := "()Ljava/util/List;" } : Jvm.MethodName)) ∈ lw_all := lw_g (lw_at lw_m5 96 rfl) rfl
theorem q1151 : (Jvm.Cond.selects "PingEye$Silo" ({ cls := "PingEye$Silo", name := "heard", desc := "()Ljava/util/List;" } : Jvm.MethodName) ({ cls := "PingEye$Silo", name := "heard", desc := "()Ljava/util/List;" } : Jvm.MethodName)) ∈ lw_all := lw_g (lw_at lw_m5 97 rfl) rfl
theorem q1152 : (Jvm.Cond.code ({ cls := "PingEye$Silo", name := "heard", desc := "()Ljava/util/List;" } : Jvm.MethodName) prog_7_method_24_code (5 : Nat) (Option.some (Jvm.ClassFile.FieldType.object "java/util/List"))) ∈ lw_all := lw_g (lw_at lw_m5 98 rfl) rfl
theorem q1153 : (Jvm.Cond.methodLink "PingEye$Silo" (134 : Nat) ({ cls := "PingEye$Silo", name := "heapWay", desc := "()I" } : Jvm.MethodName)) ∈ lw_all := lw_g (lw_at lw_m5 99 rfl) rfl
theorem q1154 : (Jvm.Cond.instanceMethod ({ cls := "PingEye$Silo", name := "heapWay", desc := "()I" } : Jvm.MethodName)) ∈ lw_all := lw_g (lw_at lw_m5 100 rfl) rfl
theorem q1155 : (Jvm.Cond.selects "PingEye$Silo" ({ cls := "PingEye$Silo", name := "heapWay", desc := "()I" } : Jvm.MethodName) ({ cls := "PingEye$Silo", name := "heapWay", desc := "()I" } : Jvm.MethodName)) ∈ lw_all := lw_g (lw_at lw_m5 101 rfl) rfl
theorem q1156 : (Jvm.Cond.code ({ cls := "PingEye$Silo", name := "heapWay", desc := "()I" } : Jvm.MethodName) prog_7_method_18_code (1 : Nat) (Option.some Jvm.ClassFile.FieldType.int)) ∈ lw_all := lw_g (lw_at lw_m5 102 rfl) rfl
theorem q1157 : (Jvm.Cond.methodLink "PingEye$Silo" (131 : Nat) ({ cls := "PingEye$Silo", name := "heapLevel", desc := "()I" } : Jvm.MethodName)) ∈ lw_all := lw_g (lw_at lw_m5 103 rfl) rfl
theorem q1158 : (Jvm.Cond.instanceMethod ({ cls := "PingEye$Silo", name := "heapLevel", desc := "()I" } : Jvm.MethodName)) ∈ lw_all := lw_g (lw_at lw_m5 104 rfl) rfl
theorem q1159 : (Jvm.Cond.selects "PingEye$Silo" ({ cls := "PingEye$Silo", name := "heapLevel", desc := "()I" } : Jvm.MethodName) ({ cls := "PingEye$Silo", name := "heapLevel", desc := "()I" } : Jvm.MethodName)) ∈ lw_all := lw_g (lw_at lw_m5 105 rfl) rfl
theorem q1160 : (Jvm.Cond.code ({ cls := "PingEye$Silo", name := "heapLevel", desc := "()I" } : Jvm.MethodName) prog_7_method_17_code (1 : Nat) (Option.some Jvm.ClassFile.FieldType.int)) ∈ lw_all := lw_g (lw_at lw_m5 106 rfl) rfl
theorem q1161 : (Jvm.Cond.interfaceEntry "PingEye$Silo" (45 : Nat)) ∈ lw_tbl := lw_at lw_m5 107 rfl
theorem q1162 : (Jvm.Cond.methodLink "PingEye$Silo" (45 : Nat) ({ cls := "java/util/List", name := "size", desc := "()I" } : Jvm.MethodName)) ∈ lw_all := lw_g (lw_at lw_m5 108 rfl) rfl
theorem q1163 : (Jvm.Cond.interfaceEntry "PingEye$Silo" (51 : Nat)) ∈ lw_tbl := lw_at lw_m5 109 rfl
theorem q1164 : (Jvm.Cond.methodLink "PingEye$Silo" (51 : Nat) ({ cls := "java/util/List", name := "get", desc := "(I)Ljava/lang/Object;" } : Jvm.MethodName)) ∈ lw_all := lw_g (lw_at lw_m5 110 rfl) rfl
theorem q1180 : (Jvm.Cond.classLink "PingEye$Silo" (55 : Nat) "PingEye$Bar") ∈ lw_all := lw_g (lw_at lw_m5 126 rfl) rfl
theorem q1181 : (Jvm.Cond.methodLink "PingEye$Silo" (159 : Nat) ({ cls := "PingEye$Silo", name := "barEcho", desc := "(LPingEye$Bar;)LPingEye$Echo;" } : Jvm.MethodName)) ∈ lw_all := lw_g (lw_at lw_m5 127 rfl) rfl
theorem q1182 : (Jvm.Cond.instanceMethod ({ cls := "PingEye$Silo", name := "barEcho", desc := "(LPingEye$Bar;)LPingEye$Echo;" } : Jvm.MethodName)) ∈ lw_all := lw_g (lw_at lw_m5 128 rfl) rfl
theorem q1183 : (Jvm.Cond.selects "PingEye$Silo" ({ cls := "PingEye$Silo", name := "barEcho", desc := "(LPingEye$Bar;)LPingEye$Echo;" } : Jvm.MethodName) ({ cls := "PingEye$Silo", name := "barEcho", desc := "(LPingEye$Bar;)LPingEye$Echo;" } : Jvm.MethodName)) ∈ lw_all := lw_g (lw_at lw_m5 129 rfl) rfl
theorem q1184 : (Jvm.Cond.code ({ cls := "PingEye$Silo", name := "barEcho", desc := "(LPingEye$Bar;)LPingEye$Echo;" } : Jvm.MethodName) prog_7_method_21_code (2 : Nat) (Option.some (Jvm.ClassFile.FieldType.object "PingEye$Echo"))) ∈ lw_all := lw_g (lw_at lw_m5 130 rfl) rfl
theorem q1185 : (Jvm.Cond.methodLink "PingEye$Silo" (137 : Nat) ({ cls := "PingEye$Silo", name := "loss", desc := "(I)I" } : Jvm.MethodName)) ∈ lw_all := lw_g (lw_at lw_m5 131 rfl) rfl
theorem q1186 : (Jvm.Cond.instanceMethod ({ cls := "PingEye$Silo", name := "loss", desc := "(I)I" } : Jvm.MethodName)) ∈ lw_all := lw_g (lw_at lw_m5 132 rfl) rfl
theorem q1187 : (Jvm.Cond.selects "PingEye$Silo" ({ cls := "PingEye$Silo", name := "loss", desc := "(I)I" } : Jvm.MethodName) ({ cls := "PingEye$Silo", name := "loss", desc := "(I)I" } : Jvm.MethodName)) ∈ lw_all := lw_g (lw_at lw_m5 133 rfl) rfl
theorem q1188 : (Jvm.Cond.code ({ cls := "PingEye$Silo", name := "loss", desc := "(I)I" } : Jvm.MethodName) prog_7_method_19_code (2 : Nat) (Option.some Jvm.ClassFile.FieldType.int)) ∈ lw_all := lw_g (lw_at lw_m5 134 rfl) rfl
theorem q1189 : (Jvm.Cond.methodLink "PingEye$Silo" (140 : Nat) ({ cls := "PingEye$Echo", name := "of", desc := "(II)LPingEye$Echo;" } : Jvm.MethodName)) ∈ lw_all := lw_g (lw_at lw_m5 135 rfl) rfl
theorem q1205 : (Jvm.Cond.methodLink "PingEye$Silo" (163 : Nat) ({ cls := "PingEye$Silo", name := "isHeard", desc := "(LPingEye$Echo;)Z" } : Jvm.MethodName)) ∈ lw_all := lw_g (lw_at lw_m5 151 rfl) rfl
theorem q1206 : (Jvm.Cond.instanceMethod ({ cls := "PingEye$Silo", name := "isHeard", desc := "(LPingEye$Echo;)Z" } : Jvm.MethodName)) ∈ lw_all := lw_g (lw_at lw_m5 152 rfl) rfl
theorem q1207 : (Jvm.Cond.selects "PingEye$Silo" ({ cls := "PingEye$Silo", name := "isHeard", desc := "(LPingEye$Echo;)Z" } : Jvm.MethodName) ({ cls := "PingEye$Silo", name := "isHeard", desc := "(LPingEye$Echo;)Z" } : Jvm.MethodName)) ∈ lw_all := lw_g (lw_at lw_m5 153 rfl) rfl
theorem q1208 : (Jvm.Cond.code ({ cls := "PingEye$Silo", name := "isHeard", desc := "(LPingEye$Echo;)Z" } : Jvm.MethodName) prog_7_method_22_code (2 : Nat) (Option.some Jvm.ClassFile.FieldType.boolean)) ∈ lw_all := lw_g (lw_at lw_m5 154 rfl) rfl
theorem q1209 : (Jvm.Cond.interfaceEntry "PingEye$Silo" (152 : Nat)) ∈ lw_tbl := lw_at lw_m5 155 rfl
theorem q1210 : (Jvm.Cond.methodLink "PingEye$Silo" (152 : Nat) ({ cls := "PingEye$Echo", name := "isHeard", desc := "(I)Z" } : Jvm.MethodName)) ∈ lw_all := lw_g (lw_at lw_m5 156 rfl) rfl
theorem q1227 : (Jvm.Cond.interfaceEntry "PingEye$Silo" (57 : Nat)) ∈ lw_tbl := lw_at lw_m5 173 rfl
theorem q1228 : (Jvm.Cond.methodLink "PingEye$Silo" (57 : Nat) ({ cls := "java/util/List", name := "add", desc := "(Ljava/lang/Object;)Z" } : Jvm.MethodName)) ∈ lw_all := lw_g (lw_at lw_m5 174 rfl) rfl
theorem q1229 : (Jvm.Cond.methodLink "PingEye$Silo" (166 : Nat) ({ cls := "PingEye$Silo", name := "heapEcho", desc := "()LPingEye$Echo;" } : Jvm.MethodName)) ∈ lw_all := lw_g (lw_at lw_m5 175 rfl) rfl
theorem q1230 : (Jvm.Cond.instanceMethod ({ cls := "PingEye$Silo", name := "heapEcho", desc := "()LPingEye$Echo;" } : Jvm.MethodName)) ∈ lw_all := lw_g (lw_at lw_m5 176 rfl) rfl
theorem q1231 : (Jvm.Cond.selects "PingEye$Silo" ({ cls := "PingEye$Silo", name := "heapEcho", desc := "()LPingEye$Echo;" } : Jvm.MethodName) ({ cls := "PingEye$Silo", name := "heapEcho", desc := "()LPingEye$Echo;" } : Jvm.MethodName)) ∈ lw_all := lw_g (lw_at lw_m5 177 rfl) rfl
theorem q1232 : (Jvm.Cond.code ({ cls := "PingEye$Silo", name := "heapEcho", desc := "()LPingEye$Echo;" } : Jvm.MethodName) prog_7_method_20_code (2 : Nat) (Option.some (Jvm.ClassFile.FieldType.object "PingEye$Echo"))) ∈ lw_all := lw_g (lw_at lw_m5 178 rfl) rfl
theorem q1233 : (Jvm.Cond.interfaceEntry "PingEye$Silo" (174 : Nat)) ∈ lw_tbl := lw_at lw_m5 179 rfl
theorem q1234 : (Jvm.Cond.methodLink "PingEye$Silo" (174 : Nat) ({ cls := "java/util/List", name := "iterator", desc := "()Ljava/util/Iterator;" } : Jvm.MethodName)) ∈ lw_all := lw_g (lw_at lw_m5 180 rfl) rfl
theorem q1235 : (Jvm.Cond.interfaceEntry "PingEye$Silo" (178 : Nat)) ∈ lw_tbl := lw_at lw_m5 181 rfl
theorem q1236 : (Jvm.Cond.methodLink "PingEye$Silo" (178 : Nat) ({ cls := "java/util/Iterator", name := "hasNext", desc := "()Z" } : Jvm.MethodName)) ∈ lw_all := lw_g (lw_at lw_m5 182 rfl) rfl
theorem q1237 : (Jvm.Cond.interfaceEntry "PingEye$Silo" (183 : Nat)) ∈ lw_tbl := lw_at lw_m5 183 rfl
theorem q1238 : (Jvm.Cond.methodLink "PingEye$Silo" (183 : Nat) ({ cls := "java/util/Iterator", name := "next", desc := "()Ljava/lang/Object;" } : Jvm.MethodName)) ∈ lw_all := lw_g (lw_at lw_m5 184 rfl) rfl
theorem q1239 : (Jvm.Cond.classLink "PingEye$Silo" (141 : Nat) "PingEye$Echo") ∈ lw_all := lw_g (lw_at lw_m5 185 rfl) rfl
theorem q1240 : (Jvm.Cond.methodLink "PingEye$Silo" (186 : Nat) ({ cls := "PingEye$Silo", name := "isMasked", desc := "(LPingEye$Echo;)Z" } : Jvm.MethodName)) ∈ lw_all := lw_g (lw_at lw_m5 186 rfl) rfl
theorem q1241 : (Jvm.Cond.instanceMethod ({ cls := "PingEye$Silo", name := "isMasked", desc := "(LPingEye$Echo;)Z" } : Jvm.MethodName)) ∈ lw_all := lw_g (lw_at lw_m5 187 rfl) rfl
theorem q1242 : (Jvm.Cond.selects "PingEye$Silo" ({ cls := "PingEye$Silo", name := "isMasked", desc := "(LPingEye$Echo;)Z" } : Jvm.MethodName) ({ cls := "PingEye$Silo", name := "isMasked", desc := "(LPingEye$Echo;)Z" } : Jvm.MethodName)) ∈ lw_all := lw_g (lw_at lw_m5 188 rfl) rfl
theorem q1243 : (Jvm.Cond.code ({ cls := "PingEye$Silo", name := "isMasked", desc := "(LPingEye$Echo;)Z" } : Jvm.MethodName) prog_7_method_23_code (2 : Nat) (Option.some Jvm.ClassFile.FieldType.boolean)) ∈ lw_all := lw_g (lw_at lw_m5 189 rfl) rfl
theorem q1244 : (Jvm.Cond.interfaceEntry "PingEye$Silo" (155 : Nat)) ∈ lw_tbl := lw_at lw_m5 190 rfl
theorem q1245 : (Jvm.Cond.methodLink "PingEye$Silo" (155 : Nat) ({ cls := "PingEye$Echo", name := "strength", desc := "()I" } : Jvm.MethodName)) ∈ lw_all := lw_g (lw_at lw_m5 191 rfl) rfl
theorem q1246 : (Jvm.Cond.interfaceEntry "PingEye$Silo" (157 : Nat)) ∈ lw_tbl := lw_at lw_m5 192 rfl
theorem q1247 : (Jvm.Cond.methodLink "PingEye$Silo" (157 : Nat) ({ cls := "PingEye$Echo", name := "way", desc := "()I" } : Jvm.MethodName)) ∈ lw_all := lw_g (lw_at lw_m5 193 rfl) rfl
theorem q1255 : (Jvm.Cond.interfaceEntry "PingEye$Silo" (189 : Nat)) ∈ lw_tbl := lw_at lw_m5 201 rfl
theorem q1256 : (Jvm.Cond.methodLink "PingEye$Silo" (189 : Nat) ({ cls := "PingEye$Echo", name := "isStronger", desc := "(LPingEye$Echo;)Z" } : Jvm.MethodName)) ∈ lw_all := lw_g (lw_at lw_m5 202 rfl) rfl
theorem q1265 : (Jvm.Cond.methodLink "PingEye$Silo" (201 : Nat) ({ cls := "PingEye$Silo", name := "hears", desc := "(I)V" } : Jvm.MethodName)) ∈ lw_all := lw_g (lw_at lw_m5 211 rfl) rfl
theorem q1266 : (Jvm.Cond.privateMethod ({ cls := "PingEye$Silo", name := "hears", desc := "(I)V" } : Jvm.MethodName)) ∈ lw_tbl := lw_at lw_m5 212 rfl
theorem q1267 : (Jvm.Cond.instanceMethod ({ cls := "PingEye$Silo", name := "hears", desc := "(I)V" } : Jvm.MethodName)) ∈ lw_all := lw_g (lw_at lw_m5 213 rfl) rfl
theorem q1268 : (Jvm.Cond.code ({ cls := "PingEye$Silo", name := "hears", desc := "(I)V" } : Jvm.MethodName) prog_7_method_27_code (2 : Nat) (Option.none : Option Jvm.ClassFile.FieldType)) ∈ lw_all := lw_g (lw_at lw_m5 214 rfl) rfl
theorem q1269 : (Jvm.Cond.methodLink "PingEye$Silo" (195 : Nat) ({ cls := "java/lang/Math", name := "abs", desc := "(I)I" } : Jvm.MethodName)) ∈ lw_all := lw_g (lw_at lw_m5 215 rfl) rfl
theorem q1272 : (Jvm.Cond.methodLink "PingEye$Silo" (204 : Nat) ({ cls := "java/lang/Math", name := "max", desc := "(II)I" } : Jvm.MethodName)) ∈ lw_all := lw_g (lw_at lw_m5 218 rfl) rfl
theorem q1278 : (Jvm.Cond.instanceMethod ({ cls := "PingEye$Silo", name := "learns", desc := "(I)I" } : Jvm.MethodName)) ∈ lw_all := lw_g (lw_at lw_m5 224 rfl) rfl
theorem q1279 : (Jvm.Cond.selects "PingEye$Silo" ({ cls := "PingEye$Silo", name := "learns", desc := "(I)I" } : Jvm.MethodName) ({ cls := "PingEye$Silo", name := "learns", desc := "(I)I" } : Jvm.MethodName)) ∈ lw_all := lw_g (lw_at lw_m5 225 rfl) rfl
theorem q1280 : (Jvm.Cond.code ({ cls := "PingEye$Silo", name := "learns", desc := "(I)I" } : Jvm.MethodName) prog_7_method_29_code (5 : Nat) (Option.some Jvm.ClassFile.FieldType.int)) ∈ lw_all := lw_g (lw_at lw_m5 226 rfl) rfl
theorem q1339 : (Jvm.Cond.instanceMethod ({ cls := "PingEye$Silo", name := "units", desc := "()I" } : Jvm.MethodName)) ∈ lw_all := lw_g (lw_at lw_m6 45 rfl) rfl
theorem q1340 : (Jvm.Cond.selects "PingEye$Silo" ({ cls := "PingEye$Silo", name := "units", desc := "()I" } : Jvm.MethodName) ({ cls := "PingEye$Silo", name := "units", desc := "()I" } : Jvm.MethodName)) ∈ lw_all := lw_g (lw_at lw_m6 46 rfl) rfl
theorem q1341 : (Jvm.Cond.code ({ cls := "PingEye$Silo", name := "units", desc := "()I" } : Jvm.MethodName) prog_7_method_5_code (6 : Nat) (Option.some Jvm.ClassFile.FieldType.int)) ∈ lw_all := lw_g (lw_at lw_m6 47 rfl) rfl
theorem q1349 : (Jvm.Cond.instanceMethod ({ cls := "PingEye$Silo", name := "hangs", desc := "(I)Z" } : Jvm.MethodName)) ∈ lw_all := lw_g (lw_at lw_m6 55 rfl) rfl
theorem q1350 : (Jvm.Cond.selects "PingEye$Silo" ({ cls := "PingEye$Silo", name := "hangs", desc := "(I)Z" } : Jvm.MethodName) ({ cls := "PingEye$Silo", name := "hangs", desc := "(I)Z" } : Jvm.MethodName)) ∈ lw_all := lw_g (lw_at lw_m6 56 rfl) rfl
theorem q1351 : (Jvm.Cond.code ({ cls := "PingEye$Silo", name := "hangs", desc := "(I)Z" } : Jvm.MethodName) prog_7_method_10_code (2 : Nat) (Option.some Jvm.ClassFile.FieldType.boolean)) ∈ lw_all := lw_g (lw_at lw_m6 57 rfl) rfl
theorem q1410 : (Jvm.Cond.instanceMethod ({ cls := "PingEye$Silo", name := "<init>", desc := "(LPingEye$Silo;)V" } : Jvm.MethodName)) ∈ lw_all := lw_g (lw_at lw_m6 116 rfl) rfl
theorem q1411 : (Jvm.Cond.code ({ cls := "PingEye$Silo", name := "<init>", desc := "(LPingEye$Silo;)V" } : Jvm.MethodName) prog_7_method_2_code (3 : Nat) (Option.none : Option Jvm.ClassFile.FieldType)) ∈ lw_all := lw_g (lw_at lw_m6 117 rfl) rfl
theorem q1412 : (Jvm.Cond.methodLink "PingEye$Silo" (38 : Nat) ({ cls := "[I", name := "clone", desc := "()Ljava/lang/Object;" } : Jvm.MethodName)) ∈ lw_all := lw_g (lw_at lw_m6 118 rfl) rfl
theorem q1416 : (Jvm.Cond.classLink "PingEye$Silo" (39 : Nat) "[I") ∈ lw_all := lw_g (lw_at lw_m6 122 rfl) rfl
theorem q1417 : (Jvm.Cond.methodLink "PingEye$Silo" (43 : Nat) ({ cls := "[Z", name := "clone", desc := "()Ljava/lang/Object;" } : Jvm.MethodName)) ∈ lw_all := lw_g (lw_at lw_m6 123 rfl) rfl
theorem q1421 : (Jvm.Cond.classLink "PingEye$Silo" (44 : Nat) "[Z") ∈ lw_all := lw_g (lw_at lw_m6 127 rfl) rfl
theorem q1592 : (Jvm.Cond.instanceMethod ({ cls := "PingEye$Silo", name := "drawsAll", desc := "()I" } : Jvm.MethodName)) ∈ lw_all := lw_g (lw_at lw_m7 58 rfl) rfl
theorem q1593 : (Jvm.Cond.selects "PingEye$Silo" ({ cls := "PingEye$Silo", name := "drawsAll", desc := "()I" } : Jvm.MethodName) ({ cls := "PingEye$Silo", name := "drawsAll", desc := "()I" } : Jvm.MethodName)) ∈ lw_all := lw_g (lw_at lw_m7 59 rfl) rfl
theorem q1594 : (Jvm.Cond.code ({ cls := "PingEye$Silo", name := "drawsAll", desc := "()I" } : Jvm.MethodName) prog_7_method_15_code (2 : Nat) (Option.some Jvm.ClassFile.FieldType.int)) ∈ lw_all := lw_g (lw_at lw_m7 60 rfl) rfl
theorem q1869 : (Jvm.Cond.instanceMethod ({ cls := "PingEye$Silo", name := "turnsStuck", desc := "(I)I" } : Jvm.MethodName)) ∈ lw_all := lw_g (lw_at lw_m8 95 rfl) rfl
theorem q1870 : (Jvm.Cond.selects "PingEye$Silo" ({ cls := "PingEye$Silo", name := "turnsStuck", desc := "(I)I" } : Jvm.MethodName) ({ cls := "PingEye$Silo", name := "turnsStuck", desc := "(I)I" } : Jvm.MethodName)) ∈ lw_all := lw_g (lw_at lw_m8 96 rfl) rfl
theorem q1871 : (Jvm.Cond.code ({ cls := "PingEye$Silo", name := "turnsStuck", desc := "(I)I" } : Jvm.MethodName) prog_7_method_30_code (2 : Nat) (Option.some Jvm.ClassFile.FieldType.int)) ∈ lw_all := lw_g (lw_at lw_m8 97 rfl) rfl
theorem q2543 : (Jvm.Cond.castable "PingEye$Silo" "java/lang/Object") ∈ lw_tbl := lw_at lw_m11 49 rfl
theorem in_X4 : ∀ w ∈ wsX40, w ∈ lw_all := lw_in wsX40 [683, 685, 687, 689, 691, 693, 695, 697, 699, 701, 703, 705, 707, 709, 711, 713, 715] (by decide +kernel) (by decide +kernel)

/-! PingEye$FormatException -/
set_option maxRecDepth 100000
def RX5 : String := "PingEye$FormatException"
def TX5 : u_T := fun k => match k with
  | 0 => ("java/lang/Throwable", "cause", "Ljava/lang/Throwable;", false)
  | 1 => ("java/lang/Throwable", "stackTrace", "[Ljava/lang/StackTraceElement;", false)
  | 2 => ("java/lang/Throwable", "suppressedExceptions", "Ljava/util/List;", false)
  | 3 => ("java/lang/Throwable", "detailMessage", "Ljava/lang/String;", false)
  | 4 => ("java/lang/Throwable", "backtrace", "Ljava/lang/Object;", false)
  | 5 => ("java/lang/Throwable", "depth", "I", false)
  | 6 => ("PingEye$FormatException", "kind", "I", true)
  | _ => ("PingEye$FormatException", "position", "I", true)
def tyX5 : Nat → FieldType := fun k => match k with
  | 0 => .object "java/lang/Throwable"
  | 1 => .array (.object "java/lang/StackTraceElement")
  | 2 => .object "java/util/List"
  | 3 => .object "java/lang/String"
  | 4 => .object "java/lang/Object"
  | 5 => .int
  | 6 => .int
  | _ => .int
abbrev wsX50 : List Cond := u_ws RX5 TX5 8
theorem nmX5 : ∀ a, a < 8 → ∀ b, b < 8 → a ≠ b → (TX5 a).2.1 ≠ (TX5 b).2.1 := by decide +kernel
theorem tyX5_ok : ∀ k, k < 8 → parseFieldDescriptor (TX5 k).2.2.1 = some (tyX5 k) := by decide +kernel
abbrev cX5_init : ByteArray := prog_4_method_1_code
def yX5_init : MethodName := ⟨RX5, "<init>", "(II)V"⟩
def dkwX5_init_0 : List UInt8 := [42, 1, 1, 3, 3, 183, 0, 1, 42, 27, 181, 0, 7, 42, 28, 181, 0, 13, 177]
abbrev dktX5_init_0 : List UInt8 := dkwX5_init_0 ++ []
theorem dksX5_init_0 : cX5_init.data.toList.drop 0 = dktX5_init_0 := by decide +kernel
theorem dX5_init_0 : decode cX5_init 0 = .ok (.aload_n 0, 1) := dk_42 (dk_at dksX5_init_0 0 rfl rfl)
theorem dX5_init_1 : decode cX5_init 1 = .ok (.aconst_null, 1) := dk_1 (dk_at dksX5_init_0 1 rfl rfl)
theorem dX5_init_2 : decode cX5_init 2 = .ok (.aconst_null, 1) := dk_1 (dk_at dksX5_init_0 2 rfl rfl)
theorem dX5_init_3 : decode cX5_init 3 = .ok (.iconst 0, 1) := dk_3 (dk_at dksX5_init_0 3 rfl rfl)
theorem dX5_init_4 : decode cX5_init 4 = .ok (.iconst 0, 1) := dk_3 (dk_at dksX5_init_0 4 rfl rfl)
theorem dX5_init_5 : decode cX5_init 5 = .ok (.invokespecial 1, 3) := dk_183 0 1 (dk_at dksX5_init_0 5 rfl rfl)
theorem dX5_init_8 : decode cX5_init 8 = .ok (.aload_n 0, 1) := dk_42 (dk_at dksX5_init_0 8 rfl rfl)
theorem dX5_init_9 : decode cX5_init 9 = .ok (.iload_n 1, 1) := dk_27 (dk_at dksX5_init_0 9 rfl rfl)
theorem dX5_init_10 : decode cX5_init 10 = .ok (.putfield 7, 3) := dk_181 0 7 (dk_at dksX5_init_0 10 rfl rfl)
theorem dX5_init_13 : decode cX5_init 13 = .ok (.aload_n 0, 1) := dk_42 (dk_at dksX5_init_0 13 rfl rfl)
theorem dX5_init_14 : decode cX5_init 14 = .ok (.iload_n 2, 1) := dk_28 (dk_at dksX5_init_0 14 rfl rfl)
theorem dX5_init_15 : decode cX5_init 15 = .ok (.putfield 13, 3) := dk_181 0 13 (dk_at dksX5_init_0 15 rfl rfl)
theorem dX5_init_18 : decode cX5_init 18 = .ok (.return_, 1) := dk_177 (dk_at dksX5_init_0 18 rfl rfl)
theorem q123 : (Jvm.Cond.initialized "PingEye$FormatException") ∈ lw_all := lw_g (lw_at lw_m1 29 rfl) rfl
theorem q258 : (Jvm.Cond.selects "PingEye$FormatException" ({ cls := "java/lang/Throwable", name := "fillInStackTrace", desc := "()Ljava/lang/Throwable;" } : Jvm.MethodName) ({ cls := "java/lang/Throwable", name := "fillInStackTrace", desc := "()Ljava/lang/Throwable;" } : Jvm.MethodName)) ∈ lw_all := lw_g (lw_at lw_m1 164 rfl) rfl
theorem q813 : (Jvm.Cond.instantiable "PingEye$FormatException" (8 : Nat)) ∈ lw_all := lw_g (lw_at lw_m3 239 rfl) rfl
theorem q814 : (Jvm.Cond.castable "PingEye$FormatException" "PingEye$FormatException") ∈ lw_tbl := lw_at lw_m4 0 rfl
theorem q815 : (Jvm.Cond.selects "PingEye$FormatException" ({ cls := "java/lang/Throwable", name := "fillInStackTrace", desc := "(I)Ljava/lang/Throwable;" } : Jvm.MethodName) ({ cls := "java/lang/Throwable", name := "fillInStackTrace", desc := "(I)Ljava/lang/Throwable;" } : Jvm.MethodName)) ∈ lw_all := lw_g (lw_at lw_m4 1 rfl) rfl
theorem q816 : (Jvm.Cond.lays "PingEye$FormatException" "java/lang/Throwable" "cause" "Ljava/lang/Throwable;") ∈ lw_all := lw_g (lw_at lw_m4 2 rfl) rfl
theorem q817 : (Jvm.Cond.lays "PingEye$FormatException" "java/lang/Throwable" "stackTrace" "[Ljava/lang/StackTraceElement;") ∈ lw_all := lw_g (lw_at lw_m4 3 rfl) rfl
theorem q818 : (Jvm.Cond.lays "PingEye$FormatException" "java/lang/Throwable" "suppressedExceptions" "Ljava/util/List;") ∈ lw_all := lw_g (lw_at lw_m4 4 rfl) rfl
theorem q819 : (Jvm.Cond.lays "PingEye$FormatException" "java/lang/Throwable" "detailMessage" "Ljava/lang/String;") ∈ lw_all := lw_g (lw_at lw_m4 5 rfl) rfl
theorem q820 : (Jvm.Cond.lays "PingEye$FormatException" "java/lang/Throwable" "backtrace" "Ljava/lang/Object;") ∈ lw_all := lw_g (lw_at lw_m4 6 rfl) rfl
theorem q822 : (Jvm.Cond.instanceMethod ({ cls := "PingEye$FormatException", name := "<init>", desc := "(II)V" } : Jvm.MethodName)) ∈ lw_all := lw_g (lw_at lw_m4 8 rfl) rfl
theorem q823 : (Jvm.Cond.code ({ cls := "PingEye$FormatException", name := "<init>", desc := "(II)V" } : Jvm.MethodName) prog_4_method_1_code (3 : Nat) (Option.none : Option Jvm.ClassFile.FieldType)) ∈ lw_all := lw_g (lw_at lw_m4 9 rfl) rfl
theorem q824 : (Jvm.Cond.methodLink "PingEye$FormatException" (1 : Nat) ({ cls := "java/lang/Exception", name := "<init>", desc := "(Ljava/lang/String;Ljava/lang/Throwable;ZZ)V" } : Jvm.MethodName)) ∈ lw_all := lw_g (lw_at lw_m4 10 rfl) rfl
theorem q830 : (Jvm.Cond.fieldLink "PingEye$FormatException" (7 : Nat) "PingEye$FormatException" "kind" "I") ∈ lw_all := lw_g (lw_at lw_m4 16 rfl) rfl
theorem q832 : (Jvm.Cond.fieldLink "PingEye$FormatException" (13 : Nat) "PingEye$FormatException" "position" "I") ∈ lw_all := lw_g (lw_at lw_m4 18 rfl) rfl
theorem q834 : (Jvm.Cond.laysFinal "PingEye$FormatException" "PingEye$FormatException" "kind" "I") ∈ lw_all := lw_g (lw_at lw_m4 20 rfl) rfl
theorem q835 : (Jvm.Cond.soleField "PingEye$FormatException" "kind") ∈ lw_all := lw_g (lw_at lw_m4 21 rfl) rfl
theorem q836 : (Jvm.Cond.laysFinal "PingEye$FormatException" "PingEye$FormatException" "position" "I") ∈ lw_all := lw_g (lw_at lw_m4 22 rfl) rfl
theorem q837 : (Jvm.Cond.soleField "PingEye$FormatException" "position") ∈ lw_all := lw_g (lw_at lw_m4 23 rfl) rfl
theorem q838 : (Jvm.Cond.lays "PingEye$FormatException" "java/lang/Throwable" "depth" "I") ∈ lw_all := lw_g (lw_at lw_m4 24 rfl) rfl
theorem q839 : (Jvm.Cond.superclass "PingEye$FormatException" "java/lang/Exception") ∈ lw_all := lw_g (lw_at lw_m4 25 rfl) rfl
theorem q1087 : (Jvm.Cond.selects "PingEye$FormatException" ({ cls := "java/lang/Object", name := "getClass", desc := "()Ljava/lang/Class;" } : Jvm.MethodName) ({ cls := "java/lang/Object", name := "getClass", desc := "()Ljava/lang/Class;" } : Jvm.MethodName)) ∈ lw_all := lw_g (lw_at lw_m5 33 rfl) rfl
theorem q2555 : (Jvm.Cond.castable "PingEye$FormatException" "java/lang/Object") ∈ lw_tbl := lw_at lw_m11 61 rfl
theorem in_X5 : ∀ w ∈ wsX50, w ∈ lw_all := lw_in wsX50 [816, 817, 818, 819, 820, 838, 834, 836] (by decide +kernel) (by decide +kernel)

/-! PingEye$Bar -/
set_option maxRecDepth 100000
def RX6 : String := "PingEye$Bar"
def TX6 : u_T := fun k => match k with
  | 0 => ("PingEye$Bar", "way", "I", true)
  | _ => ("PingEye$Bar", "strength", "I", true)
def tyX6 : Nat → FieldType := fun k => match k with
  | 0 => .int
  | _ => .int
abbrev wsX60 : List Cond := u_ws RX6 TX6 2
theorem nmX6 : ∀ a, a < 2 → ∀ b, b < 2 → a ≠ b → (TX6 a).2.1 ≠ (TX6 b).2.1 := by decide +kernel
theorem tyX6_ok : ∀ k, k < 2 → parseFieldDescriptor (TX6 k).2.2.1 = some (tyX6 k) := by decide +kernel
abbrev cX6_init : ByteArray := prog_2_method_1_code
def yX6_init : MethodName := ⟨RX6, "<init>", "(II)V"⟩
def dkwX6_init_0 : List UInt8 := [42, 183, 0, 1, 42, 27, 181, 0, 7, 42, 28, 181, 0, 13, 177]
abbrev dktX6_init_0 : List UInt8 := dkwX6_init_0 ++ []
theorem dksX6_init_0 : cX6_init.data.toList.drop 0 = dktX6_init_0 := by decide +kernel
theorem dX6_init_0 : decode cX6_init 0 = .ok (.aload_n 0, 1) := dk_42 (dk_at dksX6_init_0 0 rfl rfl)
theorem dX6_init_1 : decode cX6_init 1 = .ok (.invokespecial 1, 3) := dk_183 0 1 (dk_at dksX6_init_0 1 rfl rfl)
theorem dX6_init_4 : decode cX6_init 4 = .ok (.aload_n 0, 1) := dk_42 (dk_at dksX6_init_0 4 rfl rfl)
theorem dX6_init_5 : decode cX6_init 5 = .ok (.iload_n 1, 1) := dk_27 (dk_at dksX6_init_0 5 rfl rfl)
theorem dX6_init_6 : decode cX6_init 6 = .ok (.putfield 7, 3) := dk_181 0 7 (dk_at dksX6_init_0 6 rfl rfl)
theorem dX6_init_9 : decode cX6_init 9 = .ok (.aload_n 0, 1) := dk_42 (dk_at dksX6_init_0 9 rfl rfl)
theorem dX6_init_10 : decode cX6_init 10 = .ok (.iload_n 2, 1) := dk_28 (dk_at dksX6_init_0 10 rfl rfl)
theorem dX6_init_11 : decode cX6_init 11 = .ok (.putfield 13, 3) := dk_181 0 13 (dk_at dksX6_init_0 11 rfl rfl)
theorem dX6_init_14 : decode cX6_init 14 = .ok (.return_, 1) := dk_177 (dk_at dksX6_init_0 14 rfl rfl)
theorem q125 : (Jvm.Cond.initialized "PingEye$Bar") ∈ lw_all := lw_g (lw_at lw_m1 31 rfl) rfl
theorem q1038 : (Jvm.Cond.instantiable "PingEye$Bar" (2 : Nat)) ∈ lw_all := lw_g (lw_at lw_m4 224 rfl) rfl
theorem q1040 : (Jvm.Cond.instanceMethod ({ cls := "PingEye$Bar", name := "<init>", desc := "(II)V" } : Jvm.MethodName)) ∈ lw_all := lw_g (lw_at lw_m4 226 rfl) rfl
theorem q1041 : (Jvm.Cond.code ({ cls := "PingEye$Bar", name := "<init>", desc := "(II)V" } : Jvm.MethodName) prog_2_method_1_code (3 : Nat) (Option.none : Option Jvm.ClassFile.FieldType)) ∈ lw_all := lw_g (lw_at lw_m4 227 rfl) rfl
theorem q1042 : (Jvm.Cond.methodLink "PingEye$Bar" (1 : Nat) ({ cls := "java/lang/Object", name := "<init>", desc := "()V" } : Jvm.MethodName)) ∈ lw_all := lw_g (lw_at lw_m4 228 rfl) rfl
theorem q1043 : (Jvm.Cond.fieldLink "PingEye$Bar" (7 : Nat) "PingEye$Bar" "way" "I") ∈ lw_all := lw_g (lw_at lw_m4 229 rfl) rfl
theorem q1047 : (Jvm.Cond.fieldLink "PingEye$Bar" (13 : Nat) "PingEye$Bar" "strength" "I") ∈ lw_all := lw_g (lw_at lw_m4 233 rfl) rfl
theorem q1050 : (Jvm.Cond.laysFinal "PingEye$Bar" "PingEye$Bar" "way" "I") ∈ lw_all := lw_g (lw_at lw_m4 236 rfl) rfl
theorem q1051 : (Jvm.Cond.soleField "PingEye$Bar" "way") ∈ lw_all := lw_g (lw_at lw_m4 237 rfl) rfl
theorem q1052 : (Jvm.Cond.laysFinal "PingEye$Bar" "PingEye$Bar" "strength" "I") ∈ lw_all := lw_g (lw_at lw_m4 238 rfl) rfl
theorem q1053 : (Jvm.Cond.soleField "PingEye$Bar" "strength") ∈ lw_all := lw_g (lw_at lw_m4 239 rfl) rfl
theorem q1054 : (Jvm.Cond.superclass "PingEye$Bar" "java/lang/Object") ∈ lw_all := lw_g (lw_at lw_m5 0 rfl) rfl
theorem q1086 : (Jvm.Cond.selects "PingEye$Bar" ({ cls := "java/lang/Object", name := "getClass", desc := "()Ljava/lang/Class;" } : Jvm.MethodName) ({ cls := "java/lang/Object", name := "getClass", desc := "()Ljava/lang/Class;" } : Jvm.MethodName)) ∈ lw_all := lw_g (lw_at lw_m5 32 rfl) rfl
theorem q2558 : (Jvm.Cond.castable "PingEye$Bar" "java/lang/Object") ∈ lw_tbl := lw_at lw_m11 64 rfl
theorem in_X6 : ∀ w ∈ wsX60, w ∈ lw_all := lw_in wsX60 [1050, 1052] (by decide +kernel) (by decide +kernel)

/-! PingEye$Echo -/
set_option maxRecDepth 100000
def RX7 : String := "PingEye$Echo"
abbrev cX7_of : ByteArray := prog_3_method_5_code
def yX7_of : MethodName := ⟨RX7, "of", "(II)LPingEye$Echo;"⟩
def dkwX7_of_0 : List UInt8 := [187, 0, 10, 89, 26, 27, 183, 0, 12, 176]
abbrev dktX7_of_0 : List UInt8 := dkwX7_of_0 ++ []
theorem dksX7_of_0 : cX7_of.data.toList.drop 0 = dktX7_of_0 := by decide +kernel
theorem dX7_of_0 : decode cX7_of 0 = .ok (.new 10, 3) := dk_187 0 10 (dk_at dksX7_of_0 0 rfl rfl)
theorem dX7_of_3 : decode cX7_of 3 = .ok (.dup, 1) := dk_89 (dk_at dksX7_of_0 3 rfl rfl)
theorem dX7_of_4 : decode cX7_of 4 = .ok (.iload_n 0, 1) := dk_26 (dk_at dksX7_of_0 4 rfl rfl)
theorem dX7_of_5 : decode cX7_of 5 = .ok (.iload_n 1, 1) := dk_27 (dk_at dksX7_of_0 5 rfl rfl)
theorem dX7_of_6 : decode cX7_of 6 = .ok (.invokespecial 12, 3) := dk_183 0 12 (dk_at dksX7_of_0 6 rfl rfl)
theorem dX7_of_9 : decode cX7_of 9 = .ok (.areturn, 1) := dk_176 (dk_at dksX7_of_0 9 rfl rfl)
abbrev cX7_isHeard : ByteArray := prog_3_method_3_code
def yX7_isHeard : MethodName := ⟨RX7, "isHeard", "(I)Z"⟩
def dkwX7_isHeard_0 : List UInt8 := [42, 185, 0, 1, 1, 0, 27, 161, 0, 7, 4, 167, 0, 4, 3, 172]
abbrev dktX7_isHeard_0 : List UInt8 := dkwX7_isHeard_0 ++ []
theorem dksX7_isHeard_0 : cX7_isHeard.data.toList.drop 0 = dktX7_isHeard_0 := by decide +kernel
theorem dX7_isHeard_0 : decode cX7_isHeard 0 = .ok (.aload_n 0, 1) := dk_42 (dk_at dksX7_isHeard_0 0 rfl rfl)
theorem dX7_isHeard_1 : decode cX7_isHeard 1 = .ok (.invokeinterface 1 1, 5) := by decide +kernel
theorem dX7_isHeard_6 : decode cX7_isHeard 6 = .ok (.iload_n 1, 1) := dk_27 (dk_at dksX7_isHeard_0 6 rfl rfl)
theorem dX7_isHeard_7 : decode cX7_isHeard 7 = .ok (.if_icmp .lt 7, 3) := dk_161 0 7 (dk_at dksX7_isHeard_0 7 rfl rfl)
theorem dX7_isHeard_10 : decode cX7_isHeard 10 = .ok (.iconst 1, 1) := dk_4 (dk_at dksX7_isHeard_0 10 rfl rfl)
theorem dX7_isHeard_11 : decode cX7_isHeard 11 = .ok (.goto 4, 3) := dk_167 0 4 (dk_at dksX7_isHeard_0 11 rfl rfl)
theorem dX7_isHeard_14 : decode cX7_isHeard 14 = .ok (.iconst 0, 1) := dk_3 (dk_at dksX7_isHeard_0 14 rfl rfl)
theorem dX7_isHeard_15 : decode cX7_isHeard 15 = .ok (.ireturn, 1) := dk_172 (dk_at dksX7_isHeard_0 15 rfl rfl)
abbrev cX7_isStronger : ByteArray := prog_3_method_4_code
def yX7_isStronger : MethodName := ⟨RX7, "isStronger", "(LPingEye$Echo;)Z"⟩
def dkwX7_isStronger_2 : List UInt8 := [167, 0, 4, 3, 172]
abbrev dktX7_isStronger_2 : List UInt8 := dkwX7_isStronger_2 ++ []
def dkwX7_isStronger_1 : List UInt8 := [185, 0, 1, 1, 0, 160, 0, 22, 42, 185, 0, 7, 1, 0, 43, 185, 0, 7, 1, 0, 162, 0, 7, 4]
abbrev dktX7_isStronger_1 : List UInt8 := dkwX7_isStronger_1 ++ dktX7_isStronger_2
def dkwX7_isStronger_0 : List UInt8 := [42, 185, 0, 1, 1, 0, 43, 185, 0, 1, 1, 0, 163, 0, 33, 42, 185, 0, 1, 1, 0, 43]
abbrev dktX7_isStronger_0 : List UInt8 := dkwX7_isStronger_0 ++ dktX7_isStronger_1
theorem dksX7_isStronger_0 : cX7_isStronger.data.toList.drop 0 = dktX7_isStronger_0 := by decide +kernel
theorem dksX7_isStronger_1 : cX7_isStronger.data.toList.drop 22 = dktX7_isStronger_1 := dk_seg dksX7_isStronger_0 22 rfl rfl
theorem dksX7_isStronger_2 : cX7_isStronger.data.toList.drop 46 = dktX7_isStronger_2 := dk_seg dksX7_isStronger_1 24 rfl rfl
theorem dX7_isStronger_0 : decode cX7_isStronger 0 = .ok (.aload_n 0, 1) := dk_42 (dk_at dksX7_isStronger_0 0 rfl rfl)
theorem dX7_isStronger_1 : decode cX7_isStronger 1 = .ok (.invokeinterface 1 1, 5) := by decide +kernel
theorem dX7_isStronger_6 : decode cX7_isStronger 6 = .ok (.aload_n 1, 1) := dk_43 (dk_at dksX7_isStronger_0 6 rfl rfl)
theorem dX7_isStronger_7 : decode cX7_isStronger 7 = .ok (.invokeinterface 1 1, 5) := by decide +kernel
theorem dX7_isStronger_12 : decode cX7_isStronger 12 = .ok (.if_icmp .gt 33, 3) := dk_163 0 33 (dk_at dksX7_isStronger_0 12 rfl rfl)
theorem dX7_isStronger_15 : decode cX7_isStronger 15 = .ok (.aload_n 0, 1) := dk_42 (dk_at dksX7_isStronger_0 15 rfl rfl)
theorem dX7_isStronger_16 : decode cX7_isStronger 16 = .ok (.invokeinterface 1 1, 5) := by decide +kernel
theorem dX7_isStronger_21 : decode cX7_isStronger 21 = .ok (.aload_n 1, 1) := dk_43 (dk_at dksX7_isStronger_0 21 rfl rfl)
theorem dX7_isStronger_22 : decode cX7_isStronger 22 = .ok (.invokeinterface 1 1, 5) := by decide +kernel
theorem dX7_isStronger_27 : decode cX7_isStronger 27 = .ok (.if_icmp .ne 22, 3) := dk_160 0 22 (dk_at dksX7_isStronger_1 5 rfl rfl)
theorem dX7_isStronger_30 : decode cX7_isStronger 30 = .ok (.aload_n 0, 1) := dk_42 (dk_at dksX7_isStronger_1 8 rfl rfl)
theorem dX7_isStronger_31 : decode cX7_isStronger 31 = .ok (.invokeinterface 7 1, 5) := by decide +kernel
theorem dX7_isStronger_36 : decode cX7_isStronger 36 = .ok (.aload_n 1, 1) := dk_43 (dk_at dksX7_isStronger_1 14 rfl rfl)
theorem dX7_isStronger_37 : decode cX7_isStronger 37 = .ok (.invokeinterface 7 1, 5) := by decide +kernel
theorem dX7_isStronger_42 : decode cX7_isStronger 42 = .ok (.if_icmp .ge 7, 3) := dk_162 0 7 (dk_at dksX7_isStronger_1 20 rfl rfl)
theorem dX7_isStronger_45 : decode cX7_isStronger 45 = .ok (.iconst 1, 1) := dk_4 (dk_at dksX7_isStronger_1 23 rfl rfl)
theorem dX7_isStronger_46 : decode cX7_isStronger 46 = .ok (.goto 4, 3) := dk_167 0 4 (dk_at dksX7_isStronger_2 0 rfl rfl)
theorem dX7_isStronger_49 : decode cX7_isStronger 49 = .ok (.iconst 0, 1) := dk_3 (dk_at dksX7_isStronger_2 3 rfl rfl)
theorem dX7_isStronger_50 : decode cX7_isStronger 50 = .ok (.ireturn, 1) := dk_172 (dk_at dksX7_isStronger_2 4 rfl rfl)
theorem q127 : (Jvm.Cond.initialized "PingEye$Echo") ∈ lw_all := lw_g (lw_at lw_m1 33 rfl) rfl
theorem q1190 : (Jvm.Cond.static ({ cls := "PingEye$Echo", name := "of", desc := "(II)LPingEye$Echo;" } : Jvm.MethodName)) ∈ lw_all := lw_g (lw_at lw_m5 136 rfl) rfl
theorem q1191 : (Jvm.Cond.code ({ cls := "PingEye$Echo", name := "of", desc := "(II)LPingEye$Echo;" } : Jvm.MethodName) prog_3_method_5_code (2 : Nat) (Option.some (Jvm.ClassFile.FieldType.object "PingEye$Echo"))) ∈ lw_all := lw_g (lw_at lw_m5 137 rfl) rfl
theorem q1192 : (Jvm.Cond.classLink "PingEye$Echo" (10 : Nat) "PingEye$Plain") ∈ lw_all := lw_g (lw_at lw_m5 138 rfl) rfl
theorem q1194 : (Jvm.Cond.methodLink "PingEye$Echo" (12 : Nat) ({ cls := "PingEye$Plain", name := "<init>", desc := "(II)V" } : Jvm.MethodName)) ∈ lw_all := lw_g (lw_at lw_m5 140 rfl) rfl
theorem q1211 : (Jvm.Cond.interfaceMethod "PingEye$Echo" "PingEye$Echo" "isHeard" "(I)Z") ∈ lw_tbl := lw_at lw_m5 157 rfl
theorem q1212 : (Jvm.Cond.declares ({ cls := "PingEye$Echo", name := "isHeard", desc := "(I)Z" } : Jvm.MethodName)) ∈ lw_tbl := lw_at lw_m5 158 rfl
theorem q1215 : (Jvm.Cond.instanceMethod ({ cls := "PingEye$Echo", name := "isHeard", desc := "(I)Z" } : Jvm.MethodName)) ∈ lw_all := lw_g (lw_at lw_m5 161 rfl) rfl
theorem q1216 : (Jvm.Cond.publicMethod ({ cls := "PingEye$Echo", name := "isHeard", desc := "(I)Z" } : Jvm.MethodName)) ∈ lw_tbl := lw_at lw_m5 162 rfl
theorem q1217 : (Jvm.Cond.code ({ cls := "PingEye$Echo", name := "isHeard", desc := "(I)Z" } : Jvm.MethodName) prog_3_method_3_code (2 : Nat) (Option.some Jvm.ClassFile.FieldType.boolean)) ∈ lw_all := lw_g (lw_at lw_m5 163 rfl) rfl
theorem q1218 : (Jvm.Cond.interfaceEntry "PingEye$Echo" (1 : Nat)) ∈ lw_tbl := lw_at lw_m5 164 rfl
theorem q1219 : (Jvm.Cond.methodLink "PingEye$Echo" (1 : Nat) ({ cls := "PingEye$Echo", name := "strength", desc := "()I" } : Jvm.MethodName)) ∈ lw_all := lw_g (lw_at lw_m5 165 rfl) rfl
theorem q1220 : (Jvm.Cond.interfaceMethod "PingEye$Echo" "PingEye$Echo" "strength" "()I") ∈ lw_tbl := lw_at lw_m5 166 rfl
theorem q1221 : (Jvm.Cond.declares ({ cls := "PingEye$Echo", name := "strength", desc := "()I" } : Jvm.MethodName)) ∈ lw_tbl := lw_at lw_m5 167 rfl
theorem q1248 : (Jvm.Cond.interfaceMethod "PingEye$Echo" "PingEye$Echo" "way" "()I") ∈ lw_tbl := lw_at lw_m5 194 rfl
theorem q1249 : (Jvm.Cond.declares ({ cls := "PingEye$Echo", name := "way", desc := "()I" } : Jvm.MethodName)) ∈ lw_tbl := lw_at lw_m5 195 rfl
theorem q1257 : (Jvm.Cond.interfaceMethod "PingEye$Echo" "PingEye$Echo" "isStronger" "(LPingEye$Echo;)Z") ∈ lw_tbl := lw_at lw_m5 203 rfl
theorem q1258 : (Jvm.Cond.declares ({ cls := "PingEye$Echo", name := "isStronger", desc := "(LPingEye$Echo;)Z" } : Jvm.MethodName)) ∈ lw_tbl := lw_at lw_m5 204 rfl
theorem q1260 : (Jvm.Cond.instanceMethod ({ cls := "PingEye$Echo", name := "isStronger", desc := "(LPingEye$Echo;)Z" } : Jvm.MethodName)) ∈ lw_all := lw_g (lw_at lw_m5 206 rfl) rfl
theorem q1261 : (Jvm.Cond.publicMethod ({ cls := "PingEye$Echo", name := "isStronger", desc := "(LPingEye$Echo;)Z" } : Jvm.MethodName)) ∈ lw_tbl := lw_at lw_m5 207 rfl
theorem q1262 : (Jvm.Cond.code ({ cls := "PingEye$Echo", name := "isStronger", desc := "(LPingEye$Echo;)Z" } : Jvm.MethodName) prog_3_method_4_code (2 : Nat) (Option.some Jvm.ClassFile.FieldType.boolean)) ∈ lw_all := lw_g (lw_at lw_m5 208 rfl) rfl
theorem q1263 : (Jvm.Cond.interfaceEntry "PingEye$Echo" (7 : Nat)) ∈ lw_tbl := lw_at lw_m5 209 rfl
theorem q1264 : (Jvm.Cond.methodLink "PingEye$Echo" (7 : Nat) ({ cls := "PingEye$Echo", name := "way", desc := "()I" } : Jvm.MethodName)) ∈ lw_all := lw_g (lw_at lw_m5 210 rfl) rfl

/-! PingEye$Plain -/
set_option maxRecDepth 100000
def RX8 : String := "PingEye$Plain"
def TX8 : u_T := fun k => match k with
  | 0 => ("PingEye$Plain", "way", "I", true)
  | _ => ("PingEye$Plain", "strength", "I", true)
def tyX8 : Nat → FieldType := fun k => match k with
  | 0 => .int
  | _ => .int
abbrev wsX80 : List Cond := u_ws RX8 TX8 2
theorem nmX8 : ∀ a, a < 2 → ∀ b, b < 2 → a ≠ b → (TX8 a).2.1 ≠ (TX8 b).2.1 := by decide +kernel
theorem tyX8_ok : ∀ k, k < 2 → parseFieldDescriptor (TX8 k).2.2.1 = some (tyX8 k) := by decide +kernel
abbrev cX8_init : ByteArray := prog_6_method_1_code
def yX8_init : MethodName := ⟨RX8, "<init>", "(II)V"⟩
def dkwX8_init_0 : List UInt8 := [42, 183, 0, 1, 42, 27, 181, 0, 7, 42, 28, 181, 0, 13, 177]
abbrev dktX8_init_0 : List UInt8 := dkwX8_init_0 ++ []
theorem dksX8_init_0 : cX8_init.data.toList.drop 0 = dktX8_init_0 := by decide +kernel
theorem dX8_init_0 : decode cX8_init 0 = .ok (.aload_n 0, 1) := dk_42 (dk_at dksX8_init_0 0 rfl rfl)
theorem dX8_init_1 : decode cX8_init 1 = .ok (.invokespecial 1, 3) := dk_183 0 1 (dk_at dksX8_init_0 1 rfl rfl)
theorem dX8_init_4 : decode cX8_init 4 = .ok (.aload_n 0, 1) := dk_42 (dk_at dksX8_init_0 4 rfl rfl)
theorem dX8_init_5 : decode cX8_init 5 = .ok (.iload_n 1, 1) := dk_27 (dk_at dksX8_init_0 5 rfl rfl)
theorem dX8_init_6 : decode cX8_init 6 = .ok (.putfield 7, 3) := dk_181 0 7 (dk_at dksX8_init_0 6 rfl rfl)
theorem dX8_init_9 : decode cX8_init 9 = .ok (.aload_n 0, 1) := dk_42 (dk_at dksX8_init_0 9 rfl rfl)
theorem dX8_init_10 : decode cX8_init 10 = .ok (.iload_n 2, 1) := dk_28 (dk_at dksX8_init_0 10 rfl rfl)
theorem dX8_init_11 : decode cX8_init 11 = .ok (.putfield 13, 3) := dk_181 0 13 (dk_at dksX8_init_0 11 rfl rfl)
theorem dX8_init_14 : decode cX8_init 14 = .ok (.return_, 1) := dk_177 (dk_at dksX8_init_0 14 rfl rfl)
abbrev cX8_strength : ByteArray := prog_6_method_3_code
def yX8_strength : MethodName := ⟨RX8, "strength", "()I"⟩
theorem dX8_strength_0 : decode cX8_strength 0 = .ok (.aload_n 0, 1) := by decide +kernel
theorem dX8_strength_1 : decode cX8_strength 1 = .ok (.getfield 13, 3) := by decide +kernel
theorem dX8_strength_4 : decode cX8_strength 4 = .ok (.ireturn, 1) := by decide +kernel
abbrev cX8_way : ByteArray := prog_6_method_2_code
def yX8_way : MethodName := ⟨RX8, "way", "()I"⟩
theorem dX8_way_0 : decode cX8_way 0 = .ok (.aload_n 0, 1) := by decide +kernel
theorem dX8_way_1 : decode cX8_way 1 = .ok (.getfield 7, 3) := by decide +kernel
theorem dX8_way_4 : decode cX8_way 4 = .ok (.ireturn, 1) := by decide +kernel
theorem q128 : (Jvm.Cond.initialized "PingEye$Plain") ∈ lw_all := lw_g (lw_at lw_m1 34 rfl) rfl
theorem q1089 : (Jvm.Cond.selects "PingEye$Plain" ({ cls := "java/lang/Object", name := "getClass", desc := "()Ljava/lang/Class;" } : Jvm.MethodName) ({ cls := "java/lang/Object", name := "getClass", desc := "()Ljava/lang/Class;" } : Jvm.MethodName)) ∈ lw_all := lw_g (lw_at lw_m5 35 rfl) rfl
theorem q1193 : (Jvm.Cond.instantiable "PingEye$Plain" (2 : Nat)) ∈ lw_all := lw_g (lw_at lw_m5 139 rfl) rfl
theorem q1195 : (Jvm.Cond.instanceMethod ({ cls := "PingEye$Plain", name := "<init>", desc := "(II)V" } : Jvm.MethodName)) ∈ lw_all := lw_g (lw_at lw_m5 141 rfl) rfl
theorem q1196 : (Jvm.Cond.code ({ cls := "PingEye$Plain", name := "<init>", desc := "(II)V" } : Jvm.MethodName) prog_6_method_1_code (3 : Nat) (Option.none : Option Jvm.ClassFile.FieldType)) ∈ lw_all := lw_g (lw_at lw_m5 142 rfl) rfl
theorem q1197 : (Jvm.Cond.methodLink "PingEye$Plain" (1 : Nat) ({ cls := "java/lang/Object", name := "<init>", desc := "()V" } : Jvm.MethodName)) ∈ lw_all := lw_g (lw_at lw_m5 143 rfl) rfl
theorem q1198 : (Jvm.Cond.fieldLink "PingEye$Plain" (7 : Nat) "PingEye$Plain" "way" "I") ∈ lw_all := lw_g (lw_at lw_m5 144 rfl) rfl
theorem q1199 : (Jvm.Cond.fieldLink "PingEye$Plain" (13 : Nat) "PingEye$Plain" "strength" "I") ∈ lw_all := lw_g (lw_at lw_m5 145 rfl) rfl
theorem q1200 : (Jvm.Cond.laysFinal "PingEye$Plain" "PingEye$Plain" "way" "I") ∈ lw_all := lw_g (lw_at lw_m5 146 rfl) rfl
theorem q1201 : (Jvm.Cond.soleField "PingEye$Plain" "way") ∈ lw_all := lw_g (lw_at lw_m5 147 rfl) rfl
theorem q1202 : (Jvm.Cond.laysFinal "PingEye$Plain" "PingEye$Plain" "strength" "I") ∈ lw_all := lw_g (lw_at lw_m5 148 rfl) rfl
theorem q1203 : (Jvm.Cond.soleField "PingEye$Plain" "strength") ∈ lw_all := lw_g (lw_at lw_m5 149 rfl) rfl
theorem q1204 : (Jvm.Cond.superclass "PingEye$Plain" "java/lang/Object") ∈ lw_all := lw_g (lw_at lw_m5 150 rfl) rfl
theorem q1213 : (Jvm.Cond.castable "PingEye$Plain" "PingEye$Echo") ∈ lw_tbl := lw_at lw_m5 159 rfl
theorem q1214 : (Jvm.Cond.unhidden "PingEye$Plain" "isHeard" "(I)Z") ∈ lw_tbl := lw_at lw_m5 160 rfl
theorem q1222 : (Jvm.Cond.selects "PingEye$Plain" ({ cls := "PingEye$Echo", name := "strength", desc := "()I" } : Jvm.MethodName) ({ cls := "PingEye$Plain", name := "strength", desc := "()I" } : Jvm.MethodName)) ∈ lw_all := lw_g (lw_at lw_m5 168 rfl) rfl
theorem q1223 : (Jvm.Cond.unhidden "PingEye$Plain" "strength" "()I") ∈ lw_tbl := lw_at lw_m5 169 rfl
theorem q1224 : (Jvm.Cond.instanceMethod ({ cls := "PingEye$Plain", name := "strength", desc := "()I" } : Jvm.MethodName)) ∈ lw_all := lw_g (lw_at lw_m5 170 rfl) rfl
theorem q1225 : (Jvm.Cond.publicMethod ({ cls := "PingEye$Plain", name := "strength", desc := "()I" } : Jvm.MethodName)) ∈ lw_tbl := lw_at lw_m5 171 rfl
theorem q1226 : (Jvm.Cond.code ({ cls := "PingEye$Plain", name := "strength", desc := "()I" } : Jvm.MethodName) prog_6_method_3_code (1 : Nat) (Option.some Jvm.ClassFile.FieldType.int)) ∈ lw_all := lw_g (lw_at lw_m5 172 rfl) rfl
theorem q1250 : (Jvm.Cond.selects "PingEye$Plain" ({ cls := "PingEye$Echo", name := "way", desc := "()I" } : Jvm.MethodName) ({ cls := "PingEye$Plain", name := "way", desc := "()I" } : Jvm.MethodName)) ∈ lw_all := lw_g (lw_at lw_m5 196 rfl) rfl
theorem q1251 : (Jvm.Cond.unhidden "PingEye$Plain" "way" "()I") ∈ lw_tbl := lw_at lw_m5 197 rfl
theorem q1252 : (Jvm.Cond.instanceMethod ({ cls := "PingEye$Plain", name := "way", desc := "()I" } : Jvm.MethodName)) ∈ lw_all := lw_g (lw_at lw_m5 198 rfl) rfl
theorem q1253 : (Jvm.Cond.publicMethod ({ cls := "PingEye$Plain", name := "way", desc := "()I" } : Jvm.MethodName)) ∈ lw_tbl := lw_at lw_m5 199 rfl
theorem q1254 : (Jvm.Cond.code ({ cls := "PingEye$Plain", name := "way", desc := "()I" } : Jvm.MethodName) prog_6_method_2_code (1 : Nat) (Option.some Jvm.ClassFile.FieldType.int)) ∈ lw_all := lw_g (lw_at lw_m5 200 rfl) rfl
theorem q1259 : (Jvm.Cond.unhidden "PingEye$Plain" "isStronger" "(LPingEye$Echo;)Z") ∈ lw_tbl := lw_at lw_m5 205 rfl
theorem q2559 : (Jvm.Cond.castable "PingEye$Plain" "java/lang/Object") ∈ lw_tbl := lw_at lw_m11 65 rfl
theorem in_X8 : ∀ w ∈ wsX80, w ∈ lw_all := lw_in wsX80 [1200, 1202] (by decide +kernel) (by decide +kernel)

theorem q107 : (Jvm.Cond.initialized "PingEye$Token") ∈ lw_all := lw_g (lw_at lw_m1 13 rfl) rfl
set_option maxRecDepth 100000
theorem q351 : (Jvm.Cond.laysStatic "PingEye$Token" "INVALID" "LPingEye$Token;") ∈ lw_tbl := lw_at lw_m2 17 rfl
theorem q760 : (Jvm.Cond.laysStatic "PingEye$Token" "END" "LPingEye$Token;") ∈ lw_tbl := lw_at lw_m3 186 rfl
theorem q790 : (Jvm.Cond.laysStatic "PingEye$Token" "WORD" "LPingEye$Token;") ∈ lw_tbl := lw_at lw_m3 216 rfl
theorem q792 : (Jvm.Cond.laysStatic "PingEye$Token" "NUMBER" "LPingEye$Token;") ∈ lw_tbl := lw_at lw_m3 218 rfl
theorem q794 : (Jvm.Cond.laysStatic "PingEye$Token" "LINE_END" "LPingEye$Token;") ∈ lw_tbl := lw_at lw_m3 220 rfl
theorem q1091 : (Jvm.Cond.selects "PingEye$Token" ({ cls := "java/lang/Object", name := "getClass", desc := "()Ljava/lang/Class;" } : Jvm.MethodName) ({ cls := "java/lang/Object", name := "getClass", desc := "()Ljava/lang/Class;" } : Jvm.MethodName)) ∈ lw_all := lw_g (lw_at lw_m5 37 rfl) rfl
theorem q2550 : (Jvm.Cond.castable "PingEye$Token" "java/lang/Object") ∈ lw_tbl := lw_at lw_m11 56 rfl

theorem q447 : (Jvm.Cond.sameMethod "[B" "java/lang/Object" "clone" "()Ljava/lang/Object;") ∈ lw_all := lw_g (lw_at lw_m2 113 rfl) rfl
set_option maxRecDepth 100000
theorem q450 : (Jvm.Cond.selects "[B" ({ cls := "[B", name := "clone", desc := "()Ljava/lang/Object;" } : Jvm.MethodName) ({ cls := "java/lang/Object", name := "clone", desc := "()Ljava/lang/Object;" } : Jvm.MethodName)) ∈ lw_all := lw_g (lw_at lw_m2 116 rfl) rfl
theorem q451 : (Jvm.Cond.castable "[B" "java/lang/Cloneable") ∈ lw_tbl := lw_at lw_m2 117 rfl
theorem q2566 : (Jvm.Cond.castable "[B" "java/lang/Object") ∈ lw_tbl := lw_at lw_m11 72 rfl

theorem q2571 : (Jvm.Cond.castable "[D" "java/lang/Object") ∈ lw_tbl := lw_at lw_m11 77 rfl
set_option maxRecDepth 100000

theorem q1413 : (Jvm.Cond.sameMethod "[I" "java/lang/Object" "clone" "()Ljava/lang/Object;") ∈ lw_all := lw_g (lw_at lw_m6 119 rfl) rfl
set_option maxRecDepth 100000
theorem q1414 : (Jvm.Cond.selects "[I" ({ cls := "[I", name := "clone", desc := "()Ljava/lang/Object;" } : Jvm.MethodName) ({ cls := "java/lang/Object", name := "clone", desc := "()Ljava/lang/Object;" } : Jvm.MethodName)) ∈ lw_all := lw_g (lw_at lw_m6 120 rfl) rfl
theorem q1415 : (Jvm.Cond.castable "[I" "java/lang/Cloneable") ∈ lw_tbl := lw_at lw_m6 121 rfl
theorem q2568 : (Jvm.Cond.castable "[I" "java/lang/Object") ∈ lw_tbl := lw_at lw_m11 74 rfl

theorem q2570 : (Jvm.Cond.castable "[J" "java/lang/Object") ∈ lw_tbl := lw_at lw_m11 76 rfl
set_option maxRecDepth 100000

theorem q2567 : (Jvm.Cond.castable "[LPingEye$Silo;" "java/lang/Object") ∈ lw_tbl := lw_at lw_m11 73 rfl
set_option maxRecDepth 100000

theorem q2562 : (Jvm.Cond.sameMethod "[Ljava/lang/Object;" "java/lang/Object" "getClass" "()Ljava/lang/Class;") ∈ lw_all := lw_g (lw_at lw_m11 68 rfl) rfl
set_option maxRecDepth 100000
theorem q2563 : (Jvm.Cond.selects "[Ljava/lang/Object;" ({ cls := "java/lang/Object", name := "getClass", desc := "()Ljava/lang/Class;" } : Jvm.MethodName) ({ cls := "java/lang/Object", name := "getClass", desc := "()Ljava/lang/Class;" } : Jvm.MethodName)) ∈ lw_all := lw_g (lw_at lw_m11 69 rfl) rfl
theorem q2565 : (Jvm.Cond.castable "[Ljava/lang/Object;" "java/lang/Object") ∈ lw_tbl := lw_at lw_m11 71 rfl

theorem q1418 : (Jvm.Cond.sameMethod "[Z" "java/lang/Object" "clone" "()Ljava/lang/Object;") ∈ lw_all := lw_g (lw_at lw_m6 124 rfl) rfl
set_option maxRecDepth 100000
theorem q1419 : (Jvm.Cond.selects "[Z" ({ cls := "[Z", name := "clone", desc := "()Ljava/lang/Object;" } : Jvm.MethodName) ({ cls := "java/lang/Object", name := "clone", desc := "()Ljava/lang/Object;" } : Jvm.MethodName)) ∈ lw_all := lw_g (lw_at lw_m6 125 rfl) rfl
theorem q1420 : (Jvm.Cond.castable "[Z" "java/lang/Cloneable") ∈ lw_tbl := lw_at lw_m6 126 rfl
theorem q2569 : (Jvm.Cond.castable "[Z" "java/lang/Object") ∈ lw_tbl := lw_at lw_m11 75 rfl

theorem q106 : (Jvm.Cond.initialized "java/lang/Enum") ∈ lw_all := lw_g (lw_at lw_m1 12 rfl) rfl
set_option maxRecDepth 100000

theorem q121 : (Jvm.Cond.initialized "java/lang/Number") ∈ lw_all := lw_g (lw_at lw_m1 27 rfl) rfl
set_option maxRecDepth 100000

theorem q118 : (Jvm.Cond.initialized "java/lang/System") ∈ lw_all := lw_g (lw_at lw_m1 24 rfl) rfl
set_option maxRecDepth 100000
theorem q457 : (Jvm.Cond.static ({ cls := "java/lang/System", name := "arraycopy", desc := "(Ljava/lang/Object;ILjava/lang/Object;II)V" } : Jvm.MethodName)) ∈ lw_all := lw_g (lw_at lw_m2 123 rfl) rfl
theorem q458 : (Jvm.Cond.native ({ cls := "java/lang/System", name := "arraycopy", desc := "(Ljava/lang/Object;ILjava/lang/Object;II)V" } : Jvm.MethodName)) ∈ lw_all := lw_g (lw_at lw_m2 124 rfl) rfl

theorem q1288 : (Jvm.Cond.publicMethod ({ cls := "java/util/Collection", name := "clear", desc := "()V" } : Jvm.MethodName)) ∈ lw_tbl := lw_at lw_m5 234 rfl
set_option maxRecDepth 100000
theorem q1289 : (Jvm.Cond.declares ({ cls := "java/util/Collection", name := "clear", desc := "()V" } : Jvm.MethodName)) ∈ lw_tbl := lw_at lw_m5 235 rfl
theorem q1896 : (Jvm.Cond.publicMethod ({ cls := "java/util/Collection", name := "isEmpty", desc := "()Z" } : Jvm.MethodName)) ∈ lw_tbl := lw_at lw_m8 122 rfl
theorem q1897 : (Jvm.Cond.declares ({ cls := "java/util/Collection", name := "isEmpty", desc := "()Z" } : Jvm.MethodName)) ∈ lw_tbl := lw_at lw_m8 123 rfl

theorem q220 : (Jvm.Cond.interfaceMethod "java/util/Deque" "java/util/Deque" "size" "()I") ∈ lw_tbl := lw_at lw_m1 126 rfl
set_option maxRecDepth 100000
theorem q221 : (Jvm.Cond.declares ({ cls := "java/util/Deque", name := "size", desc := "()I" } : Jvm.MethodName)) ∈ lw_tbl := lw_at lw_m1 127 rfl
theorem q1766 : (Jvm.Cond.interfaceMethod "java/util/Deque" "java/util/Deque" "removeFirst" "()Ljava/lang/Object;") ∈ lw_tbl := lw_at lw_m7 232 rfl
theorem q1767 : (Jvm.Cond.declares ({ cls := "java/util/Deque", name := "removeFirst", desc := "()Ljava/lang/Object;" } : Jvm.MethodName)) ∈ lw_tbl := lw_at lw_m7 233 rfl
theorem q1785 : (Jvm.Cond.interfaceMethod "java/util/Deque" "java/util/Deque" "addLast" "(Ljava/lang/Object;)V") ∈ lw_tbl := lw_at lw_m8 11 rfl
theorem q1786 : (Jvm.Cond.declares ({ cls := "java/util/Deque", name := "addLast", desc := "(Ljava/lang/Object;)V" } : Jvm.MethodName)) ∈ lw_tbl := lw_at lw_m8 12 rfl
theorem q1905 : (Jvm.Cond.interfaceMethod "java/util/Deque" "java/util/Deque" "removeLast" "()Ljava/lang/Object;") ∈ lw_tbl := lw_at lw_m8 131 rfl
theorem q1906 : (Jvm.Cond.declares ({ cls := "java/util/Deque", name := "removeLast", desc := "()Ljava/lang/Object;" } : Jvm.MethodName)) ∈ lw_tbl := lw_at lw_m8 132 rfl

theorem q1016 : (Jvm.Cond.interfaceMethod "java/util/Iterator" "java/util/Iterator" "hasNext" "()Z") ∈ lw_tbl := lw_at lw_m4 202 rfl
set_option maxRecDepth 100000
theorem q1017 : (Jvm.Cond.declares ({ cls := "java/util/Iterator", name := "hasNext", desc := "()Z" } : Jvm.MethodName)) ∈ lw_tbl := lw_at lw_m4 203 rfl
theorem q1026 : (Jvm.Cond.interfaceMethod "java/util/Iterator" "java/util/Iterator" "next" "()Ljava/lang/Object;") ∈ lw_tbl := lw_at lw_m4 212 rfl
theorem q1027 : (Jvm.Cond.declares ({ cls := "java/util/Iterator", name := "next", desc := "()Ljava/lang/Object;" } : Jvm.MethodName)) ∈ lw_tbl := lw_at lw_m4 213 rfl

theorem q870 : (Jvm.Cond.interfaceMethod "java/util/List" "java/util/List" "size" "()I") ∈ lw_tbl := lw_at lw_m4 56 rfl
set_option maxRecDepth 100000
theorem q871 : (Jvm.Cond.declares ({ cls := "java/util/List", name := "size", desc := "()I" } : Jvm.MethodName)) ∈ lw_tbl := lw_at lw_m4 57 rfl
theorem q988 : (Jvm.Cond.interfaceMethod "java/util/List" "java/util/List" "iterator" "()Ljava/util/Iterator;") ∈ lw_tbl := lw_at lw_m4 174 rfl
theorem q989 : (Jvm.Cond.declares ({ cls := "java/util/List", name := "iterator", desc := "()Ljava/util/Iterator;" } : Jvm.MethodName)) ∈ lw_tbl := lw_at lw_m4 175 rfl
theorem q1057 : (Jvm.Cond.interfaceMethod "java/util/List" "java/util/List" "add" "(Ljava/lang/Object;)Z") ∈ lw_tbl := lw_at lw_m5 3 rfl
theorem q1058 : (Jvm.Cond.declares ({ cls := "java/util/List", name := "add", desc := "(Ljava/lang/Object;)Z" } : Jvm.MethodName)) ∈ lw_tbl := lw_at lw_m5 4 rfl
theorem q1165 : (Jvm.Cond.interfaceMethod "java/util/List" "java/util/List" "get" "(I)Ljava/lang/Object;") ∈ lw_tbl := lw_at lw_m5 111 rfl
theorem q1166 : (Jvm.Cond.declares ({ cls := "java/util/List", name := "get", desc := "(I)Ljava/lang/Object;" } : Jvm.MethodName)) ∈ lw_tbl := lw_at lw_m5 112 rfl

theorem q904 : (Jvm.Cond.interfaceMethod "jdk/internal/access/JavaLangAccess" "jdk/internal/access/JavaLangAccess" "getUTF16Char" "([BI)C") ∈ lw_tbl := lw_at lw_m4 90 rfl
set_option maxRecDepth 100000
theorem q905 : (Jvm.Cond.declares ({ cls := "jdk/internal/access/JavaLangAccess", name := "getUTF16Char", desc := "([BI)C" } : Jvm.MethodName)) ∈ lw_tbl := lw_at lw_m4 91 rfl

theorem q149 : (Jvm.Cond.arrayOver (Jvm.ClassFile.FieldType.object "java/lang/Object")) ∈ lw_tbl := lw_at lw_m1 55 rfl
set_option maxRecDepth 100000
theorem q160 : (Jvm.Cond.arrayClass Jvm.ClassFile.FieldType.byte) ∈ lw_all := lw_g (lw_at lw_m1 66 rfl) rfl
theorem q162 : (Jvm.Cond.arrayOver (Jvm.ClassFile.FieldType.object "PingEye$Silo")) ∈ lw_tbl := lw_at lw_m1 68 rfl
theorem q201 : (Jvm.Cond.arrayClass Jvm.ClassFile.FieldType.int) ∈ lw_all := lw_g (lw_at lw_m1 107 rfl) rfl
theorem q411 : (Jvm.Cond.arrayClass Jvm.ClassFile.FieldType.boolean) ∈ lw_all := lw_g (lw_at lw_m2 77 rfl) rfl
theorem q2528 : (Jvm.Cond.arrayClass Jvm.ClassFile.FieldType.long) ∈ lw_all := lw_g (lw_at lw_m11 34 rfl) rfl
theorem q2529 : (Jvm.Cond.arrayClass Jvm.ClassFile.FieldType.double) ∈ lw_all := lw_g (lw_at lw_m11 35 rfl) rfl
theorem q2572 : (Jvm.Cond.arrayClass Jvm.ClassFile.FieldType.char) ∈ lw_all := lw_g (lw_at lw_m11 78 rfl) rfl
theorem q2573 : (Jvm.Cond.arrayClass Jvm.ClassFile.FieldType.short) ∈ lw_all := lw_g (lw_at lw_m11 79 rfl) rfl
