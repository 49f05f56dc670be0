/-! ChainParts -/
set_option maxRecDepth 100000
def RX0 : String := "ChainParts"
def TX0 : u_T := fun k => match k with
  | 0 => ("ChainParts", "its", "LChainParts$Complex;", false)
  | 1 => ("ChainParts", "tape", "[B", true)
  | 2 => ("ChainParts", "taped", "I", false)
  | 3 => ("ChainParts", "fault", "I", false)
  | 4 => ("ChainParts", "past", "[LChainParts$Complex;", true)
  | 5 => ("ChainParts", "acts", "I", false)
  | _ => ("ChainParts", "images", "[LChainParts$Complex;", true)
def tyX0 : Nat → FieldType := fun k => match k with
  | 0 => .object "ChainParts$Complex"
  | 1 => .array .byte
  | 2 => .int
  | 3 => .int
  | 4 => .array (.object "ChainParts$Complex")
  | 5 => .int
  | _ => .array (.object "ChainParts$Complex")
abbrev wsX00 : List Cond := u_ws RX0 TX0 7
theorem nmX0 : ∀ a, a < 7 → ∀ b, b < 7 → a ≠ b → (TX0 a).2.1 ≠ (TX0 b).2.1 := by decide +kernel
theorem tyX0_ok : ∀ k, k < 7 → parseFieldDescriptor (TX0 k).2.2.1 = some (tyX0 k) := by decide +kernel
abbrev cX0_init : ByteArray := prog_1_method_7_code
def yX0_init : MethodName := ⟨RX0, "<init>", "()V"⟩
def dkwX0_init_1 : List UInt8 := [189, 0, 45, 181, 0, 51, 177]
abbrev dktX0_init_1 : List UInt8 := dkwX0_init_1 ++ []
def dkwX0_init_0 : List UInt8 := [42, 183, 0, 36, 42, 16, 90, 188, 8, 181, 0, 41, 42, 16, 8, 189, 0, 45, 181, 0, 47, 42, 5]
abbrev dktX0_init_0 : List UInt8 := dkwX0_init_0 ++ dktX0_init_1
theorem dksX0_init_0 : cX0_init.data.toList.drop 0 = dktX0_init_0 := by decide +kernel
theorem dksX0_init_1 : cX0_init.data.toList.drop 23 = dktX0_init_1 := dk_seg dksX0_init_0 23 rfl rfl
theorem dX0_init_0 : decode cX0_init 0 = .ok (.aload_n 0, 1) := dk_42 (dk_at dksX0_init_0 0 rfl rfl)
theorem dX0_init_1 : decode cX0_init 1 = .ok (.invokespecial 36, 3) := dk_183 0 36 (dk_at dksX0_init_0 1 rfl rfl)
theorem dX0_init_4 : decode cX0_init 4 = .ok (.aload_n 0, 1) := dk_42 (dk_at dksX0_init_0 4 rfl rfl)
theorem dX0_init_5 : decode cX0_init 5 = .ok (.bipush 90, 2) := dk_16 90 (dk_at dksX0_init_0 5 rfl rfl)
theorem dX0_init_7 : decode cX0_init 7 = .ok (.newarray .byte, 2) := dk_188_8 (dk_at dksX0_init_0 7 rfl rfl)
theorem dX0_init_9 : decode cX0_init 9 = .ok (.putfield 41, 3) := dk_181 0 41 (dk_at dksX0_init_0 9 rfl rfl)
theorem dX0_init_12 : decode cX0_init 12 = .ok (.aload_n 0, 1) := dk_42 (dk_at dksX0_init_0 12 rfl rfl)
theorem dX0_init_13 : decode cX0_init 13 = .ok (.bipush 8, 2) := dk_16 8 (dk_at dksX0_init_0 13 rfl rfl)
theorem dX0_init_15 : decode cX0_init 15 = .ok (.anewarray 45, 3) := dk_189 0 45 (dk_at dksX0_init_0 15 rfl rfl)
theorem dX0_init_18 : decode cX0_init 18 = .ok (.putfield 47, 3) := dk_181 0 47 (dk_at dksX0_init_0 18 rfl rfl)
theorem dX0_init_21 : decode cX0_init 21 = .ok (.aload_n 0, 1) := dk_42 (dk_at dksX0_init_0 21 rfl rfl)
theorem dX0_init_22 : decode cX0_init 22 = .ok (.iconst 2, 1) := dk_5 (dk_at dksX0_init_0 22 rfl rfl)
theorem dX0_init_23 : decode cX0_init 23 = .ok (.anewarray 45, 3) := dk_189 0 45 (dk_at dksX0_init_1 0 rfl rfl)
theorem dX0_init_26 : decode cX0_init 26 = .ok (.putfield 51, 3) := dk_181 0 51 (dk_at dksX0_init_1 3 rfl rfl)
theorem dX0_init_29 : decode cX0_init 29 = .ok (.return_, 1) := dk_177 (dk_at dksX0_init_1 6 rfl rfl)
abbrev cX0_feed : ByteArray := prog_1_method_8_code
def yX0_feed : MethodName := ⟨RX0, "feed", "(I)I"⟩
def dkwX0_feed_2 : List UInt8 := [180, 0, 61, 172]
abbrev dktX0_feed_2 : List UInt8 := dkwX0_feed_2 ++ []
def dkwX0_feed_1 : List UInt8 := [18, 65, 172, 42, 180, 0, 41, 42, 89, 180, 0, 61, 90, 4, 96, 181, 0, 61, 27, 145, 84, 42]
abbrev dktX0_feed_1 : List UInt8 := dkwX0_feed_1 ++ dktX0_feed_2
def dkwX0_feed_0 : List UInt8 := [27, 133, 9, 20, 0, 54, 184, 0, 56, 154, 0, 6, 18, 60, 172, 42, 180, 0, 61, 16, 90, 160, 0, 6]
abbrev dktX0_feed_0 : List UInt8 := dkwX0_feed_0 ++ dktX0_feed_1
theorem dksX0_feed_0 : cX0_feed.data.toList.drop 0 = dktX0_feed_0 := by decide +kernel
theorem dksX0_feed_1 : cX0_feed.data.toList.drop 24 = dktX0_feed_1 := dk_seg dksX0_feed_0 24 rfl rfl
theorem dksX0_feed_2 : cX0_feed.data.toList.drop 46 = dktX0_feed_2 := dk_seg dksX0_feed_1 22 rfl rfl
theorem dX0_feed_0 : decode cX0_feed 0 = .ok (.iload_n 1, 1) := dk_27 (dk_at dksX0_feed_0 0 rfl rfl)
theorem dX0_feed_1 : decode cX0_feed 1 = .ok (.i2l, 1) := dk_133 (dk_at dksX0_feed_0 1 rfl rfl)
theorem dX0_feed_2 : decode cX0_feed 2 = .ok (.lconst 0, 1) := dk_9 (dk_at dksX0_feed_0 2 rfl rfl)
theorem dX0_feed_3 : decode cX0_feed 3 = .ok (.ldc2_w 54, 3) := dk_20 0 54 (dk_at dksX0_feed_0 3 rfl rfl)
theorem dX0_feed_6 : decode cX0_feed 6 = .ok (.invokestatic 56, 3) := dk_184 0 56 (dk_at dksX0_feed_0 6 rfl rfl)
theorem dX0_feed_9 : decode cX0_feed 9 = .ok (.ifCond .ne 6, 3) := dk_154 0 6 (dk_at dksX0_feed_0 9 rfl rfl)
theorem dX0_feed_12 : decode cX0_feed 12 = .ok (.ldc 60, 2) := dk_18 60 (dk_at dksX0_feed_0 12 rfl rfl)
theorem dX0_feed_14 : decode cX0_feed 14 = .ok (.ireturn, 1) := dk_172 (dk_at dksX0_feed_0 14 rfl rfl)
theorem dX0_feed_15 : decode cX0_feed 15 = .ok (.aload_n 0, 1) := dk_42 (dk_at dksX0_feed_0 15 rfl rfl)
theorem dX0_feed_16 : decode cX0_feed 16 = .ok (.getfield 61, 3) := dk_180 0 61 (dk_at dksX0_feed_0 16 rfl rfl)
theorem dX0_feed_19 : decode cX0_feed 19 = .ok (.bipush 90, 2) := dk_16 90 (dk_at dksX0_feed_0 19 rfl rfl)
theorem dX0_feed_21 : decode cX0_feed 21 = .ok (.if_icmp .ne 6, 3) := dk_160 0 6 (dk_at dksX0_feed_0 21 rfl rfl)
theorem dX0_feed_24 : decode cX0_feed 24 = .ok (.ldc 65, 2) := dk_18 65 (dk_at dksX0_feed_1 0 rfl rfl)
theorem dX0_feed_26 : decode cX0_feed 26 = .ok (.ireturn, 1) := dk_172 (dk_at dksX0_feed_1 2 rfl rfl)
theorem dX0_feed_27 : decode cX0_feed 27 = .ok (.aload_n 0, 1) := dk_42 (dk_at dksX0_feed_1 3 rfl rfl)
theorem dX0_feed_28 : decode cX0_feed 28 = .ok (.getfield 41, 3) := dk_180 0 41 (dk_at dksX0_feed_1 4 rfl rfl)
theorem dX0_feed_31 : decode cX0_feed 31 = .ok (.aload_n 0, 1) := dk_42 (dk_at dksX0_feed_1 7 rfl rfl)
theorem dX0_feed_32 : decode cX0_feed 32 = .ok (.dup, 1) := dk_89 (dk_at dksX0_feed_1 8 rfl rfl)
theorem dX0_feed_33 : decode cX0_feed 33 = .ok (.getfield 61, 3) := dk_180 0 61 (dk_at dksX0_feed_1 9 rfl rfl)
theorem dX0_feed_36 : decode cX0_feed 36 = .ok (.dup_x1, 1) := dk_90 (dk_at dksX0_feed_1 12 rfl rfl)
theorem dX0_feed_37 : decode cX0_feed 37 = .ok (.iconst 1, 1) := dk_4 (dk_at dksX0_feed_1 13 rfl rfl)
theorem dX0_feed_38 : decode cX0_feed 38 = .ok (.iadd, 1) := dk_96 (dk_at dksX0_feed_1 14 rfl rfl)
theorem dX0_feed_39 : decode cX0_feed 39 = .ok (.putfield 61, 3) := dk_181 0 61 (dk_at dksX0_feed_1 15 rfl rfl)
theorem dX0_feed_42 : decode cX0_feed 42 = .ok (.iload_n 1, 1) := dk_27 (dk_at dksX0_feed_1 18 rfl rfl)
theorem dX0_feed_43 : decode cX0_feed 43 = .ok (.i2b, 1) := dk_145 (dk_at dksX0_feed_1 19 rfl rfl)
theorem dX0_feed_44 : decode cX0_feed 44 = .ok (.bastore, 1) := dk_84 (dk_at dksX0_feed_1 20 rfl rfl)
theorem dX0_feed_45 : decode cX0_feed 45 = .ok (.aload_n 0, 1) := dk_42 (dk_at dksX0_feed_1 21 rfl rfl)
theorem dX0_feed_46 : decode cX0_feed 46 = .ok (.getfield 61, 3) := dk_180 0 61 (dk_at dksX0_feed_2 0 rfl rfl)
theorem dX0_feed_49 : decode cX0_feed 49 = .ok (.ireturn, 1) := dk_172 (dk_at dksX0_feed_2 3 rfl rfl)
abbrev cX0_isIn : ByteArray := prog_1_method_1_code
def yX0_isIn : MethodName := ⟨RX0, "isIn", "(JJJ)Z"⟩
def dkwX0_isIn_0 : List UInt8 := [30, 32, 148, 155, 0, 14, 30, 22, 4, 148, 157, 0, 7, 4, 167, 0, 4, 3, 172]
abbrev dktX0_isIn_0 : List UInt8 := dkwX0_isIn_0 ++ []
theorem dksX0_isIn_0 : cX0_isIn.data.toList.drop 0 = dktX0_isIn_0 := by decide +kernel
theorem dX0_isIn_0 : decode cX0_isIn 0 = .ok (.lload_n 0, 1) := dk_30 (dk_at dksX0_isIn_0 0 rfl rfl)
theorem dX0_isIn_1 : decode cX0_isIn 1 = .ok (.lload_n 2, 1) := dk_32 (dk_at dksX0_isIn_0 1 rfl rfl)
theorem dX0_isIn_2 : decode cX0_isIn 2 = .ok (.lcmp, 1) := dk_148 (dk_at dksX0_isIn_0 2 rfl rfl)
theorem dX0_isIn_3 : decode cX0_isIn 3 = .ok (.ifCond .lt 14, 3) := dk_155 0 14 (dk_at dksX0_isIn_0 3 rfl rfl)
theorem dX0_isIn_6 : decode cX0_isIn 6 = .ok (.lload_n 0, 1) := dk_30 (dk_at dksX0_isIn_0 6 rfl rfl)
theorem dX0_isIn_7 : decode cX0_isIn 7 = .ok (.lload 4, 2) := dk_22 4 (dk_at dksX0_isIn_0 7 rfl rfl)
theorem dX0_isIn_9 : decode cX0_isIn 9 = .ok (.lcmp, 1) := dk_148 (dk_at dksX0_isIn_0 9 rfl rfl)
theorem dX0_isIn_10 : decode cX0_isIn 10 = .ok (.ifCond .gt 7, 3) := dk_157 0 7 (dk_at dksX0_isIn_0 10 rfl rfl)
theorem dX0_isIn_13 : decode cX0_isIn 13 = .ok (.iconst 1, 1) := dk_4 (dk_at dksX0_isIn_0 13 rfl rfl)
theorem dX0_isIn_14 : decode cX0_isIn 14 = .ok (.goto 4, 3) := dk_167 0 4 (dk_at dksX0_isIn_0 14 rfl rfl)
theorem dX0_isIn_17 : decode cX0_isIn 17 = .ok (.iconst 0, 1) := dk_3 (dk_at dksX0_isIn_0 17 rfl rfl)
theorem dX0_isIn_18 : decode cX0_isIn 18 = .ok (.ireturn, 1) := dk_172 (dk_at dksX0_isIn_0 18 rfl rfl)
abbrev cX0_complex : ByteArray := prog_1_method_9_code
def yX0_complex : MethodName := ⟨RX0, "complex", "()I"⟩
def dkwX0_complex_3 : List UInt8 := [180, 0, 75, 180, 0, 101, 190, 96, 172]
abbrev dktX0_complex_3 : List UInt8 := dkwX0_complex_3 ++ []
def dkwX0_complex_2 : List UInt8 := [100, 172, 42, 3, 181, 0, 91, 42, 180, 0, 75, 180, 0, 94, 42, 180, 0, 75, 180, 0, 97, 190, 96, 42]
abbrev dktX0_complex_2 : List UInt8 := dkwX0_complex_2 ++ dktX0_complex_3
def dkwX0_complex_1 : List UInt8 := [182, 0, 71, 181, 0, 75, 167, 0, 20, 77, 42, 44, 180, 0, 81, 181, 0, 84, 18, 87, 44, 180, 0, 88]
abbrev dktX0_complex_1 : List UInt8 := dkwX0_complex_1 ++ dktX0_complex_2
def dkwX0_complex_0 : List UInt8 := [187, 0, 66, 89, 42, 180, 0, 41, 42, 180, 0, 61, 183, 0, 68, 76, 42, 3, 181, 0, 61, 42, 43]
abbrev dktX0_complex_0 : List UInt8 := dkwX0_complex_0 ++ dktX0_complex_1
theorem dksX0_complex_0 : cX0_complex.data.toList.drop 0 = dktX0_complex_0 := by decide +kernel
theorem dksX0_complex_1 : cX0_complex.data.toList.drop 23 = dktX0_complex_1 := dk_seg dksX0_complex_0 23 rfl rfl
theorem dksX0_complex_2 : cX0_complex.data.toList.drop 47 = dktX0_complex_2 := dk_seg dksX0_complex_1 24 rfl rfl
theorem dksX0_complex_3 : cX0_complex.data.toList.drop 71 = dktX0_complex_3 := dk_seg dksX0_complex_2 24 rfl rfl
theorem dX0_complex_0 : decode cX0_complex 0 = .ok (.new 66, 3) := dk_187 0 66 (dk_at dksX0_complex_0 0 rfl rfl)
theorem dX0_complex_3 : decode cX0_complex 3 = .ok (.dup, 1) := dk_89 (dk_at dksX0_complex_0 3 rfl rfl)
theorem dX0_complex_4 : decode cX0_complex 4 = .ok (.aload_n 0, 1) := dk_42 (dk_at dksX0_complex_0 4 rfl rfl)
theorem dX0_complex_5 : decode cX0_complex 5 = .ok (.getfield 41, 3) := dk_180 0 41 (dk_at dksX0_complex_0 5 rfl rfl)
theorem dX0_complex_8 : decode cX0_complex 8 = .ok (.aload_n 0, 1) := dk_42 (dk_at dksX0_complex_0 8 rfl rfl)
theorem dX0_complex_9 : decode cX0_complex 9 = .ok (.getfield 61, 3) := dk_180 0 61 (dk_at dksX0_complex_0 9 rfl rfl)
theorem dX0_complex_12 : decode cX0_complex 12 = .ok (.invokespecial 68, 3) := dk_183 0 68 (dk_at dksX0_complex_0 12 rfl rfl)
theorem dX0_complex_15 : decode cX0_complex 15 = .ok (.astore_n 1, 1) := dk_76 (dk_at dksX0_complex_0 15 rfl rfl)
theorem dX0_complex_16 : decode cX0_complex 16 = .ok (.aload_n 0, 1) := dk_42 (dk_at dksX0_complex_0 16 rfl rfl)
theorem dX0_complex_17 : decode cX0_complex 17 = .ok (.iconst 0, 1) := dk_3 (dk_at dksX0_complex_0 17 rfl rfl)
theorem dX0_complex_18 : decode cX0_complex 18 = .ok (.putfield 61, 3) := dk_181 0 61 (dk_at dksX0_complex_0 18 rfl rfl)
theorem dX0_complex_21 : decode cX0_complex 21 = .ok (.aload_n 0, 1) := dk_42 (dk_at dksX0_complex_0 21 rfl rfl)
theorem dX0_complex_22 : decode cX0_complex 22 = .ok (.aload_n 1, 1) := dk_43 (dk_at dksX0_complex_0 22 rfl rfl)
theorem dX0_complex_23 : decode cX0_complex 23 = .ok (.invokevirtual 71, 3) := dk_182 0 71 (dk_at dksX0_complex_1 0 rfl rfl)
theorem dX0_complex_26 : decode cX0_complex 26 = .ok (.putfield 75, 3) := dk_181 0 75 (dk_at dksX0_complex_1 3 rfl rfl)
theorem dX0_complex_29 : decode cX0_complex 29 = .ok (.goto 20, 3) := dk_167 0 20 (dk_at dksX0_complex_1 6 rfl rfl)
theorem dX0_complex_32 : decode cX0_complex 32 = .ok (.astore_n 2, 1) := dk_77 (dk_at dksX0_complex_1 9 rfl rfl)
theorem dX0_complex_33 : decode cX0_complex 33 = .ok (.aload_n 0, 1) := dk_42 (dk_at dksX0_complex_1 10 rfl rfl)
theorem dX0_complex_34 : decode cX0_complex 34 = .ok (.aload_n 2, 1) := dk_44 (dk_at dksX0_complex_1 11 rfl rfl)
theorem dX0_complex_35 : decode cX0_complex 35 = .ok (.getfield 81, 3) := dk_180 0 81 (dk_at dksX0_complex_1 12 rfl rfl)
theorem dX0_complex_38 : decode cX0_complex 38 = .ok (.putfield 84, 3) := dk_181 0 84 (dk_at dksX0_complex_1 15 rfl rfl)
theorem dX0_complex_41 : decode cX0_complex 41 = .ok (.ldc 87, 2) := dk_18 87 (dk_at dksX0_complex_1 18 rfl rfl)
theorem dX0_complex_43 : decode cX0_complex 43 = .ok (.aload_n 2, 1) := dk_44 (dk_at dksX0_complex_1 20 rfl rfl)
theorem dX0_complex_44 : decode cX0_complex 44 = .ok (.getfield 88, 3) := dk_180 0 88 (dk_at dksX0_complex_1 21 rfl rfl)
theorem dX0_complex_47 : decode cX0_complex 47 = .ok (.isub, 1) := dk_100 (dk_at dksX0_complex_2 0 rfl rfl)
theorem dX0_complex_48 : decode cX0_complex 48 = .ok (.ireturn, 1) := dk_172 (dk_at dksX0_complex_2 1 rfl rfl)
theorem dX0_complex_49 : decode cX0_complex 49 = .ok (.aload_n 0, 1) := dk_42 (dk_at dksX0_complex_2 2 rfl rfl)
theorem dX0_complex_50 : decode cX0_complex 50 = .ok (.iconst 0, 1) := dk_3 (dk_at dksX0_complex_2 3 rfl rfl)
theorem dX0_complex_51 : decode cX0_complex 51 = .ok (.putfield 91, 3) := dk_181 0 91 (dk_at dksX0_complex_2 4 rfl rfl)
theorem dX0_complex_54 : decode cX0_complex 54 = .ok (.aload_n 0, 1) := dk_42 (dk_at dksX0_complex_2 7 rfl rfl)
theorem dX0_complex_55 : decode cX0_complex 55 = .ok (.getfield 75, 3) := dk_180 0 75 (dk_at dksX0_complex_2 8 rfl rfl)
theorem dX0_complex_58 : decode cX0_complex 58 = .ok (.getfield 94, 3) := dk_180 0 94 (dk_at dksX0_complex_2 11 rfl rfl)
theorem dX0_complex_61 : decode cX0_complex 61 = .ok (.aload_n 0, 1) := dk_42 (dk_at dksX0_complex_2 14 rfl rfl)
theorem dX0_complex_62 : decode cX0_complex 62 = .ok (.getfield 75, 3) := dk_180 0 75 (dk_at dksX0_complex_2 15 rfl rfl)
theorem dX0_complex_65 : decode cX0_complex 65 = .ok (.getfield 97, 3) := dk_180 0 97 (dk_at dksX0_complex_2 18 rfl rfl)
theorem dX0_complex_68 : decode cX0_complex 68 = .ok (.arraylength, 1) := dk_190 (dk_at dksX0_complex_2 21 rfl rfl)
theorem dX0_complex_69 : decode cX0_complex 69 = .ok (.iadd, 1) := dk_96 (dk_at dksX0_complex_2 22 rfl rfl)
theorem dX0_complex_70 : decode cX0_complex 70 = .ok (.aload_n 0, 1) := dk_42 (dk_at dksX0_complex_2 23 rfl rfl)
theorem dX0_complex_71 : decode cX0_complex 71 = .ok (.getfield 75, 3) := dk_180 0 75 (dk_at dksX0_complex_3 0 rfl rfl)
theorem dX0_complex_74 : decode cX0_complex 74 = .ok (.getfield 101, 3) := dk_180 0 101 (dk_at dksX0_complex_3 3 rfl rfl)
theorem dX0_complex_77 : decode cX0_complex 77 = .ok (.arraylength, 1) := dk_190 (dk_at dksX0_complex_3 6 rfl rfl)
theorem dX0_complex_78 : decode cX0_complex 78 = .ok (.iadd, 1) := dk_96 (dk_at dksX0_complex_3 7 rfl rfl)
theorem dX0_complex_79 : decode cX0_complex 79 = .ok (.ireturn, 1) := dk_172 (dk_at dksX0_complex_3 8 rfl rfl)
abbrev cX0_edgeBy : ByteArray := prog_1_method_4_code
def yX0_edgeBy : MethodName := ⟨RX0, "edgeBy", "(III)LChainParts$EdgeCell;"⟩
def dkwX0_edgeBy_1 : List UInt8 := [183, 0, 15, 176]
abbrev dktX0_edgeBy_1 : List UInt8 := dkwX0_edgeBy_1 ++ []
def dkwX0_edgeBy_0 : List UInt8 := [26, 27, 160, 0, 15, 187, 0, 7, 89, 26, 28, 183, 0, 9, 167, 0, 13, 187, 0, 13, 89, 26, 27, 28]
abbrev dktX0_edgeBy_0 : List UInt8 := dkwX0_edgeBy_0 ++ dktX0_edgeBy_1
theorem dksX0_edgeBy_0 : cX0_edgeBy.data.toList.drop 0 = dktX0_edgeBy_0 := by decide +kernel
theorem dksX0_edgeBy_1 : cX0_edgeBy.data.toList.drop 24 = dktX0_edgeBy_1 := dk_seg dksX0_edgeBy_0 24 rfl rfl
theorem dX0_edgeBy_0 : decode cX0_edgeBy 0 = .ok (.iload_n 0, 1) := dk_26 (dk_at dksX0_edgeBy_0 0 rfl rfl)
theorem dX0_edgeBy_1 : decode cX0_edgeBy 1 = .ok (.iload_n 1, 1) := dk_27 (dk_at dksX0_edgeBy_0 1 rfl rfl)
theorem dX0_edgeBy_2 : decode cX0_edgeBy 2 = .ok (.if_icmp .ne 15, 3) := dk_160 0 15 (dk_at dksX0_edgeBy_0 2 rfl rfl)
theorem dX0_edgeBy_5 : decode cX0_edgeBy 5 = .ok (.new 7, 3) := dk_187 0 7 (dk_at dksX0_edgeBy_0 5 rfl rfl)
theorem dX0_edgeBy_8 : decode cX0_edgeBy 8 = .ok (.dup, 1) := dk_89 (dk_at dksX0_edgeBy_0 8 rfl rfl)
theorem dX0_edgeBy_9 : decode cX0_edgeBy 9 = .ok (.iload_n 0, 1) := dk_26 (dk_at dksX0_edgeBy_0 9 rfl rfl)
theorem dX0_edgeBy_10 : decode cX0_edgeBy 10 = .ok (.iload_n 2, 1) := dk_28 (dk_at dksX0_edgeBy_0 10 rfl rfl)
theorem dX0_edgeBy_11 : decode cX0_edgeBy 11 = .ok (.invokespecial 9, 3) := dk_183 0 9 (dk_at dksX0_edgeBy_0 11 rfl rfl)
theorem dX0_edgeBy_14 : decode cX0_edgeBy 14 = .ok (.goto 13, 3) := dk_167 0 13 (dk_at dksX0_edgeBy_0 14 rfl rfl)
theorem dX0_edgeBy_17 : decode cX0_edgeBy 17 = .ok (.new 13, 3) := dk_187 0 13 (dk_at dksX0_edgeBy_0 17 rfl rfl)
theorem dX0_edgeBy_20 : decode cX0_edgeBy 20 = .ok (.dup, 1) := dk_89 (dk_at dksX0_edgeBy_0 20 rfl rfl)
theorem dX0_edgeBy_21 : decode cX0_edgeBy 21 = .ok (.iload_n 0, 1) := dk_26 (dk_at dksX0_edgeBy_0 21 rfl rfl)
theorem dX0_edgeBy_22 : decode cX0_edgeBy 22 = .ok (.iload_n 1, 1) := dk_27 (dk_at dksX0_edgeBy_0 22 rfl rfl)
theorem dX0_edgeBy_23 : decode cX0_edgeBy 23 = .ok (.iload_n 2, 1) := dk_28 (dk_at dksX0_edgeBy_0 23 rfl rfl)
theorem dX0_edgeBy_24 : decode cX0_edgeBy 24 = .ok (.invokespecial 15, 3) := dk_183 0 15 (dk_at dksX0_edgeBy_1 0 rfl rfl)
theorem dX0_edgeBy_27 : decode cX0_edgeBy 27 = .ok (.areturn, 1) := dk_176 (dk_at dksX0_edgeBy_1 3 rfl rfl)
abbrev cX0_faceBy : ByteArray := prog_1_method_5_code
def yX0_faceBy : MethodName := ⟨RX0, "faceBy", "([II)LChainParts$FaceCell;"⟩
def dkwX0_faceBy_2 : List UInt8 := [153, 0, 15, 187, 0, 29, 89, 42, 27, 183, 0, 31, 167, 0, 4, 44, 176]
abbrev dktX0_faceBy_2 : List UInt8 := dkwX0_faceBy_2 ++ []
def dkwX0_faceBy_1 : List UInt8 := [21, 4, 182, 0, 25, 154, 0, 7, 4, 167, 0, 4, 3, 126, 62, 132, 4, 1, 167, 255, 229, 29]
abbrev dktX0_faceBy_1 : List UInt8 := dkwX0_faceBy_1 ++ dktX0_faceBy_2
def dkwX0_faceBy_0 : List UInt8 := [187, 0, 18, 89, 42, 27, 183, 0, 20, 77, 4, 62, 3, 54, 4, 21, 4, 16, 6, 162, 0, 26, 29, 44]
abbrev dktX0_faceBy_0 : List UInt8 := dkwX0_faceBy_0 ++ dktX0_faceBy_1
theorem dksX0_faceBy_0 : cX0_faceBy.data.toList.drop 0 = dktX0_faceBy_0 := by decide +kernel
theorem dksX0_faceBy_1 : cX0_faceBy.data.toList.drop 24 = dktX0_faceBy_1 := dk_seg dksX0_faceBy_0 24 rfl rfl
theorem dksX0_faceBy_2 : cX0_faceBy.data.toList.drop 46 = dktX0_faceBy_2 := dk_seg dksX0_faceBy_1 22 rfl rfl
theorem dX0_faceBy_0 : decode cX0_faceBy 0 = .ok (.new 18, 3) := dk_187 0 18 (dk_at dksX0_faceBy_0 0 rfl rfl)
theorem dX0_faceBy_3 : decode cX0_faceBy 3 = .ok (.dup, 1) := dk_89 (dk_at dksX0_faceBy_0 3 rfl rfl)
theorem dX0_faceBy_4 : decode cX0_faceBy 4 = .ok (.aload_n 0, 1) := dk_42 (dk_at dksX0_faceBy_0 4 rfl rfl)
theorem dX0_faceBy_5 : decode cX0_faceBy 5 = .ok (.iload_n 1, 1) := dk_27 (dk_at dksX0_faceBy_0 5 rfl rfl)
theorem dX0_faceBy_6 : decode cX0_faceBy 6 = .ok (.invokespecial 20, 3) := dk_183 0 20 (dk_at dksX0_faceBy_0 6 rfl rfl)
theorem dX0_faceBy_9 : decode cX0_faceBy 9 = .ok (.astore_n 2, 1) := dk_77 (dk_at dksX0_faceBy_0 9 rfl rfl)
theorem dX0_faceBy_10 : decode cX0_faceBy 10 = .ok (.iconst 1, 1) := dk_4 (dk_at dksX0_faceBy_0 10 rfl rfl)
theorem dX0_faceBy_11 : decode cX0_faceBy 11 = .ok (.istore_n 3, 1) := dk_62 (dk_at dksX0_faceBy_0 11 rfl rfl)
theorem dX0_faceBy_12 : decode cX0_faceBy 12 = .ok (.iconst 0, 1) := dk_3 (dk_at dksX0_faceBy_0 12 rfl rfl)
theorem dX0_faceBy_13 : decode cX0_faceBy 13 = .ok (.istore 4, 2) := dk_54 4 (dk_at dksX0_faceBy_0 13 rfl rfl)
theorem dX0_faceBy_15 : decode cX0_faceBy 15 = .ok (.iload 4, 2) := dk_21 4 (dk_at dksX0_faceBy_0 15 rfl rfl)
theorem dX0_faceBy_17 : decode cX0_faceBy 17 = .ok (.bipush 6, 2) := dk_16 6 (dk_at dksX0_faceBy_0 17 rfl rfl)
theorem dX0_faceBy_19 : decode cX0_faceBy 19 = .ok (.if_icmp .ge 26, 3) := dk_162 0 26 (dk_at dksX0_faceBy_0 19 rfl rfl)
theorem dX0_faceBy_22 : decode cX0_faceBy 22 = .ok (.iload_n 3, 1) := dk_29 (dk_at dksX0_faceBy_0 22 rfl rfl)
theorem dX0_faceBy_23 : decode cX0_faceBy 23 = .ok (.aload_n 2, 1) := dk_44 (dk_at dksX0_faceBy_0 23 rfl rfl)
theorem dX0_faceBy_24 : decode cX0_faceBy 24 = .ok (.iload 4, 2) := dk_21 4 (dk_at dksX0_faceBy_1 0 rfl rfl)
theorem dX0_faceBy_26 : decode cX0_faceBy 26 = .ok (.invokevirtual 25, 3) := dk_182 0 25 (dk_at dksX0_faceBy_1 2 rfl rfl)
theorem dX0_faceBy_29 : decode cX0_faceBy 29 = .ok (.ifCond .ne 7, 3) := dk_154 0 7 (dk_at dksX0_faceBy_1 5 rfl rfl)
theorem dX0_faceBy_32 : decode cX0_faceBy 32 = .ok (.iconst 1, 1) := dk_4 (dk_at dksX0_faceBy_1 8 rfl rfl)
theorem dX0_faceBy_33 : decode cX0_faceBy 33 = .ok (.goto 4, 3) := dk_167 0 4 (dk_at dksX0_faceBy_1 9 rfl rfl)
theorem dX0_faceBy_36 : decode cX0_faceBy 36 = .ok (.iconst 0, 1) := dk_3 (dk_at dksX0_faceBy_1 12 rfl rfl)
theorem dX0_faceBy_37 : decode cX0_faceBy 37 = .ok (.iand, 1) := dk_126 (dk_at dksX0_faceBy_1 13 rfl rfl)
theorem dX0_faceBy_38 : decode cX0_faceBy 38 = .ok (.istore_n 3, 1) := dk_62 (dk_at dksX0_faceBy_1 14 rfl rfl)
theorem dX0_faceBy_39 : decode cX0_faceBy 39 = .ok (.iinc 4 1, 3) := dk_132 4 1 (dk_at dksX0_faceBy_1 15 rfl rfl)
theorem dX0_faceBy_42 : decode cX0_faceBy 42 = .ok (.goto (-27), 3) := dk_167 255 229 (dk_at dksX0_faceBy_1 18 rfl rfl)
theorem dX0_faceBy_45 : decode cX0_faceBy 45 = .ok (.iload_n 3, 1) := dk_29 (dk_at dksX0_faceBy_1 21 rfl rfl)
theorem dX0_faceBy_46 : decode cX0_faceBy 46 = .ok (.ifCond .eq 15, 3) := dk_153 0 15 (dk_at dksX0_faceBy_2 0 rfl rfl)
theorem dX0_faceBy_49 : decode cX0_faceBy 49 = .ok (.new 29, 3) := dk_187 0 29 (dk_at dksX0_faceBy_2 3 rfl rfl)
theorem dX0_faceBy_52 : decode cX0_faceBy 52 = .ok (.dup, 1) := dk_89 (dk_at dksX0_faceBy_2 6 rfl rfl)
theorem dX0_faceBy_53 : decode cX0_faceBy 53 = .ok (.aload_n 0, 1) := dk_42 (dk_at dksX0_faceBy_2 7 rfl rfl)
theorem dX0_faceBy_54 : decode cX0_faceBy 54 = .ok (.iload_n 1, 1) := dk_27 (dk_at dksX0_faceBy_2 8 rfl rfl)
theorem dX0_faceBy_55 : decode cX0_faceBy 55 = .ok (.invokespecial 31, 3) := dk_183 0 31 (dk_at dksX0_faceBy_2 9 rfl rfl)
theorem dX0_faceBy_58 : decode cX0_faceBy 58 = .ok (.goto 4, 3) := dk_167 0 4 (dk_at dksX0_faceBy_2 12 rfl rfl)
theorem dX0_faceBy_61 : decode cX0_faceBy 61 = .ok (.aload_n 2, 1) := dk_44 (dk_at dksX0_faceBy_2 15 rfl rfl)
theorem dX0_faceBy_62 : decode cX0_faceBy 62 = .ok (.areturn, 1) := dk_176 (dk_at dksX0_faceBy_2 16 rfl rfl)
abbrev cX0_fault : ByteArray := prog_1_method_10_code
def yX0_fault : MethodName := ⟨RX0, "fault", "()I"⟩
theorem dX0_fault_0 : decode cX0_fault 0 = .ok (.aload_n 0, 1) := by decide +kernel
theorem dX0_fault_1 : decode cX0_fault 1 = .ok (.getfield 84, 3) := by decide +kernel
theorem dX0_fault_4 : decode cX0_fault 4 = .ok (.ireturn, 1) := by decide +kernel
abbrev cX0_undo : ByteArray := prog_1_method_12_code
def yX0_undo : MethodName := ⟨RX0, "undo", "()I"⟩
def dkwX0_undo_1 : List UInt8 := [181, 0, 91, 50, 181, 0, 75, 42, 180, 0, 91, 172]
abbrev dktX0_undo_1 : List UInt8 := dkwX0_undo_1 ++ []
def dkwX0_undo_0 : List UInt8 := [42, 180, 0, 91, 154, 0, 6, 18, 105, 172, 42, 42, 180, 0, 47, 42, 89, 180, 0, 91, 4, 100, 90]
abbrev dktX0_undo_0 : List UInt8 := dkwX0_undo_0 ++ dktX0_undo_1
theorem dksX0_undo_0 : cX0_undo.data.toList.drop 0 = dktX0_undo_0 := by decide +kernel
theorem dksX0_undo_1 : cX0_undo.data.toList.drop 23 = dktX0_undo_1 := dk_seg dksX0_undo_0 23 rfl rfl
theorem dX0_undo_0 : decode cX0_undo 0 = .ok (.aload_n 0, 1) := dk_42 (dk_at dksX0_undo_0 0 rfl rfl)
theorem dX0_undo_1 : decode cX0_undo 1 = .ok (.getfield 91, 3) := dk_180 0 91 (dk_at dksX0_undo_0 1 rfl rfl)
theorem dX0_undo_4 : decode cX0_undo 4 = .ok (.ifCond .ne 6, 3) := dk_154 0 6 (dk_at dksX0_undo_0 4 rfl rfl)
theorem dX0_undo_7 : decode cX0_undo 7 = .ok (.ldc 105, 2) := dk_18 105 (dk_at dksX0_undo_0 7 rfl rfl)
theorem dX0_undo_9 : decode cX0_undo 9 = .ok (.ireturn, 1) := dk_172 (dk_at dksX0_undo_0 9 rfl rfl)
theorem dX0_undo_10 : decode cX0_undo 10 = .ok (.aload_n 0, 1) := dk_42 (dk_at dksX0_undo_0 10 rfl rfl)
theorem dX0_undo_11 : decode cX0_undo 11 = .ok (.aload_n 0, 1) := dk_42 (dk_at dksX0_undo_0 11 rfl rfl)
theorem dX0_undo_12 : decode cX0_undo 12 = .ok (.getfield 47, 3) := dk_180 0 47 (dk_at dksX0_undo_0 12 rfl rfl)
theorem dX0_undo_15 : decode cX0_undo 15 = .ok (.aload_n 0, 1) := dk_42 (dk_at dksX0_undo_0 15 rfl rfl)
theorem dX0_undo_16 : decode cX0_undo 16 = .ok (.dup, 1) := dk_89 (dk_at dksX0_undo_0 16 rfl rfl)
theorem dX0_undo_17 : decode cX0_undo 17 = .ok (.getfield 91, 3) := dk_180 0 91 (dk_at dksX0_undo_0 17 rfl rfl)
theorem dX0_undo_20 : decode cX0_undo 20 = .ok (.iconst 1, 1) := dk_4 (dk_at dksX0_undo_0 20 rfl rfl)
theorem dX0_undo_21 : decode cX0_undo 21 = .ok (.isub, 1) := dk_100 (dk_at dksX0_undo_0 21 rfl rfl)
theorem dX0_undo_22 : decode cX0_undo 22 = .ok (.dup_x1, 1) := dk_90 (dk_at dksX0_undo_0 22 rfl rfl)
theorem dX0_undo_23 : decode cX0_undo 23 = .ok (.putfield 91, 3) := dk_181 0 91 (dk_at dksX0_undo_1 0 rfl rfl)
theorem dX0_undo_26 : decode cX0_undo 26 = .ok (.aaload, 1) := dk_50 (dk_at dksX0_undo_1 3 rfl rfl)
theorem dX0_undo_27 : decode cX0_undo 27 = .ok (.putfield 75, 3) := dk_181 0 75 (dk_at dksX0_undo_1 4 rfl rfl)
theorem dX0_undo_30 : decode cX0_undo 30 = .ok (.aload_n 0, 1) := dk_42 (dk_at dksX0_undo_1 7 rfl rfl)
theorem dX0_undo_31 : decode cX0_undo 31 = .ok (.getfield 91, 3) := dk_180 0 91 (dk_at dksX0_undo_1 8 rfl rfl)
theorem dX0_undo_34 : decode cX0_undo 34 = .ok (.ireturn, 1) := dk_172 (dk_at dksX0_undo_1 11 rfl rfl)
abbrev cX0_weigh : ByteArray := prog_1_method_18_code
def yX0_weigh : MethodName := ⟨RX0, "weigh", "(III)I"⟩
def dkwX0_weigh_4 : List UInt8 := [180, 0, 75, 180, 0, 101, 28, 50, 29, 182, 0, 133, 182, 0, 136, 182, 0, 140, 21, 4, 172]
abbrev dktX0_weigh_4 : List UInt8 := dkwX0_weigh_4 ++ []
def dkwX0_weigh_3 : List UInt8 := [180, 0, 75, 180, 0, 97, 28, 50, 29, 182, 0, 125, 182, 0, 129, 167, 0, 24, 42, 180, 0, 75, 28, 42]
abbrev dktX0_weigh_3 : List UInt8 := dkwX0_weigh_3 ++ dktX0_weigh_4
def dkwX0_weigh_2 : List UInt8 := [180, 0, 101, 28, 50, 180, 0, 124, 54, 4, 42, 27, 4, 160, 0, 27, 42, 180, 0, 75, 28, 42]
abbrev dktX0_weigh_2 : List UInt8 := dkwX0_weigh_2 ++ dktX0_weigh_3
def dkwX0_weigh_1 : List UInt8 := [4, 160, 0, 18, 42, 180, 0, 75, 180, 0, 97, 28, 50, 180, 0, 121, 167, 0, 15, 42, 180, 0, 75]
abbrev dktX0_weigh_1 : List UInt8 := dkwX0_weigh_1 ++ dktX0_weigh_2
def dkwX0_weigh_0 : List UInt8 := [27, 153, 0, 19, 42, 27, 28, 182, 0, 113, 153, 0, 10, 29, 184, 0, 117, 154, 0, 6, 18, 60, 172, 27]
abbrev dktX0_weigh_0 : List UInt8 := dkwX0_weigh_0 ++ dktX0_weigh_1
theorem dksX0_weigh_0 : cX0_weigh.data.toList.drop 0 = dktX0_weigh_0 := by decide +kernel
theorem dksX0_weigh_1 : cX0_weigh.data.toList.drop 24 = dktX0_weigh_1 := dk_seg dksX0_weigh_0 24 rfl rfl
theorem dksX0_weigh_2 : cX0_weigh.data.toList.drop 47 = dktX0_weigh_2 := dk_seg dksX0_weigh_1 23 rfl rfl
theorem dksX0_weigh_3 : cX0_weigh.data.toList.drop 69 = dktX0_weigh_3 := dk_seg dksX0_weigh_2 22 rfl rfl
theorem dksX0_weigh_4 : cX0_weigh.data.toList.drop 93 = dktX0_weigh_4 := dk_seg dksX0_weigh_3 24 rfl rfl
theorem dX0_weigh_0 : decode cX0_weigh 0 = .ok (.iload_n 1, 1) := dk_27 (dk_at dksX0_weigh_0 0 rfl rfl)
theorem dX0_weigh_1 : decode cX0_weigh 1 = .ok (.ifCond .eq 19, 3) := dk_153 0 19 (dk_at dksX0_weigh_0 1 rfl rfl)
theorem dX0_weigh_4 : decode cX0_weigh 4 = .ok (.aload_n 0, 1) := dk_42 (dk_at dksX0_weigh_0 4 rfl rfl)
theorem dX0_weigh_5 : decode cX0_weigh 5 = .ok (.iload_n 1, 1) := dk_27 (dk_at dksX0_weigh_0 5 rfl rfl)
theorem dX0_weigh_6 : decode cX0_weigh 6 = .ok (.iload_n 2, 1) := dk_28 (dk_at dksX0_weigh_0 6 rfl rfl)
theorem dX0_weigh_7 : decode cX0_weigh 7 = .ok (.invokevirtual 113, 3) := dk_182 0 113 (dk_at dksX0_weigh_0 7 rfl rfl)
theorem dX0_weigh_10 : decode cX0_weigh 10 = .ok (.ifCond .eq 10, 3) := dk_153 0 10 (dk_at dksX0_weigh_0 10 rfl rfl)
theorem dX0_weigh_13 : decode cX0_weigh 13 = .ok (.iload_n 3, 1) := dk_29 (dk_at dksX0_weigh_0 13 rfl rfl)
theorem dX0_weigh_14 : decode cX0_weigh 14 = .ok (.invokestatic 117, 3) := dk_184 0 117 (dk_at dksX0_weigh_0 14 rfl rfl)
theorem dX0_weigh_17 : decode cX0_weigh 17 = .ok (.ifCond .ne 6, 3) := dk_154 0 6 (dk_at dksX0_weigh_0 17 rfl rfl)
theorem dX0_weigh_20 : decode cX0_weigh 20 = .ok (.ldc 60, 2) := dk_18 60 (dk_at dksX0_weigh_0 20 rfl rfl)
theorem dX0_weigh_22 : decode cX0_weigh 22 = .ok (.ireturn, 1) := dk_172 (dk_at dksX0_weigh_0 22 rfl rfl)
theorem dX0_weigh_23 : decode cX0_weigh 23 = .ok (.iload_n 1, 1) := dk_27 (dk_at dksX0_weigh_0 23 rfl rfl)
theorem dX0_weigh_24 : decode cX0_weigh 24 = .ok (.iconst 1, 1) := dk_4 (dk_at dksX0_weigh_1 0 rfl rfl)
theorem dX0_weigh_25 : decode cX0_weigh 25 = .ok (.if_icmp .ne 18, 3) := dk_160 0 18 (dk_at dksX0_weigh_1 1 rfl rfl)
theorem dX0_weigh_28 : decode cX0_weigh 28 = .ok (.aload_n 0, 1) := dk_42 (dk_at dksX0_weigh_1 4 rfl rfl)
theorem dX0_weigh_29 : decode cX0_weigh 29 = .ok (.getfield 75, 3) := dk_180 0 75 (dk_at dksX0_weigh_1 5 rfl rfl)
theorem dX0_weigh_32 : decode cX0_weigh 32 = .ok (.getfield 97, 3) := dk_180 0 97 (dk_at dksX0_weigh_1 8 rfl rfl)
theorem dX0_weigh_35 : decode cX0_weigh 35 = .ok (.iload_n 2, 1) := dk_28 (dk_at dksX0_weigh_1 11 rfl rfl)
theorem dX0_weigh_36 : decode cX0_weigh 36 = .ok (.aaload, 1) := dk_50 (dk_at dksX0_weigh_1 12 rfl rfl)
theorem dX0_weigh_37 : decode cX0_weigh 37 = .ok (.getfield 121, 3) := dk_180 0 121 (dk_at dksX0_weigh_1 13 rfl rfl)
theorem dX0_weigh_40 : decode cX0_weigh 40 = .ok (.goto 15, 3) := dk_167 0 15 (dk_at dksX0_weigh_1 16 rfl rfl)
theorem dX0_weigh_43 : decode cX0_weigh 43 = .ok (.aload_n 0, 1) := dk_42 (dk_at dksX0_weigh_1 19 rfl rfl)
theorem dX0_weigh_44 : decode cX0_weigh 44 = .ok (.getfield 75, 3) := dk_180 0 75 (dk_at dksX0_weigh_1 20 rfl rfl)
theorem dX0_weigh_47 : decode cX0_weigh 47 = .ok (.getfield 101, 3) := dk_180 0 101 (dk_at dksX0_weigh_2 0 rfl rfl)
theorem dX0_weigh_50 : decode cX0_weigh 50 = .ok (.iload_n 2, 1) := dk_28 (dk_at dksX0_weigh_2 3 rfl rfl)
theorem dX0_weigh_51 : decode cX0_weigh 51 = .ok (.aaload, 1) := dk_50 (dk_at dksX0_weigh_2 4 rfl rfl)
theorem dX0_weigh_52 : decode cX0_weigh 52 = .ok (.getfield 124, 3) := dk_180 0 124 (dk_at dksX0_weigh_2 5 rfl rfl)
theorem dX0_weigh_55 : decode cX0_weigh 55 = .ok (.istore 4, 2) := dk_54 4 (dk_at dksX0_weigh_2 8 rfl rfl)
theorem dX0_weigh_57 : decode cX0_weigh 57 = .ok (.aload_n 0, 1) := dk_42 (dk_at dksX0_weigh_2 10 rfl rfl)
theorem dX0_weigh_58 : decode cX0_weigh 58 = .ok (.iload_n 1, 1) := dk_27 (dk_at dksX0_weigh_2 11 rfl rfl)
theorem dX0_weigh_59 : decode cX0_weigh 59 = .ok (.iconst 1, 1) := dk_4 (dk_at dksX0_weigh_2 12 rfl rfl)
theorem dX0_weigh_60 : decode cX0_weigh 60 = .ok (.if_icmp .ne 27, 3) := dk_160 0 27 (dk_at dksX0_weigh_2 13 rfl rfl)
theorem dX0_weigh_63 : decode cX0_weigh 63 = .ok (.aload_n 0, 1) := dk_42 (dk_at dksX0_weigh_2 16 rfl rfl)
theorem dX0_weigh_64 : decode cX0_weigh 64 = .ok (.getfield 75, 3) := dk_180 0 75 (dk_at dksX0_weigh_2 17 rfl rfl)
theorem dX0_weigh_67 : decode cX0_weigh 67 = .ok (.iload_n 2, 1) := dk_28 (dk_at dksX0_weigh_2 20 rfl rfl)
theorem dX0_weigh_68 : decode cX0_weigh 68 = .ok (.aload_n 0, 1) := dk_42 (dk_at dksX0_weigh_2 21 rfl rfl)
theorem dX0_weigh_69 : decode cX0_weigh 69 = .ok (.getfield 75, 3) := dk_180 0 75 (dk_at dksX0_weigh_3 0 rfl rfl)
theorem dX0_weigh_72 : decode cX0_weigh 72 = .ok (.getfield 97, 3) := dk_180 0 97 (dk_at dksX0_weigh_3 3 rfl rfl)
theorem dX0_weigh_75 : decode cX0_weigh 75 = .ok (.iload_n 2, 1) := dk_28 (dk_at dksX0_weigh_3 6 rfl rfl)
theorem dX0_weigh_76 : decode cX0_weigh 76 = .ok (.aaload, 1) := dk_50 (dk_at dksX0_weigh_3 7 rfl rfl)
theorem dX0_weigh_77 : decode cX0_weigh 77 = .ok (.iload_n 3, 1) := dk_29 (dk_at dksX0_weigh_3 8 rfl rfl)
theorem dX0_weigh_78 : decode cX0_weigh 78 = .ok (.invokevirtual 125, 3) := dk_182 0 125 (dk_at dksX0_weigh_3 9 rfl rfl)
theorem dX0_weigh_81 : decode cX0_weigh 81 = .ok (.invokevirtual 129, 3) := dk_182 0 129 (dk_at dksX0_weigh_3 12 rfl rfl)
theorem dX0_weigh_84 : decode cX0_weigh 84 = .ok (.goto 24, 3) := dk_167 0 24 (dk_at dksX0_weigh_3 15 rfl rfl)
theorem dX0_weigh_87 : decode cX0_weigh 87 = .ok (.aload_n 0, 1) := dk_42 (dk_at dksX0_weigh_3 18 rfl rfl)
theorem dX0_weigh_88 : decode cX0_weigh 88 = .ok (.getfield 75, 3) := dk_180 0 75 (dk_at dksX0_weigh_3 19 rfl rfl)
theorem dX0_weigh_91 : decode cX0_weigh 91 = .ok (.iload_n 2, 1) := dk_28 (dk_at dksX0_weigh_3 22 rfl rfl)
theorem dX0_weigh_92 : decode cX0_weigh 92 = .ok (.aload_n 0, 1) := dk_42 (dk_at dksX0_weigh_3 23 rfl rfl)
theorem dX0_weigh_93 : decode cX0_weigh 93 = .ok (.getfield 75, 3) := dk_180 0 75 (dk_at dksX0_weigh_4 0 rfl rfl)
theorem dX0_weigh_96 : decode cX0_weigh 96 = .ok (.getfield 101, 3) := dk_180 0 101 (dk_at dksX0_weigh_4 3 rfl rfl)
theorem dX0_weigh_99 : decode cX0_weigh 99 = .ok (.iload_n 2, 1) := dk_28 (dk_at dksX0_weigh_4 6 rfl rfl)
theorem dX0_weigh_100 : decode cX0_weigh 100 = .ok (.aaload, 1) := dk_50 (dk_at dksX0_weigh_4 7 rfl rfl)
theorem dX0_weigh_101 : decode cX0_weigh 101 = .ok (.iload_n 3, 1) := dk_29 (dk_at dksX0_weigh_4 8 rfl rfl)
theorem dX0_weigh_102 : decode cX0_weigh 102 = .ok (.invokevirtual 133, 3) := dk_182 0 133 (dk_at dksX0_weigh_4 9 rfl rfl)
theorem dX0_weigh_105 : decode cX0_weigh 105 = .ok (.invokevirtual 136, 3) := dk_182 0 136 (dk_at dksX0_weigh_4 12 rfl rfl)
theorem dX0_weigh_108 : decode cX0_weigh 108 = .ok (.invokevirtual 140, 3) := dk_182 0 140 (dk_at dksX0_weigh_4 15 rfl rfl)
theorem dX0_weigh_111 : decode cX0_weigh 111 = .ok (.iload 4, 2) := dk_21 4 (dk_at dksX0_weigh_4 18 rfl rfl)
theorem dX0_weigh_113 : decode cX0_weigh 113 = .ok (.ireturn, 1) := dk_172 (dk_at dksX0_weigh_4 20 rfl rfl)
abbrev cX0_isCell : ByteArray := prog_1_method_13_code
def yX0_isCell : MethodName := ⟨RX0, "isCell", "(II)Z"⟩
def dkwX0_isCell_1 : List UInt8 := [180, 0, 75, 27, 182, 0, 108, 4, 100, 133, 184, 0, 56, 153, 0, 7, 4, 167, 0, 4, 3, 172]
abbrev dktX0_isCell_1 : List UInt8 := dkwX0_isCell_1 ++ []
def dkwX0_isCell_0 : List UInt8 := [42, 180, 0, 75, 198, 0, 39, 27, 133, 9, 20, 0, 106, 184, 0, 56, 153, 0, 27, 28, 133, 9, 42]
abbrev dktX0_isCell_0 : List UInt8 := dkwX0_isCell_0 ++ dktX0_isCell_1
theorem dksX0_isCell_0 : cX0_isCell.data.toList.drop 0 = dktX0_isCell_0 := by decide +kernel
theorem dksX0_isCell_1 : cX0_isCell.data.toList.drop 23 = dktX0_isCell_1 := dk_seg dksX0_isCell_0 23 rfl rfl
theorem dX0_isCell_0 : decode cX0_isCell 0 = .ok (.aload_n 0, 1) := dk_42 (dk_at dksX0_isCell_0 0 rfl rfl)
theorem dX0_isCell_1 : decode cX0_isCell 1 = .ok (.getfield 75, 3) := dk_180 0 75 (dk_at dksX0_isCell_0 1 rfl rfl)
theorem dX0_isCell_4 : decode cX0_isCell 4 = .ok (.ifnull 39, 3) := dk_198 0 39 (dk_at dksX0_isCell_0 4 rfl rfl)
theorem dX0_isCell_7 : decode cX0_isCell 7 = .ok (.iload_n 1, 1) := dk_27 (dk_at dksX0_isCell_0 7 rfl rfl)
theorem dX0_isCell_8 : decode cX0_isCell 8 = .ok (.i2l, 1) := dk_133 (dk_at dksX0_isCell_0 8 rfl rfl)
theorem dX0_isCell_9 : decode cX0_isCell 9 = .ok (.lconst 0, 1) := dk_9 (dk_at dksX0_isCell_0 9 rfl rfl)
theorem dX0_isCell_10 : decode cX0_isCell 10 = .ok (.ldc2_w 106, 3) := dk_20 0 106 (dk_at dksX0_isCell_0 10 rfl rfl)
theorem dX0_isCell_13 : decode cX0_isCell 13 = .ok (.invokestatic 56, 3) := dk_184 0 56 (dk_at dksX0_isCell_0 13 rfl rfl)
theorem dX0_isCell_16 : decode cX0_isCell 16 = .ok (.ifCond .eq 27, 3) := dk_153 0 27 (dk_at dksX0_isCell_0 16 rfl rfl)
theorem dX0_isCell_19 : decode cX0_isCell 19 = .ok (.iload_n 2, 1) := dk_28 (dk_at dksX0_isCell_0 19 rfl rfl)
theorem dX0_isCell_20 : decode cX0_isCell 20 = .ok (.i2l, 1) := dk_133 (dk_at dksX0_isCell_0 20 rfl rfl)
theorem dX0_isCell_21 : decode cX0_isCell 21 = .ok (.lconst 0, 1) := dk_9 (dk_at dksX0_isCell_0 21 rfl rfl)
theorem dX0_isCell_22 : decode cX0_isCell 22 = .ok (.aload_n 0, 1) := dk_42 (dk_at dksX0_isCell_0 22 rfl rfl)
theorem dX0_isCell_23 : decode cX0_isCell 23 = .ok (.getfield 75, 3) := dk_180 0 75 (dk_at dksX0_isCell_1 0 rfl rfl)
theorem dX0_isCell_26 : decode cX0_isCell 26 = .ok (.iload_n 1, 1) := dk_27 (dk_at dksX0_isCell_1 3 rfl rfl)
theorem dX0_isCell_27 : decode cX0_isCell 27 = .ok (.invokevirtual 108, 3) := dk_182 0 108 (dk_at dksX0_isCell_1 4 rfl rfl)
theorem dX0_isCell_30 : decode cX0_isCell 30 = .ok (.iconst 1, 1) := dk_4 (dk_at dksX0_isCell_1 7 rfl rfl)
theorem dX0_isCell_31 : decode cX0_isCell 31 = .ok (.isub, 1) := dk_100 (dk_at dksX0_isCell_1 8 rfl rfl)
theorem dX0_isCell_32 : decode cX0_isCell 32 = .ok (.i2l, 1) := dk_133 (dk_at dksX0_isCell_1 9 rfl rfl)
theorem dX0_isCell_33 : decode cX0_isCell 33 = .ok (.invokestatic 56, 3) := dk_184 0 56 (dk_at dksX0_isCell_1 10 rfl rfl)
theorem dX0_isCell_36 : decode cX0_isCell 36 = .ok (.ifCond .eq 7, 3) := dk_153 0 7 (dk_at dksX0_isCell_1 13 rfl rfl)
theorem dX0_isCell_39 : decode cX0_isCell 39 = .ok (.iconst 1, 1) := dk_4 (dk_at dksX0_isCell_1 16 rfl rfl)
theorem dX0_isCell_40 : decode cX0_isCell 40 = .ok (.goto 4, 3) := dk_167 0 4 (dk_at dksX0_isCell_1 17 rfl rfl)
theorem dX0_isCell_43 : decode cX0_isCell 43 = .ok (.iconst 0, 1) := dk_3 (dk_at dksX0_isCell_1 20 rfl rfl)
theorem dX0_isCell_44 : decode cX0_isCell 44 = .ok (.ireturn, 1) := dk_172 (dk_at dksX0_isCell_1 21 rfl rfl)
abbrev cX0_isWeight : ByteArray := prog_1_method_14_code
def yX0_isWeight : MethodName := ⟨RX0, "isWeight", "(I)Z"⟩
def dkwX0_isWeight_0 : List UInt8 := [26, 133, 10, 20, 0, 111, 184, 0, 56, 172]
abbrev dktX0_isWeight_0 : List UInt8 := dkwX0_isWeight_0 ++ []
theorem dksX0_isWeight_0 : cX0_isWeight.data.toList.drop 0 = dktX0_isWeight_0 := by decide +kernel
theorem dX0_isWeight_0 : decode cX0_isWeight 0 = .ok (.iload_n 0, 1) := dk_26 (dk_at dksX0_isWeight_0 0 rfl rfl)
theorem dX0_isWeight_1 : decode cX0_isWeight 1 = .ok (.i2l, 1) := dk_133 (dk_at dksX0_isWeight_0 1 rfl rfl)
theorem dX0_isWeight_2 : decode cX0_isWeight 2 = .ok (.lconst 1, 1) := dk_10 (dk_at dksX0_isWeight_0 2 rfl rfl)
theorem dX0_isWeight_3 : decode cX0_isWeight 3 = .ok (.ldc2_w 111, 3) := dk_20 0 111 (dk_at dksX0_isWeight_0 3 rfl rfl)
theorem dX0_isWeight_6 : decode cX0_isWeight 6 = .ok (.invokestatic 56, 3) := dk_184 0 56 (dk_at dksX0_isWeight_0 6 rfl rfl)
theorem dX0_isWeight_9 : decode cX0_isWeight 9 = .ok (.ireturn, 1) := dk_172 (dk_at dksX0_isWeight_0 9 rfl rfl)
abbrev cX0_act : ByteArray := prog_1_method_11_code
def yX0_act : MethodName := ⟨RX0, "act", "(LChainParts$Complex;)V"⟩
def dkwX0_act_3 : List UInt8 := [177]
abbrev dktX0_act_3 : List UInt8 := dkwX0_act_3 ++ []
def dkwX0_act_2 : List UInt8 := [180, 0, 47, 42, 89, 180, 0, 91, 90, 4, 96, 181, 0, 91, 42, 180, 0, 75, 83, 42, 43, 181, 0, 75]
abbrev dktX0_act_2 : List UInt8 := dkwX0_act_2 ++ dktX0_act_3
def dkwX0_act_1 : List UInt8 := [42, 180, 0, 47, 28, 50, 83, 132, 2, 1, 167, 255, 233, 42, 89, 180, 0, 91, 4, 100, 181, 0, 91, 42]
abbrev dktX0_act_1 : List UInt8 := dkwX0_act_1 ++ dktX0_act_2
def dkwX0_act_0 : List UInt8 := [42, 180, 0, 91, 16, 8, 160, 0, 41, 4, 61, 28, 16, 8, 162, 0, 23, 42, 180, 0, 47, 28, 4, 100]
abbrev dktX0_act_0 : List UInt8 := dkwX0_act_0 ++ dktX0_act_1
theorem dksX0_act_0 : cX0_act.data.toList.drop 0 = dktX0_act_0 := by decide +kernel
theorem dksX0_act_1 : cX0_act.data.toList.drop 24 = dktX0_act_1 := dk_seg dksX0_act_0 24 rfl rfl
theorem dksX0_act_2 : cX0_act.data.toList.drop 48 = dktX0_act_2 := dk_seg dksX0_act_1 24 rfl rfl
theorem dksX0_act_3 : cX0_act.data.toList.drop 72 = dktX0_act_3 := dk_seg dksX0_act_2 24 rfl rfl
theorem dX0_act_0 : decode cX0_act 0 = .ok (.aload_n 0, 1) := dk_42 (dk_at dksX0_act_0 0 rfl rfl)
theorem dX0_act_1 : decode cX0_act 1 = .ok (.getfield 91, 3) := dk_180 0 91 (dk_at dksX0_act_0 1 rfl rfl)
theorem dX0_act_4 : decode cX0_act 4 = .ok (.bipush 8, 2) := dk_16 8 (dk_at dksX0_act_0 4 rfl rfl)
theorem dX0_act_6 : decode cX0_act 6 = .ok (.if_icmp .ne 41, 3) := dk_160 0 41 (dk_at dksX0_act_0 6 rfl rfl)
theorem dX0_act_9 : decode cX0_act 9 = .ok (.iconst 1, 1) := dk_4 (dk_at dksX0_act_0 9 rfl rfl)
theorem dX0_act_10 : decode cX0_act 10 = .ok (.istore_n 2, 1) := dk_61 (dk_at dksX0_act_0 10 rfl rfl)
theorem dX0_act_11 : decode cX0_act 11 = .ok (.iload_n 2, 1) := dk_28 (dk_at dksX0_act_0 11 rfl rfl)
theorem dX0_act_12 : decode cX0_act 12 = .ok (.bipush 8, 2) := dk_16 8 (dk_at dksX0_act_0 12 rfl rfl)
theorem dX0_act_14 : decode cX0_act 14 = .ok (.if_icmp .ge 23, 3) := dk_162 0 23 (dk_at dksX0_act_0 14 rfl rfl)
theorem dX0_act_17 : decode cX0_act 17 = .ok (.aload_n 0, 1) := dk_42 (dk_at dksX0_act_0 17 rfl rfl)
theorem dX0_act_18 : decode cX0_act 18 = .ok (.getfield 47, 3) := dk_180 0 47 (dk_at dksX0_act_0 18 rfl rfl)
theorem dX0_act_21 : decode cX0_act 21 = .ok (.iload_n 2, 1) := dk_28 (dk_at dksX0_act_0 21 rfl rfl)
theorem dX0_act_22 : decode cX0_act 22 = .ok (.iconst 1, 1) := dk_4 (dk_at dksX0_act_0 22 rfl rfl)
theorem dX0_act_23 : decode cX0_act 23 = .ok (.isub, 1) := dk_100 (dk_at dksX0_act_0 23 rfl rfl)
theorem dX0_act_24 : decode cX0_act 24 = .ok (.aload_n 0, 1) := dk_42 (dk_at dksX0_act_1 0 rfl rfl)
theorem dX0_act_25 : decode cX0_act 25 = .ok (.getfield 47, 3) := dk_180 0 47 (dk_at dksX0_act_1 1 rfl rfl)
theorem dX0_act_28 : decode cX0_act 28 = .ok (.iload_n 2, 1) := dk_28 (dk_at dksX0_act_1 4 rfl rfl)
theorem dX0_act_29 : decode cX0_act 29 = .ok (.aaload, 1) := dk_50 (dk_at dksX0_act_1 5 rfl rfl)
theorem dX0_act_30 : decode cX0_act 30 = .ok (.aastore, 1) := dk_83 (dk_at dksX0_act_1 6 rfl rfl)
theorem dX0_act_31 : decode cX0_act 31 = .ok (.iinc 2 1, 3) := dk_132 2 1 (dk_at dksX0_act_1 7 rfl rfl)
theorem dX0_act_34 : decode cX0_act 34 = .ok (.goto (-23), 3) := dk_167 255 233 (dk_at dksX0_act_1 10 rfl rfl)
theorem dX0_act_37 : decode cX0_act 37 = .ok (.aload_n 0, 1) := dk_42 (dk_at dksX0_act_1 13 rfl rfl)
theorem dX0_act_38 : decode cX0_act 38 = .ok (.dup, 1) := dk_89 (dk_at dksX0_act_1 14 rfl rfl)
theorem dX0_act_39 : decode cX0_act 39 = .ok (.getfield 91, 3) := dk_180 0 91 (dk_at dksX0_act_1 15 rfl rfl)
theorem dX0_act_42 : decode cX0_act 42 = .ok (.iconst 1, 1) := dk_4 (dk_at dksX0_act_1 18 rfl rfl)
theorem dX0_act_43 : decode cX0_act 43 = .ok (.isub, 1) := dk_100 (dk_at dksX0_act_1 19 rfl rfl)
theorem dX0_act_44 : decode cX0_act 44 = .ok (.putfield 91, 3) := dk_181 0 91 (dk_at dksX0_act_1 20 rfl rfl)
theorem dX0_act_47 : decode cX0_act 47 = .ok (.aload_n 0, 1) := dk_42 (dk_at dksX0_act_1 23 rfl rfl)
theorem dX0_act_48 : decode cX0_act 48 = .ok (.getfield 47, 3) := dk_180 0 47 (dk_at dksX0_act_2 0 rfl rfl)
theorem dX0_act_51 : decode cX0_act 51 = .ok (.aload_n 0, 1) := dk_42 (dk_at dksX0_act_2 3 rfl rfl)
theorem dX0_act_52 : decode cX0_act 52 = .ok (.dup, 1) := dk_89 (dk_at dksX0_act_2 4 rfl rfl)
theorem dX0_act_53 : decode cX0_act 53 = .ok (.getfield 91, 3) := dk_180 0 91 (dk_at dksX0_act_2 5 rfl rfl)
theorem dX0_act_56 : decode cX0_act 56 = .ok (.dup_x1, 1) := dk_90 (dk_at dksX0_act_2 8 rfl rfl)
theorem dX0_act_57 : decode cX0_act 57 = .ok (.iconst 1, 1) := dk_4 (dk_at dksX0_act_2 9 rfl rfl)
theorem dX0_act_58 : decode cX0_act 58 = .ok (.iadd, 1) := dk_96 (dk_at dksX0_act_2 10 rfl rfl)
theorem dX0_act_59 : decode cX0_act 59 = .ok (.putfield 91, 3) := dk_181 0 91 (dk_at dksX0_act_2 11 rfl rfl)
theorem dX0_act_62 : decode cX0_act 62 = .ok (.aload_n 0, 1) := dk_42 (dk_at dksX0_act_2 14 rfl rfl)
theorem dX0_act_63 : decode cX0_act 63 = .ok (.getfield 75, 3) := dk_180 0 75 (dk_at dksX0_act_2 15 rfl rfl)
theorem dX0_act_66 : decode cX0_act 66 = .ok (.aastore, 1) := dk_83 (dk_at dksX0_act_2 18 rfl rfl)
theorem dX0_act_67 : decode cX0_act 67 = .ok (.aload_n 0, 1) := dk_42 (dk_at dksX0_act_2 19 rfl rfl)
theorem dX0_act_68 : decode cX0_act 68 = .ok (.aload_n 1, 1) := dk_43 (dk_at dksX0_act_2 20 rfl rfl)
theorem dX0_act_69 : decode cX0_act 69 = .ok (.putfield 75, 3) := dk_181 0 75 (dk_at dksX0_act_2 21 rfl rfl)
theorem dX0_act_72 : decode cX0_act 72 = .ok (.return_, 1) := dk_177 (dk_at dksX0_act_3 0 rfl rfl)
abbrev cX0_edge : ByteArray := prog_1_method_19_code
def yX0_edge : MethodName := ⟨RX0, "edge", "(III)I"⟩
def dkwX0_edge_3 : List UInt8 := [184, 0, 144, 182, 0, 129, 182, 0, 140, 21, 4, 172]
abbrev dktX0_edge_3 : List UInt8 := dkwX0_edge_3 ++ []
def dkwX0_edge_2 : List UInt8 := [54, 4, 21, 4, 16, 6, 160, 0, 6, 18, 65, 172, 42, 42, 180, 0, 75, 21, 4, 27, 28, 29]
abbrev dktX0_edge_2 : List UInt8 := dkwX0_edge_2 ++ dktX0_edge_3
def dkwX0_edge_1 : List UInt8 := [182, 0, 113, 153, 0, 10, 29, 184, 0, 117, 154, 0, 6, 18, 60, 172, 42, 180, 0, 75, 180, 0, 97, 190]
abbrev dktX0_edge_1 : List UInt8 := dkwX0_edge_1 ++ dktX0_edge_2
def dkwX0_edge_0 : List UInt8 := [42, 180, 0, 75, 199, 0, 6, 18, 105, 172, 42, 3, 27, 182, 0, 113, 153, 0, 19, 42, 3, 28]
abbrev dktX0_edge_0 : List UInt8 := dkwX0_edge_0 ++ dktX0_edge_1
theorem dksX0_edge_0 : cX0_edge.data.toList.drop 0 = dktX0_edge_0 := by decide +kernel
theorem dksX0_edge_1 : cX0_edge.data.toList.drop 22 = dktX0_edge_1 := dk_seg dksX0_edge_0 22 rfl rfl
theorem dksX0_edge_2 : cX0_edge.data.toList.drop 46 = dktX0_edge_2 := dk_seg dksX0_edge_1 24 rfl rfl
theorem dksX0_edge_3 : cX0_edge.data.toList.drop 68 = dktX0_edge_3 := dk_seg dksX0_edge_2 22 rfl rfl
theorem dX0_edge_0 : decode cX0_edge 0 = .ok (.aload_n 0, 1) := dk_42 (dk_at dksX0_edge_0 0 rfl rfl)
theorem dX0_edge_1 : decode cX0_edge 1 = .ok (.getfield 75, 3) := dk_180 0 75 (dk_at dksX0_edge_0 1 rfl rfl)
theorem dX0_edge_4 : decode cX0_edge 4 = .ok (.ifnonnull 6, 3) := dk_199 0 6 (dk_at dksX0_edge_0 4 rfl rfl)
theorem dX0_edge_7 : decode cX0_edge 7 = .ok (.ldc 105, 2) := dk_18 105 (dk_at dksX0_edge_0 7 rfl rfl)
theorem dX0_edge_9 : decode cX0_edge 9 = .ok (.ireturn, 1) := dk_172 (dk_at dksX0_edge_0 9 rfl rfl)
theorem dX0_edge_10 : decode cX0_edge 10 = .ok (.aload_n 0, 1) := dk_42 (dk_at dksX0_edge_0 10 rfl rfl)
theorem dX0_edge_11 : decode cX0_edge 11 = .ok (.iconst 0, 1) := dk_3 (dk_at dksX0_edge_0 11 rfl rfl)
theorem dX0_edge_12 : decode cX0_edge 12 = .ok (.iload_n 1, 1) := dk_27 (dk_at dksX0_edge_0 12 rfl rfl)
theorem dX0_edge_13 : decode cX0_edge 13 = .ok (.invokevirtual 113, 3) := dk_182 0 113 (dk_at dksX0_edge_0 13 rfl rfl)
theorem dX0_edge_16 : decode cX0_edge 16 = .ok (.ifCond .eq 19, 3) := dk_153 0 19 (dk_at dksX0_edge_0 16 rfl rfl)
theorem dX0_edge_19 : decode cX0_edge 19 = .ok (.aload_n 0, 1) := dk_42 (dk_at dksX0_edge_0 19 rfl rfl)
theorem dX0_edge_20 : decode cX0_edge 20 = .ok (.iconst 0, 1) := dk_3 (dk_at dksX0_edge_0 20 rfl rfl)
theorem dX0_edge_21 : decode cX0_edge 21 = .ok (.iload_n 2, 1) := dk_28 (dk_at dksX0_edge_0 21 rfl rfl)
theorem dX0_edge_22 : decode cX0_edge 22 = .ok (.invokevirtual 113, 3) := dk_182 0 113 (dk_at dksX0_edge_1 0 rfl rfl)
theorem dX0_edge_25 : decode cX0_edge 25 = .ok (.ifCond .eq 10, 3) := dk_153 0 10 (dk_at dksX0_edge_1 3 rfl rfl)
theorem dX0_edge_28 : decode cX0_edge 28 = .ok (.iload_n 3, 1) := dk_29 (dk_at dksX0_edge_1 6 rfl rfl)
theorem dX0_edge_29 : decode cX0_edge 29 = .ok (.invokestatic 117, 3) := dk_184 0 117 (dk_at dksX0_edge_1 7 rfl rfl)
theorem dX0_edge_32 : decode cX0_edge 32 = .ok (.ifCond .ne 6, 3) := dk_154 0 6 (dk_at dksX0_edge_1 10 rfl rfl)
theorem dX0_edge_35 : decode cX0_edge 35 = .ok (.ldc 60, 2) := dk_18 60 (dk_at dksX0_edge_1 13 rfl rfl)
theorem dX0_edge_37 : decode cX0_edge 37 = .ok (.ireturn, 1) := dk_172 (dk_at dksX0_edge_1 15 rfl rfl)
theorem dX0_edge_38 : decode cX0_edge 38 = .ok (.aload_n 0, 1) := dk_42 (dk_at dksX0_edge_1 16 rfl rfl)
theorem dX0_edge_39 : decode cX0_edge 39 = .ok (.getfield 75, 3) := dk_180 0 75 (dk_at dksX0_edge_1 17 rfl rfl)
theorem dX0_edge_42 : decode cX0_edge 42 = .ok (.getfield 97, 3) := dk_180 0 97 (dk_at dksX0_edge_1 20 rfl rfl)
theorem dX0_edge_45 : decode cX0_edge 45 = .ok (.arraylength, 1) := dk_190 (dk_at dksX0_edge_1 23 rfl rfl)
theorem dX0_edge_46 : decode cX0_edge 46 = .ok (.istore 4, 2) := dk_54 4 (dk_at dksX0_edge_2 0 rfl rfl)
theorem dX0_edge_48 : decode cX0_edge 48 = .ok (.iload 4, 2) := dk_21 4 (dk_at dksX0_edge_2 2 rfl rfl)
theorem dX0_edge_50 : decode cX0_edge 50 = .ok (.bipush 6, 2) := dk_16 6 (dk_at dksX0_edge_2 4 rfl rfl)
theorem dX0_edge_52 : decode cX0_edge 52 = .ok (.if_icmp .ne 6, 3) := dk_160 0 6 (dk_at dksX0_edge_2 6 rfl rfl)
theorem dX0_edge_55 : decode cX0_edge 55 = .ok (.ldc 65, 2) := dk_18 65 (dk_at dksX0_edge_2 9 rfl rfl)
theorem dX0_edge_57 : decode cX0_edge 57 = .ok (.ireturn, 1) := dk_172 (dk_at dksX0_edge_2 11 rfl rfl)
theorem dX0_edge_58 : decode cX0_edge 58 = .ok (.aload_n 0, 1) := dk_42 (dk_at dksX0_edge_2 12 rfl rfl)
theorem dX0_edge_59 : decode cX0_edge 59 = .ok (.aload_n 0, 1) := dk_42 (dk_at dksX0_edge_2 13 rfl rfl)
theorem dX0_edge_60 : decode cX0_edge 60 = .ok (.getfield 75, 3) := dk_180 0 75 (dk_at dksX0_edge_2 14 rfl rfl)
theorem dX0_edge_63 : decode cX0_edge 63 = .ok (.iload 4, 2) := dk_21 4 (dk_at dksX0_edge_2 17 rfl rfl)
theorem dX0_edge_65 : decode cX0_edge 65 = .ok (.iload_n 1, 1) := dk_27 (dk_at dksX0_edge_2 19 rfl rfl)
theorem dX0_edge_66 : decode cX0_edge 66 = .ok (.iload_n 2, 1) := dk_28 (dk_at dksX0_edge_2 20 rfl rfl)
theorem dX0_edge_67 : decode cX0_edge 67 = .ok (.iload_n 3, 1) := dk_29 (dk_at dksX0_edge_2 21 rfl rfl)
theorem dX0_edge_68 : decode cX0_edge 68 = .ok (.invokestatic 144, 3) := dk_184 0 144 (dk_at dksX0_edge_3 0 rfl rfl)
theorem dX0_edge_71 : decode cX0_edge 71 = .ok (.invokevirtual 129, 3) := dk_182 0 129 (dk_at dksX0_edge_3 3 rfl rfl)
theorem dX0_edge_74 : decode cX0_edge 74 = .ok (.invokevirtual 140, 3) := dk_182 0 140 (dk_at dksX0_edge_3 6 rfl rfl)
theorem dX0_edge_77 : decode cX0_edge 77 = .ok (.iload 4, 2) := dk_21 4 (dk_at dksX0_edge_3 9 rfl rfl)
theorem dX0_edge_79 : decode cX0_edge 79 = .ok (.ireturn, 1) := dk_172 (dk_at dksX0_edge_3 11 rfl rfl)
abbrev cX0_face : ByteArray := prog_1_method_21_code
def yX0_face : MethodName := ⟨RX0, "face", "(I)I"⟩
def dkwX0_face_3 : List UInt8 := [184, 0, 159, 182, 0, 136, 182, 0, 140, 21, 4, 172]
abbrev dktX0_face_3 : List UInt8 := dkwX0_face_3 ++ []
def dkwX0_face_2 : List UInt8 := [180, 0, 101, 190, 54, 4, 21, 4, 7, 160, 0, 6, 18, 65, 172, 42, 42, 180, 0, 75, 21, 4, 45, 27]
abbrev dktX0_face_2 : List UInt8 := dkwX0_face_2 ++ dktX0_face_3
def dkwX0_face_1 : List UInt8 := [182, 0, 156, 78, 27, 184, 0, 117, 153, 0, 7, 45, 199, 0, 6, 18, 60, 172, 42, 180, 0, 75]
abbrev dktX0_face_1 : List UInt8 := dkwX0_face_1 ++ dktX0_face_2
def dkwX0_face_0 : List UInt8 := [42, 180, 0, 61, 61, 42, 3, 181, 0, 61, 42, 180, 0, 75, 199, 0, 6, 18, 105, 172, 42, 28]
abbrev dktX0_face_0 : List UInt8 := dkwX0_face_0 ++ dktX0_face_1
theorem dksX0_face_0 : cX0_face.data.toList.drop 0 = dktX0_face_0 := by decide +kernel
theorem dksX0_face_1 : cX0_face.data.toList.drop 22 = dktX0_face_1 := dk_seg dksX0_face_0 22 rfl rfl
theorem dksX0_face_2 : cX0_face.data.toList.drop 44 = dktX0_face_2 := dk_seg dksX0_face_1 22 rfl rfl
theorem dksX0_face_3 : cX0_face.data.toList.drop 68 = dktX0_face_3 := dk_seg dksX0_face_2 24 rfl rfl
theorem dX0_face_0 : decode cX0_face 0 = .ok (.aload_n 0, 1) := dk_42 (dk_at dksX0_face_0 0 rfl rfl)
theorem dX0_face_1 : decode cX0_face 1 = .ok (.getfield 61, 3) := dk_180 0 61 (dk_at dksX0_face_0 1 rfl rfl)
theorem dX0_face_4 : decode cX0_face 4 = .ok (.istore_n 2, 1) := dk_61 (dk_at dksX0_face_0 4 rfl rfl)
theorem dX0_face_5 : decode cX0_face 5 = .ok (.aload_n 0, 1) := dk_42 (dk_at dksX0_face_0 5 rfl rfl)
theorem dX0_face_6 : decode cX0_face 6 = .ok (.iconst 0, 1) := dk_3 (dk_at dksX0_face_0 6 rfl rfl)
theorem dX0_face_7 : decode cX0_face 7 = .ok (.putfield 61, 3) := dk_181 0 61 (dk_at dksX0_face_0 7 rfl rfl)
theorem dX0_face_10 : decode cX0_face 10 = .ok (.aload_n 0, 1) := dk_42 (dk_at dksX0_face_0 10 rfl rfl)
theorem dX0_face_11 : decode cX0_face 11 = .ok (.getfield 75, 3) := dk_180 0 75 (dk_at dksX0_face_0 11 rfl rfl)
theorem dX0_face_14 : decode cX0_face 14 = .ok (.ifnonnull 6, 3) := dk_199 0 6 (dk_at dksX0_face_0 14 rfl rfl)
theorem dX0_face_17 : decode cX0_face 17 = .ok (.ldc 105, 2) := dk_18 105 (dk_at dksX0_face_0 17 rfl rfl)
theorem dX0_face_19 : decode cX0_face 19 = .ok (.ireturn, 1) := dk_172 (dk_at dksX0_face_0 19 rfl rfl)
theorem dX0_face_20 : decode cX0_face 20 = .ok (.aload_n 0, 1) := dk_42 (dk_at dksX0_face_0 20 rfl rfl)
theorem dX0_face_21 : decode cX0_face 21 = .ok (.iload_n 2, 1) := dk_28 (dk_at dksX0_face_0 21 rfl rfl)
theorem dX0_face_22 : decode cX0_face 22 = .ok (.invokevirtual 156, 3) := dk_182 0 156 (dk_at dksX0_face_1 0 rfl rfl)
theorem dX0_face_25 : decode cX0_face 25 = .ok (.astore_n 3, 1) := dk_78 (dk_at dksX0_face_1 3 rfl rfl)
theorem dX0_face_26 : decode cX0_face 26 = .ok (.iload_n 1, 1) := dk_27 (dk_at dksX0_face_1 4 rfl rfl)
theorem dX0_face_27 : decode cX0_face 27 = .ok (.invokestatic 117, 3) := dk_184 0 117 (dk_at dksX0_face_1 5 rfl rfl)
theorem dX0_face_30 : decode cX0_face 30 = .ok (.ifCond .eq 7, 3) := dk_153 0 7 (dk_at dksX0_face_1 8 rfl rfl)
theorem dX0_face_33 : decode cX0_face 33 = .ok (.aload_n 3, 1) := dk_45 (dk_at dksX0_face_1 11 rfl rfl)
theorem dX0_face_34 : decode cX0_face 34 = .ok (.ifnonnull 6, 3) := dk_199 0 6 (dk_at dksX0_face_1 12 rfl rfl)
theorem dX0_face_37 : decode cX0_face 37 = .ok (.ldc 60, 2) := dk_18 60 (dk_at dksX0_face_1 15 rfl rfl)
theorem dX0_face_39 : decode cX0_face 39 = .ok (.ireturn, 1) := dk_172 (dk_at dksX0_face_1 17 rfl rfl)
theorem dX0_face_40 : decode cX0_face 40 = .ok (.aload_n 0, 1) := dk_42 (dk_at dksX0_face_1 18 rfl rfl)
theorem dX0_face_41 : decode cX0_face 41 = .ok (.getfield 75, 3) := dk_180 0 75 (dk_at dksX0_face_1 19 rfl rfl)
theorem dX0_face_44 : decode cX0_face 44 = .ok (.getfield 101, 3) := dk_180 0 101 (dk_at dksX0_face_2 0 rfl rfl)
theorem dX0_face_47 : decode cX0_face 47 = .ok (.arraylength, 1) := dk_190 (dk_at dksX0_face_2 3 rfl rfl)
theorem dX0_face_48 : decode cX0_face 48 = .ok (.istore 4, 2) := dk_54 4 (dk_at dksX0_face_2 4 rfl rfl)
theorem dX0_face_50 : decode cX0_face 50 = .ok (.iload 4, 2) := dk_21 4 (dk_at dksX0_face_2 6 rfl rfl)
theorem dX0_face_52 : decode cX0_face 52 = .ok (.iconst 4, 1) := dk_7 (dk_at dksX0_face_2 8 rfl rfl)
theorem dX0_face_53 : decode cX0_face 53 = .ok (.if_icmp .ne 6, 3) := dk_160 0 6 (dk_at dksX0_face_2 9 rfl rfl)
theorem dX0_face_56 : decode cX0_face 56 = .ok (.ldc 65, 2) := dk_18 65 (dk_at dksX0_face_2 12 rfl rfl)
theorem dX0_face_58 : decode cX0_face 58 = .ok (.ireturn, 1) := dk_172 (dk_at dksX0_face_2 14 rfl rfl)
theorem dX0_face_59 : decode cX0_face 59 = .ok (.aload_n 0, 1) := dk_42 (dk_at dksX0_face_2 15 rfl rfl)
theorem dX0_face_60 : decode cX0_face 60 = .ok (.aload_n 0, 1) := dk_42 (dk_at dksX0_face_2 16 rfl rfl)
theorem dX0_face_61 : decode cX0_face 61 = .ok (.getfield 75, 3) := dk_180 0 75 (dk_at dksX0_face_2 17 rfl rfl)
theorem dX0_face_64 : decode cX0_face 64 = .ok (.iload 4, 2) := dk_21 4 (dk_at dksX0_face_2 20 rfl rfl)
theorem dX0_face_66 : decode cX0_face 66 = .ok (.aload_n 3, 1) := dk_45 (dk_at dksX0_face_2 22 rfl rfl)
theorem dX0_face_67 : decode cX0_face 67 = .ok (.iload_n 1, 1) := dk_27 (dk_at dksX0_face_2 23 rfl rfl)
theorem dX0_face_68 : decode cX0_face 68 = .ok (.invokestatic 159, 3) := dk_184 0 159 (dk_at dksX0_face_3 0 rfl rfl)
theorem dX0_face_71 : decode cX0_face 71 = .ok (.invokevirtual 136, 3) := dk_182 0 136 (dk_at dksX0_face_3 3 rfl rfl)
theorem dX0_face_74 : decode cX0_face 74 = .ok (.invokevirtual 140, 3) := dk_182 0 140 (dk_at dksX0_face_3 6 rfl rfl)
theorem dX0_face_77 : decode cX0_face 77 = .ok (.iload 4, 2) := dk_21 4 (dk_at dksX0_face_3 9 rfl rfl)
theorem dX0_face_79 : decode cX0_face 79 = .ok (.ireturn, 1) := dk_172 (dk_at dksX0_face_3 11 rfl rfl)
abbrev cX0_word : ByteArray := prog_1_method_20_code
def yX0_word : MethodName := ⟨RX0, "word", "(I)[I"⟩
def dkwX0_word_2 : List UInt8 := [78, 1, 176]
abbrev dktX0_word_2 : List UInt8 := dkwX0_word_2 ++ []
def dkwX0_word_1 : List UInt8 := [180, 0, 75, 180, 0, 97, 190, 182, 0, 148, 78, 44, 182, 0, 152, 154, 0, 7, 45, 167, 0, 4, 1, 176]
abbrev dktX0_word_1 : List UInt8 := dkwX0_word_1 ++ dktX0_word_2
def dkwX0_word_0 : List UInt8 := [187, 0, 66, 89, 42, 180, 0, 41, 27, 183, 0, 68, 77, 44, 42, 180, 0, 75, 180, 0, 97, 42]
abbrev dktX0_word_0 : List UInt8 := dkwX0_word_0 ++ dktX0_word_1
theorem dksX0_word_0 : cX0_word.data.toList.drop 0 = dktX0_word_0 := by decide +kernel
theorem dksX0_word_1 : cX0_word.data.toList.drop 22 = dktX0_word_1 := dk_seg dksX0_word_0 22 rfl rfl
theorem dksX0_word_2 : cX0_word.data.toList.drop 46 = dktX0_word_2 := dk_seg dksX0_word_1 24 rfl rfl
theorem dX0_word_0 : decode cX0_word 0 = .ok (.new 66, 3) := dk_187 0 66 (dk_at dksX0_word_0 0 rfl rfl)
theorem dX0_word_3 : decode cX0_word 3 = .ok (.dup, 1) := dk_89 (dk_at dksX0_word_0 3 rfl rfl)
theorem dX0_word_4 : decode cX0_word 4 = .ok (.aload_n 0, 1) := dk_42 (dk_at dksX0_word_0 4 rfl rfl)
theorem dX0_word_5 : decode cX0_word 5 = .ok (.getfield 41, 3) := dk_180 0 41 (dk_at dksX0_word_0 5 rfl rfl)
theorem dX0_word_8 : decode cX0_word 8 = .ok (.iload_n 1, 1) := dk_27 (dk_at dksX0_word_0 8 rfl rfl)
theorem dX0_word_9 : decode cX0_word 9 = .ok (.invokespecial 68, 3) := dk_183 0 68 (dk_at dksX0_word_0 9 rfl rfl)
theorem dX0_word_12 : decode cX0_word 12 = .ok (.astore_n 2, 1) := dk_77 (dk_at dksX0_word_0 12 rfl rfl)
theorem dX0_word_13 : decode cX0_word 13 = .ok (.aload_n 2, 1) := dk_44 (dk_at dksX0_word_0 13 rfl rfl)
theorem dX0_word_14 : decode cX0_word 14 = .ok (.aload_n 0, 1) := dk_42 (dk_at dksX0_word_0 14 rfl rfl)
theorem dX0_word_15 : decode cX0_word 15 = .ok (.getfield 75, 3) := dk_180 0 75 (dk_at dksX0_word_0 15 rfl rfl)
theorem dX0_word_18 : decode cX0_word 18 = .ok (.getfield 97, 3) := dk_180 0 97 (dk_at dksX0_word_0 18 rfl rfl)
theorem dX0_word_21 : decode cX0_word 21 = .ok (.aload_n 0, 1) := dk_42 (dk_at dksX0_word_0 21 rfl rfl)
theorem dX0_word_22 : decode cX0_word 22 = .ok (.getfield 75, 3) := dk_180 0 75 (dk_at dksX0_word_1 0 rfl rfl)
theorem dX0_word_25 : decode cX0_word 25 = .ok (.getfield 97, 3) := dk_180 0 97 (dk_at dksX0_word_1 3 rfl rfl)
theorem dX0_word_28 : decode cX0_word 28 = .ok (.arraylength, 1) := dk_190 (dk_at dksX0_word_1 6 rfl rfl)
theorem dX0_word_29 : decode cX0_word 29 = .ok (.invokevirtual 148, 3) := dk_182 0 148 (dk_at dksX0_word_1 7 rfl rfl)
theorem dX0_word_32 : decode cX0_word 32 = .ok (.astore_n 3, 1) := dk_78 (dk_at dksX0_word_1 10 rfl rfl)
theorem dX0_word_33 : decode cX0_word 33 = .ok (.aload_n 2, 1) := dk_44 (dk_at dksX0_word_1 11 rfl rfl)
theorem dX0_word_34 : decode cX0_word 34 = .ok (.invokevirtual 152, 3) := dk_182 0 152 (dk_at dksX0_word_1 12 rfl rfl)
theorem dX0_word_37 : decode cX0_word 37 = .ok (.ifCond .ne 7, 3) := dk_154 0 7 (dk_at dksX0_word_1 15 rfl rfl)
theorem dX0_word_40 : decode cX0_word 40 = .ok (.aload_n 3, 1) := dk_45 (dk_at dksX0_word_1 18 rfl rfl)
theorem dX0_word_41 : decode cX0_word 41 = .ok (.goto 4, 3) := dk_167 0 4 (dk_at dksX0_word_1 19 rfl rfl)
theorem dX0_word_44 : decode cX0_word 44 = .ok (.aconst_null, 1) := dk_1 (dk_at dksX0_word_1 22 rfl rfl)
theorem dX0_word_45 : decode cX0_word 45 = .ok (.areturn, 1) := dk_176 (dk_at dksX0_word_1 23 rfl rfl)
theorem dX0_word_46 : decode cX0_word 46 = .ok (.astore_n 3, 1) := dk_78 (dk_at dksX0_word_2 0 rfl rfl)
theorem dX0_word_47 : decode cX0_word 47 = .ok (.aconst_null, 1) := dk_1 (dk_at dksX0_word_2 1 rfl rfl)
theorem dX0_word_48 : decode cX0_word 48 = .ok (.areturn, 1) := dk_176 (dk_at dksX0_word_2 2 rfl rfl)
abbrev cX0_drop : ByteArray := prog_1_method_22_code
def yX0_drop : MethodName := ⟨RX0, "drop", "(II)I"⟩
def dkwX0_drop_3 : List UInt8 := [182, 0, 108, 172]
abbrev dktX0_drop_3 : List UInt8 := dkwX0_drop_3 ++ []
def dkwX0_drop_2 : List UInt8 := [182, 0, 166, 167, 0, 11, 42, 180, 0, 75, 28, 182, 0, 170, 182, 0, 140, 42, 180, 0, 75, 27]
abbrev dktX0_drop_2 : List UInt8 := dkwX0_drop_2 ++ dktX0_drop_3
def dkwX0_drop_1 : List UInt8 := [180, 0, 75, 28, 182, 0, 163, 153, 0, 6, 18, 105, 172, 42, 27, 4, 160, 0, 14, 42, 180, 0, 75, 28]
abbrev dktX0_drop_1 : List UInt8 := dkwX0_drop_1 ++ dktX0_drop_2
def dkwX0_drop_0 : List UInt8 := [27, 153, 0, 12, 42, 27, 28, 182, 0, 113, 154, 0, 6, 18, 60, 172, 27, 4, 160, 0, 17, 42]
abbrev dktX0_drop_0 : List UInt8 := dkwX0_drop_0 ++ dktX0_drop_1
theorem dksX0_drop_0 : cX0_drop.data.toList.drop 0 = dktX0_drop_0 := by decide +kernel
theorem dksX0_drop_1 : cX0_drop.data.toList.drop 22 = dktX0_drop_1 := dk_seg dksX0_drop_0 22 rfl rfl
theorem dksX0_drop_2 : cX0_drop.data.toList.drop 46 = dktX0_drop_2 := dk_seg dksX0_drop_1 24 rfl rfl
theorem dksX0_drop_3 : cX0_drop.data.toList.drop 68 = dktX0_drop_3 := dk_seg dksX0_drop_2 22 rfl rfl
theorem dX0_drop_0 : decode cX0_drop 0 = .ok (.iload_n 1, 1) := dk_27 (dk_at dksX0_drop_0 0 rfl rfl)
theorem dX0_drop_1 : decode cX0_drop 1 = .ok (.ifCond .eq 12, 3) := dk_153 0 12 (dk_at dksX0_drop_0 1 rfl rfl)
theorem dX0_drop_4 : decode cX0_drop 4 = .ok (.aload_n 0, 1) := dk_42 (dk_at dksX0_drop_0 4 rfl rfl)
theorem dX0_drop_5 : decode cX0_drop 5 = .ok (.iload_n 1, 1) := dk_27 (dk_at dksX0_drop_0 5 rfl rfl)
theorem dX0_drop_6 : decode cX0_drop 6 = .ok (.iload_n 2, 1) := dk_28 (dk_at dksX0_drop_0 6 rfl rfl)
theorem dX0_drop_7 : decode cX0_drop 7 = .ok (.invokevirtual 113, 3) := dk_182 0 113 (dk_at dksX0_drop_0 7 rfl rfl)
theorem dX0_drop_10 : decode cX0_drop 10 = .ok (.ifCond .ne 6, 3) := dk_154 0 6 (dk_at dksX0_drop_0 10 rfl rfl)
theorem dX0_drop_13 : decode cX0_drop 13 = .ok (.ldc 60, 2) := dk_18 60 (dk_at dksX0_drop_0 13 rfl rfl)
theorem dX0_drop_15 : decode cX0_drop 15 = .ok (.ireturn, 1) := dk_172 (dk_at dksX0_drop_0 15 rfl rfl)
theorem dX0_drop_16 : decode cX0_drop 16 = .ok (.iload_n 1, 1) := dk_27 (dk_at dksX0_drop_0 16 rfl rfl)
theorem dX0_drop_17 : decode cX0_drop 17 = .ok (.iconst 1, 1) := dk_4 (dk_at dksX0_drop_0 17 rfl rfl)
theorem dX0_drop_18 : decode cX0_drop 18 = .ok (.if_icmp .ne 17, 3) := dk_160 0 17 (dk_at dksX0_drop_0 18 rfl rfl)
theorem dX0_drop_21 : decode cX0_drop 21 = .ok (.aload_n 0, 1) := dk_42 (dk_at dksX0_drop_0 21 rfl rfl)
theorem dX0_drop_22 : decode cX0_drop 22 = .ok (.getfield 75, 3) := dk_180 0 75 (dk_at dksX0_drop_1 0 rfl rfl)
theorem dX0_drop_25 : decode cX0_drop 25 = .ok (.iload_n 2, 1) := dk_28 (dk_at dksX0_drop_1 3 rfl rfl)
theorem dX0_drop_26 : decode cX0_drop 26 = .ok (.invokevirtual 163, 3) := dk_182 0 163 (dk_at dksX0_drop_1 4 rfl rfl)
theorem dX0_drop_29 : decode cX0_drop 29 = .ok (.ifCond .eq 6, 3) := dk_153 0 6 (dk_at dksX0_drop_1 7 rfl rfl)
theorem dX0_drop_32 : decode cX0_drop 32 = .ok (.ldc 105, 2) := dk_18 105 (dk_at dksX0_drop_1 10 rfl rfl)
theorem dX0_drop_34 : decode cX0_drop 34 = .ok (.ireturn, 1) := dk_172 (dk_at dksX0_drop_1 12 rfl rfl)
theorem dX0_drop_35 : decode cX0_drop 35 = .ok (.aload_n 0, 1) := dk_42 (dk_at dksX0_drop_1 13 rfl rfl)
theorem dX0_drop_36 : decode cX0_drop 36 = .ok (.iload_n 1, 1) := dk_27 (dk_at dksX0_drop_1 14 rfl rfl)
theorem dX0_drop_37 : decode cX0_drop 37 = .ok (.iconst 1, 1) := dk_4 (dk_at dksX0_drop_1 15 rfl rfl)
theorem dX0_drop_38 : decode cX0_drop 38 = .ok (.if_icmp .ne 14, 3) := dk_160 0 14 (dk_at dksX0_drop_1 16 rfl rfl)
theorem dX0_drop_41 : decode cX0_drop 41 = .ok (.aload_n 0, 1) := dk_42 (dk_at dksX0_drop_1 19 rfl rfl)
theorem dX0_drop_42 : decode cX0_drop 42 = .ok (.getfield 75, 3) := dk_180 0 75 (dk_at dksX0_drop_1 20 rfl rfl)
theorem dX0_drop_45 : decode cX0_drop 45 = .ok (.iload_n 2, 1) := dk_28 (dk_at dksX0_drop_1 23 rfl rfl)
theorem dX0_drop_46 : decode cX0_drop 46 = .ok (.invokevirtual 166, 3) := dk_182 0 166 (dk_at dksX0_drop_2 0 rfl rfl)
theorem dX0_drop_49 : decode cX0_drop 49 = .ok (.goto 11, 3) := dk_167 0 11 (dk_at dksX0_drop_2 3 rfl rfl)
theorem dX0_drop_52 : decode cX0_drop 52 = .ok (.aload_n 0, 1) := dk_42 (dk_at dksX0_drop_2 6 rfl rfl)
theorem dX0_drop_53 : decode cX0_drop 53 = .ok (.getfield 75, 3) := dk_180 0 75 (dk_at dksX0_drop_2 7 rfl rfl)
theorem dX0_drop_56 : decode cX0_drop 56 = .ok (.iload_n 2, 1) := dk_28 (dk_at dksX0_drop_2 10 rfl rfl)
theorem dX0_drop_57 : decode cX0_drop 57 = .ok (.invokevirtual 170, 3) := dk_182 0 170 (dk_at dksX0_drop_2 11 rfl rfl)
theorem dX0_drop_60 : decode cX0_drop 60 = .ok (.invokevirtual 140, 3) := dk_182 0 140 (dk_at dksX0_drop_2 14 rfl rfl)
theorem dX0_drop_63 : decode cX0_drop 63 = .ok (.aload_n 0, 1) := dk_42 (dk_at dksX0_drop_2 17 rfl rfl)
theorem dX0_drop_64 : decode cX0_drop 64 = .ok (.getfield 75, 3) := dk_180 0 75 (dk_at dksX0_drop_2 18 rfl rfl)
theorem dX0_drop_67 : decode cX0_drop 67 = .ok (.iload_n 1, 1) := dk_27 (dk_at dksX0_drop_2 21 rfl rfl)
theorem dX0_drop_68 : decode cX0_drop 68 = .ok (.invokevirtual 108, 3) := dk_182 0 108 (dk_at dksX0_drop_3 0 rfl rfl)
theorem dX0_drop_71 : decode cX0_drop 71 = .ok (.ireturn, 1) := dk_172 (dk_at dksX0_drop_3 3 rfl rfl)
abbrev cX0_put : ByteArray := prog_1_method_23_code
def yX0_put : MethodName := ⟨RX0, "put", "(III)I"⟩
def dkwX0_put_3 : List UInt8 := [182, 0, 140, 21, 5, 172]
abbrev dktX0_put_3 : List UInt8 := dkwX0_put_3 ++ []
def dkwX0_put_2 : List UInt8 := [58, 4, 25, 4, 28, 46, 54, 5, 25, 4, 28, 29, 79, 42, 42, 180, 0, 75, 27, 25, 4, 182, 0, 190]
abbrev dktX0_put_2 : List UInt8 := dkwX0_put_2 ++ dktX0_put_3
def dkwX0_put_1 : List UInt8 := [184, 0, 56, 154, 0, 6, 18, 60, 172, 42, 180, 0, 75, 180, 0, 180, 27, 50, 182, 0, 184, 192, 0, 185]
abbrev dktX0_put_1 : List UInt8 := dkwX0_put_1 ++ dktX0_put_2
def dkwX0_put_0 : List UInt8 := [27, 184, 0, 173, 153, 0, 26, 42, 4, 28, 182, 0, 113, 153, 0, 17, 29, 133, 20, 0, 176, 20, 0, 178]
abbrev dktX0_put_0 : List UInt8 := dkwX0_put_0 ++ dktX0_put_1
theorem dksX0_put_0 : cX0_put.data.toList.drop 0 = dktX0_put_0 := by decide +kernel
theorem dksX0_put_1 : cX0_put.data.toList.drop 24 = dktX0_put_1 := dk_seg dksX0_put_0 24 rfl rfl
theorem dksX0_put_2 : cX0_put.data.toList.drop 48 = dktX0_put_2 := dk_seg dksX0_put_1 24 rfl rfl
theorem dksX0_put_3 : cX0_put.data.toList.drop 72 = dktX0_put_3 := dk_seg dksX0_put_2 24 rfl rfl
theorem dX0_put_0 : decode cX0_put 0 = .ok (.iload_n 1, 1) := dk_27 (dk_at dksX0_put_0 0 rfl rfl)
theorem dX0_put_1 : decode cX0_put 1 = .ok (.invokestatic 173, 3) := dk_184 0 173 (dk_at dksX0_put_0 1 rfl rfl)
theorem dX0_put_4 : decode cX0_put 4 = .ok (.ifCond .eq 26, 3) := dk_153 0 26 (dk_at dksX0_put_0 4 rfl rfl)
theorem dX0_put_7 : decode cX0_put 7 = .ok (.aload_n 0, 1) := dk_42 (dk_at dksX0_put_0 7 rfl rfl)
theorem dX0_put_8 : decode cX0_put 8 = .ok (.iconst 1, 1) := dk_4 (dk_at dksX0_put_0 8 rfl rfl)
theorem dX0_put_9 : decode cX0_put 9 = .ok (.iload_n 2, 1) := dk_28 (dk_at dksX0_put_0 9 rfl rfl)
theorem dX0_put_10 : decode cX0_put 10 = .ok (.invokevirtual 113, 3) := dk_182 0 113 (dk_at dksX0_put_0 10 rfl rfl)
theorem dX0_put_13 : decode cX0_put 13 = .ok (.ifCond .eq 17, 3) := dk_153 0 17 (dk_at dksX0_put_0 13 rfl rfl)
theorem dX0_put_16 : decode cX0_put 16 = .ok (.iload_n 3, 1) := dk_29 (dk_at dksX0_put_0 16 rfl rfl)
theorem dX0_put_17 : decode cX0_put 17 = .ok (.i2l, 1) := dk_133 (dk_at dksX0_put_0 17 rfl rfl)
theorem dX0_put_18 : decode cX0_put 18 = .ok (.ldc2_w 176, 3) := dk_20 0 176 (dk_at dksX0_put_0 18 rfl rfl)
theorem dX0_put_21 : decode cX0_put 21 = .ok (.ldc2_w 178, 3) := dk_20 0 178 (dk_at dksX0_put_0 21 rfl rfl)
theorem dX0_put_24 : decode cX0_put 24 = .ok (.invokestatic 56, 3) := dk_184 0 56 (dk_at dksX0_put_1 0 rfl rfl)
theorem dX0_put_27 : decode cX0_put 27 = .ok (.ifCond .ne 6, 3) := dk_154 0 6 (dk_at dksX0_put_1 3 rfl rfl)
theorem dX0_put_30 : decode cX0_put 30 = .ok (.ldc 60, 2) := dk_18 60 (dk_at dksX0_put_1 6 rfl rfl)
theorem dX0_put_32 : decode cX0_put 32 = .ok (.ireturn, 1) := dk_172 (dk_at dksX0_put_1 8 rfl rfl)
theorem dX0_put_33 : decode cX0_put 33 = .ok (.aload_n 0, 1) := dk_42 (dk_at dksX0_put_1 9 rfl rfl)
theorem dX0_put_34 : decode cX0_put 34 = .ok (.getfield 75, 3) := dk_180 0 75 (dk_at dksX0_put_1 10 rfl rfl)
theorem dX0_put_37 : decode cX0_put 37 = .ok (.getfield 180, 3) := dk_180 0 180 (dk_at dksX0_put_1 13 rfl rfl)
theorem dX0_put_40 : decode cX0_put 40 = .ok (.iload_n 1, 1) := dk_27 (dk_at dksX0_put_1 16 rfl rfl)
theorem dX0_put_41 : decode cX0_put 41 = .ok (.aaload, 1) := dk_50 (dk_at dksX0_put_1 17 rfl rfl)
theorem dX0_put_42 : decode cX0_put 42 = .ok (.invokevirtual 184, 3) := dk_182 0 184 (dk_at dksX0_put_1 18 rfl rfl)
theorem dX0_put_45 : decode cX0_put 45 = .ok (.checkcast 185, 3) := dk_192 0 185 (dk_at dksX0_put_1 21 rfl rfl)
theorem dX0_put_48 : decode cX0_put 48 = .ok (.astore 4, 2) := dk_58 4 (dk_at dksX0_put_2 0 rfl rfl)
theorem dX0_put_50 : decode cX0_put 50 = .ok (.aload 4, 2) := dk_25 4 (dk_at dksX0_put_2 2 rfl rfl)
theorem dX0_put_52 : decode cX0_put 52 = .ok (.iload_n 2, 1) := dk_28 (dk_at dksX0_put_2 4 rfl rfl)
theorem dX0_put_53 : decode cX0_put 53 = .ok (.iaload, 1) := dk_46 (dk_at dksX0_put_2 5 rfl rfl)
theorem dX0_put_54 : decode cX0_put 54 = .ok (.istore 5, 2) := dk_54 5 (dk_at dksX0_put_2 6 rfl rfl)
theorem dX0_put_56 : decode cX0_put 56 = .ok (.aload 4, 2) := dk_25 4 (dk_at dksX0_put_2 8 rfl rfl)
theorem dX0_put_58 : decode cX0_put 58 = .ok (.iload_n 2, 1) := dk_28 (dk_at dksX0_put_2 10 rfl rfl)
theorem dX0_put_59 : decode cX0_put 59 = .ok (.iload_n 3, 1) := dk_29 (dk_at dksX0_put_2 11 rfl rfl)
theorem dX0_put_60 : decode cX0_put 60 = .ok (.iastore, 1) := dk_79 (dk_at dksX0_put_2 12 rfl rfl)
theorem dX0_put_61 : decode cX0_put 61 = .ok (.aload_n 0, 1) := dk_42 (dk_at dksX0_put_2 13 rfl rfl)
theorem dX0_put_62 : decode cX0_put 62 = .ok (.aload_n 0, 1) := dk_42 (dk_at dksX0_put_2 14 rfl rfl)
theorem dX0_put_63 : decode cX0_put 63 = .ok (.getfield 75, 3) := dk_180 0 75 (dk_at dksX0_put_2 15 rfl rfl)
theorem dX0_put_66 : decode cX0_put 66 = .ok (.iload_n 1, 1) := dk_27 (dk_at dksX0_put_2 18 rfl rfl)
theorem dX0_put_67 : decode cX0_put 67 = .ok (.aload 4, 2) := dk_25 4 (dk_at dksX0_put_2 19 rfl rfl)
theorem dX0_put_69 : decode cX0_put 69 = .ok (.invokevirtual 190, 3) := dk_182 0 190 (dk_at dksX0_put_2 21 rfl rfl)
theorem dX0_put_72 : decode cX0_put 72 = .ok (.invokevirtual 140, 3) := dk_182 0 140 (dk_at dksX0_put_3 0 rfl rfl)
theorem dX0_put_75 : decode cX0_put 75 = .ok (.iload 5, 2) := dk_21 5 (dk_at dksX0_put_3 3 rfl rfl)
theorem dX0_put_77 : decode cX0_put 77 = .ok (.ireturn, 1) := dk_172 (dk_at dksX0_put_3 5 rfl rfl)
abbrev cX0_isChain : ByteArray := prog_1_method_15_code
def yX0_isChain : MethodName := ⟨RX0, "isChain", "(I)Z"⟩
def dkwX0_isChain_0 : List UInt8 := [26, 133, 9, 20, 0, 106, 184, 0, 56, 172]
abbrev dktX0_isChain_0 : List UInt8 := dkwX0_isChain_0 ++ []
theorem dksX0_isChain_0 : cX0_isChain.data.toList.drop 0 = dktX0_isChain_0 := by decide +kernel
theorem dX0_isChain_0 : decode cX0_isChain 0 = .ok (.iload_n 0, 1) := dk_26 (dk_at dksX0_isChain_0 0 rfl rfl)
theorem dX0_isChain_1 : decode cX0_isChain 1 = .ok (.i2l, 1) := dk_133 (dk_at dksX0_isChain_0 1 rfl rfl)
theorem dX0_isChain_2 : decode cX0_isChain 2 = .ok (.lconst 0, 1) := dk_9 (dk_at dksX0_isChain_0 2 rfl rfl)
theorem dX0_isChain_3 : decode cX0_isChain 3 = .ok (.ldc2_w 106, 3) := dk_20 0 106 (dk_at dksX0_isChain_0 3 rfl rfl)
theorem dX0_isChain_6 : decode cX0_isChain 6 = .ok (.invokestatic 56, 3) := dk_184 0 56 (dk_at dksX0_isChain_0 6 rfl rfl)
theorem dX0_isChain_9 : decode cX0_isChain 9 = .ok (.ireturn, 1) := dk_172 (dk_at dksX0_isChain_0 9 rfl rfl)
abbrev cX0_bound : ByteArray := prog_1_method_25_code
def yX0_bound : MethodName := ⟨RX0, "bound", "(III)I"⟩
def dkwX0_bound_5 : List UInt8 := [180, 0, 75, 27, 25, 4, 182, 0, 190, 182, 0, 140, 25, 4, 184, 0, 194, 172]
abbrev dktX0_bound_5 : List UInt8 := dkwX0_bound_5 ++ []
def dkwX0_bound_4 : List UInt8 := [20, 0, 176, 20, 0, 178, 184, 0, 56, 154, 0, 6, 18, 65, 172, 132, 5, 1, 167, 255, 195, 42, 42]
abbrev dktX0_bound_4 : List UInt8 := dkwX0_bound_4 ++ dktX0_bound_5
def dkwX0_bound_3 : List UInt8 := [29, 42, 180, 0, 75, 180, 0, 101, 28, 50, 21, 5, 182, 0, 25, 104, 96, 79, 25, 4, 21, 5, 46, 133]
abbrev dktX0_bound_3 : List UInt8 := dkwX0_bound_3 ++ dktX0_bound_4
def dkwX0_bound_2 : List UInt8 := [58, 4, 3, 54, 5, 21, 5, 42, 180, 0, 75, 180, 0, 97, 190, 162, 0, 54, 25, 4, 21, 5, 92, 46]
abbrev dktX0_bound_2 : List UInt8 := dkwX0_bound_2 ++ dktX0_bound_3
def dkwX0_bound_1 : List UInt8 := [184, 0, 56, 154, 0, 6, 18, 60, 172, 42, 180, 0, 75, 180, 0, 180, 27, 50, 182, 0, 184, 192, 0, 185]
abbrev dktX0_bound_1 : List UInt8 := dkwX0_bound_1 ++ dktX0_bound_2
def dkwX0_bound_0 : List UInt8 := [27, 184, 0, 173, 153, 0, 26, 42, 5, 28, 182, 0, 113, 153, 0, 17, 29, 133, 20, 0, 176, 20, 0, 178]
abbrev dktX0_bound_0 : List UInt8 := dkwX0_bound_0 ++ dktX0_bound_1
theorem dksX0_bound_0 : cX0_bound.data.toList.drop 0 = dktX0_bound_0 := by decide +kernel
theorem dksX0_bound_1 : cX0_bound.data.toList.drop 24 = dktX0_bound_1 := dk_seg dksX0_bound_0 24 rfl rfl
theorem dksX0_bound_2 : cX0_bound.data.toList.drop 48 = dktX0_bound_2 := dk_seg dksX0_bound_1 24 rfl rfl
theorem dksX0_bound_3 : cX0_bound.data.toList.drop 72 = dktX0_bound_3 := dk_seg dksX0_bound_2 24 rfl rfl
theorem dksX0_bound_4 : cX0_bound.data.toList.drop 96 = dktX0_bound_4 := dk_seg dksX0_bound_3 24 rfl rfl
theorem dksX0_bound_5 : cX0_bound.data.toList.drop 119 = dktX0_bound_5 := dk_seg dksX0_bound_4 23 rfl rfl
theorem dX0_bound_0 : decode cX0_bound 0 = .ok (.iload_n 1, 1) := dk_27 (dk_at dksX0_bound_0 0 rfl rfl)
theorem dX0_bound_1 : decode cX0_bound 1 = .ok (.invokestatic 173, 3) := dk_184 0 173 (dk_at dksX0_bound_0 1 rfl rfl)
theorem dX0_bound_4 : decode cX0_bound 4 = .ok (.ifCond .eq 26, 3) := dk_153 0 26 (dk_at dksX0_bound_0 4 rfl rfl)
theorem dX0_bound_7 : decode cX0_bound 7 = .ok (.aload_n 0, 1) := dk_42 (dk_at dksX0_bound_0 7 rfl rfl)
theorem dX0_bound_8 : decode cX0_bound 8 = .ok (.iconst 2, 1) := dk_5 (dk_at dksX0_bound_0 8 rfl rfl)
theorem dX0_bound_9 : decode cX0_bound 9 = .ok (.iload_n 2, 1) := dk_28 (dk_at dksX0_bound_0 9 rfl rfl)
theorem dX0_bound_10 : decode cX0_bound 10 = .ok (.invokevirtual 113, 3) := dk_182 0 113 (dk_at dksX0_bound_0 10 rfl rfl)
theorem dX0_bound_13 : decode cX0_bound 13 = .ok (.ifCond .eq 17, 3) := dk_153 0 17 (dk_at dksX0_bound_0 13 rfl rfl)
theorem dX0_bound_16 : decode cX0_bound 16 = .ok (.iload_n 3, 1) := dk_29 (dk_at dksX0_bound_0 16 rfl rfl)
theorem dX0_bound_17 : decode cX0_bound 17 = .ok (.i2l, 1) := dk_133 (dk_at dksX0_bound_0 17 rfl rfl)
theorem dX0_bound_18 : decode cX0_bound 18 = .ok (.ldc2_w 176, 3) := dk_20 0 176 (dk_at dksX0_bound_0 18 rfl rfl)
theorem dX0_bound_21 : decode cX0_bound 21 = .ok (.ldc2_w 178, 3) := dk_20 0 178 (dk_at dksX0_bound_0 21 rfl rfl)
theorem dX0_bound_24 : decode cX0_bound 24 = .ok (.invokestatic 56, 3) := dk_184 0 56 (dk_at dksX0_bound_1 0 rfl rfl)
theorem dX0_bound_27 : decode cX0_bound 27 = .ok (.ifCond .ne 6, 3) := dk_154 0 6 (dk_at dksX0_bound_1 3 rfl rfl)
theorem dX0_bound_30 : decode cX0_bound 30 = .ok (.ldc 60, 2) := dk_18 60 (dk_at dksX0_bound_1 6 rfl rfl)
theorem dX0_bound_32 : decode cX0_bound 32 = .ok (.ireturn, 1) := dk_172 (dk_at dksX0_bound_1 8 rfl rfl)
theorem dX0_bound_33 : decode cX0_bound 33 = .ok (.aload_n 0, 1) := dk_42 (dk_at dksX0_bound_1 9 rfl rfl)
theorem dX0_bound_34 : decode cX0_bound 34 = .ok (.getfield 75, 3) := dk_180 0 75 (dk_at dksX0_bound_1 10 rfl rfl)
theorem dX0_bound_37 : decode cX0_bound 37 = .ok (.getfield 180, 3) := dk_180 0 180 (dk_at dksX0_bound_1 13 rfl rfl)
theorem dX0_bound_40 : decode cX0_bound 40 = .ok (.iload_n 1, 1) := dk_27 (dk_at dksX0_bound_1 16 rfl rfl)
theorem dX0_bound_41 : decode cX0_bound 41 = .ok (.aaload, 1) := dk_50 (dk_at dksX0_bound_1 17 rfl rfl)
theorem dX0_bound_42 : decode cX0_bound 42 = .ok (.invokevirtual 184, 3) := dk_182 0 184 (dk_at dksX0_bound_1 18 rfl rfl)
theorem dX0_bound_45 : decode cX0_bound 45 = .ok (.checkcast 185, 3) := dk_192 0 185 (dk_at dksX0_bound_1 21 rfl rfl)
theorem dX0_bound_48 : decode cX0_bound 48 = .ok (.astore 4, 2) := dk_58 4 (dk_at dksX0_bound_2 0 rfl rfl)
theorem dX0_bound_50 : decode cX0_bound 50 = .ok (.iconst 0, 1) := dk_3 (dk_at dksX0_bound_2 2 rfl rfl)
theorem dX0_bound_51 : decode cX0_bound 51 = .ok (.istore 5, 2) := dk_54 5 (dk_at dksX0_bound_2 3 rfl rfl)
theorem dX0_bound_53 : decode cX0_bound 53 = .ok (.iload 5, 2) := dk_21 5 (dk_at dksX0_bound_2 5 rfl rfl)
theorem dX0_bound_55 : decode cX0_bound 55 = .ok (.aload_n 0, 1) := dk_42 (dk_at dksX0_bound_2 7 rfl rfl)
theorem dX0_bound_56 : decode cX0_bound 56 = .ok (.getfield 75, 3) := dk_180 0 75 (dk_at dksX0_bound_2 8 rfl rfl)
theorem dX0_bound_59 : decode cX0_bound 59 = .ok (.getfield 97, 3) := dk_180 0 97 (dk_at dksX0_bound_2 11 rfl rfl)
theorem dX0_bound_62 : decode cX0_bound 62 = .ok (.arraylength, 1) := dk_190 (dk_at dksX0_bound_2 14 rfl rfl)
theorem dX0_bound_63 : decode cX0_bound 63 = .ok (.if_icmp .ge 54, 3) := dk_162 0 54 (dk_at dksX0_bound_2 15 rfl rfl)
theorem dX0_bound_66 : decode cX0_bound 66 = .ok (.aload 4, 2) := dk_25 4 (dk_at dksX0_bound_2 18 rfl rfl)
theorem dX0_bound_68 : decode cX0_bound 68 = .ok (.iload 5, 2) := dk_21 5 (dk_at dksX0_bound_2 20 rfl rfl)
theorem dX0_bound_70 : decode cX0_bound 70 = .ok (.dup2, 1) := dk_92 (dk_at dksX0_bound_2 22 rfl rfl)
theorem dX0_bound_71 : decode cX0_bound 71 = .ok (.iaload, 1) := dk_46 (dk_at dksX0_bound_2 23 rfl rfl)
theorem dX0_bound_72 : decode cX0_bound 72 = .ok (.iload_n 3, 1) := dk_29 (dk_at dksX0_bound_3 0 rfl rfl)
theorem dX0_bound_73 : decode cX0_bound 73 = .ok (.aload_n 0, 1) := dk_42 (dk_at dksX0_bound_3 1 rfl rfl)
theorem dX0_bound_74 : decode cX0_bound 74 = .ok (.getfield 75, 3) := dk_180 0 75 (dk_at dksX0_bound_3 2 rfl rfl)
theorem dX0_bound_77 : decode cX0_bound 77 = .ok (.getfield 101, 3) := dk_180 0 101 (dk_at dksX0_bound_3 5 rfl rfl)
theorem dX0_bound_80 : decode cX0_bound 80 = .ok (.iload_n 2, 1) := dk_28 (dk_at dksX0_bound_3 8 rfl rfl)
theorem dX0_bound_81 : decode cX0_bound 81 = .ok (.aaload, 1) := dk_50 (dk_at dksX0_bound_3 9 rfl rfl)
theorem dX0_bound_82 : decode cX0_bound 82 = .ok (.iload 5, 2) := dk_21 5 (dk_at dksX0_bound_3 10 rfl rfl)
theorem dX0_bound_84 : decode cX0_bound 84 = .ok (.invokevirtual 25, 3) := dk_182 0 25 (dk_at dksX0_bound_3 12 rfl rfl)
theorem dX0_bound_87 : decode cX0_bound 87 = .ok (.imul, 1) := dk_104 (dk_at dksX0_bound_3 15 rfl rfl)
theorem dX0_bound_88 : decode cX0_bound 88 = .ok (.iadd, 1) := dk_96 (dk_at dksX0_bound_3 16 rfl rfl)
theorem dX0_bound_89 : decode cX0_bound 89 = .ok (.iastore, 1) := dk_79 (dk_at dksX0_bound_3 17 rfl rfl)
theorem dX0_bound_90 : decode cX0_bound 90 = .ok (.aload 4, 2) := dk_25 4 (dk_at dksX0_bound_3 18 rfl rfl)
theorem dX0_bound_92 : decode cX0_bound 92 = .ok (.iload 5, 2) := dk_21 5 (dk_at dksX0_bound_3 20 rfl rfl)
theorem dX0_bound_94 : decode cX0_bound 94 = .ok (.iaload, 1) := dk_46 (dk_at dksX0_bound_3 22 rfl rfl)
theorem dX0_bound_95 : decode cX0_bound 95 = .ok (.i2l, 1) := dk_133 (dk_at dksX0_bound_3 23 rfl rfl)
theorem dX0_bound_96 : decode cX0_bound 96 = .ok (.ldc2_w 176, 3) := dk_20 0 176 (dk_at dksX0_bound_4 0 rfl rfl)
theorem dX0_bound_99 : decode cX0_bound 99 = .ok (.ldc2_w 178, 3) := dk_20 0 178 (dk_at dksX0_bound_4 3 rfl rfl)
theorem dX0_bound_102 : decode cX0_bound 102 = .ok (.invokestatic 56, 3) := dk_184 0 56 (dk_at dksX0_bound_4 6 rfl rfl)
theorem dX0_bound_105 : decode cX0_bound 105 = .ok (.ifCond .ne 6, 3) := dk_154 0 6 (dk_at dksX0_bound_4 9 rfl rfl)
theorem dX0_bound_108 : decode cX0_bound 108 = .ok (.ldc 65, 2) := dk_18 65 (dk_at dksX0_bound_4 12 rfl rfl)
theorem dX0_bound_110 : decode cX0_bound 110 = .ok (.ireturn, 1) := dk_172 (dk_at dksX0_bound_4 14 rfl rfl)
theorem dX0_bound_111 : decode cX0_bound 111 = .ok (.iinc 5 1, 3) := dk_132 5 1 (dk_at dksX0_bound_4 15 rfl rfl)
theorem dX0_bound_114 : decode cX0_bound 114 = .ok (.goto (-61), 3) := dk_167 255 195 (dk_at dksX0_bound_4 18 rfl rfl)
theorem dX0_bound_117 : decode cX0_bound 117 = .ok (.aload_n 0, 1) := dk_42 (dk_at dksX0_bound_4 21 rfl rfl)
theorem dX0_bound_118 : decode cX0_bound 118 = .ok (.aload_n 0, 1) := dk_42 (dk_at dksX0_bound_4 22 rfl rfl)
theorem dX0_bound_119 : decode cX0_bound 119 = .ok (.getfield 75, 3) := dk_180 0 75 (dk_at dksX0_bound_5 0 rfl rfl)
theorem dX0_bound_122 : decode cX0_bound 122 = .ok (.iload_n 1, 1) := dk_27 (dk_at dksX0_bound_5 3 rfl rfl)
theorem dX0_bound_123 : decode cX0_bound 123 = .ok (.aload 4, 2) := dk_25 4 (dk_at dksX0_bound_5 4 rfl rfl)
theorem dX0_bound_125 : decode cX0_bound 125 = .ok (.invokevirtual 190, 3) := dk_182 0 190 (dk_at dksX0_bound_5 6 rfl rfl)
theorem dX0_bound_128 : decode cX0_bound 128 = .ok (.invokevirtual 140, 3) := dk_182 0 140 (dk_at dksX0_bound_5 9 rfl rfl)
theorem dX0_bound_131 : decode cX0_bound 131 = .ok (.aload 4, 2) := dk_25 4 (dk_at dksX0_bound_5 12 rfl rfl)
theorem dX0_bound_133 : decode cX0_bound 133 = .ok (.invokestatic 194, 3) := dk_184 0 194 (dk_at dksX0_bound_5 14 rfl rfl)
theorem dX0_bound_136 : decode cX0_bound 136 = .ok (.ireturn, 1) := dk_172 (dk_at dksX0_bound_5 17 rfl rfl)
abbrev cX0_others : ByteArray := prog_1_method_24_code
def yX0_others : MethodName := ⟨RX0, "others", "([I)I"⟩
def dkwX0_others_1 : List UInt8 := [21, 5, 154, 0, 7, 3, 167, 0, 4, 4, 96, 60, 132, 4, 1, 167, 255, 228, 27, 172]
abbrev dktX0_others_1 : List UInt8 := dkwX0_others_1 ++ []
def dkwX0_others_0 : List UInt8 := [3, 60, 42, 77, 44, 190, 62, 3, 54, 4, 21, 4, 29, 162, 0, 28, 44, 21, 4, 46, 54, 5, 27]
abbrev dktX0_others_0 : List UInt8 := dkwX0_others_0 ++ dktX0_others_1
theorem dksX0_others_0 : cX0_others.data.toList.drop 0 = dktX0_others_0 := by decide +kernel
theorem dksX0_others_1 : cX0_others.data.toList.drop 23 = dktX0_others_1 := dk_seg dksX0_others_0 23 rfl rfl
theorem dX0_others_0 : decode cX0_others 0 = .ok (.iconst 0, 1) := dk_3 (dk_at dksX0_others_0 0 rfl rfl)
theorem dX0_others_1 : decode cX0_others 1 = .ok (.istore_n 1, 1) := dk_60 (dk_at dksX0_others_0 1 rfl rfl)
theorem dX0_others_2 : decode cX0_others 2 = .ok (.aload_n 0, 1) := dk_42 (dk_at dksX0_others_0 2 rfl rfl)
theorem dX0_others_3 : decode cX0_others 3 = .ok (.astore_n 2, 1) := dk_77 (dk_at dksX0_others_0 3 rfl rfl)
theorem dX0_others_4 : decode cX0_others 4 = .ok (.aload_n 2, 1) := dk_44 (dk_at dksX0_others_0 4 rfl rfl)
theorem dX0_others_5 : decode cX0_others 5 = .ok (.arraylength, 1) := dk_190 (dk_at dksX0_others_0 5 rfl rfl)
theorem dX0_others_6 : decode cX0_others 6 = .ok (.istore_n 3, 1) := dk_62 (dk_at dksX0_others_0 6 rfl rfl)
theorem dX0_others_7 : decode cX0_others 7 = .ok (.iconst 0, 1) := dk_3 (dk_at dksX0_others_0 7 rfl rfl)
theorem dX0_others_8 : decode cX0_others 8 = .ok (.istore 4, 2) := dk_54 4 (dk_at dksX0_others_0 8 rfl rfl)
theorem dX0_others_10 : decode cX0_others 10 = .ok (.iload 4, 2) := dk_21 4 (dk_at dksX0_others_0 10 rfl rfl)
theorem dX0_others_12 : decode cX0_others 12 = .ok (.iload_n 3, 1) := dk_29 (dk_at dksX0_others_0 12 rfl rfl)
theorem dX0_others_13 : decode cX0_others 13 = .ok (.if_icmp .ge 28, 3) := dk_162 0 28 (dk_at dksX0_others_0 13 rfl rfl)
theorem dX0_others_16 : decode cX0_others 16 = .ok (.aload_n 2, 1) := dk_44 (dk_at dksX0_others_0 16 rfl rfl)
theorem dX0_others_17 : decode cX0_others 17 = .ok (.iload 4, 2) := dk_21 4 (dk_at dksX0_others_0 17 rfl rfl)
theorem dX0_others_19 : decode cX0_others 19 = .ok (.iaload, 1) := dk_46 (dk_at dksX0_others_0 19 rfl rfl)
theorem dX0_others_20 : decode cX0_others 20 = .ok (.istore 5, 2) := dk_54 5 (dk_at dksX0_others_0 20 rfl rfl)
theorem dX0_others_22 : decode cX0_others 22 = .ok (.iload_n 1, 1) := dk_27 (dk_at dksX0_others_0 22 rfl rfl)
theorem dX0_others_23 : decode cX0_others 23 = .ok (.iload 5, 2) := dk_21 5 (dk_at dksX0_others_1 0 rfl rfl)
theorem dX0_others_25 : decode cX0_others 25 = .ok (.ifCond .ne 7, 3) := dk_154 0 7 (dk_at dksX0_others_1 2 rfl rfl)
theorem dX0_others_28 : decode cX0_others 28 = .ok (.iconst 0, 1) := dk_3 (dk_at dksX0_others_1 5 rfl rfl)
theorem dX0_others_29 : decode cX0_others 29 = .ok (.goto 4, 3) := dk_167 0 4 (dk_at dksX0_others_1 6 rfl rfl)
theorem dX0_others_32 : decode cX0_others 32 = .ok (.iconst 1, 1) := dk_4 (dk_at dksX0_others_1 9 rfl rfl)
theorem dX0_others_33 : decode cX0_others 33 = .ok (.iadd, 1) := dk_96 (dk_at dksX0_others_1 10 rfl rfl)
theorem dX0_others_34 : decode cX0_others 34 = .ok (.istore_n 1, 1) := dk_60 (dk_at dksX0_others_1 11 rfl rfl)
theorem dX0_others_35 : decode cX0_others 35 = .ok (.iinc 4 1, 3) := dk_132 4 1 (dk_at dksX0_others_1 12 rfl rfl)
theorem dX0_others_38 : decode cX0_others 38 = .ok (.goto (-28), 3) := dk_167 255 228 (dk_at dksX0_others_1 15 rfl rfl)
theorem dX0_others_41 : decode cX0_others 41 = .ok (.iload_n 1, 1) := dk_27 (dk_at dksX0_others_1 18 rfl rfl)
theorem dX0_others_42 : decode cX0_others 42 = .ok (.ireturn, 1) := dk_172 (dk_at dksX0_others_1 19 rfl rfl)
abbrev cX0_drawn : ByteArray := prog_1_method_26_code
def yX0_drawn : MethodName := ⟨RX0, "drawn", "(II)I"⟩
def dkwX0_drawn_4 : List UInt8 := [27, 45, 182, 0, 190, 182, 0, 140, 45, 184, 0, 194, 172]
abbrev dktX0_drawn_4 : List UInt8 := dkwX0_drawn_4 ++ []
def dkwX0_drawn_3 : List UInt8 := [21, 6, 22, 4, 20, 0, 204, 113, 136, 16, 9, 100, 79, 132, 6, 1, 167, 255, 214, 42, 42, 180, 0, 75]
abbrev dktX0_drawn_3 : List UInt8 := dkwX0_drawn_3 ++ dktX0_drawn_4
def dkwX0_drawn_2 : List UInt8 := [180, 0, 75, 180, 0, 97, 190, 162, 0, 35, 22, 4, 20, 0, 200, 105, 20, 0, 202, 113, 55, 4, 45]
abbrev dktX0_drawn_2 : List UInt8 := dkwX0_drawn_2 ++ dktX0_drawn_3
def dkwX0_drawn_1 : List UInt8 := [184, 0, 56, 154, 0, 6, 18, 60, 172, 16, 6, 188, 10, 78, 28, 133, 55, 4, 3, 54, 6, 21, 6, 42]
abbrev dktX0_drawn_1 : List UInt8 := dkwX0_drawn_1 ++ dktX0_drawn_2
def dkwX0_drawn_0 : List UInt8 := [42, 180, 0, 75, 199, 0, 6, 18, 105, 172, 27, 184, 0, 173, 153, 0, 15, 28, 133, 10, 20, 0, 198]
abbrev dktX0_drawn_0 : List UInt8 := dkwX0_drawn_0 ++ dktX0_drawn_1
theorem dksX0_drawn_0 : cX0_drawn.data.toList.drop 0 = dktX0_drawn_0 := by decide +kernel
theorem dksX0_drawn_1 : cX0_drawn.data.toList.drop 23 = dktX0_drawn_1 := dk_seg dksX0_drawn_0 23 rfl rfl
theorem dksX0_drawn_2 : cX0_drawn.data.toList.drop 47 = dktX0_drawn_2 := dk_seg dksX0_drawn_1 24 rfl rfl
theorem dksX0_drawn_3 : cX0_drawn.data.toList.drop 70 = dktX0_drawn_3 := dk_seg dksX0_drawn_2 23 rfl rfl
theorem dksX0_drawn_4 : cX0_drawn.data.toList.drop 94 = dktX0_drawn_4 := dk_seg dksX0_drawn_3 24 rfl rfl
theorem dX0_drawn_0 : decode cX0_drawn 0 = .ok (.aload_n 0, 1) := dk_42 (dk_at dksX0_drawn_0 0 rfl rfl)
theorem dX0_drawn_1 : decode cX0_drawn 1 = .ok (.getfield 75, 3) := dk_180 0 75 (dk_at dksX0_drawn_0 1 rfl rfl)
theorem dX0_drawn_4 : decode cX0_drawn 4 = .ok (.ifnonnull 6, 3) := dk_199 0 6 (dk_at dksX0_drawn_0 4 rfl rfl)
theorem dX0_drawn_7 : decode cX0_drawn 7 = .ok (.ldc 105, 2) := dk_18 105 (dk_at dksX0_drawn_0 7 rfl rfl)
theorem dX0_drawn_9 : decode cX0_drawn 9 = .ok (.ireturn, 1) := dk_172 (dk_at dksX0_drawn_0 9 rfl rfl)
theorem dX0_drawn_10 : decode cX0_drawn 10 = .ok (.iload_n 1, 1) := dk_27 (dk_at dksX0_drawn_0 10 rfl rfl)
theorem dX0_drawn_11 : decode cX0_drawn 11 = .ok (.invokestatic 173, 3) := dk_184 0 173 (dk_at dksX0_drawn_0 11 rfl rfl)
theorem dX0_drawn_14 : decode cX0_drawn 14 = .ok (.ifCond .eq 15, 3) := dk_153 0 15 (dk_at dksX0_drawn_0 14 rfl rfl)
theorem dX0_drawn_17 : decode cX0_drawn 17 = .ok (.iload_n 2, 1) := dk_28 (dk_at dksX0_drawn_0 17 rfl rfl)
theorem dX0_drawn_18 : decode cX0_drawn 18 = .ok (.i2l, 1) := dk_133 (dk_at dksX0_drawn_0 18 rfl rfl)
theorem dX0_drawn_19 : decode cX0_drawn 19 = .ok (.lconst 1, 1) := dk_10 (dk_at dksX0_drawn_0 19 rfl rfl)
theorem dX0_drawn_20 : decode cX0_drawn 20 = .ok (.ldc2_w 198, 3) := dk_20 0 198 (dk_at dksX0_drawn_0 20 rfl rfl)
theorem dX0_drawn_23 : decode cX0_drawn 23 = .ok (.invokestatic 56, 3) := dk_184 0 56 (dk_at dksX0_drawn_1 0 rfl rfl)
theorem dX0_drawn_26 : decode cX0_drawn 26 = .ok (.ifCond .ne 6, 3) := dk_154 0 6 (dk_at dksX0_drawn_1 3 rfl rfl)
theorem dX0_drawn_29 : decode cX0_drawn 29 = .ok (.ldc 60, 2) := dk_18 60 (dk_at dksX0_drawn_1 6 rfl rfl)
theorem dX0_drawn_31 : decode cX0_drawn 31 = .ok (.ireturn, 1) := dk_172 (dk_at dksX0_drawn_1 8 rfl rfl)
theorem dX0_drawn_32 : decode cX0_drawn 32 = .ok (.bipush 6, 2) := dk_16 6 (dk_at dksX0_drawn_1 9 rfl rfl)
theorem dX0_drawn_34 : decode cX0_drawn 34 = .ok (.newarray .int, 2) := dk_188_10 (dk_at dksX0_drawn_1 11 rfl rfl)
theorem dX0_drawn_36 : decode cX0_drawn 36 = .ok (.astore_n 3, 1) := dk_78 (dk_at dksX0_drawn_1 13 rfl rfl)
theorem dX0_drawn_37 : decode cX0_drawn 37 = .ok (.iload_n 2, 1) := dk_28 (dk_at dksX0_drawn_1 14 rfl rfl)
theorem dX0_drawn_38 : decode cX0_drawn 38 = .ok (.i2l, 1) := dk_133 (dk_at dksX0_drawn_1 15 rfl rfl)
theorem dX0_drawn_39 : decode cX0_drawn 39 = .ok (.lstore 4, 2) := dk_55 4 (dk_at dksX0_drawn_1 16 rfl rfl)
theorem dX0_drawn_41 : decode cX0_drawn 41 = .ok (.iconst 0, 1) := dk_3 (dk_at dksX0_drawn_1 18 rfl rfl)
theorem dX0_drawn_42 : decode cX0_drawn 42 = .ok (.istore 6, 2) := dk_54 6 (dk_at dksX0_drawn_1 19 rfl rfl)
theorem dX0_drawn_44 : decode cX0_drawn 44 = .ok (.iload 6, 2) := dk_21 6 (dk_at dksX0_drawn_1 21 rfl rfl)
theorem dX0_drawn_46 : decode cX0_drawn 46 = .ok (.aload_n 0, 1) := dk_42 (dk_at dksX0_drawn_1 23 rfl rfl)
theorem dX0_drawn_47 : decode cX0_drawn 47 = .ok (.getfield 75, 3) := dk_180 0 75 (dk_at dksX0_drawn_2 0 rfl rfl)
theorem dX0_drawn_50 : decode cX0_drawn 50 = .ok (.getfield 97, 3) := dk_180 0 97 (dk_at dksX0_drawn_2 3 rfl rfl)
theorem dX0_drawn_53 : decode cX0_drawn 53 = .ok (.arraylength, 1) := dk_190 (dk_at dksX0_drawn_2 6 rfl rfl)
theorem dX0_drawn_54 : decode cX0_drawn 54 = .ok (.if_icmp .ge 35, 3) := dk_162 0 35 (dk_at dksX0_drawn_2 7 rfl rfl)
theorem dX0_drawn_57 : decode cX0_drawn 57 = .ok (.lload 4, 2) := dk_22 4 (dk_at dksX0_drawn_2 10 rfl rfl)
theorem dX0_drawn_59 : decode cX0_drawn 59 = .ok (.ldc2_w 200, 3) := dk_20 0 200 (dk_at dksX0_drawn_2 12 rfl rfl)
theorem dX0_drawn_62 : decode cX0_drawn 62 = .ok (.lmul, 1) := dk_105 (dk_at dksX0_drawn_2 15 rfl rfl)
theorem dX0_drawn_63 : decode cX0_drawn 63 = .ok (.ldc2_w 202, 3) := dk_20 0 202 (dk_at dksX0_drawn_2 16 rfl rfl)
theorem dX0_drawn_66 : decode cX0_drawn 66 = .ok (.lrem, 1) := dk_113 (dk_at dksX0_drawn_2 19 rfl rfl)
theorem dX0_drawn_67 : decode cX0_drawn 67 = .ok (.lstore 4, 2) := dk_55 4 (dk_at dksX0_drawn_2 20 rfl rfl)
theorem dX0_drawn_69 : decode cX0_drawn 69 = .ok (.aload_n 3, 1) := dk_45 (dk_at dksX0_drawn_2 22 rfl rfl)
theorem dX0_drawn_70 : decode cX0_drawn 70 = .ok (.iload 6, 2) := dk_21 6 (dk_at dksX0_drawn_3 0 rfl rfl)
theorem dX0_drawn_72 : decode cX0_drawn 72 = .ok (.lload 4, 2) := dk_22 4 (dk_at dksX0_drawn_3 2 rfl rfl)
theorem dX0_drawn_74 : decode cX0_drawn 74 = .ok (.ldc2_w 204, 3) := dk_20 0 204 (dk_at dksX0_drawn_3 4 rfl rfl)
theorem dX0_drawn_77 : decode cX0_drawn 77 = .ok (.lrem, 1) := dk_113 (dk_at dksX0_drawn_3 7 rfl rfl)
theorem dX0_drawn_78 : decode cX0_drawn 78 = .ok (.l2i, 1) := dk_136 (dk_at dksX0_drawn_3 8 rfl rfl)
theorem dX0_drawn_79 : decode cX0_drawn 79 = .ok (.bipush 9, 2) := dk_16 9 (dk_at dksX0_drawn_3 9 rfl rfl)
theorem dX0_drawn_81 : decode cX0_drawn 81 = .ok (.isub, 1) := dk_100 (dk_at dksX0_drawn_3 11 rfl rfl)
theorem dX0_drawn_82 : decode cX0_drawn 82 = .ok (.iastore, 1) := dk_79 (dk_at dksX0_drawn_3 12 rfl rfl)
theorem dX0_drawn_83 : decode cX0_drawn 83 = .ok (.iinc 6 1, 3) := dk_132 6 1 (dk_at dksX0_drawn_3 13 rfl rfl)
theorem dX0_drawn_86 : decode cX0_drawn 86 = .ok (.goto (-42), 3) := dk_167 255 214 (dk_at dksX0_drawn_3 16 rfl rfl)
theorem dX0_drawn_89 : decode cX0_drawn 89 = .ok (.aload_n 0, 1) := dk_42 (dk_at dksX0_drawn_3 19 rfl rfl)
theorem dX0_drawn_90 : decode cX0_drawn 90 = .ok (.aload_n 0, 1) := dk_42 (dk_at dksX0_drawn_3 20 rfl rfl)
theorem dX0_drawn_91 : decode cX0_drawn 91 = .ok (.getfield 75, 3) := dk_180 0 75 (dk_at dksX0_drawn_3 21 rfl rfl)
theorem dX0_drawn_94 : decode cX0_drawn 94 = .ok (.iload_n 1, 1) := dk_27 (dk_at dksX0_drawn_4 0 rfl rfl)
theorem dX0_drawn_95 : decode cX0_drawn 95 = .ok (.aload_n 3, 1) := dk_45 (dk_at dksX0_drawn_4 1 rfl rfl)
theorem dX0_drawn_96 : decode cX0_drawn 96 = .ok (.invokevirtual 190, 3) := dk_182 0 190 (dk_at dksX0_drawn_4 2 rfl rfl)
theorem dX0_drawn_99 : decode cX0_drawn 99 = .ok (.invokevirtual 140, 3) := dk_182 0 140 (dk_at dksX0_drawn_4 5 rfl rfl)
theorem dX0_drawn_102 : decode cX0_drawn 102 = .ok (.aload_n 3, 1) := dk_45 (dk_at dksX0_drawn_4 8 rfl rfl)
theorem dX0_drawn_103 : decode cX0_drawn 103 = .ok (.invokestatic 194, 3) := dk_184 0 194 (dk_at dksX0_drawn_4 9 rfl rfl)
theorem dX0_drawn_106 : decode cX0_drawn 106 = .ok (.ireturn, 1) := dk_172 (dk_at dksX0_drawn_4 12 rfl rfl)
abbrev cX0_cell : ByteArray := prog_1_method_28_code
def yX0_cell : MethodName := ⟨RX0, "cell", "(III)I"⟩
def dkwX0_cell_2 : List UInt8 := [50, 29, 182, 0, 224, 172]
abbrev dktX0_cell_2 : List UInt8 := dkwX0_cell_2 ++ []
def dkwX0_cell_1 : List UInt8 := [180, 0, 75, 180, 0, 97, 28, 50, 29, 182, 0, 221, 167, 0, 17, 42, 42, 180, 0, 75, 180, 0, 101, 28]
abbrev dktX0_cell_1 : List UInt8 := dkwX0_cell_1 ++ dktX0_cell_2
def dkwX0_cell_0 : List UInt8 := [27, 153, 0, 12, 42, 27, 28, 182, 0, 113, 154, 0, 6, 18, 60, 172, 27, 4, 160, 0, 19, 42]
abbrev dktX0_cell_0 : List UInt8 := dkwX0_cell_0 ++ dktX0_cell_1
theorem dksX0_cell_0 : cX0_cell.data.toList.drop 0 = dktX0_cell_0 := by decide +kernel
theorem dksX0_cell_1 : cX0_cell.data.toList.drop 22 = dktX0_cell_1 := dk_seg dksX0_cell_0 22 rfl rfl
theorem dksX0_cell_2 : cX0_cell.data.toList.drop 46 = dktX0_cell_2 := dk_seg dksX0_cell_1 24 rfl rfl
theorem dX0_cell_0 : decode cX0_cell 0 = .ok (.iload_n 1, 1) := dk_27 (dk_at dksX0_cell_0 0 rfl rfl)
theorem dX0_cell_1 : decode cX0_cell 1 = .ok (.ifCond .eq 12, 3) := dk_153 0 12 (dk_at dksX0_cell_0 1 rfl rfl)
theorem dX0_cell_4 : decode cX0_cell 4 = .ok (.aload_n 0, 1) := dk_42 (dk_at dksX0_cell_0 4 rfl rfl)
theorem dX0_cell_5 : decode cX0_cell 5 = .ok (.iload_n 1, 1) := dk_27 (dk_at dksX0_cell_0 5 rfl rfl)
theorem dX0_cell_6 : decode cX0_cell 6 = .ok (.iload_n 2, 1) := dk_28 (dk_at dksX0_cell_0 6 rfl rfl)
theorem dX0_cell_7 : decode cX0_cell 7 = .ok (.invokevirtual 113, 3) := dk_182 0 113 (dk_at dksX0_cell_0 7 rfl rfl)
theorem dX0_cell_10 : decode cX0_cell 10 = .ok (.ifCond .ne 6, 3) := dk_154 0 6 (dk_at dksX0_cell_0 10 rfl rfl)
theorem dX0_cell_13 : decode cX0_cell 13 = .ok (.ldc 60, 2) := dk_18 60 (dk_at dksX0_cell_0 13 rfl rfl)
theorem dX0_cell_15 : decode cX0_cell 15 = .ok (.ireturn, 1) := dk_172 (dk_at dksX0_cell_0 15 rfl rfl)
theorem dX0_cell_16 : decode cX0_cell 16 = .ok (.iload_n 1, 1) := dk_27 (dk_at dksX0_cell_0 16 rfl rfl)
theorem dX0_cell_17 : decode cX0_cell 17 = .ok (.iconst 1, 1) := dk_4 (dk_at dksX0_cell_0 17 rfl rfl)
theorem dX0_cell_18 : decode cX0_cell 18 = .ok (.if_icmp .ne 19, 3) := dk_160 0 19 (dk_at dksX0_cell_0 18 rfl rfl)
theorem dX0_cell_21 : decode cX0_cell 21 = .ok (.aload_n 0, 1) := dk_42 (dk_at dksX0_cell_0 21 rfl rfl)
theorem dX0_cell_22 : decode cX0_cell 22 = .ok (.getfield 75, 3) := dk_180 0 75 (dk_at dksX0_cell_1 0 rfl rfl)
theorem dX0_cell_25 : decode cX0_cell 25 = .ok (.getfield 97, 3) := dk_180 0 97 (dk_at dksX0_cell_1 3 rfl rfl)
theorem dX0_cell_28 : decode cX0_cell 28 = .ok (.iload_n 2, 1) := dk_28 (dk_at dksX0_cell_1 6 rfl rfl)
theorem dX0_cell_29 : decode cX0_cell 29 = .ok (.aaload, 1) := dk_50 (dk_at dksX0_cell_1 7 rfl rfl)
theorem dX0_cell_30 : decode cX0_cell 30 = .ok (.iload_n 3, 1) := dk_29 (dk_at dksX0_cell_1 8 rfl rfl)
theorem dX0_cell_31 : decode cX0_cell 31 = .ok (.invokevirtual 221, 3) := dk_182 0 221 (dk_at dksX0_cell_1 9 rfl rfl)
theorem dX0_cell_34 : decode cX0_cell 34 = .ok (.goto 17, 3) := dk_167 0 17 (dk_at dksX0_cell_1 12 rfl rfl)
theorem dX0_cell_37 : decode cX0_cell 37 = .ok (.aload_n 0, 1) := dk_42 (dk_at dksX0_cell_1 15 rfl rfl)
theorem dX0_cell_38 : decode cX0_cell 38 = .ok (.aload_n 0, 1) := dk_42 (dk_at dksX0_cell_1 16 rfl rfl)
theorem dX0_cell_39 : decode cX0_cell 39 = .ok (.getfield 75, 3) := dk_180 0 75 (dk_at dksX0_cell_1 17 rfl rfl)
theorem dX0_cell_42 : decode cX0_cell 42 = .ok (.getfield 101, 3) := dk_180 0 101 (dk_at dksX0_cell_1 20 rfl rfl)
theorem dX0_cell_45 : decode cX0_cell 45 = .ok (.iload_n 2, 1) := dk_28 (dk_at dksX0_cell_1 23 rfl rfl)
theorem dX0_cell_46 : decode cX0_cell 46 = .ok (.aaload, 1) := dk_50 (dk_at dksX0_cell_2 0 rfl rfl)
theorem dX0_cell_47 : decode cX0_cell 47 = .ok (.iload_n 3, 1) := dk_29 (dk_at dksX0_cell_2 1 rfl rfl)
theorem dX0_cell_48 : decode cX0_cell 48 = .ok (.invokevirtual 224, 3) := dk_182 0 224 (dk_at dksX0_cell_2 2 rfl rfl)
theorem dX0_cell_51 : decode cX0_cell 51 = .ok (.ireturn, 1) := dk_172 (dk_at dksX0_cell_2 5 rfl rfl)
abbrev cX0_ofFace : ByteArray := prog_1_method_27_code
def yX0_ofFace : MethodName := ⟨RX0, "ofFace", "(LChainParts$FaceCell;I)I"⟩
def dkwX0_ofFace_4 : List UInt8 := [182, 0, 218, 167, 0, 5, 18, 60, 172]
abbrev dktX0_ofFace_4 : List UInt8 := dkwX0_ofFace_4 ++ []
def dkwX0_ofFace_3 : List UInt8 := [180, 0, 211, 172, 28, 133, 20, 0, 214, 20, 0, 216, 184, 0, 56, 153, 0, 14, 43, 28, 16, 10, 100]
abbrev dktX0_ofFace_3 : List UInt8 := dkwX0_ofFace_3 ++ dktX0_ofFace_4
def dkwX0_ofFace_2 : List UInt8 := [46, 50, 180, 0, 208, 167, 0, 22, 42, 180, 0, 75, 180, 0, 97, 2, 43, 180, 0, 206, 3, 46, 100, 50]
abbrev dktX0_ofFace_2 : List UInt8 := dkwX0_ofFace_2 ++ dktX0_ofFace_3
def dkwX0_ofFace_1 : List UInt8 := [160, 0, 52, 43, 180, 0, 206, 3, 46, 155, 0, 23, 42, 180, 0, 75, 180, 0, 97, 43, 180, 0, 206, 3]
abbrev dktX0_ofFace_1 : List UInt8 := dkwX0_ofFace_1 ++ dktX0_ofFace_2
def dkwX0_ofFace_0 : List UInt8 := [28, 154, 0, 8, 43, 180, 0, 124, 172, 28, 4, 160, 0, 9, 43, 180, 0, 206, 190, 172, 28, 5]
abbrev dktX0_ofFace_0 : List UInt8 := dkwX0_ofFace_0 ++ dktX0_ofFace_1
theorem dksX0_ofFace_0 : cX0_ofFace.data.toList.drop 0 = dktX0_ofFace_0 := by decide +kernel
theorem dksX0_ofFace_1 : cX0_ofFace.data.toList.drop 22 = dktX0_ofFace_1 := dk_seg dksX0_ofFace_0 22 rfl rfl
theorem dksX0_ofFace_2 : cX0_ofFace.data.toList.drop 46 = dktX0_ofFace_2 := dk_seg dksX0_ofFace_1 24 rfl rfl
theorem dksX0_ofFace_3 : cX0_ofFace.data.toList.drop 70 = dktX0_ofFace_3 := dk_seg dksX0_ofFace_2 24 rfl rfl
theorem dksX0_ofFace_4 : cX0_ofFace.data.toList.drop 93 = dktX0_ofFace_4 := dk_seg dksX0_ofFace_3 23 rfl rfl
theorem dX0_ofFace_0 : decode cX0_ofFace 0 = .ok (.iload_n 2, 1) := dk_28 (dk_at dksX0_ofFace_0 0 rfl rfl)
theorem dX0_ofFace_1 : decode cX0_ofFace 1 = .ok (.ifCond .ne 8, 3) := dk_154 0 8 (dk_at dksX0_ofFace_0 1 rfl rfl)
theorem dX0_ofFace_4 : decode cX0_ofFace 4 = .ok (.aload_n 1, 1) := dk_43 (dk_at dksX0_ofFace_0 4 rfl rfl)
theorem dX0_ofFace_5 : decode cX0_ofFace 5 = .ok (.getfield 124, 3) := dk_180 0 124 (dk_at dksX0_ofFace_0 5 rfl rfl)
theorem dX0_ofFace_8 : decode cX0_ofFace 8 = .ok (.ireturn, 1) := dk_172 (dk_at dksX0_ofFace_0 8 rfl rfl)
theorem dX0_ofFace_9 : decode cX0_ofFace 9 = .ok (.iload_n 2, 1) := dk_28 (dk_at dksX0_ofFace_0 9 rfl rfl)
theorem dX0_ofFace_10 : decode cX0_ofFace 10 = .ok (.iconst 1, 1) := dk_4 (dk_at dksX0_ofFace_0 10 rfl rfl)
theorem dX0_ofFace_11 : decode cX0_ofFace 11 = .ok (.if_icmp .ne 9, 3) := dk_160 0 9 (dk_at dksX0_ofFace_0 11 rfl rfl)
theorem dX0_ofFace_14 : decode cX0_ofFace 14 = .ok (.aload_n 1, 1) := dk_43 (dk_at dksX0_ofFace_0 14 rfl rfl)
theorem dX0_ofFace_15 : decode cX0_ofFace 15 = .ok (.getfield 206, 3) := dk_180 0 206 (dk_at dksX0_ofFace_0 15 rfl rfl)
theorem dX0_ofFace_18 : decode cX0_ofFace 18 = .ok (.arraylength, 1) := dk_190 (dk_at dksX0_ofFace_0 18 rfl rfl)
theorem dX0_ofFace_19 : decode cX0_ofFace 19 = .ok (.ireturn, 1) := dk_172 (dk_at dksX0_ofFace_0 19 rfl rfl)
theorem dX0_ofFace_20 : decode cX0_ofFace 20 = .ok (.iload_n 2, 1) := dk_28 (dk_at dksX0_ofFace_0 20 rfl rfl)
theorem dX0_ofFace_21 : decode cX0_ofFace 21 = .ok (.iconst 2, 1) := dk_5 (dk_at dksX0_ofFace_0 21 rfl rfl)
theorem dX0_ofFace_22 : decode cX0_ofFace 22 = .ok (.if_icmp .ne 52, 3) := dk_160 0 52 (dk_at dksX0_ofFace_1 0 rfl rfl)
theorem dX0_ofFace_25 : decode cX0_ofFace 25 = .ok (.aload_n 1, 1) := dk_43 (dk_at dksX0_ofFace_1 3 rfl rfl)
theorem dX0_ofFace_26 : decode cX0_ofFace 26 = .ok (.getfield 206, 3) := dk_180 0 206 (dk_at dksX0_ofFace_1 4 rfl rfl)
theorem dX0_ofFace_29 : decode cX0_ofFace 29 = .ok (.iconst 0, 1) := dk_3 (dk_at dksX0_ofFace_1 7 rfl rfl)
theorem dX0_ofFace_30 : decode cX0_ofFace 30 = .ok (.iaload, 1) := dk_46 (dk_at dksX0_ofFace_1 8 rfl rfl)
theorem dX0_ofFace_31 : decode cX0_ofFace 31 = .ok (.ifCond .lt 23, 3) := dk_155 0 23 (dk_at dksX0_ofFace_1 9 rfl rfl)
theorem dX0_ofFace_34 : decode cX0_ofFace 34 = .ok (.aload_n 0, 1) := dk_42 (dk_at dksX0_ofFace_1 12 rfl rfl)
theorem dX0_ofFace_35 : decode cX0_ofFace 35 = .ok (.getfield 75, 3) := dk_180 0 75 (dk_at dksX0_ofFace_1 13 rfl rfl)
theorem dX0_ofFace_38 : decode cX0_ofFace 38 = .ok (.getfield 97, 3) := dk_180 0 97 (dk_at dksX0_ofFace_1 16 rfl rfl)
theorem dX0_ofFace_41 : decode cX0_ofFace 41 = .ok (.aload_n 1, 1) := dk_43 (dk_at dksX0_ofFace_1 19 rfl rfl)
theorem dX0_ofFace_42 : decode cX0_ofFace 42 = .ok (.getfield 206, 3) := dk_180 0 206 (dk_at dksX0_ofFace_1 20 rfl rfl)
theorem dX0_ofFace_45 : decode cX0_ofFace 45 = .ok (.iconst 0, 1) := dk_3 (dk_at dksX0_ofFace_1 23 rfl rfl)
theorem dX0_ofFace_46 : decode cX0_ofFace 46 = .ok (.iaload, 1) := dk_46 (dk_at dksX0_ofFace_2 0 rfl rfl)
theorem dX0_ofFace_47 : decode cX0_ofFace 47 = .ok (.aaload, 1) := dk_50 (dk_at dksX0_ofFace_2 1 rfl rfl)
theorem dX0_ofFace_48 : decode cX0_ofFace 48 = .ok (.getfield 208, 3) := dk_180 0 208 (dk_at dksX0_ofFace_2 2 rfl rfl)
theorem dX0_ofFace_51 : decode cX0_ofFace 51 = .ok (.goto 22, 3) := dk_167 0 22 (dk_at dksX0_ofFace_2 5 rfl rfl)
theorem dX0_ofFace_54 : decode cX0_ofFace 54 = .ok (.aload_n 0, 1) := dk_42 (dk_at dksX0_ofFace_2 8 rfl rfl)
theorem dX0_ofFace_55 : decode cX0_ofFace 55 = .ok (.getfield 75, 3) := dk_180 0 75 (dk_at dksX0_ofFace_2 9 rfl rfl)
theorem dX0_ofFace_58 : decode cX0_ofFace 58 = .ok (.getfield 97, 3) := dk_180 0 97 (dk_at dksX0_ofFace_2 12 rfl rfl)
theorem dX0_ofFace_61 : decode cX0_ofFace 61 = .ok (.iconst (-1), 1) := dk_2 (dk_at dksX0_ofFace_2 15 rfl rfl)
theorem dX0_ofFace_62 : decode cX0_ofFace 62 = .ok (.aload_n 1, 1) := dk_43 (dk_at dksX0_ofFace_2 16 rfl rfl)
theorem dX0_ofFace_63 : decode cX0_ofFace 63 = .ok (.getfield 206, 3) := dk_180 0 206 (dk_at dksX0_ofFace_2 17 rfl rfl)
theorem dX0_ofFace_66 : decode cX0_ofFace 66 = .ok (.iconst 0, 1) := dk_3 (dk_at dksX0_ofFace_2 20 rfl rfl)
theorem dX0_ofFace_67 : decode cX0_ofFace 67 = .ok (.iaload, 1) := dk_46 (dk_at dksX0_ofFace_2 21 rfl rfl)
theorem dX0_ofFace_68 : decode cX0_ofFace 68 = .ok (.isub, 1) := dk_100 (dk_at dksX0_ofFace_2 22 rfl rfl)
theorem dX0_ofFace_69 : decode cX0_ofFace 69 = .ok (.aaload, 1) := dk_50 (dk_at dksX0_ofFace_2 23 rfl rfl)
theorem dX0_ofFace_70 : decode cX0_ofFace 70 = .ok (.getfield 211, 3) := dk_180 0 211 (dk_at dksX0_ofFace_3 0 rfl rfl)
theorem dX0_ofFace_73 : decode cX0_ofFace 73 = .ok (.ireturn, 1) := dk_172 (dk_at dksX0_ofFace_3 3 rfl rfl)
theorem dX0_ofFace_74 : decode cX0_ofFace 74 = .ok (.iload_n 2, 1) := dk_28 (dk_at dksX0_ofFace_3 4 rfl rfl)
theorem dX0_ofFace_75 : decode cX0_ofFace 75 = .ok (.i2l, 1) := dk_133 (dk_at dksX0_ofFace_3 5 rfl rfl)
theorem dX0_ofFace_76 : decode cX0_ofFace 76 = .ok (.ldc2_w 214, 3) := dk_20 0 214 (dk_at dksX0_ofFace_3 6 rfl rfl)
theorem dX0_ofFace_79 : decode cX0_ofFace 79 = .ok (.ldc2_w 216, 3) := dk_20 0 216 (dk_at dksX0_ofFace_3 9 rfl rfl)
theorem dX0_ofFace_82 : decode cX0_ofFace 82 = .ok (.invokestatic 56, 3) := dk_184 0 56 (dk_at dksX0_ofFace_3 12 rfl rfl)
theorem dX0_ofFace_85 : decode cX0_ofFace 85 = .ok (.ifCond .eq 14, 3) := dk_153 0 14 (dk_at dksX0_ofFace_3 15 rfl rfl)
theorem dX0_ofFace_88 : decode cX0_ofFace 88 = .ok (.aload_n 1, 1) := dk_43 (dk_at dksX0_ofFace_3 18 rfl rfl)
theorem dX0_ofFace_89 : decode cX0_ofFace 89 = .ok (.iload_n 2, 1) := dk_28 (dk_at dksX0_ofFace_3 19 rfl rfl)
theorem dX0_ofFace_90 : decode cX0_ofFace 90 = .ok (.bipush 10, 2) := dk_16 10 (dk_at dksX0_ofFace_3 20 rfl rfl)
theorem dX0_ofFace_92 : decode cX0_ofFace 92 = .ok (.isub, 1) := dk_100 (dk_at dksX0_ofFace_3 22 rfl rfl)
theorem dX0_ofFace_93 : decode cX0_ofFace 93 = .ok (.invokevirtual 218, 3) := dk_182 0 218 (dk_at dksX0_ofFace_4 0 rfl rfl)
theorem dX0_ofFace_96 : decode cX0_ofFace 96 = .ok (.goto 5, 3) := dk_167 0 5 (dk_at dksX0_ofFace_4 3 rfl rfl)
theorem dX0_ofFace_99 : decode cX0_ofFace 99 = .ok (.ldc 60, 2) := dk_18 60 (dk_at dksX0_ofFace_4 6 rfl rfl)
theorem dX0_ofFace_101 : decode cX0_ofFace 101 = .ok (.ireturn, 1) := dk_172 (dk_at dksX0_ofFace_4 8 rfl rfl)
abbrev cX0_as : ByteArray := prog_1_method_29_code
def yX0_as : MethodName := ⟨RX0, "as", "(III)I"⟩
def dkwX0_as_3 : List UInt8 := [50, 83, 167, 0, 8, 58, 5, 18, 237, 172, 28, 172]
abbrev dktX0_as_3 : List UInt8 := dkwX0_as_3 ++ []
def dkwX0_as_2 : List UInt8 := [4, 160, 0, 15, 42, 180, 0, 75, 180, 0, 97, 28, 50, 167, 0, 12, 42, 180, 0, 75, 180, 0, 101, 28]
abbrev dktX0_as_2 : List UInt8 := dkwX0_as_2 ++ dktX0_as_3
def dkwX0_as_1 : List UInt8 := [29, 184, 0, 230, 58, 4, 25, 4, 3, 27, 154, 0, 13, 187, 0, 34, 89, 183, 0, 234, 167, 0, 29, 27]
abbrev dktX0_as_1 : List UInt8 := dkwX0_as_1 ++ dktX0_as_2
def dkwX0_as_0 : List UInt8 := [42, 27, 28, 182, 0, 113, 153, 0, 15, 29, 133, 9, 20, 0, 228, 184, 0, 56, 154, 0, 6, 18, 60, 172]
abbrev dktX0_as_0 : List UInt8 := dkwX0_as_0 ++ dktX0_as_1
theorem dksX0_as_0 : cX0_as.data.toList.drop 0 = dktX0_as_0 := by decide +kernel
theorem dksX0_as_1 : cX0_as.data.toList.drop 24 = dktX0_as_1 := dk_seg dksX0_as_0 24 rfl rfl
theorem dksX0_as_2 : cX0_as.data.toList.drop 48 = dktX0_as_2 := dk_seg dksX0_as_1 24 rfl rfl
theorem dksX0_as_3 : cX0_as.data.toList.drop 72 = dktX0_as_3 := dk_seg dksX0_as_2 24 rfl rfl
theorem dX0_as_0 : decode cX0_as 0 = .ok (.aload_n 0, 1) := dk_42 (dk_at dksX0_as_0 0 rfl rfl)
theorem dX0_as_1 : decode cX0_as 1 = .ok (.iload_n 1, 1) := dk_27 (dk_at dksX0_as_0 1 rfl rfl)
theorem dX0_as_2 : decode cX0_as 2 = .ok (.iload_n 2, 1) := dk_28 (dk_at dksX0_as_0 2 rfl rfl)
theorem dX0_as_3 : decode cX0_as 3 = .ok (.invokevirtual 113, 3) := dk_182 0 113 (dk_at dksX0_as_0 3 rfl rfl)
theorem dX0_as_6 : decode cX0_as 6 = .ok (.ifCond .eq 15, 3) := dk_153 0 15 (dk_at dksX0_as_0 6 rfl rfl)
theorem dX0_as_9 : decode cX0_as 9 = .ok (.iload_n 3, 1) := dk_29 (dk_at dksX0_as_0 9 rfl rfl)
theorem dX0_as_10 : decode cX0_as 10 = .ok (.i2l, 1) := dk_133 (dk_at dksX0_as_0 10 rfl rfl)
theorem dX0_as_11 : decode cX0_as 11 = .ok (.lconst 0, 1) := dk_9 (dk_at dksX0_as_0 11 rfl rfl)
theorem dX0_as_12 : decode cX0_as 12 = .ok (.ldc2_w 228, 3) := dk_20 0 228 (dk_at dksX0_as_0 12 rfl rfl)
theorem dX0_as_15 : decode cX0_as 15 = .ok (.invokestatic 56, 3) := dk_184 0 56 (dk_at dksX0_as_0 15 rfl rfl)
theorem dX0_as_18 : decode cX0_as 18 = .ok (.ifCond .ne 6, 3) := dk_154 0 6 (dk_at dksX0_as_0 18 rfl rfl)
theorem dX0_as_21 : decode cX0_as 21 = .ok (.ldc 60, 2) := dk_18 60 (dk_at dksX0_as_0 21 rfl rfl)
theorem dX0_as_23 : decode cX0_as 23 = .ok (.ireturn, 1) := dk_172 (dk_at dksX0_as_0 23 rfl rfl)
theorem dX0_as_24 : decode cX0_as 24 = .ok (.iload_n 3, 1) := dk_29 (dk_at dksX0_as_1 0 rfl rfl)
theorem dX0_as_25 : decode cX0_as 25 = .ok (.invokestatic 230, 3) := dk_184 0 230 (dk_at dksX0_as_1 1 rfl rfl)
theorem dX0_as_28 : decode cX0_as 28 = .ok (.astore 4, 2) := dk_58 4 (dk_at dksX0_as_1 4 rfl rfl)
theorem dX0_as_30 : decode cX0_as 30 = .ok (.aload 4, 2) := dk_25 4 (dk_at dksX0_as_1 6 rfl rfl)
theorem dX0_as_32 : decode cX0_as 32 = .ok (.iconst 0, 1) := dk_3 (dk_at dksX0_as_1 8 rfl rfl)
theorem dX0_as_33 : decode cX0_as 33 = .ok (.iload_n 1, 1) := dk_27 (dk_at dksX0_as_1 9 rfl rfl)
theorem dX0_as_34 : decode cX0_as 34 = .ok (.ifCond .ne 13, 3) := dk_154 0 13 (dk_at dksX0_as_1 10 rfl rfl)
theorem dX0_as_37 : decode cX0_as 37 = .ok (.new 34, 3) := dk_187 0 34 (dk_at dksX0_as_1 13 rfl rfl)
theorem dX0_as_40 : decode cX0_as 40 = .ok (.dup, 1) := dk_89 (dk_at dksX0_as_1 16 rfl rfl)
theorem dX0_as_41 : decode cX0_as 41 = .ok (.invokespecial 234, 3) := dk_183 0 234 (dk_at dksX0_as_1 17 rfl rfl)
theorem dX0_as_44 : decode cX0_as 44 = .ok (.goto 29, 3) := dk_167 0 29 (dk_at dksX0_as_1 20 rfl rfl)
theorem dX0_as_47 : decode cX0_as 47 = .ok (.iload_n 1, 1) := dk_27 (dk_at dksX0_as_1 23 rfl rfl)
theorem dX0_as_48 : decode cX0_as 48 = .ok (.iconst 1, 1) := dk_4 (dk_at dksX0_as_2 0 rfl rfl)
theorem dX0_as_49 : decode cX0_as 49 = .ok (.if_icmp .ne 15, 3) := dk_160 0 15 (dk_at dksX0_as_2 1 rfl rfl)
theorem dX0_as_52 : decode cX0_as 52 = .ok (.aload_n 0, 1) := dk_42 (dk_at dksX0_as_2 4 rfl rfl)
theorem dX0_as_53 : decode cX0_as 53 = .ok (.getfield 75, 3) := dk_180 0 75 (dk_at dksX0_as_2 5 rfl rfl)
theorem dX0_as_56 : decode cX0_as 56 = .ok (.getfield 97, 3) := dk_180 0 97 (dk_at dksX0_as_2 8 rfl rfl)
theorem dX0_as_59 : decode cX0_as 59 = .ok (.iload_n 2, 1) := dk_28 (dk_at dksX0_as_2 11 rfl rfl)
theorem dX0_as_60 : decode cX0_as 60 = .ok (.aaload, 1) := dk_50 (dk_at dksX0_as_2 12 rfl rfl)
theorem dX0_as_61 : decode cX0_as 61 = .ok (.goto 12, 3) := dk_167 0 12 (dk_at dksX0_as_2 13 rfl rfl)
theorem dX0_as_64 : decode cX0_as 64 = .ok (.aload_n 0, 1) := dk_42 (dk_at dksX0_as_2 16 rfl rfl)
theorem dX0_as_65 : decode cX0_as 65 = .ok (.getfield 75, 3) := dk_180 0 75 (dk_at dksX0_as_2 17 rfl rfl)
theorem dX0_as_68 : decode cX0_as 68 = .ok (.getfield 101, 3) := dk_180 0 101 (dk_at dksX0_as_2 20 rfl rfl)
theorem dX0_as_71 : decode cX0_as 71 = .ok (.iload_n 2, 1) := dk_28 (dk_at dksX0_as_2 23 rfl rfl)
theorem dX0_as_72 : decode cX0_as 72 = .ok (.aaload, 1) := dk_50 (dk_at dksX0_as_3 0 rfl rfl)
theorem dX0_as_73 : decode cX0_as 73 = .ok (.aastore, 1) := dk_83 (dk_at dksX0_as_3 1 rfl rfl)
theorem dX0_as_74 : decode cX0_as 74 = .ok (.goto 8, 3) := dk_167 0 8 (dk_at dksX0_as_3 2 rfl rfl)
theorem dX0_as_77 : decode cX0_as 77 = .ok (.astore 5, 2) := dk_58 5 (dk_at dksX0_as_3 5 rfl rfl)
theorem dX0_as_79 : decode cX0_as 79 = .ok (.ldc 237, 2) := dk_18 237 (dk_at dksX0_as_3 7 rfl rfl)
theorem dX0_as_81 : decode cX0_as 81 = .ok (.ireturn, 1) := dk_172 (dk_at dksX0_as_3 9 rfl rfl)
theorem dX0_as_82 : decode cX0_as 82 = .ok (.iload_n 2, 1) := dk_28 (dk_at dksX0_as_3 10 rfl rfl)
theorem dX0_as_83 : decode cX0_as 83 = .ok (.ireturn, 1) := dk_172 (dk_at dksX0_as_3 11 rfl rfl)
abbrev cX0_placeFor : ByteArray := prog_1_method_6_code
def yX0_placeFor : MethodName := ⟨RX0, "placeFor", "(I)[LChainParts$Cell;"⟩
def dkwX0_placeFor_3 : List UInt8 := [176, 4, 189, 0, 29, 176]
abbrev dktX0_placeFor_3 : List UInt8 := dkwX0_placeFor_3 ++ []
def dkwX0_placeFor_2 : List UInt8 := [4, 189, 0, 32, 176, 4, 189, 0, 34, 176, 4, 189, 0, 13, 176, 4, 189, 0, 7, 176, 4, 189, 0, 18]
abbrev dktX0_placeFor_2 : List UInt8 := dkwX0_placeFor_2 ++ dktX0_placeFor_3
def dkwX0_placeFor_1 : List UInt8 := [170, 0, 0, 0, 0, 0, 60, 0, 0, 0, 0, 0, 0, 0, 4, 0, 0, 0, 35, 0, 0, 0, 40, 0, 0, 0, 45, 0, 0, 0, 50, 0, 0, 0, 55]
abbrev dktX0_placeFor_1 : List UInt8 := dkwX0_placeFor_1 ++ dktX0_placeFor_2
def dkwX0_placeFor_0 : List UInt8 := [26]
abbrev dktX0_placeFor_0 : List UInt8 := dkwX0_placeFor_0 ++ dktX0_placeFor_1
theorem dksX0_placeFor_0 : cX0_placeFor.data.toList.drop 0 = dktX0_placeFor_0 := by decide +kernel
theorem dksX0_placeFor_1 : cX0_placeFor.data.toList.drop 1 = dktX0_placeFor_1 := dk_seg dksX0_placeFor_0 1 rfl rfl
theorem dksX0_placeFor_2 : cX0_placeFor.data.toList.drop 36 = dktX0_placeFor_2 := dk_seg dksX0_placeFor_1 35 rfl rfl
theorem dksX0_placeFor_3 : cX0_placeFor.data.toList.drop 60 = dktX0_placeFor_3 := dk_seg dksX0_placeFor_2 24 rfl rfl
theorem dX0_placeFor_0 : decode cX0_placeFor 0 = .ok (.iload_n 0, 1) := dk_26 (dk_at dksX0_placeFor_0 0 rfl rfl)
theorem dX0_placeFor_1 : decode cX0_placeFor 1 = .ok (.tableswitch 60 0 4 #[35, 40, 45, 50, 55], 35) := by decide +kernel
theorem dX0_placeFor_36 : decode cX0_placeFor 36 = .ok (.iconst 1, 1) := dk_4 (dk_at dksX0_placeFor_2 0 rfl rfl)
theorem dX0_placeFor_37 : decode cX0_placeFor 37 = .ok (.anewarray 32, 3) := dk_189 0 32 (dk_at dksX0_placeFor_2 1 rfl rfl)
theorem dX0_placeFor_40 : decode cX0_placeFor 40 = .ok (.areturn, 1) := dk_176 (dk_at dksX0_placeFor_2 4 rfl rfl)
theorem dX0_placeFor_41 : decode cX0_placeFor 41 = .ok (.iconst 1, 1) := dk_4 (dk_at dksX0_placeFor_2 5 rfl rfl)
theorem dX0_placeFor_42 : decode cX0_placeFor 42 = .ok (.anewarray 34, 3) := dk_189 0 34 (dk_at dksX0_placeFor_2 6 rfl rfl)
theorem dX0_placeFor_45 : decode cX0_placeFor 45 = .ok (.areturn, 1) := dk_176 (dk_at dksX0_placeFor_2 9 rfl rfl)
theorem dX0_placeFor_46 : decode cX0_placeFor 46 = .ok (.iconst 1, 1) := dk_4 (dk_at dksX0_placeFor_2 10 rfl rfl)
theorem dX0_placeFor_47 : decode cX0_placeFor 47 = .ok (.anewarray 13, 3) := dk_189 0 13 (dk_at dksX0_placeFor_2 11 rfl rfl)
theorem dX0_placeFor_50 : decode cX0_placeFor 50 = .ok (.areturn, 1) := dk_176 (dk_at dksX0_placeFor_2 14 rfl rfl)
theorem dX0_placeFor_51 : decode cX0_placeFor 51 = .ok (.iconst 1, 1) := dk_4 (dk_at dksX0_placeFor_2 15 rfl rfl)
theorem dX0_placeFor_52 : decode cX0_placeFor 52 = .ok (.anewarray 7, 3) := dk_189 0 7 (dk_at dksX0_placeFor_2 16 rfl rfl)
theorem dX0_placeFor_55 : decode cX0_placeFor 55 = .ok (.areturn, 1) := dk_176 (dk_at dksX0_placeFor_2 19 rfl rfl)
theorem dX0_placeFor_56 : decode cX0_placeFor 56 = .ok (.iconst 1, 1) := dk_4 (dk_at dksX0_placeFor_2 20 rfl rfl)
theorem dX0_placeFor_57 : decode cX0_placeFor 57 = .ok (.anewarray 18, 3) := dk_189 0 18 (dk_at dksX0_placeFor_2 21 rfl rfl)
theorem dX0_placeFor_60 : decode cX0_placeFor 60 = .ok (.areturn, 1) := dk_176 (dk_at dksX0_placeFor_3 0 rfl rfl)
theorem dX0_placeFor_61 : decode cX0_placeFor 61 = .ok (.iconst 1, 1) := dk_4 (dk_at dksX0_placeFor_3 1 rfl rfl)
theorem dX0_placeFor_62 : decode cX0_placeFor 62 = .ok (.anewarray 29, 3) := dk_189 0 29 (dk_at dksX0_placeFor_3 2 rfl rfl)
theorem dX0_placeFor_65 : decode cX0_placeFor 65 = .ok (.areturn, 1) := dk_176 (dk_at dksX0_placeFor_3 5 rfl rfl)
abbrev cX0_table : ByteArray := prog_1_method_30_code
def yX0_table : MethodName := ⟨RX0, "table", "(III)I"⟩
def dkwX0_table_1 : List UInt8 := [42, 180, 0, 75, 27, 182, 0, 238, 180, 0, 242, 28, 50, 29, 47, 136, 167, 0, 5, 18, 60, 172]
abbrev dktX0_table_1 : List UInt8 := dkwX0_table_1 ++ []
def dkwX0_table_0 : List UInt8 := [27, 153, 0, 42, 42, 27, 29, 182, 0, 113, 153, 0, 33, 42, 27, 4, 100, 28, 182, 0, 113, 153, 0, 22]
abbrev dktX0_table_0 : List UInt8 := dkwX0_table_0 ++ dktX0_table_1
theorem dksX0_table_0 : cX0_table.data.toList.drop 0 = dktX0_table_0 := by decide +kernel
theorem dksX0_table_1 : cX0_table.data.toList.drop 24 = dktX0_table_1 := dk_seg dksX0_table_0 24 rfl rfl
theorem dX0_table_0 : decode cX0_table 0 = .ok (.iload_n 1, 1) := dk_27 (dk_at dksX0_table_0 0 rfl rfl)
theorem dX0_table_1 : decode cX0_table 1 = .ok (.ifCond .eq 42, 3) := dk_153 0 42 (dk_at dksX0_table_0 1 rfl rfl)
theorem dX0_table_4 : decode cX0_table 4 = .ok (.aload_n 0, 1) := dk_42 (dk_at dksX0_table_0 4 rfl rfl)
theorem dX0_table_5 : decode cX0_table 5 = .ok (.iload_n 1, 1) := dk_27 (dk_at dksX0_table_0 5 rfl rfl)
theorem dX0_table_6 : decode cX0_table 6 = .ok (.iload_n 3, 1) := dk_29 (dk_at dksX0_table_0 6 rfl rfl)
theorem dX0_table_7 : decode cX0_table 7 = .ok (.invokevirtual 113, 3) := dk_182 0 113 (dk_at dksX0_table_0 7 rfl rfl)
theorem dX0_table_10 : decode cX0_table 10 = .ok (.ifCond .eq 33, 3) := dk_153 0 33 (dk_at dksX0_table_0 10 rfl rfl)
theorem dX0_table_13 : decode cX0_table 13 = .ok (.aload_n 0, 1) := dk_42 (dk_at dksX0_table_0 13 rfl rfl)
theorem dX0_table_14 : decode cX0_table 14 = .ok (.iload_n 1, 1) := dk_27 (dk_at dksX0_table_0 14 rfl rfl)
theorem dX0_table_15 : decode cX0_table 15 = .ok (.iconst 1, 1) := dk_4 (dk_at dksX0_table_0 15 rfl rfl)
theorem dX0_table_16 : decode cX0_table 16 = .ok (.isub, 1) := dk_100 (dk_at dksX0_table_0 16 rfl rfl)
theorem dX0_table_17 : decode cX0_table 17 = .ok (.iload_n 2, 1) := dk_28 (dk_at dksX0_table_0 17 rfl rfl)
theorem dX0_table_18 : decode cX0_table 18 = .ok (.invokevirtual 113, 3) := dk_182 0 113 (dk_at dksX0_table_0 18 rfl rfl)
theorem dX0_table_21 : decode cX0_table 21 = .ok (.ifCond .eq 22, 3) := dk_153 0 22 (dk_at dksX0_table_0 21 rfl rfl)
theorem dX0_table_24 : decode cX0_table 24 = .ok (.aload_n 0, 1) := dk_42 (dk_at dksX0_table_1 0 rfl rfl)
theorem dX0_table_25 : decode cX0_table 25 = .ok (.getfield 75, 3) := dk_180 0 75 (dk_at dksX0_table_1 1 rfl rfl)
theorem dX0_table_28 : decode cX0_table 28 = .ok (.iload_n 1, 1) := dk_27 (dk_at dksX0_table_1 4 rfl rfl)
theorem dX0_table_29 : decode cX0_table 29 = .ok (.invokevirtual 238, 3) := dk_182 0 238 (dk_at dksX0_table_1 5 rfl rfl)
theorem dX0_table_32 : decode cX0_table 32 = .ok (.getfield 242, 3) := dk_180 0 242 (dk_at dksX0_table_1 8 rfl rfl)
theorem dX0_table_35 : decode cX0_table 35 = .ok (.iload_n 2, 1) := dk_28 (dk_at dksX0_table_1 11 rfl rfl)
theorem dX0_table_36 : decode cX0_table 36 = .ok (.aaload, 1) := dk_50 (dk_at dksX0_table_1 12 rfl rfl)
theorem dX0_table_37 : decode cX0_table 37 = .ok (.iload_n 3, 1) := dk_29 (dk_at dksX0_table_1 13 rfl rfl)
theorem dX0_table_38 : decode cX0_table 38 = .ok (.laload, 1) := dk_47 (dk_at dksX0_table_1 14 rfl rfl)
theorem dX0_table_39 : decode cX0_table 39 = .ok (.l2i, 1) := dk_136 (dk_at dksX0_table_1 15 rfl rfl)
theorem dX0_table_40 : decode cX0_table 40 = .ok (.goto 5, 3) := dk_167 0 5 (dk_at dksX0_table_1 16 rfl rfl)
theorem dX0_table_43 : decode cX0_table 43 = .ok (.ldc 60, 2) := dk_18 60 (dk_at dksX0_table_1 19 rfl rfl)
theorem dX0_table_45 : decode cX0_table 45 = .ok (.ireturn, 1) := dk_172 (dk_at dksX0_table_1 21 rfl rfl)
abbrev cX0_near : ByteArray := prog_1_method_31_code
def yX0_near : MethodName := ⟨RX0, "near", "(III)I"⟩
def dkwX0_near_2 : List UInt8 := [182, 0, 248, 180, 0, 242, 28, 50, 29, 47, 136, 167, 0, 5, 18, 60, 172]
abbrev dktX0_near_2 : List UInt8 := dkwX0_near_2 ++ []
def dkwX0_near_1 : List UInt8 := [21, 4, 28, 182, 0, 113, 153, 0, 32, 42, 21, 4, 29, 182, 0, 113, 153, 0, 22, 42, 180, 0, 75, 27]
abbrev dktX0_near_1 : List UInt8 := dkwX0_near_1 ++ dktX0_near_2
def dkwX0_near_0 : List UInt8 := [27, 154, 0, 7, 3, 167, 0, 4, 4, 54, 4, 27, 133, 9, 20, 0, 106, 184, 0, 56, 153, 0, 42, 42]
abbrev dktX0_near_0 : List UInt8 := dkwX0_near_0 ++ dktX0_near_1
theorem dksX0_near_0 : cX0_near.data.toList.drop 0 = dktX0_near_0 := by decide +kernel
theorem dksX0_near_1 : cX0_near.data.toList.drop 24 = dktX0_near_1 := dk_seg dksX0_near_0 24 rfl rfl
theorem dksX0_near_2 : cX0_near.data.toList.drop 48 = dktX0_near_2 := dk_seg dksX0_near_1 24 rfl rfl
theorem dX0_near_0 : decode cX0_near 0 = .ok (.iload_n 1, 1) := dk_27 (dk_at dksX0_near_0 0 rfl rfl)
theorem dX0_near_1 : decode cX0_near 1 = .ok (.ifCond .ne 7, 3) := dk_154 0 7 (dk_at dksX0_near_0 1 rfl rfl)
theorem dX0_near_4 : decode cX0_near 4 = .ok (.iconst 0, 1) := dk_3 (dk_at dksX0_near_0 4 rfl rfl)
theorem dX0_near_5 : decode cX0_near 5 = .ok (.goto 4, 3) := dk_167 0 4 (dk_at dksX0_near_0 5 rfl rfl)
theorem dX0_near_8 : decode cX0_near 8 = .ok (.iconst 1, 1) := dk_4 (dk_at dksX0_near_0 8 rfl rfl)
theorem dX0_near_9 : decode cX0_near 9 = .ok (.istore 4, 2) := dk_54 4 (dk_at dksX0_near_0 9 rfl rfl)
theorem dX0_near_11 : decode cX0_near 11 = .ok (.iload_n 1, 1) := dk_27 (dk_at dksX0_near_0 11 rfl rfl)
theorem dX0_near_12 : decode cX0_near 12 = .ok (.i2l, 1) := dk_133 (dk_at dksX0_near_0 12 rfl rfl)
theorem dX0_near_13 : decode cX0_near 13 = .ok (.lconst 0, 1) := dk_9 (dk_at dksX0_near_0 13 rfl rfl)
theorem dX0_near_14 : decode cX0_near 14 = .ok (.ldc2_w 106, 3) := dk_20 0 106 (dk_at dksX0_near_0 14 rfl rfl)
theorem dX0_near_17 : decode cX0_near 17 = .ok (.invokestatic 56, 3) := dk_184 0 56 (dk_at dksX0_near_0 17 rfl rfl)
theorem dX0_near_20 : decode cX0_near 20 = .ok (.ifCond .eq 42, 3) := dk_153 0 42 (dk_at dksX0_near_0 20 rfl rfl)
theorem dX0_near_23 : decode cX0_near 23 = .ok (.aload_n 0, 1) := dk_42 (dk_at dksX0_near_0 23 rfl rfl)
theorem dX0_near_24 : decode cX0_near 24 = .ok (.iload 4, 2) := dk_21 4 (dk_at dksX0_near_1 0 rfl rfl)
theorem dX0_near_26 : decode cX0_near 26 = .ok (.iload_n 2, 1) := dk_28 (dk_at dksX0_near_1 2 rfl rfl)
theorem dX0_near_27 : decode cX0_near 27 = .ok (.invokevirtual 113, 3) := dk_182 0 113 (dk_at dksX0_near_1 3 rfl rfl)
theorem dX0_near_30 : decode cX0_near 30 = .ok (.ifCond .eq 32, 3) := dk_153 0 32 (dk_at dksX0_near_1 6 rfl rfl)
theorem dX0_near_33 : decode cX0_near 33 = .ok (.aload_n 0, 1) := dk_42 (dk_at dksX0_near_1 9 rfl rfl)
theorem dX0_near_34 : decode cX0_near 34 = .ok (.iload 4, 2) := dk_21 4 (dk_at dksX0_near_1 10 rfl rfl)
theorem dX0_near_36 : decode cX0_near 36 = .ok (.iload_n 3, 1) := dk_29 (dk_at dksX0_near_1 12 rfl rfl)
theorem dX0_near_37 : decode cX0_near 37 = .ok (.invokevirtual 113, 3) := dk_182 0 113 (dk_at dksX0_near_1 13 rfl rfl)
theorem dX0_near_40 : decode cX0_near 40 = .ok (.ifCond .eq 22, 3) := dk_153 0 22 (dk_at dksX0_near_1 16 rfl rfl)
theorem dX0_near_43 : decode cX0_near 43 = .ok (.aload_n 0, 1) := dk_42 (dk_at dksX0_near_1 19 rfl rfl)
theorem dX0_near_44 : decode cX0_near 44 = .ok (.getfield 75, 3) := dk_180 0 75 (dk_at dksX0_near_1 20 rfl rfl)
theorem dX0_near_47 : decode cX0_near 47 = .ok (.iload_n 1, 1) := dk_27 (dk_at dksX0_near_1 23 rfl rfl)
theorem dX0_near_48 : decode cX0_near 48 = .ok (.invokevirtual 248, 3) := dk_182 0 248 (dk_at dksX0_near_2 0 rfl rfl)
theorem dX0_near_51 : decode cX0_near 51 = .ok (.getfield 242, 3) := dk_180 0 242 (dk_at dksX0_near_2 3 rfl rfl)
theorem dX0_near_54 : decode cX0_near 54 = .ok (.iload_n 2, 1) := dk_28 (dk_at dksX0_near_2 6 rfl rfl)
theorem dX0_near_55 : decode cX0_near 55 = .ok (.aaload, 1) := dk_50 (dk_at dksX0_near_2 7 rfl rfl)
theorem dX0_near_56 : decode cX0_near 56 = .ok (.iload_n 3, 1) := dk_29 (dk_at dksX0_near_2 8 rfl rfl)
theorem dX0_near_57 : decode cX0_near 57 = .ok (.laload, 1) := dk_47 (dk_at dksX0_near_2 9 rfl rfl)
theorem dX0_near_58 : decode cX0_near 58 = .ok (.l2i, 1) := dk_136 (dk_at dksX0_near_2 10 rfl rfl)
theorem dX0_near_59 : decode cX0_near 59 = .ok (.goto 5, 3) := dk_167 0 5 (dk_at dksX0_near_2 11 rfl rfl)
theorem dX0_near_62 : decode cX0_near 62 = .ok (.ldc 60, 2) := dk_18 60 (dk_at dksX0_near_2 14 rfl rfl)
theorem dX0_near_64 : decode cX0_near 64 = .ok (.ireturn, 1) := dk_172 (dk_at dksX0_near_2 16 rfl rfl)
abbrev cX0_rank : ByteArray := prog_1_method_32_code
def yX0_rank : MethodName := ⟨RX0, "rank", "(II)I"⟩
def dkwX0_rank_1 : List UInt8 := [184, 0, 251, 153, 0, 15, 42, 180, 0, 75, 27, 28, 182, 0, 254, 167, 0, 5, 18, 60, 172]
abbrev dktX0_rank_1 : List UInt8 := dkwX0_rank_1 ++ []
def dkwX0_rank_0 : List UInt8 := [42, 180, 0, 75, 199, 0, 6, 18, 105, 172, 27, 133, 10, 20, 0, 106, 184, 0, 56, 153, 0, 22, 28]
abbrev dktX0_rank_0 : List UInt8 := dkwX0_rank_0 ++ dktX0_rank_1
theorem dksX0_rank_0 : cX0_rank.data.toList.drop 0 = dktX0_rank_0 := by decide +kernel
theorem dksX0_rank_1 : cX0_rank.data.toList.drop 23 = dktX0_rank_1 := dk_seg dksX0_rank_0 23 rfl rfl
theorem dX0_rank_0 : decode cX0_rank 0 = .ok (.aload_n 0, 1) := dk_42 (dk_at dksX0_rank_0 0 rfl rfl)
theorem dX0_rank_1 : decode cX0_rank 1 = .ok (.getfield 75, 3) := dk_180 0 75 (dk_at dksX0_rank_0 1 rfl rfl)
theorem dX0_rank_4 : decode cX0_rank 4 = .ok (.ifnonnull 6, 3) := dk_199 0 6 (dk_at dksX0_rank_0 4 rfl rfl)
theorem dX0_rank_7 : decode cX0_rank 7 = .ok (.ldc 105, 2) := dk_18 105 (dk_at dksX0_rank_0 7 rfl rfl)
theorem dX0_rank_9 : decode cX0_rank 9 = .ok (.ireturn, 1) := dk_172 (dk_at dksX0_rank_0 9 rfl rfl)
theorem dX0_rank_10 : decode cX0_rank 10 = .ok (.iload_n 1, 1) := dk_27 (dk_at dksX0_rank_0 10 rfl rfl)
theorem dX0_rank_11 : decode cX0_rank 11 = .ok (.i2l, 1) := dk_133 (dk_at dksX0_rank_0 11 rfl rfl)
theorem dX0_rank_12 : decode cX0_rank 12 = .ok (.lconst 1, 1) := dk_10 (dk_at dksX0_rank_0 12 rfl rfl)
theorem dX0_rank_13 : decode cX0_rank 13 = .ok (.ldc2_w 106, 3) := dk_20 0 106 (dk_at dksX0_rank_0 13 rfl rfl)
theorem dX0_rank_16 : decode cX0_rank 16 = .ok (.invokestatic 56, 3) := dk_184 0 56 (dk_at dksX0_rank_0 16 rfl rfl)
theorem dX0_rank_19 : decode cX0_rank 19 = .ok (.ifCond .eq 22, 3) := dk_153 0 22 (dk_at dksX0_rank_0 19 rfl rfl)
theorem dX0_rank_22 : decode cX0_rank 22 = .ok (.iload_n 2, 1) := dk_28 (dk_at dksX0_rank_0 22 rfl rfl)
theorem dX0_rank_23 : decode cX0_rank 23 = .ok (.invokestatic 251, 3) := dk_184 0 251 (dk_at dksX0_rank_1 0 rfl rfl)
theorem dX0_rank_26 : decode cX0_rank 26 = .ok (.ifCond .eq 15, 3) := dk_153 0 15 (dk_at dksX0_rank_1 3 rfl rfl)
theorem dX0_rank_29 : decode cX0_rank 29 = .ok (.aload_n 0, 1) := dk_42 (dk_at dksX0_rank_1 6 rfl rfl)
theorem dX0_rank_30 : decode cX0_rank 30 = .ok (.getfield 75, 3) := dk_180 0 75 (dk_at dksX0_rank_1 7 rfl rfl)
theorem dX0_rank_33 : decode cX0_rank 33 = .ok (.iload_n 1, 1) := dk_27 (dk_at dksX0_rank_1 10 rfl rfl)
theorem dX0_rank_34 : decode cX0_rank 34 = .ok (.iload_n 2, 1) := dk_28 (dk_at dksX0_rank_1 11 rfl rfl)
theorem dX0_rank_35 : decode cX0_rank 35 = .ok (.invokevirtual 254, 3) := dk_182 0 254 (dk_at dksX0_rank_1 12 rfl rfl)
theorem dX0_rank_38 : decode cX0_rank 38 = .ok (.goto 5, 3) := dk_167 0 5 (dk_at dksX0_rank_1 15 rfl rfl)
theorem dX0_rank_41 : decode cX0_rank 41 = .ok (.ldc 60, 2) := dk_18 60 (dk_at dksX0_rank_1 18 rfl rfl)
theorem dX0_rank_43 : decode cX0_rank 43 = .ok (.ireturn, 1) := dk_172 (dk_at dksX0_rank_1 20 rfl rfl)
abbrev cX0_isPrime : ByteArray := prog_1_method_17_code
def yX0_isPrime : MethodName := ⟨RX0, "isPrime", "(I)Z"⟩
def dkwX0_isPrime_1 : List UInt8 := [160, 0, 7, 4, 167, 0, 4, 3, 172]
abbrev dktX0_isPrime_1 : List UInt8 := dkwX0_isPrime_1 ++ []
def dkwX0_isPrime_0 : List UInt8 := [26, 153, 0, 24, 26, 5, 159, 0, 19, 26, 6, 159, 0, 14, 26, 8, 159, 0, 9, 26, 16, 7]
abbrev dktX0_isPrime_0 : List UInt8 := dkwX0_isPrime_0 ++ dktX0_isPrime_1
theorem dksX0_isPrime_0 : cX0_isPrime.data.toList.drop 0 = dktX0_isPrime_0 := by decide +kernel
theorem dksX0_isPrime_1 : cX0_isPrime.data.toList.drop 22 = dktX0_isPrime_1 := dk_seg dksX0_isPrime_0 22 rfl rfl
theorem dX0_isPrime_0 : decode cX0_isPrime 0 = .ok (.iload_n 0, 1) := dk_26 (dk_at dksX0_isPrime_0 0 rfl rfl)
theorem dX0_isPrime_1 : decode cX0_isPrime 1 = .ok (.ifCond .eq 24, 3) := dk_153 0 24 (dk_at dksX0_isPrime_0 1 rfl rfl)
theorem dX0_isPrime_4 : decode cX0_isPrime 4 = .ok (.iload_n 0, 1) := dk_26 (dk_at dksX0_isPrime_0 4 rfl rfl)
theorem dX0_isPrime_5 : decode cX0_isPrime 5 = .ok (.iconst 2, 1) := dk_5 (dk_at dksX0_isPrime_0 5 rfl rfl)
theorem dX0_isPrime_6 : decode cX0_isPrime 6 = .ok (.if_icmp .eq 19, 3) := dk_159 0 19 (dk_at dksX0_isPrime_0 6 rfl rfl)
theorem dX0_isPrime_9 : decode cX0_isPrime 9 = .ok (.iload_n 0, 1) := dk_26 (dk_at dksX0_isPrime_0 9 rfl rfl)
theorem dX0_isPrime_10 : decode cX0_isPrime 10 = .ok (.iconst 3, 1) := dk_6 (dk_at dksX0_isPrime_0 10 rfl rfl)
theorem dX0_isPrime_11 : decode cX0_isPrime 11 = .ok (.if_icmp .eq 14, 3) := dk_159 0 14 (dk_at dksX0_isPrime_0 11 rfl rfl)
theorem dX0_isPrime_14 : decode cX0_isPrime 14 = .ok (.iload_n 0, 1) := dk_26 (dk_at dksX0_isPrime_0 14 rfl rfl)
theorem dX0_isPrime_15 : decode cX0_isPrime 15 = .ok (.iconst 5, 1) := dk_8 (dk_at dksX0_isPrime_0 15 rfl rfl)
theorem dX0_isPrime_16 : decode cX0_isPrime 16 = .ok (.if_icmp .eq 9, 3) := dk_159 0 9 (dk_at dksX0_isPrime_0 16 rfl rfl)
theorem dX0_isPrime_19 : decode cX0_isPrime 19 = .ok (.iload_n 0, 1) := dk_26 (dk_at dksX0_isPrime_0 19 rfl rfl)
theorem dX0_isPrime_20 : decode cX0_isPrime 20 = .ok (.bipush 7, 2) := dk_16 7 (dk_at dksX0_isPrime_0 20 rfl rfl)
theorem dX0_isPrime_22 : decode cX0_isPrime 22 = .ok (.if_icmp .ne 7, 3) := dk_160 0 7 (dk_at dksX0_isPrime_1 0 rfl rfl)
theorem dX0_isPrime_25 : decode cX0_isPrime 25 = .ok (.iconst 1, 1) := dk_4 (dk_at dksX0_isPrime_1 3 rfl rfl)
theorem dX0_isPrime_26 : decode cX0_isPrime 26 = .ok (.goto 4, 3) := dk_167 0 4 (dk_at dksX0_isPrime_1 4 rfl rfl)
theorem dX0_isPrime_29 : decode cX0_isPrime 29 = .ok (.iconst 0, 1) := dk_3 (dk_at dksX0_isPrime_1 7 rfl rfl)
theorem dX0_isPrime_30 : decode cX0_isPrime 30 = .ok (.ireturn, 1) := dk_172 (dk_at dksX0_isPrime_1 8 rfl rfl)
abbrev cX0_holes : ByteArray := prog_1_method_33_code
def yX0_holes : MethodName := ⟨RX0, "holes", "(II)I"⟩
def dkwX0_holes_1 : List UInt8 := [184, 0, 251, 153, 0, 15, 42, 180, 0, 75, 27, 28, 182, 1, 2, 167, 0, 5, 18, 60, 172]
abbrev dktX0_holes_1 : List UInt8 := dkwX0_holes_1 ++ []
def dkwX0_holes_0 : List UInt8 := [42, 180, 0, 75, 199, 0, 6, 18, 105, 172, 27, 133, 9, 20, 0, 106, 184, 0, 56, 153, 0, 22, 28]
abbrev dktX0_holes_0 : List UInt8 := dkwX0_holes_0 ++ dktX0_holes_1
theorem dksX0_holes_0 : cX0_holes.data.toList.drop 0 = dktX0_holes_0 := by decide +kernel
theorem dksX0_holes_1 : cX0_holes.data.toList.drop 23 = dktX0_holes_1 := dk_seg dksX0_holes_0 23 rfl rfl
theorem dX0_holes_0 : decode cX0_holes 0 = .ok (.aload_n 0, 1) := dk_42 (dk_at dksX0_holes_0 0 rfl rfl)
theorem dX0_holes_1 : decode cX0_holes 1 = .ok (.getfield 75, 3) := dk_180 0 75 (dk_at dksX0_holes_0 1 rfl rfl)
theorem dX0_holes_4 : decode cX0_holes 4 = .ok (.ifnonnull 6, 3) := dk_199 0 6 (dk_at dksX0_holes_0 4 rfl rfl)
theorem dX0_holes_7 : decode cX0_holes 7 = .ok (.ldc 105, 2) := dk_18 105 (dk_at dksX0_holes_0 7 rfl rfl)
theorem dX0_holes_9 : decode cX0_holes 9 = .ok (.ireturn, 1) := dk_172 (dk_at dksX0_holes_0 9 rfl rfl)
theorem dX0_holes_10 : decode cX0_holes 10 = .ok (.iload_n 1, 1) := dk_27 (dk_at dksX0_holes_0 10 rfl rfl)
theorem dX0_holes_11 : decode cX0_holes 11 = .ok (.i2l, 1) := dk_133 (dk_at dksX0_holes_0 11 rfl rfl)
theorem dX0_holes_12 : decode cX0_holes 12 = .ok (.lconst 0, 1) := dk_9 (dk_at dksX0_holes_0 12 rfl rfl)
theorem dX0_holes_13 : decode cX0_holes 13 = .ok (.ldc2_w 106, 3) := dk_20 0 106 (dk_at dksX0_holes_0 13 rfl rfl)
theorem dX0_holes_16 : decode cX0_holes 16 = .ok (.invokestatic 56, 3) := dk_184 0 56 (dk_at dksX0_holes_0 16 rfl rfl)
theorem dX0_holes_19 : decode cX0_holes 19 = .ok (.ifCond .eq 22, 3) := dk_153 0 22 (dk_at dksX0_holes_0 19 rfl rfl)
theorem dX0_holes_22 : decode cX0_holes 22 = .ok (.iload_n 2, 1) := dk_28 (dk_at dksX0_holes_0 22 rfl rfl)
theorem dX0_holes_23 : decode cX0_holes 23 = .ok (.invokestatic 251, 3) := dk_184 0 251 (dk_at dksX0_holes_1 0 rfl rfl)
theorem dX0_holes_26 : decode cX0_holes 26 = .ok (.ifCond .eq 15, 3) := dk_153 0 15 (dk_at dksX0_holes_1 3 rfl rfl)
theorem dX0_holes_29 : decode cX0_holes 29 = .ok (.aload_n 0, 1) := dk_42 (dk_at dksX0_holes_1 6 rfl rfl)
theorem dX0_holes_30 : decode cX0_holes 30 = .ok (.getfield 75, 3) := dk_180 0 75 (dk_at dksX0_holes_1 7 rfl rfl)
theorem dX0_holes_33 : decode cX0_holes 33 = .ok (.iload_n 1, 1) := dk_27 (dk_at dksX0_holes_1 10 rfl rfl)
theorem dX0_holes_34 : decode cX0_holes 34 = .ok (.iload_n 2, 1) := dk_28 (dk_at dksX0_holes_1 11 rfl rfl)
theorem dX0_holes_35 : decode cX0_holes 35 = .ok (.invokevirtual 258, 3) := dk_182 1 2 (dk_at dksX0_holes_1 12 rfl rfl)
theorem dX0_holes_38 : decode cX0_holes 38 = .ok (.goto 5, 3) := dk_167 0 5 (dk_at dksX0_holes_1 15 rfl rfl)
theorem dX0_holes_41 : decode cX0_holes 41 = .ok (.ldc 60, 2) := dk_18 60 (dk_at dksX0_holes_1 18 rfl rfl)
theorem dX0_holes_43 : decode cX0_holes 43 = .ok (.ireturn, 1) := dk_172 (dk_at dksX0_holes_1 20 rfl rfl)
abbrev cX0_twist : ByteArray := prog_1_method_34_code
def yX0_twist : MethodName := ⟨RX0, "twist", "(II)I"⟩
def dkwX0_twist_3 : List UInt8 := [163, 0, 12, 45, 28, 4, 100, 47, 136, 167, 0, 5, 18, 237, 172]
abbrev dktX0_twist_3 : List UInt8 := dkwX0_twist_3 ++ []
def dkwX0_twist_2 : List UInt8 := [182, 1, 5, 136, 172, 42, 180, 0, 75, 5, 182, 0, 238, 27, 182, 1, 9, 182, 1, 12, 78, 28, 45, 190]
abbrev dktX0_twist_2 : List UInt8 := dkwX0_twist_2 ++ dktX0_twist_3
def dkwX0_twist_1 : List UInt8 := [100, 133, 184, 0, 56, 153, 0, 7, 28, 156, 0, 6, 18, 60, 172, 28, 154, 0, 13, 42, 180, 0, 75, 27]
abbrev dktX0_twist_1 : List UInt8 := dkwX0_twist_1 ++ dktX0_twist_2
def dkwX0_twist_0 : List UInt8 := [42, 180, 0, 75, 199, 0, 6, 18, 105, 172, 27, 133, 9, 4, 42, 180, 0, 75, 180, 0, 101, 190, 120, 4]
abbrev dktX0_twist_0 : List UInt8 := dkwX0_twist_0 ++ dktX0_twist_1
theorem dksX0_twist_0 : cX0_twist.data.toList.drop 0 = dktX0_twist_0 := by decide +kernel
theorem dksX0_twist_1 : cX0_twist.data.toList.drop 24 = dktX0_twist_1 := dk_seg dksX0_twist_0 24 rfl rfl
theorem dksX0_twist_2 : cX0_twist.data.toList.drop 48 = dktX0_twist_2 := dk_seg dksX0_twist_1 24 rfl rfl
theorem dksX0_twist_3 : cX0_twist.data.toList.drop 72 = dktX0_twist_3 := dk_seg dksX0_twist_2 24 rfl rfl
theorem dX0_twist_0 : decode cX0_twist 0 = .ok (.aload_n 0, 1) := dk_42 (dk_at dksX0_twist_0 0 rfl rfl)
theorem dX0_twist_1 : decode cX0_twist 1 = .ok (.getfield 75, 3) := dk_180 0 75 (dk_at dksX0_twist_0 1 rfl rfl)
theorem dX0_twist_4 : decode cX0_twist 4 = .ok (.ifnonnull 6, 3) := dk_199 0 6 (dk_at dksX0_twist_0 4 rfl rfl)
theorem dX0_twist_7 : decode cX0_twist 7 = .ok (.ldc 105, 2) := dk_18 105 (dk_at dksX0_twist_0 7 rfl rfl)
theorem dX0_twist_9 : decode cX0_twist 9 = .ok (.ireturn, 1) := dk_172 (dk_at dksX0_twist_0 9 rfl rfl)
theorem dX0_twist_10 : decode cX0_twist 10 = .ok (.iload_n 1, 1) := dk_27 (dk_at dksX0_twist_0 10 rfl rfl)
theorem dX0_twist_11 : decode cX0_twist 11 = .ok (.i2l, 1) := dk_133 (dk_at dksX0_twist_0 11 rfl rfl)
theorem dX0_twist_12 : decode cX0_twist 12 = .ok (.lconst 0, 1) := dk_9 (dk_at dksX0_twist_0 12 rfl rfl)
theorem dX0_twist_13 : decode cX0_twist 13 = .ok (.iconst 1, 1) := dk_4 (dk_at dksX0_twist_0 13 rfl rfl)
theorem dX0_twist_14 : decode cX0_twist 14 = .ok (.aload_n 0, 1) := dk_42 (dk_at dksX0_twist_0 14 rfl rfl)
theorem dX0_twist_15 : decode cX0_twist 15 = .ok (.getfield 75, 3) := dk_180 0 75 (dk_at dksX0_twist_0 15 rfl rfl)
theorem dX0_twist_18 : decode cX0_twist 18 = .ok (.getfield 101, 3) := dk_180 0 101 (dk_at dksX0_twist_0 18 rfl rfl)
theorem dX0_twist_21 : decode cX0_twist 21 = .ok (.arraylength, 1) := dk_190 (dk_at dksX0_twist_0 21 rfl rfl)
theorem dX0_twist_22 : decode cX0_twist 22 = .ok (.ishl, 1) := dk_120 (dk_at dksX0_twist_0 22 rfl rfl)
theorem dX0_twist_23 : decode cX0_twist 23 = .ok (.iconst 1, 1) := dk_4 (dk_at dksX0_twist_0 23 rfl rfl)
theorem dX0_twist_24 : decode cX0_twist 24 = .ok (.isub, 1) := dk_100 (dk_at dksX0_twist_1 0 rfl rfl)
theorem dX0_twist_25 : decode cX0_twist 25 = .ok (.i2l, 1) := dk_133 (dk_at dksX0_twist_1 1 rfl rfl)
theorem dX0_twist_26 : decode cX0_twist 26 = .ok (.invokestatic 56, 3) := dk_184 0 56 (dk_at dksX0_twist_1 2 rfl rfl)
theorem dX0_twist_29 : decode cX0_twist 29 = .ok (.ifCond .eq 7, 3) := dk_153 0 7 (dk_at dksX0_twist_1 5 rfl rfl)
theorem dX0_twist_32 : decode cX0_twist 32 = .ok (.iload_n 2, 1) := dk_28 (dk_at dksX0_twist_1 8 rfl rfl)
theorem dX0_twist_33 : decode cX0_twist 33 = .ok (.ifCond .ge 6, 3) := dk_156 0 6 (dk_at dksX0_twist_1 9 rfl rfl)
theorem dX0_twist_36 : decode cX0_twist 36 = .ok (.ldc 60, 2) := dk_18 60 (dk_at dksX0_twist_1 12 rfl rfl)
theorem dX0_twist_38 : decode cX0_twist 38 = .ok (.ireturn, 1) := dk_172 (dk_at dksX0_twist_1 14 rfl rfl)
theorem dX0_twist_39 : decode cX0_twist 39 = .ok (.iload_n 2, 1) := dk_28 (dk_at dksX0_twist_1 15 rfl rfl)
theorem dX0_twist_40 : decode cX0_twist 40 = .ok (.ifCond .ne 13, 3) := dk_154 0 13 (dk_at dksX0_twist_1 16 rfl rfl)
theorem dX0_twist_43 : decode cX0_twist 43 = .ok (.aload_n 0, 1) := dk_42 (dk_at dksX0_twist_1 19 rfl rfl)
theorem dX0_twist_44 : decode cX0_twist 44 = .ok (.getfield 75, 3) := dk_180 0 75 (dk_at dksX0_twist_1 20 rfl rfl)
theorem dX0_twist_47 : decode cX0_twist 47 = .ok (.iload_n 1, 1) := dk_27 (dk_at dksX0_twist_1 23 rfl rfl)
theorem dX0_twist_48 : decode cX0_twist 48 = .ok (.invokevirtual 261, 3) := dk_182 1 5 (dk_at dksX0_twist_2 0 rfl rfl)
theorem dX0_twist_51 : decode cX0_twist 51 = .ok (.l2i, 1) := dk_136 (dk_at dksX0_twist_2 3 rfl rfl)
theorem dX0_twist_52 : decode cX0_twist 52 = .ok (.ireturn, 1) := dk_172 (dk_at dksX0_twist_2 4 rfl rfl)
theorem dX0_twist_53 : decode cX0_twist 53 = .ok (.aload_n 0, 1) := dk_42 (dk_at dksX0_twist_2 5 rfl rfl)
theorem dX0_twist_54 : decode cX0_twist 54 = .ok (.getfield 75, 3) := dk_180 0 75 (dk_at dksX0_twist_2 6 rfl rfl)
theorem dX0_twist_57 : decode cX0_twist 57 = .ok (.iconst 2, 1) := dk_5 (dk_at dksX0_twist_2 9 rfl rfl)
theorem dX0_twist_58 : decode cX0_twist 58 = .ok (.invokevirtual 238, 3) := dk_182 0 238 (dk_at dksX0_twist_2 10 rfl rfl)
theorem dX0_twist_61 : decode cX0_twist 61 = .ok (.iload_n 1, 1) := dk_27 (dk_at dksX0_twist_2 13 rfl rfl)
theorem dX0_twist_62 : decode cX0_twist 62 = .ok (.invokevirtual 265, 3) := dk_182 1 9 (dk_at dksX0_twist_2 14 rfl rfl)
theorem dX0_twist_65 : decode cX0_twist 65 = .ok (.invokevirtual 268, 3) := dk_182 1 12 (dk_at dksX0_twist_2 17 rfl rfl)
theorem dX0_twist_68 : decode cX0_twist 68 = .ok (.astore_n 3, 1) := dk_78 (dk_at dksX0_twist_2 20 rfl rfl)
theorem dX0_twist_69 : decode cX0_twist 69 = .ok (.iload_n 2, 1) := dk_28 (dk_at dksX0_twist_2 21 rfl rfl)
theorem dX0_twist_70 : decode cX0_twist 70 = .ok (.aload_n 3, 1) := dk_45 (dk_at dksX0_twist_2 22 rfl rfl)
theorem dX0_twist_71 : decode cX0_twist 71 = .ok (.arraylength, 1) := dk_190 (dk_at dksX0_twist_2 23 rfl rfl)
theorem dX0_twist_72 : decode cX0_twist 72 = .ok (.if_icmp .gt 12, 3) := dk_163 0 12 (dk_at dksX0_twist_3 0 rfl rfl)
theorem dX0_twist_75 : decode cX0_twist 75 = .ok (.aload_n 3, 1) := dk_45 (dk_at dksX0_twist_3 3 rfl rfl)
theorem dX0_twist_76 : decode cX0_twist 76 = .ok (.iload_n 2, 1) := dk_28 (dk_at dksX0_twist_3 4 rfl rfl)
theorem dX0_twist_77 : decode cX0_twist 77 = .ok (.iconst 1, 1) := dk_4 (dk_at dksX0_twist_3 5 rfl rfl)
theorem dX0_twist_78 : decode cX0_twist 78 = .ok (.isub, 1) := dk_100 (dk_at dksX0_twist_3 6 rfl rfl)
theorem dX0_twist_79 : decode cX0_twist 79 = .ok (.laload, 1) := dk_47 (dk_at dksX0_twist_3 7 rfl rfl)
theorem dX0_twist_80 : decode cX0_twist 80 = .ok (.l2i, 1) := dk_136 (dk_at dksX0_twist_3 8 rfl rfl)
theorem dX0_twist_81 : decode cX0_twist 81 = .ok (.goto 5, 3) := dk_167 0 5 (dk_at dksX0_twist_3 9 rfl rfl)
theorem dX0_twist_84 : decode cX0_twist 84 = .ok (.ldc 237, 2) := dk_18 237 (dk_at dksX0_twist_3 12 rfl rfl)
theorem dX0_twist_86 : decode cX0_twist 86 = .ok (.ireturn, 1) := dk_172 (dk_at dksX0_twist_3 14 rfl rfl)
abbrev cX0_has : ByteArray := prog_1_method_2_code
def yX0_has : MethodName := ⟨RX0, "has", "(II)Z"⟩
def dkwX0_has_0 : List UInt8 := [26, 27, 122, 4, 126, 4, 160, 0, 7, 4, 167, 0, 4, 3, 172]
abbrev dktX0_has_0 : List UInt8 := dkwX0_has_0 ++ []
theorem dksX0_has_0 : cX0_has.data.toList.drop 0 = dktX0_has_0 := by decide +kernel
theorem dX0_has_0 : decode cX0_has 0 = .ok (.iload_n 0, 1) := dk_26 (dk_at dksX0_has_0 0 rfl rfl)
theorem dX0_has_1 : decode cX0_has 1 = .ok (.iload_n 1, 1) := dk_27 (dk_at dksX0_has_0 1 rfl rfl)
theorem dX0_has_2 : decode cX0_has 2 = .ok (.ishr, 1) := dk_122 (dk_at dksX0_has_0 2 rfl rfl)
theorem dX0_has_3 : decode cX0_has 3 = .ok (.iconst 1, 1) := dk_4 (dk_at dksX0_has_0 3 rfl rfl)
theorem dX0_has_4 : decode cX0_has 4 = .ok (.iand, 1) := dk_126 (dk_at dksX0_has_0 4 rfl rfl)
theorem dX0_has_5 : decode cX0_has 5 = .ok (.iconst 1, 1) := dk_4 (dk_at dksX0_has_0 5 rfl rfl)
theorem dX0_has_6 : decode cX0_has 6 = .ok (.if_icmp .ne 7, 3) := dk_160 0 7 (dk_at dksX0_has_0 6 rfl rfl)
theorem dX0_has_9 : decode cX0_has 9 = .ok (.iconst 1, 1) := dk_4 (dk_at dksX0_has_0 9 rfl rfl)
theorem dX0_has_10 : decode cX0_has 10 = .ok (.goto 4, 3) := dk_167 0 4 (dk_at dksX0_has_0 10 rfl rfl)
theorem dX0_has_13 : decode cX0_has 13 = .ok (.iconst 0, 1) := dk_3 (dk_at dksX0_has_0 13 rfl rfl)
theorem dX0_has_14 : decode cX0_has 14 = .ok (.ireturn, 1) := dk_172 (dk_at dksX0_has_0 14 rfl rfl)
abbrev cX0_common : ByteArray := prog_1_method_3_code
def yX0_common : MethodName := ⟨RX0, "common", "(JJ)J"⟩
def dkwX0_common_1 : List UInt8 := [55, 8, 22, 6, 55, 4, 22, 8, 55, 6, 167, 255, 234, 22, 4, 173]
abbrev dktX0_common_1 : List UInt8 := dkwX0_common_1 ++ []
def dkwX0_common_0 : List UInt8 := [30, 184, 0, 1, 55, 4, 32, 184, 0, 1, 55, 6, 22, 6, 9, 148, 153, 0, 21, 22, 4, 22, 6, 113]
abbrev dktX0_common_0 : List UInt8 := dkwX0_common_0 ++ dktX0_common_1
theorem dksX0_common_0 : cX0_common.data.toList.drop 0 = dktX0_common_0 := by decide +kernel
theorem dksX0_common_1 : cX0_common.data.toList.drop 24 = dktX0_common_1 := dk_seg dksX0_common_0 24 rfl rfl
theorem dX0_common_0 : decode cX0_common 0 = .ok (.lload_n 0, 1) := dk_30 (dk_at dksX0_common_0 0 rfl rfl)
theorem dX0_common_1 : decode cX0_common 1 = .ok (.invokestatic 1, 3) := dk_184 0 1 (dk_at dksX0_common_0 1 rfl rfl)
theorem dX0_common_4 : decode cX0_common 4 = .ok (.lstore 4, 2) := dk_55 4 (dk_at dksX0_common_0 4 rfl rfl)
theorem dX0_common_6 : decode cX0_common 6 = .ok (.lload_n 2, 1) := dk_32 (dk_at dksX0_common_0 6 rfl rfl)
theorem dX0_common_7 : decode cX0_common 7 = .ok (.invokestatic 1, 3) := dk_184 0 1 (dk_at dksX0_common_0 7 rfl rfl)
theorem dX0_common_10 : decode cX0_common 10 = .ok (.lstore 6, 2) := dk_55 6 (dk_at dksX0_common_0 10 rfl rfl)
theorem dX0_common_12 : decode cX0_common 12 = .ok (.lload 6, 2) := dk_22 6 (dk_at dksX0_common_0 12 rfl rfl)
theorem dX0_common_14 : decode cX0_common 14 = .ok (.lconst 0, 1) := dk_9 (dk_at dksX0_common_0 14 rfl rfl)
theorem dX0_common_15 : decode cX0_common 15 = .ok (.lcmp, 1) := dk_148 (dk_at dksX0_common_0 15 rfl rfl)
theorem dX0_common_16 : decode cX0_common 16 = .ok (.ifCond .eq 21, 3) := dk_153 0 21 (dk_at dksX0_common_0 16 rfl rfl)
theorem dX0_common_19 : decode cX0_common 19 = .ok (.lload 4, 2) := dk_22 4 (dk_at dksX0_common_0 19 rfl rfl)
theorem dX0_common_21 : decode cX0_common 21 = .ok (.lload 6, 2) := dk_22 6 (dk_at dksX0_common_0 21 rfl rfl)
theorem dX0_common_23 : decode cX0_common 23 = .ok (.lrem, 1) := dk_113 (dk_at dksX0_common_0 23 rfl rfl)
theorem dX0_common_24 : decode cX0_common 24 = .ok (.lstore 8, 2) := dk_55 8 (dk_at dksX0_common_1 0 rfl rfl)
theorem dX0_common_26 : decode cX0_common 26 = .ok (.lload 6, 2) := dk_22 6 (dk_at dksX0_common_1 2 rfl rfl)
theorem dX0_common_28 : decode cX0_common 28 = .ok (.lstore 4, 2) := dk_55 4 (dk_at dksX0_common_1 4 rfl rfl)
theorem dX0_common_30 : decode cX0_common 30 = .ok (.lload 8, 2) := dk_22 8 (dk_at dksX0_common_1 6 rfl rfl)
theorem dX0_common_32 : decode cX0_common 32 = .ok (.lstore 6, 2) := dk_55 6 (dk_at dksX0_common_1 8 rfl rfl)
theorem dX0_common_34 : decode cX0_common 34 = .ok (.goto (-22), 3) := dk_167 255 234 (dk_at dksX0_common_1 10 rfl rfl)
theorem dX0_common_37 : decode cX0_common 37 = .ok (.lload 4, 2) := dk_22 4 (dk_at dksX0_common_1 13 rfl rfl)
theorem dX0_common_39 : decode cX0_common 39 = .ok (.lreturn, 1) := dk_173 (dk_at dksX0_common_1 15 rfl rfl)
abbrev cX0_chain : ByteArray := prog_1_method_35_code
def yX0_chain : MethodName := ⟨RX0, "chain", "(II)I"⟩
def dkwX0_chain_1 : List UInt8 := [50, 28, 46, 167, 0, 5, 18, 60, 172]
abbrev dktX0_chain_1 : List UInt8 := dkwX0_chain_1 ++ []
def dkwX0_chain_0 : List UInt8 := [27, 184, 0, 173, 153, 0, 26, 42, 4, 28, 182, 0, 113, 153, 0, 17, 42, 180, 0, 75, 180, 0, 180, 27]
abbrev dktX0_chain_0 : List UInt8 := dkwX0_chain_0 ++ dktX0_chain_1
theorem dksX0_chain_0 : cX0_chain.data.toList.drop 0 = dktX0_chain_0 := by decide +kernel
theorem dksX0_chain_1 : cX0_chain.data.toList.drop 24 = dktX0_chain_1 := dk_seg dksX0_chain_0 24 rfl rfl
theorem dX0_chain_0 : decode cX0_chain 0 = .ok (.iload_n 1, 1) := dk_27 (dk_at dksX0_chain_0 0 rfl rfl)
theorem dX0_chain_1 : decode cX0_chain 1 = .ok (.invokestatic 173, 3) := dk_184 0 173 (dk_at dksX0_chain_0 1 rfl rfl)
theorem dX0_chain_4 : decode cX0_chain 4 = .ok (.ifCond .eq 26, 3) := dk_153 0 26 (dk_at dksX0_chain_0 4 rfl rfl)
theorem dX0_chain_7 : decode cX0_chain 7 = .ok (.aload_n 0, 1) := dk_42 (dk_at dksX0_chain_0 7 rfl rfl)
theorem dX0_chain_8 : decode cX0_chain 8 = .ok (.iconst 1, 1) := dk_4 (dk_at dksX0_chain_0 8 rfl rfl)
theorem dX0_chain_9 : decode cX0_chain 9 = .ok (.iload_n 2, 1) := dk_28 (dk_at dksX0_chain_0 9 rfl rfl)
theorem dX0_chain_10 : decode cX0_chain 10 = .ok (.invokevirtual 113, 3) := dk_182 0 113 (dk_at dksX0_chain_0 10 rfl rfl)
theorem dX0_chain_13 : decode cX0_chain 13 = .ok (.ifCond .eq 17, 3) := dk_153 0 17 (dk_at dksX0_chain_0 13 rfl rfl)
theorem dX0_chain_16 : decode cX0_chain 16 = .ok (.aload_n 0, 1) := dk_42 (dk_at dksX0_chain_0 16 rfl rfl)
theorem dX0_chain_17 : decode cX0_chain 17 = .ok (.getfield 75, 3) := dk_180 0 75 (dk_at dksX0_chain_0 17 rfl rfl)
theorem dX0_chain_20 : decode cX0_chain 20 = .ok (.getfield 180, 3) := dk_180 0 180 (dk_at dksX0_chain_0 20 rfl rfl)
theorem dX0_chain_23 : decode cX0_chain 23 = .ok (.iload_n 1, 1) := dk_27 (dk_at dksX0_chain_0 23 rfl rfl)
theorem dX0_chain_24 : decode cX0_chain 24 = .ok (.aaload, 1) := dk_50 (dk_at dksX0_chain_1 0 rfl rfl)
theorem dX0_chain_25 : decode cX0_chain 25 = .ok (.iload_n 2, 1) := dk_28 (dk_at dksX0_chain_1 1 rfl rfl)
theorem dX0_chain_26 : decode cX0_chain 26 = .ok (.iaload, 1) := dk_46 (dk_at dksX0_chain_1 2 rfl rfl)
theorem dX0_chain_27 : decode cX0_chain 27 = .ok (.goto 5, 3) := dk_167 0 5 (dk_at dksX0_chain_1 3 rfl rfl)
theorem dX0_chain_30 : decode cX0_chain 30 = .ok (.ldc 60, 2) := dk_18 60 (dk_at dksX0_chain_1 6 rfl rfl)
theorem dX0_chain_32 : decode cX0_chain 32 = .ok (.ireturn, 1) := dk_172 (dk_at dksX0_chain_1 8 rfl rfl)
abbrev cX0_ends : ByteArray := prog_1_method_36_code
def yX0_ends : MethodName := ⟨RX0, "ends", "(II)I"⟩
def dkwX0_ends_1 : List UInt8 := [182, 1, 16, 167, 0, 5, 18, 60, 172]
abbrev dktX0_ends_1 : List UInt8 := dkwX0_ends_1 ++ []
def dkwX0_ends_0 : List UInt8 := [27, 184, 0, 173, 153, 0, 24, 42, 3, 28, 182, 0, 113, 153, 0, 15, 42, 180, 0, 75, 27, 28]
abbrev dktX0_ends_0 : List UInt8 := dkwX0_ends_0 ++ dktX0_ends_1
theorem dksX0_ends_0 : cX0_ends.data.toList.drop 0 = dktX0_ends_0 := by decide +kernel
theorem dksX0_ends_1 : cX0_ends.data.toList.drop 22 = dktX0_ends_1 := dk_seg dksX0_ends_0 22 rfl rfl
theorem dX0_ends_0 : decode cX0_ends 0 = .ok (.iload_n 1, 1) := dk_27 (dk_at dksX0_ends_0 0 rfl rfl)
theorem dX0_ends_1 : decode cX0_ends 1 = .ok (.invokestatic 173, 3) := dk_184 0 173 (dk_at dksX0_ends_0 1 rfl rfl)
theorem dX0_ends_4 : decode cX0_ends 4 = .ok (.ifCond .eq 24, 3) := dk_153 0 24 (dk_at dksX0_ends_0 4 rfl rfl)
theorem dX0_ends_7 : decode cX0_ends 7 = .ok (.aload_n 0, 1) := dk_42 (dk_at dksX0_ends_0 7 rfl rfl)
theorem dX0_ends_8 : decode cX0_ends 8 = .ok (.iconst 0, 1) := dk_3 (dk_at dksX0_ends_0 8 rfl rfl)
theorem dX0_ends_9 : decode cX0_ends 9 = .ok (.iload_n 2, 1) := dk_28 (dk_at dksX0_ends_0 9 rfl rfl)
theorem dX0_ends_10 : decode cX0_ends 10 = .ok (.invokevirtual 113, 3) := dk_182 0 113 (dk_at dksX0_ends_0 10 rfl rfl)
theorem dX0_ends_13 : decode cX0_ends 13 = .ok (.ifCond .eq 15, 3) := dk_153 0 15 (dk_at dksX0_ends_0 13 rfl rfl)
theorem dX0_ends_16 : decode cX0_ends 16 = .ok (.aload_n 0, 1) := dk_42 (dk_at dksX0_ends_0 16 rfl rfl)
theorem dX0_ends_17 : decode cX0_ends 17 = .ok (.getfield 75, 3) := dk_180 0 75 (dk_at dksX0_ends_0 17 rfl rfl)
theorem dX0_ends_20 : decode cX0_ends 20 = .ok (.iload_n 1, 1) := dk_27 (dk_at dksX0_ends_0 20 rfl rfl)
theorem dX0_ends_21 : decode cX0_ends 21 = .ok (.iload_n 2, 1) := dk_28 (dk_at dksX0_ends_0 21 rfl rfl)
theorem dX0_ends_22 : decode cX0_ends 22 = .ok (.invokevirtual 272, 3) := dk_182 1 16 (dk_at dksX0_ends_1 0 rfl rfl)
theorem dX0_ends_25 : decode cX0_ends 25 = .ok (.goto 5, 3) := dk_167 0 5 (dk_at dksX0_ends_1 3 rfl rfl)
theorem dX0_ends_28 : decode cX0_ends 28 = .ok (.ldc 60, 2) := dk_18 60 (dk_at dksX0_ends_1 6 rfl rfl)
theorem dX0_ends_30 : decode cX0_ends 30 = .ok (.ireturn, 1) := dk_172 (dk_at dksX0_ends_1 8 rfl rfl)
abbrev cX0_whole : ByteArray := prog_1_method_37_code
def yX0_whole : MethodName := ⟨RX0, "whole", "(II)I"⟩
def dkwX0_whole_3 : List UInt8 := [29, 4, 160, 0, 7, 4, 167, 0, 4, 3, 172]
abbrev dktX0_whole_3 : List UInt8 := dkwX0_whole_3 ++ []
def dkwX0_whole_2 : List UInt8 := [4, 167, 0, 4, 3, 172, 42, 180, 0, 75, 27, 182, 1, 22, 62, 28, 5, 160, 0, 7, 29, 167, 0, 13]
abbrev dktX0_whole_2 : List UInt8 := dkwX0_whole_2 ++ dktX0_whole_3
def dkwX0_whole_1 : List UInt8 := [184, 0, 56, 154, 0, 6, 18, 60, 172, 28, 154, 0, 20, 42, 180, 0, 75, 27, 182, 1, 19, 153, 0, 7]
abbrev dktX0_whole_1 : List UInt8 := dkwX0_whole_1 ++ dktX0_whole_2
def dkwX0_whole_0 : List UInt8 := [42, 180, 0, 75, 199, 0, 6, 18, 105, 172, 27, 184, 0, 173, 153, 0, 15, 28, 133, 9, 20, 0, 106]
abbrev dktX0_whole_0 : List UInt8 := dkwX0_whole_0 ++ dktX0_whole_1
theorem dksX0_whole_0 : cX0_whole.data.toList.drop 0 = dktX0_whole_0 := by decide +kernel
theorem dksX0_whole_1 : cX0_whole.data.toList.drop 23 = dktX0_whole_1 := dk_seg dksX0_whole_0 23 rfl rfl
theorem dksX0_whole_2 : cX0_whole.data.toList.drop 47 = dktX0_whole_2 := dk_seg dksX0_whole_1 24 rfl rfl
theorem dksX0_whole_3 : cX0_whole.data.toList.drop 71 = dktX0_whole_3 := dk_seg dksX0_whole_2 24 rfl rfl
theorem dX0_whole_0 : decode cX0_whole 0 = .ok (.aload_n 0, 1) := dk_42 (dk_at dksX0_whole_0 0 rfl rfl)
theorem dX0_whole_1 : decode cX0_whole 1 = .ok (.getfield 75, 3) := dk_180 0 75 (dk_at dksX0_whole_0 1 rfl rfl)
theorem dX0_whole_4 : decode cX0_whole 4 = .ok (.ifnonnull 6, 3) := dk_199 0 6 (dk_at dksX0_whole_0 4 rfl rfl)
theorem dX0_whole_7 : decode cX0_whole 7 = .ok (.ldc 105, 2) := dk_18 105 (dk_at dksX0_whole_0 7 rfl rfl)
theorem dX0_whole_9 : decode cX0_whole 9 = .ok (.ireturn, 1) := dk_172 (dk_at dksX0_whole_0 9 rfl rfl)
theorem dX0_whole_10 : decode cX0_whole 10 = .ok (.iload_n 1, 1) := dk_27 (dk_at dksX0_whole_0 10 rfl rfl)
theorem dX0_whole_11 : decode cX0_whole 11 = .ok (.invokestatic 173, 3) := dk_184 0 173 (dk_at dksX0_whole_0 11 rfl rfl)
theorem dX0_whole_14 : decode cX0_whole 14 = .ok (.ifCond .eq 15, 3) := dk_153 0 15 (dk_at dksX0_whole_0 14 rfl rfl)
theorem dX0_whole_17 : decode cX0_whole 17 = .ok (.iload_n 2, 1) := dk_28 (dk_at dksX0_whole_0 17 rfl rfl)
theorem dX0_whole_18 : decode cX0_whole 18 = .ok (.i2l, 1) := dk_133 (dk_at dksX0_whole_0 18 rfl rfl)
theorem dX0_whole_19 : decode cX0_whole 19 = .ok (.lconst 0, 1) := dk_9 (dk_at dksX0_whole_0 19 rfl rfl)
theorem dX0_whole_20 : decode cX0_whole 20 = .ok (.ldc2_w 106, 3) := dk_20 0 106 (dk_at dksX0_whole_0 20 rfl rfl)
theorem dX0_whole_23 : decode cX0_whole 23 = .ok (.invokestatic 56, 3) := dk_184 0 56 (dk_at dksX0_whole_1 0 rfl rfl)
theorem dX0_whole_26 : decode cX0_whole 26 = .ok (.ifCond .ne 6, 3) := dk_154 0 6 (dk_at dksX0_whole_1 3 rfl rfl)
theorem dX0_whole_29 : decode cX0_whole 29 = .ok (.ldc 60, 2) := dk_18 60 (dk_at dksX0_whole_1 6 rfl rfl)
theorem dX0_whole_31 : decode cX0_whole 31 = .ok (.ireturn, 1) := dk_172 (dk_at dksX0_whole_1 8 rfl rfl)
theorem dX0_whole_32 : decode cX0_whole 32 = .ok (.iload_n 2, 1) := dk_28 (dk_at dksX0_whole_1 9 rfl rfl)
theorem dX0_whole_33 : decode cX0_whole 33 = .ok (.ifCond .ne 20, 3) := dk_154 0 20 (dk_at dksX0_whole_1 10 rfl rfl)
theorem dX0_whole_36 : decode cX0_whole 36 = .ok (.aload_n 0, 1) := dk_42 (dk_at dksX0_whole_1 13 rfl rfl)
theorem dX0_whole_37 : decode cX0_whole 37 = .ok (.getfield 75, 3) := dk_180 0 75 (dk_at dksX0_whole_1 14 rfl rfl)
theorem dX0_whole_40 : decode cX0_whole 40 = .ok (.iload_n 1, 1) := dk_27 (dk_at dksX0_whole_1 17 rfl rfl)
theorem dX0_whole_41 : decode cX0_whole 41 = .ok (.invokevirtual 275, 3) := dk_182 1 19 (dk_at dksX0_whole_1 18 rfl rfl)
theorem dX0_whole_44 : decode cX0_whole 44 = .ok (.ifCond .eq 7, 3) := dk_153 0 7 (dk_at dksX0_whole_1 21 rfl rfl)
theorem dX0_whole_47 : decode cX0_whole 47 = .ok (.iconst 1, 1) := dk_4 (dk_at dksX0_whole_2 0 rfl rfl)
theorem dX0_whole_48 : decode cX0_whole 48 = .ok (.goto 4, 3) := dk_167 0 4 (dk_at dksX0_whole_2 1 rfl rfl)
theorem dX0_whole_51 : decode cX0_whole 51 = .ok (.iconst 0, 1) := dk_3 (dk_at dksX0_whole_2 4 rfl rfl)
theorem dX0_whole_52 : decode cX0_whole 52 = .ok (.ireturn, 1) := dk_172 (dk_at dksX0_whole_2 5 rfl rfl)
theorem dX0_whole_53 : decode cX0_whole 53 = .ok (.aload_n 0, 1) := dk_42 (dk_at dksX0_whole_2 6 rfl rfl)
theorem dX0_whole_54 : decode cX0_whole 54 = .ok (.getfield 75, 3) := dk_180 0 75 (dk_at dksX0_whole_2 7 rfl rfl)
theorem dX0_whole_57 : decode cX0_whole 57 = .ok (.iload_n 1, 1) := dk_27 (dk_at dksX0_whole_2 10 rfl rfl)
theorem dX0_whole_58 : decode cX0_whole 58 = .ok (.invokevirtual 278, 3) := dk_182 1 22 (dk_at dksX0_whole_2 11 rfl rfl)
theorem dX0_whole_61 : decode cX0_whole 61 = .ok (.istore_n 3, 1) := dk_62 (dk_at dksX0_whole_2 14 rfl rfl)
theorem dX0_whole_62 : decode cX0_whole 62 = .ok (.iload_n 2, 1) := dk_28 (dk_at dksX0_whole_2 15 rfl rfl)
theorem dX0_whole_63 : decode cX0_whole 63 = .ok (.iconst 2, 1) := dk_5 (dk_at dksX0_whole_2 16 rfl rfl)
theorem dX0_whole_64 : decode cX0_whole 64 = .ok (.if_icmp .ne 7, 3) := dk_160 0 7 (dk_at dksX0_whole_2 17 rfl rfl)
theorem dX0_whole_67 : decode cX0_whole 67 = .ok (.iload_n 3, 1) := dk_29 (dk_at dksX0_whole_2 20 rfl rfl)
theorem dX0_whole_68 : decode cX0_whole 68 = .ok (.goto 13, 3) := dk_167 0 13 (dk_at dksX0_whole_2 21 rfl rfl)
theorem dX0_whole_71 : decode cX0_whole 71 = .ok (.iload_n 3, 1) := dk_29 (dk_at dksX0_whole_3 0 rfl rfl)
theorem dX0_whole_72 : decode cX0_whole 72 = .ok (.iconst 1, 1) := dk_4 (dk_at dksX0_whole_3 1 rfl rfl)
theorem dX0_whole_73 : decode cX0_whole 73 = .ok (.if_icmp .ne 7, 3) := dk_160 0 7 (dk_at dksX0_whole_3 2 rfl rfl)
theorem dX0_whole_76 : decode cX0_whole 76 = .ok (.iconst 1, 1) := dk_4 (dk_at dksX0_whole_3 5 rfl rfl)
theorem dX0_whole_77 : decode cX0_whole 77 = .ok (.goto 4, 3) := dk_167 0 4 (dk_at dksX0_whole_3 6 rfl rfl)
theorem dX0_whole_80 : decode cX0_whole 80 = .ok (.iconst 0, 1) := dk_3 (dk_at dksX0_whole_3 9 rfl rfl)
theorem dX0_whole_81 : decode cX0_whole 81 = .ok (.ireturn, 1) := dk_172 (dk_at dksX0_whole_3 10 rfl rfl)
abbrev cX0_part : ByteArray := prog_1_method_38_code
def yX0_part : MethodName := ⟨RX0, "part", "(IIII)J"⟩
def dkwX0_part_2 : List UInt8 := [182, 1, 30, 29, 50, 21, 4, 182, 1, 34, 173]
abbrev dktX0_part_2 : List UInt8 := dkwX0_part_2 ++ []
def dkwX0_part_1 : List UInt8 := [182, 0, 113, 153, 0, 11, 21, 4, 184, 1, 25, 154, 0, 7, 20, 1, 28, 173, 42, 180, 0, 75, 27, 28]
abbrev dktX0_part_1 : List UInt8 := dkwX0_part_1 ++ dktX0_part_2
def dkwX0_part_0 : List UInt8 := [27, 184, 0, 173, 153, 0, 32, 28, 133, 9, 20, 0, 106, 184, 0, 56, 153, 0, 20, 42, 4, 29]
abbrev dktX0_part_0 : List UInt8 := dkwX0_part_0 ++ dktX0_part_1
theorem dksX0_part_0 : cX0_part.data.toList.drop 0 = dktX0_part_0 := by decide +kernel
theorem dksX0_part_1 : cX0_part.data.toList.drop 22 = dktX0_part_1 := dk_seg dksX0_part_0 22 rfl rfl
theorem dksX0_part_2 : cX0_part.data.toList.drop 46 = dktX0_part_2 := dk_seg dksX0_part_1 24 rfl rfl
theorem dX0_part_0 : decode cX0_part 0 = .ok (.iload_n 1, 1) := dk_27 (dk_at dksX0_part_0 0 rfl rfl)
theorem dX0_part_1 : decode cX0_part 1 = .ok (.invokestatic 173, 3) := dk_184 0 173 (dk_at dksX0_part_0 1 rfl rfl)
theorem dX0_part_4 : decode cX0_part 4 = .ok (.ifCond .eq 32, 3) := dk_153 0 32 (dk_at dksX0_part_0 4 rfl rfl)
theorem dX0_part_7 : decode cX0_part 7 = .ok (.iload_n 2, 1) := dk_28 (dk_at dksX0_part_0 7 rfl rfl)
theorem dX0_part_8 : decode cX0_part 8 = .ok (.i2l, 1) := dk_133 (dk_at dksX0_part_0 8 rfl rfl)
theorem dX0_part_9 : decode cX0_part 9 = .ok (.lconst 0, 1) := dk_9 (dk_at dksX0_part_0 9 rfl rfl)
theorem dX0_part_10 : decode cX0_part 10 = .ok (.ldc2_w 106, 3) := dk_20 0 106 (dk_at dksX0_part_0 10 rfl rfl)
theorem dX0_part_13 : decode cX0_part 13 = .ok (.invokestatic 56, 3) := dk_184 0 56 (dk_at dksX0_part_0 13 rfl rfl)
theorem dX0_part_16 : decode cX0_part 16 = .ok (.ifCond .eq 20, 3) := dk_153 0 20 (dk_at dksX0_part_0 16 rfl rfl)
theorem dX0_part_19 : decode cX0_part 19 = .ok (.aload_n 0, 1) := dk_42 (dk_at dksX0_part_0 19 rfl rfl)
theorem dX0_part_20 : decode cX0_part 20 = .ok (.iconst 1, 1) := dk_4 (dk_at dksX0_part_0 20 rfl rfl)
theorem dX0_part_21 : decode cX0_part 21 = .ok (.iload_n 3, 1) := dk_29 (dk_at dksX0_part_0 21 rfl rfl)
theorem dX0_part_22 : decode cX0_part 22 = .ok (.invokevirtual 113, 3) := dk_182 0 113 (dk_at dksX0_part_1 0 rfl rfl)
theorem dX0_part_25 : decode cX0_part 25 = .ok (.ifCond .eq 11, 3) := dk_153 0 11 (dk_at dksX0_part_1 3 rfl rfl)
theorem dX0_part_28 : decode cX0_part 28 = .ok (.iload 4, 2) := dk_21 4 (dk_at dksX0_part_1 6 rfl rfl)
theorem dX0_part_30 : decode cX0_part 30 = .ok (.invokestatic 281, 3) := dk_184 1 25 (dk_at dksX0_part_1 8 rfl rfl)
theorem dX0_part_33 : decode cX0_part 33 = .ok (.ifCond .ne 7, 3) := dk_154 0 7 (dk_at dksX0_part_1 11 rfl rfl)
theorem dX0_part_36 : decode cX0_part 36 = .ok (.ldc2_w 284, 3) := dk_20 1 28 (dk_at dksX0_part_1 14 rfl rfl)
theorem dX0_part_39 : decode cX0_part 39 = .ok (.lreturn, 1) := dk_173 (dk_at dksX0_part_1 17 rfl rfl)
theorem dX0_part_40 : decode cX0_part 40 = .ok (.aload_n 0, 1) := dk_42 (dk_at dksX0_part_1 18 rfl rfl)
theorem dX0_part_41 : decode cX0_part 41 = .ok (.getfield 75, 3) := dk_180 0 75 (dk_at dksX0_part_1 19 rfl rfl)
theorem dX0_part_44 : decode cX0_part 44 = .ok (.iload_n 1, 1) := dk_27 (dk_at dksX0_part_1 22 rfl rfl)
theorem dX0_part_45 : decode cX0_part 45 = .ok (.iload_n 2, 1) := dk_28 (dk_at dksX0_part_1 23 rfl rfl)
theorem dX0_part_46 : decode cX0_part 46 = .ok (.invokevirtual 286, 3) := dk_182 1 30 (dk_at dksX0_part_2 0 rfl rfl)
theorem dX0_part_49 : decode cX0_part 49 = .ok (.iload_n 3, 1) := dk_29 (dk_at dksX0_part_2 3 rfl rfl)
theorem dX0_part_50 : decode cX0_part 50 = .ok (.aaload, 1) := dk_50 (dk_at dksX0_part_2 4 rfl rfl)
theorem dX0_part_51 : decode cX0_part 51 = .ok (.iload 4, 2) := dk_21 4 (dk_at dksX0_part_2 5 rfl rfl)
theorem dX0_part_53 : decode cX0_part 53 = .ok (.invokevirtual 290, 3) := dk_182 1 34 (dk_at dksX0_part_2 7 rfl rfl)
theorem dX0_part_56 : decode cX0_part 56 = .ok (.lreturn, 1) := dk_173 (dk_at dksX0_part_2 10 rfl rfl)
abbrev cX0_isHalf : ByteArray := prog_1_method_16_code
def yX0_isHalf : MethodName := ⟨RX0, "isHalf", "(I)Z"⟩
def dkwX0_isHalf_0 : List UInt8 := [26, 133, 9, 10, 184, 0, 56, 172]
abbrev dktX0_isHalf_0 : List UInt8 := dkwX0_isHalf_0 ++ []
theorem dksX0_isHalf_0 : cX0_isHalf.data.toList.drop 0 = dktX0_isHalf_0 := by decide +kernel
theorem dX0_isHalf_0 : decode cX0_isHalf 0 = .ok (.iload_n 0, 1) := dk_26 (dk_at dksX0_isHalf_0 0 rfl rfl)
theorem dX0_isHalf_1 : decode cX0_isHalf 1 = .ok (.i2l, 1) := dk_133 (dk_at dksX0_isHalf_0 1 rfl rfl)
theorem dX0_isHalf_2 : decode cX0_isHalf 2 = .ok (.lconst 0, 1) := dk_9 (dk_at dksX0_isHalf_0 2 rfl rfl)
theorem dX0_isHalf_3 : decode cX0_isHalf 3 = .ok (.lconst 1, 1) := dk_10 (dk_at dksX0_isHalf_0 3 rfl rfl)
theorem dX0_isHalf_4 : decode cX0_isHalf 4 = .ok (.invokestatic 56, 3) := dk_184 0 56 (dk_at dksX0_isHalf_0 4 rfl rfl)
theorem dX0_isHalf_7 : decode cX0_isHalf 7 = .ok (.ireturn, 1) := dk_172 (dk_at dksX0_isHalf_0 7 rfl rfl)
abbrev cX0_length : ByteArray := prog_1_method_39_code
def yX0_length : MethodName := ⟨RX0, "length", "(III)J"⟩
def dkwX0_length_2 : List UInt8 := [182, 1, 40, 29, 182, 1, 34, 173]
abbrev dktX0_length_2 : List UInt8 := dkwX0_length_2 ++ []
def dkwX0_length_1 : List UInt8 := [184, 0, 56, 153, 0, 10, 29, 184, 1, 25, 154, 0, 7, 20, 1, 28, 173, 42, 180, 0, 75, 27, 28]
abbrev dktX0_length_1 : List UInt8 := dkwX0_length_1 ++ dktX0_length_2
def dkwX0_length_0 : List UInt8 := [42, 180, 0, 75, 199, 0, 7, 20, 1, 38, 173, 27, 184, 0, 173, 153, 0, 22, 28, 133, 9, 20, 0, 111]
abbrev dktX0_length_0 : List UInt8 := dkwX0_length_0 ++ dktX0_length_1
theorem dksX0_length_0 : cX0_length.data.toList.drop 0 = dktX0_length_0 := by decide +kernel
theorem dksX0_length_1 : cX0_length.data.toList.drop 24 = dktX0_length_1 := dk_seg dksX0_length_0 24 rfl rfl
theorem dksX0_length_2 : cX0_length.data.toList.drop 47 = dktX0_length_2 := dk_seg dksX0_length_1 23 rfl rfl
theorem dX0_length_0 : decode cX0_length 0 = .ok (.aload_n 0, 1) := dk_42 (dk_at dksX0_length_0 0 rfl rfl)
theorem dX0_length_1 : decode cX0_length 1 = .ok (.getfield 75, 3) := dk_180 0 75 (dk_at dksX0_length_0 1 rfl rfl)
theorem dX0_length_4 : decode cX0_length 4 = .ok (.ifnonnull 7, 3) := dk_199 0 7 (dk_at dksX0_length_0 4 rfl rfl)
theorem dX0_length_7 : decode cX0_length 7 = .ok (.ldc2_w 294, 3) := dk_20 1 38 (dk_at dksX0_length_0 7 rfl rfl)
theorem dX0_length_10 : decode cX0_length 10 = .ok (.lreturn, 1) := dk_173 (dk_at dksX0_length_0 10 rfl rfl)
theorem dX0_length_11 : decode cX0_length 11 = .ok (.iload_n 1, 1) := dk_27 (dk_at dksX0_length_0 11 rfl rfl)
theorem dX0_length_12 : decode cX0_length 12 = .ok (.invokestatic 173, 3) := dk_184 0 173 (dk_at dksX0_length_0 12 rfl rfl)
theorem dX0_length_15 : decode cX0_length 15 = .ok (.ifCond .eq 22, 3) := dk_153 0 22 (dk_at dksX0_length_0 15 rfl rfl)
theorem dX0_length_18 : decode cX0_length 18 = .ok (.iload_n 2, 1) := dk_28 (dk_at dksX0_length_0 18 rfl rfl)
theorem dX0_length_19 : decode cX0_length 19 = .ok (.i2l, 1) := dk_133 (dk_at dksX0_length_0 19 rfl rfl)
theorem dX0_length_20 : decode cX0_length 20 = .ok (.lconst 0, 1) := dk_9 (dk_at dksX0_length_0 20 rfl rfl)
theorem dX0_length_21 : decode cX0_length 21 = .ok (.ldc2_w 111, 3) := dk_20 0 111 (dk_at dksX0_length_0 21 rfl rfl)
theorem dX0_length_24 : decode cX0_length 24 = .ok (.invokestatic 56, 3) := dk_184 0 56 (dk_at dksX0_length_1 0 rfl rfl)
theorem dX0_length_27 : decode cX0_length 27 = .ok (.ifCond .eq 10, 3) := dk_153 0 10 (dk_at dksX0_length_1 3 rfl rfl)
theorem dX0_length_30 : decode cX0_length 30 = .ok (.iload_n 3, 1) := dk_29 (dk_at dksX0_length_1 6 rfl rfl)
theorem dX0_length_31 : decode cX0_length 31 = .ok (.invokestatic 281, 3) := dk_184 1 25 (dk_at dksX0_length_1 7 rfl rfl)
theorem dX0_length_34 : decode cX0_length 34 = .ok (.ifCond .ne 7, 3) := dk_154 0 7 (dk_at dksX0_length_1 10 rfl rfl)
theorem dX0_length_37 : decode cX0_length 37 = .ok (.ldc2_w 284, 3) := dk_20 1 28 (dk_at dksX0_length_1 13 rfl rfl)
theorem dX0_length_40 : decode cX0_length 40 = .ok (.lreturn, 1) := dk_173 (dk_at dksX0_length_1 16 rfl rfl)
theorem dX0_length_41 : decode cX0_length 41 = .ok (.aload_n 0, 1) := dk_42 (dk_at dksX0_length_1 17 rfl rfl)
theorem dX0_length_42 : decode cX0_length 42 = .ok (.getfield 75, 3) := dk_180 0 75 (dk_at dksX0_length_1 18 rfl rfl)
theorem dX0_length_45 : decode cX0_length 45 = .ok (.iload_n 1, 1) := dk_27 (dk_at dksX0_length_1 21 rfl rfl)
theorem dX0_length_46 : decode cX0_length 46 = .ok (.iload_n 2, 1) := dk_28 (dk_at dksX0_length_1 22 rfl rfl)
theorem dX0_length_47 : decode cX0_length 47 = .ok (.invokevirtual 296, 3) := dk_182 1 40 (dk_at dksX0_length_2 0 rfl rfl)
theorem dX0_length_50 : decode cX0_length 50 = .ok (.iload_n 3, 1) := dk_29 (dk_at dksX0_length_2 3 rfl rfl)
theorem dX0_length_51 : decode cX0_length 51 = .ok (.invokevirtual 290, 3) := dk_182 1 34 (dk_at dksX0_length_2 4 rfl rfl)
theorem dX0_length_54 : decode cX0_length 54 = .ok (.lreturn, 1) := dk_173 (dk_at dksX0_length_2 7 rfl rfl)
abbrev cX0_share : ByteArray := prog_1_method_40_code
def yX0_share : MethodName := ⟨RX0, "share", "(II)I"⟩
def dkwX0_share_3 : List UInt8 := [182, 1, 48, 172]
abbrev dktX0_share_3 : List UInt8 := dkwX0_share_3 ++ []
def dkwX0_share_2 : List UInt8 := [18, 105, 172, 42, 180, 0, 75, 27, 28, 182, 1, 40, 42, 180, 0, 75, 27, 6, 182, 1, 40, 182, 1, 44]
abbrev dktX0_share_2 : List UInt8 := dkwX0_share_2 ++ dktX0_share_3
def dkwX0_share_1 : List UInt8 := [184, 0, 56, 154, 0, 6, 18, 60, 172, 42, 180, 0, 75, 180, 0, 180, 27, 50, 184, 0, 194, 154, 0, 6]
abbrev dktX0_share_1 : List UInt8 := dkwX0_share_1 ++ dktX0_share_2
def dkwX0_share_0 : List UInt8 := [42, 180, 0, 75, 199, 0, 6, 18, 105, 172, 27, 184, 0, 173, 153, 0, 15, 28, 133, 9, 20, 0, 106]
abbrev dktX0_share_0 : List UInt8 := dkwX0_share_0 ++ dktX0_share_1
theorem dksX0_share_0 : cX0_share.data.toList.drop 0 = dktX0_share_0 := by decide +kernel
theorem dksX0_share_1 : cX0_share.data.toList.drop 23 = dktX0_share_1 := dk_seg dksX0_share_0 23 rfl rfl
theorem dksX0_share_2 : cX0_share.data.toList.drop 47 = dktX0_share_2 := dk_seg dksX0_share_1 24 rfl rfl
theorem dksX0_share_3 : cX0_share.data.toList.drop 71 = dktX0_share_3 := dk_seg dksX0_share_2 24 rfl rfl
theorem dX0_share_0 : decode cX0_share 0 = .ok (.aload_n 0, 1) := dk_42 (dk_at dksX0_share_0 0 rfl rfl)
theorem dX0_share_1 : decode cX0_share 1 = .ok (.getfield 75, 3) := dk_180 0 75 (dk_at dksX0_share_0 1 rfl rfl)
theorem dX0_share_4 : decode cX0_share 4 = .ok (.ifnonnull 6, 3) := dk_199 0 6 (dk_at dksX0_share_0 4 rfl rfl)
theorem dX0_share_7 : decode cX0_share 7 = .ok (.ldc 105, 2) := dk_18 105 (dk_at dksX0_share_0 7 rfl rfl)
theorem dX0_share_9 : decode cX0_share 9 = .ok (.ireturn, 1) := dk_172 (dk_at dksX0_share_0 9 rfl rfl)
theorem dX0_share_10 : decode cX0_share 10 = .ok (.iload_n 1, 1) := dk_27 (dk_at dksX0_share_0 10 rfl rfl)
theorem dX0_share_11 : decode cX0_share 11 = .ok (.invokestatic 173, 3) := dk_184 0 173 (dk_at dksX0_share_0 11 rfl rfl)
theorem dX0_share_14 : decode cX0_share 14 = .ok (.ifCond .eq 15, 3) := dk_153 0 15 (dk_at dksX0_share_0 14 rfl rfl)
theorem dX0_share_17 : decode cX0_share 17 = .ok (.iload_n 2, 1) := dk_28 (dk_at dksX0_share_0 17 rfl rfl)
theorem dX0_share_18 : decode cX0_share 18 = .ok (.i2l, 1) := dk_133 (dk_at dksX0_share_0 18 rfl rfl)
theorem dX0_share_19 : decode cX0_share 19 = .ok (.lconst 0, 1) := dk_9 (dk_at dksX0_share_0 19 rfl rfl)
theorem dX0_share_20 : decode cX0_share 20 = .ok (.ldc2_w 106, 3) := dk_20 0 106 (dk_at dksX0_share_0 20 rfl rfl)
theorem dX0_share_23 : decode cX0_share 23 = .ok (.invokestatic 56, 3) := dk_184 0 56 (dk_at dksX0_share_1 0 rfl rfl)
theorem dX0_share_26 : decode cX0_share 26 = .ok (.ifCond .ne 6, 3) := dk_154 0 6 (dk_at dksX0_share_1 3 rfl rfl)
theorem dX0_share_29 : decode cX0_share 29 = .ok (.ldc 60, 2) := dk_18 60 (dk_at dksX0_share_1 6 rfl rfl)
theorem dX0_share_31 : decode cX0_share 31 = .ok (.ireturn, 1) := dk_172 (dk_at dksX0_share_1 8 rfl rfl)
theorem dX0_share_32 : decode cX0_share 32 = .ok (.aload_n 0, 1) := dk_42 (dk_at dksX0_share_1 9 rfl rfl)
theorem dX0_share_33 : decode cX0_share 33 = .ok (.getfield 75, 3) := dk_180 0 75 (dk_at dksX0_share_1 10 rfl rfl)
theorem dX0_share_36 : decode cX0_share 36 = .ok (.getfield 180, 3) := dk_180 0 180 (dk_at dksX0_share_1 13 rfl rfl)
theorem dX0_share_39 : decode cX0_share 39 = .ok (.iload_n 1, 1) := dk_27 (dk_at dksX0_share_1 16 rfl rfl)
theorem dX0_share_40 : decode cX0_share 40 = .ok (.aaload, 1) := dk_50 (dk_at dksX0_share_1 17 rfl rfl)
theorem dX0_share_41 : decode cX0_share 41 = .ok (.invokestatic 194, 3) := dk_184 0 194 (dk_at dksX0_share_1 18 rfl rfl)
theorem dX0_share_44 : decode cX0_share 44 = .ok (.ifCond .ne 6, 3) := dk_154 0 6 (dk_at dksX0_share_1 21 rfl rfl)
theorem dX0_share_47 : decode cX0_share 47 = .ok (.ldc 105, 2) := dk_18 105 (dk_at dksX0_share_2 0 rfl rfl)
theorem dX0_share_49 : decode cX0_share 49 = .ok (.ireturn, 1) := dk_172 (dk_at dksX0_share_2 2 rfl rfl)
theorem dX0_share_50 : decode cX0_share 50 = .ok (.aload_n 0, 1) := dk_42 (dk_at dksX0_share_2 3 rfl rfl)
theorem dX0_share_51 : decode cX0_share 51 = .ok (.getfield 75, 3) := dk_180 0 75 (dk_at dksX0_share_2 4 rfl rfl)
theorem dX0_share_54 : decode cX0_share 54 = .ok (.iload_n 1, 1) := dk_27 (dk_at dksX0_share_2 7 rfl rfl)
theorem dX0_share_55 : decode cX0_share 55 = .ok (.iload_n 2, 1) := dk_28 (dk_at dksX0_share_2 8 rfl rfl)
theorem dX0_share_56 : decode cX0_share 56 = .ok (.invokevirtual 296, 3) := dk_182 1 40 (dk_at dksX0_share_2 9 rfl rfl)
theorem dX0_share_59 : decode cX0_share 59 = .ok (.aload_n 0, 1) := dk_42 (dk_at dksX0_share_2 12 rfl rfl)
theorem dX0_share_60 : decode cX0_share 60 = .ok (.getfield 75, 3) := dk_180 0 75 (dk_at dksX0_share_2 13 rfl rfl)
theorem dX0_share_63 : decode cX0_share 63 = .ok (.iload_n 1, 1) := dk_27 (dk_at dksX0_share_2 16 rfl rfl)
theorem dX0_share_64 : decode cX0_share 64 = .ok (.iconst 3, 1) := dk_6 (dk_at dksX0_share_2 17 rfl rfl)
theorem dX0_share_65 : decode cX0_share 65 = .ok (.invokevirtual 296, 3) := dk_182 1 40 (dk_at dksX0_share_2 18 rfl rfl)
theorem dX0_share_68 : decode cX0_share 68 = .ok (.invokevirtual 300, 3) := dk_182 1 44 (dk_at dksX0_share_2 21 rfl rfl)
theorem dX0_share_71 : decode cX0_share 71 = .ok (.invokevirtual 304, 3) := dk_182 1 48 (dk_at dksX0_share_3 0 rfl rfl)
theorem dX0_share_74 : decode cX0_share 74 = .ok (.ireturn, 1) := dk_172 (dk_at dksX0_share_3 3 rfl rfl)
abbrev cX0_trees : ByteArray := prog_1_method_41_code
def yX0_trees : MethodName := ⟨RX0, "trees", "(II)J"⟩
def dkwX0_trees_1 : List UInt8 := [184, 1, 25, 153, 0, 15, 42, 180, 0, 75, 27, 28, 182, 1, 51, 167, 0, 6, 20, 1, 28, 173]
abbrev dktX0_trees_1 : List UInt8 := dkwX0_trees_1 ++ []
def dkwX0_trees_0 : List UInt8 := [42, 180, 0, 75, 199, 0, 7, 20, 1, 38, 173, 27, 133, 10, 20, 0, 106, 184, 0, 56, 153, 0, 22, 28]
abbrev dktX0_trees_0 : List UInt8 := dkwX0_trees_0 ++ dktX0_trees_1
theorem dksX0_trees_0 : cX0_trees.data.toList.drop 0 = dktX0_trees_0 := by decide +kernel
theorem dksX0_trees_1 : cX0_trees.data.toList.drop 24 = dktX0_trees_1 := dk_seg dksX0_trees_0 24 rfl rfl
theorem dX0_trees_0 : decode cX0_trees 0 = .ok (.aload_n 0, 1) := dk_42 (dk_at dksX0_trees_0 0 rfl rfl)
theorem dX0_trees_1 : decode cX0_trees 1 = .ok (.getfield 75, 3) := dk_180 0 75 (dk_at dksX0_trees_0 1 rfl rfl)
theorem dX0_trees_4 : decode cX0_trees 4 = .ok (.ifnonnull 7, 3) := dk_199 0 7 (dk_at dksX0_trees_0 4 rfl rfl)
theorem dX0_trees_7 : decode cX0_trees 7 = .ok (.ldc2_w 294, 3) := dk_20 1 38 (dk_at dksX0_trees_0 7 rfl rfl)
theorem dX0_trees_10 : decode cX0_trees 10 = .ok (.lreturn, 1) := dk_173 (dk_at dksX0_trees_0 10 rfl rfl)
theorem dX0_trees_11 : decode cX0_trees 11 = .ok (.iload_n 1, 1) := dk_27 (dk_at dksX0_trees_0 11 rfl rfl)
theorem dX0_trees_12 : decode cX0_trees 12 = .ok (.i2l, 1) := dk_133 (dk_at dksX0_trees_0 12 rfl rfl)
theorem dX0_trees_13 : decode cX0_trees 13 = .ok (.lconst 1, 1) := dk_10 (dk_at dksX0_trees_0 13 rfl rfl)
theorem dX0_trees_14 : decode cX0_trees 14 = .ok (.ldc2_w 106, 3) := dk_20 0 106 (dk_at dksX0_trees_0 14 rfl rfl)
theorem dX0_trees_17 : decode cX0_trees 17 = .ok (.invokestatic 56, 3) := dk_184 0 56 (dk_at dksX0_trees_0 17 rfl rfl)
theorem dX0_trees_20 : decode cX0_trees 20 = .ok (.ifCond .eq 22, 3) := dk_153 0 22 (dk_at dksX0_trees_0 20 rfl rfl)
theorem dX0_trees_23 : decode cX0_trees 23 = .ok (.iload_n 2, 1) := dk_28 (dk_at dksX0_trees_0 23 rfl rfl)
theorem dX0_trees_24 : decode cX0_trees 24 = .ok (.invokestatic 281, 3) := dk_184 1 25 (dk_at dksX0_trees_1 0 rfl rfl)
theorem dX0_trees_27 : decode cX0_trees 27 = .ok (.ifCond .eq 15, 3) := dk_153 0 15 (dk_at dksX0_trees_1 3 rfl rfl)
theorem dX0_trees_30 : decode cX0_trees 30 = .ok (.aload_n 0, 1) := dk_42 (dk_at dksX0_trees_1 6 rfl rfl)
theorem dX0_trees_31 : decode cX0_trees 31 = .ok (.getfield 75, 3) := dk_180 0 75 (dk_at dksX0_trees_1 7 rfl rfl)
theorem dX0_trees_34 : decode cX0_trees 34 = .ok (.iload_n 1, 1) := dk_27 (dk_at dksX0_trees_1 10 rfl rfl)
theorem dX0_trees_35 : decode cX0_trees 35 = .ok (.iload_n 2, 1) := dk_28 (dk_at dksX0_trees_1 11 rfl rfl)
theorem dX0_trees_36 : decode cX0_trees 36 = .ok (.invokevirtual 307, 3) := dk_182 1 51 (dk_at dksX0_trees_1 12 rfl rfl)
theorem dX0_trees_39 : decode cX0_trees 39 = .ok (.goto 6, 3) := dk_167 0 6 (dk_at dksX0_trees_1 15 rfl rfl)
theorem dX0_trees_42 : decode cX0_trees 42 = .ok (.ldc2_w 284, 3) := dk_20 1 28 (dk_at dksX0_trees_1 18 rfl rfl)
theorem dX0_trees_45 : decode cX0_trees 45 = .ok (.lreturn, 1) := dk_173 (dk_at dksX0_trees_1 21 rfl rfl)
abbrev cX0_minors : ByteArray := prog_1_method_42_code
def yX0_minors : MethodName := ⟨RX0, "minors", "(I)J"⟩
def dkwX0_minors_1 : List UInt8 := [180, 0, 75, 27, 182, 1, 55, 167, 0, 6, 20, 1, 28, 173]
abbrev dktX0_minors_1 : List UInt8 := dkwX0_minors_1 ++ []
def dkwX0_minors_0 : List UInt8 := [42, 180, 0, 75, 199, 0, 7, 20, 1, 38, 173, 27, 133, 9, 20, 0, 106, 184, 0, 56, 153, 0, 14, 42]
abbrev dktX0_minors_0 : List UInt8 := dkwX0_minors_0 ++ dktX0_minors_1
theorem dksX0_minors_0 : cX0_minors.data.toList.drop 0 = dktX0_minors_0 := by decide +kernel
theorem dksX0_minors_1 : cX0_minors.data.toList.drop 24 = dktX0_minors_1 := dk_seg dksX0_minors_0 24 rfl rfl
theorem dX0_minors_0 : decode cX0_minors 0 = .ok (.aload_n 0, 1) := dk_42 (dk_at dksX0_minors_0 0 rfl rfl)
theorem dX0_minors_1 : decode cX0_minors 1 = .ok (.getfield 75, 3) := dk_180 0 75 (dk_at dksX0_minors_0 1 rfl rfl)
theorem dX0_minors_4 : decode cX0_minors 4 = .ok (.ifnonnull 7, 3) := dk_199 0 7 (dk_at dksX0_minors_0 4 rfl rfl)
theorem dX0_minors_7 : decode cX0_minors 7 = .ok (.ldc2_w 294, 3) := dk_20 1 38 (dk_at dksX0_minors_0 7 rfl rfl)
theorem dX0_minors_10 : decode cX0_minors 10 = .ok (.lreturn, 1) := dk_173 (dk_at dksX0_minors_0 10 rfl rfl)
theorem dX0_minors_11 : decode cX0_minors 11 = .ok (.iload_n 1, 1) := dk_27 (dk_at dksX0_minors_0 11 rfl rfl)
theorem dX0_minors_12 : decode cX0_minors 12 = .ok (.i2l, 1) := dk_133 (dk_at dksX0_minors_0 12 rfl rfl)
theorem dX0_minors_13 : decode cX0_minors 13 = .ok (.lconst 0, 1) := dk_9 (dk_at dksX0_minors_0 13 rfl rfl)
theorem dX0_minors_14 : decode cX0_minors 14 = .ok (.ldc2_w 106, 3) := dk_20 0 106 (dk_at dksX0_minors_0 14 rfl rfl)
theorem dX0_minors_17 : decode cX0_minors 17 = .ok (.invokestatic 56, 3) := dk_184 0 56 (dk_at dksX0_minors_0 17 rfl rfl)
theorem dX0_minors_20 : decode cX0_minors 20 = .ok (.ifCond .eq 14, 3) := dk_153 0 14 (dk_at dksX0_minors_0 20 rfl rfl)
theorem dX0_minors_23 : decode cX0_minors 23 = .ok (.aload_n 0, 1) := dk_42 (dk_at dksX0_minors_0 23 rfl rfl)
theorem dX0_minors_24 : decode cX0_minors 24 = .ok (.getfield 75, 3) := dk_180 0 75 (dk_at dksX0_minors_1 0 rfl rfl)
theorem dX0_minors_27 : decode cX0_minors 27 = .ok (.iload_n 1, 1) := dk_27 (dk_at dksX0_minors_1 3 rfl rfl)
theorem dX0_minors_28 : decode cX0_minors 28 = .ok (.invokevirtual 311, 3) := dk_182 1 55 (dk_at dksX0_minors_1 4 rfl rfl)
theorem dX0_minors_31 : decode cX0_minors 31 = .ok (.goto 6, 3) := dk_167 0 6 (dk_at dksX0_minors_1 7 rfl rfl)
theorem dX0_minors_34 : decode cX0_minors 34 = .ok (.ldc2_w 284, 3) := dk_20 1 28 (dk_at dksX0_minors_1 10 rfl rfl)
theorem dX0_minors_37 : decode cX0_minors 37 = .ok (.lreturn, 1) := dk_173 (dk_at dksX0_minors_1 13 rfl rfl)
abbrev cX0_image : ByteArray := prog_1_method_43_code
def yX0_image : MethodName := ⟨RX0, "image", "(I)I"⟩
def dkwX0_image_1 : List UInt8 := [180, 0, 51, 27, 42, 180, 0, 75, 83, 4, 172]
abbrev dktX0_image_1 : List UInt8 := dkwX0_image_1 ++ []
def dkwX0_image_0 : List UInt8 := [27, 133, 9, 10, 184, 0, 56, 154, 0, 6, 18, 60, 172, 42, 180, 0, 75, 199, 0, 6, 18, 105, 172, 42]
abbrev dktX0_image_0 : List UInt8 := dkwX0_image_0 ++ dktX0_image_1
theorem dksX0_image_0 : cX0_image.data.toList.drop 0 = dktX0_image_0 := by decide +kernel
theorem dksX0_image_1 : cX0_image.data.toList.drop 24 = dktX0_image_1 := dk_seg dksX0_image_0 24 rfl rfl
theorem dX0_image_0 : decode cX0_image 0 = .ok (.iload_n 1, 1) := dk_27 (dk_at dksX0_image_0 0 rfl rfl)
theorem dX0_image_1 : decode cX0_image 1 = .ok (.i2l, 1) := dk_133 (dk_at dksX0_image_0 1 rfl rfl)
theorem dX0_image_2 : decode cX0_image 2 = .ok (.lconst 0, 1) := dk_9 (dk_at dksX0_image_0 2 rfl rfl)
theorem dX0_image_3 : decode cX0_image 3 = .ok (.lconst 1, 1) := dk_10 (dk_at dksX0_image_0 3 rfl rfl)
theorem dX0_image_4 : decode cX0_image 4 = .ok (.invokestatic 56, 3) := dk_184 0 56 (dk_at dksX0_image_0 4 rfl rfl)
theorem dX0_image_7 : decode cX0_image 7 = .ok (.ifCond .ne 6, 3) := dk_154 0 6 (dk_at dksX0_image_0 7 rfl rfl)
theorem dX0_image_10 : decode cX0_image 10 = .ok (.ldc 60, 2) := dk_18 60 (dk_at dksX0_image_0 10 rfl rfl)
theorem dX0_image_12 : decode cX0_image 12 = .ok (.ireturn, 1) := dk_172 (dk_at dksX0_image_0 12 rfl rfl)
theorem dX0_image_13 : decode cX0_image 13 = .ok (.aload_n 0, 1) := dk_42 (dk_at dksX0_image_0 13 rfl rfl)
theorem dX0_image_14 : decode cX0_image 14 = .ok (.getfield 75, 3) := dk_180 0 75 (dk_at dksX0_image_0 14 rfl rfl)
theorem dX0_image_17 : decode cX0_image 17 = .ok (.ifnonnull 6, 3) := dk_199 0 6 (dk_at dksX0_image_0 17 rfl rfl)
theorem dX0_image_20 : decode cX0_image 20 = .ok (.ldc 105, 2) := dk_18 105 (dk_at dksX0_image_0 20 rfl rfl)
theorem dX0_image_22 : decode cX0_image 22 = .ok (.ireturn, 1) := dk_172 (dk_at dksX0_image_0 22 rfl rfl)
theorem dX0_image_23 : decode cX0_image 23 = .ok (.aload_n 0, 1) := dk_42 (dk_at dksX0_image_0 23 rfl rfl)
theorem dX0_image_24 : decode cX0_image 24 = .ok (.getfield 51, 3) := dk_180 0 51 (dk_at dksX0_image_1 0 rfl rfl)
theorem dX0_image_27 : decode cX0_image 27 = .ok (.iload_n 1, 1) := dk_27 (dk_at dksX0_image_1 3 rfl rfl)
theorem dX0_image_28 : decode cX0_image 28 = .ok (.aload_n 0, 1) := dk_42 (dk_at dksX0_image_1 4 rfl rfl)
theorem dX0_image_29 : decode cX0_image 29 = .ok (.getfield 75, 3) := dk_180 0 75 (dk_at dksX0_image_1 5 rfl rfl)
theorem dX0_image_32 : decode cX0_image 32 = .ok (.aastore, 1) := dk_83 (dk_at dksX0_image_1 8 rfl rfl)
theorem dX0_image_33 : decode cX0_image 33 = .ok (.iconst 1, 1) := dk_4 (dk_at dksX0_image_1 9 rfl rfl)
theorem dX0_image_34 : decode cX0_image 34 = .ok (.ireturn, 1) := dk_172 (dk_at dksX0_image_1 10 rfl rfl)
abbrev cX0_restore : ByteArray := prog_1_method_44_code
def yX0_restore : MethodName := ⟨RX0, "restore", "(I)I"⟩
def dkwX0_restore_1 : List UInt8 := [172, 42, 42, 180, 0, 51, 27, 50, 181, 0, 75, 42, 3, 181, 0, 91, 4, 172]
abbrev dktX0_restore_1 : List UInt8 := dkwX0_restore_1 ++ []
def dkwX0_restore_0 : List UInt8 := [27, 133, 9, 10, 184, 0, 56, 154, 0, 6, 18, 60, 172, 42, 180, 0, 51, 27, 50, 199, 0, 6, 18, 105]
abbrev dktX0_restore_0 : List UInt8 := dkwX0_restore_0 ++ dktX0_restore_1
theorem dksX0_restore_0 : cX0_restore.data.toList.drop 0 = dktX0_restore_0 := by decide +kernel
theorem dksX0_restore_1 : cX0_restore.data.toList.drop 24 = dktX0_restore_1 := dk_seg dksX0_restore_0 24 rfl rfl
theorem dX0_restore_0 : decode cX0_restore 0 = .ok (.iload_n 1, 1) := dk_27 (dk_at dksX0_restore_0 0 rfl rfl)
theorem dX0_restore_1 : decode cX0_restore 1 = .ok (.i2l, 1) := dk_133 (dk_at dksX0_restore_0 1 rfl rfl)
theorem dX0_restore_2 : decode cX0_restore 2 = .ok (.lconst 0, 1) := dk_9 (dk_at dksX0_restore_0 2 rfl rfl)
theorem dX0_restore_3 : decode cX0_restore 3 = .ok (.lconst 1, 1) := dk_10 (dk_at dksX0_restore_0 3 rfl rfl)
theorem dX0_restore_4 : decode cX0_restore 4 = .ok (.invokestatic 56, 3) := dk_184 0 56 (dk_at dksX0_restore_0 4 rfl rfl)
theorem dX0_restore_7 : decode cX0_restore 7 = .ok (.ifCond .ne 6, 3) := dk_154 0 6 (dk_at dksX0_restore_0 7 rfl rfl)
theorem dX0_restore_10 : decode cX0_restore 10 = .ok (.ldc 60, 2) := dk_18 60 (dk_at dksX0_restore_0 10 rfl rfl)
theorem dX0_restore_12 : decode cX0_restore 12 = .ok (.ireturn, 1) := dk_172 (dk_at dksX0_restore_0 12 rfl rfl)
theorem dX0_restore_13 : decode cX0_restore 13 = .ok (.aload_n 0, 1) := dk_42 (dk_at dksX0_restore_0 13 rfl rfl)
theorem dX0_restore_14 : decode cX0_restore 14 = .ok (.getfield 51, 3) := dk_180 0 51 (dk_at dksX0_restore_0 14 rfl rfl)
theorem dX0_restore_17 : decode cX0_restore 17 = .ok (.iload_n 1, 1) := dk_27 (dk_at dksX0_restore_0 17 rfl rfl)
theorem dX0_restore_18 : decode cX0_restore 18 = .ok (.aaload, 1) := dk_50 (dk_at dksX0_restore_0 18 rfl rfl)
theorem dX0_restore_19 : decode cX0_restore 19 = .ok (.ifnonnull 6, 3) := dk_199 0 6 (dk_at dksX0_restore_0 19 rfl rfl)
theorem dX0_restore_22 : decode cX0_restore 22 = .ok (.ldc 105, 2) := dk_18 105 (dk_at dksX0_restore_0 22 rfl rfl)
theorem dX0_restore_24 : decode cX0_restore 24 = .ok (.ireturn, 1) := dk_172 (dk_at dksX0_restore_1 0 rfl rfl)
theorem dX0_restore_25 : decode cX0_restore 25 = .ok (.aload_n 0, 1) := dk_42 (dk_at dksX0_restore_1 1 rfl rfl)
theorem dX0_restore_26 : decode cX0_restore 26 = .ok (.aload_n 0, 1) := dk_42 (dk_at dksX0_restore_1 2 rfl rfl)
theorem dX0_restore_27 : decode cX0_restore 27 = .ok (.getfield 51, 3) := dk_180 0 51 (dk_at dksX0_restore_1 3 rfl rfl)
theorem dX0_restore_30 : decode cX0_restore 30 = .ok (.iload_n 1, 1) := dk_27 (dk_at dksX0_restore_1 6 rfl rfl)
theorem dX0_restore_31 : decode cX0_restore 31 = .ok (.aaload, 1) := dk_50 (dk_at dksX0_restore_1 7 rfl rfl)
theorem dX0_restore_32 : decode cX0_restore 32 = .ok (.putfield 75, 3) := dk_181 0 75 (dk_at dksX0_restore_1 8 rfl rfl)
theorem dX0_restore_35 : decode cX0_restore 35 = .ok (.aload_n 0, 1) := dk_42 (dk_at dksX0_restore_1 11 rfl rfl)
theorem dX0_restore_36 : decode cX0_restore 36 = .ok (.iconst 0, 1) := dk_3 (dk_at dksX0_restore_1 12 rfl rfl)
theorem dX0_restore_37 : decode cX0_restore 37 = .ok (.putfield 91, 3) := dk_181 0 91 (dk_at dksX0_restore_1 13 rfl rfl)
theorem dX0_restore_40 : decode cX0_restore 40 = .ok (.iconst 1, 1) := dk_4 (dk_at dksX0_restore_1 16 rfl rfl)
theorem dX0_restore_41 : decode cX0_restore 41 = .ok (.ireturn, 1) := dk_172 (dk_at dksX0_restore_1 17 rfl rfl)
abbrev cX0_count : ByteArray := prog_1_method_45_code
def yX0_count : MethodName := ⟨RX0, "count", "(I)I"⟩
def dkwX0_count_5 : List UInt8 := [172]
abbrev dktX0_count_5 : List UInt8 := dkwX0_count_5 ++ []
def dkwX0_count_4 : List UInt8 := [167, 0, 11, 42, 180, 0, 75, 180, 0, 101, 190, 172, 42, 180, 0, 91, 172, 42, 180, 0, 61, 172, 18, 60]
abbrev dktX0_count_4 : List UInt8 := dkwX0_count_4 ++ dktX0_count_5
def dkwX0_count_3 : List UInt8 := [199, 0, 7, 3, 167, 0, 11, 42, 180, 0, 75, 180, 0, 97, 190, 172, 42, 180, 0, 75, 199, 0, 7, 3]
abbrev dktX0_count_3 : List UInt8 := dkwX0_count_3 ++ dktX0_count_4
def dkwX0_count_2 : List UInt8 := [42, 180, 0, 75, 199, 0, 7, 3, 167, 0, 10, 42, 180, 0, 75, 180, 0, 94, 172, 42, 180, 0, 75]
abbrev dktX0_count_2 : List UInt8 := dkwX0_count_2 ++ dktX0_count_3
def dkwX0_count_1 : List UInt8 := [170, 0, 0, 0, 0, 0, 104, 0, 0, 0, 0, 0, 0, 0, 4, 0, 0, 0, 35, 0, 0, 0, 54, 0, 0, 0, 74, 0, 0, 0, 94, 0, 0, 0, 99]
abbrev dktX0_count_1 : List UInt8 := dkwX0_count_1 ++ dktX0_count_2
def dkwX0_count_0 : List UInt8 := [27]
abbrev dktX0_count_0 : List UInt8 := dkwX0_count_0 ++ dktX0_count_1
theorem dksX0_count_0 : cX0_count.data.toList.drop 0 = dktX0_count_0 := by decide +kernel
theorem dksX0_count_1 : cX0_count.data.toList.drop 1 = dktX0_count_1 := dk_seg dksX0_count_0 1 rfl rfl
theorem dksX0_count_2 : cX0_count.data.toList.drop 36 = dktX0_count_2 := dk_seg dksX0_count_1 35 rfl rfl
theorem dksX0_count_3 : cX0_count.data.toList.drop 59 = dktX0_count_3 := dk_seg dksX0_count_2 23 rfl rfl
theorem dksX0_count_4 : cX0_count.data.toList.drop 83 = dktX0_count_4 := dk_seg dksX0_count_3 24 rfl rfl
theorem dksX0_count_5 : cX0_count.data.toList.drop 107 = dktX0_count_5 := dk_seg dksX0_count_4 24 rfl rfl
theorem dX0_count_0 : decode cX0_count 0 = .ok (.iload_n 1, 1) := dk_27 (dk_at dksX0_count_0 0 rfl rfl)
theorem dX0_count_1 : decode cX0_count 1 = .ok (.tableswitch 104 0 4 #[35, 54, 74, 94, 99], 35) := by decide +kernel
theorem dX0_count_36 : decode cX0_count 36 = .ok (.aload_n 0, 1) := dk_42 (dk_at dksX0_count_2 0 rfl rfl)
theorem dX0_count_37 : decode cX0_count 37 = .ok (.getfield 75, 3) := dk_180 0 75 (dk_at dksX0_count_2 1 rfl rfl)
theorem dX0_count_40 : decode cX0_count 40 = .ok (.ifnonnull 7, 3) := dk_199 0 7 (dk_at dksX0_count_2 4 rfl rfl)
theorem dX0_count_43 : decode cX0_count 43 = .ok (.iconst 0, 1) := dk_3 (dk_at dksX0_count_2 7 rfl rfl)
theorem dX0_count_44 : decode cX0_count 44 = .ok (.goto 10, 3) := dk_167 0 10 (dk_at dksX0_count_2 8 rfl rfl)
theorem dX0_count_47 : decode cX0_count 47 = .ok (.aload_n 0, 1) := dk_42 (dk_at dksX0_count_2 11 rfl rfl)
theorem dX0_count_48 : decode cX0_count 48 = .ok (.getfield 75, 3) := dk_180 0 75 (dk_at dksX0_count_2 12 rfl rfl)
theorem dX0_count_51 : decode cX0_count 51 = .ok (.getfield 94, 3) := dk_180 0 94 (dk_at dksX0_count_2 15 rfl rfl)
theorem dX0_count_54 : decode cX0_count 54 = .ok (.ireturn, 1) := dk_172 (dk_at dksX0_count_2 18 rfl rfl)
theorem dX0_count_55 : decode cX0_count 55 = .ok (.aload_n 0, 1) := dk_42 (dk_at dksX0_count_2 19 rfl rfl)
theorem dX0_count_56 : decode cX0_count 56 = .ok (.getfield 75, 3) := dk_180 0 75 (dk_at dksX0_count_2 20 rfl rfl)
theorem dX0_count_59 : decode cX0_count 59 = .ok (.ifnonnull 7, 3) := dk_199 0 7 (dk_at dksX0_count_3 0 rfl rfl)
theorem dX0_count_62 : decode cX0_count 62 = .ok (.iconst 0, 1) := dk_3 (dk_at dksX0_count_3 3 rfl rfl)
theorem dX0_count_63 : decode cX0_count 63 = .ok (.goto 11, 3) := dk_167 0 11 (dk_at dksX0_count_3 4 rfl rfl)
theorem dX0_count_66 : decode cX0_count 66 = .ok (.aload_n 0, 1) := dk_42 (dk_at dksX0_count_3 7 rfl rfl)
theorem dX0_count_67 : decode cX0_count 67 = .ok (.getfield 75, 3) := dk_180 0 75 (dk_at dksX0_count_3 8 rfl rfl)
theorem dX0_count_70 : decode cX0_count 70 = .ok (.getfield 97, 3) := dk_180 0 97 (dk_at dksX0_count_3 11 rfl rfl)
theorem dX0_count_73 : decode cX0_count 73 = .ok (.arraylength, 1) := dk_190 (dk_at dksX0_count_3 14 rfl rfl)
theorem dX0_count_74 : decode cX0_count 74 = .ok (.ireturn, 1) := dk_172 (dk_at dksX0_count_3 15 rfl rfl)
theorem dX0_count_75 : decode cX0_count 75 = .ok (.aload_n 0, 1) := dk_42 (dk_at dksX0_count_3 16 rfl rfl)
theorem dX0_count_76 : decode cX0_count 76 = .ok (.getfield 75, 3) := dk_180 0 75 (dk_at dksX0_count_3 17 rfl rfl)
theorem dX0_count_79 : decode cX0_count 79 = .ok (.ifnonnull 7, 3) := dk_199 0 7 (dk_at dksX0_count_3 20 rfl rfl)
theorem dX0_count_82 : decode cX0_count 82 = .ok (.iconst 0, 1) := dk_3 (dk_at dksX0_count_3 23 rfl rfl)
theorem dX0_count_83 : decode cX0_count 83 = .ok (.goto 11, 3) := dk_167 0 11 (dk_at dksX0_count_4 0 rfl rfl)
theorem dX0_count_86 : decode cX0_count 86 = .ok (.aload_n 0, 1) := dk_42 (dk_at dksX0_count_4 3 rfl rfl)
theorem dX0_count_87 : decode cX0_count 87 = .ok (.getfield 75, 3) := dk_180 0 75 (dk_at dksX0_count_4 4 rfl rfl)
theorem dX0_count_90 : decode cX0_count 90 = .ok (.getfield 101, 3) := dk_180 0 101 (dk_at dksX0_count_4 7 rfl rfl)
theorem dX0_count_93 : decode cX0_count 93 = .ok (.arraylength, 1) := dk_190 (dk_at dksX0_count_4 10 rfl rfl)
theorem dX0_count_94 : decode cX0_count 94 = .ok (.ireturn, 1) := dk_172 (dk_at dksX0_count_4 11 rfl rfl)
theorem dX0_count_95 : decode cX0_count 95 = .ok (.aload_n 0, 1) := dk_42 (dk_at dksX0_count_4 12 rfl rfl)
theorem dX0_count_96 : decode cX0_count 96 = .ok (.getfield 91, 3) := dk_180 0 91 (dk_at dksX0_count_4 13 rfl rfl)
theorem dX0_count_99 : decode cX0_count 99 = .ok (.ireturn, 1) := dk_172 (dk_at dksX0_count_4 16 rfl rfl)
theorem dX0_count_100 : decode cX0_count 100 = .ok (.aload_n 0, 1) := dk_42 (dk_at dksX0_count_4 17 rfl rfl)
theorem dX0_count_101 : decode cX0_count 101 = .ok (.getfield 61, 3) := dk_180 0 61 (dk_at dksX0_count_4 18 rfl rfl)
theorem dX0_count_104 : decode cX0_count 104 = .ok (.ireturn, 1) := dk_172 (dk_at dksX0_count_4 21 rfl rfl)
theorem dX0_count_105 : decode cX0_count 105 = .ok (.ldc 60, 2) := dk_18 60 (dk_at dksX0_count_4 22 rfl rfl)
theorem dX0_count_107 : decode cX0_count 107 = .ok (.ireturn, 1) := dk_172 (dk_at dksX0_count_5 0 rfl rfl)
theorem q72 : (Jvm.Cond.initialized "ChainParts") ∈ lw_all := lw_g (lw_at lw_m1 1 rfl) rfl
theorem q94 : (Jvm.Cond.instantiable "ChainParts" (7 : Nat)) ∈ lw_all := lw_g (lw_at lw_m1 23 rfl) rfl
theorem q96 : (Jvm.Cond.instanceMethod ({ cls := "ChainParts", name := "<init>", desc := "()V" } : Jvm.MethodName)) ∈ lw_all := lw_g (lw_at lw_m1 25 rfl) rfl
theorem q97 : (Jvm.Cond.code ({ cls := "ChainParts", name := "<init>", desc := "()V" } : Jvm.MethodName) prog_1_method_7_code (1 : Nat) (Option.none : Option Jvm.ClassFile.FieldType)) ∈ lw_all := lw_g (lw_at lw_m1 26 rfl) rfl
theorem q98 : (Jvm.Cond.methodLink "ChainParts" (36 : Nat) ({ cls := "java/lang/Object", name := "<init>", desc := "()V" } : Jvm.MethodName)) ∈ lw_all := lw_g (lw_at lw_m1 27 rfl) rfl
theorem q101 : (Jvm.Cond.classLink "ChainParts" (45 : Nat) "ChainParts$Complex") ∈ lw_all := lw_g (lw_at lw_m1 30 rfl) rfl
theorem q103 : (Jvm.Cond.fieldLink "ChainParts" (75 : Nat) "ChainParts" "its" "LChainParts$Complex;") ∈ lw_all := lw_g (lw_at lw_m1 32 rfl) rfl
theorem q104 : (Jvm.Cond.fieldLink "ChainParts" (41 : Nat) "ChainParts" "tape" "[B") ∈ lw_all := lw_g (lw_at lw_m1 33 rfl) rfl
theorem q105 : (Jvm.Cond.fieldLink "ChainParts" (61 : Nat) "ChainParts" "taped" "I") ∈ lw_all := lw_g (lw_at lw_m1 34 rfl) rfl
theorem q106 : (Jvm.Cond.fieldLink "ChainParts" (84 : Nat) "ChainParts" "fault" "I") ∈ lw_all := lw_g (lw_at lw_m1 35 rfl) rfl
theorem q107 : (Jvm.Cond.fieldLink "ChainParts" (47 : Nat) "ChainParts" "past" "[LChainParts$Complex;") ∈ lw_all := lw_g (lw_at lw_m1 36 rfl) rfl
theorem q108 : (Jvm.Cond.fieldLink "ChainParts" (91 : Nat) "ChainParts" "acts" "I") ∈ lw_all := lw_g (lw_at lw_m1 37 rfl) rfl
theorem q109 : (Jvm.Cond.fieldLink "ChainParts" (51 : Nat) "ChainParts" "images" "[LChainParts$Complex;") ∈ lw_all := lw_g (lw_at lw_m1 38 rfl) rfl
theorem q110 : (Jvm.Cond.lays "ChainParts" "ChainParts" "its" "LChainParts$Complex;") ∈ lw_all := lw_g (lw_at lw_m1 39 rfl) rfl
theorem q111 : (Jvm.Cond.soleField "ChainParts" "its") ∈ lw_all := lw_g (lw_at lw_m1 40 rfl) rfl
theorem q112 : (Jvm.Cond.laysFinal "ChainParts" "ChainParts" "tape" "[B") ∈ lw_all := lw_g (lw_at lw_m1 41 rfl) rfl
theorem q113 : (Jvm.Cond.soleField "ChainParts" "tape") ∈ lw_all := lw_g (lw_at lw_m1 42 rfl) rfl
theorem q114 : (Jvm.Cond.lays "ChainParts" "ChainParts" "taped" "I") ∈ lw_all := lw_g (lw_at lw_m1 43 rfl) rfl
theorem q115 : (Jvm.Cond.soleField "ChainParts" "taped") ∈ lw_all := lw_g (lw_at lw_m1 44 rfl) rfl
theorem q116 : (Jvm.Cond.lays "ChainParts" "ChainParts" "fault" "I") ∈ lw_all := lw_g (lw_at lw_m1 45 rfl) rfl
theorem q117 : (Jvm.Cond.soleField "ChainParts" "fault") ∈ lw_all := lw_g (lw_at lw_m1 46 rfl) rfl
theorem q118 : (Jvm.Cond.laysFinal "ChainParts" "ChainParts" "past" "[LChainParts$Complex;") ∈ lw_all := lw_g (lw_at lw_m1 47 rfl) rfl
theorem q119 : (Jvm.Cond.soleField "ChainParts" "past") ∈ lw_all := lw_g (lw_at lw_m1 48 rfl) rfl
theorem q120 : (Jvm.Cond.lays "ChainParts" "ChainParts" "acts" "I") ∈ lw_all := lw_g (lw_at lw_m1 49 rfl) rfl
theorem q121 : (Jvm.Cond.soleField "ChainParts" "acts") ∈ lw_all := lw_g (lw_at lw_m1 50 rfl) rfl
theorem q122 : (Jvm.Cond.laysFinal "ChainParts" "ChainParts" "images" "[LChainParts$Complex;") ∈ lw_all := lw_g (lw_at lw_m1 51 rfl) rfl
theorem q123 : (Jvm.Cond.soleField "ChainParts" "images") ∈ lw_all := lw_g (lw_at lw_m1 52 rfl) rfl
theorem q124 : (Jvm.Cond.superclass "ChainParts" "java/lang/Object") ∈ lw_all := lw_g (lw_at lw_m1 53 rfl) rfl
theorem q127 : (Jvm.Cond.instanceMethod ({ cls := "ChainParts", name := "feed", desc := "(I)I" } : Jvm.MethodName)) ∈ lw_all := lw_g (lw_at lw_m1 56 rfl) rfl
theorem q128 : (Jvm.Cond.selects "ChainParts" ({ cls := "ChainParts", name := "feed", desc := "(I)I" } : Jvm.MethodName) ({ cls := "ChainParts", name := "feed", desc := "(I)I" } : Jvm.MethodName)) ∈ lw_all := lw_g (lw_at lw_m1 57 rfl) rfl
theorem q129 : (Jvm.Cond.code ({ cls := "ChainParts", name := "feed", desc := "(I)I" } : Jvm.MethodName) prog_1_method_8_code (2 : Nat) (Option.some Jvm.ClassFile.FieldType.int)) ∈ lw_all := lw_g (lw_at lw_m1 58 rfl) rfl
theorem q130 : (Jvm.Cond.constantLong "ChainParts" (54 : Nat) (255 : Int64)) ∈ lw_all := lw_g (lw_at lw_m1 59 rfl) rfl
theorem q131 : (Jvm.Cond.methodLink "ChainParts" (56 : Nat) ({ cls := "ChainParts", name := "isIn", desc := "(JJJ)Z" } : Jvm.MethodName)) ∈ lw_all := lw_g (lw_at lw_m1 60 rfl) rfl
theorem q132 : (Jvm.Cond.static ({ cls := "ChainParts", name := "isIn", desc := "(JJJ)Z" } : Jvm.MethodName)) ∈ lw_all := lw_g (lw_at lw_m1 61 rfl) rfl
theorem q133 : (Jvm.Cond.code ({ cls := "ChainParts", name := "isIn", desc := "(JJJ)Z" } : Jvm.MethodName) prog_1_method_1_code (6 : Nat) (Option.some Jvm.ClassFile.FieldType.boolean)) ∈ lw_all := lw_g (lw_at lw_m1 62 rfl) rfl
theorem q134 : (Jvm.Cond.constant "ChainParts" (60 : Nat) (-1000001 : Int32)) ∈ lw_all := lw_g (lw_at lw_m1 63 rfl) rfl
theorem q135 : (Jvm.Cond.constant "ChainParts" (65 : Nat) (-1000003 : Int32)) ∈ lw_all := lw_g (lw_at lw_m1 64 rfl) rfl
theorem q137 : (Jvm.Cond.instanceMethod ({ cls := "ChainParts", name := "complex", desc := "()I" } : Jvm.MethodName)) ∈ lw_all := lw_g (lw_at lw_m1 66 rfl) rfl
theorem q138 : (Jvm.Cond.selects "ChainParts" ({ cls := "ChainParts", name := "complex", desc := "()I" } : Jvm.MethodName) ({ cls := "ChainParts", name := "complex", desc := "()I" } : Jvm.MethodName)) ∈ lw_all := lw_g (lw_at lw_m1 67 rfl) rfl
theorem q139 : (Jvm.Cond.codeWith ({ cls := "ChainParts", name := "complex", desc := "()I" } : Jvm.MethodName) prog_1_method_9_code (3 : Nat) (Option.some Jvm.ClassFile.FieldType.int) [((21 : Nat), (29 : Nat), (32 : Nat), (79 : Nat))]) ∈ lw_all := lw_g (lw_at lw_m1 68 rfl) rfl
theorem q140 : (Jvm.Cond.classLink "ChainParts" (79 : Nat) "ChainParts$Fault") ∈ lw_all := lw_g (lw_at lw_m1 69 rfl) rfl
theorem q141 : (Jvm.Cond.classLink "ChainParts" (66 : Nat) "ChainParts$Reader") ∈ lw_all := lw_g (lw_at lw_m1 70 rfl) rfl
theorem q143 : (Jvm.Cond.methodLink "ChainParts" (68 : Nat) ({ cls := "ChainParts$Reader", name := "<init>", desc := "([BI)V" } : Jvm.MethodName)) ∈ lw_all := lw_g (lw_at lw_m1 72 rfl) rfl
theorem q157 : (Jvm.Cond.methodLink "ChainParts" (71 : Nat) ({ cls := "ChainParts$Reader", name := "all", desc := "()LChainParts$Complex;" } : Jvm.MethodName)) ∈ lw_all := lw_g (lw_at lw_m1 86 rfl) rfl
theorem q223 : (Jvm.Cond.fieldLink "ChainParts" (81 : Nat) "ChainParts$Fault" "kind" "I") ∈ lw_all := lw_g (lw_at lw_m1 152 rfl) rfl
theorem q225 : (Jvm.Cond.fieldLink "ChainParts" (88 : Nat) "ChainParts$Fault" "place" "I") ∈ lw_all := lw_g (lw_at lw_m1 154 rfl) rfl
theorem q265 : (Jvm.Cond.static ({ cls := "ChainParts", name := "edgeBy", desc := "(III)LChainParts$EdgeCell;" } : Jvm.MethodName)) ∈ lw_all := lw_g (lw_at lw_m1 194 rfl) rfl
theorem q266 : (Jvm.Cond.code ({ cls := "ChainParts", name := "edgeBy", desc := "(III)LChainParts$EdgeCell;" } : Jvm.MethodName) prog_1_method_4_code (3 : Nat) (Option.some (Jvm.ClassFile.FieldType.object "ChainParts$EdgeCell"))) ∈ lw_all := lw_g (lw_at lw_m1 195 rfl) rfl
theorem q267 : (Jvm.Cond.classLink "ChainParts" (7 : Nat) "ChainParts$LoopCell") ∈ lw_all := lw_g (lw_at lw_m1 196 rfl) rfl
theorem q269 : (Jvm.Cond.methodLink "ChainParts" (9 : Nat) ({ cls := "ChainParts$LoopCell", name := "<init>", desc := "(II)V" } : Jvm.MethodName)) ∈ lw_all := lw_g (lw_at lw_m1 198 rfl) rfl
theorem q284 : (Jvm.Cond.fieldLink "ChainParts" (208 : Nat) "ChainParts$EdgeCell" "from" "I") ∈ lw_all := lw_g (lw_at lw_m1 213 rfl) rfl
theorem q288 : (Jvm.Cond.fieldLink "ChainParts" (211 : Nat) "ChainParts$EdgeCell" "to" "I") ∈ lw_all := lw_g (lw_at lw_m1 217 rfl) rfl
theorem q291 : (Jvm.Cond.fieldLink "ChainParts" (121 : Nat) "ChainParts$EdgeCell" "weight" "I") ∈ lw_all := lw_g (lw_at lw_m1 220 rfl) rfl
theorem q299 : (Jvm.Cond.classLink "ChainParts" (13 : Nat) "ChainParts$EdgeCell") ∈ lw_all := lw_g (lw_at lw_m1 228 rfl) rfl
theorem q301 : (Jvm.Cond.methodLink "ChainParts" (15 : Nat) ({ cls := "ChainParts$EdgeCell", name := "<init>", desc := "(III)V" } : Jvm.MethodName)) ∈ lw_all := lw_g (lw_at lw_m1 230 rfl) rfl
theorem q319 : (Jvm.Cond.static ({ cls := "ChainParts", name := "faceBy", desc := "([II)LChainParts$FaceCell;" } : Jvm.MethodName)) ∈ lw_all := lw_g (lw_at lw_m2 8 rfl) rfl
theorem q320 : (Jvm.Cond.code ({ cls := "ChainParts", name := "faceBy", desc := "([II)LChainParts$FaceCell;" } : Jvm.MethodName) prog_1_method_5_code (5 : Nat) (Option.some (Jvm.ClassFile.FieldType.object "ChainParts$FaceCell"))) ∈ lw_all := lw_g (lw_at lw_m2 9 rfl) rfl
theorem q321 : (Jvm.Cond.classLink "ChainParts" (18 : Nat) "ChainParts$FaceCell") ∈ lw_all := lw_g (lw_at lw_m2 10 rfl) rfl
theorem q323 : (Jvm.Cond.methodLink "ChainParts" (20 : Nat) ({ cls := "ChainParts$FaceCell", name := "<init>", desc := "([II)V" } : Jvm.MethodName)) ∈ lw_all := lw_g (lw_at lw_m2 12 rfl) rfl
theorem q330 : (Jvm.Cond.fieldLink "ChainParts" (206 : Nat) "ChainParts$FaceCell" "word" "[I") ∈ lw_all := lw_g (lw_at lw_m2 19 rfl) rfl
theorem q333 : (Jvm.Cond.fieldLink "ChainParts" (124 : Nat) "ChainParts$FaceCell" "weight" "I") ∈ lw_all := lw_g (lw_at lw_m2 22 rfl) rfl
theorem q340 : (Jvm.Cond.methodLink "ChainParts" (25 : Nat) ({ cls := "ChainParts$FaceCell", name := "often", desc := "(I)I" } : Jvm.MethodName)) ∈ lw_all := lw_g (lw_at lw_m2 29 rfl) rfl
theorem q346 : (Jvm.Cond.classLink "ChainParts" (29 : Nat) "ChainParts$SealedCell") ∈ lw_all := lw_g (lw_at lw_m2 35 rfl) rfl
theorem q348 : (Jvm.Cond.methodLink "ChainParts" (31 : Nat) ({ cls := "ChainParts$SealedCell", name := "<init>", desc := "([II)V" } : Jvm.MethodName)) ∈ lw_all := lw_g (lw_at lw_m2 37 rfl) rfl
theorem q364 : (Jvm.Cond.fieldLink "ChainParts" (94 : Nat) "ChainParts$Complex" "points" "I") ∈ lw_all := lw_g (lw_at lw_m2 53 rfl) rfl
theorem q366 : (Jvm.Cond.fieldLink "ChainParts" (97 : Nat) "ChainParts$Complex" "edges" "[LChainParts$EdgeCell;") ∈ lw_all := lw_g (lw_at lw_m2 55 rfl) rfl
theorem q368 : (Jvm.Cond.fieldLink "ChainParts" (101 : Nat) "ChainParts$Complex" "faces" "[LChainParts$FaceCell;") ∈ lw_all := lw_g (lw_at lw_m2 57 rfl) rfl
theorem q370 : (Jvm.Cond.fieldLink "ChainParts" (180 : Nat) "ChainParts$Complex" "chains" "[[I") ∈ lw_all := lw_g (lw_at lw_m2 59 rfl) rfl
theorem q380 : (Jvm.Cond.constant "ChainParts" (87 : Nat) (-1000100 : Int32)) ∈ lw_all := lw_g (lw_at lw_m2 69 rfl) rfl
theorem q382 : (Jvm.Cond.instanceMethod ({ cls := "ChainParts", name := "fault", desc := "()I" } : Jvm.MethodName)) ∈ lw_all := lw_g (lw_at lw_m2 71 rfl) rfl
theorem q383 : (Jvm.Cond.selects "ChainParts" ({ cls := "ChainParts", name := "fault", desc := "()I" } : Jvm.MethodName) ({ cls := "ChainParts", name := "fault", desc := "()I" } : Jvm.MethodName)) ∈ lw_all := lw_g (lw_at lw_m2 72 rfl) rfl
theorem q384 : (Jvm.Cond.code ({ cls := "ChainParts", name := "fault", desc := "()I" } : Jvm.MethodName) prog_1_method_10_code (1 : Nat) (Option.some Jvm.ClassFile.FieldType.int)) ∈ lw_all := lw_g (lw_at lw_m2 73 rfl) rfl
theorem q386 : (Jvm.Cond.instanceMethod ({ cls := "ChainParts", name := "undo", desc := "()I" } : Jvm.MethodName)) ∈ lw_all := lw_g (lw_at lw_m2 75 rfl) rfl
theorem q387 : (Jvm.Cond.selects "ChainParts" ({ cls := "ChainParts", name := "undo", desc := "()I" } : Jvm.MethodName) ({ cls := "ChainParts", name := "undo", desc := "()I" } : Jvm.MethodName)) ∈ lw_all := lw_g (lw_at lw_m2 76 rfl) rfl
theorem q388 : (Jvm.Cond.code ({ cls := "ChainParts", name := "undo", desc := "()I" } : Jvm.MethodName) prog_1_method_12_code (1 : Nat) (Option.some Jvm.ClassFile.FieldType.int)) ∈ lw_all := lw_g (lw_at lw_m2 77 rfl) rfl
theorem q389 : (Jvm.Cond.constant "ChainParts" (105 : Nat) (-1000002 : Int32)) ∈ lw_all := lw_g (lw_at lw_m2 78 rfl) rfl
theorem q391 : (Jvm.Cond.instanceMethod ({ cls := "ChainParts", name := "weigh", desc := "(III)I" } : Jvm.MethodName)) ∈ lw_all := lw_g (lw_at lw_m2 80 rfl) rfl
theorem q392 : (Jvm.Cond.selects "ChainParts" ({ cls := "ChainParts", name := "weigh", desc := "(III)I" } : Jvm.MethodName) ({ cls := "ChainParts", name := "weigh", desc := "(III)I" } : Jvm.MethodName)) ∈ lw_all := lw_g (lw_at lw_m2 81 rfl) rfl
theorem q393 : (Jvm.Cond.code ({ cls := "ChainParts", name := "weigh", desc := "(III)I" } : Jvm.MethodName) prog_1_method_18_code (5 : Nat) (Option.some Jvm.ClassFile.FieldType.int)) ∈ lw_all := lw_g (lw_at lw_m2 82 rfl) rfl
theorem q394 : (Jvm.Cond.methodLink "ChainParts" (113 : Nat) ({ cls := "ChainParts", name := "isCell", desc := "(II)Z" } : Jvm.MethodName)) ∈ lw_all := lw_g (lw_at lw_m2 83 rfl) rfl
theorem q395 : (Jvm.Cond.privateMethod ({ cls := "ChainParts", name := "isCell", desc := "(II)Z" } : Jvm.MethodName)) ∈ lw_tbl := lw_at lw_m2 84 rfl
theorem q396 : (Jvm.Cond.instanceMethod ({ cls := "ChainParts", name := "isCell", desc := "(II)Z" } : Jvm.MethodName)) ∈ lw_all := lw_g (lw_at lw_m2 85 rfl) rfl
theorem q397 : (Jvm.Cond.code ({ cls := "ChainParts", name := "isCell", desc := "(II)Z" } : Jvm.MethodName) prog_1_method_13_code (3 : Nat) (Option.some Jvm.ClassFile.FieldType.boolean)) ∈ lw_all := lw_g (lw_at lw_m2 86 rfl) rfl
theorem q398 : (Jvm.Cond.constantLong "ChainParts" (106 : Nat) (2 : Int64)) ∈ lw_all := lw_g (lw_at lw_m2 87 rfl) rfl
theorem q399 : (Jvm.Cond.methodLink "ChainParts" (108 : Nat) ({ cls := "ChainParts$Complex", name := "many", desc := "(I)I" } : Jvm.MethodName)) ∈ lw_all := lw_g (lw_at lw_m2 88 rfl) rfl
theorem q403 : (Jvm.Cond.methodLink "ChainParts" (117 : Nat) ({ cls := "ChainParts", name := "isWeight", desc := "(I)Z" } : Jvm.MethodName)) ∈ lw_all := lw_g (lw_at lw_m2 92 rfl) rfl
theorem q404 : (Jvm.Cond.static ({ cls := "ChainParts", name := "isWeight", desc := "(I)Z" } : Jvm.MethodName)) ∈ lw_all := lw_g (lw_at lw_m2 93 rfl) rfl
theorem q405 : (Jvm.Cond.code ({ cls := "ChainParts", name := "isWeight", desc := "(I)Z" } : Jvm.MethodName) prog_1_method_14_code (1 : Nat) (Option.some Jvm.ClassFile.FieldType.boolean)) ∈ lw_all := lw_g (lw_at lw_m2 94 rfl) rfl
theorem q406 : (Jvm.Cond.constantLong "ChainParts" (111 : Nat) (3 : Int64)) ∈ lw_all := lw_g (lw_at lw_m2 95 rfl) rfl
theorem q407 : (Jvm.Cond.methodLink "ChainParts" (125 : Nat) ({ cls := "ChainParts$EdgeCell", name := "with", desc := "(I)LChainParts$EdgeCell;" } : Jvm.MethodName)) ∈ lw_all := lw_g (lw_at lw_m2 96 rfl) rfl
theorem q419 : (Jvm.Cond.methodLink "ChainParts" (129 : Nat) ({ cls := "ChainParts$Complex", name := "withEdge", desc := "(ILChainParts$EdgeCell;)LChainParts$Complex;" } : Jvm.MethodName)) ∈ lw_all := lw_g (lw_at lw_m2 108 rfl) rfl
theorem q430 : (Jvm.Cond.methodLink "ChainParts" (133 : Nat) ({ cls := "ChainParts$FaceCell", name := "with", desc := "(I)LChainParts$FaceCell;" } : Jvm.MethodName)) ∈ lw_all := lw_g (lw_at lw_m2 119 rfl) rfl
theorem q442 : (Jvm.Cond.methodLink "ChainParts" (136 : Nat) ({ cls := "ChainParts$Complex", name := "withFace", desc := "(ILChainParts$FaceCell;)LChainParts$Complex;" } : Jvm.MethodName)) ∈ lw_all := lw_g (lw_at lw_m2 131 rfl) rfl
theorem q447 : (Jvm.Cond.methodLink "ChainParts" (140 : Nat) ({ cls := "ChainParts", name := "act", desc := "(LChainParts$Complex;)V" } : Jvm.MethodName)) ∈ lw_all := lw_g (lw_at lw_m2 136 rfl) rfl
theorem q448 : (Jvm.Cond.privateMethod ({ cls := "ChainParts", name := "act", desc := "(LChainParts$Complex;)V" } : Jvm.MethodName)) ∈ lw_tbl := lw_at lw_m2 137 rfl
theorem q449 : (Jvm.Cond.instanceMethod ({ cls := "ChainParts", name := "act", desc := "(LChainParts$Complex;)V" } : Jvm.MethodName)) ∈ lw_all := lw_g (lw_at lw_m2 138 rfl) rfl
theorem q450 : (Jvm.Cond.code ({ cls := "ChainParts", name := "act", desc := "(LChainParts$Complex;)V" } : Jvm.MethodName) prog_1_method_11_code (3 : Nat) (Option.none : Option Jvm.ClassFile.FieldType)) ∈ lw_all := lw_g (lw_at lw_m2 139 rfl) rfl
theorem q452 : (Jvm.Cond.instanceMethod ({ cls := "ChainParts", name := "edge", desc := "(III)I" } : Jvm.MethodName)) ∈ lw_all := lw_g (lw_at lw_m2 141 rfl) rfl
theorem q453 : (Jvm.Cond.selects "ChainParts" ({ cls := "ChainParts", name := "edge", desc := "(III)I" } : Jvm.MethodName) ({ cls := "ChainParts", name := "edge", desc := "(III)I" } : Jvm.MethodName)) ∈ lw_all := lw_g (lw_at lw_m2 142 rfl) rfl
theorem q454 : (Jvm.Cond.code ({ cls := "ChainParts", name := "edge", desc := "(III)I" } : Jvm.MethodName) prog_1_method_19_code (5 : Nat) (Option.some Jvm.ClassFile.FieldType.int)) ∈ lw_all := lw_g (lw_at lw_m2 143 rfl) rfl
theorem q455 : (Jvm.Cond.methodLink "ChainParts" (144 : Nat) ({ cls := "ChainParts", name := "edgeBy", desc := "(III)LChainParts$EdgeCell;" } : Jvm.MethodName)) ∈ lw_all := lw_g (lw_at lw_m2 144 rfl) rfl
theorem q457 : (Jvm.Cond.instanceMethod ({ cls := "ChainParts", name := "face", desc := "(I)I" } : Jvm.MethodName)) ∈ lw_all := lw_g (lw_at lw_m2 146 rfl) rfl
theorem q458 : (Jvm.Cond.selects "ChainParts" ({ cls := "ChainParts", name := "face", desc := "(I)I" } : Jvm.MethodName) ({ cls := "ChainParts", name := "face", desc := "(I)I" } : Jvm.MethodName)) ∈ lw_all := lw_g (lw_at lw_m2 147 rfl) rfl
theorem q459 : (Jvm.Cond.code ({ cls := "ChainParts", name := "face", desc := "(I)I" } : Jvm.MethodName) prog_1_method_21_code (5 : Nat) (Option.some Jvm.ClassFile.FieldType.int)) ∈ lw_all := lw_g (lw_at lw_m2 148 rfl) rfl
theorem q460 : (Jvm.Cond.methodLink "ChainParts" (156 : Nat) ({ cls := "ChainParts", name := "word", desc := "(I)[I" } : Jvm.MethodName)) ∈ lw_all := lw_g (lw_at lw_m2 149 rfl) rfl
theorem q461 : (Jvm.Cond.privateMethod ({ cls := "ChainParts", name := "word", desc := "(I)[I" } : Jvm.MethodName)) ∈ lw_tbl := lw_at lw_m2 150 rfl
theorem q462 : (Jvm.Cond.instanceMethod ({ cls := "ChainParts", name := "word", desc := "(I)[I" } : Jvm.MethodName)) ∈ lw_all := lw_g (lw_at lw_m2 151 rfl) rfl
theorem q463 : (Jvm.Cond.codeWith ({ cls := "ChainParts", name := "word", desc := "(I)[I" } : Jvm.MethodName) prog_1_method_20_code (4 : Nat) (Option.some (Jvm.ClassFile.FieldType.array Jvm.ClassFile.FieldType.int)) [((13 : Nat), (45 : Nat), (46 : Nat), (79 : Nat))]) ∈ lw_all := lw_g (lw_at lw_m2 152 rfl) rfl
theorem q464 : (Jvm.Cond.methodLink "ChainParts" (148 : Nat) ({ cls := "ChainParts$Reader", name := "word", desc := "([LChainParts$EdgeCell;I)[I" } : Jvm.MethodName)) ∈ lw_all := lw_g (lw_at lw_m2 153 rfl) rfl
theorem q465 : (Jvm.Cond.methodLinkNest "ChainParts" (152 : Nat) ({ cls := "ChainParts$Reader", name := "token", desc := "()I" } : Jvm.MethodName) "ChainParts") ∈ lw_tbl := lw_at lw_m2 154 rfl
theorem q466 : (Jvm.Cond.methodLink "ChainParts" (159 : Nat) ({ cls := "ChainParts", name := "faceBy", desc := "([II)LChainParts$FaceCell;" } : Jvm.MethodName)) ∈ lw_all := lw_g (lw_at lw_m2 155 rfl) rfl
theorem q468 : (Jvm.Cond.instanceMethod ({ cls := "ChainParts", name := "drop", desc := "(II)I" } : Jvm.MethodName)) ∈ lw_all := lw_g (lw_at lw_m2 157 rfl) rfl
theorem q469 : (Jvm.Cond.selects "ChainParts" ({ cls := "ChainParts", name := "drop", desc := "(II)I" } : Jvm.MethodName) ({ cls := "ChainParts", name := "drop", desc := "(II)I" } : Jvm.MethodName)) ∈ lw_all := lw_g (lw_at lw_m2 158 rfl) rfl
theorem q470 : (Jvm.Cond.code ({ cls := "ChainParts", name := "drop", desc := "(II)I" } : Jvm.MethodName) prog_1_method_22_code (3 : Nat) (Option.some Jvm.ClassFile.FieldType.int)) ∈ lw_all := lw_g (lw_at lw_m2 159 rfl) rfl
theorem q471 : (Jvm.Cond.methodLink "ChainParts" (163 : Nat) ({ cls := "ChainParts$Complex", name := "isUsed", desc := "(I)Z" } : Jvm.MethodName)) ∈ lw_all := lw_g (lw_at lw_m2 160 rfl) rfl
theorem q481 : (Jvm.Cond.methodLink "ChainParts" (166 : Nat) ({ cls := "ChainParts$Complex", name := "withoutEdge", desc := "(I)LChainParts$Complex;" } : Jvm.MethodName)) ∈ lw_all := lw_g (lw_at lw_m2 170 rfl) rfl
theorem q500 : (Jvm.Cond.methodLink "ChainParts" (170 : Nat) ({ cls := "ChainParts$Complex", name := "withoutFace", desc := "(I)LChainParts$Complex;" } : Jvm.MethodName)) ∈ lw_all := lw_g (lw_at lw_m2 189 rfl) rfl
theorem q505 : (Jvm.Cond.instanceMethod ({ cls := "ChainParts", name := "put", desc := "(III)I" } : Jvm.MethodName)) ∈ lw_all := lw_g (lw_at lw_m2 194 rfl) rfl
theorem q506 : (Jvm.Cond.selects "ChainParts" ({ cls := "ChainParts", name := "put", desc := "(III)I" } : Jvm.MethodName) ({ cls := "ChainParts", name := "put", desc := "(III)I" } : Jvm.MethodName)) ∈ lw_all := lw_g (lw_at lw_m2 195 rfl) rfl
theorem q507 : (Jvm.Cond.code ({ cls := "ChainParts", name := "put", desc := "(III)I" } : Jvm.MethodName) prog_1_method_23_code (6 : Nat) (Option.some Jvm.ClassFile.FieldType.int)) ∈ lw_all := lw_g (lw_at lw_m2 196 rfl) rfl
theorem q508 : (Jvm.Cond.methodLink "ChainParts" (173 : Nat) ({ cls := "ChainParts", name := "isChain", desc := "(I)Z" } : Jvm.MethodName)) ∈ lw_all := lw_g (lw_at lw_m2 197 rfl) rfl
theorem q509 : (Jvm.Cond.static ({ cls := "ChainParts", name := "isChain", desc := "(I)Z" } : Jvm.MethodName)) ∈ lw_all := lw_g (lw_at lw_m2 198 rfl) rfl
theorem q510 : (Jvm.Cond.code ({ cls := "ChainParts", name := "isChain", desc := "(I)Z" } : Jvm.MethodName) prog_1_method_15_code (1 : Nat) (Option.some Jvm.ClassFile.FieldType.boolean)) ∈ lw_all := lw_g (lw_at lw_m2 199 rfl) rfl
theorem q511 : (Jvm.Cond.constantLong "ChainParts" (176 : Nat) (-9 : Int64)) ∈ lw_all := lw_g (lw_at lw_m2 200 rfl) rfl
theorem q512 : (Jvm.Cond.constantLong "ChainParts" (178 : Nat) (9 : Int64)) ∈ lw_all := lw_g (lw_at lw_m2 201 rfl) rfl
theorem q513 : (Jvm.Cond.methodLink "ChainParts" (184 : Nat) ({ cls := "[I", name := "clone", desc := "()Ljava/lang/Object;" } : Jvm.MethodName)) ∈ lw_all := lw_g (lw_at lw_m2 202 rfl) rfl
theorem q514 : (Jvm.Cond.classLink "ChainParts" (185 : Nat) "[I") ∈ lw_all := lw_g (lw_at lw_m2 203 rfl) rfl
theorem q515 : (Jvm.Cond.methodLink "ChainParts" (190 : Nat) ({ cls := "ChainParts$Complex", name := "withChain", desc := "(I[I)LChainParts$Complex;" } : Jvm.MethodName)) ∈ lw_all := lw_g (lw_at lw_m2 204 rfl) rfl
theorem q524 : (Jvm.Cond.instanceMethod ({ cls := "ChainParts", name := "bound", desc := "(III)I" } : Jvm.MethodName)) ∈ lw_all := lw_g (lw_at lw_m2 213 rfl) rfl
theorem q525 : (Jvm.Cond.selects "ChainParts" ({ cls := "ChainParts", name := "bound", desc := "(III)I" } : Jvm.MethodName) ({ cls := "ChainParts", name := "bound", desc := "(III)I" } : Jvm.MethodName)) ∈ lw_all := lw_g (lw_at lw_m2 214 rfl) rfl
theorem q526 : (Jvm.Cond.code ({ cls := "ChainParts", name := "bound", desc := "(III)I" } : Jvm.MethodName) prog_1_method_25_code (6 : Nat) (Option.some Jvm.ClassFile.FieldType.int)) ∈ lw_all := lw_g (lw_at lw_m2 215 rfl) rfl
theorem q527 : (Jvm.Cond.methodLink "ChainParts" (194 : Nat) ({ cls := "ChainParts", name := "others", desc := "([I)I" } : Jvm.MethodName)) ∈ lw_all := lw_g (lw_at lw_m2 216 rfl) rfl
theorem q528 : (Jvm.Cond.static ({ cls := "ChainParts", name := "others", desc := "([I)I" } : Jvm.MethodName)) ∈ lw_all := lw_g (lw_at lw_m2 217 rfl) rfl
theorem q529 : (Jvm.Cond.code ({ cls := "ChainParts", name := "others", desc := "([I)I" } : Jvm.MethodName) prog_1_method_24_code (6 : Nat) (Option.some Jvm.ClassFile.FieldType.int)) ∈ lw_all := lw_g (lw_at lw_m2 218 rfl) rfl
theorem q531 : (Jvm.Cond.instanceMethod ({ cls := "ChainParts", name := "drawn", desc := "(II)I" } : Jvm.MethodName)) ∈ lw_all := lw_g (lw_at lw_m2 220 rfl) rfl
theorem q532 : (Jvm.Cond.selects "ChainParts" ({ cls := "ChainParts", name := "drawn", desc := "(II)I" } : Jvm.MethodName) ({ cls := "ChainParts", name := "drawn", desc := "(II)I" } : Jvm.MethodName)) ∈ lw_all := lw_g (lw_at lw_m2 221 rfl) rfl
theorem q533 : (Jvm.Cond.code ({ cls := "ChainParts", name := "drawn", desc := "(II)I" } : Jvm.MethodName) prog_1_method_26_code (7 : Nat) (Option.some Jvm.ClassFile.FieldType.int)) ∈ lw_all := lw_g (lw_at lw_m2 222 rfl) rfl
theorem q534 : (Jvm.Cond.constantLong "ChainParts" (198 : Nat) (999999 : Int64)) ∈ lw_all := lw_g (lw_at lw_m2 223 rfl) rfl
theorem q535 : (Jvm.Cond.constantLong "ChainParts" (200 : Nat) (16807 : Int64)) ∈ lw_all := lw_g (lw_at lw_m2 224 rfl) rfl
theorem q536 : (Jvm.Cond.constantLong "ChainParts" (202 : Nat) (2147483647 : Int64)) ∈ lw_all := lw_g (lw_at lw_m2 225 rfl) rfl
theorem q537 : (Jvm.Cond.constantLong "ChainParts" (204 : Nat) (19 : Int64)) ∈ lw_all := lw_g (lw_at lw_m2 226 rfl) rfl
theorem q539 : (Jvm.Cond.instanceMethod ({ cls := "ChainParts", name := "cell", desc := "(III)I" } : Jvm.MethodName)) ∈ lw_all := lw_g (lw_at lw_m2 228 rfl) rfl
theorem q540 : (Jvm.Cond.selects "ChainParts" ({ cls := "ChainParts", name := "cell", desc := "(III)I" } : Jvm.MethodName) ({ cls := "ChainParts", name := "cell", desc := "(III)I" } : Jvm.MethodName)) ∈ lw_all := lw_g (lw_at lw_m2 229 rfl) rfl
theorem q541 : (Jvm.Cond.code ({ cls := "ChainParts", name := "cell", desc := "(III)I" } : Jvm.MethodName) prog_1_method_28_code (4 : Nat) (Option.some Jvm.ClassFile.FieldType.int)) ∈ lw_all := lw_g (lw_at lw_m2 230 rfl) rfl
theorem q542 : (Jvm.Cond.methodLink "ChainParts" (221 : Nat) ({ cls := "ChainParts$EdgeCell", name := "told", desc := "(I)I" } : Jvm.MethodName)) ∈ lw_all := lw_g (lw_at lw_m2 231 rfl) rfl
theorem q549 : (Jvm.Cond.methodLink "ChainParts" (224 : Nat) ({ cls := "ChainParts", name := "ofFace", desc := "(LChainParts$FaceCell;I)I" } : Jvm.MethodName)) ∈ lw_all := lw_g (lw_at lw_m2 238 rfl) rfl
theorem q550 : (Jvm.Cond.privateMethod ({ cls := "ChainParts", name := "ofFace", desc := "(LChainParts$FaceCell;I)I" } : Jvm.MethodName)) ∈ lw_tbl := lw_at lw_m2 239 rfl
theorem q551 : (Jvm.Cond.instanceMethod ({ cls := "ChainParts", name := "ofFace", desc := "(LChainParts$FaceCell;I)I" } : Jvm.MethodName)) ∈ lw_all := lw_g (lw_at lw_m3 0 rfl) rfl
theorem q552 : (Jvm.Cond.code ({ cls := "ChainParts", name := "ofFace", desc := "(LChainParts$FaceCell;I)I" } : Jvm.MethodName) prog_1_method_27_code (3 : Nat) (Option.some Jvm.ClassFile.FieldType.int)) ∈ lw_all := lw_g (lw_at lw_m3 1 rfl) rfl
theorem q553 : (Jvm.Cond.constantLong "ChainParts" (214 : Nat) (10 : Int64)) ∈ lw_all := lw_g (lw_at lw_m3 2 rfl) rfl
theorem q554 : (Jvm.Cond.constantLong "ChainParts" (216 : Nat) (13 : Int64)) ∈ lw_all := lw_g (lw_at lw_m3 3 rfl) rfl
theorem q555 : (Jvm.Cond.methodLink "ChainParts" (218 : Nat) ({ cls := "ChainParts$FaceCell", name := "letter", desc := "(I)I" } : Jvm.MethodName)) ∈ lw_all := lw_g (lw_at lw_m3 4 rfl) rfl
theorem q563 : (Jvm.Cond.instanceMethod ({ cls := "ChainParts", name := "as", desc := "(III)I" } : Jvm.MethodName)) ∈ lw_all := lw_g (lw_at lw_m3 12 rfl) rfl
theorem q564 : (Jvm.Cond.selects "ChainParts" ({ cls := "ChainParts", name := "as", desc := "(III)I" } : Jvm.MethodName) ({ cls := "ChainParts", name := "as", desc := "(III)I" } : Jvm.MethodName)) ∈ lw_all := lw_g (lw_at lw_m3 13 rfl) rfl
theorem q565 : (Jvm.Cond.codeWith ({ cls := "ChainParts", name := "as", desc := "(III)I" } : Jvm.MethodName) prog_1_method_29_code (6 : Nat) (Option.some Jvm.ClassFile.FieldType.int) [((30 : Nat), (74 : Nat), (77 : Nat), (235 : Nat))]) ∈ lw_all := lw_g (lw_at lw_m3 14 rfl) rfl
theorem q566 : (Jvm.Cond.classLink "ChainParts" (235 : Nat) "java/lang/ArrayStoreException") ∈ lw_all := lw_g (lw_at lw_m3 15 rfl) rfl
theorem q590 : (Jvm.Cond.constantLong "ChainParts" (228 : Nat) (5 : Int64)) ∈ lw_all := lw_g (lw_at lw_m3 39 rfl) rfl
theorem q591 : (Jvm.Cond.methodLink "ChainParts" (230 : Nat) ({ cls := "ChainParts", name := "placeFor", desc := "(I)[LChainParts$Cell;" } : Jvm.MethodName)) ∈ lw_all := lw_g (lw_at lw_m3 40 rfl) rfl
theorem q592 : (Jvm.Cond.static ({ cls := "ChainParts", name := "placeFor", desc := "(I)[LChainParts$Cell;" } : Jvm.MethodName)) ∈ lw_all := lw_g (lw_at lw_m3 41 rfl) rfl
theorem q593 : (Jvm.Cond.code ({ cls := "ChainParts", name := "placeFor", desc := "(I)[LChainParts$Cell;" } : Jvm.MethodName) prog_1_method_6_code (1 : Nat) (Option.some (Jvm.ClassFile.FieldType.array (Jvm.ClassFile.FieldType.object "ChainParts$Cell")))) ∈ lw_all := lw_g (lw_at lw_m3 42 rfl) rfl
theorem q594 : (Jvm.Cond.classLink "ChainParts" (32 : Nat) "ChainParts$Cell") ∈ lw_all := lw_g (lw_at lw_m3 43 rfl) rfl
theorem q596 : (Jvm.Cond.classLink "ChainParts" (34 : Nat) "ChainParts$PointCell") ∈ lw_all := lw_g (lw_at lw_m3 45 rfl) rfl
theorem q601 : (Jvm.Cond.methodLinkNest "ChainParts" (234 : Nat) ({ cls := "ChainParts$PointCell", name := "<init>", desc := "()V" } : Jvm.MethodName) "ChainParts") ∈ lw_tbl := lw_at lw_m3 50 rfl
theorem q606 : (Jvm.Cond.constant "ChainParts" (237 : Nat) (-1000000 : Int32)) ∈ lw_all := lw_g (lw_at lw_m3 55 rfl) rfl
theorem q608 : (Jvm.Cond.instanceMethod ({ cls := "ChainParts", name := "table", desc := "(III)I" } : Jvm.MethodName)) ∈ lw_all := lw_g (lw_at lw_m3 57 rfl) rfl
theorem q609 : (Jvm.Cond.selects "ChainParts" ({ cls := "ChainParts", name := "table", desc := "(III)I" } : Jvm.MethodName) ({ cls := "ChainParts", name := "table", desc := "(III)I" } : Jvm.MethodName)) ∈ lw_all := lw_g (lw_at lw_m3 58 rfl) rfl
theorem q610 : (Jvm.Cond.code ({ cls := "ChainParts", name := "table", desc := "(III)I" } : Jvm.MethodName) prog_1_method_30_code (4 : Nat) (Option.some Jvm.ClassFile.FieldType.int)) ∈ lw_all := lw_g (lw_at lw_m3 59 rfl) rfl
theorem q611 : (Jvm.Cond.methodLink "ChainParts" (238 : Nat) ({ cls := "ChainParts$Complex", name := "table", desc := "(I)LChainParts$Table;" } : Jvm.MethodName)) ∈ lw_all := lw_g (lw_at lw_m3 60 rfl) rfl
theorem q625 : (Jvm.Cond.fieldLinkNest "ChainParts" (242 : Nat) "ChainParts$Table" "at" "[[J" "ChainParts") ∈ lw_tbl := lw_at lw_m3 74 rfl
theorem q640 : (Jvm.Cond.instanceMethod ({ cls := "ChainParts", name := "near", desc := "(III)I" } : Jvm.MethodName)) ∈ lw_all := lw_g (lw_at lw_m3 89 rfl) rfl
theorem q641 : (Jvm.Cond.selects "ChainParts" ({ cls := "ChainParts", name := "near", desc := "(III)I" } : Jvm.MethodName) ({ cls := "ChainParts", name := "near", desc := "(III)I" } : Jvm.MethodName)) ∈ lw_all := lw_g (lw_at lw_m3 90 rfl) rfl
theorem q642 : (Jvm.Cond.code ({ cls := "ChainParts", name := "near", desc := "(III)I" } : Jvm.MethodName) prog_1_method_31_code (5 : Nat) (Option.some Jvm.ClassFile.FieldType.int)) ∈ lw_all := lw_g (lw_at lw_m3 91 rfl) rfl
theorem q643 : (Jvm.Cond.methodLink "ChainParts" (248 : Nat) ({ cls := "ChainParts$Complex", name := "near", desc := "(I)LChainParts$Table;" } : Jvm.MethodName)) ∈ lw_all := lw_g (lw_at lw_m3 92 rfl) rfl
theorem q676 : (Jvm.Cond.instanceMethod ({ cls := "ChainParts", name := "rank", desc := "(II)I" } : Jvm.MethodName)) ∈ lw_all := lw_g (lw_at lw_m3 125 rfl) rfl
theorem q677 : (Jvm.Cond.selects "ChainParts" ({ cls := "ChainParts", name := "rank", desc := "(II)I" } : Jvm.MethodName) ({ cls := "ChainParts", name := "rank", desc := "(II)I" } : Jvm.MethodName)) ∈ lw_all := lw_g (lw_at lw_m3 126 rfl) rfl
theorem q678 : (Jvm.Cond.code ({ cls := "ChainParts", name := "rank", desc := "(II)I" } : Jvm.MethodName) prog_1_method_32_code (3 : Nat) (Option.some Jvm.ClassFile.FieldType.int)) ∈ lw_all := lw_g (lw_at lw_m3 127 rfl) rfl
theorem q679 : (Jvm.Cond.methodLink "ChainParts" (251 : Nat) ({ cls := "ChainParts", name := "isPrime", desc := "(I)Z" } : Jvm.MethodName)) ∈ lw_all := lw_g (lw_at lw_m3 128 rfl) rfl
theorem q680 : (Jvm.Cond.static ({ cls := "ChainParts", name := "isPrime", desc := "(I)Z" } : Jvm.MethodName)) ∈ lw_all := lw_g (lw_at lw_m3 129 rfl) rfl
theorem q681 : (Jvm.Cond.code ({ cls := "ChainParts", name := "isPrime", desc := "(I)Z" } : Jvm.MethodName) prog_1_method_17_code (1 : Nat) (Option.some Jvm.ClassFile.FieldType.boolean)) ∈ lw_all := lw_g (lw_at lw_m3 130 rfl) rfl
theorem q682 : (Jvm.Cond.methodLink "ChainParts" (254 : Nat) ({ cls := "ChainParts$Complex", name := "rank", desc := "(II)I" } : Jvm.MethodName)) ∈ lw_all := lw_g (lw_at lw_m3 131 rfl) rfl
theorem q730 : (Jvm.Cond.instanceMethod ({ cls := "ChainParts", name := "holes", desc := "(II)I" } : Jvm.MethodName)) ∈ lw_all := lw_g (lw_at lw_m3 179 rfl) rfl
theorem q731 : (Jvm.Cond.selects "ChainParts" ({ cls := "ChainParts", name := "holes", desc := "(II)I" } : Jvm.MethodName) ({ cls := "ChainParts", name := "holes", desc := "(II)I" } : Jvm.MethodName)) ∈ lw_all := lw_g (lw_at lw_m3 180 rfl) rfl
theorem q732 : (Jvm.Cond.code ({ cls := "ChainParts", name := "holes", desc := "(II)I" } : Jvm.MethodName) prog_1_method_33_code (3 : Nat) (Option.some Jvm.ClassFile.FieldType.int)) ∈ lw_all := lw_g (lw_at lw_m3 181 rfl) rfl
theorem q733 : (Jvm.Cond.methodLink "ChainParts" (258 : Nat) ({ cls := "ChainParts$Complex", name := "holes", desc := "(II)I" } : Jvm.MethodName)) ∈ lw_all := lw_g (lw_at lw_m3 182 rfl) rfl
theorem q740 : (Jvm.Cond.instanceMethod ({ cls := "ChainParts", name := "twist", desc := "(II)I" } : Jvm.MethodName)) ∈ lw_all := lw_g (lw_at lw_m3 189 rfl) rfl
theorem q741 : (Jvm.Cond.selects "ChainParts" ({ cls := "ChainParts", name := "twist", desc := "(II)I" } : Jvm.MethodName) ({ cls := "ChainParts", name := "twist", desc := "(II)I" } : Jvm.MethodName)) ∈ lw_all := lw_g (lw_at lw_m3 190 rfl) rfl
theorem q742 : (Jvm.Cond.code ({ cls := "ChainParts", name := "twist", desc := "(II)I" } : Jvm.MethodName) prog_1_method_34_code (4 : Nat) (Option.some Jvm.ClassFile.FieldType.int)) ∈ lw_all := lw_g (lw_at lw_m3 191 rfl) rfl
theorem q743 : (Jvm.Cond.methodLink "ChainParts" (261 : Nat) ({ cls := "ChainParts$Complex", name := "twisted", desc := "(I)J" } : Jvm.MethodName)) ∈ lw_all := lw_g (lw_at lw_m3 192 rfl) rfl
theorem q758 : (Jvm.Cond.static ({ cls := "ChainParts", name := "has", desc := "(II)Z" } : Jvm.MethodName)) ∈ lw_all := lw_g (lw_at lw_m3 207 rfl) rfl
theorem q759 : (Jvm.Cond.code ({ cls := "ChainParts", name := "has", desc := "(II)Z" } : Jvm.MethodName) prog_1_method_2_code (2 : Nat) (Option.some Jvm.ClassFile.FieldType.boolean)) ∈ lw_all := lw_g (lw_at lw_m3 208 rfl) rfl
theorem q765 : (Jvm.Cond.static ({ cls := "ChainParts", name := "common", desc := "(JJ)J" } : Jvm.MethodName)) ∈ lw_all := lw_g (lw_at lw_m3 214 rfl) rfl
theorem q766 : (Jvm.Cond.code ({ cls := "ChainParts", name := "common", desc := "(JJ)J" } : Jvm.MethodName) prog_1_method_3_code (10 : Nat) (Option.some Jvm.ClassFile.FieldType.long)) ∈ lw_all := lw_g (lw_at lw_m3 215 rfl) rfl
theorem q767 : (Jvm.Cond.methodLink "ChainParts" (1 : Nat) ({ cls := "java/lang/Math", name := "abs", desc := "(J)J" } : Jvm.MethodName)) ∈ lw_all := lw_g (lw_at lw_m3 216 rfl) rfl
theorem q768 : (Jvm.Cond.methodLink "ChainParts" (265 : Nat) ({ cls := "ChainParts$Table", name := "some", desc := "(I)LChainParts$Table;" } : Jvm.MethodName)) ∈ lw_all := lw_g (lw_at lw_m3 217 rfl) rfl
theorem q769 : (Jvm.Cond.methodLink "ChainParts" (268 : Nat) ({ cls := "ChainParts$Table", name := "twists", desc := "()[J" } : Jvm.MethodName)) ∈ lw_all := lw_g (lw_at lw_m3 218 rfl) rfl
theorem q771 : (Jvm.Cond.instanceMethod ({ cls := "ChainParts", name := "chain", desc := "(II)I" } : Jvm.MethodName)) ∈ lw_all := lw_g (lw_at lw_m3 220 rfl) rfl
theorem q772 : (Jvm.Cond.selects "ChainParts" ({ cls := "ChainParts", name := "chain", desc := "(II)I" } : Jvm.MethodName) ({ cls := "ChainParts", name := "chain", desc := "(II)I" } : Jvm.MethodName)) ∈ lw_all := lw_g (lw_at lw_m3 221 rfl) rfl
theorem q773 : (Jvm.Cond.code ({ cls := "ChainParts", name := "chain", desc := "(II)I" } : Jvm.MethodName) prog_1_method_35_code (3 : Nat) (Option.some Jvm.ClassFile.FieldType.int)) ∈ lw_all := lw_g (lw_at lw_m3 222 rfl) rfl
theorem q775 : (Jvm.Cond.instanceMethod ({ cls := "ChainParts", name := "ends", desc := "(II)I" } : Jvm.MethodName)) ∈ lw_all := lw_g (lw_at lw_m3 224 rfl) rfl
theorem q776 : (Jvm.Cond.selects "ChainParts" ({ cls := "ChainParts", name := "ends", desc := "(II)I" } : Jvm.MethodName) ({ cls := "ChainParts", name := "ends", desc := "(II)I" } : Jvm.MethodName)) ∈ lw_all := lw_g (lw_at lw_m3 225 rfl) rfl
theorem q777 : (Jvm.Cond.code ({ cls := "ChainParts", name := "ends", desc := "(II)I" } : Jvm.MethodName) prog_1_method_36_code (3 : Nat) (Option.some Jvm.ClassFile.FieldType.int)) ∈ lw_all := lw_g (lw_at lw_m3 226 rfl) rfl
theorem q778 : (Jvm.Cond.methodLink "ChainParts" (272 : Nat) ({ cls := "ChainParts$Complex", name := "end", desc := "(II)I" } : Jvm.MethodName)) ∈ lw_all := lw_g (lw_at lw_m3 227 rfl) rfl
theorem q783 : (Jvm.Cond.instanceMethod ({ cls := "ChainParts", name := "whole", desc := "(II)I" } : Jvm.MethodName)) ∈ lw_all := lw_g (lw_at lw_m3 232 rfl) rfl
theorem q784 : (Jvm.Cond.selects "ChainParts" ({ cls := "ChainParts", name := "whole", desc := "(II)I" } : Jvm.MethodName) ({ cls := "ChainParts", name := "whole", desc := "(II)I" } : Jvm.MethodName)) ∈ lw_all := lw_g (lw_at lw_m3 233 rfl) rfl
theorem q785 : (Jvm.Cond.code ({ cls := "ChainParts", name := "whole", desc := "(II)I" } : Jvm.MethodName) prog_1_method_37_code (4 : Nat) (Option.some Jvm.ClassFile.FieldType.int)) ∈ lw_all := lw_g (lw_at lw_m3 234 rfl) rfl
theorem q786 : (Jvm.Cond.methodLink "ChainParts" (275 : Nat) ({ cls := "ChainParts$Complex", name := "isCycle", desc := "(I)Z" } : Jvm.MethodName)) ∈ lw_all := lw_g (lw_at lw_m3 235 rfl) rfl
theorem q791 : (Jvm.Cond.methodLink "ChainParts" (278 : Nat) ({ cls := "ChainParts$Complex", name := "order", desc := "(I)I" } : Jvm.MethodName)) ∈ lw_all := lw_g (lw_at lw_m4 0 rfl) rfl
theorem q805 : (Jvm.Cond.instanceMethod ({ cls := "ChainParts", name := "part", desc := "(IIII)J" } : Jvm.MethodName)) ∈ lw_all := lw_g (lw_at lw_m4 14 rfl) rfl
theorem q806 : (Jvm.Cond.selects "ChainParts" ({ cls := "ChainParts", name := "part", desc := "(IIII)J" } : Jvm.MethodName) ({ cls := "ChainParts", name := "part", desc := "(IIII)J" } : Jvm.MethodName)) ∈ lw_all := lw_g (lw_at lw_m4 15 rfl) rfl
theorem q807 : (Jvm.Cond.code ({ cls := "ChainParts", name := "part", desc := "(IIII)J" } : Jvm.MethodName) prog_1_method_38_code (5 : Nat) (Option.some Jvm.ClassFile.FieldType.long)) ∈ lw_all := lw_g (lw_at lw_m4 16 rfl) rfl
theorem q808 : (Jvm.Cond.methodLink "ChainParts" (281 : Nat) ({ cls := "ChainParts", name := "isHalf", desc := "(I)Z" } : Jvm.MethodName)) ∈ lw_all := lw_g (lw_at lw_m4 17 rfl) rfl
theorem q809 : (Jvm.Cond.static ({ cls := "ChainParts", name := "isHalf", desc := "(I)Z" } : Jvm.MethodName)) ∈ lw_all := lw_g (lw_at lw_m4 18 rfl) rfl
theorem q810 : (Jvm.Cond.code ({ cls := "ChainParts", name := "isHalf", desc := "(I)Z" } : Jvm.MethodName) prog_1_method_16_code (1 : Nat) (Option.some Jvm.ClassFile.FieldType.boolean)) ∈ lw_all := lw_g (lw_at lw_m4 19 rfl) rfl
theorem q811 : (Jvm.Cond.constantLong "ChainParts" (284 : Nat) (-1000001 : Int64)) ∈ lw_all := lw_g (lw_at lw_m4 20 rfl) rfl
theorem q812 : (Jvm.Cond.methodLink "ChainParts" (286 : Nat) ({ cls := "ChainParts$Complex", name := "part", desc := "(II)[LChainParts$Fraction;" } : Jvm.MethodName)) ∈ lw_all := lw_g (lw_at lw_m4 21 rfl) rfl
theorem q863 : (Jvm.Cond.methodLink "ChainParts" (290 : Nat) ({ cls := "ChainParts$Fraction", name := "told", desc := "(I)J" } : Jvm.MethodName)) ∈ lw_all := lw_g (lw_at lw_m4 72 rfl) rfl
theorem q868 : (Jvm.Cond.instanceMethod ({ cls := "ChainParts", name := "length", desc := "(III)J" } : Jvm.MethodName)) ∈ lw_all := lw_g (lw_at lw_m4 77 rfl) rfl
theorem q869 : (Jvm.Cond.selects "ChainParts" ({ cls := "ChainParts", name := "length", desc := "(III)J" } : Jvm.MethodName) ({ cls := "ChainParts", name := "length", desc := "(III)J" } : Jvm.MethodName)) ∈ lw_all := lw_g (lw_at lw_m4 78 rfl) rfl
theorem q870 : (Jvm.Cond.code ({ cls := "ChainParts", name := "length", desc := "(III)J" } : Jvm.MethodName) prog_1_method_39_code (4 : Nat) (Option.some Jvm.ClassFile.FieldType.long)) ∈ lw_all := lw_g (lw_at lw_m4 79 rfl) rfl
theorem q871 : (Jvm.Cond.constantLong "ChainParts" (294 : Nat) (-1000002 : Int64)) ∈ lw_all := lw_g (lw_at lw_m4 80 rfl) rfl
theorem q872 : (Jvm.Cond.methodLink "ChainParts" (296 : Nat) ({ cls := "ChainParts$Complex", name := "length", desc := "(II)LChainParts$Fraction;" } : Jvm.MethodName)) ∈ lw_all := lw_g (lw_at lw_m4 81 rfl) rfl
theorem q878 : (Jvm.Cond.instanceMethod ({ cls := "ChainParts", name := "share", desc := "(II)I" } : Jvm.MethodName)) ∈ lw_all := lw_g (lw_at lw_m4 87 rfl) rfl
theorem q879 : (Jvm.Cond.selects "ChainParts" ({ cls := "ChainParts", name := "share", desc := "(II)I" } : Jvm.MethodName) ({ cls := "ChainParts", name := "share", desc := "(II)I" } : Jvm.MethodName)) ∈ lw_all := lw_g (lw_at lw_m4 88 rfl) rfl
theorem q880 : (Jvm.Cond.code ({ cls := "ChainParts", name := "share", desc := "(II)I" } : Jvm.MethodName) prog_1_method_40_code (3 : Nat) (Option.some Jvm.ClassFile.FieldType.int)) ∈ lw_all := lw_g (lw_at lw_m4 89 rfl) rfl
theorem q881 : (Jvm.Cond.methodLink "ChainParts" (300 : Nat) ({ cls := "ChainParts$Fraction", name := "by", desc := "(LChainParts$Fraction;)LChainParts$Fraction;" } : Jvm.MethodName)) ∈ lw_all := lw_g (lw_at lw_m4 90 rfl) rfl
theorem q885 : (Jvm.Cond.methodLink "ChainParts" (304 : Nat) ({ cls := "ChainParts$Fraction", name := "thousandths", desc := "()I" } : Jvm.MethodName)) ∈ lw_all := lw_g (lw_at lw_m4 94 rfl) rfl
theorem q891 : (Jvm.Cond.instanceMethod ({ cls := "ChainParts", name := "trees", desc := "(II)J" } : Jvm.MethodName)) ∈ lw_all := lw_g (lw_at lw_m4 100 rfl) rfl
theorem q892 : (Jvm.Cond.selects "ChainParts" ({ cls := "ChainParts", name := "trees", desc := "(II)J" } : Jvm.MethodName) ({ cls := "ChainParts", name := "trees", desc := "(II)J" } : Jvm.MethodName)) ∈ lw_all := lw_g (lw_at lw_m4 101 rfl) rfl
theorem q893 : (Jvm.Cond.code ({ cls := "ChainParts", name := "trees", desc := "(II)J" } : Jvm.MethodName) prog_1_method_41_code (3 : Nat) (Option.some Jvm.ClassFile.FieldType.long)) ∈ lw_all := lw_g (lw_at lw_m4 102 rfl) rfl
theorem q894 : (Jvm.Cond.methodLink "ChainParts" (307 : Nat) ({ cls := "ChainParts$Complex", name := "trees", desc := "(II)J" } : Jvm.MethodName)) ∈ lw_all := lw_g (lw_at lw_m4 103 rfl) rfl
theorem q901 : (Jvm.Cond.instanceMethod ({ cls := "ChainParts", name := "minors", desc := "(I)J" } : Jvm.MethodName)) ∈ lw_all := lw_g (lw_at lw_m4 110 rfl) rfl
theorem q902 : (Jvm.Cond.selects "ChainParts" ({ cls := "ChainParts", name := "minors", desc := "(I)J" } : Jvm.MethodName) ({ cls := "ChainParts", name := "minors", desc := "(I)J" } : Jvm.MethodName)) ∈ lw_all := lw_g (lw_at lw_m4 111 rfl) rfl
theorem q903 : (Jvm.Cond.code ({ cls := "ChainParts", name := "minors", desc := "(I)J" } : Jvm.MethodName) prog_1_method_42_code (2 : Nat) (Option.some Jvm.ClassFile.FieldType.long)) ∈ lw_all := lw_g (lw_at lw_m4 112 rfl) rfl
theorem q904 : (Jvm.Cond.methodLink "ChainParts" (311 : Nat) ({ cls := "ChainParts$Complex", name := "minors", desc := "(I)J" } : Jvm.MethodName)) ∈ lw_all := lw_g (lw_at lw_m4 113 rfl) rfl
theorem q916 : (Jvm.Cond.instanceMethod ({ cls := "ChainParts", name := "image", desc := "(I)I" } : Jvm.MethodName)) ∈ lw_all := lw_g (lw_at lw_m4 125 rfl) rfl
theorem q917 : (Jvm.Cond.selects "ChainParts" ({ cls := "ChainParts", name := "image", desc := "(I)I" } : Jvm.MethodName) ({ cls := "ChainParts", name := "image", desc := "(I)I" } : Jvm.MethodName)) ∈ lw_all := lw_g (lw_at lw_m4 126 rfl) rfl
theorem q918 : (Jvm.Cond.code ({ cls := "ChainParts", name := "image", desc := "(I)I" } : Jvm.MethodName) prog_1_method_43_code (2 : Nat) (Option.some Jvm.ClassFile.FieldType.int)) ∈ lw_all := lw_g (lw_at lw_m4 127 rfl) rfl
theorem q920 : (Jvm.Cond.instanceMethod ({ cls := "ChainParts", name := "restore", desc := "(I)I" } : Jvm.MethodName)) ∈ lw_all := lw_g (lw_at lw_m4 129 rfl) rfl
theorem q921 : (Jvm.Cond.selects "ChainParts" ({ cls := "ChainParts", name := "restore", desc := "(I)I" } : Jvm.MethodName) ({ cls := "ChainParts", name := "restore", desc := "(I)I" } : Jvm.MethodName)) ∈ lw_all := lw_g (lw_at lw_m4 130 rfl) rfl
theorem q922 : (Jvm.Cond.code ({ cls := "ChainParts", name := "restore", desc := "(I)I" } : Jvm.MethodName) prog_1_method_44_code (2 : Nat) (Option.some Jvm.ClassFile.FieldType.int)) ∈ lw_all := lw_g (lw_at lw_m4 131 rfl) rfl
theorem q924 : (Jvm.Cond.instanceMethod ({ cls := "ChainParts", name := "count", desc := "(I)I" } : Jvm.MethodName)) ∈ lw_all := lw_g (lw_at lw_m4 133 rfl) rfl
theorem q925 : (Jvm.Cond.selects "ChainParts" ({ cls := "ChainParts", name := "count", desc := "(I)I" } : Jvm.MethodName) ({ cls := "ChainParts", name := "count", desc := "(I)I" } : Jvm.MethodName)) ∈ lw_all := lw_g (lw_at lw_m4 134 rfl) rfl
theorem q926 : (Jvm.Cond.code ({ cls := "ChainParts", name := "count", desc := "(I)I" } : Jvm.MethodName) prog_1_method_45_code (2 : Nat) (Option.some Jvm.ClassFile.FieldType.int)) ∈ lw_all := lw_g (lw_at lw_m4 135 rfl) rfl
theorem in_X0 : ∀ w ∈ wsX00, w ∈ lw_all := lw_in wsX00 [110, 112, 114, 116, 118, 120, 122] (by decide +kernel) (by decide +kernel)
